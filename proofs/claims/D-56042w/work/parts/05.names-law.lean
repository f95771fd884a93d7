set_option maxRecDepth 100000
/-! WindFarmDispatcherLaw -/
def RX0 : String := "WindFarmDispatcherLaw"
abbrev cX0_addTurbine : ByteArray := method_3_code
def yX0_addTurbine : MethodName := ⟨RX0, "addTurbine", "(LWindFarmDispatcher;III[J)I"⟩
def dkwX0_addTurbine_1 : List UInt8 := [58, 5, 6, 172, 3, 172]
abbrev dktX0_addTurbine_1 : List UInt8 := dkwX0_addTurbine_1 ++ []
def dkwX0_addTurbine_0 : List UInt8 := [25, 4, 3, 42, 27, 28, 29, 182, 0, 7, 133, 80, 167, 0, 15, 58, 5, 4, 172, 58, 5, 5, 172]
abbrev dktX0_addTurbine_0 : List UInt8 := dkwX0_addTurbine_0 ++ dktX0_addTurbine_1
theorem dksX0_addTurbine_0 : cX0_addTurbine.data.toList.drop 0 = dktX0_addTurbine_0 := by decide +kernel
theorem dksX0_addTurbine_1 : cX0_addTurbine.data.toList.drop 23 = dktX0_addTurbine_1 := dk_seg dksX0_addTurbine_0 23 rfl rfl
theorem dX0_addTurbine_0 : decode cX0_addTurbine 0 = .ok (.aload 4, 2) := dk_25 4 (dk_at dksX0_addTurbine_0 0 rfl rfl)
theorem dX0_addTurbine_2 : decode cX0_addTurbine 2 = .ok (.iconst 0, 1) := dk_3 (dk_at dksX0_addTurbine_0 2 rfl rfl)
theorem dX0_addTurbine_3 : decode cX0_addTurbine 3 = .ok (.aload_n 0, 1) := dk_42 (dk_at dksX0_addTurbine_0 3 rfl rfl)
theorem dX0_addTurbine_4 : decode cX0_addTurbine 4 = .ok (.iload_n 1, 1) := dk_27 (dk_at dksX0_addTurbine_0 4 rfl rfl)
theorem dX0_addTurbine_5 : decode cX0_addTurbine 5 = .ok (.iload_n 2, 1) := dk_28 (dk_at dksX0_addTurbine_0 5 rfl rfl)
theorem dX0_addTurbine_6 : decode cX0_addTurbine 6 = .ok (.iload_n 3, 1) := dk_29 (dk_at dksX0_addTurbine_0 6 rfl rfl)
theorem dX0_addTurbine_7 : decode cX0_addTurbine 7 = .ok (.invokevirtual 7, 3) := dk_182 0 7 (dk_at dksX0_addTurbine_0 7 rfl rfl)
theorem dX0_addTurbine_10 : decode cX0_addTurbine 10 = .ok (.i2l, 1) := dk_133 (dk_at dksX0_addTurbine_0 10 rfl rfl)
theorem dX0_addTurbine_11 : decode cX0_addTurbine 11 = .ok (.lastore, 1) := dk_80 (dk_at dksX0_addTurbine_0 11 rfl rfl)
theorem dX0_addTurbine_12 : decode cX0_addTurbine 12 = .ok (.goto 15, 3) := dk_167 0 15 (dk_at dksX0_addTurbine_0 12 rfl rfl)
theorem dX0_addTurbine_15 : decode cX0_addTurbine 15 = .ok (.astore 5, 2) := dk_58 5 (dk_at dksX0_addTurbine_0 15 rfl rfl)
theorem dX0_addTurbine_17 : decode cX0_addTurbine 17 = .ok (.iconst 1, 1) := dk_4 (dk_at dksX0_addTurbine_0 17 rfl rfl)
theorem dX0_addTurbine_18 : decode cX0_addTurbine 18 = .ok (.ireturn, 1) := dk_172 (dk_at dksX0_addTurbine_0 18 rfl rfl)
theorem dX0_addTurbine_19 : decode cX0_addTurbine 19 = .ok (.astore 5, 2) := dk_58 5 (dk_at dksX0_addTurbine_0 19 rfl rfl)
theorem dX0_addTurbine_21 : decode cX0_addTurbine 21 = .ok (.iconst 2, 1) := dk_5 (dk_at dksX0_addTurbine_0 21 rfl rfl)
theorem dX0_addTurbine_22 : decode cX0_addTurbine 22 = .ok (.ireturn, 1) := dk_172 (dk_at dksX0_addTurbine_0 22 rfl rfl)
theorem dX0_addTurbine_23 : decode cX0_addTurbine 23 = .ok (.astore 5, 2) := dk_58 5 (dk_at dksX0_addTurbine_1 0 rfl rfl)
theorem dX0_addTurbine_25 : decode cX0_addTurbine 25 = .ok (.iconst 3, 1) := dk_6 (dk_at dksX0_addTurbine_1 2 rfl rfl)
theorem dX0_addTurbine_26 : decode cX0_addTurbine 26 = .ok (.ireturn, 1) := dk_172 (dk_at dksX0_addTurbine_1 3 rfl rfl)
theorem dX0_addTurbine_27 : decode cX0_addTurbine 27 = .ok (.iconst 0, 1) := dk_3 (dk_at dksX0_addTurbine_1 4 rfl rfl)
theorem dX0_addTurbine_28 : decode cX0_addTurbine 28 = .ok (.ireturn, 1) := dk_172 (dk_at dksX0_addTurbine_1 5 rfl rfl)
abbrev cX0_fail : ByteArray := method_4_code
def yX0_fail : MethodName := ⟨RX0, "fail", "(LWindFarmDispatcher;I[J)I"⟩
def dkwX0_fail_0 : List UInt8 := [44, 3, 42, 27, 182, 0, 19, 133, 80, 167, 0, 9, 78, 4, 172, 78, 5, 172, 3, 172]
abbrev dktX0_fail_0 : List UInt8 := dkwX0_fail_0 ++ []
theorem dksX0_fail_0 : cX0_fail.data.toList.drop 0 = dktX0_fail_0 := by decide +kernel
theorem dX0_fail_0 : decode cX0_fail 0 = .ok (.aload_n 2, 1) := dk_44 (dk_at dksX0_fail_0 0 rfl rfl)
theorem dX0_fail_1 : decode cX0_fail 1 = .ok (.iconst 0, 1) := dk_3 (dk_at dksX0_fail_0 1 rfl rfl)
theorem dX0_fail_2 : decode cX0_fail 2 = .ok (.aload_n 0, 1) := dk_42 (dk_at dksX0_fail_0 2 rfl rfl)
theorem dX0_fail_3 : decode cX0_fail 3 = .ok (.iload_n 1, 1) := dk_27 (dk_at dksX0_fail_0 3 rfl rfl)
theorem dX0_fail_4 : decode cX0_fail 4 = .ok (.invokevirtual 19, 3) := dk_182 0 19 (dk_at dksX0_fail_0 4 rfl rfl)
theorem dX0_fail_7 : decode cX0_fail 7 = .ok (.i2l, 1) := dk_133 (dk_at dksX0_fail_0 7 rfl rfl)
theorem dX0_fail_8 : decode cX0_fail 8 = .ok (.lastore, 1) := dk_80 (dk_at dksX0_fail_0 8 rfl rfl)
theorem dX0_fail_9 : decode cX0_fail 9 = .ok (.goto 9, 3) := dk_167 0 9 (dk_at dksX0_fail_0 9 rfl rfl)
theorem dX0_fail_12 : decode cX0_fail 12 = .ok (.astore_n 3, 1) := dk_78 (dk_at dksX0_fail_0 12 rfl rfl)
theorem dX0_fail_13 : decode cX0_fail 13 = .ok (.iconst 1, 1) := dk_4 (dk_at dksX0_fail_0 13 rfl rfl)
theorem dX0_fail_14 : decode cX0_fail 14 = .ok (.ireturn, 1) := dk_172 (dk_at dksX0_fail_0 14 rfl rfl)
theorem dX0_fail_15 : decode cX0_fail 15 = .ok (.astore_n 3, 1) := dk_78 (dk_at dksX0_fail_0 15 rfl rfl)
theorem dX0_fail_16 : decode cX0_fail 16 = .ok (.iconst 2, 1) := dk_5 (dk_at dksX0_fail_0 16 rfl rfl)
theorem dX0_fail_17 : decode cX0_fail 17 = .ok (.ireturn, 1) := dk_172 (dk_at dksX0_fail_0 17 rfl rfl)
theorem dX0_fail_18 : decode cX0_fail 18 = .ok (.iconst 0, 1) := dk_3 (dk_at dksX0_fail_0 18 rfl rfl)
theorem dX0_fail_19 : decode cX0_fail 19 = .ok (.ireturn, 1) := dk_172 (dk_at dksX0_fail_0 19 rfl rfl)
abbrev cX0_sendCrew : ByteArray := method_5_code
def yX0_sendCrew : MethodName := ⟨RX0, "sendCrew", "(LWindFarmDispatcher;II[J)I"⟩
def dkwX0_sendCrew_1 : List UInt8 := [172, 3, 172]
abbrev dktX0_sendCrew_1 : List UInt8 := dkwX0_sendCrew_1 ++ []
def dkwX0_sendCrew_0 : List UInt8 := [45, 3, 42, 27, 28, 182, 0, 23, 133, 80, 167, 0, 15, 58, 4, 4, 172, 58, 4, 5, 172, 58, 4, 6]
abbrev dktX0_sendCrew_0 : List UInt8 := dkwX0_sendCrew_0 ++ dktX0_sendCrew_1
theorem dksX0_sendCrew_0 : cX0_sendCrew.data.toList.drop 0 = dktX0_sendCrew_0 := by decide +kernel
theorem dksX0_sendCrew_1 : cX0_sendCrew.data.toList.drop 24 = dktX0_sendCrew_1 := dk_seg dksX0_sendCrew_0 24 rfl rfl
theorem dX0_sendCrew_0 : decode cX0_sendCrew 0 = .ok (.aload_n 3, 1) := dk_45 (dk_at dksX0_sendCrew_0 0 rfl rfl)
theorem dX0_sendCrew_1 : decode cX0_sendCrew 1 = .ok (.iconst 0, 1) := dk_3 (dk_at dksX0_sendCrew_0 1 rfl rfl)
theorem dX0_sendCrew_2 : decode cX0_sendCrew 2 = .ok (.aload_n 0, 1) := dk_42 (dk_at dksX0_sendCrew_0 2 rfl rfl)
theorem dX0_sendCrew_3 : decode cX0_sendCrew 3 = .ok (.iload_n 1, 1) := dk_27 (dk_at dksX0_sendCrew_0 3 rfl rfl)
theorem dX0_sendCrew_4 : decode cX0_sendCrew 4 = .ok (.iload_n 2, 1) := dk_28 (dk_at dksX0_sendCrew_0 4 rfl rfl)
theorem dX0_sendCrew_5 : decode cX0_sendCrew 5 = .ok (.invokevirtual 23, 3) := dk_182 0 23 (dk_at dksX0_sendCrew_0 5 rfl rfl)
theorem dX0_sendCrew_8 : decode cX0_sendCrew 8 = .ok (.i2l, 1) := dk_133 (dk_at dksX0_sendCrew_0 8 rfl rfl)
theorem dX0_sendCrew_9 : decode cX0_sendCrew 9 = .ok (.lastore, 1) := dk_80 (dk_at dksX0_sendCrew_0 9 rfl rfl)
theorem dX0_sendCrew_10 : decode cX0_sendCrew 10 = .ok (.goto 15, 3) := dk_167 0 15 (dk_at dksX0_sendCrew_0 10 rfl rfl)
theorem dX0_sendCrew_13 : decode cX0_sendCrew 13 = .ok (.astore 4, 2) := dk_58 4 (dk_at dksX0_sendCrew_0 13 rfl rfl)
theorem dX0_sendCrew_15 : decode cX0_sendCrew 15 = .ok (.iconst 1, 1) := dk_4 (dk_at dksX0_sendCrew_0 15 rfl rfl)
theorem dX0_sendCrew_16 : decode cX0_sendCrew 16 = .ok (.ireturn, 1) := dk_172 (dk_at dksX0_sendCrew_0 16 rfl rfl)
theorem dX0_sendCrew_17 : decode cX0_sendCrew 17 = .ok (.astore 4, 2) := dk_58 4 (dk_at dksX0_sendCrew_0 17 rfl rfl)
theorem dX0_sendCrew_19 : decode cX0_sendCrew 19 = .ok (.iconst 2, 1) := dk_5 (dk_at dksX0_sendCrew_0 19 rfl rfl)
theorem dX0_sendCrew_20 : decode cX0_sendCrew 20 = .ok (.ireturn, 1) := dk_172 (dk_at dksX0_sendCrew_0 20 rfl rfl)
theorem dX0_sendCrew_21 : decode cX0_sendCrew 21 = .ok (.astore 4, 2) := dk_58 4 (dk_at dksX0_sendCrew_0 21 rfl rfl)
theorem dX0_sendCrew_23 : decode cX0_sendCrew 23 = .ok (.iconst 3, 1) := dk_6 (dk_at dksX0_sendCrew_0 23 rfl rfl)
theorem dX0_sendCrew_24 : decode cX0_sendCrew 24 = .ok (.ireturn, 1) := dk_172 (dk_at dksX0_sendCrew_1 0 rfl rfl)
theorem dX0_sendCrew_25 : decode cX0_sendCrew 25 = .ok (.iconst 0, 1) := dk_3 (dk_at dksX0_sendCrew_1 1 rfl rfl)
theorem dX0_sendCrew_26 : decode cX0_sendCrew 26 = .ok (.ireturn, 1) := dk_172 (dk_at dksX0_sendCrew_1 2 rfl rfl)
abbrev cX0_recallCrew : ByteArray := method_6_code
def yX0_recallCrew : MethodName := ⟨RX0, "recallCrew", "(LWindFarmDispatcher;I[J)I"⟩
def dkwX0_recallCrew_0 : List UInt8 := [44, 3, 42, 27, 182, 0, 27, 133, 80, 167, 0, 9, 78, 4, 172, 78, 5, 172, 3, 172]
abbrev dktX0_recallCrew_0 : List UInt8 := dkwX0_recallCrew_0 ++ []
theorem dksX0_recallCrew_0 : cX0_recallCrew.data.toList.drop 0 = dktX0_recallCrew_0 := by decide +kernel
theorem dX0_recallCrew_0 : decode cX0_recallCrew 0 = .ok (.aload_n 2, 1) := dk_44 (dk_at dksX0_recallCrew_0 0 rfl rfl)
theorem dX0_recallCrew_1 : decode cX0_recallCrew 1 = .ok (.iconst 0, 1) := dk_3 (dk_at dksX0_recallCrew_0 1 rfl rfl)
theorem dX0_recallCrew_2 : decode cX0_recallCrew 2 = .ok (.aload_n 0, 1) := dk_42 (dk_at dksX0_recallCrew_0 2 rfl rfl)
theorem dX0_recallCrew_3 : decode cX0_recallCrew 3 = .ok (.iload_n 1, 1) := dk_27 (dk_at dksX0_recallCrew_0 3 rfl rfl)
theorem dX0_recallCrew_4 : decode cX0_recallCrew 4 = .ok (.invokevirtual 27, 3) := dk_182 0 27 (dk_at dksX0_recallCrew_0 4 rfl rfl)
theorem dX0_recallCrew_7 : decode cX0_recallCrew 7 = .ok (.i2l, 1) := dk_133 (dk_at dksX0_recallCrew_0 7 rfl rfl)
theorem dX0_recallCrew_8 : decode cX0_recallCrew 8 = .ok (.lastore, 1) := dk_80 (dk_at dksX0_recallCrew_0 8 rfl rfl)
theorem dX0_recallCrew_9 : decode cX0_recallCrew 9 = .ok (.goto 9, 3) := dk_167 0 9 (dk_at dksX0_recallCrew_0 9 rfl rfl)
theorem dX0_recallCrew_12 : decode cX0_recallCrew 12 = .ok (.astore_n 3, 1) := dk_78 (dk_at dksX0_recallCrew_0 12 rfl rfl)
theorem dX0_recallCrew_13 : decode cX0_recallCrew 13 = .ok (.iconst 1, 1) := dk_4 (dk_at dksX0_recallCrew_0 13 rfl rfl)
theorem dX0_recallCrew_14 : decode cX0_recallCrew 14 = .ok (.ireturn, 1) := dk_172 (dk_at dksX0_recallCrew_0 14 rfl rfl)
theorem dX0_recallCrew_15 : decode cX0_recallCrew 15 = .ok (.astore_n 3, 1) := dk_78 (dk_at dksX0_recallCrew_0 15 rfl rfl)
theorem dX0_recallCrew_16 : decode cX0_recallCrew 16 = .ok (.iconst 2, 1) := dk_5 (dk_at dksX0_recallCrew_0 16 rfl rfl)
theorem dX0_recallCrew_17 : decode cX0_recallCrew 17 = .ok (.ireturn, 1) := dk_172 (dk_at dksX0_recallCrew_0 17 rfl rfl)
theorem dX0_recallCrew_18 : decode cX0_recallCrew 18 = .ok (.iconst 0, 1) := dk_3 (dk_at dksX0_recallCrew_0 18 rfl rfl)
theorem dX0_recallCrew_19 : decode cX0_recallCrew 19 = .ok (.ireturn, 1) := dk_172 (dk_at dksX0_recallCrew_0 19 rfl rfl)
abbrev cX0_curtail : ByteArray := method_7_code
def yX0_curtail : MethodName := ⟨RX0, "curtail", "(LWindFarmDispatcher;II[J)I"⟩
def dkwX0_curtail_1 : List UInt8 := [172, 3, 172]
abbrev dktX0_curtail_1 : List UInt8 := dkwX0_curtail_1 ++ []
def dkwX0_curtail_0 : List UInt8 := [45, 3, 42, 27, 28, 182, 0, 30, 133, 80, 167, 0, 15, 58, 4, 4, 172, 58, 4, 5, 172, 58, 4, 6]
abbrev dktX0_curtail_0 : List UInt8 := dkwX0_curtail_0 ++ dktX0_curtail_1
theorem dksX0_curtail_0 : cX0_curtail.data.toList.drop 0 = dktX0_curtail_0 := by decide +kernel
theorem dksX0_curtail_1 : cX0_curtail.data.toList.drop 24 = dktX0_curtail_1 := dk_seg dksX0_curtail_0 24 rfl rfl
theorem dX0_curtail_0 : decode cX0_curtail 0 = .ok (.aload_n 3, 1) := dk_45 (dk_at dksX0_curtail_0 0 rfl rfl)
theorem dX0_curtail_1 : decode cX0_curtail 1 = .ok (.iconst 0, 1) := dk_3 (dk_at dksX0_curtail_0 1 rfl rfl)
theorem dX0_curtail_2 : decode cX0_curtail 2 = .ok (.aload_n 0, 1) := dk_42 (dk_at dksX0_curtail_0 2 rfl rfl)
theorem dX0_curtail_3 : decode cX0_curtail 3 = .ok (.iload_n 1, 1) := dk_27 (dk_at dksX0_curtail_0 3 rfl rfl)
theorem dX0_curtail_4 : decode cX0_curtail 4 = .ok (.iload_n 2, 1) := dk_28 (dk_at dksX0_curtail_0 4 rfl rfl)
theorem dX0_curtail_5 : decode cX0_curtail 5 = .ok (.invokevirtual 30, 3) := dk_182 0 30 (dk_at dksX0_curtail_0 5 rfl rfl)
theorem dX0_curtail_8 : decode cX0_curtail 8 = .ok (.i2l, 1) := dk_133 (dk_at dksX0_curtail_0 8 rfl rfl)
theorem dX0_curtail_9 : decode cX0_curtail 9 = .ok (.lastore, 1) := dk_80 (dk_at dksX0_curtail_0 9 rfl rfl)
theorem dX0_curtail_10 : decode cX0_curtail 10 = .ok (.goto 15, 3) := dk_167 0 15 (dk_at dksX0_curtail_0 10 rfl rfl)
theorem dX0_curtail_13 : decode cX0_curtail 13 = .ok (.astore 4, 2) := dk_58 4 (dk_at dksX0_curtail_0 13 rfl rfl)
theorem dX0_curtail_15 : decode cX0_curtail 15 = .ok (.iconst 1, 1) := dk_4 (dk_at dksX0_curtail_0 15 rfl rfl)
theorem dX0_curtail_16 : decode cX0_curtail 16 = .ok (.ireturn, 1) := dk_172 (dk_at dksX0_curtail_0 16 rfl rfl)
theorem dX0_curtail_17 : decode cX0_curtail 17 = .ok (.astore 4, 2) := dk_58 4 (dk_at dksX0_curtail_0 17 rfl rfl)
theorem dX0_curtail_19 : decode cX0_curtail 19 = .ok (.iconst 2, 1) := dk_5 (dk_at dksX0_curtail_0 19 rfl rfl)
theorem dX0_curtail_20 : decode cX0_curtail 20 = .ok (.ireturn, 1) := dk_172 (dk_at dksX0_curtail_0 20 rfl rfl)
theorem dX0_curtail_21 : decode cX0_curtail 21 = .ok (.astore 4, 2) := dk_58 4 (dk_at dksX0_curtail_0 21 rfl rfl)
theorem dX0_curtail_23 : decode cX0_curtail 23 = .ok (.iconst 3, 1) := dk_6 (dk_at dksX0_curtail_0 23 rfl rfl)
theorem dX0_curtail_24 : decode cX0_curtail 24 = .ok (.ireturn, 1) := dk_172 (dk_at dksX0_curtail_1 0 rfl rfl)
theorem dX0_curtail_25 : decode cX0_curtail 25 = .ok (.iconst 0, 1) := dk_3 (dk_at dksX0_curtail_1 1 rfl rfl)
theorem dX0_curtail_26 : decode cX0_curtail 26 = .ok (.ireturn, 1) := dk_172 (dk_at dksX0_curtail_1 2 rfl rfl)
abbrev cX0_release : ByteArray := method_8_code
def yX0_release : MethodName := ⟨RX0, "release", "(LWindFarmDispatcher;I[J)I"⟩
def dkwX0_release_0 : List UInt8 := [44, 3, 42, 27, 182, 0, 33, 133, 80, 167, 0, 9, 78, 4, 172, 78, 5, 172, 3, 172]
abbrev dktX0_release_0 : List UInt8 := dkwX0_release_0 ++ []
theorem dksX0_release_0 : cX0_release.data.toList.drop 0 = dktX0_release_0 := by decide +kernel
theorem dX0_release_0 : decode cX0_release 0 = .ok (.aload_n 2, 1) := dk_44 (dk_at dksX0_release_0 0 rfl rfl)
theorem dX0_release_1 : decode cX0_release 1 = .ok (.iconst 0, 1) := dk_3 (dk_at dksX0_release_0 1 rfl rfl)
theorem dX0_release_2 : decode cX0_release 2 = .ok (.aload_n 0, 1) := dk_42 (dk_at dksX0_release_0 2 rfl rfl)
theorem dX0_release_3 : decode cX0_release 3 = .ok (.iload_n 1, 1) := dk_27 (dk_at dksX0_release_0 3 rfl rfl)
theorem dX0_release_4 : decode cX0_release 4 = .ok (.invokevirtual 33, 3) := dk_182 0 33 (dk_at dksX0_release_0 4 rfl rfl)
theorem dX0_release_7 : decode cX0_release 7 = .ok (.i2l, 1) := dk_133 (dk_at dksX0_release_0 7 rfl rfl)
theorem dX0_release_8 : decode cX0_release 8 = .ok (.lastore, 1) := dk_80 (dk_at dksX0_release_0 8 rfl rfl)
theorem dX0_release_9 : decode cX0_release 9 = .ok (.goto 9, 3) := dk_167 0 9 (dk_at dksX0_release_0 9 rfl rfl)
theorem dX0_release_12 : decode cX0_release 12 = .ok (.astore_n 3, 1) := dk_78 (dk_at dksX0_release_0 12 rfl rfl)
theorem dX0_release_13 : decode cX0_release 13 = .ok (.iconst 1, 1) := dk_4 (dk_at dksX0_release_0 13 rfl rfl)
theorem dX0_release_14 : decode cX0_release 14 = .ok (.ireturn, 1) := dk_172 (dk_at dksX0_release_0 14 rfl rfl)
theorem dX0_release_15 : decode cX0_release 15 = .ok (.astore_n 3, 1) := dk_78 (dk_at dksX0_release_0 15 rfl rfl)
theorem dX0_release_16 : decode cX0_release 16 = .ok (.iconst 2, 1) := dk_5 (dk_at dksX0_release_0 16 rfl rfl)
theorem dX0_release_17 : decode cX0_release 17 = .ok (.ireturn, 1) := dk_172 (dk_at dksX0_release_0 17 rfl rfl)
theorem dX0_release_18 : decode cX0_release 18 = .ok (.iconst 0, 1) := dk_3 (dk_at dksX0_release_0 18 rfl rfl)
theorem dX0_release_19 : decode cX0_release 19 = .ok (.ireturn, 1) := dk_172 (dk_at dksX0_release_0 19 rfl rfl)
abbrev cX0_turbineAt : ByteArray := method_9_code
def yX0_turbineAt : MethodName := ⟨RX0, "turbineAt", "(LWindFarmDispatcher;II[J)I"⟩
def dkwX0_turbineAt_0 : List UInt8 := [45, 3, 42, 27, 28, 182, 0, 36, 133, 80, 167, 0, 11, 58, 4, 4, 172, 58, 4, 5, 172, 3, 172]
abbrev dktX0_turbineAt_0 : List UInt8 := dkwX0_turbineAt_0 ++ []
theorem dksX0_turbineAt_0 : cX0_turbineAt.data.toList.drop 0 = dktX0_turbineAt_0 := by decide +kernel
theorem dX0_turbineAt_0 : decode cX0_turbineAt 0 = .ok (.aload_n 3, 1) := dk_45 (dk_at dksX0_turbineAt_0 0 rfl rfl)
theorem dX0_turbineAt_1 : decode cX0_turbineAt 1 = .ok (.iconst 0, 1) := dk_3 (dk_at dksX0_turbineAt_0 1 rfl rfl)
theorem dX0_turbineAt_2 : decode cX0_turbineAt 2 = .ok (.aload_n 0, 1) := dk_42 (dk_at dksX0_turbineAt_0 2 rfl rfl)
theorem dX0_turbineAt_3 : decode cX0_turbineAt 3 = .ok (.iload_n 1, 1) := dk_27 (dk_at dksX0_turbineAt_0 3 rfl rfl)
theorem dX0_turbineAt_4 : decode cX0_turbineAt 4 = .ok (.iload_n 2, 1) := dk_28 (dk_at dksX0_turbineAt_0 4 rfl rfl)
theorem dX0_turbineAt_5 : decode cX0_turbineAt 5 = .ok (.invokevirtual 36, 3) := dk_182 0 36 (dk_at dksX0_turbineAt_0 5 rfl rfl)
theorem dX0_turbineAt_8 : decode cX0_turbineAt 8 = .ok (.i2l, 1) := dk_133 (dk_at dksX0_turbineAt_0 8 rfl rfl)
theorem dX0_turbineAt_9 : decode cX0_turbineAt 9 = .ok (.lastore, 1) := dk_80 (dk_at dksX0_turbineAt_0 9 rfl rfl)
theorem dX0_turbineAt_10 : decode cX0_turbineAt 10 = .ok (.goto 11, 3) := dk_167 0 11 (dk_at dksX0_turbineAt_0 10 rfl rfl)
theorem dX0_turbineAt_13 : decode cX0_turbineAt 13 = .ok (.astore 4, 2) := dk_58 4 (dk_at dksX0_turbineAt_0 13 rfl rfl)
theorem dX0_turbineAt_15 : decode cX0_turbineAt 15 = .ok (.iconst 1, 1) := dk_4 (dk_at dksX0_turbineAt_0 15 rfl rfl)
theorem dX0_turbineAt_16 : decode cX0_turbineAt 16 = .ok (.ireturn, 1) := dk_172 (dk_at dksX0_turbineAt_0 16 rfl rfl)
theorem dX0_turbineAt_17 : decode cX0_turbineAt 17 = .ok (.astore 4, 2) := dk_58 4 (dk_at dksX0_turbineAt_0 17 rfl rfl)
theorem dX0_turbineAt_19 : decode cX0_turbineAt 19 = .ok (.iconst 2, 1) := dk_5 (dk_at dksX0_turbineAt_0 19 rfl rfl)
theorem dX0_turbineAt_20 : decode cX0_turbineAt 20 = .ok (.ireturn, 1) := dk_172 (dk_at dksX0_turbineAt_0 20 rfl rfl)
theorem dX0_turbineAt_21 : decode cX0_turbineAt 21 = .ok (.iconst 0, 1) := dk_3 (dk_at dksX0_turbineAt_0 21 rfl rfl)
theorem dX0_turbineAt_22 : decode cX0_turbineAt 22 = .ok (.ireturn, 1) := dk_172 (dk_at dksX0_turbineAt_0 22 rfl rfl)
abbrev cX0_rowOf : ByteArray := method_10_code
def yX0_rowOf : MethodName := ⟨RX0, "rowOf", "(LWindFarmDispatcher;I[J)I"⟩
def dkwX0_rowOf_0 : List UInt8 := [44, 3, 42, 27, 182, 0, 41, 133, 80, 167, 0, 6, 78, 4, 172, 3, 172]
abbrev dktX0_rowOf_0 : List UInt8 := dkwX0_rowOf_0 ++ []
theorem dksX0_rowOf_0 : cX0_rowOf.data.toList.drop 0 = dktX0_rowOf_0 := by decide +kernel
theorem dX0_rowOf_0 : decode cX0_rowOf 0 = .ok (.aload_n 2, 1) := dk_44 (dk_at dksX0_rowOf_0 0 rfl rfl)
theorem dX0_rowOf_1 : decode cX0_rowOf 1 = .ok (.iconst 0, 1) := dk_3 (dk_at dksX0_rowOf_0 1 rfl rfl)
theorem dX0_rowOf_2 : decode cX0_rowOf 2 = .ok (.aload_n 0, 1) := dk_42 (dk_at dksX0_rowOf_0 2 rfl rfl)
theorem dX0_rowOf_3 : decode cX0_rowOf 3 = .ok (.iload_n 1, 1) := dk_27 (dk_at dksX0_rowOf_0 3 rfl rfl)
theorem dX0_rowOf_4 : decode cX0_rowOf 4 = .ok (.invokevirtual 41, 3) := dk_182 0 41 (dk_at dksX0_rowOf_0 4 rfl rfl)
theorem dX0_rowOf_7 : decode cX0_rowOf 7 = .ok (.i2l, 1) := dk_133 (dk_at dksX0_rowOf_0 7 rfl rfl)
theorem dX0_rowOf_8 : decode cX0_rowOf 8 = .ok (.lastore, 1) := dk_80 (dk_at dksX0_rowOf_0 8 rfl rfl)
theorem dX0_rowOf_9 : decode cX0_rowOf 9 = .ok (.goto 6, 3) := dk_167 0 6 (dk_at dksX0_rowOf_0 9 rfl rfl)
theorem dX0_rowOf_12 : decode cX0_rowOf 12 = .ok (.astore_n 3, 1) := dk_78 (dk_at dksX0_rowOf_0 12 rfl rfl)
theorem dX0_rowOf_13 : decode cX0_rowOf 13 = .ok (.iconst 1, 1) := dk_4 (dk_at dksX0_rowOf_0 13 rfl rfl)
theorem dX0_rowOf_14 : decode cX0_rowOf 14 = .ok (.ireturn, 1) := dk_172 (dk_at dksX0_rowOf_0 14 rfl rfl)
theorem dX0_rowOf_15 : decode cX0_rowOf 15 = .ok (.iconst 0, 1) := dk_3 (dk_at dksX0_rowOf_0 15 rfl rfl)
theorem dX0_rowOf_16 : decode cX0_rowOf 16 = .ok (.ireturn, 1) := dk_172 (dk_at dksX0_rowOf_0 16 rfl rfl)
abbrev cX0_columnOf : ByteArray := method_11_code
def yX0_columnOf : MethodName := ⟨RX0, "columnOf", "(LWindFarmDispatcher;I[J)I"⟩
def dkwX0_columnOf_0 : List UInt8 := [44, 3, 42, 27, 182, 0, 44, 133, 80, 167, 0, 6, 78, 4, 172, 3, 172]
abbrev dktX0_columnOf_0 : List UInt8 := dkwX0_columnOf_0 ++ []
theorem dksX0_columnOf_0 : cX0_columnOf.data.toList.drop 0 = dktX0_columnOf_0 := by decide +kernel
theorem dX0_columnOf_0 : decode cX0_columnOf 0 = .ok (.aload_n 2, 1) := dk_44 (dk_at dksX0_columnOf_0 0 rfl rfl)
theorem dX0_columnOf_1 : decode cX0_columnOf 1 = .ok (.iconst 0, 1) := dk_3 (dk_at dksX0_columnOf_0 1 rfl rfl)
theorem dX0_columnOf_2 : decode cX0_columnOf 2 = .ok (.aload_n 0, 1) := dk_42 (dk_at dksX0_columnOf_0 2 rfl rfl)
theorem dX0_columnOf_3 : decode cX0_columnOf 3 = .ok (.iload_n 1, 1) := dk_27 (dk_at dksX0_columnOf_0 3 rfl rfl)
theorem dX0_columnOf_4 : decode cX0_columnOf 4 = .ok (.invokevirtual 44, 3) := dk_182 0 44 (dk_at dksX0_columnOf_0 4 rfl rfl)
theorem dX0_columnOf_7 : decode cX0_columnOf 7 = .ok (.i2l, 1) := dk_133 (dk_at dksX0_columnOf_0 7 rfl rfl)
theorem dX0_columnOf_8 : decode cX0_columnOf 8 = .ok (.lastore, 1) := dk_80 (dk_at dksX0_columnOf_0 8 rfl rfl)
theorem dX0_columnOf_9 : decode cX0_columnOf 9 = .ok (.goto 6, 3) := dk_167 0 6 (dk_at dksX0_columnOf_0 9 rfl rfl)
theorem dX0_columnOf_12 : decode cX0_columnOf 12 = .ok (.astore_n 3, 1) := dk_78 (dk_at dksX0_columnOf_0 12 rfl rfl)
theorem dX0_columnOf_13 : decode cX0_columnOf 13 = .ok (.iconst 1, 1) := dk_4 (dk_at dksX0_columnOf_0 13 rfl rfl)
theorem dX0_columnOf_14 : decode cX0_columnOf 14 = .ok (.ireturn, 1) := dk_172 (dk_at dksX0_columnOf_0 14 rfl rfl)
theorem dX0_columnOf_15 : decode cX0_columnOf 15 = .ok (.iconst 0, 1) := dk_3 (dk_at dksX0_columnOf_0 15 rfl rfl)
theorem dX0_columnOf_16 : decode cX0_columnOf 16 = .ok (.ireturn, 1) := dk_172 (dk_at dksX0_columnOf_0 16 rfl rfl)
abbrev cX0_ratedPower : ByteArray := method_12_code
def yX0_ratedPower : MethodName := ⟨RX0, "ratedPower", "(LWindFarmDispatcher;I[J)I"⟩
def dkwX0_ratedPower_0 : List UInt8 := [44, 3, 42, 27, 182, 0, 47, 133, 80, 167, 0, 6, 78, 4, 172, 3, 172]
abbrev dktX0_ratedPower_0 : List UInt8 := dkwX0_ratedPower_0 ++ []
theorem dksX0_ratedPower_0 : cX0_ratedPower.data.toList.drop 0 = dktX0_ratedPower_0 := by decide +kernel
theorem dX0_ratedPower_0 : decode cX0_ratedPower 0 = .ok (.aload_n 2, 1) := dk_44 (dk_at dksX0_ratedPower_0 0 rfl rfl)
theorem dX0_ratedPower_1 : decode cX0_ratedPower 1 = .ok (.iconst 0, 1) := dk_3 (dk_at dksX0_ratedPower_0 1 rfl rfl)
theorem dX0_ratedPower_2 : decode cX0_ratedPower 2 = .ok (.aload_n 0, 1) := dk_42 (dk_at dksX0_ratedPower_0 2 rfl rfl)
theorem dX0_ratedPower_3 : decode cX0_ratedPower 3 = .ok (.iload_n 1, 1) := dk_27 (dk_at dksX0_ratedPower_0 3 rfl rfl)
theorem dX0_ratedPower_4 : decode cX0_ratedPower 4 = .ok (.invokevirtual 47, 3) := dk_182 0 47 (dk_at dksX0_ratedPower_0 4 rfl rfl)
theorem dX0_ratedPower_7 : decode cX0_ratedPower 7 = .ok (.i2l, 1) := dk_133 (dk_at dksX0_ratedPower_0 7 rfl rfl)
theorem dX0_ratedPower_8 : decode cX0_ratedPower 8 = .ok (.lastore, 1) := dk_80 (dk_at dksX0_ratedPower_0 8 rfl rfl)
theorem dX0_ratedPower_9 : decode cX0_ratedPower 9 = .ok (.goto 6, 3) := dk_167 0 6 (dk_at dksX0_ratedPower_0 9 rfl rfl)
theorem dX0_ratedPower_12 : decode cX0_ratedPower 12 = .ok (.astore_n 3, 1) := dk_78 (dk_at dksX0_ratedPower_0 12 rfl rfl)
theorem dX0_ratedPower_13 : decode cX0_ratedPower 13 = .ok (.iconst 1, 1) := dk_4 (dk_at dksX0_ratedPower_0 13 rfl rfl)
theorem dX0_ratedPower_14 : decode cX0_ratedPower 14 = .ok (.ireturn, 1) := dk_172 (dk_at dksX0_ratedPower_0 14 rfl rfl)
theorem dX0_ratedPower_15 : decode cX0_ratedPower 15 = .ok (.iconst 0, 1) := dk_3 (dk_at dksX0_ratedPower_0 15 rfl rfl)
theorem dX0_ratedPower_16 : decode cX0_ratedPower 16 = .ok (.ireturn, 1) := dk_172 (dk_at dksX0_ratedPower_0 16 rfl rfl)
abbrev cX0_isRunning : ByteArray := method_13_code
def yX0_isRunning : MethodName := ⟨RX0, "isRunning", "(LWindFarmDispatcher;I[J)I"⟩
def dkwX0_isRunning_0 : List UInt8 := [44, 3, 42, 27, 182, 0, 50, 153, 0, 7, 10, 167, 0, 4, 9, 80, 167, 0, 6, 78, 4, 172, 3, 172]
abbrev dktX0_isRunning_0 : List UInt8 := dkwX0_isRunning_0 ++ []
theorem dksX0_isRunning_0 : cX0_isRunning.data.toList.drop 0 = dktX0_isRunning_0 := by decide +kernel
theorem dX0_isRunning_0 : decode cX0_isRunning 0 = .ok (.aload_n 2, 1) := dk_44 (dk_at dksX0_isRunning_0 0 rfl rfl)
theorem dX0_isRunning_1 : decode cX0_isRunning 1 = .ok (.iconst 0, 1) := dk_3 (dk_at dksX0_isRunning_0 1 rfl rfl)
theorem dX0_isRunning_2 : decode cX0_isRunning 2 = .ok (.aload_n 0, 1) := dk_42 (dk_at dksX0_isRunning_0 2 rfl rfl)
theorem dX0_isRunning_3 : decode cX0_isRunning 3 = .ok (.iload_n 1, 1) := dk_27 (dk_at dksX0_isRunning_0 3 rfl rfl)
theorem dX0_isRunning_4 : decode cX0_isRunning 4 = .ok (.invokevirtual 50, 3) := dk_182 0 50 (dk_at dksX0_isRunning_0 4 rfl rfl)
theorem dX0_isRunning_7 : decode cX0_isRunning 7 = .ok (.ifCond .eq 7, 3) := dk_153 0 7 (dk_at dksX0_isRunning_0 7 rfl rfl)
theorem dX0_isRunning_10 : decode cX0_isRunning 10 = .ok (.lconst 1, 1) := dk_10 (dk_at dksX0_isRunning_0 10 rfl rfl)
theorem dX0_isRunning_11 : decode cX0_isRunning 11 = .ok (.goto 4, 3) := dk_167 0 4 (dk_at dksX0_isRunning_0 11 rfl rfl)
theorem dX0_isRunning_14 : decode cX0_isRunning 14 = .ok (.lconst 0, 1) := dk_9 (dk_at dksX0_isRunning_0 14 rfl rfl)
theorem dX0_isRunning_15 : decode cX0_isRunning 15 = .ok (.lastore, 1) := dk_80 (dk_at dksX0_isRunning_0 15 rfl rfl)
theorem dX0_isRunning_16 : decode cX0_isRunning 16 = .ok (.goto 6, 3) := dk_167 0 6 (dk_at dksX0_isRunning_0 16 rfl rfl)
theorem dX0_isRunning_19 : decode cX0_isRunning 19 = .ok (.astore_n 3, 1) := dk_78 (dk_at dksX0_isRunning_0 19 rfl rfl)
theorem dX0_isRunning_20 : decode cX0_isRunning 20 = .ok (.iconst 1, 1) := dk_4 (dk_at dksX0_isRunning_0 20 rfl rfl)
theorem dX0_isRunning_21 : decode cX0_isRunning 21 = .ok (.ireturn, 1) := dk_172 (dk_at dksX0_isRunning_0 21 rfl rfl)
theorem dX0_isRunning_22 : decode cX0_isRunning 22 = .ok (.iconst 0, 1) := dk_3 (dk_at dksX0_isRunning_0 22 rfl rfl)
theorem dX0_isRunning_23 : decode cX0_isRunning 23 = .ok (.ireturn, 1) := dk_172 (dk_at dksX0_isRunning_0 23 rfl rfl)
abbrev cX0_isFailed : ByteArray := method_14_code
def yX0_isFailed : MethodName := ⟨RX0, "isFailed", "(LWindFarmDispatcher;I[J)I"⟩
def dkwX0_isFailed_0 : List UInt8 := [44, 3, 42, 27, 182, 0, 54, 153, 0, 7, 10, 167, 0, 4, 9, 80, 167, 0, 6, 78, 4, 172, 3, 172]
abbrev dktX0_isFailed_0 : List UInt8 := dkwX0_isFailed_0 ++ []
theorem dksX0_isFailed_0 : cX0_isFailed.data.toList.drop 0 = dktX0_isFailed_0 := by decide +kernel
theorem dX0_isFailed_0 : decode cX0_isFailed 0 = .ok (.aload_n 2, 1) := dk_44 (dk_at dksX0_isFailed_0 0 rfl rfl)
theorem dX0_isFailed_1 : decode cX0_isFailed 1 = .ok (.iconst 0, 1) := dk_3 (dk_at dksX0_isFailed_0 1 rfl rfl)
theorem dX0_isFailed_2 : decode cX0_isFailed 2 = .ok (.aload_n 0, 1) := dk_42 (dk_at dksX0_isFailed_0 2 rfl rfl)
theorem dX0_isFailed_3 : decode cX0_isFailed 3 = .ok (.iload_n 1, 1) := dk_27 (dk_at dksX0_isFailed_0 3 rfl rfl)
theorem dX0_isFailed_4 : decode cX0_isFailed 4 = .ok (.invokevirtual 54, 3) := dk_182 0 54 (dk_at dksX0_isFailed_0 4 rfl rfl)
theorem dX0_isFailed_7 : decode cX0_isFailed 7 = .ok (.ifCond .eq 7, 3) := dk_153 0 7 (dk_at dksX0_isFailed_0 7 rfl rfl)
theorem dX0_isFailed_10 : decode cX0_isFailed 10 = .ok (.lconst 1, 1) := dk_10 (dk_at dksX0_isFailed_0 10 rfl rfl)
theorem dX0_isFailed_11 : decode cX0_isFailed 11 = .ok (.goto 4, 3) := dk_167 0 4 (dk_at dksX0_isFailed_0 11 rfl rfl)
theorem dX0_isFailed_14 : decode cX0_isFailed 14 = .ok (.lconst 0, 1) := dk_9 (dk_at dksX0_isFailed_0 14 rfl rfl)
theorem dX0_isFailed_15 : decode cX0_isFailed 15 = .ok (.lastore, 1) := dk_80 (dk_at dksX0_isFailed_0 15 rfl rfl)
theorem dX0_isFailed_16 : decode cX0_isFailed 16 = .ok (.goto 6, 3) := dk_167 0 6 (dk_at dksX0_isFailed_0 16 rfl rfl)
theorem dX0_isFailed_19 : decode cX0_isFailed 19 = .ok (.astore_n 3, 1) := dk_78 (dk_at dksX0_isFailed_0 19 rfl rfl)
theorem dX0_isFailed_20 : decode cX0_isFailed 20 = .ok (.iconst 1, 1) := dk_4 (dk_at dksX0_isFailed_0 20 rfl rfl)
theorem dX0_isFailed_21 : decode cX0_isFailed 21 = .ok (.ireturn, 1) := dk_172 (dk_at dksX0_isFailed_0 21 rfl rfl)
theorem dX0_isFailed_22 : decode cX0_isFailed 22 = .ok (.iconst 0, 1) := dk_3 (dk_at dksX0_isFailed_0 22 rfl rfl)
theorem dX0_isFailed_23 : decode cX0_isFailed 23 = .ok (.ireturn, 1) := dk_172 (dk_at dksX0_isFailed_0 23 rfl rfl)
abbrev cX0_isInService : ByteArray := method_15_code
def yX0_isInService : MethodName := ⟨RX0, "isInService", "(LWindFarmDispatcher;I[J)I"⟩
def dkwX0_isInService_0 : List UInt8 := [44, 3, 42, 27, 182, 0, 57, 153, 0, 7, 10, 167, 0, 4, 9, 80, 167, 0, 6, 78, 4, 172, 3, 172]
abbrev dktX0_isInService_0 : List UInt8 := dkwX0_isInService_0 ++ []
theorem dksX0_isInService_0 : cX0_isInService.data.toList.drop 0 = dktX0_isInService_0 := by decide +kernel
theorem dX0_isInService_0 : decode cX0_isInService 0 = .ok (.aload_n 2, 1) := dk_44 (dk_at dksX0_isInService_0 0 rfl rfl)
theorem dX0_isInService_1 : decode cX0_isInService 1 = .ok (.iconst 0, 1) := dk_3 (dk_at dksX0_isInService_0 1 rfl rfl)
theorem dX0_isInService_2 : decode cX0_isInService 2 = .ok (.aload_n 0, 1) := dk_42 (dk_at dksX0_isInService_0 2 rfl rfl)
theorem dX0_isInService_3 : decode cX0_isInService 3 = .ok (.iload_n 1, 1) := dk_27 (dk_at dksX0_isInService_0 3 rfl rfl)
theorem dX0_isInService_4 : decode cX0_isInService 4 = .ok (.invokevirtual 57, 3) := dk_182 0 57 (dk_at dksX0_isInService_0 4 rfl rfl)
theorem dX0_isInService_7 : decode cX0_isInService 7 = .ok (.ifCond .eq 7, 3) := dk_153 0 7 (dk_at dksX0_isInService_0 7 rfl rfl)
theorem dX0_isInService_10 : decode cX0_isInService 10 = .ok (.lconst 1, 1) := dk_10 (dk_at dksX0_isInService_0 10 rfl rfl)
theorem dX0_isInService_11 : decode cX0_isInService 11 = .ok (.goto 4, 3) := dk_167 0 4 (dk_at dksX0_isInService_0 11 rfl rfl)
theorem dX0_isInService_14 : decode cX0_isInService 14 = .ok (.lconst 0, 1) := dk_9 (dk_at dksX0_isInService_0 14 rfl rfl)
theorem dX0_isInService_15 : decode cX0_isInService 15 = .ok (.lastore, 1) := dk_80 (dk_at dksX0_isInService_0 15 rfl rfl)
theorem dX0_isInService_16 : decode cX0_isInService 16 = .ok (.goto 6, 3) := dk_167 0 6 (dk_at dksX0_isInService_0 16 rfl rfl)
theorem dX0_isInService_19 : decode cX0_isInService 19 = .ok (.astore_n 3, 1) := dk_78 (dk_at dksX0_isInService_0 19 rfl rfl)
theorem dX0_isInService_20 : decode cX0_isInService 20 = .ok (.iconst 1, 1) := dk_4 (dk_at dksX0_isInService_0 20 rfl rfl)
theorem dX0_isInService_21 : decode cX0_isInService 21 = .ok (.ireturn, 1) := dk_172 (dk_at dksX0_isInService_0 21 rfl rfl)
theorem dX0_isInService_22 : decode cX0_isInService 22 = .ok (.iconst 0, 1) := dk_3 (dk_at dksX0_isInService_0 22 rfl rfl)
theorem dX0_isInService_23 : decode cX0_isInService 23 = .ok (.ireturn, 1) := dk_172 (dk_at dksX0_isInService_0 23 rfl rfl)
abbrev cX0_limitOf : ByteArray := method_16_code
def yX0_limitOf : MethodName := ⟨RX0, "limitOf", "(LWindFarmDispatcher;I[J)I"⟩
def dkwX0_limitOf_0 : List UInt8 := [44, 3, 42, 27, 182, 0, 60, 133, 80, 167, 0, 9, 78, 4, 172, 78, 5, 172, 3, 172]
abbrev dktX0_limitOf_0 : List UInt8 := dkwX0_limitOf_0 ++ []
theorem dksX0_limitOf_0 : cX0_limitOf.data.toList.drop 0 = dktX0_limitOf_0 := by decide +kernel
theorem dX0_limitOf_0 : decode cX0_limitOf 0 = .ok (.aload_n 2, 1) := dk_44 (dk_at dksX0_limitOf_0 0 rfl rfl)
theorem dX0_limitOf_1 : decode cX0_limitOf 1 = .ok (.iconst 0, 1) := dk_3 (dk_at dksX0_limitOf_0 1 rfl rfl)
theorem dX0_limitOf_2 : decode cX0_limitOf 2 = .ok (.aload_n 0, 1) := dk_42 (dk_at dksX0_limitOf_0 2 rfl rfl)
theorem dX0_limitOf_3 : decode cX0_limitOf 3 = .ok (.iload_n 1, 1) := dk_27 (dk_at dksX0_limitOf_0 3 rfl rfl)
theorem dX0_limitOf_4 : decode cX0_limitOf 4 = .ok (.invokevirtual 60, 3) := dk_182 0 60 (dk_at dksX0_limitOf_0 4 rfl rfl)
theorem dX0_limitOf_7 : decode cX0_limitOf 7 = .ok (.i2l, 1) := dk_133 (dk_at dksX0_limitOf_0 7 rfl rfl)
theorem dX0_limitOf_8 : decode cX0_limitOf 8 = .ok (.lastore, 1) := dk_80 (dk_at dksX0_limitOf_0 8 rfl rfl)
theorem dX0_limitOf_9 : decode cX0_limitOf 9 = .ok (.goto 9, 3) := dk_167 0 9 (dk_at dksX0_limitOf_0 9 rfl rfl)
theorem dX0_limitOf_12 : decode cX0_limitOf 12 = .ok (.astore_n 3, 1) := dk_78 (dk_at dksX0_limitOf_0 12 rfl rfl)
theorem dX0_limitOf_13 : decode cX0_limitOf 13 = .ok (.iconst 1, 1) := dk_4 (dk_at dksX0_limitOf_0 13 rfl rfl)
theorem dX0_limitOf_14 : decode cX0_limitOf 14 = .ok (.ireturn, 1) := dk_172 (dk_at dksX0_limitOf_0 14 rfl rfl)
theorem dX0_limitOf_15 : decode cX0_limitOf 15 = .ok (.astore_n 3, 1) := dk_78 (dk_at dksX0_limitOf_0 15 rfl rfl)
theorem dX0_limitOf_16 : decode cX0_limitOf 16 = .ok (.iconst 2, 1) := dk_5 (dk_at dksX0_limitOf_0 16 rfl rfl)
theorem dX0_limitOf_17 : decode cX0_limitOf 17 = .ok (.ireturn, 1) := dk_172 (dk_at dksX0_limitOf_0 17 rfl rfl)
theorem dX0_limitOf_18 : decode cX0_limitOf 18 = .ok (.iconst 0, 1) := dk_3 (dk_at dksX0_limitOf_0 18 rfl rfl)
theorem dX0_limitOf_19 : decode cX0_limitOf 19 = .ok (.ireturn, 1) := dk_172 (dk_at dksX0_limitOf_0 19 rfl rfl)
abbrev cX0_serviceHoursLeft : ByteArray := method_17_code
def yX0_serviceHoursLeft : MethodName := ⟨RX0, "serviceHoursLeft", "(LWindFarmDispatcher;I[J)I"⟩
def dkwX0_serviceHoursLeft_0 : List UInt8 := [44, 3, 42, 27, 182, 0, 63, 133, 80, 167, 0, 9, 78, 4, 172, 78, 5, 172, 3, 172]
abbrev dktX0_serviceHoursLeft_0 : List UInt8 := dkwX0_serviceHoursLeft_0 ++ []
theorem dksX0_serviceHoursLeft_0 : cX0_serviceHoursLeft.data.toList.drop 0 = dktX0_serviceHoursLeft_0 := by decide +kernel
theorem dX0_serviceHoursLeft_0 : decode cX0_serviceHoursLeft 0 = .ok (.aload_n 2, 1) := dk_44 (dk_at dksX0_serviceHoursLeft_0 0 rfl rfl)
theorem dX0_serviceHoursLeft_1 : decode cX0_serviceHoursLeft 1 = .ok (.iconst 0, 1) := dk_3 (dk_at dksX0_serviceHoursLeft_0 1 rfl rfl)
theorem dX0_serviceHoursLeft_2 : decode cX0_serviceHoursLeft 2 = .ok (.aload_n 0, 1) := dk_42 (dk_at dksX0_serviceHoursLeft_0 2 rfl rfl)
theorem dX0_serviceHoursLeft_3 : decode cX0_serviceHoursLeft 3 = .ok (.iload_n 1, 1) := dk_27 (dk_at dksX0_serviceHoursLeft_0 3 rfl rfl)
theorem dX0_serviceHoursLeft_4 : decode cX0_serviceHoursLeft 4 = .ok (.invokevirtual 63, 3) := dk_182 0 63 (dk_at dksX0_serviceHoursLeft_0 4 rfl rfl)
theorem dX0_serviceHoursLeft_7 : decode cX0_serviceHoursLeft 7 = .ok (.i2l, 1) := dk_133 (dk_at dksX0_serviceHoursLeft_0 7 rfl rfl)
theorem dX0_serviceHoursLeft_8 : decode cX0_serviceHoursLeft 8 = .ok (.lastore, 1) := dk_80 (dk_at dksX0_serviceHoursLeft_0 8 rfl rfl)
theorem dX0_serviceHoursLeft_9 : decode cX0_serviceHoursLeft 9 = .ok (.goto 9, 3) := dk_167 0 9 (dk_at dksX0_serviceHoursLeft_0 9 rfl rfl)
theorem dX0_serviceHoursLeft_12 : decode cX0_serviceHoursLeft 12 = .ok (.astore_n 3, 1) := dk_78 (dk_at dksX0_serviceHoursLeft_0 12 rfl rfl)
theorem dX0_serviceHoursLeft_13 : decode cX0_serviceHoursLeft 13 = .ok (.iconst 1, 1) := dk_4 (dk_at dksX0_serviceHoursLeft_0 13 rfl rfl)
theorem dX0_serviceHoursLeft_14 : decode cX0_serviceHoursLeft 14 = .ok (.ireturn, 1) := dk_172 (dk_at dksX0_serviceHoursLeft_0 14 rfl rfl)
theorem dX0_serviceHoursLeft_15 : decode cX0_serviceHoursLeft 15 = .ok (.astore_n 3, 1) := dk_78 (dk_at dksX0_serviceHoursLeft_0 15 rfl rfl)
theorem dX0_serviceHoursLeft_16 : decode cX0_serviceHoursLeft 16 = .ok (.iconst 2, 1) := dk_5 (dk_at dksX0_serviceHoursLeft_0 16 rfl rfl)
theorem dX0_serviceHoursLeft_17 : decode cX0_serviceHoursLeft 17 = .ok (.ireturn, 1) := dk_172 (dk_at dksX0_serviceHoursLeft_0 17 rfl rfl)
theorem dX0_serviceHoursLeft_18 : decode cX0_serviceHoursLeft 18 = .ok (.iconst 0, 1) := dk_3 (dk_at dksX0_serviceHoursLeft_0 18 rfl rfl)
theorem dX0_serviceHoursLeft_19 : decode cX0_serviceHoursLeft 19 = .ok (.ireturn, 1) := dk_172 (dk_at dksX0_serviceHoursLeft_0 19 rfl rfl)
abbrev cX0_setWind : ByteArray := method_18_code
def yX0_setWind : MethodName := ⟨RX0, "setWind", "(LWindFarmDispatcher;CI[J)I"⟩
def dkwX0_setWind_0 : List UInt8 := [45, 3, 42, 27, 28, 182, 0, 66, 133, 80, 167, 0, 7, 58, 4, 4, 172, 3, 172]
abbrev dktX0_setWind_0 : List UInt8 := dkwX0_setWind_0 ++ []
theorem dksX0_setWind_0 : cX0_setWind.data.toList.drop 0 = dktX0_setWind_0 := by decide +kernel
theorem dX0_setWind_0 : decode cX0_setWind 0 = .ok (.aload_n 3, 1) := dk_45 (dk_at dksX0_setWind_0 0 rfl rfl)
theorem dX0_setWind_1 : decode cX0_setWind 1 = .ok (.iconst 0, 1) := dk_3 (dk_at dksX0_setWind_0 1 rfl rfl)
theorem dX0_setWind_2 : decode cX0_setWind 2 = .ok (.aload_n 0, 1) := dk_42 (dk_at dksX0_setWind_0 2 rfl rfl)
theorem dX0_setWind_3 : decode cX0_setWind 3 = .ok (.iload_n 1, 1) := dk_27 (dk_at dksX0_setWind_0 3 rfl rfl)
theorem dX0_setWind_4 : decode cX0_setWind 4 = .ok (.iload_n 2, 1) := dk_28 (dk_at dksX0_setWind_0 4 rfl rfl)
theorem dX0_setWind_5 : decode cX0_setWind 5 = .ok (.invokevirtual 66, 3) := dk_182 0 66 (dk_at dksX0_setWind_0 5 rfl rfl)
theorem dX0_setWind_8 : decode cX0_setWind 8 = .ok (.i2l, 1) := dk_133 (dk_at dksX0_setWind_0 8 rfl rfl)
theorem dX0_setWind_9 : decode cX0_setWind 9 = .ok (.lastore, 1) := dk_80 (dk_at dksX0_setWind_0 9 rfl rfl)
theorem dX0_setWind_10 : decode cX0_setWind 10 = .ok (.goto 7, 3) := dk_167 0 7 (dk_at dksX0_setWind_0 10 rfl rfl)
theorem dX0_setWind_13 : decode cX0_setWind 13 = .ok (.astore 4, 2) := dk_58 4 (dk_at dksX0_setWind_0 13 rfl rfl)
theorem dX0_setWind_15 : decode cX0_setWind 15 = .ok (.iconst 1, 1) := dk_4 (dk_at dksX0_setWind_0 15 rfl rfl)
theorem dX0_setWind_16 : decode cX0_setWind 16 = .ok (.ireturn, 1) := dk_172 (dk_at dksX0_setWind_0 16 rfl rfl)
theorem dX0_setWind_17 : decode cX0_setWind 17 = .ok (.iconst 0, 1) := dk_3 (dk_at dksX0_setWind_0 17 rfl rfl)
theorem dX0_setWind_18 : decode cX0_setWind 18 = .ok (.ireturn, 1) := dk_172 (dk_at dksX0_setWind_0 18 rfl rfl)
abbrev cX0_wakeLoss : ByteArray := method_19_code
def yX0_wakeLoss : MethodName := ⟨RX0, "wakeLoss", "(LWindFarmDispatcher;I[J)I"⟩
def dkwX0_wakeLoss_0 : List UInt8 := [44, 3, 42, 27, 182, 0, 70, 133, 80, 167, 0, 6, 78, 4, 172, 3, 172]
abbrev dktX0_wakeLoss_0 : List UInt8 := dkwX0_wakeLoss_0 ++ []
theorem dksX0_wakeLoss_0 : cX0_wakeLoss.data.toList.drop 0 = dktX0_wakeLoss_0 := by decide +kernel
theorem dX0_wakeLoss_0 : decode cX0_wakeLoss 0 = .ok (.aload_n 2, 1) := dk_44 (dk_at dksX0_wakeLoss_0 0 rfl rfl)
theorem dX0_wakeLoss_1 : decode cX0_wakeLoss 1 = .ok (.iconst 0, 1) := dk_3 (dk_at dksX0_wakeLoss_0 1 rfl rfl)
theorem dX0_wakeLoss_2 : decode cX0_wakeLoss 2 = .ok (.aload_n 0, 1) := dk_42 (dk_at dksX0_wakeLoss_0 2 rfl rfl)
theorem dX0_wakeLoss_3 : decode cX0_wakeLoss 3 = .ok (.iload_n 1, 1) := dk_27 (dk_at dksX0_wakeLoss_0 3 rfl rfl)
theorem dX0_wakeLoss_4 : decode cX0_wakeLoss 4 = .ok (.invokevirtual 70, 3) := dk_182 0 70 (dk_at dksX0_wakeLoss_0 4 rfl rfl)
theorem dX0_wakeLoss_7 : decode cX0_wakeLoss 7 = .ok (.i2l, 1) := dk_133 (dk_at dksX0_wakeLoss_0 7 rfl rfl)
theorem dX0_wakeLoss_8 : decode cX0_wakeLoss 8 = .ok (.lastore, 1) := dk_80 (dk_at dksX0_wakeLoss_0 8 rfl rfl)
theorem dX0_wakeLoss_9 : decode cX0_wakeLoss 9 = .ok (.goto 6, 3) := dk_167 0 6 (dk_at dksX0_wakeLoss_0 9 rfl rfl)
theorem dX0_wakeLoss_12 : decode cX0_wakeLoss 12 = .ok (.astore_n 3, 1) := dk_78 (dk_at dksX0_wakeLoss_0 12 rfl rfl)
theorem dX0_wakeLoss_13 : decode cX0_wakeLoss 13 = .ok (.iconst 1, 1) := dk_4 (dk_at dksX0_wakeLoss_0 13 rfl rfl)
theorem dX0_wakeLoss_14 : decode cX0_wakeLoss 14 = .ok (.ireturn, 1) := dk_172 (dk_at dksX0_wakeLoss_0 14 rfl rfl)
theorem dX0_wakeLoss_15 : decode cX0_wakeLoss 15 = .ok (.iconst 0, 1) := dk_3 (dk_at dksX0_wakeLoss_0 15 rfl rfl)
theorem dX0_wakeLoss_16 : decode cX0_wakeLoss 16 = .ok (.ireturn, 1) := dk_172 (dk_at dksX0_wakeLoss_0 16 rfl rfl)
abbrev cX0_availablePower : ByteArray := method_20_code
def yX0_availablePower : MethodName := ⟨RX0, "availablePower", "(LWindFarmDispatcher;I[J)I"⟩
def dkwX0_availablePower_0 : List UInt8 := [44, 3, 42, 27, 182, 0, 73, 133, 80, 167, 0, 6, 78, 4, 172, 3, 172]
abbrev dktX0_availablePower_0 : List UInt8 := dkwX0_availablePower_0 ++ []
theorem dksX0_availablePower_0 : cX0_availablePower.data.toList.drop 0 = dktX0_availablePower_0 := by decide +kernel
theorem dX0_availablePower_0 : decode cX0_availablePower 0 = .ok (.aload_n 2, 1) := dk_44 (dk_at dksX0_availablePower_0 0 rfl rfl)
theorem dX0_availablePower_1 : decode cX0_availablePower 1 = .ok (.iconst 0, 1) := dk_3 (dk_at dksX0_availablePower_0 1 rfl rfl)
theorem dX0_availablePower_2 : decode cX0_availablePower 2 = .ok (.aload_n 0, 1) := dk_42 (dk_at dksX0_availablePower_0 2 rfl rfl)
theorem dX0_availablePower_3 : decode cX0_availablePower 3 = .ok (.iload_n 1, 1) := dk_27 (dk_at dksX0_availablePower_0 3 rfl rfl)
theorem dX0_availablePower_4 : decode cX0_availablePower 4 = .ok (.invokevirtual 73, 3) := dk_182 0 73 (dk_at dksX0_availablePower_0 4 rfl rfl)
theorem dX0_availablePower_7 : decode cX0_availablePower 7 = .ok (.i2l, 1) := dk_133 (dk_at dksX0_availablePower_0 7 rfl rfl)
theorem dX0_availablePower_8 : decode cX0_availablePower 8 = .ok (.lastore, 1) := dk_80 (dk_at dksX0_availablePower_0 8 rfl rfl)
theorem dX0_availablePower_9 : decode cX0_availablePower 9 = .ok (.goto 6, 3) := dk_167 0 6 (dk_at dksX0_availablePower_0 9 rfl rfl)
theorem dX0_availablePower_12 : decode cX0_availablePower 12 = .ok (.astore_n 3, 1) := dk_78 (dk_at dksX0_availablePower_0 12 rfl rfl)
theorem dX0_availablePower_13 : decode cX0_availablePower 13 = .ok (.iconst 1, 1) := dk_4 (dk_at dksX0_availablePower_0 13 rfl rfl)
theorem dX0_availablePower_14 : decode cX0_availablePower 14 = .ok (.ireturn, 1) := dk_172 (dk_at dksX0_availablePower_0 14 rfl rfl)
theorem dX0_availablePower_15 : decode cX0_availablePower 15 = .ok (.iconst 0, 1) := dk_3 (dk_at dksX0_availablePower_0 15 rfl rfl)
theorem dX0_availablePower_16 : decode cX0_availablePower 16 = .ok (.ireturn, 1) := dk_172 (dk_at dksX0_availablePower_0 16 rfl rfl)
abbrev cX0_outputOf : ByteArray := method_21_code
def yX0_outputOf : MethodName := ⟨RX0, "outputOf", "(LWindFarmDispatcher;I[J)I"⟩
def dkwX0_outputOf_0 : List UInt8 := [44, 3, 42, 27, 182, 0, 76, 133, 80, 167, 0, 6, 78, 4, 172, 3, 172]
abbrev dktX0_outputOf_0 : List UInt8 := dkwX0_outputOf_0 ++ []
theorem dksX0_outputOf_0 : cX0_outputOf.data.toList.drop 0 = dktX0_outputOf_0 := by decide +kernel
theorem dX0_outputOf_0 : decode cX0_outputOf 0 = .ok (.aload_n 2, 1) := dk_44 (dk_at dksX0_outputOf_0 0 rfl rfl)
theorem dX0_outputOf_1 : decode cX0_outputOf 1 = .ok (.iconst 0, 1) := dk_3 (dk_at dksX0_outputOf_0 1 rfl rfl)
theorem dX0_outputOf_2 : decode cX0_outputOf 2 = .ok (.aload_n 0, 1) := dk_42 (dk_at dksX0_outputOf_0 2 rfl rfl)
theorem dX0_outputOf_3 : decode cX0_outputOf 3 = .ok (.iload_n 1, 1) := dk_27 (dk_at dksX0_outputOf_0 3 rfl rfl)
theorem dX0_outputOf_4 : decode cX0_outputOf 4 = .ok (.invokevirtual 76, 3) := dk_182 0 76 (dk_at dksX0_outputOf_0 4 rfl rfl)
theorem dX0_outputOf_7 : decode cX0_outputOf 7 = .ok (.i2l, 1) := dk_133 (dk_at dksX0_outputOf_0 7 rfl rfl)
theorem dX0_outputOf_8 : decode cX0_outputOf 8 = .ok (.lastore, 1) := dk_80 (dk_at dksX0_outputOf_0 8 rfl rfl)
theorem dX0_outputOf_9 : decode cX0_outputOf 9 = .ok (.goto 6, 3) := dk_167 0 6 (dk_at dksX0_outputOf_0 9 rfl rfl)
theorem dX0_outputOf_12 : decode cX0_outputOf 12 = .ok (.astore_n 3, 1) := dk_78 (dk_at dksX0_outputOf_0 12 rfl rfl)
theorem dX0_outputOf_13 : decode cX0_outputOf 13 = .ok (.iconst 1, 1) := dk_4 (dk_at dksX0_outputOf_0 13 rfl rfl)
theorem dX0_outputOf_14 : decode cX0_outputOf 14 = .ok (.ireturn, 1) := dk_172 (dk_at dksX0_outputOf_0 14 rfl rfl)
theorem dX0_outputOf_15 : decode cX0_outputOf 15 = .ok (.iconst 0, 1) := dk_3 (dk_at dksX0_outputOf_0 15 rfl rfl)
theorem dX0_outputOf_16 : decode cX0_outputOf 16 = .ok (.ireturn, 1) := dk_172 (dk_at dksX0_outputOf_0 16 rfl rfl)
abbrev cX0_outputWith : ByteArray := method_22_code
def yX0_outputWith : MethodName := ⟨RX0, "outputWith", "(LWindFarmDispatcher;CI[J)I"⟩
def dkwX0_outputWith_0 : List UInt8 := [45, 3, 42, 27, 28, 182, 0, 79, 133, 80, 167, 0, 7, 58, 4, 4, 172, 3, 172]
abbrev dktX0_outputWith_0 : List UInt8 := dkwX0_outputWith_0 ++ []
theorem dksX0_outputWith_0 : cX0_outputWith.data.toList.drop 0 = dktX0_outputWith_0 := by decide +kernel
theorem dX0_outputWith_0 : decode cX0_outputWith 0 = .ok (.aload_n 3, 1) := dk_45 (dk_at dksX0_outputWith_0 0 rfl rfl)
theorem dX0_outputWith_1 : decode cX0_outputWith 1 = .ok (.iconst 0, 1) := dk_3 (dk_at dksX0_outputWith_0 1 rfl rfl)
theorem dX0_outputWith_2 : decode cX0_outputWith 2 = .ok (.aload_n 0, 1) := dk_42 (dk_at dksX0_outputWith_0 2 rfl rfl)
theorem dX0_outputWith_3 : decode cX0_outputWith 3 = .ok (.iload_n 1, 1) := dk_27 (dk_at dksX0_outputWith_0 3 rfl rfl)
theorem dX0_outputWith_4 : decode cX0_outputWith 4 = .ok (.iload_n 2, 1) := dk_28 (dk_at dksX0_outputWith_0 4 rfl rfl)
theorem dX0_outputWith_5 : decode cX0_outputWith 5 = .ok (.invokevirtual 79, 3) := dk_182 0 79 (dk_at dksX0_outputWith_0 5 rfl rfl)
theorem dX0_outputWith_8 : decode cX0_outputWith 8 = .ok (.i2l, 1) := dk_133 (dk_at dksX0_outputWith_0 8 rfl rfl)
theorem dX0_outputWith_9 : decode cX0_outputWith 9 = .ok (.lastore, 1) := dk_80 (dk_at dksX0_outputWith_0 9 rfl rfl)
theorem dX0_outputWith_10 : decode cX0_outputWith 10 = .ok (.goto 7, 3) := dk_167 0 7 (dk_at dksX0_outputWith_0 10 rfl rfl)
theorem dX0_outputWith_13 : decode cX0_outputWith 13 = .ok (.astore 4, 2) := dk_58 4 (dk_at dksX0_outputWith_0 13 rfl rfl)
theorem dX0_outputWith_15 : decode cX0_outputWith 15 = .ok (.iconst 1, 1) := dk_4 (dk_at dksX0_outputWith_0 15 rfl rfl)
theorem dX0_outputWith_16 : decode cX0_outputWith 16 = .ok (.ireturn, 1) := dk_172 (dk_at dksX0_outputWith_0 16 rfl rfl)
theorem dX0_outputWith_17 : decode cX0_outputWith 17 = .ok (.iconst 0, 1) := dk_3 (dk_at dksX0_outputWith_0 17 rfl rfl)
theorem dX0_outputWith_18 : decode cX0_outputWith 18 = .ok (.ireturn, 1) := dk_172 (dk_at dksX0_outputWith_0 18 rfl rfl)
abbrev cX0_setGridLimit : ByteArray := method_23_code
def yX0_setGridLimit : MethodName := ⟨RX0, "setGridLimit", "(LWindFarmDispatcher;I[J)I"⟩
def dkwX0_setGridLimit_0 : List UInt8 := [44, 3, 42, 27, 182, 0, 82, 133, 80, 167, 0, 6, 78, 4, 172, 3, 172]
abbrev dktX0_setGridLimit_0 : List UInt8 := dkwX0_setGridLimit_0 ++ []
theorem dksX0_setGridLimit_0 : cX0_setGridLimit.data.toList.drop 0 = dktX0_setGridLimit_0 := by decide +kernel
theorem dX0_setGridLimit_0 : decode cX0_setGridLimit 0 = .ok (.aload_n 2, 1) := dk_44 (dk_at dksX0_setGridLimit_0 0 rfl rfl)
theorem dX0_setGridLimit_1 : decode cX0_setGridLimit 1 = .ok (.iconst 0, 1) := dk_3 (dk_at dksX0_setGridLimit_0 1 rfl rfl)
theorem dX0_setGridLimit_2 : decode cX0_setGridLimit 2 = .ok (.aload_n 0, 1) := dk_42 (dk_at dksX0_setGridLimit_0 2 rfl rfl)
theorem dX0_setGridLimit_3 : decode cX0_setGridLimit 3 = .ok (.iload_n 1, 1) := dk_27 (dk_at dksX0_setGridLimit_0 3 rfl rfl)
theorem dX0_setGridLimit_4 : decode cX0_setGridLimit 4 = .ok (.invokevirtual 82, 3) := dk_182 0 82 (dk_at dksX0_setGridLimit_0 4 rfl rfl)
theorem dX0_setGridLimit_7 : decode cX0_setGridLimit 7 = .ok (.i2l, 1) := dk_133 (dk_at dksX0_setGridLimit_0 7 rfl rfl)
theorem dX0_setGridLimit_8 : decode cX0_setGridLimit 8 = .ok (.lastore, 1) := dk_80 (dk_at dksX0_setGridLimit_0 8 rfl rfl)
theorem dX0_setGridLimit_9 : decode cX0_setGridLimit 9 = .ok (.goto 6, 3) := dk_167 0 6 (dk_at dksX0_setGridLimit_0 9 rfl rfl)
theorem dX0_setGridLimit_12 : decode cX0_setGridLimit 12 = .ok (.astore_n 3, 1) := dk_78 (dk_at dksX0_setGridLimit_0 12 rfl rfl)
theorem dX0_setGridLimit_13 : decode cX0_setGridLimit 13 = .ok (.iconst 1, 1) := dk_4 (dk_at dksX0_setGridLimit_0 13 rfl rfl)
theorem dX0_setGridLimit_14 : decode cX0_setGridLimit 14 = .ok (.ireturn, 1) := dk_172 (dk_at dksX0_setGridLimit_0 14 rfl rfl)
theorem dX0_setGridLimit_15 : decode cX0_setGridLimit 15 = .ok (.iconst 0, 1) := dk_3 (dk_at dksX0_setGridLimit_0 15 rfl rfl)
theorem dX0_setGridLimit_16 : decode cX0_setGridLimit 16 = .ok (.ireturn, 1) := dk_172 (dk_at dksX0_setGridLimit_0 16 rfl rfl)
abbrev cX0_placeBid : ByteArray := method_24_code
def yX0_placeBid : MethodName := ⟨RX0, "placeBid", "(LWindFarmDispatcher;III[J)I"⟩
def dkwX0_placeBid_1 : List UInt8 := [58, 5, 6, 172, 3, 172]
abbrev dktX0_placeBid_1 : List UInt8 := dkwX0_placeBid_1 ++ []
def dkwX0_placeBid_0 : List UInt8 := [25, 4, 3, 42, 27, 28, 29, 182, 0, 85, 133, 80, 167, 0, 15, 58, 5, 4, 172, 58, 5, 5, 172]
abbrev dktX0_placeBid_0 : List UInt8 := dkwX0_placeBid_0 ++ dktX0_placeBid_1
theorem dksX0_placeBid_0 : cX0_placeBid.data.toList.drop 0 = dktX0_placeBid_0 := by decide +kernel
theorem dksX0_placeBid_1 : cX0_placeBid.data.toList.drop 23 = dktX0_placeBid_1 := dk_seg dksX0_placeBid_0 23 rfl rfl
theorem dX0_placeBid_0 : decode cX0_placeBid 0 = .ok (.aload 4, 2) := dk_25 4 (dk_at dksX0_placeBid_0 0 rfl rfl)
theorem dX0_placeBid_2 : decode cX0_placeBid 2 = .ok (.iconst 0, 1) := dk_3 (dk_at dksX0_placeBid_0 2 rfl rfl)
theorem dX0_placeBid_3 : decode cX0_placeBid 3 = .ok (.aload_n 0, 1) := dk_42 (dk_at dksX0_placeBid_0 3 rfl rfl)
theorem dX0_placeBid_4 : decode cX0_placeBid 4 = .ok (.iload_n 1, 1) := dk_27 (dk_at dksX0_placeBid_0 4 rfl rfl)
theorem dX0_placeBid_5 : decode cX0_placeBid 5 = .ok (.iload_n 2, 1) := dk_28 (dk_at dksX0_placeBid_0 5 rfl rfl)
theorem dX0_placeBid_6 : decode cX0_placeBid 6 = .ok (.iload_n 3, 1) := dk_29 (dk_at dksX0_placeBid_0 6 rfl rfl)
theorem dX0_placeBid_7 : decode cX0_placeBid 7 = .ok (.invokevirtual 85, 3) := dk_182 0 85 (dk_at dksX0_placeBid_0 7 rfl rfl)
theorem dX0_placeBid_10 : decode cX0_placeBid 10 = .ok (.i2l, 1) := dk_133 (dk_at dksX0_placeBid_0 10 rfl rfl)
theorem dX0_placeBid_11 : decode cX0_placeBid 11 = .ok (.lastore, 1) := dk_80 (dk_at dksX0_placeBid_0 11 rfl rfl)
theorem dX0_placeBid_12 : decode cX0_placeBid 12 = .ok (.goto 15, 3) := dk_167 0 15 (dk_at dksX0_placeBid_0 12 rfl rfl)
theorem dX0_placeBid_15 : decode cX0_placeBid 15 = .ok (.astore 5, 2) := dk_58 5 (dk_at dksX0_placeBid_0 15 rfl rfl)
theorem dX0_placeBid_17 : decode cX0_placeBid 17 = .ok (.iconst 1, 1) := dk_4 (dk_at dksX0_placeBid_0 17 rfl rfl)
theorem dX0_placeBid_18 : decode cX0_placeBid 18 = .ok (.ireturn, 1) := dk_172 (dk_at dksX0_placeBid_0 18 rfl rfl)
theorem dX0_placeBid_19 : decode cX0_placeBid 19 = .ok (.astore 5, 2) := dk_58 5 (dk_at dksX0_placeBid_0 19 rfl rfl)
theorem dX0_placeBid_21 : decode cX0_placeBid 21 = .ok (.iconst 2, 1) := dk_5 (dk_at dksX0_placeBid_0 21 rfl rfl)
theorem dX0_placeBid_22 : decode cX0_placeBid 22 = .ok (.ireturn, 1) := dk_172 (dk_at dksX0_placeBid_0 22 rfl rfl)
theorem dX0_placeBid_23 : decode cX0_placeBid 23 = .ok (.astore 5, 2) := dk_58 5 (dk_at dksX0_placeBid_1 0 rfl rfl)
theorem dX0_placeBid_25 : decode cX0_placeBid 25 = .ok (.iconst 3, 1) := dk_6 (dk_at dksX0_placeBid_1 2 rfl rfl)
theorem dX0_placeBid_26 : decode cX0_placeBid 26 = .ok (.ireturn, 1) := dk_172 (dk_at dksX0_placeBid_1 3 rfl rfl)
theorem dX0_placeBid_27 : decode cX0_placeBid 27 = .ok (.iconst 0, 1) := dk_3 (dk_at dksX0_placeBid_1 4 rfl rfl)
theorem dX0_placeBid_28 : decode cX0_placeBid 28 = .ok (.ireturn, 1) := dk_172 (dk_at dksX0_placeBid_1 5 rfl rfl)
abbrev cX0_withdrawBid : ByteArray := method_25_code
def yX0_withdrawBid : MethodName := ⟨RX0, "withdrawBid", "(LWindFarmDispatcher;I[J)I"⟩
def dkwX0_withdrawBid_0 : List UInt8 := [44, 3, 42, 27, 182, 0, 88, 133, 80, 167, 0, 9, 78, 4, 172, 78, 5, 172, 3, 172]
abbrev dktX0_withdrawBid_0 : List UInt8 := dkwX0_withdrawBid_0 ++ []
theorem dksX0_withdrawBid_0 : cX0_withdrawBid.data.toList.drop 0 = dktX0_withdrawBid_0 := by decide +kernel
theorem dX0_withdrawBid_0 : decode cX0_withdrawBid 0 = .ok (.aload_n 2, 1) := dk_44 (dk_at dksX0_withdrawBid_0 0 rfl rfl)
theorem dX0_withdrawBid_1 : decode cX0_withdrawBid 1 = .ok (.iconst 0, 1) := dk_3 (dk_at dksX0_withdrawBid_0 1 rfl rfl)
theorem dX0_withdrawBid_2 : decode cX0_withdrawBid 2 = .ok (.aload_n 0, 1) := dk_42 (dk_at dksX0_withdrawBid_0 2 rfl rfl)
theorem dX0_withdrawBid_3 : decode cX0_withdrawBid 3 = .ok (.iload_n 1, 1) := dk_27 (dk_at dksX0_withdrawBid_0 3 rfl rfl)
theorem dX0_withdrawBid_4 : decode cX0_withdrawBid 4 = .ok (.invokevirtual 88, 3) := dk_182 0 88 (dk_at dksX0_withdrawBid_0 4 rfl rfl)
theorem dX0_withdrawBid_7 : decode cX0_withdrawBid 7 = .ok (.i2l, 1) := dk_133 (dk_at dksX0_withdrawBid_0 7 rfl rfl)
theorem dX0_withdrawBid_8 : decode cX0_withdrawBid 8 = .ok (.lastore, 1) := dk_80 (dk_at dksX0_withdrawBid_0 8 rfl rfl)
theorem dX0_withdrawBid_9 : decode cX0_withdrawBid 9 = .ok (.goto 9, 3) := dk_167 0 9 (dk_at dksX0_withdrawBid_0 9 rfl rfl)
theorem dX0_withdrawBid_12 : decode cX0_withdrawBid 12 = .ok (.astore_n 3, 1) := dk_78 (dk_at dksX0_withdrawBid_0 12 rfl rfl)
theorem dX0_withdrawBid_13 : decode cX0_withdrawBid 13 = .ok (.iconst 1, 1) := dk_4 (dk_at dksX0_withdrawBid_0 13 rfl rfl)
theorem dX0_withdrawBid_14 : decode cX0_withdrawBid 14 = .ok (.ireturn, 1) := dk_172 (dk_at dksX0_withdrawBid_0 14 rfl rfl)
theorem dX0_withdrawBid_15 : decode cX0_withdrawBid 15 = .ok (.astore_n 3, 1) := dk_78 (dk_at dksX0_withdrawBid_0 15 rfl rfl)
theorem dX0_withdrawBid_16 : decode cX0_withdrawBid 16 = .ok (.iconst 2, 1) := dk_5 (dk_at dksX0_withdrawBid_0 16 rfl rfl)
theorem dX0_withdrawBid_17 : decode cX0_withdrawBid 17 = .ok (.ireturn, 1) := dk_172 (dk_at dksX0_withdrawBid_0 17 rfl rfl)
theorem dX0_withdrawBid_18 : decode cX0_withdrawBid 18 = .ok (.iconst 0, 1) := dk_3 (dk_at dksX0_withdrawBid_0 18 rfl rfl)
theorem dX0_withdrawBid_19 : decode cX0_withdrawBid 19 = .ok (.ireturn, 1) := dk_172 (dk_at dksX0_withdrawBid_0 19 rfl rfl)
abbrev cX0_hasBid : ByteArray := method_26_code
def yX0_hasBid : MethodName := ⟨RX0, "hasBid", "(LWindFarmDispatcher;I[J)I"⟩
def dkwX0_hasBid_0 : List UInt8 := [44, 3, 42, 27, 182, 0, 91, 153, 0, 7, 10, 167, 0, 4, 9, 80, 167, 0, 6, 78, 4, 172, 3, 172]
abbrev dktX0_hasBid_0 : List UInt8 := dkwX0_hasBid_0 ++ []
theorem dksX0_hasBid_0 : cX0_hasBid.data.toList.drop 0 = dktX0_hasBid_0 := by decide +kernel
theorem dX0_hasBid_0 : decode cX0_hasBid 0 = .ok (.aload_n 2, 1) := dk_44 (dk_at dksX0_hasBid_0 0 rfl rfl)
theorem dX0_hasBid_1 : decode cX0_hasBid 1 = .ok (.iconst 0, 1) := dk_3 (dk_at dksX0_hasBid_0 1 rfl rfl)
theorem dX0_hasBid_2 : decode cX0_hasBid 2 = .ok (.aload_n 0, 1) := dk_42 (dk_at dksX0_hasBid_0 2 rfl rfl)
theorem dX0_hasBid_3 : decode cX0_hasBid 3 = .ok (.iload_n 1, 1) := dk_27 (dk_at dksX0_hasBid_0 3 rfl rfl)
theorem dX0_hasBid_4 : decode cX0_hasBid 4 = .ok (.invokevirtual 91, 3) := dk_182 0 91 (dk_at dksX0_hasBid_0 4 rfl rfl)
theorem dX0_hasBid_7 : decode cX0_hasBid 7 = .ok (.ifCond .eq 7, 3) := dk_153 0 7 (dk_at dksX0_hasBid_0 7 rfl rfl)
theorem dX0_hasBid_10 : decode cX0_hasBid 10 = .ok (.lconst 1, 1) := dk_10 (dk_at dksX0_hasBid_0 10 rfl rfl)
theorem dX0_hasBid_11 : decode cX0_hasBid 11 = .ok (.goto 4, 3) := dk_167 0 4 (dk_at dksX0_hasBid_0 11 rfl rfl)
theorem dX0_hasBid_14 : decode cX0_hasBid 14 = .ok (.lconst 0, 1) := dk_9 (dk_at dksX0_hasBid_0 14 rfl rfl)
theorem dX0_hasBid_15 : decode cX0_hasBid 15 = .ok (.lastore, 1) := dk_80 (dk_at dksX0_hasBid_0 15 rfl rfl)
theorem dX0_hasBid_16 : decode cX0_hasBid 16 = .ok (.goto 6, 3) := dk_167 0 6 (dk_at dksX0_hasBid_0 16 rfl rfl)
theorem dX0_hasBid_19 : decode cX0_hasBid 19 = .ok (.astore_n 3, 1) := dk_78 (dk_at dksX0_hasBid_0 19 rfl rfl)
theorem dX0_hasBid_20 : decode cX0_hasBid 20 = .ok (.iconst 1, 1) := dk_4 (dk_at dksX0_hasBid_0 20 rfl rfl)
theorem dX0_hasBid_21 : decode cX0_hasBid 21 = .ok (.ireturn, 1) := dk_172 (dk_at dksX0_hasBid_0 21 rfl rfl)
theorem dX0_hasBid_22 : decode cX0_hasBid 22 = .ok (.iconst 0, 1) := dk_3 (dk_at dksX0_hasBid_0 22 rfl rfl)
theorem dX0_hasBid_23 : decode cX0_hasBid 23 = .ok (.ireturn, 1) := dk_172 (dk_at dksX0_hasBid_0 23 rfl rfl)
abbrev cX0_bidPrice : ByteArray := method_27_code
def yX0_bidPrice : MethodName := ⟨RX0, "bidPrice", "(LWindFarmDispatcher;I[J)I"⟩
def dkwX0_bidPrice_0 : List UInt8 := [44, 3, 42, 27, 182, 0, 94, 133, 80, 167, 0, 9, 78, 4, 172, 78, 5, 172, 3, 172]
abbrev dktX0_bidPrice_0 : List UInt8 := dkwX0_bidPrice_0 ++ []
theorem dksX0_bidPrice_0 : cX0_bidPrice.data.toList.drop 0 = dktX0_bidPrice_0 := by decide +kernel
theorem dX0_bidPrice_0 : decode cX0_bidPrice 0 = .ok (.aload_n 2, 1) := dk_44 (dk_at dksX0_bidPrice_0 0 rfl rfl)
theorem dX0_bidPrice_1 : decode cX0_bidPrice 1 = .ok (.iconst 0, 1) := dk_3 (dk_at dksX0_bidPrice_0 1 rfl rfl)
theorem dX0_bidPrice_2 : decode cX0_bidPrice 2 = .ok (.aload_n 0, 1) := dk_42 (dk_at dksX0_bidPrice_0 2 rfl rfl)
theorem dX0_bidPrice_3 : decode cX0_bidPrice 3 = .ok (.iload_n 1, 1) := dk_27 (dk_at dksX0_bidPrice_0 3 rfl rfl)
theorem dX0_bidPrice_4 : decode cX0_bidPrice 4 = .ok (.invokevirtual 94, 3) := dk_182 0 94 (dk_at dksX0_bidPrice_0 4 rfl rfl)
theorem dX0_bidPrice_7 : decode cX0_bidPrice 7 = .ok (.i2l, 1) := dk_133 (dk_at dksX0_bidPrice_0 7 rfl rfl)
theorem dX0_bidPrice_8 : decode cX0_bidPrice 8 = .ok (.lastore, 1) := dk_80 (dk_at dksX0_bidPrice_0 8 rfl rfl)
theorem dX0_bidPrice_9 : decode cX0_bidPrice 9 = .ok (.goto 9, 3) := dk_167 0 9 (dk_at dksX0_bidPrice_0 9 rfl rfl)
theorem dX0_bidPrice_12 : decode cX0_bidPrice 12 = .ok (.astore_n 3, 1) := dk_78 (dk_at dksX0_bidPrice_0 12 rfl rfl)
theorem dX0_bidPrice_13 : decode cX0_bidPrice 13 = .ok (.iconst 1, 1) := dk_4 (dk_at dksX0_bidPrice_0 13 rfl rfl)
theorem dX0_bidPrice_14 : decode cX0_bidPrice 14 = .ok (.ireturn, 1) := dk_172 (dk_at dksX0_bidPrice_0 14 rfl rfl)
theorem dX0_bidPrice_15 : decode cX0_bidPrice 15 = .ok (.astore_n 3, 1) := dk_78 (dk_at dksX0_bidPrice_0 15 rfl rfl)
theorem dX0_bidPrice_16 : decode cX0_bidPrice 16 = .ok (.iconst 2, 1) := dk_5 (dk_at dksX0_bidPrice_0 16 rfl rfl)
theorem dX0_bidPrice_17 : decode cX0_bidPrice 17 = .ok (.ireturn, 1) := dk_172 (dk_at dksX0_bidPrice_0 17 rfl rfl)
theorem dX0_bidPrice_18 : decode cX0_bidPrice 18 = .ok (.iconst 0, 1) := dk_3 (dk_at dksX0_bidPrice_0 18 rfl rfl)
theorem dX0_bidPrice_19 : decode cX0_bidPrice 19 = .ok (.ireturn, 1) := dk_172 (dk_at dksX0_bidPrice_0 19 rfl rfl)
abbrev cX0_bidQuantity : ByteArray := method_28_code
def yX0_bidQuantity : MethodName := ⟨RX0, "bidQuantity", "(LWindFarmDispatcher;I[J)I"⟩
def dkwX0_bidQuantity_0 : List UInt8 := [44, 3, 42, 27, 182, 0, 97, 133, 80, 167, 0, 9, 78, 4, 172, 78, 5, 172, 3, 172]
abbrev dktX0_bidQuantity_0 : List UInt8 := dkwX0_bidQuantity_0 ++ []
theorem dksX0_bidQuantity_0 : cX0_bidQuantity.data.toList.drop 0 = dktX0_bidQuantity_0 := by decide +kernel
theorem dX0_bidQuantity_0 : decode cX0_bidQuantity 0 = .ok (.aload_n 2, 1) := dk_44 (dk_at dksX0_bidQuantity_0 0 rfl rfl)
theorem dX0_bidQuantity_1 : decode cX0_bidQuantity 1 = .ok (.iconst 0, 1) := dk_3 (dk_at dksX0_bidQuantity_0 1 rfl rfl)
theorem dX0_bidQuantity_2 : decode cX0_bidQuantity 2 = .ok (.aload_n 0, 1) := dk_42 (dk_at dksX0_bidQuantity_0 2 rfl rfl)
theorem dX0_bidQuantity_3 : decode cX0_bidQuantity 3 = .ok (.iload_n 1, 1) := dk_27 (dk_at dksX0_bidQuantity_0 3 rfl rfl)
theorem dX0_bidQuantity_4 : decode cX0_bidQuantity 4 = .ok (.invokevirtual 97, 3) := dk_182 0 97 (dk_at dksX0_bidQuantity_0 4 rfl rfl)
theorem dX0_bidQuantity_7 : decode cX0_bidQuantity 7 = .ok (.i2l, 1) := dk_133 (dk_at dksX0_bidQuantity_0 7 rfl rfl)
theorem dX0_bidQuantity_8 : decode cX0_bidQuantity 8 = .ok (.lastore, 1) := dk_80 (dk_at dksX0_bidQuantity_0 8 rfl rfl)
theorem dX0_bidQuantity_9 : decode cX0_bidQuantity 9 = .ok (.goto 9, 3) := dk_167 0 9 (dk_at dksX0_bidQuantity_0 9 rfl rfl)
theorem dX0_bidQuantity_12 : decode cX0_bidQuantity 12 = .ok (.astore_n 3, 1) := dk_78 (dk_at dksX0_bidQuantity_0 12 rfl rfl)
theorem dX0_bidQuantity_13 : decode cX0_bidQuantity 13 = .ok (.iconst 1, 1) := dk_4 (dk_at dksX0_bidQuantity_0 13 rfl rfl)
theorem dX0_bidQuantity_14 : decode cX0_bidQuantity 14 = .ok (.ireturn, 1) := dk_172 (dk_at dksX0_bidQuantity_0 14 rfl rfl)
theorem dX0_bidQuantity_15 : decode cX0_bidQuantity 15 = .ok (.astore_n 3, 1) := dk_78 (dk_at dksX0_bidQuantity_0 15 rfl rfl)
theorem dX0_bidQuantity_16 : decode cX0_bidQuantity 16 = .ok (.iconst 2, 1) := dk_5 (dk_at dksX0_bidQuantity_0 16 rfl rfl)
theorem dX0_bidQuantity_17 : decode cX0_bidQuantity 17 = .ok (.ireturn, 1) := dk_172 (dk_at dksX0_bidQuantity_0 17 rfl rfl)
theorem dX0_bidQuantity_18 : decode cX0_bidQuantity 18 = .ok (.iconst 0, 1) := dk_3 (dk_at dksX0_bidQuantity_0 18 rfl rfl)
theorem dX0_bidQuantity_19 : decode cX0_bidQuantity 19 = .ok (.ireturn, 1) := dk_172 (dk_at dksX0_bidQuantity_0 19 rfl rfl)
abbrev cX0_bidByPrice : ByteArray := method_29_code
def yX0_bidByPrice : MethodName := ⟨RX0, "bidByPrice", "(LWindFarmDispatcher;I[J)I"⟩
def dkwX0_bidByPrice_0 : List UInt8 := [44, 3, 42, 27, 182, 0, 100, 133, 80, 167, 0, 6, 78, 4, 172, 3, 172]
abbrev dktX0_bidByPrice_0 : List UInt8 := dkwX0_bidByPrice_0 ++ []
theorem dksX0_bidByPrice_0 : cX0_bidByPrice.data.toList.drop 0 = dktX0_bidByPrice_0 := by decide +kernel
theorem dX0_bidByPrice_0 : decode cX0_bidByPrice 0 = .ok (.aload_n 2, 1) := dk_44 (dk_at dksX0_bidByPrice_0 0 rfl rfl)
theorem dX0_bidByPrice_1 : decode cX0_bidByPrice 1 = .ok (.iconst 0, 1) := dk_3 (dk_at dksX0_bidByPrice_0 1 rfl rfl)
theorem dX0_bidByPrice_2 : decode cX0_bidByPrice 2 = .ok (.aload_n 0, 1) := dk_42 (dk_at dksX0_bidByPrice_0 2 rfl rfl)
theorem dX0_bidByPrice_3 : decode cX0_bidByPrice 3 = .ok (.iload_n 1, 1) := dk_27 (dk_at dksX0_bidByPrice_0 3 rfl rfl)
theorem dX0_bidByPrice_4 : decode cX0_bidByPrice 4 = .ok (.invokevirtual 100, 3) := dk_182 0 100 (dk_at dksX0_bidByPrice_0 4 rfl rfl)
theorem dX0_bidByPrice_7 : decode cX0_bidByPrice 7 = .ok (.i2l, 1) := dk_133 (dk_at dksX0_bidByPrice_0 7 rfl rfl)
theorem dX0_bidByPrice_8 : decode cX0_bidByPrice 8 = .ok (.lastore, 1) := dk_80 (dk_at dksX0_bidByPrice_0 8 rfl rfl)
theorem dX0_bidByPrice_9 : decode cX0_bidByPrice 9 = .ok (.goto 6, 3) := dk_167 0 6 (dk_at dksX0_bidByPrice_0 9 rfl rfl)
theorem dX0_bidByPrice_12 : decode cX0_bidByPrice 12 = .ok (.astore_n 3, 1) := dk_78 (dk_at dksX0_bidByPrice_0 12 rfl rfl)
theorem dX0_bidByPrice_13 : decode cX0_bidByPrice 13 = .ok (.iconst 1, 1) := dk_4 (dk_at dksX0_bidByPrice_0 13 rfl rfl)
theorem dX0_bidByPrice_14 : decode cX0_bidByPrice 14 = .ok (.ireturn, 1) := dk_172 (dk_at dksX0_bidByPrice_0 14 rfl rfl)
theorem dX0_bidByPrice_15 : decode cX0_bidByPrice 15 = .ok (.iconst 0, 1) := dk_3 (dk_at dksX0_bidByPrice_0 15 rfl rfl)
theorem dX0_bidByPrice_16 : decode cX0_bidByPrice 16 = .ok (.ireturn, 1) := dk_172 (dk_at dksX0_bidByPrice_0 16 rfl rfl)
abbrev cX0_passHours : ByteArray := method_30_code
def yX0_passHours : MethodName := ⟨RX0, "passHours", "(LWindFarmDispatcher;I[J)I"⟩
def dkwX0_passHours_0 : List UInt8 := [44, 3, 42, 27, 182, 0, 103, 133, 80, 167, 0, 6, 78, 4, 172, 3, 172]
abbrev dktX0_passHours_0 : List UInt8 := dkwX0_passHours_0 ++ []
theorem dksX0_passHours_0 : cX0_passHours.data.toList.drop 0 = dktX0_passHours_0 := by decide +kernel
theorem dX0_passHours_0 : decode cX0_passHours 0 = .ok (.aload_n 2, 1) := dk_44 (dk_at dksX0_passHours_0 0 rfl rfl)
theorem dX0_passHours_1 : decode cX0_passHours 1 = .ok (.iconst 0, 1) := dk_3 (dk_at dksX0_passHours_0 1 rfl rfl)
theorem dX0_passHours_2 : decode cX0_passHours 2 = .ok (.aload_n 0, 1) := dk_42 (dk_at dksX0_passHours_0 2 rfl rfl)
theorem dX0_passHours_3 : decode cX0_passHours 3 = .ok (.iload_n 1, 1) := dk_27 (dk_at dksX0_passHours_0 3 rfl rfl)
theorem dX0_passHours_4 : decode cX0_passHours 4 = .ok (.invokevirtual 103, 3) := dk_182 0 103 (dk_at dksX0_passHours_0 4 rfl rfl)
theorem dX0_passHours_7 : decode cX0_passHours 7 = .ok (.i2l, 1) := dk_133 (dk_at dksX0_passHours_0 7 rfl rfl)
theorem dX0_passHours_8 : decode cX0_passHours 8 = .ok (.lastore, 1) := dk_80 (dk_at dksX0_passHours_0 8 rfl rfl)
theorem dX0_passHours_9 : decode cX0_passHours 9 = .ok (.goto 6, 3) := dk_167 0 6 (dk_at dksX0_passHours_0 9 rfl rfl)
theorem dX0_passHours_12 : decode cX0_passHours 12 = .ok (.astore_n 3, 1) := dk_78 (dk_at dksX0_passHours_0 12 rfl rfl)
theorem dX0_passHours_13 : decode cX0_passHours 13 = .ok (.iconst 1, 1) := dk_4 (dk_at dksX0_passHours_0 13 rfl rfl)
theorem dX0_passHours_14 : decode cX0_passHours 14 = .ok (.ireturn, 1) := dk_172 (dk_at dksX0_passHours_0 14 rfl rfl)
theorem dX0_passHours_15 : decode cX0_passHours 15 = .ok (.iconst 0, 1) := dk_3 (dk_at dksX0_passHours_0 15 rfl rfl)
theorem dX0_passHours_16 : decode cX0_passHours 16 = .ok (.ireturn, 1) := dk_172 (dk_at dksX0_passHours_0 16 rfl rfl)
abbrev cX0_incomeWithin : ByteArray := method_31_code
def yX0_incomeWithin : MethodName := ⟨RX0, "incomeWithin", "(LWindFarmDispatcher;I[J)I"⟩
def dkwX0_incomeWithin_0 : List UInt8 := [44, 3, 42, 27, 182, 0, 106, 133, 80, 167, 0, 6, 78, 4, 172, 3, 172]
abbrev dktX0_incomeWithin_0 : List UInt8 := dkwX0_incomeWithin_0 ++ []
theorem dksX0_incomeWithin_0 : cX0_incomeWithin.data.toList.drop 0 = dktX0_incomeWithin_0 := by decide +kernel
theorem dX0_incomeWithin_0 : decode cX0_incomeWithin 0 = .ok (.aload_n 2, 1) := dk_44 (dk_at dksX0_incomeWithin_0 0 rfl rfl)
theorem dX0_incomeWithin_1 : decode cX0_incomeWithin 1 = .ok (.iconst 0, 1) := dk_3 (dk_at dksX0_incomeWithin_0 1 rfl rfl)
theorem dX0_incomeWithin_2 : decode cX0_incomeWithin 2 = .ok (.aload_n 0, 1) := dk_42 (dk_at dksX0_incomeWithin_0 2 rfl rfl)
theorem dX0_incomeWithin_3 : decode cX0_incomeWithin 3 = .ok (.iload_n 1, 1) := dk_27 (dk_at dksX0_incomeWithin_0 3 rfl rfl)
theorem dX0_incomeWithin_4 : decode cX0_incomeWithin 4 = .ok (.invokevirtual 106, 3) := dk_182 0 106 (dk_at dksX0_incomeWithin_0 4 rfl rfl)
theorem dX0_incomeWithin_7 : decode cX0_incomeWithin 7 = .ok (.i2l, 1) := dk_133 (dk_at dksX0_incomeWithin_0 7 rfl rfl)
theorem dX0_incomeWithin_8 : decode cX0_incomeWithin 8 = .ok (.lastore, 1) := dk_80 (dk_at dksX0_incomeWithin_0 8 rfl rfl)
theorem dX0_incomeWithin_9 : decode cX0_incomeWithin 9 = .ok (.goto 6, 3) := dk_167 0 6 (dk_at dksX0_incomeWithin_0 9 rfl rfl)
theorem dX0_incomeWithin_12 : decode cX0_incomeWithin 12 = .ok (.astore_n 3, 1) := dk_78 (dk_at dksX0_incomeWithin_0 12 rfl rfl)
theorem dX0_incomeWithin_13 : decode cX0_incomeWithin 13 = .ok (.iconst 1, 1) := dk_4 (dk_at dksX0_incomeWithin_0 13 rfl rfl)
theorem dX0_incomeWithin_14 : decode cX0_incomeWithin 14 = .ok (.ireturn, 1) := dk_172 (dk_at dksX0_incomeWithin_0 14 rfl rfl)
theorem dX0_incomeWithin_15 : decode cX0_incomeWithin 15 = .ok (.iconst 0, 1) := dk_3 (dk_at dksX0_incomeWithin_0 15 rfl rfl)
theorem dX0_incomeWithin_16 : decode cX0_incomeWithin 16 = .ok (.ireturn, 1) := dk_172 (dk_at dksX0_incomeWithin_0 16 rfl rfl)
abbrev cX0_hoursToBid : ByteArray := method_32_code
def yX0_hoursToBid : MethodName := ⟨RX0, "hoursToBid", "(LWindFarmDispatcher;[J)I"⟩
def dkwX0_hoursToBid_0 : List UInt8 := [43, 3, 42, 182, 0, 109, 133, 80, 167, 0, 6, 77, 4, 172, 3, 172]
abbrev dktX0_hoursToBid_0 : List UInt8 := dkwX0_hoursToBid_0 ++ []
theorem dksX0_hoursToBid_0 : cX0_hoursToBid.data.toList.drop 0 = dktX0_hoursToBid_0 := by decide +kernel
theorem dX0_hoursToBid_0 : decode cX0_hoursToBid 0 = .ok (.aload_n 1, 1) := dk_43 (dk_at dksX0_hoursToBid_0 0 rfl rfl)
theorem dX0_hoursToBid_1 : decode cX0_hoursToBid 1 = .ok (.iconst 0, 1) := dk_3 (dk_at dksX0_hoursToBid_0 1 rfl rfl)
theorem dX0_hoursToBid_2 : decode cX0_hoursToBid 2 = .ok (.aload_n 0, 1) := dk_42 (dk_at dksX0_hoursToBid_0 2 rfl rfl)
theorem dX0_hoursToBid_3 : decode cX0_hoursToBid 3 = .ok (.invokevirtual 109, 3) := dk_182 0 109 (dk_at dksX0_hoursToBid_0 3 rfl rfl)
theorem dX0_hoursToBid_6 : decode cX0_hoursToBid 6 = .ok (.i2l, 1) := dk_133 (dk_at dksX0_hoursToBid_0 6 rfl rfl)
theorem dX0_hoursToBid_7 : decode cX0_hoursToBid 7 = .ok (.lastore, 1) := dk_80 (dk_at dksX0_hoursToBid_0 7 rfl rfl)
theorem dX0_hoursToBid_8 : decode cX0_hoursToBid 8 = .ok (.goto 6, 3) := dk_167 0 6 (dk_at dksX0_hoursToBid_0 8 rfl rfl)
theorem dX0_hoursToBid_11 : decode cX0_hoursToBid 11 = .ok (.astore_n 2, 1) := dk_77 (dk_at dksX0_hoursToBid_0 11 rfl rfl)
theorem dX0_hoursToBid_12 : decode cX0_hoursToBid 12 = .ok (.iconst 1, 1) := dk_4 (dk_at dksX0_hoursToBid_0 12 rfl rfl)
theorem dX0_hoursToBid_13 : decode cX0_hoursToBid 13 = .ok (.ireturn, 1) := dk_172 (dk_at dksX0_hoursToBid_0 13 rfl rfl)
theorem dX0_hoursToBid_14 : decode cX0_hoursToBid 14 = .ok (.iconst 0, 1) := dk_3 (dk_at dksX0_hoursToBid_0 14 rfl rfl)
theorem dX0_hoursToBid_15 : decode cX0_hoursToBid 15 = .ok (.ireturn, 1) := dk_172 (dk_at dksX0_hoursToBid_0 15 rfl rfl)
abbrev cX0_turbineByOutput : ByteArray := method_33_code
def yX0_turbineByOutput : MethodName := ⟨RX0, "turbineByOutput", "(LWindFarmDispatcher;I[J)I"⟩
def dkwX0_turbineByOutput_0 : List UInt8 := [44, 3, 42, 27, 182, 0, 113, 133, 80, 167, 0, 6, 78, 4, 172, 3, 172]
abbrev dktX0_turbineByOutput_0 : List UInt8 := dkwX0_turbineByOutput_0 ++ []
theorem dksX0_turbineByOutput_0 : cX0_turbineByOutput.data.toList.drop 0 = dktX0_turbineByOutput_0 := by decide +kernel
theorem dX0_turbineByOutput_0 : decode cX0_turbineByOutput 0 = .ok (.aload_n 2, 1) := dk_44 (dk_at dksX0_turbineByOutput_0 0 rfl rfl)
theorem dX0_turbineByOutput_1 : decode cX0_turbineByOutput 1 = .ok (.iconst 0, 1) := dk_3 (dk_at dksX0_turbineByOutput_0 1 rfl rfl)
theorem dX0_turbineByOutput_2 : decode cX0_turbineByOutput 2 = .ok (.aload_n 0, 1) := dk_42 (dk_at dksX0_turbineByOutput_0 2 rfl rfl)
theorem dX0_turbineByOutput_3 : decode cX0_turbineByOutput 3 = .ok (.iload_n 1, 1) := dk_27 (dk_at dksX0_turbineByOutput_0 3 rfl rfl)
theorem dX0_turbineByOutput_4 : decode cX0_turbineByOutput 4 = .ok (.invokevirtual 113, 3) := dk_182 0 113 (dk_at dksX0_turbineByOutput_0 4 rfl rfl)
theorem dX0_turbineByOutput_7 : decode cX0_turbineByOutput 7 = .ok (.i2l, 1) := dk_133 (dk_at dksX0_turbineByOutput_0 7 rfl rfl)
theorem dX0_turbineByOutput_8 : decode cX0_turbineByOutput 8 = .ok (.lastore, 1) := dk_80 (dk_at dksX0_turbineByOutput_0 8 rfl rfl)
theorem dX0_turbineByOutput_9 : decode cX0_turbineByOutput 9 = .ok (.goto 6, 3) := dk_167 0 6 (dk_at dksX0_turbineByOutput_0 9 rfl rfl)
theorem dX0_turbineByOutput_12 : decode cX0_turbineByOutput 12 = .ok (.astore_n 3, 1) := dk_78 (dk_at dksX0_turbineByOutput_0 12 rfl rfl)
theorem dX0_turbineByOutput_13 : decode cX0_turbineByOutput 13 = .ok (.iconst 1, 1) := dk_4 (dk_at dksX0_turbineByOutput_0 13 rfl rfl)
theorem dX0_turbineByOutput_14 : decode cX0_turbineByOutput 14 = .ok (.ireturn, 1) := dk_172 (dk_at dksX0_turbineByOutput_0 14 rfl rfl)
theorem dX0_turbineByOutput_15 : decode cX0_turbineByOutput 15 = .ok (.iconst 0, 1) := dk_3 (dk_at dksX0_turbineByOutput_0 15 rfl rfl)
theorem dX0_turbineByOutput_16 : decode cX0_turbineByOutput 16 = .ok (.ireturn, 1) := dk_172 (dk_at dksX0_turbineByOutput_0 16 rfl rfl)
abbrev cX0_meanOutput : ByteArray := method_34_code
def yX0_meanOutput : MethodName := ⟨RX0, "meanOutput", "(LWindFarmDispatcher;[D)I"⟩
def dkwX0_meanOutput_0 : List UInt8 := [43, 3, 42, 182, 0, 116, 82, 167, 0, 6, 77, 4, 172, 3, 172]
abbrev dktX0_meanOutput_0 : List UInt8 := dkwX0_meanOutput_0 ++ []
theorem dksX0_meanOutput_0 : cX0_meanOutput.data.toList.drop 0 = dktX0_meanOutput_0 := by decide +kernel
theorem dX0_meanOutput_0 : decode cX0_meanOutput 0 = .ok (.aload_n 1, 1) := dk_43 (dk_at dksX0_meanOutput_0 0 rfl rfl)
theorem dX0_meanOutput_1 : decode cX0_meanOutput 1 = .ok (.iconst 0, 1) := dk_3 (dk_at dksX0_meanOutput_0 1 rfl rfl)
theorem dX0_meanOutput_2 : decode cX0_meanOutput 2 = .ok (.aload_n 0, 1) := dk_42 (dk_at dksX0_meanOutput_0 2 rfl rfl)
theorem dX0_meanOutput_3 : decode cX0_meanOutput 3 = .ok (.invokevirtual 116, 3) := dk_182 0 116 (dk_at dksX0_meanOutput_0 3 rfl rfl)
theorem dX0_meanOutput_6 : decode cX0_meanOutput 6 = .ok (.dastore, 1) := dk_82 (dk_at dksX0_meanOutput_0 6 rfl rfl)
theorem dX0_meanOutput_7 : decode cX0_meanOutput 7 = .ok (.goto 6, 3) := dk_167 0 6 (dk_at dksX0_meanOutput_0 7 rfl rfl)
theorem dX0_meanOutput_10 : decode cX0_meanOutput 10 = .ok (.astore_n 2, 1) := dk_77 (dk_at dksX0_meanOutput_0 10 rfl rfl)
theorem dX0_meanOutput_11 : decode cX0_meanOutput 11 = .ok (.iconst 1, 1) := dk_4 (dk_at dksX0_meanOutput_0 11 rfl rfl)
theorem dX0_meanOutput_12 : decode cX0_meanOutput 12 = .ok (.ireturn, 1) := dk_172 (dk_at dksX0_meanOutput_0 12 rfl rfl)
theorem dX0_meanOutput_13 : decode cX0_meanOutput 13 = .ok (.iconst 0, 1) := dk_3 (dk_at dksX0_meanOutput_0 13 rfl rfl)
theorem dX0_meanOutput_14 : decode cX0_meanOutput 14 = .ok (.ireturn, 1) := dk_172 (dk_at dksX0_meanOutput_0 14 rfl rfl)
abbrev cX0_runningShare : ByteArray := method_35_code
def yX0_runningShare : MethodName := ⟨RX0, "runningShare", "(LWindFarmDispatcher;[D)I"⟩
def dkwX0_runningShare_0 : List UInt8 := [43, 3, 42, 182, 0, 122, 141, 82, 167, 0, 6, 77, 4, 172, 3, 172]
abbrev dktX0_runningShare_0 : List UInt8 := dkwX0_runningShare_0 ++ []
theorem dksX0_runningShare_0 : cX0_runningShare.data.toList.drop 0 = dktX0_runningShare_0 := by decide +kernel
theorem dX0_runningShare_0 : decode cX0_runningShare 0 = .ok (.aload_n 1, 1) := dk_43 (dk_at dksX0_runningShare_0 0 rfl rfl)
theorem dX0_runningShare_1 : decode cX0_runningShare 1 = .ok (.iconst 0, 1) := dk_3 (dk_at dksX0_runningShare_0 1 rfl rfl)
theorem dX0_runningShare_2 : decode cX0_runningShare 2 = .ok (.aload_n 0, 1) := dk_42 (dk_at dksX0_runningShare_0 2 rfl rfl)
theorem dX0_runningShare_3 : decode cX0_runningShare 3 = .ok (.invokevirtual 122, 3) := dk_182 0 122 (dk_at dksX0_runningShare_0 3 rfl rfl)
theorem dX0_runningShare_6 : decode cX0_runningShare 6 = .ok (.f2d, 1) := dk_141 (dk_at dksX0_runningShare_0 6 rfl rfl)
theorem dX0_runningShare_7 : decode cX0_runningShare 7 = .ok (.dastore, 1) := dk_82 (dk_at dksX0_runningShare_0 7 rfl rfl)
theorem dX0_runningShare_8 : decode cX0_runningShare 8 = .ok (.goto 6, 3) := dk_167 0 6 (dk_at dksX0_runningShare_0 8 rfl rfl)
theorem dX0_runningShare_11 : decode cX0_runningShare 11 = .ok (.astore_n 2, 1) := dk_77 (dk_at dksX0_runningShare_0 11 rfl rfl)
theorem dX0_runningShare_12 : decode cX0_runningShare 12 = .ok (.iconst 1, 1) := dk_4 (dk_at dksX0_runningShare_0 12 rfl rfl)
theorem dX0_runningShare_13 : decode cX0_runningShare 13 = .ok (.ireturn, 1) := dk_172 (dk_at dksX0_runningShare_0 13 rfl rfl)
theorem dX0_runningShare_14 : decode cX0_runningShare 14 = .ok (.iconst 0, 1) := dk_3 (dk_at dksX0_runningShare_0 14 rfl rfl)
theorem dX0_runningShare_15 : decode cX0_runningShare 15 = .ok (.ireturn, 1) := dk_172 (dk_at dksX0_runningShare_0 15 rfl rfl)
abbrev cX0_writeTurbine : ByteArray := method_36_code
def yX0_writeTurbine : MethodName := ⟨RX0, "writeTurbine", "(LWindFarmDispatcher;I[J)I"⟩
def dkwX0_writeTurbine_0 : List UInt8 := [44, 3, 42, 27, 182, 0, 126, 133, 80, 167, 0, 6, 78, 4, 172, 3, 172]
abbrev dktX0_writeTurbine_0 : List UInt8 := dkwX0_writeTurbine_0 ++ []
theorem dksX0_writeTurbine_0 : cX0_writeTurbine.data.toList.drop 0 = dktX0_writeTurbine_0 := by decide +kernel
theorem dX0_writeTurbine_0 : decode cX0_writeTurbine 0 = .ok (.aload_n 2, 1) := dk_44 (dk_at dksX0_writeTurbine_0 0 rfl rfl)
theorem dX0_writeTurbine_1 : decode cX0_writeTurbine 1 = .ok (.iconst 0, 1) := dk_3 (dk_at dksX0_writeTurbine_0 1 rfl rfl)
theorem dX0_writeTurbine_2 : decode cX0_writeTurbine 2 = .ok (.aload_n 0, 1) := dk_42 (dk_at dksX0_writeTurbine_0 2 rfl rfl)
theorem dX0_writeTurbine_3 : decode cX0_writeTurbine 3 = .ok (.iload_n 1, 1) := dk_27 (dk_at dksX0_writeTurbine_0 3 rfl rfl)
theorem dX0_writeTurbine_4 : decode cX0_writeTurbine 4 = .ok (.invokevirtual 126, 3) := dk_182 0 126 (dk_at dksX0_writeTurbine_0 4 rfl rfl)
theorem dX0_writeTurbine_7 : decode cX0_writeTurbine 7 = .ok (.i2l, 1) := dk_133 (dk_at dksX0_writeTurbine_0 7 rfl rfl)
theorem dX0_writeTurbine_8 : decode cX0_writeTurbine 8 = .ok (.lastore, 1) := dk_80 (dk_at dksX0_writeTurbine_0 8 rfl rfl)
theorem dX0_writeTurbine_9 : decode cX0_writeTurbine 9 = .ok (.goto 6, 3) := dk_167 0 6 (dk_at dksX0_writeTurbine_0 9 rfl rfl)
theorem dX0_writeTurbine_12 : decode cX0_writeTurbine 12 = .ok (.astore_n 3, 1) := dk_78 (dk_at dksX0_writeTurbine_0 12 rfl rfl)
theorem dX0_writeTurbine_13 : decode cX0_writeTurbine 13 = .ok (.iconst 1, 1) := dk_4 (dk_at dksX0_writeTurbine_0 13 rfl rfl)
theorem dX0_writeTurbine_14 : decode cX0_writeTurbine 14 = .ok (.ireturn, 1) := dk_172 (dk_at dksX0_writeTurbine_0 14 rfl rfl)
theorem dX0_writeTurbine_15 : decode cX0_writeTurbine 15 = .ok (.iconst 0, 1) := dk_3 (dk_at dksX0_writeTurbine_0 15 rfl rfl)
theorem dX0_writeTurbine_16 : decode cX0_writeTurbine 16 = .ok (.ireturn, 1) := dk_172 (dk_at dksX0_writeTurbine_0 16 rfl rfl)
abbrev cX0_outputAt : ByteArray := method_37_code
def yX0_outputAt : MethodName := ⟨RX0, "outputAt", "(LWindFarmDispatcher;I[J)I"⟩
def dkwX0_outputAt_0 : List UInt8 := [44, 3, 42, 27, 182, 0, 129, 133, 80, 167, 0, 6, 78, 4, 172, 3, 172]
abbrev dktX0_outputAt_0 : List UInt8 := dkwX0_outputAt_0 ++ []
theorem dksX0_outputAt_0 : cX0_outputAt.data.toList.drop 0 = dktX0_outputAt_0 := by decide +kernel
theorem dX0_outputAt_0 : decode cX0_outputAt 0 = .ok (.aload_n 2, 1) := dk_44 (dk_at dksX0_outputAt_0 0 rfl rfl)
theorem dX0_outputAt_1 : decode cX0_outputAt 1 = .ok (.iconst 0, 1) := dk_3 (dk_at dksX0_outputAt_0 1 rfl rfl)
theorem dX0_outputAt_2 : decode cX0_outputAt 2 = .ok (.aload_n 0, 1) := dk_42 (dk_at dksX0_outputAt_0 2 rfl rfl)
theorem dX0_outputAt_3 : decode cX0_outputAt 3 = .ok (.iload_n 1, 1) := dk_27 (dk_at dksX0_outputAt_0 3 rfl rfl)
theorem dX0_outputAt_4 : decode cX0_outputAt 4 = .ok (.invokevirtual 129, 3) := dk_182 0 129 (dk_at dksX0_outputAt_0 4 rfl rfl)
theorem dX0_outputAt_7 : decode cX0_outputAt 7 = .ok (.i2l, 1) := dk_133 (dk_at dksX0_outputAt_0 7 rfl rfl)
theorem dX0_outputAt_8 : decode cX0_outputAt 8 = .ok (.lastore, 1) := dk_80 (dk_at dksX0_outputAt_0 8 rfl rfl)
theorem dX0_outputAt_9 : decode cX0_outputAt 9 = .ok (.goto 6, 3) := dk_167 0 6 (dk_at dksX0_outputAt_0 9 rfl rfl)
theorem dX0_outputAt_12 : decode cX0_outputAt 12 = .ok (.astore_n 3, 1) := dk_78 (dk_at dksX0_outputAt_0 12 rfl rfl)
theorem dX0_outputAt_13 : decode cX0_outputAt 13 = .ok (.iconst 1, 1) := dk_4 (dk_at dksX0_outputAt_0 13 rfl rfl)
theorem dX0_outputAt_14 : decode cX0_outputAt 14 = .ok (.ireturn, 1) := dk_172 (dk_at dksX0_outputAt_0 14 rfl rfl)
theorem dX0_outputAt_15 : decode cX0_outputAt 15 = .ok (.iconst 0, 1) := dk_3 (dk_at dksX0_outputAt_0 15 rfl rfl)
theorem dX0_outputAt_16 : decode cX0_outputAt 16 = .ok (.ireturn, 1) := dk_172 (dk_at dksX0_outputAt_0 16 rfl rfl)
abbrev cX0_appendInput : ByteArray := method_38_code
def yX0_appendInput : MethodName := ⟨RX0, "appendInput", "(LWindFarmDispatcher;C[J)I"⟩
def dkwX0_appendInput_0 : List UInt8 := [44, 3, 42, 27, 182, 0, 133, 133, 80, 167, 0, 9, 78, 4, 172, 78, 5, 172, 3, 172]
abbrev dktX0_appendInput_0 : List UInt8 := dkwX0_appendInput_0 ++ []
theorem dksX0_appendInput_0 : cX0_appendInput.data.toList.drop 0 = dktX0_appendInput_0 := by decide +kernel
theorem dX0_appendInput_0 : decode cX0_appendInput 0 = .ok (.aload_n 2, 1) := dk_44 (dk_at dksX0_appendInput_0 0 rfl rfl)
theorem dX0_appendInput_1 : decode cX0_appendInput 1 = .ok (.iconst 0, 1) := dk_3 (dk_at dksX0_appendInput_0 1 rfl rfl)
theorem dX0_appendInput_2 : decode cX0_appendInput 2 = .ok (.aload_n 0, 1) := dk_42 (dk_at dksX0_appendInput_0 2 rfl rfl)
theorem dX0_appendInput_3 : decode cX0_appendInput 3 = .ok (.iload_n 1, 1) := dk_27 (dk_at dksX0_appendInput_0 3 rfl rfl)
theorem dX0_appendInput_4 : decode cX0_appendInput 4 = .ok (.invokevirtual 133, 3) := dk_182 0 133 (dk_at dksX0_appendInput_0 4 rfl rfl)
theorem dX0_appendInput_7 : decode cX0_appendInput 7 = .ok (.i2l, 1) := dk_133 (dk_at dksX0_appendInput_0 7 rfl rfl)
theorem dX0_appendInput_8 : decode cX0_appendInput 8 = .ok (.lastore, 1) := dk_80 (dk_at dksX0_appendInput_0 8 rfl rfl)
theorem dX0_appendInput_9 : decode cX0_appendInput 9 = .ok (.goto 9, 3) := dk_167 0 9 (dk_at dksX0_appendInput_0 9 rfl rfl)
theorem dX0_appendInput_12 : decode cX0_appendInput 12 = .ok (.astore_n 3, 1) := dk_78 (dk_at dksX0_appendInput_0 12 rfl rfl)
theorem dX0_appendInput_13 : decode cX0_appendInput 13 = .ok (.iconst 1, 1) := dk_4 (dk_at dksX0_appendInput_0 13 rfl rfl)
theorem dX0_appendInput_14 : decode cX0_appendInput 14 = .ok (.ireturn, 1) := dk_172 (dk_at dksX0_appendInput_0 14 rfl rfl)
theorem dX0_appendInput_15 : decode cX0_appendInput 15 = .ok (.astore_n 3, 1) := dk_78 (dk_at dksX0_appendInput_0 15 rfl rfl)
theorem dX0_appendInput_16 : decode cX0_appendInput 16 = .ok (.iconst 2, 1) := dk_5 (dk_at dksX0_appendInput_0 16 rfl rfl)
theorem dX0_appendInput_17 : decode cX0_appendInput 17 = .ok (.ireturn, 1) := dk_172 (dk_at dksX0_appendInput_0 17 rfl rfl)
theorem dX0_appendInput_18 : decode cX0_appendInput 18 = .ok (.iconst 0, 1) := dk_3 (dk_at dksX0_appendInput_0 18 rfl rfl)
theorem dX0_appendInput_19 : decode cX0_appendInput 19 = .ok (.ireturn, 1) := dk_172 (dk_at dksX0_appendInput_0 19 rfl rfl)
abbrev cX0_execute : ByteArray := method_39_code
def yX0_execute : MethodName := ⟨RX0, "execute", "(LWindFarmDispatcher;[J)I"⟩
def dkwX0_execute_0 : List UInt8 := [43, 3, 42, 182, 0, 139, 133, 80, 167, 0, 12, 77, 4, 172, 77, 5, 172, 77, 6, 172, 3, 172]
abbrev dktX0_execute_0 : List UInt8 := dkwX0_execute_0 ++ []
theorem dksX0_execute_0 : cX0_execute.data.toList.drop 0 = dktX0_execute_0 := by decide +kernel
theorem dX0_execute_0 : decode cX0_execute 0 = .ok (.aload_n 1, 1) := dk_43 (dk_at dksX0_execute_0 0 rfl rfl)
theorem dX0_execute_1 : decode cX0_execute 1 = .ok (.iconst 0, 1) := dk_3 (dk_at dksX0_execute_0 1 rfl rfl)
theorem dX0_execute_2 : decode cX0_execute 2 = .ok (.aload_n 0, 1) := dk_42 (dk_at dksX0_execute_0 2 rfl rfl)
theorem dX0_execute_3 : decode cX0_execute 3 = .ok (.invokevirtual 139, 3) := dk_182 0 139 (dk_at dksX0_execute_0 3 rfl rfl)
theorem dX0_execute_6 : decode cX0_execute 6 = .ok (.i2l, 1) := dk_133 (dk_at dksX0_execute_0 6 rfl rfl)
theorem dX0_execute_7 : decode cX0_execute 7 = .ok (.lastore, 1) := dk_80 (dk_at dksX0_execute_0 7 rfl rfl)
theorem dX0_execute_8 : decode cX0_execute 8 = .ok (.goto 12, 3) := dk_167 0 12 (dk_at dksX0_execute_0 8 rfl rfl)
theorem dX0_execute_11 : decode cX0_execute 11 = .ok (.astore_n 2, 1) := dk_77 (dk_at dksX0_execute_0 11 rfl rfl)
theorem dX0_execute_12 : decode cX0_execute 12 = .ok (.iconst 1, 1) := dk_4 (dk_at dksX0_execute_0 12 rfl rfl)
theorem dX0_execute_13 : decode cX0_execute 13 = .ok (.ireturn, 1) := dk_172 (dk_at dksX0_execute_0 13 rfl rfl)
theorem dX0_execute_14 : decode cX0_execute 14 = .ok (.astore_n 2, 1) := dk_77 (dk_at dksX0_execute_0 14 rfl rfl)
theorem dX0_execute_15 : decode cX0_execute 15 = .ok (.iconst 2, 1) := dk_5 (dk_at dksX0_execute_0 15 rfl rfl)
theorem dX0_execute_16 : decode cX0_execute 16 = .ok (.ireturn, 1) := dk_172 (dk_at dksX0_execute_0 16 rfl rfl)
theorem dX0_execute_17 : decode cX0_execute 17 = .ok (.astore_n 2, 1) := dk_77 (dk_at dksX0_execute_0 17 rfl rfl)
theorem dX0_execute_18 : decode cX0_execute 18 = .ok (.iconst 3, 1) := dk_6 (dk_at dksX0_execute_0 18 rfl rfl)
theorem dX0_execute_19 : decode cX0_execute 19 = .ok (.ireturn, 1) := dk_172 (dk_at dksX0_execute_0 19 rfl rfl)
theorem dX0_execute_20 : decode cX0_execute 20 = .ok (.iconst 0, 1) := dk_3 (dk_at dksX0_execute_0 20 rfl rfl)
theorem dX0_execute_21 : decode cX0_execute 21 = .ok (.ireturn, 1) := dk_172 (dk_at dksX0_execute_0 21 rfl rfl)
abbrev cX0_syntaxErrorOffset : ByteArray := method_40_code
def yX0_syntaxErrorOffset : MethodName := ⟨RX0, "syntaxErrorOffset", "(LWindFarmDispatcher;[J)I"⟩
def dkwX0_syntaxErrorOffset_0 : List UInt8 := [43, 3, 42, 182, 0, 142, 133, 80, 167, 0, 6, 77, 4, 172, 3, 172]
abbrev dktX0_syntaxErrorOffset_0 : List UInt8 := dkwX0_syntaxErrorOffset_0 ++ []
theorem dksX0_syntaxErrorOffset_0 : cX0_syntaxErrorOffset.data.toList.drop 0 = dktX0_syntaxErrorOffset_0 := by decide +kernel
theorem dX0_syntaxErrorOffset_0 : decode cX0_syntaxErrorOffset 0 = .ok (.aload_n 1, 1) := dk_43 (dk_at dksX0_syntaxErrorOffset_0 0 rfl rfl)
theorem dX0_syntaxErrorOffset_1 : decode cX0_syntaxErrorOffset 1 = .ok (.iconst 0, 1) := dk_3 (dk_at dksX0_syntaxErrorOffset_0 1 rfl rfl)
theorem dX0_syntaxErrorOffset_2 : decode cX0_syntaxErrorOffset 2 = .ok (.aload_n 0, 1) := dk_42 (dk_at dksX0_syntaxErrorOffset_0 2 rfl rfl)
theorem dX0_syntaxErrorOffset_3 : decode cX0_syntaxErrorOffset 3 = .ok (.invokevirtual 142, 3) := dk_182 0 142 (dk_at dksX0_syntaxErrorOffset_0 3 rfl rfl)
theorem dX0_syntaxErrorOffset_6 : decode cX0_syntaxErrorOffset 6 = .ok (.i2l, 1) := dk_133 (dk_at dksX0_syntaxErrorOffset_0 6 rfl rfl)
theorem dX0_syntaxErrorOffset_7 : decode cX0_syntaxErrorOffset 7 = .ok (.lastore, 1) := dk_80 (dk_at dksX0_syntaxErrorOffset_0 7 rfl rfl)
theorem dX0_syntaxErrorOffset_8 : decode cX0_syntaxErrorOffset 8 = .ok (.goto 6, 3) := dk_167 0 6 (dk_at dksX0_syntaxErrorOffset_0 8 rfl rfl)
theorem dX0_syntaxErrorOffset_11 : decode cX0_syntaxErrorOffset 11 = .ok (.astore_n 2, 1) := dk_77 (dk_at dksX0_syntaxErrorOffset_0 11 rfl rfl)
theorem dX0_syntaxErrorOffset_12 : decode cX0_syntaxErrorOffset 12 = .ok (.iconst 1, 1) := dk_4 (dk_at dksX0_syntaxErrorOffset_0 12 rfl rfl)
theorem dX0_syntaxErrorOffset_13 : decode cX0_syntaxErrorOffset 13 = .ok (.ireturn, 1) := dk_172 (dk_at dksX0_syntaxErrorOffset_0 13 rfl rfl)
theorem dX0_syntaxErrorOffset_14 : decode cX0_syntaxErrorOffset 14 = .ok (.iconst 0, 1) := dk_3 (dk_at dksX0_syntaxErrorOffset_0 14 rfl rfl)
theorem dX0_syntaxErrorOffset_15 : decode cX0_syntaxErrorOffset 15 = .ok (.ireturn, 1) := dk_172 (dk_at dksX0_syntaxErrorOffset_0 15 rfl rfl)
abbrev cX0_rejectionReason : ByteArray := method_41_code
def yX0_rejectionReason : MethodName := ⟨RX0, "rejectionReason", "(LWindFarmDispatcher;[J)I"⟩
def dkwX0_rejectionReason_0 : List UInt8 := [43, 3, 42, 182, 0, 145, 133, 80, 167, 0, 6, 77, 4, 172, 3, 172]
abbrev dktX0_rejectionReason_0 : List UInt8 := dkwX0_rejectionReason_0 ++ []
theorem dksX0_rejectionReason_0 : cX0_rejectionReason.data.toList.drop 0 = dktX0_rejectionReason_0 := by decide +kernel
theorem dX0_rejectionReason_0 : decode cX0_rejectionReason 0 = .ok (.aload_n 1, 1) := dk_43 (dk_at dksX0_rejectionReason_0 0 rfl rfl)
theorem dX0_rejectionReason_1 : decode cX0_rejectionReason 1 = .ok (.iconst 0, 1) := dk_3 (dk_at dksX0_rejectionReason_0 1 rfl rfl)
theorem dX0_rejectionReason_2 : decode cX0_rejectionReason 2 = .ok (.aload_n 0, 1) := dk_42 (dk_at dksX0_rejectionReason_0 2 rfl rfl)
theorem dX0_rejectionReason_3 : decode cX0_rejectionReason 3 = .ok (.invokevirtual 145, 3) := dk_182 0 145 (dk_at dksX0_rejectionReason_0 3 rfl rfl)
theorem dX0_rejectionReason_6 : decode cX0_rejectionReason 6 = .ok (.i2l, 1) := dk_133 (dk_at dksX0_rejectionReason_0 6 rfl rfl)
theorem dX0_rejectionReason_7 : decode cX0_rejectionReason 7 = .ok (.lastore, 1) := dk_80 (dk_at dksX0_rejectionReason_0 7 rfl rfl)
theorem dX0_rejectionReason_8 : decode cX0_rejectionReason 8 = .ok (.goto 6, 3) := dk_167 0 6 (dk_at dksX0_rejectionReason_0 8 rfl rfl)
theorem dX0_rejectionReason_11 : decode cX0_rejectionReason 11 = .ok (.astore_n 2, 1) := dk_77 (dk_at dksX0_rejectionReason_0 11 rfl rfl)
theorem dX0_rejectionReason_12 : decode cX0_rejectionReason 12 = .ok (.iconst 1, 1) := dk_4 (dk_at dksX0_rejectionReason_0 12 rfl rfl)
theorem dX0_rejectionReason_13 : decode cX0_rejectionReason 13 = .ok (.ireturn, 1) := dk_172 (dk_at dksX0_rejectionReason_0 13 rfl rfl)
theorem dX0_rejectionReason_14 : decode cX0_rejectionReason 14 = .ok (.iconst 0, 1) := dk_3 (dk_at dksX0_rejectionReason_0 14 rfl rfl)
theorem dX0_rejectionReason_15 : decode cX0_rejectionReason 15 = .ok (.ireturn, 1) := dk_172 (dk_at dksX0_rejectionReason_0 15 rfl rfl)
abbrev cX0_rejectionDetail : ByteArray := method_42_code
def yX0_rejectionDetail : MethodName := ⟨RX0, "rejectionDetail", "(LWindFarmDispatcher;[J)I"⟩
def dkwX0_rejectionDetail_0 : List UInt8 := [43, 3, 42, 182, 0, 148, 133, 80, 167, 0, 6, 77, 4, 172, 3, 172]
abbrev dktX0_rejectionDetail_0 : List UInt8 := dkwX0_rejectionDetail_0 ++ []
theorem dksX0_rejectionDetail_0 : cX0_rejectionDetail.data.toList.drop 0 = dktX0_rejectionDetail_0 := by decide +kernel
theorem dX0_rejectionDetail_0 : decode cX0_rejectionDetail 0 = .ok (.aload_n 1, 1) := dk_43 (dk_at dksX0_rejectionDetail_0 0 rfl rfl)
theorem dX0_rejectionDetail_1 : decode cX0_rejectionDetail 1 = .ok (.iconst 0, 1) := dk_3 (dk_at dksX0_rejectionDetail_0 1 rfl rfl)
theorem dX0_rejectionDetail_2 : decode cX0_rejectionDetail 2 = .ok (.aload_n 0, 1) := dk_42 (dk_at dksX0_rejectionDetail_0 2 rfl rfl)
theorem dX0_rejectionDetail_3 : decode cX0_rejectionDetail 3 = .ok (.invokevirtual 148, 3) := dk_182 0 148 (dk_at dksX0_rejectionDetail_0 3 rfl rfl)
theorem dX0_rejectionDetail_6 : decode cX0_rejectionDetail 6 = .ok (.i2l, 1) := dk_133 (dk_at dksX0_rejectionDetail_0 6 rfl rfl)
theorem dX0_rejectionDetail_7 : decode cX0_rejectionDetail 7 = .ok (.lastore, 1) := dk_80 (dk_at dksX0_rejectionDetail_0 7 rfl rfl)
theorem dX0_rejectionDetail_8 : decode cX0_rejectionDetail 8 = .ok (.goto 6, 3) := dk_167 0 6 (dk_at dksX0_rejectionDetail_0 8 rfl rfl)
theorem dX0_rejectionDetail_11 : decode cX0_rejectionDetail 11 = .ok (.astore_n 2, 1) := dk_77 (dk_at dksX0_rejectionDetail_0 11 rfl rfl)
theorem dX0_rejectionDetail_12 : decode cX0_rejectionDetail 12 = .ok (.iconst 1, 1) := dk_4 (dk_at dksX0_rejectionDetail_0 12 rfl rfl)
theorem dX0_rejectionDetail_13 : decode cX0_rejectionDetail 13 = .ok (.ireturn, 1) := dk_172 (dk_at dksX0_rejectionDetail_0 13 rfl rfl)
theorem dX0_rejectionDetail_14 : decode cX0_rejectionDetail 14 = .ok (.iconst 0, 1) := dk_3 (dk_at dksX0_rejectionDetail_0 14 rfl rfl)
theorem dX0_rejectionDetail_15 : decode cX0_rejectionDetail 15 = .ok (.ireturn, 1) := dk_172 (dk_at dksX0_rejectionDetail_0 15 rfl rfl)
abbrev cX0_causeReason : ByteArray := method_43_code
def yX0_causeReason : MethodName := ⟨RX0, "causeReason", "(LWindFarmDispatcher;[J)I"⟩
def dkwX0_causeReason_0 : List UInt8 := [43, 3, 42, 182, 0, 151, 133, 80, 167, 0, 6, 77, 4, 172, 3, 172]
abbrev dktX0_causeReason_0 : List UInt8 := dkwX0_causeReason_0 ++ []
theorem dksX0_causeReason_0 : cX0_causeReason.data.toList.drop 0 = dktX0_causeReason_0 := by decide +kernel
theorem dX0_causeReason_0 : decode cX0_causeReason 0 = .ok (.aload_n 1, 1) := dk_43 (dk_at dksX0_causeReason_0 0 rfl rfl)
theorem dX0_causeReason_1 : decode cX0_causeReason 1 = .ok (.iconst 0, 1) := dk_3 (dk_at dksX0_causeReason_0 1 rfl rfl)
theorem dX0_causeReason_2 : decode cX0_causeReason 2 = .ok (.aload_n 0, 1) := dk_42 (dk_at dksX0_causeReason_0 2 rfl rfl)
theorem dX0_causeReason_3 : decode cX0_causeReason 3 = .ok (.invokevirtual 151, 3) := dk_182 0 151 (dk_at dksX0_causeReason_0 3 rfl rfl)
theorem dX0_causeReason_6 : decode cX0_causeReason 6 = .ok (.i2l, 1) := dk_133 (dk_at dksX0_causeReason_0 6 rfl rfl)
theorem dX0_causeReason_7 : decode cX0_causeReason 7 = .ok (.lastore, 1) := dk_80 (dk_at dksX0_causeReason_0 7 rfl rfl)
theorem dX0_causeReason_8 : decode cX0_causeReason 8 = .ok (.goto 6, 3) := dk_167 0 6 (dk_at dksX0_causeReason_0 8 rfl rfl)
theorem dX0_causeReason_11 : decode cX0_causeReason 11 = .ok (.astore_n 2, 1) := dk_77 (dk_at dksX0_causeReason_0 11 rfl rfl)
theorem dX0_causeReason_12 : decode cX0_causeReason 12 = .ok (.iconst 1, 1) := dk_4 (dk_at dksX0_causeReason_0 12 rfl rfl)
theorem dX0_causeReason_13 : decode cX0_causeReason 13 = .ok (.ireturn, 1) := dk_172 (dk_at dksX0_causeReason_0 13 rfl rfl)
theorem dX0_causeReason_14 : decode cX0_causeReason 14 = .ok (.iconst 0, 1) := dk_3 (dk_at dksX0_causeReason_0 14 rfl rfl)
theorem dX0_causeReason_15 : decode cX0_causeReason 15 = .ok (.ireturn, 1) := dk_172 (dk_at dksX0_causeReason_0 15 rfl rfl)
abbrev cX0_undo : ByteArray := method_44_code
def yX0_undo : MethodName := ⟨RX0, "undo", "(LWindFarmDispatcher;[J)I"⟩
def dkwX0_undo_0 : List UInt8 := [43, 3, 42, 182, 0, 154, 133, 80, 167, 0, 6, 77, 4, 172, 3, 172]
abbrev dktX0_undo_0 : List UInt8 := dkwX0_undo_0 ++ []
theorem dksX0_undo_0 : cX0_undo.data.toList.drop 0 = dktX0_undo_0 := by decide +kernel
theorem dX0_undo_0 : decode cX0_undo 0 = .ok (.aload_n 1, 1) := dk_43 (dk_at dksX0_undo_0 0 rfl rfl)
theorem dX0_undo_1 : decode cX0_undo 1 = .ok (.iconst 0, 1) := dk_3 (dk_at dksX0_undo_0 1 rfl rfl)
theorem dX0_undo_2 : decode cX0_undo 2 = .ok (.aload_n 0, 1) := dk_42 (dk_at dksX0_undo_0 2 rfl rfl)
theorem dX0_undo_3 : decode cX0_undo 3 = .ok (.invokevirtual 154, 3) := dk_182 0 154 (dk_at dksX0_undo_0 3 rfl rfl)
theorem dX0_undo_6 : decode cX0_undo 6 = .ok (.i2l, 1) := dk_133 (dk_at dksX0_undo_0 6 rfl rfl)
theorem dX0_undo_7 : decode cX0_undo 7 = .ok (.lastore, 1) := dk_80 (dk_at dksX0_undo_0 7 rfl rfl)
theorem dX0_undo_8 : decode cX0_undo 8 = .ok (.goto 6, 3) := dk_167 0 6 (dk_at dksX0_undo_0 8 rfl rfl)
theorem dX0_undo_11 : decode cX0_undo 11 = .ok (.astore_n 2, 1) := dk_77 (dk_at dksX0_undo_0 11 rfl rfl)
theorem dX0_undo_12 : decode cX0_undo 12 = .ok (.iconst 1, 1) := dk_4 (dk_at dksX0_undo_0 12 rfl rfl)
theorem dX0_undo_13 : decode cX0_undo 13 = .ok (.ireturn, 1) := dk_172 (dk_at dksX0_undo_0 13 rfl rfl)
theorem dX0_undo_14 : decode cX0_undo 14 = .ok (.iconst 0, 1) := dk_3 (dk_at dksX0_undo_0 14 rfl rfl)
theorem dX0_undo_15 : decode cX0_undo 15 = .ok (.ireturn, 1) := dk_172 (dk_at dksX0_undo_0 15 rfl rfl)
abbrev cX0_restoreSnapshot : ByteArray := method_45_code
def yX0_restoreSnapshot : MethodName := ⟨RX0, "restoreSnapshot", "(LWindFarmDispatcher;[J)I"⟩
def dkwX0_restoreSnapshot_0 : List UInt8 := [43, 3, 42, 182, 0, 157, 133, 80, 167, 0, 6, 77, 4, 172, 3, 172]
abbrev dktX0_restoreSnapshot_0 : List UInt8 := dkwX0_restoreSnapshot_0 ++ []
theorem dksX0_restoreSnapshot_0 : cX0_restoreSnapshot.data.toList.drop 0 = dktX0_restoreSnapshot_0 := by decide +kernel
theorem dX0_restoreSnapshot_0 : decode cX0_restoreSnapshot 0 = .ok (.aload_n 1, 1) := dk_43 (dk_at dksX0_restoreSnapshot_0 0 rfl rfl)
theorem dX0_restoreSnapshot_1 : decode cX0_restoreSnapshot 1 = .ok (.iconst 0, 1) := dk_3 (dk_at dksX0_restoreSnapshot_0 1 rfl rfl)
theorem dX0_restoreSnapshot_2 : decode cX0_restoreSnapshot 2 = .ok (.aload_n 0, 1) := dk_42 (dk_at dksX0_restoreSnapshot_0 2 rfl rfl)
theorem dX0_restoreSnapshot_3 : decode cX0_restoreSnapshot 3 = .ok (.invokevirtual 157, 3) := dk_182 0 157 (dk_at dksX0_restoreSnapshot_0 3 rfl rfl)
theorem dX0_restoreSnapshot_6 : decode cX0_restoreSnapshot 6 = .ok (.i2l, 1) := dk_133 (dk_at dksX0_restoreSnapshot_0 6 rfl rfl)
theorem dX0_restoreSnapshot_7 : decode cX0_restoreSnapshot 7 = .ok (.lastore, 1) := dk_80 (dk_at dksX0_restoreSnapshot_0 7 rfl rfl)
theorem dX0_restoreSnapshot_8 : decode cX0_restoreSnapshot 8 = .ok (.goto 6, 3) := dk_167 0 6 (dk_at dksX0_restoreSnapshot_0 8 rfl rfl)
theorem dX0_restoreSnapshot_11 : decode cX0_restoreSnapshot 11 = .ok (.astore_n 2, 1) := dk_77 (dk_at dksX0_restoreSnapshot_0 11 rfl rfl)
theorem dX0_restoreSnapshot_12 : decode cX0_restoreSnapshot 12 = .ok (.iconst 1, 1) := dk_4 (dk_at dksX0_restoreSnapshot_0 12 rfl rfl)
theorem dX0_restoreSnapshot_13 : decode cX0_restoreSnapshot 13 = .ok (.ireturn, 1) := dk_172 (dk_at dksX0_restoreSnapshot_0 13 rfl rfl)
theorem dX0_restoreSnapshot_14 : decode cX0_restoreSnapshot 14 = .ok (.iconst 0, 1) := dk_3 (dk_at dksX0_restoreSnapshot_0 14 rfl rfl)
theorem dX0_restoreSnapshot_15 : decode cX0_restoreSnapshot 15 = .ok (.ireturn, 1) := dk_172 (dk_at dksX0_restoreSnapshot_0 15 rfl rfl)
theorem q75 : (Jvm.Cond.initialized "WindFarmDispatcherLaw") ∈ lw_all := lw_g (lw_at lw_m1 0 rfl) rfl
theorem q119 : (Jvm.Cond.classLink "WindFarmDispatcherLaw" (8 : Nat) "WindFarmDispatcher") ∈ lw_all := lw_g (lw_at lw_m1 44 rfl) rfl
theorem q121 : (Jvm.Cond.methodLink "WindFarmDispatcherLaw" (160 : Nat) ({ cls := "WindFarmDispatcher", name := "<init>", desc := "()V" } : Jvm.MethodName)) ∈ lw_all := lw_g (lw_at lw_m1 46 rfl) rfl
theorem q273 : (Jvm.Cond.methodLink "WindFarmDispatcherLaw" (190 : Nat) ({ cls := "WindFarmDispatcher", name := "turbineCount", desc := "()I" } : Jvm.MethodName)) ∈ lw_all := lw_g (lw_at lw_m1 198 rfl) rfl
theorem q281 : (Jvm.Cond.methodLink "WindFarmDispatcherLaw" (221 : Nat) ({ cls := "WindFarmDispatcher", name := "freeCrews", desc := "()I" } : Jvm.MethodName)) ∈ lw_all := lw_g (lw_at lw_m1 206 rfl) rfl
theorem q313 : (Jvm.Cond.methodLink "WindFarmDispatcherLaw" (229 : Nat) ({ cls := "WindFarmDispatcher", name := "windDirection", desc := "()C" } : Jvm.MethodName)) ∈ lw_all := lw_g (lw_at lw_m1 238 rfl) rfl
theorem q325 : (Jvm.Cond.methodLink "WindFarmDispatcherLaw" (234 : Nat) ({ cls := "WindFarmDispatcher", name := "windSpeed", desc := "()I" } : Jvm.MethodName)) ∈ lw_all := lw_g (lw_at lw_m2 10 rfl) rfl
theorem q329 : (Jvm.Cond.methodLink "WindFarmDispatcherLaw" (238 : Nat) ({ cls := "WindFarmDispatcher", name := "powerFactor", desc := "()I" } : Jvm.MethodName)) ∈ lw_all := lw_g (lw_at lw_m2 14 rfl) rfl
theorem q336 : (Jvm.Cond.methodLink "WindFarmDispatcherLaw" (251 : Nat) ({ cls := "WindFarmDispatcher", name := "totalOutput", desc := "()I" } : Jvm.MethodName)) ∈ lw_all := lw_g (lw_at lw_m2 21 rfl) rfl
theorem q442 : (Jvm.Cond.methodLink "WindFarmDispatcherLaw" (255 : Nat) ({ cls := "WindFarmDispatcher", name := "totalOutputByLines", desc := "()I" } : Jvm.MethodName)) ∈ lw_all := lw_g (lw_at lw_m2 127 rfl) rfl
theorem q464 : (Jvm.Cond.methodLink "WindFarmDispatcherLaw" (262 : Nat) ({ cls := "WindFarmDispatcher", name := "bestDirection", desc := "()C" } : Jvm.MethodName)) ∈ lw_all := lw_g (lw_at lw_m2 149 rfl) rfl
theorem q485 : (Jvm.Cond.methodLink "WindFarmDispatcherLaw" (269 : Nat) ({ cls := "WindFarmDispatcher", name := "gridLimit", desc := "()I" } : Jvm.MethodName)) ∈ lw_all := lw_g (lw_at lw_m2 170 rfl) rfl
theorem q489 : (Jvm.Cond.methodLink "WindFarmDispatcherLaw" (273 : Nat) ({ cls := "WindFarmDispatcher", name := "dispatch", desc := "()I" } : Jvm.MethodName)) ∈ lw_all := lw_g (lw_at lw_m2 174 rfl) rfl
theorem q910 : (Jvm.Cond.methodLink "WindFarmDispatcherLaw" (277 : Nat) ({ cls := "WindFarmDispatcher", name := "releaseAll", desc := "()I" } : Jvm.MethodName)) ∈ lw_all := lw_g (lw_at lw_m4 115 rfl) rfl
theorem q914 : (Jvm.Cond.methodLink "WindFarmDispatcherLaw" (302 : Nat) ({ cls := "WindFarmDispatcher", name := "time", desc := "()I" } : Jvm.MethodName)) ∈ lw_all := lw_g (lw_at lw_m4 119 rfl) rfl
theorem q918 : (Jvm.Cond.methodLink "WindFarmDispatcherLaw" (313 : Nat) ({ cls := "WindFarmDispatcher", name := "energyMade", desc := "()J" } : Jvm.MethodName)) ∈ lw_all := lw_g (lw_at lw_m4 123 rfl) rfl
theorem q922 : (Jvm.Cond.methodLink "WindFarmDispatcherLaw" (318 : Nat) ({ cls := "WindFarmDispatcher", name := "energyLost", desc := "()J" } : Jvm.MethodName)) ∈ lw_all := lw_g (lw_at lw_m4 127 rfl) rfl
theorem q926 : (Jvm.Cond.methodLink "WindFarmDispatcherLaw" (322 : Nat) ({ cls := "WindFarmDispatcher", name := "energySold", desc := "()J" } : Jvm.MethodName)) ∈ lw_all := lw_g (lw_at lw_m4 131 rfl) rfl
theorem q930 : (Jvm.Cond.methodLink "WindFarmDispatcherLaw" (326 : Nat) ({ cls := "WindFarmDispatcher", name := "energySpilled", desc := "()J" } : Jvm.MethodName)) ∈ lw_all := lw_g (lw_at lw_m4 135 rfl) rfl
theorem q934 : (Jvm.Cond.methodLink "WindFarmDispatcherLaw" (330 : Nat) ({ cls := "WindFarmDispatcher", name := "coins", desc := "()J" } : Jvm.MethodName)) ∈ lw_all := lw_g (lw_at lw_m4 139 rfl) rfl
theorem q938 : (Jvm.Cond.methodLink "WindFarmDispatcherLaw" (344 : Nat) ({ cls := "WindFarmDispatcher", name := "isConsistent", desc := "()Z" } : Jvm.MethodName)) ∈ lw_all := lw_g (lw_at lw_m4 143 rfl) rfl
theorem q947 : (Jvm.Cond.methodLink "WindFarmDispatcherLaw" (377 : Nat) ({ cls := "WindFarmDispatcher", name := "saveSnapshot", desc := "()I" } : Jvm.MethodName)) ∈ lw_all := lw_g (lw_at lw_m4 152 rfl) rfl
theorem q951 : (Jvm.Cond.methodLink "WindFarmDispatcherLaw" (164 : Nat) ({ cls := "WindFarmDispatcherLaw", name := "addTurbine", desc := "(LWindFarmDispatcher;III[J)I" } : Jvm.MethodName)) ∈ lw_all := lw_g (lw_at lw_m4 156 rfl) rfl
theorem q952 : (Jvm.Cond.static ({ cls := "WindFarmDispatcherLaw", name := "addTurbine", desc := "(LWindFarmDispatcher;III[J)I" } : Jvm.MethodName)) ∈ lw_all := lw_g (lw_at lw_m4 157 rfl) rfl
theorem q953 : (Jvm.Cond.codeWith ({ cls := "WindFarmDispatcherLaw", name := "addTurbine", desc := "(LWindFarmDispatcher;III[J)I" } : Jvm.MethodName) method_3_code (6 : Nat) (Option.some Jvm.ClassFile.FieldType.int) [((0 : Nat), (12 : Nat), (15 : Nat), (13 : Nat)), ((0 : Nat), (12 : Nat), (19 : Nat), (15 : Nat)), ((0 : Nat), (12 : Nat), (23 : Nat), (17 : Nat))]) ∈ lw_all := lw_g (lw_at lw_m4 158 rfl) rfl
theorem q954 : (Jvm.Cond.classLink "WindFarmDispatcherLaw" (13 : Nat) "java/lang/IndexOutOfBoundsException") ∈ lw_all := lw_g (lw_at lw_m4 159 rfl) rfl
theorem q986 : (Jvm.Cond.classLink "WindFarmDispatcherLaw" (15 : Nat) "java/lang/IllegalArgumentException") ∈ lw_all := lw_g (lw_at lw_m4 191 rfl) rfl
theorem q987 : (Jvm.Cond.classLink "WindFarmDispatcherLaw" (17 : Nat) "java/lang/UnsupportedOperationException") ∈ lw_all := lw_g (lw_at lw_m4 192 rfl) rfl
theorem q988 : (Jvm.Cond.methodLink "WindFarmDispatcherLaw" (7 : Nat) ({ cls := "WindFarmDispatcher", name := "addTurbine", desc := "(III)I" } : Jvm.MethodName)) ∈ lw_all := lw_g (lw_at lw_m4 193 rfl) rfl
theorem q1035 : (Jvm.Cond.methodLink "WindFarmDispatcherLaw" (173 : Nat) ({ cls := "WindFarmDispatcherLaw", name := "fail", desc := "(LWindFarmDispatcher;I[J)I" } : Jvm.MethodName)) ∈ lw_all := lw_g (lw_at lw_m5 0 rfl) rfl
theorem q1036 : (Jvm.Cond.static ({ cls := "WindFarmDispatcherLaw", name := "fail", desc := "(LWindFarmDispatcher;I[J)I" } : Jvm.MethodName)) ∈ lw_all := lw_g (lw_at lw_m5 1 rfl) rfl
theorem q1037 : (Jvm.Cond.codeWith ({ cls := "WindFarmDispatcherLaw", name := "fail", desc := "(LWindFarmDispatcher;I[J)I" } : Jvm.MethodName) method_4_code (4 : Nat) (Option.some Jvm.ClassFile.FieldType.int) [((0 : Nat), (9 : Nat), (12 : Nat), (13 : Nat)), ((0 : Nat), (9 : Nat), (15 : Nat), (17 : Nat))]) ∈ lw_all := lw_g (lw_at lw_m5 2 rfl) rfl
theorem q1038 : (Jvm.Cond.methodLink "WindFarmDispatcherLaw" (19 : Nat) ({ cls := "WindFarmDispatcher", name := "fail", desc := "(I)I" } : Jvm.MethodName)) ∈ lw_all := lw_g (lw_at lw_m5 3 rfl) rfl
theorem q1051 : (Jvm.Cond.methodLink "WindFarmDispatcherLaw" (177 : Nat) ({ cls := "WindFarmDispatcherLaw", name := "sendCrew", desc := "(LWindFarmDispatcher;II[J)I" } : Jvm.MethodName)) ∈ lw_all := lw_g (lw_at lw_m5 16 rfl) rfl
theorem q1052 : (Jvm.Cond.static ({ cls := "WindFarmDispatcherLaw", name := "sendCrew", desc := "(LWindFarmDispatcher;II[J)I" } : Jvm.MethodName)) ∈ lw_all := lw_g (lw_at lw_m5 17 rfl) rfl
theorem q1053 : (Jvm.Cond.codeWith ({ cls := "WindFarmDispatcherLaw", name := "sendCrew", desc := "(LWindFarmDispatcher;II[J)I" } : Jvm.MethodName) method_5_code (5 : Nat) (Option.some Jvm.ClassFile.FieldType.int) [((0 : Nat), (10 : Nat), (13 : Nat), (13 : Nat)), ((0 : Nat), (10 : Nat), (17 : Nat), (15 : Nat)), ((0 : Nat), (10 : Nat), (21 : Nat), (17 : Nat))]) ∈ lw_all := lw_g (lw_at lw_m5 18 rfl) rfl
theorem q1054 : (Jvm.Cond.methodLink "WindFarmDispatcherLaw" (23 : Nat) ({ cls := "WindFarmDispatcher", name := "sendCrew", desc := "(II)I" } : Jvm.MethodName)) ∈ lw_all := lw_g (lw_at lw_m5 19 rfl) rfl
theorem q1061 : (Jvm.Cond.methodLink "WindFarmDispatcherLaw" (181 : Nat) ({ cls := "WindFarmDispatcherLaw", name := "recallCrew", desc := "(LWindFarmDispatcher;I[J)I" } : Jvm.MethodName)) ∈ lw_all := lw_g (lw_at lw_m5 26 rfl) rfl
theorem q1062 : (Jvm.Cond.static ({ cls := "WindFarmDispatcherLaw", name := "recallCrew", desc := "(LWindFarmDispatcher;I[J)I" } : Jvm.MethodName)) ∈ lw_all := lw_g (lw_at lw_m5 27 rfl) rfl
theorem q1063 : (Jvm.Cond.codeWith ({ cls := "WindFarmDispatcherLaw", name := "recallCrew", desc := "(LWindFarmDispatcher;I[J)I" } : Jvm.MethodName) method_6_code (4 : Nat) (Option.some Jvm.ClassFile.FieldType.int) [((0 : Nat), (9 : Nat), (12 : Nat), (13 : Nat)), ((0 : Nat), (9 : Nat), (15 : Nat), (17 : Nat))]) ∈ lw_all := lw_g (lw_at lw_m5 28 rfl) rfl
theorem q1064 : (Jvm.Cond.methodLink "WindFarmDispatcherLaw" (27 : Nat) ({ cls := "WindFarmDispatcher", name := "recallCrew", desc := "(I)I" } : Jvm.MethodName)) ∈ lw_all := lw_g (lw_at lw_m5 29 rfl) rfl
theorem q1068 : (Jvm.Cond.methodLink "WindFarmDispatcherLaw" (184 : Nat) ({ cls := "WindFarmDispatcherLaw", name := "curtail", desc := "(LWindFarmDispatcher;II[J)I" } : Jvm.MethodName)) ∈ lw_all := lw_g (lw_at lw_m5 33 rfl) rfl
theorem q1069 : (Jvm.Cond.static ({ cls := "WindFarmDispatcherLaw", name := "curtail", desc := "(LWindFarmDispatcher;II[J)I" } : Jvm.MethodName)) ∈ lw_all := lw_g (lw_at lw_m5 34 rfl) rfl
theorem q1070 : (Jvm.Cond.codeWith ({ cls := "WindFarmDispatcherLaw", name := "curtail", desc := "(LWindFarmDispatcher;II[J)I" } : Jvm.MethodName) method_7_code (5 : Nat) (Option.some Jvm.ClassFile.FieldType.int) [((0 : Nat), (10 : Nat), (13 : Nat), (13 : Nat)), ((0 : Nat), (10 : Nat), (17 : Nat), (15 : Nat)), ((0 : Nat), (10 : Nat), (21 : Nat), (17 : Nat))]) ∈ lw_all := lw_g (lw_at lw_m5 35 rfl) rfl
theorem q1071 : (Jvm.Cond.methodLink "WindFarmDispatcherLaw" (30 : Nat) ({ cls := "WindFarmDispatcher", name := "curtail", desc := "(II)I" } : Jvm.MethodName)) ∈ lw_all := lw_g (lw_at lw_m5 36 rfl) rfl
theorem q1078 : (Jvm.Cond.methodLink "WindFarmDispatcherLaw" (187 : Nat) ({ cls := "WindFarmDispatcherLaw", name := "release", desc := "(LWindFarmDispatcher;I[J)I" } : Jvm.MethodName)) ∈ lw_all := lw_g (lw_at lw_m5 43 rfl) rfl
theorem q1079 : (Jvm.Cond.static ({ cls := "WindFarmDispatcherLaw", name := "release", desc := "(LWindFarmDispatcher;I[J)I" } : Jvm.MethodName)) ∈ lw_all := lw_g (lw_at lw_m5 44 rfl) rfl
theorem q1080 : (Jvm.Cond.codeWith ({ cls := "WindFarmDispatcherLaw", name := "release", desc := "(LWindFarmDispatcher;I[J)I" } : Jvm.MethodName) method_8_code (4 : Nat) (Option.some Jvm.ClassFile.FieldType.int) [((0 : Nat), (9 : Nat), (12 : Nat), (13 : Nat)), ((0 : Nat), (9 : Nat), (15 : Nat), (17 : Nat))]) ∈ lw_all := lw_g (lw_at lw_m5 45 rfl) rfl
theorem q1081 : (Jvm.Cond.methodLink "WindFarmDispatcherLaw" (33 : Nat) ({ cls := "WindFarmDispatcher", name := "release", desc := "(I)I" } : Jvm.MethodName)) ∈ lw_all := lw_g (lw_at lw_m5 46 rfl) rfl
theorem q1085 : (Jvm.Cond.methodLink "WindFarmDispatcherLaw" (194 : Nat) ({ cls := "WindFarmDispatcherLaw", name := "turbineAt", desc := "(LWindFarmDispatcher;II[J)I" } : Jvm.MethodName)) ∈ lw_all := lw_g (lw_at lw_m5 50 rfl) rfl
theorem q1086 : (Jvm.Cond.static ({ cls := "WindFarmDispatcherLaw", name := "turbineAt", desc := "(LWindFarmDispatcher;II[J)I" } : Jvm.MethodName)) ∈ lw_all := lw_g (lw_at lw_m5 51 rfl) rfl
theorem q1087 : (Jvm.Cond.codeWith ({ cls := "WindFarmDispatcherLaw", name := "turbineAt", desc := "(LWindFarmDispatcher;II[J)I" } : Jvm.MethodName) method_9_code (5 : Nat) (Option.some Jvm.ClassFile.FieldType.int) [((0 : Nat), (10 : Nat), (13 : Nat), (13 : Nat)), ((0 : Nat), (10 : Nat), (17 : Nat), (39 : Nat))]) ∈ lw_all := lw_g (lw_at lw_m5 52 rfl) rfl
theorem q1088 : (Jvm.Cond.classLink "WindFarmDispatcherLaw" (39 : Nat) "java/util/NoSuchElementException") ∈ lw_all := lw_g (lw_at lw_m5 53 rfl) rfl
theorem q1089 : (Jvm.Cond.methodLink "WindFarmDispatcherLaw" (36 : Nat) ({ cls := "WindFarmDispatcher", name := "turbineAt", desc := "(II)I" } : Jvm.MethodName)) ∈ lw_all := lw_g (lw_at lw_m5 54 rfl) rfl
theorem q1111 : (Jvm.Cond.methodLink "WindFarmDispatcherLaw" (197 : Nat) ({ cls := "WindFarmDispatcherLaw", name := "rowOf", desc := "(LWindFarmDispatcher;I[J)I" } : Jvm.MethodName)) ∈ lw_all := lw_g (lw_at lw_m5 76 rfl) rfl
theorem q1112 : (Jvm.Cond.static ({ cls := "WindFarmDispatcherLaw", name := "rowOf", desc := "(LWindFarmDispatcher;I[J)I" } : Jvm.MethodName)) ∈ lw_all := lw_g (lw_at lw_m5 77 rfl) rfl
theorem q1113 : (Jvm.Cond.codeWith ({ cls := "WindFarmDispatcherLaw", name := "rowOf", desc := "(LWindFarmDispatcher;I[J)I" } : Jvm.MethodName) method_10_code (4 : Nat) (Option.some Jvm.ClassFile.FieldType.int) [((0 : Nat), (9 : Nat), (12 : Nat), (13 : Nat))]) ∈ lw_all := lw_g (lw_at lw_m5 78 rfl) rfl
theorem q1114 : (Jvm.Cond.methodLink "WindFarmDispatcherLaw" (41 : Nat) ({ cls := "WindFarmDispatcher", name := "rowOf", desc := "(I)I" } : Jvm.MethodName)) ∈ lw_all := lw_g (lw_at lw_m5 79 rfl) rfl
theorem q1124 : (Jvm.Cond.methodLink "WindFarmDispatcherLaw" (200 : Nat) ({ cls := "WindFarmDispatcherLaw", name := "columnOf", desc := "(LWindFarmDispatcher;I[J)I" } : Jvm.MethodName)) ∈ lw_all := lw_g (lw_at lw_m5 89 rfl) rfl
theorem q1125 : (Jvm.Cond.static ({ cls := "WindFarmDispatcherLaw", name := "columnOf", desc := "(LWindFarmDispatcher;I[J)I" } : Jvm.MethodName)) ∈ lw_all := lw_g (lw_at lw_m5 90 rfl) rfl
theorem q1126 : (Jvm.Cond.codeWith ({ cls := "WindFarmDispatcherLaw", name := "columnOf", desc := "(LWindFarmDispatcher;I[J)I" } : Jvm.MethodName) method_11_code (4 : Nat) (Option.some Jvm.ClassFile.FieldType.int) [((0 : Nat), (9 : Nat), (12 : Nat), (13 : Nat))]) ∈ lw_all := lw_g (lw_at lw_m5 91 rfl) rfl
theorem q1127 : (Jvm.Cond.methodLink "WindFarmDispatcherLaw" (44 : Nat) ({ cls := "WindFarmDispatcher", name := "columnOf", desc := "(I)I" } : Jvm.MethodName)) ∈ lw_all := lw_g (lw_at lw_m5 92 rfl) rfl
theorem q1131 : (Jvm.Cond.methodLink "WindFarmDispatcherLaw" (203 : Nat) ({ cls := "WindFarmDispatcherLaw", name := "ratedPower", desc := "(LWindFarmDispatcher;I[J)I" } : Jvm.MethodName)) ∈ lw_all := lw_g (lw_at lw_m5 96 rfl) rfl
theorem q1132 : (Jvm.Cond.static ({ cls := "WindFarmDispatcherLaw", name := "ratedPower", desc := "(LWindFarmDispatcher;I[J)I" } : Jvm.MethodName)) ∈ lw_all := lw_g (lw_at lw_m5 97 rfl) rfl
theorem q1133 : (Jvm.Cond.codeWith ({ cls := "WindFarmDispatcherLaw", name := "ratedPower", desc := "(LWindFarmDispatcher;I[J)I" } : Jvm.MethodName) method_12_code (4 : Nat) (Option.some Jvm.ClassFile.FieldType.int) [((0 : Nat), (9 : Nat), (12 : Nat), (13 : Nat))]) ∈ lw_all := lw_g (lw_at lw_m5 98 rfl) rfl
theorem q1134 : (Jvm.Cond.methodLink "WindFarmDispatcherLaw" (47 : Nat) ({ cls := "WindFarmDispatcher", name := "ratedPower", desc := "(I)I" } : Jvm.MethodName)) ∈ lw_all := lw_g (lw_at lw_m5 99 rfl) rfl
theorem q1138 : (Jvm.Cond.methodLink "WindFarmDispatcherLaw" (206 : Nat) ({ cls := "WindFarmDispatcherLaw", name := "isRunning", desc := "(LWindFarmDispatcher;I[J)I" } : Jvm.MethodName)) ∈ lw_all := lw_g (lw_at lw_m5 103 rfl) rfl
theorem q1139 : (Jvm.Cond.static ({ cls := "WindFarmDispatcherLaw", name := "isRunning", desc := "(LWindFarmDispatcher;I[J)I" } : Jvm.MethodName)) ∈ lw_all := lw_g (lw_at lw_m5 104 rfl) rfl
theorem q1140 : (Jvm.Cond.codeWith ({ cls := "WindFarmDispatcherLaw", name := "isRunning", desc := "(LWindFarmDispatcher;I[J)I" } : Jvm.MethodName) method_13_code (4 : Nat) (Option.some Jvm.ClassFile.FieldType.int) [((0 : Nat), (16 : Nat), (19 : Nat), (13 : Nat))]) ∈ lw_all := lw_g (lw_at lw_m5 105 rfl) rfl
theorem q1141 : (Jvm.Cond.methodLink "WindFarmDispatcherLaw" (50 : Nat) ({ cls := "WindFarmDispatcher", name := "isRunning", desc := "(I)Z" } : Jvm.MethodName)) ∈ lw_all := lw_g (lw_at lw_m5 106 rfl) rfl
theorem q1146 : (Jvm.Cond.methodLink "WindFarmDispatcherLaw" (209 : Nat) ({ cls := "WindFarmDispatcherLaw", name := "isFailed", desc := "(LWindFarmDispatcher;I[J)I" } : Jvm.MethodName)) ∈ lw_all := lw_g (lw_at lw_m5 111 rfl) rfl
theorem q1147 : (Jvm.Cond.static ({ cls := "WindFarmDispatcherLaw", name := "isFailed", desc := "(LWindFarmDispatcher;I[J)I" } : Jvm.MethodName)) ∈ lw_all := lw_g (lw_at lw_m5 112 rfl) rfl
theorem q1148 : (Jvm.Cond.codeWith ({ cls := "WindFarmDispatcherLaw", name := "isFailed", desc := "(LWindFarmDispatcher;I[J)I" } : Jvm.MethodName) method_14_code (4 : Nat) (Option.some Jvm.ClassFile.FieldType.int) [((0 : Nat), (16 : Nat), (19 : Nat), (13 : Nat))]) ∈ lw_all := lw_g (lw_at lw_m5 113 rfl) rfl
theorem q1149 : (Jvm.Cond.methodLink "WindFarmDispatcherLaw" (54 : Nat) ({ cls := "WindFarmDispatcher", name := "isFailed", desc := "(I)Z" } : Jvm.MethodName)) ∈ lw_all := lw_g (lw_at lw_m5 114 rfl) rfl
theorem q1154 : (Jvm.Cond.methodLink "WindFarmDispatcherLaw" (212 : Nat) ({ cls := "WindFarmDispatcherLaw", name := "isInService", desc := "(LWindFarmDispatcher;I[J)I" } : Jvm.MethodName)) ∈ lw_all := lw_g (lw_at lw_m5 119 rfl) rfl
theorem q1155 : (Jvm.Cond.static ({ cls := "WindFarmDispatcherLaw", name := "isInService", desc := "(LWindFarmDispatcher;I[J)I" } : Jvm.MethodName)) ∈ lw_all := lw_g (lw_at lw_m5 120 rfl) rfl
theorem q1156 : (Jvm.Cond.codeWith ({ cls := "WindFarmDispatcherLaw", name := "isInService", desc := "(LWindFarmDispatcher;I[J)I" } : Jvm.MethodName) method_15_code (4 : Nat) (Option.some Jvm.ClassFile.FieldType.int) [((0 : Nat), (16 : Nat), (19 : Nat), (13 : Nat))]) ∈ lw_all := lw_g (lw_at lw_m5 121 rfl) rfl
theorem q1157 : (Jvm.Cond.methodLink "WindFarmDispatcherLaw" (57 : Nat) ({ cls := "WindFarmDispatcher", name := "isInService", desc := "(I)Z" } : Jvm.MethodName)) ∈ lw_all := lw_g (lw_at lw_m5 122 rfl) rfl
theorem q1162 : (Jvm.Cond.methodLink "WindFarmDispatcherLaw" (215 : Nat) ({ cls := "WindFarmDispatcherLaw", name := "limitOf", desc := "(LWindFarmDispatcher;I[J)I" } : Jvm.MethodName)) ∈ lw_all := lw_g (lw_at lw_m5 127 rfl) rfl
theorem q1163 : (Jvm.Cond.static ({ cls := "WindFarmDispatcherLaw", name := "limitOf", desc := "(LWindFarmDispatcher;I[J)I" } : Jvm.MethodName)) ∈ lw_all := lw_g (lw_at lw_m5 128 rfl) rfl
theorem q1164 : (Jvm.Cond.codeWith ({ cls := "WindFarmDispatcherLaw", name := "limitOf", desc := "(LWindFarmDispatcher;I[J)I" } : Jvm.MethodName) method_16_code (4 : Nat) (Option.some Jvm.ClassFile.FieldType.int) [((0 : Nat), (9 : Nat), (12 : Nat), (13 : Nat)), ((0 : Nat), (9 : Nat), (15 : Nat), (39 : Nat))]) ∈ lw_all := lw_g (lw_at lw_m5 129 rfl) rfl
theorem q1165 : (Jvm.Cond.methodLink "WindFarmDispatcherLaw" (60 : Nat) ({ cls := "WindFarmDispatcher", name := "limitOf", desc := "(I)I" } : Jvm.MethodName)) ∈ lw_all := lw_g (lw_at lw_m5 130 rfl) rfl
theorem q1173 : (Jvm.Cond.methodLink "WindFarmDispatcherLaw" (218 : Nat) ({ cls := "WindFarmDispatcherLaw", name := "serviceHoursLeft", desc := "(LWindFarmDispatcher;I[J)I" } : Jvm.MethodName)) ∈ lw_all := lw_g (lw_at lw_m5 138 rfl) rfl
theorem q1174 : (Jvm.Cond.static ({ cls := "WindFarmDispatcherLaw", name := "serviceHoursLeft", desc := "(LWindFarmDispatcher;I[J)I" } : Jvm.MethodName)) ∈ lw_all := lw_g (lw_at lw_m5 139 rfl) rfl
theorem q1175 : (Jvm.Cond.codeWith ({ cls := "WindFarmDispatcherLaw", name := "serviceHoursLeft", desc := "(LWindFarmDispatcher;I[J)I" } : Jvm.MethodName) method_17_code (4 : Nat) (Option.some Jvm.ClassFile.FieldType.int) [((0 : Nat), (9 : Nat), (12 : Nat), (13 : Nat)), ((0 : Nat), (9 : Nat), (15 : Nat), (39 : Nat))]) ∈ lw_all := lw_g (lw_at lw_m5 140 rfl) rfl
theorem q1176 : (Jvm.Cond.methodLink "WindFarmDispatcherLaw" (63 : Nat) ({ cls := "WindFarmDispatcher", name := "serviceHoursLeft", desc := "(I)I" } : Jvm.MethodName)) ∈ lw_all := lw_g (lw_at lw_m5 141 rfl) rfl
theorem q1180 : (Jvm.Cond.methodLink "WindFarmDispatcherLaw" (225 : Nat) ({ cls := "WindFarmDispatcherLaw", name := "setWind", desc := "(LWindFarmDispatcher;CI[J)I" } : Jvm.MethodName)) ∈ lw_all := lw_g (lw_at lw_m5 145 rfl) rfl
theorem q1181 : (Jvm.Cond.static ({ cls := "WindFarmDispatcherLaw", name := "setWind", desc := "(LWindFarmDispatcher;CI[J)I" } : Jvm.MethodName)) ∈ lw_all := lw_g (lw_at lw_m5 146 rfl) rfl
theorem q1182 : (Jvm.Cond.codeWith ({ cls := "WindFarmDispatcherLaw", name := "setWind", desc := "(LWindFarmDispatcher;CI[J)I" } : Jvm.MethodName) method_18_code (5 : Nat) (Option.some Jvm.ClassFile.FieldType.int) [((0 : Nat), (10 : Nat), (13 : Nat), (15 : Nat))]) ∈ lw_all := lw_g (lw_at lw_m5 147 rfl) rfl
theorem q1183 : (Jvm.Cond.methodLink "WindFarmDispatcherLaw" (66 : Nat) ({ cls := "WindFarmDispatcher", name := "setWind", desc := "(CI)I" } : Jvm.MethodName)) ∈ lw_all := lw_g (lw_at lw_m5 148 rfl) rfl
theorem q1195 : (Jvm.Cond.methodLink "WindFarmDispatcherLaw" (242 : Nat) ({ cls := "WindFarmDispatcherLaw", name := "wakeLoss", desc := "(LWindFarmDispatcher;I[J)I" } : Jvm.MethodName)) ∈ lw_all := lw_g (lw_at lw_m5 160 rfl) rfl
theorem q1196 : (Jvm.Cond.static ({ cls := "WindFarmDispatcherLaw", name := "wakeLoss", desc := "(LWindFarmDispatcher;I[J)I" } : Jvm.MethodName)) ∈ lw_all := lw_g (lw_at lw_m5 161 rfl) rfl
theorem q1197 : (Jvm.Cond.codeWith ({ cls := "WindFarmDispatcherLaw", name := "wakeLoss", desc := "(LWindFarmDispatcher;I[J)I" } : Jvm.MethodName) method_19_code (4 : Nat) (Option.some Jvm.ClassFile.FieldType.int) [((0 : Nat), (9 : Nat), (12 : Nat), (13 : Nat))]) ∈ lw_all := lw_g (lw_at lw_m5 162 rfl) rfl
theorem q1198 : (Jvm.Cond.methodLink "WindFarmDispatcherLaw" (70 : Nat) ({ cls := "WindFarmDispatcher", name := "wakeLoss", desc := "(I)I" } : Jvm.MethodName)) ∈ lw_all := lw_g (lw_at lw_m5 163 rfl) rfl
theorem q1206 : (Jvm.Cond.methodLink "WindFarmDispatcherLaw" (245 : Nat) ({ cls := "WindFarmDispatcherLaw", name := "availablePower", desc := "(LWindFarmDispatcher;I[J)I" } : Jvm.MethodName)) ∈ lw_all := lw_g (lw_at lw_m5 171 rfl) rfl
theorem q1207 : (Jvm.Cond.static ({ cls := "WindFarmDispatcherLaw", name := "availablePower", desc := "(LWindFarmDispatcher;I[J)I" } : Jvm.MethodName)) ∈ lw_all := lw_g (lw_at lw_m5 172 rfl) rfl
theorem q1208 : (Jvm.Cond.codeWith ({ cls := "WindFarmDispatcherLaw", name := "availablePower", desc := "(LWindFarmDispatcher;I[J)I" } : Jvm.MethodName) method_20_code (4 : Nat) (Option.some Jvm.ClassFile.FieldType.int) [((0 : Nat), (9 : Nat), (12 : Nat), (13 : Nat))]) ∈ lw_all := lw_g (lw_at lw_m5 173 rfl) rfl
theorem q1209 : (Jvm.Cond.methodLink "WindFarmDispatcherLaw" (73 : Nat) ({ cls := "WindFarmDispatcher", name := "availablePower", desc := "(I)I" } : Jvm.MethodName)) ∈ lw_all := lw_g (lw_at lw_m5 174 rfl) rfl
theorem q1218 : (Jvm.Cond.methodLink "WindFarmDispatcherLaw" (248 : Nat) ({ cls := "WindFarmDispatcherLaw", name := "outputOf", desc := "(LWindFarmDispatcher;I[J)I" } : Jvm.MethodName)) ∈ lw_all := lw_g (lw_at lw_m5 183 rfl) rfl
theorem q1219 : (Jvm.Cond.static ({ cls := "WindFarmDispatcherLaw", name := "outputOf", desc := "(LWindFarmDispatcher;I[J)I" } : Jvm.MethodName)) ∈ lw_all := lw_g (lw_at lw_m5 184 rfl) rfl
theorem q1220 : (Jvm.Cond.codeWith ({ cls := "WindFarmDispatcherLaw", name := "outputOf", desc := "(LWindFarmDispatcher;I[J)I" } : Jvm.MethodName) method_21_code (4 : Nat) (Option.some Jvm.ClassFile.FieldType.int) [((0 : Nat), (9 : Nat), (12 : Nat), (13 : Nat))]) ∈ lw_all := lw_g (lw_at lw_m5 185 rfl) rfl
theorem q1221 : (Jvm.Cond.methodLink "WindFarmDispatcherLaw" (76 : Nat) ({ cls := "WindFarmDispatcher", name := "outputOf", desc := "(I)I" } : Jvm.MethodName)) ∈ lw_all := lw_g (lw_at lw_m5 186 rfl) rfl
theorem q1226 : (Jvm.Cond.methodLink "WindFarmDispatcherLaw" (259 : Nat) ({ cls := "WindFarmDispatcherLaw", name := "outputWith", desc := "(LWindFarmDispatcher;CI[J)I" } : Jvm.MethodName)) ∈ lw_all := lw_g (lw_at lw_m5 191 rfl) rfl
theorem q1227 : (Jvm.Cond.static ({ cls := "WindFarmDispatcherLaw", name := "outputWith", desc := "(LWindFarmDispatcher;CI[J)I" } : Jvm.MethodName)) ∈ lw_all := lw_g (lw_at lw_m5 192 rfl) rfl
theorem q1228 : (Jvm.Cond.codeWith ({ cls := "WindFarmDispatcherLaw", name := "outputWith", desc := "(LWindFarmDispatcher;CI[J)I" } : Jvm.MethodName) method_22_code (5 : Nat) (Option.some Jvm.ClassFile.FieldType.int) [((0 : Nat), (10 : Nat), (13 : Nat), (15 : Nat))]) ∈ lw_all := lw_g (lw_at lw_m5 193 rfl) rfl
theorem q1229 : (Jvm.Cond.methodLink "WindFarmDispatcherLaw" (79 : Nat) ({ cls := "WindFarmDispatcher", name := "outputWith", desc := "(CI)I" } : Jvm.MethodName)) ∈ lw_all := lw_g (lw_at lw_m5 194 rfl) rfl
theorem q1234 : (Jvm.Cond.methodLink "WindFarmDispatcherLaw" (266 : Nat) ({ cls := "WindFarmDispatcherLaw", name := "setGridLimit", desc := "(LWindFarmDispatcher;I[J)I" } : Jvm.MethodName)) ∈ lw_all := lw_g (lw_at lw_m5 199 rfl) rfl
theorem q1235 : (Jvm.Cond.static ({ cls := "WindFarmDispatcherLaw", name := "setGridLimit", desc := "(LWindFarmDispatcher;I[J)I" } : Jvm.MethodName)) ∈ lw_all := lw_g (lw_at lw_m5 200 rfl) rfl
theorem q1236 : (Jvm.Cond.codeWith ({ cls := "WindFarmDispatcherLaw", name := "setGridLimit", desc := "(LWindFarmDispatcher;I[J)I" } : Jvm.MethodName) method_23_code (4 : Nat) (Option.some Jvm.ClassFile.FieldType.int) [((0 : Nat), (9 : Nat), (12 : Nat), (15 : Nat))]) ∈ lw_all := lw_g (lw_at lw_m5 201 rfl) rfl
theorem q1237 : (Jvm.Cond.methodLink "WindFarmDispatcherLaw" (82 : Nat) ({ cls := "WindFarmDispatcher", name := "setGridLimit", desc := "(I)I" } : Jvm.MethodName)) ∈ lw_all := lw_g (lw_at lw_m5 202 rfl) rfl
theorem q1244 : (Jvm.Cond.methodLink "WindFarmDispatcherLaw" (281 : Nat) ({ cls := "WindFarmDispatcherLaw", name := "placeBid", desc := "(LWindFarmDispatcher;III[J)I" } : Jvm.MethodName)) ∈ lw_all := lw_g (lw_at lw_m5 209 rfl) rfl
theorem q1245 : (Jvm.Cond.static ({ cls := "WindFarmDispatcherLaw", name := "placeBid", desc := "(LWindFarmDispatcher;III[J)I" } : Jvm.MethodName)) ∈ lw_all := lw_g (lw_at lw_m5 210 rfl) rfl
theorem q1246 : (Jvm.Cond.codeWith ({ cls := "WindFarmDispatcherLaw", name := "placeBid", desc := "(LWindFarmDispatcher;III[J)I" } : Jvm.MethodName) method_24_code (6 : Nat) (Option.some Jvm.ClassFile.FieldType.int) [((0 : Nat), (12 : Nat), (15 : Nat), (13 : Nat)), ((0 : Nat), (12 : Nat), (19 : Nat), (15 : Nat)), ((0 : Nat), (12 : Nat), (23 : Nat), (17 : Nat))]) ∈ lw_all := lw_g (lw_at lw_m5 211 rfl) rfl
theorem q1247 : (Jvm.Cond.methodLink "WindFarmDispatcherLaw" (85 : Nat) ({ cls := "WindFarmDispatcher", name := "placeBid", desc := "(III)I" } : Jvm.MethodName)) ∈ lw_all := lw_g (lw_at lw_m5 212 rfl) rfl
theorem q1257 : (Jvm.Cond.methodLink "WindFarmDispatcherLaw" (284 : Nat) ({ cls := "WindFarmDispatcherLaw", name := "withdrawBid", desc := "(LWindFarmDispatcher;I[J)I" } : Jvm.MethodName)) ∈ lw_all := lw_g (lw_at lw_m5 222 rfl) rfl
theorem q1258 : (Jvm.Cond.static ({ cls := "WindFarmDispatcherLaw", name := "withdrawBid", desc := "(LWindFarmDispatcher;I[J)I" } : Jvm.MethodName)) ∈ lw_all := lw_g (lw_at lw_m5 223 rfl) rfl
theorem q1259 : (Jvm.Cond.codeWith ({ cls := "WindFarmDispatcherLaw", name := "withdrawBid", desc := "(LWindFarmDispatcher;I[J)I" } : Jvm.MethodName) method_25_code (4 : Nat) (Option.some Jvm.ClassFile.FieldType.int) [((0 : Nat), (9 : Nat), (12 : Nat), (13 : Nat)), ((0 : Nat), (9 : Nat), (15 : Nat), (17 : Nat))]) ∈ lw_all := lw_g (lw_at lw_m5 224 rfl) rfl
theorem q1260 : (Jvm.Cond.methodLink "WindFarmDispatcherLaw" (88 : Nat) ({ cls := "WindFarmDispatcher", name := "withdrawBid", desc := "(I)I" } : Jvm.MethodName)) ∈ lw_all := lw_g (lw_at lw_m5 225 rfl) rfl
theorem q1264 : (Jvm.Cond.methodLink "WindFarmDispatcherLaw" (287 : Nat) ({ cls := "WindFarmDispatcherLaw", name := "hasBid", desc := "(LWindFarmDispatcher;I[J)I" } : Jvm.MethodName)) ∈ lw_all := lw_g (lw_at lw_m5 229 rfl) rfl
theorem q1265 : (Jvm.Cond.static ({ cls := "WindFarmDispatcherLaw", name := "hasBid", desc := "(LWindFarmDispatcher;I[J)I" } : Jvm.MethodName)) ∈ lw_all := lw_g (lw_at lw_m5 230 rfl) rfl
theorem q1266 : (Jvm.Cond.codeWith ({ cls := "WindFarmDispatcherLaw", name := "hasBid", desc := "(LWindFarmDispatcher;I[J)I" } : Jvm.MethodName) method_26_code (4 : Nat) (Option.some Jvm.ClassFile.FieldType.int) [((0 : Nat), (16 : Nat), (19 : Nat), (13 : Nat))]) ∈ lw_all := lw_g (lw_at lw_m5 231 rfl) rfl
theorem q1267 : (Jvm.Cond.methodLink "WindFarmDispatcherLaw" (91 : Nat) ({ cls := "WindFarmDispatcher", name := "hasBid", desc := "(I)Z" } : Jvm.MethodName)) ∈ lw_all := lw_g (lw_at lw_m5 232 rfl) rfl
theorem q1272 : (Jvm.Cond.methodLink "WindFarmDispatcherLaw" (290 : Nat) ({ cls := "WindFarmDispatcherLaw", name := "bidPrice", desc := "(LWindFarmDispatcher;I[J)I" } : Jvm.MethodName)) ∈ lw_all := lw_g (lw_at lw_m5 237 rfl) rfl
theorem q1273 : (Jvm.Cond.static ({ cls := "WindFarmDispatcherLaw", name := "bidPrice", desc := "(LWindFarmDispatcher;I[J)I" } : Jvm.MethodName)) ∈ lw_all := lw_g (lw_at lw_m5 238 rfl) rfl
theorem q1274 : (Jvm.Cond.codeWith ({ cls := "WindFarmDispatcherLaw", name := "bidPrice", desc := "(LWindFarmDispatcher;I[J)I" } : Jvm.MethodName) method_27_code (4 : Nat) (Option.some Jvm.ClassFile.FieldType.int) [((0 : Nat), (9 : Nat), (12 : Nat), (13 : Nat)), ((0 : Nat), (9 : Nat), (15 : Nat), (39 : Nat))]) ∈ lw_all := lw_g (lw_at lw_m5 239 rfl) rfl
theorem q1275 : (Jvm.Cond.methodLink "WindFarmDispatcherLaw" (94 : Nat) ({ cls := "WindFarmDispatcher", name := "bidPrice", desc := "(I)I" } : Jvm.MethodName)) ∈ lw_all := lw_g (lw_at lw_m6 0 rfl) rfl
theorem q1283 : (Jvm.Cond.methodLink "WindFarmDispatcherLaw" (293 : Nat) ({ cls := "WindFarmDispatcherLaw", name := "bidQuantity", desc := "(LWindFarmDispatcher;I[J)I" } : Jvm.MethodName)) ∈ lw_all := lw_g (lw_at lw_m6 8 rfl) rfl
theorem q1284 : (Jvm.Cond.static ({ cls := "WindFarmDispatcherLaw", name := "bidQuantity", desc := "(LWindFarmDispatcher;I[J)I" } : Jvm.MethodName)) ∈ lw_all := lw_g (lw_at lw_m6 9 rfl) rfl
theorem q1285 : (Jvm.Cond.codeWith ({ cls := "WindFarmDispatcherLaw", name := "bidQuantity", desc := "(LWindFarmDispatcher;I[J)I" } : Jvm.MethodName) method_28_code (4 : Nat) (Option.some Jvm.ClassFile.FieldType.int) [((0 : Nat), (9 : Nat), (12 : Nat), (13 : Nat)), ((0 : Nat), (9 : Nat), (15 : Nat), (39 : Nat))]) ∈ lw_all := lw_g (lw_at lw_m6 10 rfl) rfl
theorem q1286 : (Jvm.Cond.methodLink "WindFarmDispatcherLaw" (97 : Nat) ({ cls := "WindFarmDispatcher", name := "bidQuantity", desc := "(I)I" } : Jvm.MethodName)) ∈ lw_all := lw_g (lw_at lw_m6 11 rfl) rfl
theorem q1290 : (Jvm.Cond.methodLink "WindFarmDispatcherLaw" (296 : Nat) ({ cls := "WindFarmDispatcherLaw", name := "bidByPrice", desc := "(LWindFarmDispatcher;I[J)I" } : Jvm.MethodName)) ∈ lw_all := lw_g (lw_at lw_m6 15 rfl) rfl
theorem q1291 : (Jvm.Cond.static ({ cls := "WindFarmDispatcherLaw", name := "bidByPrice", desc := "(LWindFarmDispatcher;I[J)I" } : Jvm.MethodName)) ∈ lw_all := lw_g (lw_at lw_m6 16 rfl) rfl
theorem q1292 : (Jvm.Cond.codeWith ({ cls := "WindFarmDispatcherLaw", name := "bidByPrice", desc := "(LWindFarmDispatcher;I[J)I" } : Jvm.MethodName) method_29_code (4 : Nat) (Option.some Jvm.ClassFile.FieldType.int) [((0 : Nat), (9 : Nat), (12 : Nat), (39 : Nat))]) ∈ lw_all := lw_g (lw_at lw_m6 17 rfl) rfl
theorem q1293 : (Jvm.Cond.methodLink "WindFarmDispatcherLaw" (100 : Nat) ({ cls := "WindFarmDispatcher", name := "bidByPrice", desc := "(I)I" } : Jvm.MethodName)) ∈ lw_all := lw_g (lw_at lw_m6 18 rfl) rfl
theorem q1305 : (Jvm.Cond.methodLink "WindFarmDispatcherLaw" (299 : Nat) ({ cls := "WindFarmDispatcherLaw", name := "passHours", desc := "(LWindFarmDispatcher;I[J)I" } : Jvm.MethodName)) ∈ lw_all := lw_g (lw_at lw_m6 30 rfl) rfl
theorem q1306 : (Jvm.Cond.static ({ cls := "WindFarmDispatcherLaw", name := "passHours", desc := "(LWindFarmDispatcher;I[J)I" } : Jvm.MethodName)) ∈ lw_all := lw_g (lw_at lw_m6 31 rfl) rfl
theorem q1307 : (Jvm.Cond.codeWith ({ cls := "WindFarmDispatcherLaw", name := "passHours", desc := "(LWindFarmDispatcher;I[J)I" } : Jvm.MethodName) method_30_code (4 : Nat) (Option.some Jvm.ClassFile.FieldType.int) [((0 : Nat), (9 : Nat), (12 : Nat), (15 : Nat))]) ∈ lw_all := lw_g (lw_at lw_m6 32 rfl) rfl
theorem q1308 : (Jvm.Cond.methodLink "WindFarmDispatcherLaw" (103 : Nat) ({ cls := "WindFarmDispatcher", name := "passHours", desc := "(I)I" } : Jvm.MethodName)) ∈ lw_all := lw_g (lw_at lw_m6 33 rfl) rfl
theorem q1315 : (Jvm.Cond.methodLink "WindFarmDispatcherLaw" (306 : Nat) ({ cls := "WindFarmDispatcherLaw", name := "incomeWithin", desc := "(LWindFarmDispatcher;I[J)I" } : Jvm.MethodName)) ∈ lw_all := lw_g (lw_at lw_m6 40 rfl) rfl
theorem q1316 : (Jvm.Cond.static ({ cls := "WindFarmDispatcherLaw", name := "incomeWithin", desc := "(LWindFarmDispatcher;I[J)I" } : Jvm.MethodName)) ∈ lw_all := lw_g (lw_at lw_m6 41 rfl) rfl
theorem q1317 : (Jvm.Cond.codeWith ({ cls := "WindFarmDispatcherLaw", name := "incomeWithin", desc := "(LWindFarmDispatcher;I[J)I" } : Jvm.MethodName) method_31_code (4 : Nat) (Option.some Jvm.ClassFile.FieldType.int) [((0 : Nat), (9 : Nat), (12 : Nat), (15 : Nat))]) ∈ lw_all := lw_g (lw_at lw_m6 42 rfl) rfl
theorem q1318 : (Jvm.Cond.methodLink "WindFarmDispatcherLaw" (106 : Nat) ({ cls := "WindFarmDispatcher", name := "incomeWithin", desc := "(I)I" } : Jvm.MethodName)) ∈ lw_all := lw_g (lw_at lw_m6 43 rfl) rfl
theorem q1328 : (Jvm.Cond.methodLink "WindFarmDispatcherLaw" (309 : Nat) ({ cls := "WindFarmDispatcherLaw", name := "hoursToBid", desc := "(LWindFarmDispatcher;[J)I" } : Jvm.MethodName)) ∈ lw_all := lw_g (lw_at lw_m6 53 rfl) rfl
theorem q1329 : (Jvm.Cond.static ({ cls := "WindFarmDispatcherLaw", name := "hoursToBid", desc := "(LWindFarmDispatcher;[J)I" } : Jvm.MethodName)) ∈ lw_all := lw_g (lw_at lw_m6 54 rfl) rfl
theorem q1330 : (Jvm.Cond.codeWith ({ cls := "WindFarmDispatcherLaw", name := "hoursToBid", desc := "(LWindFarmDispatcher;[J)I" } : Jvm.MethodName) method_32_code (3 : Nat) (Option.some Jvm.ClassFile.FieldType.int) [((0 : Nat), (8 : Nat), (11 : Nat), (39 : Nat))]) ∈ lw_all := lw_g (lw_at lw_m6 55 rfl) rfl
theorem q1331 : (Jvm.Cond.methodLink "WindFarmDispatcherLaw" (109 : Nat) ({ cls := "WindFarmDispatcher", name := "hoursToBid", desc := "()I" } : Jvm.MethodName)) ∈ lw_all := lw_g (lw_at lw_m6 56 rfl) rfl
theorem q1339 : (Jvm.Cond.methodLink "WindFarmDispatcherLaw" (334 : Nat) ({ cls := "WindFarmDispatcherLaw", name := "turbineByOutput", desc := "(LWindFarmDispatcher;I[J)I" } : Jvm.MethodName)) ∈ lw_all := lw_g (lw_at lw_m6 64 rfl) rfl
theorem q1340 : (Jvm.Cond.static ({ cls := "WindFarmDispatcherLaw", name := "turbineByOutput", desc := "(LWindFarmDispatcher;I[J)I" } : Jvm.MethodName)) ∈ lw_all := lw_g (lw_at lw_m6 65 rfl) rfl
theorem q1341 : (Jvm.Cond.codeWith ({ cls := "WindFarmDispatcherLaw", name := "turbineByOutput", desc := "(LWindFarmDispatcher;I[J)I" } : Jvm.MethodName) method_33_code (4 : Nat) (Option.some Jvm.ClassFile.FieldType.int) [((0 : Nat), (9 : Nat), (12 : Nat), (39 : Nat))]) ∈ lw_all := lw_g (lw_at lw_m6 66 rfl) rfl
theorem q1342 : (Jvm.Cond.methodLink "WindFarmDispatcherLaw" (113 : Nat) ({ cls := "WindFarmDispatcher", name := "turbineByOutput", desc := "(I)I" } : Jvm.MethodName)) ∈ lw_all := lw_g (lw_at lw_m6 67 rfl) rfl
theorem q1347 : (Jvm.Cond.methodLink "WindFarmDispatcherLaw" (337 : Nat) ({ cls := "WindFarmDispatcherLaw", name := "meanOutput", desc := "(LWindFarmDispatcher;[D)I" } : Jvm.MethodName)) ∈ lw_all := lw_g (lw_at lw_m6 72 rfl) rfl
theorem q1348 : (Jvm.Cond.static ({ cls := "WindFarmDispatcherLaw", name := "meanOutput", desc := "(LWindFarmDispatcher;[D)I" } : Jvm.MethodName)) ∈ lw_all := lw_g (lw_at lw_m6 73 rfl) rfl
theorem q1349 : (Jvm.Cond.codeWith ({ cls := "WindFarmDispatcherLaw", name := "meanOutput", desc := "(LWindFarmDispatcher;[D)I" } : Jvm.MethodName) method_34_code (3 : Nat) (Option.some Jvm.ClassFile.FieldType.int) [((0 : Nat), (7 : Nat), (10 : Nat), (120 : Nat))]) ∈ lw_all := lw_g (lw_at lw_m6 74 rfl) rfl
theorem q1350 : (Jvm.Cond.classLink "WindFarmDispatcherLaw" (120 : Nat) "java/lang/ArithmeticException") ∈ lw_all := lw_g (lw_at lw_m6 75 rfl) rfl
theorem q1364 : (Jvm.Cond.methodLink "WindFarmDispatcherLaw" (116 : Nat) ({ cls := "WindFarmDispatcher", name := "meanOutput", desc := "()D" } : Jvm.MethodName)) ∈ lw_all := lw_g (lw_at lw_m6 89 rfl) rfl
theorem q1378 : (Jvm.Cond.methodLink "WindFarmDispatcherLaw" (341 : Nat) ({ cls := "WindFarmDispatcherLaw", name := "runningShare", desc := "(LWindFarmDispatcher;[D)I" } : Jvm.MethodName)) ∈ lw_all := lw_g (lw_at lw_m6 103 rfl) rfl
theorem q1379 : (Jvm.Cond.static ({ cls := "WindFarmDispatcherLaw", name := "runningShare", desc := "(LWindFarmDispatcher;[D)I" } : Jvm.MethodName)) ∈ lw_all := lw_g (lw_at lw_m6 104 rfl) rfl
theorem q1380 : (Jvm.Cond.codeWith ({ cls := "WindFarmDispatcherLaw", name := "runningShare", desc := "(LWindFarmDispatcher;[D)I" } : Jvm.MethodName) method_35_code (3 : Nat) (Option.some Jvm.ClassFile.FieldType.int) [((0 : Nat), (8 : Nat), (11 : Nat), (120 : Nat))]) ∈ lw_all := lw_g (lw_at lw_m6 105 rfl) rfl
theorem q1381 : (Jvm.Cond.methodLink "WindFarmDispatcherLaw" (122 : Nat) ({ cls := "WindFarmDispatcher", name := "runningShare", desc := "()F" } : Jvm.MethodName)) ∈ lw_all := lw_g (lw_at lw_m6 106 rfl) rfl
theorem q1386 : (Jvm.Cond.methodLink "WindFarmDispatcherLaw" (349 : Nat) ({ cls := "WindFarmDispatcherLaw", name := "writeTurbine", desc := "(LWindFarmDispatcher;I[J)I" } : Jvm.MethodName)) ∈ lw_all := lw_g (lw_at lw_m6 111 rfl) rfl
theorem q1387 : (Jvm.Cond.static ({ cls := "WindFarmDispatcherLaw", name := "writeTurbine", desc := "(LWindFarmDispatcher;I[J)I" } : Jvm.MethodName)) ∈ lw_all := lw_g (lw_at lw_m6 112 rfl) rfl
theorem q1388 : (Jvm.Cond.codeWith ({ cls := "WindFarmDispatcherLaw", name := "writeTurbine", desc := "(LWindFarmDispatcher;I[J)I" } : Jvm.MethodName) method_36_code (4 : Nat) (Option.some Jvm.ClassFile.FieldType.int) [((0 : Nat), (9 : Nat), (12 : Nat), (13 : Nat))]) ∈ lw_all := lw_g (lw_at lw_m6 113 rfl) rfl
theorem q1389 : (Jvm.Cond.methodLink "WindFarmDispatcherLaw" (126 : Nat) ({ cls := "WindFarmDispatcher", name := "writeTurbine", desc := "(I)I" } : Jvm.MethodName)) ∈ lw_all := lw_g (lw_at lw_m6 114 rfl) rfl
theorem q1634 : (Jvm.Cond.methodLink "WindFarmDispatcherLaw" (352 : Nat) ({ cls := "WindFarmDispatcherLaw", name := "outputAt", desc := "(LWindFarmDispatcher;I[J)I" } : Jvm.MethodName)) ∈ lw_all := lw_g (lw_at lw_m7 119 rfl) rfl
theorem q1635 : (Jvm.Cond.static ({ cls := "WindFarmDispatcherLaw", name := "outputAt", desc := "(LWindFarmDispatcher;I[J)I" } : Jvm.MethodName)) ∈ lw_all := lw_g (lw_at lw_m7 120 rfl) rfl
theorem q1636 : (Jvm.Cond.codeWith ({ cls := "WindFarmDispatcherLaw", name := "outputAt", desc := "(LWindFarmDispatcher;I[J)I" } : Jvm.MethodName) method_37_code (4 : Nat) (Option.some Jvm.ClassFile.FieldType.int) [((0 : Nat), (9 : Nat), (12 : Nat), (13 : Nat))]) ∈ lw_all := lw_g (lw_at lw_m7 121 rfl) rfl
theorem q1637 : (Jvm.Cond.methodLink "WindFarmDispatcherLaw" (129 : Nat) ({ cls := "WindFarmDispatcher", name := "outputAt", desc := "(I)C" } : Jvm.MethodName)) ∈ lw_all := lw_g (lw_at lw_m7 122 rfl) rfl
theorem q1663 : (Jvm.Cond.methodLink "WindFarmDispatcherLaw" (355 : Nat) ({ cls := "WindFarmDispatcherLaw", name := "appendInput", desc := "(LWindFarmDispatcher;C[J)I" } : Jvm.MethodName)) ∈ lw_all := lw_g (lw_at lw_m7 148 rfl) rfl
theorem q1664 : (Jvm.Cond.static ({ cls := "WindFarmDispatcherLaw", name := "appendInput", desc := "(LWindFarmDispatcher;C[J)I" } : Jvm.MethodName)) ∈ lw_all := lw_g (lw_at lw_m7 149 rfl) rfl
theorem q1665 : (Jvm.Cond.codeWith ({ cls := "WindFarmDispatcherLaw", name := "appendInput", desc := "(LWindFarmDispatcher;C[J)I" } : Jvm.MethodName) method_38_code (4 : Nat) (Option.some Jvm.ClassFile.FieldType.int) [((0 : Nat), (9 : Nat), (12 : Nat), (15 : Nat)), ((0 : Nat), (9 : Nat), (15 : Nat), (137 : Nat))]) ∈ lw_all := lw_g (lw_at lw_m7 150 rfl) rfl
theorem q1666 : (Jvm.Cond.classLink "WindFarmDispatcherLaw" (137 : Nat) "java/lang/IllegalStateException") ∈ lw_all := lw_g (lw_at lw_m7 151 rfl) rfl
theorem q1667 : (Jvm.Cond.methodLink "WindFarmDispatcherLaw" (133 : Nat) ({ cls := "WindFarmDispatcher", name := "appendInput", desc := "(C)I" } : Jvm.MethodName)) ∈ lw_all := lw_g (lw_at lw_m7 152 rfl) rfl
theorem q1703 : (Jvm.Cond.methodLink "WindFarmDispatcherLaw" (359 : Nat) ({ cls := "WindFarmDispatcherLaw", name := "execute", desc := "(LWindFarmDispatcher;[J)I" } : Jvm.MethodName)) ∈ lw_all := lw_g (lw_at lw_m7 188 rfl) rfl
theorem q1704 : (Jvm.Cond.static ({ cls := "WindFarmDispatcherLaw", name := "execute", desc := "(LWindFarmDispatcher;[J)I" } : Jvm.MethodName)) ∈ lw_all := lw_g (lw_at lw_m7 189 rfl) rfl
theorem q1705 : (Jvm.Cond.codeWith ({ cls := "WindFarmDispatcherLaw", name := "execute", desc := "(LWindFarmDispatcher;[J)I" } : Jvm.MethodName) method_39_code (3 : Nat) (Option.some Jvm.ClassFile.FieldType.int) [((0 : Nat), (8 : Nat), (11 : Nat), (15 : Nat)), ((0 : Nat), (8 : Nat), (14 : Nat), (137 : Nat)), ((0 : Nat), (8 : Nat), (17 : Nat), (17 : Nat))]) ∈ lw_all := lw_g (lw_at lw_m7 190 rfl) rfl
theorem q1706 : (Jvm.Cond.methodLink "WindFarmDispatcherLaw" (139 : Nat) ({ cls := "WindFarmDispatcher", name := "execute", desc := "()I" } : Jvm.MethodName)) ∈ lw_all := lw_g (lw_at lw_m7 191 rfl) rfl
theorem q1924 : (Jvm.Cond.methodLink "WindFarmDispatcherLaw" (362 : Nat) ({ cls := "WindFarmDispatcherLaw", name := "syntaxErrorOffset", desc := "(LWindFarmDispatcher;[J)I" } : Jvm.MethodName)) ∈ lw_all := lw_g (lw_at lw_m8 169 rfl) rfl
theorem q1925 : (Jvm.Cond.static ({ cls := "WindFarmDispatcherLaw", name := "syntaxErrorOffset", desc := "(LWindFarmDispatcher;[J)I" } : Jvm.MethodName)) ∈ lw_all := lw_g (lw_at lw_m8 170 rfl) rfl
theorem q1926 : (Jvm.Cond.codeWith ({ cls := "WindFarmDispatcherLaw", name := "syntaxErrorOffset", desc := "(LWindFarmDispatcher;[J)I" } : Jvm.MethodName) method_40_code (3 : Nat) (Option.some Jvm.ClassFile.FieldType.int) [((0 : Nat), (8 : Nat), (11 : Nat), (39 : Nat))]) ∈ lw_all := lw_g (lw_at lw_m8 171 rfl) rfl
theorem q1927 : (Jvm.Cond.methodLink "WindFarmDispatcherLaw" (142 : Nat) ({ cls := "WindFarmDispatcher", name := "syntaxErrorOffset", desc := "()I" } : Jvm.MethodName)) ∈ lw_all := lw_g (lw_at lw_m8 172 rfl) rfl
theorem q1931 : (Jvm.Cond.methodLink "WindFarmDispatcherLaw" (365 : Nat) ({ cls := "WindFarmDispatcherLaw", name := "rejectionReason", desc := "(LWindFarmDispatcher;[J)I" } : Jvm.MethodName)) ∈ lw_all := lw_g (lw_at lw_m8 176 rfl) rfl
theorem q1932 : (Jvm.Cond.static ({ cls := "WindFarmDispatcherLaw", name := "rejectionReason", desc := "(LWindFarmDispatcher;[J)I" } : Jvm.MethodName)) ∈ lw_all := lw_g (lw_at lw_m8 177 rfl) rfl
theorem q1933 : (Jvm.Cond.codeWith ({ cls := "WindFarmDispatcherLaw", name := "rejectionReason", desc := "(LWindFarmDispatcher;[J)I" } : Jvm.MethodName) method_41_code (3 : Nat) (Option.some Jvm.ClassFile.FieldType.int) [((0 : Nat), (8 : Nat), (11 : Nat), (39 : Nat))]) ∈ lw_all := lw_g (lw_at lw_m8 178 rfl) rfl
theorem q1934 : (Jvm.Cond.methodLink "WindFarmDispatcherLaw" (145 : Nat) ({ cls := "WindFarmDispatcher", name := "rejectionReason", desc := "()I" } : Jvm.MethodName)) ∈ lw_all := lw_g (lw_at lw_m8 179 rfl) rfl
theorem q1938 : (Jvm.Cond.methodLink "WindFarmDispatcherLaw" (368 : Nat) ({ cls := "WindFarmDispatcherLaw", name := "rejectionDetail", desc := "(LWindFarmDispatcher;[J)I" } : Jvm.MethodName)) ∈ lw_all := lw_g (lw_at lw_m8 183 rfl) rfl
theorem q1939 : (Jvm.Cond.static ({ cls := "WindFarmDispatcherLaw", name := "rejectionDetail", desc := "(LWindFarmDispatcher;[J)I" } : Jvm.MethodName)) ∈ lw_all := lw_g (lw_at lw_m8 184 rfl) rfl
theorem q1940 : (Jvm.Cond.codeWith ({ cls := "WindFarmDispatcherLaw", name := "rejectionDetail", desc := "(LWindFarmDispatcher;[J)I" } : Jvm.MethodName) method_42_code (3 : Nat) (Option.some Jvm.ClassFile.FieldType.int) [((0 : Nat), (8 : Nat), (11 : Nat), (39 : Nat))]) ∈ lw_all := lw_g (lw_at lw_m8 185 rfl) rfl
theorem q1941 : (Jvm.Cond.methodLink "WindFarmDispatcherLaw" (148 : Nat) ({ cls := "WindFarmDispatcher", name := "rejectionDetail", desc := "()I" } : Jvm.MethodName)) ∈ lw_all := lw_g (lw_at lw_m8 186 rfl) rfl
theorem q1945 : (Jvm.Cond.methodLink "WindFarmDispatcherLaw" (371 : Nat) ({ cls := "WindFarmDispatcherLaw", name := "causeReason", desc := "(LWindFarmDispatcher;[J)I" } : Jvm.MethodName)) ∈ lw_all := lw_g (lw_at lw_m8 190 rfl) rfl
theorem q1946 : (Jvm.Cond.static ({ cls := "WindFarmDispatcherLaw", name := "causeReason", desc := "(LWindFarmDispatcher;[J)I" } : Jvm.MethodName)) ∈ lw_all := lw_g (lw_at lw_m8 191 rfl) rfl
theorem q1947 : (Jvm.Cond.codeWith ({ cls := "WindFarmDispatcherLaw", name := "causeReason", desc := "(LWindFarmDispatcher;[J)I" } : Jvm.MethodName) method_43_code (3 : Nat) (Option.some Jvm.ClassFile.FieldType.int) [((0 : Nat), (8 : Nat), (11 : Nat), (39 : Nat))]) ∈ lw_all := lw_g (lw_at lw_m8 192 rfl) rfl
theorem q1948 : (Jvm.Cond.methodLink "WindFarmDispatcherLaw" (151 : Nat) ({ cls := "WindFarmDispatcher", name := "causeReason", desc := "()I" } : Jvm.MethodName)) ∈ lw_all := lw_g (lw_at lw_m8 193 rfl) rfl
theorem q1952 : (Jvm.Cond.methodLink "WindFarmDispatcherLaw" (374 : Nat) ({ cls := "WindFarmDispatcherLaw", name := "undo", desc := "(LWindFarmDispatcher;[J)I" } : Jvm.MethodName)) ∈ lw_all := lw_g (lw_at lw_m8 197 rfl) rfl
theorem q1953 : (Jvm.Cond.static ({ cls := "WindFarmDispatcherLaw", name := "undo", desc := "(LWindFarmDispatcher;[J)I" } : Jvm.MethodName)) ∈ lw_all := lw_g (lw_at lw_m8 198 rfl) rfl
theorem q1954 : (Jvm.Cond.codeWith ({ cls := "WindFarmDispatcherLaw", name := "undo", desc := "(LWindFarmDispatcher;[J)I" } : Jvm.MethodName) method_44_code (3 : Nat) (Option.some Jvm.ClassFile.FieldType.int) [((0 : Nat), (8 : Nat), (11 : Nat), (137 : Nat))]) ∈ lw_all := lw_g (lw_at lw_m8 199 rfl) rfl
theorem q1955 : (Jvm.Cond.methodLink "WindFarmDispatcherLaw" (154 : Nat) ({ cls := "WindFarmDispatcher", name := "undo", desc := "()I" } : Jvm.MethodName)) ∈ lw_all := lw_g (lw_at lw_m8 200 rfl) rfl
theorem q1959 : (Jvm.Cond.methodLink "WindFarmDispatcherLaw" (381 : Nat) ({ cls := "WindFarmDispatcherLaw", name := "restoreSnapshot", desc := "(LWindFarmDispatcher;[J)I" } : Jvm.MethodName)) ∈ lw_all := lw_g (lw_at lw_m8 204 rfl) rfl
theorem q1960 : (Jvm.Cond.static ({ cls := "WindFarmDispatcherLaw", name := "restoreSnapshot", desc := "(LWindFarmDispatcher;[J)I" } : Jvm.MethodName)) ∈ lw_all := lw_g (lw_at lw_m8 205 rfl) rfl
theorem q1961 : (Jvm.Cond.codeWith ({ cls := "WindFarmDispatcherLaw", name := "restoreSnapshot", desc := "(LWindFarmDispatcher;[J)I" } : Jvm.MethodName) method_45_code (3 : Nat) (Option.some Jvm.ClassFile.FieldType.int) [((0 : Nat), (8 : Nat), (11 : Nat), (137 : Nat))]) ∈ lw_all := lw_g (lw_at lw_m8 206 rfl) rfl
theorem q1962 : (Jvm.Cond.methodLink "WindFarmDispatcherLaw" (157 : Nat) ({ cls := "WindFarmDispatcher", name := "restoreSnapshot", desc := "()I" } : Jvm.MethodName)) ∈ lw_all := lw_g (lw_at lw_m8 207 rfl) rfl
theorem q1970 : (Jvm.Cond.classLink "WindFarmDispatcherLaw" (161 : Nat) "WindFarmDispatcherModel") ∈ lw_all := lw_g (lw_at lw_m8 215 rfl) rfl
theorem q1972 : (Jvm.Cond.methodLink "WindFarmDispatcherLaw" (163 : Nat) ({ cls := "WindFarmDispatcherModel", name := "<init>", desc := "()V" } : Jvm.MethodName)) ∈ lw_all := lw_g (lw_at lw_m8 217 rfl) rfl
theorem q2029 : (Jvm.Cond.methodLink "WindFarmDispatcherLaw" (170 : Nat) ({ cls := "WindFarmDispatcherModel", name := "thrown", desc := "()I" } : Jvm.MethodName)) ∈ lw_all := lw_g (lw_at lw_m9 34 rfl) rfl
theorem q2033 : (Jvm.Cond.methodLink "WindFarmDispatcherLaw" (367 : Nat) ({ cls := "WindFarmDispatcherModel", name := "rejectionReason", desc := "()I" } : Jvm.MethodName)) ∈ lw_all := lw_g (lw_at lw_m9 38 rfl) rfl
theorem q2041 : (Jvm.Cond.methodLink "WindFarmDispatcherLaw" (370 : Nat) ({ cls := "WindFarmDispatcherModel", name := "rejectionDetail", desc := "()I" } : Jvm.MethodName)) ∈ lw_all := lw_g (lw_at lw_m9 46 rfl) rfl
theorem q2045 : (Jvm.Cond.methodLink "WindFarmDispatcherLaw" (373 : Nat) ({ cls := "WindFarmDispatcherModel", name := "causeReason", desc := "()I" } : Jvm.MethodName)) ∈ lw_all := lw_g (lw_at lw_m9 50 rfl) rfl
theorem q2049 : (Jvm.Cond.methodLink "WindFarmDispatcherLaw" (169 : Nat) ({ cls := "WindFarmDispatcherModel", name := "addTurbine", desc := "(III)I" } : Jvm.MethodName)) ∈ lw_all := lw_g (lw_at lw_m9 54 rfl) rfl
theorem q2091 : (Jvm.Cond.methodLink "WindFarmDispatcherLaw" (176 : Nat) ({ cls := "WindFarmDispatcherModel", name := "fail", desc := "(I)I" } : Jvm.MethodName)) ∈ lw_all := lw_g (lw_at lw_m9 96 rfl) rfl
theorem q2107 : (Jvm.Cond.methodLink "WindFarmDispatcherLaw" (180 : Nat) ({ cls := "WindFarmDispatcherModel", name := "sendCrew", desc := "(II)I" } : Jvm.MethodName)) ∈ lw_all := lw_g (lw_at lw_m9 112 rfl) rfl
theorem q2138 : (Jvm.Cond.methodLink "WindFarmDispatcherLaw" (183 : Nat) ({ cls := "WindFarmDispatcherModel", name := "recallCrew", desc := "(I)I" } : Jvm.MethodName)) ∈ lw_all := lw_g (lw_at lw_m9 143 rfl) rfl
theorem q2146 : (Jvm.Cond.methodLink "WindFarmDispatcherLaw" (186 : Nat) ({ cls := "WindFarmDispatcherModel", name := "curtail", desc := "(II)I" } : Jvm.MethodName)) ∈ lw_all := lw_g (lw_at lw_m9 151 rfl) rfl
theorem q2154 : (Jvm.Cond.methodLink "WindFarmDispatcherLaw" (189 : Nat) ({ cls := "WindFarmDispatcherModel", name := "release", desc := "(I)I" } : Jvm.MethodName)) ∈ lw_all := lw_g (lw_at lw_m9 159 rfl) rfl
theorem q2162 : (Jvm.Cond.methodLink "WindFarmDispatcherLaw" (228 : Nat) ({ cls := "WindFarmDispatcherModel", name := "setWind", desc := "(CI)I" } : Jvm.MethodName)) ∈ lw_all := lw_g (lw_at lw_m9 167 rfl) rfl
theorem q2177 : (Jvm.Cond.methodLink "WindFarmDispatcherLaw" (268 : Nat) ({ cls := "WindFarmDispatcherModel", name := "setGridLimit", desc := "(I)I" } : Jvm.MethodName)) ∈ lw_all := lw_g (lw_at lw_m9 182 rfl) rfl
theorem q2185 : (Jvm.Cond.methodLink "WindFarmDispatcherLaw" (276 : Nat) ({ cls := "WindFarmDispatcherModel", name := "dispatch", desc := "()I" } : Jvm.MethodName)) ∈ lw_all := lw_g (lw_at lw_m9 190 rfl) rfl
theorem q2193 : (Jvm.Cond.methodLink "WindFarmDispatcherLaw" (280 : Nat) ({ cls := "WindFarmDispatcherModel", name := "releaseAll", desc := "()I" } : Jvm.MethodName)) ∈ lw_all := lw_g (lw_at lw_m9 198 rfl) rfl
theorem q2201 : (Jvm.Cond.methodLink "WindFarmDispatcherLaw" (283 : Nat) ({ cls := "WindFarmDispatcherModel", name := "placeBid", desc := "(III)I" } : Jvm.MethodName)) ∈ lw_all := lw_g (lw_at lw_m9 206 rfl) rfl
theorem q2220 : (Jvm.Cond.methodLink "WindFarmDispatcherLaw" (286 : Nat) ({ cls := "WindFarmDispatcherModel", name := "withdrawBid", desc := "(I)I" } : Jvm.MethodName)) ∈ lw_all := lw_g (lw_at lw_m9 225 rfl) rfl
theorem q2232 : (Jvm.Cond.methodLink "WindFarmDispatcherLaw" (301 : Nat) ({ cls := "WindFarmDispatcherModel", name := "passHours", desc := "(I)I" } : Jvm.MethodName)) ∈ lw_all := lw_g (lw_at lw_m9 237 rfl) rfl
theorem q2244 : (Jvm.Cond.methodLink "WindFarmDispatcherLaw" (193 : Nat) ({ cls := "WindFarmDispatcherModel", name := "turbineCount", desc := "()I" } : Jvm.MethodName)) ∈ lw_all := lw_g (lw_at lw_m10 9 rfl) rfl
theorem q2248 : (Jvm.Cond.methodLink "WindFarmDispatcherLaw" (196 : Nat) ({ cls := "WindFarmDispatcherModel", name := "turbineAt", desc := "(II)I" } : Jvm.MethodName)) ∈ lw_all := lw_g (lw_at lw_m10 13 rfl) rfl
theorem q2252 : (Jvm.Cond.methodLink "WindFarmDispatcherLaw" (199 : Nat) ({ cls := "WindFarmDispatcherModel", name := "rowOf", desc := "(I)I" } : Jvm.MethodName)) ∈ lw_all := lw_g (lw_at lw_m10 17 rfl) rfl
theorem q2260 : (Jvm.Cond.methodLink "WindFarmDispatcherLaw" (202 : Nat) ({ cls := "WindFarmDispatcherModel", name := "columnOf", desc := "(I)I" } : Jvm.MethodName)) ∈ lw_all := lw_g (lw_at lw_m10 25 rfl) rfl
theorem q2264 : (Jvm.Cond.methodLink "WindFarmDispatcherLaw" (205 : Nat) ({ cls := "WindFarmDispatcherModel", name := "ratedPower", desc := "(I)I" } : Jvm.MethodName)) ∈ lw_all := lw_g (lw_at lw_m10 29 rfl) rfl
theorem q2268 : (Jvm.Cond.methodLink "WindFarmDispatcherLaw" (208 : Nat) ({ cls := "WindFarmDispatcherModel", name := "isRunning", desc := "(I)Z" } : Jvm.MethodName)) ∈ lw_all := lw_g (lw_at lw_m10 33 rfl) rfl
theorem q2272 : (Jvm.Cond.methodLink "WindFarmDispatcherLaw" (211 : Nat) ({ cls := "WindFarmDispatcherModel", name := "isFailed", desc := "(I)Z" } : Jvm.MethodName)) ∈ lw_all := lw_g (lw_at lw_m10 37 rfl) rfl
theorem q2276 : (Jvm.Cond.methodLink "WindFarmDispatcherLaw" (214 : Nat) ({ cls := "WindFarmDispatcherModel", name := "isInService", desc := "(I)Z" } : Jvm.MethodName)) ∈ lw_all := lw_g (lw_at lw_m10 41 rfl) rfl
theorem q2280 : (Jvm.Cond.methodLink "WindFarmDispatcherLaw" (217 : Nat) ({ cls := "WindFarmDispatcherModel", name := "limitOf", desc := "(I)I" } : Jvm.MethodName)) ∈ lw_all := lw_g (lw_at lw_m10 45 rfl) rfl
theorem q2284 : (Jvm.Cond.methodLink "WindFarmDispatcherLaw" (220 : Nat) ({ cls := "WindFarmDispatcherModel", name := "serviceHoursLeft", desc := "(I)I" } : Jvm.MethodName)) ∈ lw_all := lw_g (lw_at lw_m10 49 rfl) rfl
theorem q2288 : (Jvm.Cond.methodLink "WindFarmDispatcherLaw" (224 : Nat) ({ cls := "WindFarmDispatcherModel", name := "freeCrews", desc := "()I" } : Jvm.MethodName)) ∈ lw_all := lw_g (lw_at lw_m10 53 rfl) rfl
theorem q2292 : (Jvm.Cond.methodLink "WindFarmDispatcherLaw" (233 : Nat) ({ cls := "WindFarmDispatcherModel", name := "windDirection", desc := "()C" } : Jvm.MethodName)) ∈ lw_all := lw_g (lw_at lw_m10 57 rfl) rfl
theorem q2299 : (Jvm.Cond.methodLink "WindFarmDispatcherLaw" (237 : Nat) ({ cls := "WindFarmDispatcherModel", name := "windSpeed", desc := "()I" } : Jvm.MethodName)) ∈ lw_all := lw_g (lw_at lw_m10 64 rfl) rfl
theorem q2303 : (Jvm.Cond.methodLink "WindFarmDispatcherLaw" (241 : Nat) ({ cls := "WindFarmDispatcherModel", name := "powerFactor", desc := "()I" } : Jvm.MethodName)) ∈ lw_all := lw_g (lw_at lw_m10 68 rfl) rfl
theorem q2307 : (Jvm.Cond.methodLink "WindFarmDispatcherLaw" (244 : Nat) ({ cls := "WindFarmDispatcherModel", name := "wakeLoss", desc := "(I)I" } : Jvm.MethodName)) ∈ lw_all := lw_g (lw_at lw_m10 72 rfl) rfl
theorem q2311 : (Jvm.Cond.methodLink "WindFarmDispatcherLaw" (247 : Nat) ({ cls := "WindFarmDispatcherModel", name := "availablePower", desc := "(I)I" } : Jvm.MethodName)) ∈ lw_all := lw_g (lw_at lw_m10 76 rfl) rfl
theorem q2315 : (Jvm.Cond.methodLink "WindFarmDispatcherLaw" (250 : Nat) ({ cls := "WindFarmDispatcherModel", name := "outputOf", desc := "(I)I" } : Jvm.MethodName)) ∈ lw_all := lw_g (lw_at lw_m10 80 rfl) rfl
theorem q2319 : (Jvm.Cond.methodLink "WindFarmDispatcherLaw" (254 : Nat) ({ cls := "WindFarmDispatcherModel", name := "totalOutput", desc := "()I" } : Jvm.MethodName)) ∈ lw_all := lw_g (lw_at lw_m10 84 rfl) rfl
theorem q2323 : (Jvm.Cond.methodLink "WindFarmDispatcherLaw" (258 : Nat) ({ cls := "WindFarmDispatcherModel", name := "totalOutputByLines", desc := "()I" } : Jvm.MethodName)) ∈ lw_all := lw_g (lw_at lw_m10 88 rfl) rfl
theorem q2328 : (Jvm.Cond.methodLink "WindFarmDispatcherLaw" (261 : Nat) ({ cls := "WindFarmDispatcherModel", name := "outputWith", desc := "(CI)I" } : Jvm.MethodName)) ∈ lw_all := lw_g (lw_at lw_m10 93 rfl) rfl
theorem q2336 : (Jvm.Cond.methodLink "WindFarmDispatcherLaw" (265 : Nat) ({ cls := "WindFarmDispatcherModel", name := "bestDirection", desc := "()C" } : Jvm.MethodName)) ∈ lw_all := lw_g (lw_at lw_m10 101 rfl) rfl
theorem q2340 : (Jvm.Cond.methodLink "WindFarmDispatcherLaw" (272 : Nat) ({ cls := "WindFarmDispatcherModel", name := "gridLimit", desc := "()I" } : Jvm.MethodName)) ∈ lw_all := lw_g (lw_at lw_m10 105 rfl) rfl
theorem q2344 : (Jvm.Cond.methodLink "WindFarmDispatcherLaw" (289 : Nat) ({ cls := "WindFarmDispatcherModel", name := "hasBid", desc := "(I)Z" } : Jvm.MethodName)) ∈ lw_all := lw_g (lw_at lw_m10 109 rfl) rfl
theorem q2348 : (Jvm.Cond.methodLink "WindFarmDispatcherLaw" (292 : Nat) ({ cls := "WindFarmDispatcherModel", name := "bidPrice", desc := "(I)I" } : Jvm.MethodName)) ∈ lw_all := lw_g (lw_at lw_m10 113 rfl) rfl
theorem q2356 : (Jvm.Cond.methodLink "WindFarmDispatcherLaw" (295 : Nat) ({ cls := "WindFarmDispatcherModel", name := "bidQuantity", desc := "(I)I" } : Jvm.MethodName)) ∈ lw_all := lw_g (lw_at lw_m10 121 rfl) rfl
theorem q2360 : (Jvm.Cond.methodLink "WindFarmDispatcherLaw" (298 : Nat) ({ cls := "WindFarmDispatcherModel", name := "bidByPrice", desc := "(I)I" } : Jvm.MethodName)) ∈ lw_all := lw_g (lw_at lw_m10 125 rfl) rfl
theorem q2364 : (Jvm.Cond.methodLink "WindFarmDispatcherLaw" (305 : Nat) ({ cls := "WindFarmDispatcherModel", name := "time", desc := "()I" } : Jvm.MethodName)) ∈ lw_all := lw_g (lw_at lw_m10 129 rfl) rfl
theorem q2368 : (Jvm.Cond.methodLink "WindFarmDispatcherLaw" (308 : Nat) ({ cls := "WindFarmDispatcherModel", name := "incomeWithin", desc := "(I)I" } : Jvm.MethodName)) ∈ lw_all := lw_g (lw_at lw_m10 133 rfl) rfl
theorem q2372 : (Jvm.Cond.methodLink "WindFarmDispatcherLaw" (312 : Nat) ({ cls := "WindFarmDispatcherModel", name := "hoursToBid", desc := "()I" } : Jvm.MethodName)) ∈ lw_all := lw_g (lw_at lw_m10 137 rfl) rfl
theorem q2376 : (Jvm.Cond.methodLink "WindFarmDispatcherLaw" (317 : Nat) ({ cls := "WindFarmDispatcherModel", name := "energyMade", desc := "()J" } : Jvm.MethodName)) ∈ lw_all := lw_g (lw_at lw_m10 141 rfl) rfl
theorem q2380 : (Jvm.Cond.methodLink "WindFarmDispatcherLaw" (321 : Nat) ({ cls := "WindFarmDispatcherModel", name := "energyLost", desc := "()J" } : Jvm.MethodName)) ∈ lw_all := lw_g (lw_at lw_m10 145 rfl) rfl
theorem q2384 : (Jvm.Cond.methodLink "WindFarmDispatcherLaw" (325 : Nat) ({ cls := "WindFarmDispatcherModel", name := "energySold", desc := "()J" } : Jvm.MethodName)) ∈ lw_all := lw_g (lw_at lw_m10 149 rfl) rfl
theorem q2388 : (Jvm.Cond.methodLink "WindFarmDispatcherLaw" (329 : Nat) ({ cls := "WindFarmDispatcherModel", name := "energySpilled", desc := "()J" } : Jvm.MethodName)) ∈ lw_all := lw_g (lw_at lw_m10 153 rfl) rfl
theorem q2392 : (Jvm.Cond.methodLink "WindFarmDispatcherLaw" (333 : Nat) ({ cls := "WindFarmDispatcherModel", name := "coins", desc := "()J" } : Jvm.MethodName)) ∈ lw_all := lw_g (lw_at lw_m10 157 rfl) rfl
theorem q2396 : (Jvm.Cond.methodLink "WindFarmDispatcherLaw" (336 : Nat) ({ cls := "WindFarmDispatcherModel", name := "turbineByOutput", desc := "(I)I" } : Jvm.MethodName)) ∈ lw_all := lw_g (lw_at lw_m10 161 rfl) rfl
theorem q2400 : (Jvm.Cond.methodLink "WindFarmDispatcherLaw" (340 : Nat) ({ cls := "WindFarmDispatcherModel", name := "meanOutput", desc := "()D" } : Jvm.MethodName)) ∈ lw_all := lw_g (lw_at lw_m10 165 rfl) rfl
theorem q2404 : (Jvm.Cond.methodLink "WindFarmDispatcherLaw" (343 : Nat) ({ cls := "WindFarmDispatcherModel", name := "runningShare", desc := "()F" } : Jvm.MethodName)) ∈ lw_all := lw_g (lw_at lw_m10 169 rfl) rfl
theorem q2408 : (Jvm.Cond.methodLink "WindFarmDispatcherLaw" (348 : Nat) ({ cls := "WindFarmDispatcherModel", name := "isConsistent", desc := "()Z" } : Jvm.MethodName)) ∈ lw_all := lw_g (lw_at lw_m10 173 rfl) rfl
theorem q2412 : (Jvm.Cond.methodLink "WindFarmDispatcherLaw" (351 : Nat) ({ cls := "WindFarmDispatcherModel", name := "writeTurbine", desc := "(I)I" } : Jvm.MethodName)) ∈ lw_all := lw_g (lw_at lw_m10 177 rfl) rfl
theorem q2428 : (Jvm.Cond.methodLink "WindFarmDispatcherLaw" (354 : Nat) ({ cls := "WindFarmDispatcherModel", name := "outputAt", desc := "(I)C" } : Jvm.MethodName)) ∈ lw_all := lw_g (lw_at lw_m10 193 rfl) rfl
theorem q2432 : (Jvm.Cond.methodLink "WindFarmDispatcherLaw" (358 : Nat) ({ cls := "WindFarmDispatcherModel", name := "appendInput", desc := "(C)I" } : Jvm.MethodName)) ∈ lw_all := lw_g (lw_at lw_m10 197 rfl) rfl
theorem q2436 : (Jvm.Cond.methodLink "WindFarmDispatcherLaw" (361 : Nat) ({ cls := "WindFarmDispatcherModel", name := "execute", desc := "()I" } : Jvm.MethodName)) ∈ lw_all := lw_g (lw_at lw_m10 201 rfl) rfl
theorem q2475 : (Jvm.Cond.methodLink "WindFarmDispatcherLaw" (364 : Nat) ({ cls := "WindFarmDispatcherModel", name := "syntaxErrorOffset", desc := "()I" } : Jvm.MethodName)) ∈ lw_all := lw_g (lw_at lw_m11 0 rfl) rfl
theorem q2479 : (Jvm.Cond.methodLink "WindFarmDispatcherLaw" (376 : Nat) ({ cls := "WindFarmDispatcherModel", name := "undo", desc := "()I" } : Jvm.MethodName)) ∈ lw_all := lw_g (lw_at lw_m11 4 rfl) rfl
theorem q2483 : (Jvm.Cond.methodLink "WindFarmDispatcherLaw" (380 : Nat) ({ cls := "WindFarmDispatcherModel", name := "saveSnapshot", desc := "()I" } : Jvm.MethodName)) ∈ lw_all := lw_g (lw_at lw_m11 8 rfl) rfl
theorem q2487 : (Jvm.Cond.methodLink "WindFarmDispatcherLaw" (383 : Nat) ({ cls := "WindFarmDispatcherModel", name := "restoreSnapshot", desc := "()I" } : Jvm.MethodName)) ∈ lw_all := lw_g (lw_at lw_m11 12 rfl) rfl
/-! the law's own entry -/
abbrev cL_law : ByteArray := code
def dkwL_law_120 : List UInt8 := [4, 172]
abbrev dktL_law_120 : List UInt8 := dkwL_law_120 ++ []
def dkwL_law_119 : List UInt8 := [154, 0, 15, 45, 3, 47, 21, 7, 133, 148, 153, 0, 5, 3, 172, 167, 0, 3, 132, 5, 4, 167, 244, 64]
abbrev dktL_law_119 : List UInt8 := dkwL_law_119 ++ dktL_law_120
def dkwL_law_118 : List UInt8 := [184, 1, 125, 54, 6, 44, 182, 1, 127, 54, 7, 44, 182, 0, 170, 21, 6, 159, 0, 5, 3, 172, 21, 6]
abbrev dktL_law_118 : List UInt8 := dkwL_law_118 ++ dktL_law_119
def dkwL_law_117 : List UInt8 := [153, 0, 5, 3, 172, 167, 0, 60, 43, 182, 1, 121, 44, 182, 1, 124, 159, 0, 49, 3, 172, 43, 45]
abbrev dktL_law_117 : List UInt8 := dkwL_law_117 ++ dktL_law_118
def dkwL_law_116 : List UInt8 := [182, 0, 170, 21, 6, 159, 0, 5, 3, 172, 21, 6, 154, 0, 15, 45, 3, 47, 21, 7, 133, 148]
abbrev dktL_law_116 : List UInt8 := dkwL_law_116 ++ dktL_law_117
def dkwL_law_115 : List UInt8 := [153, 0, 5, 3, 172, 167, 0, 104, 43, 45, 184, 1, 118, 54, 6, 44, 182, 1, 120, 54, 7, 44]
abbrev dktL_law_115 : List UInt8 := dkwL_law_115 ++ dktL_law_116
def dkwL_law_114 : List UInt8 := [182, 0, 170, 21, 6, 159, 0, 5, 3, 172, 21, 6, 154, 0, 15, 45, 3, 47, 21, 7, 133, 148]
abbrev dktL_law_114 : List UInt8 := dkwL_law_114 ++ dktL_law_115
def dkwL_law_113 : List UInt8 := [153, 0, 5, 3, 172, 167, 0, 148, 43, 45, 184, 1, 115, 54, 6, 44, 182, 1, 117, 54, 7, 44]
abbrev dktL_law_113 : List UInt8 := dkwL_law_113 ++ dktL_law_114
def dkwL_law_112 : List UInt8 := [182, 0, 170, 21, 6, 159, 0, 5, 3, 172, 21, 6, 154, 0, 15, 45, 3, 47, 21, 7, 133, 148]
abbrev dktL_law_112 : List UInt8 := dkwL_law_112 ++ dktL_law_113
def dkwL_law_111 : List UInt8 := [153, 0, 5, 3, 172, 167, 0, 192, 43, 45, 184, 1, 112, 54, 6, 44, 182, 1, 114, 54, 7, 44]
abbrev dktL_law_111 : List UInt8 := dkwL_law_111 ++ dktL_law_112
def dkwL_law_110 : List UInt8 := [182, 0, 170, 21, 6, 159, 0, 5, 3, 172, 21, 6, 154, 0, 15, 45, 3, 47, 21, 7, 133, 148]
abbrev dktL_law_110 : List UInt8 := dkwL_law_110 ++ dktL_law_111
def dkwL_law_109 : List UInt8 := [153, 0, 5, 3, 172, 167, 0, 236, 43, 45, 184, 1, 109, 54, 6, 44, 182, 1, 111, 54, 7, 44]
abbrev dktL_law_109 : List UInt8 := dkwL_law_109 ++ dktL_law_110
def dkwL_law_108 : List UInt8 := [182, 0, 170, 21, 6, 159, 0, 5, 3, 172, 21, 6, 154, 0, 15, 45, 3, 47, 21, 7, 133, 148]
abbrev dktL_law_108 : List UInt8 := dkwL_law_108 ++ dktL_law_109
def dkwL_law_107 : List UInt8 := [153, 0, 5, 3, 172, 167, 1, 24, 43, 45, 184, 1, 106, 54, 6, 44, 182, 1, 108, 54, 7, 44]
abbrev dktL_law_107 : List UInt8 := dkwL_law_107 ++ dktL_law_108
def dkwL_law_106 : List UInt8 := [182, 0, 170, 21, 6, 159, 0, 5, 3, 172, 21, 6, 154, 0, 15, 45, 3, 47, 21, 7, 133, 148]
abbrev dktL_law_106 : List UInt8 := dkwL_law_106 ++ dktL_law_107
def dkwL_law_105 : List UInt8 := [148, 153, 0, 5, 3, 172, 167, 1, 68, 43, 45, 184, 1, 103, 54, 6, 44, 182, 1, 105, 54, 7, 44]
abbrev dktL_law_105 : List UInt8 := dkwL_law_105 ++ dktL_law_106
def dkwL_law_104 : List UInt8 := [54, 7, 44, 182, 0, 170, 21, 6, 159, 0, 5, 3, 172, 21, 6, 154, 0, 15, 45, 3, 47, 21, 7, 133]
abbrev dktL_law_104 : List UInt8 := dkwL_law_104 ++ dktL_law_105
def dkwL_law_103 : List UInt8 := [21, 5, 4, 96, 46, 146, 45, 184, 1, 99, 54, 6, 44, 42, 21, 5, 4, 96, 46, 146, 182, 1, 102]
abbrev dktL_law_103 : List UInt8 := dkwL_law_103 ++ dktL_law_104
def dkwL_law_102 : List UInt8 := [172, 21, 6, 154, 0, 15, 45, 3, 47, 21, 7, 133, 148, 153, 0, 5, 3, 172, 167, 1, 126, 43, 42]
abbrev dktL_law_102 : List UInt8 := dkwL_law_102 ++ dktL_law_103
def dkwL_law_101 : List UInt8 := [54, 6, 44, 42, 21, 5, 4, 96, 46, 182, 1, 98, 54, 7, 44, 182, 0, 170, 21, 6, 159, 0, 5, 3]
abbrev dktL_law_101 : List UInt8 := dkwL_law_101 ++ dktL_law_102
def dkwL_law_100 : List UInt8 := [47, 21, 7, 133, 148, 153, 0, 5, 3, 172, 167, 1, 182, 43, 42, 21, 5, 4, 96, 46, 45, 184, 1, 96]
abbrev dktL_law_100 : List UInt8 := dkwL_law_100 ++ dktL_law_101
def dkwL_law_99 : List UInt8 := [46, 182, 1, 95, 54, 7, 44, 182, 0, 170, 21, 6, 159, 0, 5, 3, 172, 21, 6, 154, 0, 15, 45, 3]
abbrev dktL_law_99 : List UInt8 := dkwL_law_99 ++ dktL_law_100
def dkwL_law_98 : List UInt8 := [159, 1, 240, 3, 172, 43, 42, 21, 5, 4, 96, 46, 45, 184, 1, 93, 54, 6, 44, 42, 21, 5, 4, 96]
abbrev dktL_law_98 : List UInt8 := dkwL_law_98 ++ dktL_law_99
def dkwL_law_97 : List UInt8 := [153, 0, 11, 23, 7, 23, 7, 149, 154, 0, 5, 3, 172, 167, 1, 251, 43, 182, 1, 88, 44, 182, 1, 92]
abbrev dktL_law_97 : List UInt8 := dkwL_law_97 ++ dktL_law_98
def dkwL_law_96 : List UInt8 := [154, 0, 36, 25, 4, 3, 49, 23, 7, 141, 151, 153, 0, 25, 25, 4, 3, 49, 25, 4, 3, 49, 151]
abbrev dktL_law_96 : List UInt8 := dkwL_law_96 ++ dktL_law_97
def dkwL_law_95 : List UInt8 := [184, 1, 85, 54, 6, 44, 182, 1, 87, 56, 7, 44, 182, 0, 170, 21, 6, 159, 0, 5, 3, 172, 21, 6]
abbrev dktL_law_95 : List UInt8 := dkwL_law_95 ++ dktL_law_96
def dkwL_law_94 : List UInt8 := [25, 4, 3, 49, 151, 153, 0, 11, 24, 7, 24, 7, 151, 154, 0, 5, 3, 172, 167, 2, 61, 43, 25, 4]
abbrev dktL_law_94 : List UInt8 := dkwL_law_94 ++ dktL_law_95
def dkwL_law_93 : List UInt8 := [159, 0, 5, 3, 172, 21, 6, 154, 0, 35, 25, 4, 3, 49, 24, 7, 151, 153, 0, 25, 25, 4, 3, 49]
abbrev dktL_law_93 : List UInt8 := dkwL_law_93 ++ dktL_law_94
def dkwL_law_92 : List UInt8 := [167, 2, 126, 43, 25, 4, 184, 1, 81, 54, 6, 44, 182, 1, 84, 57, 7, 44, 182, 0, 170, 21, 6]
abbrev dktL_law_92 : List UInt8 := dkwL_law_92 ++ dktL_law_93
def dkwL_law_91 : List UInt8 := [21, 6, 159, 0, 5, 3, 172, 21, 6, 154, 0, 15, 45, 3, 47, 21, 7, 133, 148, 153, 0, 5, 3, 172]
abbrev dktL_law_91 : List UInt8 := dkwL_law_91 ++ dktL_law_92
def dkwL_law_90 : List UInt8 := [96, 46, 45, 184, 1, 78, 54, 6, 44, 42, 21, 5, 4, 96, 46, 182, 1, 80, 54, 7, 44, 182, 0, 170]
abbrev dktL_law_90 : List UInt8 := dkwL_law_90 ++ dktL_law_91
def dkwL_law_89 : List UInt8 := [153, 2, 198, 3, 172, 43, 182, 1, 74, 44, 182, 1, 77, 148, 153, 2, 184, 3, 172, 43, 42, 21, 5, 4]
abbrev dktL_law_89 : List UInt8 := dkwL_law_89 ++ dktL_law_90
def dkwL_law_88 : List UInt8 := [182, 1, 66, 44, 182, 1, 69, 148, 153, 2, 212, 3, 172, 43, 182, 1, 70, 44, 182, 1, 73, 148]
abbrev dktL_law_88 : List UInt8 := dkwL_law_88 ++ dktL_law_89
def dkwL_law_87 : List UInt8 := [182, 1, 61, 148, 153, 2, 240, 3, 172, 43, 182, 1, 62, 44, 182, 1, 65, 148, 153, 2, 226, 3, 172, 43]
abbrev dktL_law_87 : List UInt8 := dkwL_law_87 ++ dktL_law_88
def dkwL_law_86 : List UInt8 := [154, 0, 15, 45, 3, 47, 21, 7, 133, 148, 153, 0, 5, 3, 172, 167, 2, 252, 43, 182, 1, 57, 44]
abbrev dktL_law_86 : List UInt8 := dkwL_law_86 ++ dktL_law_87
def dkwL_law_85 : List UInt8 := [184, 1, 53, 54, 6, 44, 182, 1, 56, 54, 7, 44, 182, 0, 170, 21, 6, 159, 0, 5, 3, 172, 21, 6]
abbrev dktL_law_85 : List UInt8 := dkwL_law_85 ++ dktL_law_86
def dkwL_law_84 : List UInt8 := [172, 21, 6, 154, 0, 15, 45, 3, 47, 21, 7, 133, 148, 153, 0, 5, 3, 172, 167, 3, 40, 43, 45]
abbrev dktL_law_84 : List UInt8 := dkwL_law_84 ++ dktL_law_85
def dkwL_law_83 : List UInt8 := [54, 6, 44, 42, 21, 5, 4, 96, 46, 182, 1, 52, 54, 7, 44, 182, 0, 170, 21, 6, 159, 0, 5, 3]
abbrev dktL_law_83 : List UInt8 := dkwL_law_83 ++ dktL_law_84
def dkwL_law_82 : List UInt8 := [182, 1, 46, 44, 182, 1, 49, 159, 3, 98, 3, 172, 43, 42, 21, 5, 4, 96, 46, 45, 184, 1, 50]
abbrev dktL_law_82 : List UInt8 := dkwL_law_82 ++ dktL_law_83
def dkwL_law_81 : List UInt8 := [172, 21, 6, 154, 0, 15, 45, 3, 47, 21, 7, 133, 148, 153, 0, 5, 3, 172, 167, 3, 109, 43]
abbrev dktL_law_81 : List UInt8 := dkwL_law_81 ++ dktL_law_82
def dkwL_law_80 : List UInt8 := [54, 6, 44, 42, 21, 5, 4, 96, 46, 182, 1, 45, 54, 7, 44, 182, 0, 170, 21, 6, 159, 0, 5, 3]
abbrev dktL_law_80 : List UInt8 := dkwL_law_80 ++ dktL_law_81
def dkwL_law_79 : List UInt8 := [21, 7, 133, 148, 153, 0, 5, 3, 172, 167, 3, 165, 43, 42, 21, 5, 4, 96, 46, 45, 184, 1, 43]
abbrev dktL_law_79 : List UInt8 := dkwL_law_79 ++ dktL_law_80
def dkwL_law_78 : List UInt8 := [182, 1, 42, 54, 7, 44, 182, 0, 170, 21, 6, 159, 0, 5, 3, 172, 21, 6, 154, 0, 15, 45, 3, 47]
abbrev dktL_law_78 : List UInt8 := dkwL_law_78 ++ dktL_law_79
def dkwL_law_77 : List UInt8 := [167, 3, 221, 43, 42, 21, 5, 4, 96, 46, 45, 184, 1, 40, 54, 6, 44, 42, 21, 5, 4, 96, 46]
abbrev dktL_law_77 : List UInt8 := dkwL_law_77 ++ dktL_law_78
def dkwL_law_76 : List UInt8 := [21, 6, 159, 0, 5, 3, 172, 21, 6, 154, 0, 15, 45, 3, 47, 21, 7, 133, 148, 153, 0, 5, 3, 172]
abbrev dktL_law_76 : List UInt8 := dkwL_law_76 ++ dktL_law_77
def dkwL_law_75 : List UInt8 := [46, 45, 184, 1, 37, 54, 6, 44, 42, 21, 5, 4, 96, 46, 182, 1, 39, 54, 7, 44, 182, 0, 170]
abbrev dktL_law_75 : List UInt8 := dkwL_law_75 ++ dktL_law_76
def dkwL_law_74 : List UInt8 := [154, 0, 15, 45, 3, 47, 21, 7, 133, 148, 153, 0, 5, 3, 172, 167, 4, 21, 43, 42, 21, 5, 4, 96]
abbrev dktL_law_74 : List UInt8 := dkwL_law_74 ++ dktL_law_75
def dkwL_law_73 : List UInt8 := [42, 21, 5, 4, 96, 46, 182, 1, 36, 54, 7, 44, 182, 0, 170, 21, 6, 159, 0, 5, 3, 172, 21, 6]
abbrev dktL_law_73 : List UInt8 := dkwL_law_73 ++ dktL_law_74
def dkwL_law_72 : List UInt8 := [9, 148, 153, 0, 5, 3, 172, 167, 4, 77, 43, 42, 21, 5, 4, 96, 46, 45, 184, 1, 34, 54, 6, 44]
abbrev dktL_law_72 : List UInt8 := dkwL_law_72 ++ dktL_law_73
def dkwL_law_71 : List UInt8 := [21, 6, 159, 0, 5, 3, 172, 21, 6, 154, 0, 22, 45, 3, 47, 21, 7, 153, 0, 7, 10, 167, 0, 4]
abbrev dktL_law_71 : List UInt8 := dkwL_law_71 ++ dktL_law_72
def dkwL_law_70 : List UInt8 := [46, 45, 184, 1, 31, 54, 6, 44, 42, 21, 5, 4, 96, 46, 182, 1, 33, 54, 7, 44, 182, 0, 170]
abbrev dktL_law_70 : List UInt8 := dkwL_law_70 ++ dktL_law_71
def dkwL_law_69 : List UInt8 := [154, 0, 15, 45, 3, 47, 21, 7, 133, 148, 153, 0, 5, 3, 172, 167, 4, 140, 43, 42, 21, 5, 4, 96]
abbrev dktL_law_69 : List UInt8 := dkwL_law_69 ++ dktL_law_70
def dkwL_law_68 : List UInt8 := [21, 5, 4, 96, 46, 182, 1, 30, 54, 7, 44, 182, 0, 170, 21, 6, 159, 0, 5, 3, 172, 21, 6]
abbrev dktL_law_68 : List UInt8 := dkwL_law_68 ++ dktL_law_69
def dkwL_law_67 : List UInt8 := [148, 153, 0, 5, 3, 172, 167, 4, 196, 43, 42, 21, 5, 4, 96, 46, 45, 184, 1, 28, 54, 6, 44, 42]
abbrev dktL_law_67 : List UInt8 := dkwL_law_67 ++ dktL_law_68
def dkwL_law_66 : List UInt8 := [54, 7, 44, 182, 0, 170, 21, 6, 159, 0, 5, 3, 172, 21, 6, 154, 0, 15, 45, 3, 47, 21, 7, 133]
abbrev dktL_law_66 : List UInt8 := dkwL_law_66 ++ dktL_law_67
def dkwL_law_65 : List UInt8 := [54, 6, 44, 42, 21, 5, 4, 96, 46, 42, 21, 5, 5, 96, 46, 42, 21, 5, 6, 96, 46, 182, 1, 27]
abbrev dktL_law_65 : List UInt8 := dkwL_law_65 ++ dktL_law_66
def dkwL_law_64 : List UInt8 := [172, 43, 42, 21, 5, 4, 96, 46, 42, 21, 5, 5, 96, 46, 42, 21, 5, 6, 96, 46, 45, 184, 1, 25]
abbrev dktL_law_64 : List UInt8 := dkwL_law_64 ++ dktL_law_65
def dkwL_law_63 : List UInt8 := [182, 1, 17, 44, 182, 1, 20, 159, 5, 35, 3, 172, 43, 182, 1, 21, 44, 182, 1, 24, 159, 5, 22, 3]
abbrev dktL_law_63 : List UInt8 := dkwL_law_63 ++ dktL_law_64
def dkwL_law_62 : List UInt8 := [148, 153, 0, 5, 3, 172, 167, 5, 59, 43, 182, 1, 13, 44, 182, 1, 16, 159, 5, 48, 3, 172, 43]
abbrev dktL_law_62 : List UInt8 := dkwL_law_62 ++ dktL_law_63
def dkwL_law_61 : List UInt8 := [54, 7, 44, 182, 0, 170, 21, 6, 159, 0, 5, 3, 172, 21, 6, 154, 0, 15, 45, 3, 47, 21, 7, 133]
abbrev dktL_law_61 : List UInt8 := dkwL_law_61 ++ dktL_law_62
def dkwL_law_60 : List UInt8 := [172, 43, 42, 21, 5, 4, 96, 46, 45, 184, 1, 10, 54, 6, 44, 42, 21, 5, 4, 96, 46, 182, 1, 12]
abbrev dktL_law_60 : List UInt8 := dkwL_law_60 ++ dktL_law_61
def dkwL_law_59 : List UInt8 := [21, 7, 133, 148, 153, 0, 5, 3, 172, 167, 5, 128, 43, 182, 1, 6, 44, 182, 1, 9, 159, 5, 117, 3]
abbrev dktL_law_59 : List UInt8 := dkwL_law_59 ++ dktL_law_60
def dkwL_law_58 : List UInt8 := [182, 1, 5, 54, 7, 44, 182, 0, 170, 21, 6, 159, 0, 5, 3, 172, 21, 6, 154, 0, 15, 45, 3, 47]
abbrev dktL_law_58 : List UInt8 := dkwL_law_58 ++ dktL_law_59
def dkwL_law_57 : List UInt8 := [96, 46, 45, 184, 1, 3, 54, 6, 44, 42, 21, 5, 4, 96, 46, 146, 42, 21, 5, 5, 96, 46]
abbrev dktL_law_57 : List UInt8 := dkwL_law_57 ++ dktL_law_58
def dkwL_law_56 : List UInt8 := [182, 0, 255, 44, 182, 1, 2, 159, 5, 200, 3, 172, 43, 42, 21, 5, 4, 96, 46, 146, 42, 21, 5, 5]
abbrev dktL_law_56 : List UInt8 := dkwL_law_56 ++ dktL_law_57
def dkwL_law_55 : List UInt8 := [153, 0, 5, 3, 172, 167, 5, 224, 43, 182, 0, 251, 44, 182, 0, 254, 159, 5, 213, 3, 172, 43]
abbrev dktL_law_55 : List UInt8 := dkwL_law_55 ++ dktL_law_56
def dkwL_law_54 : List UInt8 := [182, 0, 170, 21, 6, 159, 0, 5, 3, 172, 21, 6, 154, 0, 15, 45, 3, 47, 21, 7, 133, 148]
abbrev dktL_law_54 : List UInt8 := dkwL_law_54 ++ dktL_law_55
def dkwL_law_53 : List UInt8 := [21, 5, 4, 96, 46, 45, 184, 0, 248, 54, 6, 44, 42, 21, 5, 4, 96, 46, 182, 0, 250, 54, 7, 44]
abbrev dktL_law_53 : List UInt8 := dkwL_law_53 ++ dktL_law_54
def dkwL_law_52 : List UInt8 := [172, 21, 6, 154, 0, 15, 45, 3, 47, 21, 7, 133, 148, 153, 0, 5, 3, 172, 167, 6, 24, 43, 42]
abbrev dktL_law_52 : List UInt8 := dkwL_law_52 ++ dktL_law_53
def dkwL_law_51 : List UInt8 := [54, 6, 44, 42, 21, 5, 4, 96, 46, 182, 0, 247, 54, 7, 44, 182, 0, 170, 21, 6, 159, 0, 5, 3]
abbrev dktL_law_51 : List UInt8 := dkwL_law_51 ++ dktL_law_52
def dkwL_law_50 : List UInt8 := [47, 21, 7, 133, 148, 153, 0, 5, 3, 172, 167, 6, 80, 43, 42, 21, 5, 4, 96, 46, 45, 184, 0, 245]
abbrev dktL_law_50 : List UInt8 := dkwL_law_50 ++ dktL_law_51
def dkwL_law_49 : List UInt8 := [46, 182, 0, 244, 54, 7, 44, 182, 0, 170, 21, 6, 159, 0, 5, 3, 172, 21, 6, 154, 0, 15, 45, 3]
abbrev dktL_law_49 : List UInt8 := dkwL_law_49 ++ dktL_law_50
def dkwL_law_48 : List UInt8 := [159, 6, 138, 3, 172, 43, 42, 21, 5, 4, 96, 46, 45, 184, 0, 242, 54, 6, 44, 42, 21, 5, 4, 96]
abbrev dktL_law_48 : List UInt8 := dkwL_law_48 ++ dktL_law_49
def dkwL_law_47 : List UInt8 := [172, 43, 182, 0, 234, 44, 182, 0, 237, 159, 6, 151, 3, 172, 43, 182, 0, 238, 44, 182, 0, 241]
abbrev dktL_law_47 : List UInt8 := dkwL_law_47 ++ dktL_law_48
def dkwL_law_46 : List UInt8 := [21, 7, 133, 148, 153, 0, 5, 3, 172, 167, 6, 175, 43, 182, 0, 229, 44, 182, 0, 233, 159, 6, 164, 3]
abbrev dktL_law_46 : List UInt8 := dkwL_law_46 ++ dktL_law_47
def dkwL_law_45 : List UInt8 := [182, 0, 228, 54, 7, 44, 182, 0, 170, 21, 6, 159, 0, 5, 3, 172, 21, 6, 154, 0, 15, 45, 3, 47]
abbrev dktL_law_45 : List UInt8 := dkwL_law_45 ++ dktL_law_46
def dkwL_law_44 : List UInt8 := [96, 46, 45, 184, 0, 225, 54, 6, 44, 42, 21, 5, 4, 96, 46, 146, 42, 21, 5, 5, 96, 46]
abbrev dktL_law_44 : List UInt8 := dkwL_law_44 ++ dktL_law_45
def dkwL_law_43 : List UInt8 := [182, 0, 221, 44, 182, 0, 224, 159, 6, 247, 3, 172, 43, 42, 21, 5, 4, 96, 46, 146, 42, 21, 5, 5]
abbrev dktL_law_43 : List UInt8 := dkwL_law_43 ++ dktL_law_44
def dkwL_law_42 : List UInt8 := [172, 21, 6, 154, 0, 15, 45, 3, 47, 21, 7, 133, 148, 153, 0, 5, 3, 172, 167, 7, 2, 43]
abbrev dktL_law_42 : List UInt8 := dkwL_law_42 ++ dktL_law_43
def dkwL_law_41 : List UInt8 := [54, 6, 44, 42, 21, 5, 4, 96, 46, 182, 0, 220, 54, 7, 44, 182, 0, 170, 21, 6, 159, 0, 5, 3]
abbrev dktL_law_41 : List UInt8 := dkwL_law_41 ++ dktL_law_42
def dkwL_law_40 : List UInt8 := [21, 7, 133, 148, 153, 0, 5, 3, 172, 167, 7, 58, 43, 42, 21, 5, 4, 96, 46, 45, 184, 0, 218]
abbrev dktL_law_40 : List UInt8 := dkwL_law_40 ++ dktL_law_41
def dkwL_law_39 : List UInt8 := [182, 0, 217, 54, 7, 44, 182, 0, 170, 21, 6, 159, 0, 5, 3, 172, 21, 6, 154, 0, 15, 45, 3, 47]
abbrev dktL_law_39 : List UInt8 := dkwL_law_39 ++ dktL_law_40
def dkwL_law_38 : List UInt8 := [167, 7, 114, 43, 42, 21, 5, 4, 96, 46, 45, 184, 0, 215, 54, 6, 44, 42, 21, 5, 4, 96, 46]
abbrev dktL_law_38 : List UInt8 := dkwL_law_38 ++ dktL_law_39
def dkwL_law_37 : List UInt8 := [154, 0, 22, 45, 3, 47, 21, 7, 153, 0, 7, 10, 167, 0, 4, 9, 148, 153, 0, 5, 3, 172]
abbrev dktL_law_37 : List UInt8 := dkwL_law_37 ++ dktL_law_38
def dkwL_law_36 : List UInt8 := [42, 21, 5, 4, 96, 46, 182, 0, 214, 54, 7, 44, 182, 0, 170, 21, 6, 159, 0, 5, 3, 172, 21, 6]
abbrev dktL_law_36 : List UInt8 := dkwL_law_36 ++ dktL_law_37
def dkwL_law_35 : List UInt8 := [9, 148, 153, 0, 5, 3, 172, 167, 7, 177, 43, 42, 21, 5, 4, 96, 46, 45, 184, 0, 212, 54, 6, 44]
abbrev dktL_law_35 : List UInt8 := dkwL_law_35 ++ dktL_law_36
def dkwL_law_34 : List UInt8 := [21, 6, 159, 0, 5, 3, 172, 21, 6, 154, 0, 22, 45, 3, 47, 21, 7, 153, 0, 7, 10, 167, 0, 4]
abbrev dktL_law_34 : List UInt8 := dkwL_law_34 ++ dktL_law_35
def dkwL_law_33 : List UInt8 := [96, 46, 45, 184, 0, 209, 54, 6, 44, 42, 21, 5, 4, 96, 46, 182, 0, 211, 54, 7, 44, 182, 0, 170]
abbrev dktL_law_33 : List UInt8 := dkwL_law_33 ++ dktL_law_34
def dkwL_law_32 : List UInt8 := [21, 7, 153, 0, 7, 10, 167, 0, 4, 9, 148, 153, 0, 5, 3, 172, 167, 7, 240, 43, 42, 21, 5, 4]
abbrev dktL_law_32 : List UInt8 := dkwL_law_32 ++ dktL_law_33
def dkwL_law_31 : List UInt8 := [182, 0, 208, 54, 7, 44, 182, 0, 170, 21, 6, 159, 0, 5, 3, 172, 21, 6, 154, 0, 22, 45, 3, 47]
abbrev dktL_law_31 : List UInt8 := dkwL_law_31 ++ dktL_law_32
def dkwL_law_30 : List UInt8 := [167, 8, 47, 43, 42, 21, 5, 4, 96, 46, 45, 184, 0, 206, 54, 6, 44, 42, 21, 5, 4, 96, 46]
abbrev dktL_law_30 : List UInt8 := dkwL_law_30 ++ dktL_law_31
def dkwL_law_29 : List UInt8 := [21, 6, 159, 0, 5, 3, 172, 21, 6, 154, 0, 15, 45, 3, 47, 21, 7, 133, 148, 153, 0, 5, 3, 172]
abbrev dktL_law_29 : List UInt8 := dkwL_law_29 ++ dktL_law_30
def dkwL_law_28 : List UInt8 := [46, 45, 184, 0, 203, 54, 6, 44, 42, 21, 5, 4, 96, 46, 182, 0, 205, 54, 7, 44, 182, 0, 170]
abbrev dktL_law_28 : List UInt8 := dkwL_law_28 ++ dktL_law_29
def dkwL_law_27 : List UInt8 := [154, 0, 15, 45, 3, 47, 21, 7, 133, 148, 153, 0, 5, 3, 172, 167, 8, 103, 43, 42, 21, 5, 4, 96]
abbrev dktL_law_27 : List UInt8 := dkwL_law_27 ++ dktL_law_28
def dkwL_law_26 : List UInt8 := [21, 5, 4, 96, 46, 182, 0, 202, 54, 7, 44, 182, 0, 170, 21, 6, 159, 0, 5, 3, 172, 21, 6]
abbrev dktL_law_26 : List UInt8 := dkwL_law_26 ++ dktL_law_27
def dkwL_law_25 : List UInt8 := [153, 0, 5, 3, 172, 167, 8, 159, 43, 42, 21, 5, 4, 96, 46, 45, 184, 0, 200, 54, 6, 44, 42]
abbrev dktL_law_25 : List UInt8 := dkwL_law_25 ++ dktL_law_26
def dkwL_law_24 : List UInt8 := [182, 0, 170, 21, 6, 159, 0, 5, 3, 172, 21, 6, 154, 0, 15, 45, 3, 47, 21, 7, 133, 148]
abbrev dktL_law_24 : List UInt8 := dkwL_law_24 ++ dktL_law_25
def dkwL_law_23 : List UInt8 := [21, 5, 4, 96, 46, 45, 184, 0, 197, 54, 6, 44, 42, 21, 5, 4, 96, 46, 182, 0, 199, 54, 7, 44]
abbrev dktL_law_23 : List UInt8 := dkwL_law_23 ++ dktL_law_24
def dkwL_law_22 : List UInt8 := [172, 21, 6, 154, 0, 15, 45, 3, 47, 21, 7, 133, 148, 153, 0, 5, 3, 172, 167, 8, 215, 43, 42]
abbrev dktL_law_22 : List UInt8 := dkwL_law_22 ++ dktL_law_23
def dkwL_law_21 : List UInt8 := [4, 96, 46, 42, 21, 5, 5, 96, 46, 182, 0, 196, 54, 7, 44, 182, 0, 170, 21, 6, 159, 0, 5, 3]
abbrev dktL_law_21 : List UInt8 := dkwL_law_21 ++ dktL_law_22
def dkwL_law_20 : List UInt8 := [172, 43, 42, 21, 5, 4, 96, 46, 42, 21, 5, 5, 96, 46, 45, 184, 0, 194, 54, 6, 44, 42, 21, 5]
abbrev dktL_law_20 : List UInt8 := dkwL_law_20 ++ dktL_law_21
def dkwL_law_19 : List UInt8 := [21, 7, 133, 148, 153, 0, 5, 3, 172, 167, 9, 40, 43, 182, 0, 190, 44, 182, 0, 193, 159, 9, 29, 3]
abbrev dktL_law_19 : List UInt8 := dkwL_law_19 ++ dktL_law_20
def dkwL_law_18 : List UInt8 := [182, 0, 189, 54, 7, 44, 182, 0, 170, 21, 6, 159, 0, 5, 3, 172, 21, 6, 154, 0, 15, 45, 3, 47]
abbrev dktL_law_18 : List UInt8 := dkwL_law_18 ++ dktL_law_19
def dkwL_law_17 : List UInt8 := [167, 9, 96, 43, 42, 21, 5, 4, 96, 46, 45, 184, 0, 187, 54, 6, 44, 42, 21, 5, 4, 96, 46]
abbrev dktL_law_17 : List UInt8 := dkwL_law_17 ++ dktL_law_18
def dkwL_law_16 : List UInt8 := [159, 0, 5, 3, 172, 21, 6, 154, 0, 15, 45, 3, 47, 21, 7, 133, 148, 153, 0, 5, 3, 172]
abbrev dktL_law_16 : List UInt8 := dkwL_law_16 ++ dktL_law_17
def dkwL_law_15 : List UInt8 := [21, 5, 4, 96, 46, 42, 21, 5, 5, 96, 46, 182, 0, 186, 54, 7, 44, 182, 0, 170, 21, 6]
abbrev dktL_law_15 : List UInt8 := dkwL_law_15 ++ dktL_law_16
def dkwL_law_14 : List UInt8 := [167, 9, 164, 43, 42, 21, 5, 4, 96, 46, 42, 21, 5, 5, 96, 46, 45, 184, 0, 184, 54, 6, 44, 42]
abbrev dktL_law_14 : List UInt8 := dkwL_law_14 ++ dktL_law_15
def dkwL_law_13 : List UInt8 := [159, 0, 5, 3, 172, 21, 6, 154, 0, 15, 45, 3, 47, 21, 7, 133, 148, 153, 0, 5, 3, 172]
abbrev dktL_law_13 : List UInt8 := dkwL_law_13 ++ dktL_law_14
def dkwL_law_12 : List UInt8 := [184, 0, 181, 54, 6, 44, 42, 21, 5, 4, 96, 46, 182, 0, 183, 54, 7, 44, 182, 0, 170, 21, 6]
abbrev dktL_law_12 : List UInt8 := dkwL_law_12 ++ dktL_law_13
def dkwL_law_11 : List UInt8 := [3, 47, 21, 7, 133, 148, 153, 0, 5, 3, 172, 167, 9, 220, 43, 42, 21, 5, 4, 96, 46, 45]
abbrev dktL_law_11 : List UInt8 := dkwL_law_11 ++ dktL_law_12
def dkwL_law_10 : List UInt8 := [96, 46, 182, 0, 180, 54, 7, 44, 182, 0, 170, 21, 6, 159, 0, 5, 3, 172, 21, 6, 154, 0, 15, 45]
abbrev dktL_law_10 : List UInt8 := dkwL_law_10 ++ dktL_law_11
def dkwL_law_9 : List UInt8 := [46, 42, 21, 5, 5, 96, 46, 45, 184, 0, 177, 54, 6, 44, 42, 21, 5, 4, 96, 46, 42, 21, 5, 5]
abbrev dktL_law_9 : List UInt8 := dkwL_law_9 ++ dktL_law_10
def dkwL_law_8 : List UInt8 := [154, 0, 15, 45, 3, 47, 21, 7, 133, 148, 153, 0, 5, 3, 172, 167, 10, 32, 43, 42, 21, 5, 4, 96]
abbrev dktL_law_8 : List UInt8 := dkwL_law_8 ++ dktL_law_9
def dkwL_law_7 : List UInt8 := [21, 5, 4, 96, 46, 182, 0, 176, 54, 7, 44, 182, 0, 170, 21, 6, 159, 0, 5, 3, 172, 21, 6]
abbrev dktL_law_7 : List UInt8 := dkwL_law_7 ++ dktL_law_8
def dkwL_law_6 : List UInt8 := [148, 153, 0, 5, 3, 172, 167, 10, 88, 43, 42, 21, 5, 4, 96, 46, 45, 184, 0, 173, 54, 6, 44, 42]
abbrev dktL_law_6 : List UInt8 := dkwL_law_6 ++ dktL_law_7
def dkwL_law_5 : List UInt8 := [54, 7, 44, 182, 0, 170, 21, 6, 159, 0, 5, 3, 172, 21, 6, 154, 0, 15, 45, 3, 47, 21, 7, 133]
abbrev dktL_law_5 : List UInt8 := dkwL_law_5 ++ dktL_law_6
def dkwL_law_4 : List UInt8 := [54, 6, 44, 42, 21, 5, 4, 96, 46, 42, 21, 5, 5, 96, 46, 42, 21, 5, 6, 96, 46, 182, 0, 169]
abbrev dktL_law_4 : List UInt8 := dkwL_law_4 ++ dktL_law_5
def dkwL_law_3 : List UInt8 := [43, 42, 21, 5, 4, 96, 46, 42, 21, 5, 5, 96, 46, 42, 21, 5, 6, 96, 46, 45, 184, 0, 164]
abbrev dktL_law_3 : List UInt8 := dkwL_law_3 ++ dktL_law_4
def dkwL_law_2 : List UInt8 := [170, 0, 0, 0, 0, 0, 11, 173, 0, 0, 0, 0, 0, 0, 0, 61, 0, 0, 1, 8, 0, 0, 1, 88, 0, 0, 1, 144, 0, 0, 1, 212, 0, 0, 2, 12, 0, 0, 2, 80, 0, 0, 2, 136, 0, 0, 2, 149, 0, 0, 2, 217, 0, 0, 3, 17, 0, 0, 3, 73, 0, 0, 3, 129, 0, 0, 3, 192, 0, 0, 3, 255, 0, 0, 4, 62, 0, 0, 4, 118, 0, 0, 4, 174, 0, 0, 4, 187, 0, 0, 5, 1, 0, 0, 5, 14, 0, 0, 5, 27, 0, 0, 5, 40, 0, 0, 5, 96, 0, 0, 5, 152, 0, 0, 5, 208, 0, 0, 5, 221, 0, 0, 5, 234, 0, 0, 6, 48, 0, 0, 6, 61, 0, 0, 6, 117, 0, 0, 6, 130, 0, 0, 6, 143, 0, 0, 6, 156, 0, 0, 6, 236, 0, 0, 7, 36, 0, 0, 7, 99, 0, 0, 7, 155, 0, 0, 7, 211, 0, 0, 8, 11, 0, 0, 8, 67, 0, 0, 8, 80, 0, 0, 8, 136, 0, 0, 8, 180, 0, 0, 8, 194, 0, 0, 8, 208, 0, 0, 8, 222, 0, 0, 8, 236, 0, 0, 8, 250, 0, 0, 9, 50, 0, 0, 9, 115, 0, 0, 9, 181, 0, 0, 9, 194, 0, 0, 9, 250, 0, 0, 10, 50, 0, 0, 10, 108, 0, 0, 10, 152, 0, 0, 10, 196, 0, 0, 10, 240, 0, 0, 11, 28, 0, 0, 11, 72, 0, 0, 11, 116, 0, 0, 11, 129]
abbrev dktL_law_2 : List UInt8 := dkwL_law_2 ++ dktL_law_3
def dkwL_law_1 : List UInt8 := [58, 4, 3, 54, 5, 21, 5, 42, 190, 7, 100, 163, 11, 189, 42, 21, 5, 46, 16, 63, 126]
abbrev dktL_law_1 : List UInt8 := dkwL_law_1 ++ dktL_law_2
def dkwL_law_0 : List UInt8 := [187, 0, 8, 89, 183, 0, 160, 76, 187, 0, 161, 89, 183, 0, 163, 77, 4, 188, 11, 78, 4, 188, 7]
abbrev dktL_law_0 : List UInt8 := dkwL_law_0 ++ dktL_law_1
theorem dksL_law_0 : cL_law.data.toList.drop 0 = dktL_law_0 := by decide +kernel
theorem dksL_law_1 : cL_law.data.toList.drop 23 = dktL_law_1 := dk_seg dksL_law_0 23 rfl rfl
theorem dksL_law_2 : cL_law.data.toList.drop 44 = dktL_law_2 := dk_seg dksL_law_1 21 rfl rfl
theorem dksL_law_3 : cL_law.data.toList.drop 308 = dktL_law_3 := dk_seg dksL_law_2 264 rfl rfl
theorem dksL_law_4 : cL_law.data.toList.drop 331 = dktL_law_4 := dk_seg dksL_law_3 23 rfl rfl
theorem dksL_law_5 : cL_law.data.toList.drop 355 = dktL_law_5 := dk_seg dksL_law_4 24 rfl rfl
theorem dksL_law_6 : cL_law.data.toList.drop 379 = dktL_law_6 := dk_seg dksL_law_5 24 rfl rfl
theorem dksL_law_7 : cL_law.data.toList.drop 403 = dktL_law_7 := dk_seg dksL_law_6 24 rfl rfl
theorem dksL_law_8 : cL_law.data.toList.drop 426 = dktL_law_8 := dk_seg dksL_law_7 23 rfl rfl
theorem dksL_law_9 : cL_law.data.toList.drop 450 = dktL_law_9 := dk_seg dksL_law_8 24 rfl rfl
theorem dksL_law_10 : cL_law.data.toList.drop 474 = dktL_law_10 := dk_seg dksL_law_9 24 rfl rfl
theorem dksL_law_11 : cL_law.data.toList.drop 498 = dktL_law_11 := dk_seg dksL_law_10 24 rfl rfl
theorem dksL_law_12 : cL_law.data.toList.drop 520 = dktL_law_12 := dk_seg dksL_law_11 22 rfl rfl
theorem dksL_law_13 : cL_law.data.toList.drop 543 = dktL_law_13 := dk_seg dksL_law_12 23 rfl rfl
theorem dksL_law_14 : cL_law.data.toList.drop 565 = dktL_law_14 := dk_seg dksL_law_13 22 rfl rfl
theorem dksL_law_15 : cL_law.data.toList.drop 589 = dktL_law_15 := dk_seg dksL_law_14 24 rfl rfl
theorem dksL_law_16 : cL_law.data.toList.drop 611 = dktL_law_16 := dk_seg dksL_law_15 22 rfl rfl
theorem dksL_law_17 : cL_law.data.toList.drop 633 = dktL_law_17 := dk_seg dksL_law_16 22 rfl rfl
theorem dksL_law_18 : cL_law.data.toList.drop 656 = dktL_law_18 := dk_seg dksL_law_17 23 rfl rfl
theorem dksL_law_19 : cL_law.data.toList.drop 680 = dktL_law_19 := dk_seg dksL_law_18 24 rfl rfl
theorem dksL_law_20 : cL_law.data.toList.drop 704 = dktL_law_20 := dk_seg dksL_law_19 24 rfl rfl
theorem dksL_law_21 : cL_law.data.toList.drop 728 = dktL_law_21 := dk_seg dksL_law_20 24 rfl rfl
theorem dksL_law_22 : cL_law.data.toList.drop 752 = dktL_law_22 := dk_seg dksL_law_21 24 rfl rfl
theorem dksL_law_23 : cL_law.data.toList.drop 775 = dktL_law_23 := dk_seg dksL_law_22 23 rfl rfl
theorem dksL_law_24 : cL_law.data.toList.drop 799 = dktL_law_24 := dk_seg dksL_law_23 24 rfl rfl
theorem dksL_law_25 : cL_law.data.toList.drop 821 = dktL_law_25 := dk_seg dksL_law_24 22 rfl rfl
theorem dksL_law_26 : cL_law.data.toList.drop 844 = dktL_law_26 := dk_seg dksL_law_25 23 rfl rfl
theorem dksL_law_27 : cL_law.data.toList.drop 867 = dktL_law_27 := dk_seg dksL_law_26 23 rfl rfl
theorem dksL_law_28 : cL_law.data.toList.drop 891 = dktL_law_28 := dk_seg dksL_law_27 24 rfl rfl
theorem dksL_law_29 : cL_law.data.toList.drop 914 = dktL_law_29 := dk_seg dksL_law_28 23 rfl rfl
theorem dksL_law_30 : cL_law.data.toList.drop 938 = dktL_law_30 := dk_seg dksL_law_29 24 rfl rfl
theorem dksL_law_31 : cL_law.data.toList.drop 961 = dktL_law_31 := dk_seg dksL_law_30 23 rfl rfl
theorem dksL_law_32 : cL_law.data.toList.drop 985 = dktL_law_32 := dk_seg dksL_law_31 24 rfl rfl
theorem dksL_law_33 : cL_law.data.toList.drop 1009 = dktL_law_33 := dk_seg dksL_law_32 24 rfl rfl
theorem dksL_law_34 : cL_law.data.toList.drop 1033 = dktL_law_34 := dk_seg dksL_law_33 24 rfl rfl
theorem dksL_law_35 : cL_law.data.toList.drop 1057 = dktL_law_35 := dk_seg dksL_law_34 24 rfl rfl
theorem dksL_law_36 : cL_law.data.toList.drop 1081 = dktL_law_36 := dk_seg dksL_law_35 24 rfl rfl
theorem dksL_law_37 : cL_law.data.toList.drop 1105 = dktL_law_37 := dk_seg dksL_law_36 24 rfl rfl
theorem dksL_law_38 : cL_law.data.toList.drop 1127 = dktL_law_38 := dk_seg dksL_law_37 22 rfl rfl
theorem dksL_law_39 : cL_law.data.toList.drop 1150 = dktL_law_39 := dk_seg dksL_law_38 23 rfl rfl
theorem dksL_law_40 : cL_law.data.toList.drop 1174 = dktL_law_40 := dk_seg dksL_law_39 24 rfl rfl
theorem dksL_law_41 : cL_law.data.toList.drop 1197 = dktL_law_41 := dk_seg dksL_law_40 23 rfl rfl
theorem dksL_law_42 : cL_law.data.toList.drop 1221 = dktL_law_42 := dk_seg dksL_law_41 24 rfl rfl
theorem dksL_law_43 : cL_law.data.toList.drop 1243 = dktL_law_43 := dk_seg dksL_law_42 22 rfl rfl
theorem dksL_law_44 : cL_law.data.toList.drop 1267 = dktL_law_44 := dk_seg dksL_law_43 24 rfl rfl
theorem dksL_law_45 : cL_law.data.toList.drop 1289 = dktL_law_45 := dk_seg dksL_law_44 22 rfl rfl
theorem dksL_law_46 : cL_law.data.toList.drop 1313 = dktL_law_46 := dk_seg dksL_law_45 24 rfl rfl
theorem dksL_law_47 : cL_law.data.toList.drop 1337 = dktL_law_47 := dk_seg dksL_law_46 24 rfl rfl
theorem dksL_law_48 : cL_law.data.toList.drop 1359 = dktL_law_48 := dk_seg dksL_law_47 22 rfl rfl
theorem dksL_law_49 : cL_law.data.toList.drop 1383 = dktL_law_49 := dk_seg dksL_law_48 24 rfl rfl
theorem dksL_law_50 : cL_law.data.toList.drop 1407 = dktL_law_50 := dk_seg dksL_law_49 24 rfl rfl
theorem dksL_law_51 : cL_law.data.toList.drop 1431 = dktL_law_51 := dk_seg dksL_law_50 24 rfl rfl
theorem dksL_law_52 : cL_law.data.toList.drop 1455 = dktL_law_52 := dk_seg dksL_law_51 24 rfl rfl
theorem dksL_law_53 : cL_law.data.toList.drop 1478 = dktL_law_53 := dk_seg dksL_law_52 23 rfl rfl
theorem dksL_law_54 : cL_law.data.toList.drop 1502 = dktL_law_54 := dk_seg dksL_law_53 24 rfl rfl
theorem dksL_law_55 : cL_law.data.toList.drop 1524 = dktL_law_55 := dk_seg dksL_law_54 22 rfl rfl
theorem dksL_law_56 : cL_law.data.toList.drop 1546 = dktL_law_56 := dk_seg dksL_law_55 22 rfl rfl
theorem dksL_law_57 : cL_law.data.toList.drop 1570 = dktL_law_57 := dk_seg dksL_law_56 24 rfl rfl
theorem dksL_law_58 : cL_law.data.toList.drop 1592 = dktL_law_58 := dk_seg dksL_law_57 22 rfl rfl
theorem dksL_law_59 : cL_law.data.toList.drop 1616 = dktL_law_59 := dk_seg dksL_law_58 24 rfl rfl
theorem dksL_law_60 : cL_law.data.toList.drop 1640 = dktL_law_60 := dk_seg dksL_law_59 24 rfl rfl
theorem dksL_law_61 : cL_law.data.toList.drop 1664 = dktL_law_61 := dk_seg dksL_law_60 24 rfl rfl
theorem dksL_law_62 : cL_law.data.toList.drop 1688 = dktL_law_62 := dk_seg dksL_law_61 24 rfl rfl
theorem dksL_law_63 : cL_law.data.toList.drop 1711 = dktL_law_63 := dk_seg dksL_law_62 23 rfl rfl
theorem dksL_law_64 : cL_law.data.toList.drop 1735 = dktL_law_64 := dk_seg dksL_law_63 24 rfl rfl
theorem dksL_law_65 : cL_law.data.toList.drop 1759 = dktL_law_65 := dk_seg dksL_law_64 24 rfl rfl
theorem dksL_law_66 : cL_law.data.toList.drop 1783 = dktL_law_66 := dk_seg dksL_law_65 24 rfl rfl
theorem dksL_law_67 : cL_law.data.toList.drop 1807 = dktL_law_67 := dk_seg dksL_law_66 24 rfl rfl
theorem dksL_law_68 : cL_law.data.toList.drop 1831 = dktL_law_68 := dk_seg dksL_law_67 24 rfl rfl
theorem dksL_law_69 : cL_law.data.toList.drop 1854 = dktL_law_69 := dk_seg dksL_law_68 23 rfl rfl
theorem dksL_law_70 : cL_law.data.toList.drop 1878 = dktL_law_70 := dk_seg dksL_law_69 24 rfl rfl
theorem dksL_law_71 : cL_law.data.toList.drop 1901 = dktL_law_71 := dk_seg dksL_law_70 23 rfl rfl
theorem dksL_law_72 : cL_law.data.toList.drop 1925 = dktL_law_72 := dk_seg dksL_law_71 24 rfl rfl
theorem dksL_law_73 : cL_law.data.toList.drop 1949 = dktL_law_73 := dk_seg dksL_law_72 24 rfl rfl
theorem dksL_law_74 : cL_law.data.toList.drop 1973 = dktL_law_74 := dk_seg dksL_law_73 24 rfl rfl
theorem dksL_law_75 : cL_law.data.toList.drop 1997 = dktL_law_75 := dk_seg dksL_law_74 24 rfl rfl
theorem dksL_law_76 : cL_law.data.toList.drop 2020 = dktL_law_76 := dk_seg dksL_law_75 23 rfl rfl
theorem dksL_law_77 : cL_law.data.toList.drop 2044 = dktL_law_77 := dk_seg dksL_law_76 24 rfl rfl
theorem dksL_law_78 : cL_law.data.toList.drop 2067 = dktL_law_78 := dk_seg dksL_law_77 23 rfl rfl
theorem dksL_law_79 : cL_law.data.toList.drop 2091 = dktL_law_79 := dk_seg dksL_law_78 24 rfl rfl
theorem dksL_law_80 : cL_law.data.toList.drop 2114 = dktL_law_80 := dk_seg dksL_law_79 23 rfl rfl
theorem dksL_law_81 : cL_law.data.toList.drop 2138 = dktL_law_81 := dk_seg dksL_law_80 24 rfl rfl
theorem dksL_law_82 : cL_law.data.toList.drop 2160 = dktL_law_82 := dk_seg dksL_law_81 22 rfl rfl
theorem dksL_law_83 : cL_law.data.toList.drop 2183 = dktL_law_83 := dk_seg dksL_law_82 23 rfl rfl
theorem dksL_law_84 : cL_law.data.toList.drop 2207 = dktL_law_84 := dk_seg dksL_law_83 24 rfl rfl
theorem dksL_law_85 : cL_law.data.toList.drop 2230 = dktL_law_85 := dk_seg dksL_law_84 23 rfl rfl
theorem dksL_law_86 : cL_law.data.toList.drop 2254 = dktL_law_86 := dk_seg dksL_law_85 24 rfl rfl
theorem dksL_law_87 : cL_law.data.toList.drop 2277 = dktL_law_87 := dk_seg dksL_law_86 23 rfl rfl
theorem dksL_law_88 : cL_law.data.toList.drop 2301 = dktL_law_88 := dk_seg dksL_law_87 24 rfl rfl
theorem dksL_law_89 : cL_law.data.toList.drop 2323 = dktL_law_89 := dk_seg dksL_law_88 22 rfl rfl
theorem dksL_law_90 : cL_law.data.toList.drop 2347 = dktL_law_90 := dk_seg dksL_law_89 24 rfl rfl
theorem dksL_law_91 : cL_law.data.toList.drop 2371 = dktL_law_91 := dk_seg dksL_law_90 24 rfl rfl
theorem dksL_law_92 : cL_law.data.toList.drop 2395 = dktL_law_92 := dk_seg dksL_law_91 24 rfl rfl
theorem dksL_law_93 : cL_law.data.toList.drop 2418 = dktL_law_93 := dk_seg dksL_law_92 23 rfl rfl
theorem dksL_law_94 : cL_law.data.toList.drop 2442 = dktL_law_94 := dk_seg dksL_law_93 24 rfl rfl
theorem dksL_law_95 : cL_law.data.toList.drop 2466 = dktL_law_95 := dk_seg dksL_law_94 24 rfl rfl
theorem dksL_law_96 : cL_law.data.toList.drop 2490 = dktL_law_96 := dk_seg dksL_law_95 24 rfl rfl
theorem dksL_law_97 : cL_law.data.toList.drop 2513 = dktL_law_97 := dk_seg dksL_law_96 23 rfl rfl
theorem dksL_law_98 : cL_law.data.toList.drop 2537 = dktL_law_98 := dk_seg dksL_law_97 24 rfl rfl
theorem dksL_law_99 : cL_law.data.toList.drop 2561 = dktL_law_99 := dk_seg dksL_law_98 24 rfl rfl
theorem dksL_law_100 : cL_law.data.toList.drop 2585 = dktL_law_100 := dk_seg dksL_law_99 24 rfl rfl
theorem dksL_law_101 : cL_law.data.toList.drop 2609 = dktL_law_101 := dk_seg dksL_law_100 24 rfl rfl
theorem dksL_law_102 : cL_law.data.toList.drop 2633 = dktL_law_102 := dk_seg dksL_law_101 24 rfl rfl
theorem dksL_law_103 : cL_law.data.toList.drop 2656 = dktL_law_103 := dk_seg dksL_law_102 23 rfl rfl
theorem dksL_law_104 : cL_law.data.toList.drop 2679 = dktL_law_104 := dk_seg dksL_law_103 23 rfl rfl
theorem dksL_law_105 : cL_law.data.toList.drop 2703 = dktL_law_105 := dk_seg dksL_law_104 24 rfl rfl
theorem dksL_law_106 : cL_law.data.toList.drop 2726 = dktL_law_106 := dk_seg dksL_law_105 23 rfl rfl
theorem dksL_law_107 : cL_law.data.toList.drop 2748 = dktL_law_107 := dk_seg dksL_law_106 22 rfl rfl
theorem dksL_law_108 : cL_law.data.toList.drop 2770 = dktL_law_108 := dk_seg dksL_law_107 22 rfl rfl
theorem dksL_law_109 : cL_law.data.toList.drop 2792 = dktL_law_109 := dk_seg dksL_law_108 22 rfl rfl
theorem dksL_law_110 : cL_law.data.toList.drop 2814 = dktL_law_110 := dk_seg dksL_law_109 22 rfl rfl
theorem dksL_law_111 : cL_law.data.toList.drop 2836 = dktL_law_111 := dk_seg dksL_law_110 22 rfl rfl
theorem dksL_law_112 : cL_law.data.toList.drop 2858 = dktL_law_112 := dk_seg dksL_law_111 22 rfl rfl
theorem dksL_law_113 : cL_law.data.toList.drop 2880 = dktL_law_113 := dk_seg dksL_law_112 22 rfl rfl
theorem dksL_law_114 : cL_law.data.toList.drop 2902 = dktL_law_114 := dk_seg dksL_law_113 22 rfl rfl
theorem dksL_law_115 : cL_law.data.toList.drop 2924 = dktL_law_115 := dk_seg dksL_law_114 22 rfl rfl
theorem dksL_law_116 : cL_law.data.toList.drop 2946 = dktL_law_116 := dk_seg dksL_law_115 22 rfl rfl
theorem dksL_law_117 : cL_law.data.toList.drop 2968 = dktL_law_117 := dk_seg dksL_law_116 22 rfl rfl
theorem dksL_law_118 : cL_law.data.toList.drop 2991 = dktL_law_118 := dk_seg dksL_law_117 23 rfl rfl
theorem dksL_law_119 : cL_law.data.toList.drop 3015 = dktL_law_119 := dk_seg dksL_law_118 24 rfl rfl
theorem dksL_law_120 : cL_law.data.toList.drop 3039 = dktL_law_120 := dk_seg dksL_law_119 24 rfl rfl
theorem dL_law_0 : decode cL_law 0 = .ok (.new 8, 3) := dk_187 0 8 (dk_at dksL_law_0 0 rfl rfl)
theorem dL_law_3 : decode cL_law 3 = .ok (.dup, 1) := dk_89 (dk_at dksL_law_0 3 rfl rfl)
theorem dL_law_4 : decode cL_law 4 = .ok (.invokespecial 160, 3) := dk_183 0 160 (dk_at dksL_law_0 4 rfl rfl)
theorem dL_law_7 : decode cL_law 7 = .ok (.astore_n 1, 1) := dk_76 (dk_at dksL_law_0 7 rfl rfl)
theorem dL_law_8 : decode cL_law 8 = .ok (.new 161, 3) := dk_187 0 161 (dk_at dksL_law_0 8 rfl rfl)
theorem dL_law_11 : decode cL_law 11 = .ok (.dup, 1) := dk_89 (dk_at dksL_law_0 11 rfl rfl)
theorem dL_law_12 : decode cL_law 12 = .ok (.invokespecial 163, 3) := dk_183 0 163 (dk_at dksL_law_0 12 rfl rfl)
theorem dL_law_15 : decode cL_law 15 = .ok (.astore_n 2, 1) := dk_77 (dk_at dksL_law_0 15 rfl rfl)
theorem dL_law_16 : decode cL_law 16 = .ok (.iconst 1, 1) := dk_4 (dk_at dksL_law_0 16 rfl rfl)
theorem dL_law_17 : decode cL_law 17 = .ok (.newarray .long, 2) := dk_188_11 (dk_at dksL_law_0 17 rfl rfl)
theorem dL_law_19 : decode cL_law 19 = .ok (.astore_n 3, 1) := dk_78 (dk_at dksL_law_0 19 rfl rfl)
theorem dL_law_20 : decode cL_law 20 = .ok (.iconst 1, 1) := dk_4 (dk_at dksL_law_0 20 rfl rfl)
theorem dL_law_21 : decode cL_law 21 = .ok (.newarray .double, 2) := dk_188_7 (dk_at dksL_law_0 21 rfl rfl)
theorem dL_law_23 : decode cL_law 23 = .ok (.astore 4, 2) := dk_58 4 (dk_at dksL_law_1 0 rfl rfl)
theorem dL_law_25 : decode cL_law 25 = .ok (.iconst 0, 1) := dk_3 (dk_at dksL_law_1 2 rfl rfl)
theorem dL_law_26 : decode cL_law 26 = .ok (.istore 5, 2) := dk_54 5 (dk_at dksL_law_1 3 rfl rfl)
theorem dL_law_28 : decode cL_law 28 = .ok (.iload 5, 2) := dk_21 5 (dk_at dksL_law_1 5 rfl rfl)
theorem dL_law_30 : decode cL_law 30 = .ok (.aload_n 0, 1) := dk_42 (dk_at dksL_law_1 7 rfl rfl)
theorem dL_law_31 : decode cL_law 31 = .ok (.arraylength, 1) := dk_190 (dk_at dksL_law_1 8 rfl rfl)
theorem dL_law_32 : decode cL_law 32 = .ok (.iconst 4, 1) := dk_7 (dk_at dksL_law_1 9 rfl rfl)
theorem dL_law_33 : decode cL_law 33 = .ok (.isub, 1) := dk_100 (dk_at dksL_law_1 10 rfl rfl)
theorem dL_law_34 : decode cL_law 34 = .ok (.if_icmp .gt 3005, 3) := dk_163 11 189 (dk_at dksL_law_1 11 rfl rfl)
theorem dL_law_37 : decode cL_law 37 = .ok (.aload_n 0, 1) := dk_42 (dk_at dksL_law_1 14 rfl rfl)
theorem dL_law_38 : decode cL_law 38 = .ok (.iload 5, 2) := dk_21 5 (dk_at dksL_law_1 15 rfl rfl)
theorem dL_law_40 : decode cL_law 40 = .ok (.iaload, 1) := dk_46 (dk_at dksL_law_1 17 rfl rfl)
theorem dL_law_41 : decode cL_law 41 = .ok (.bipush 63, 2) := dk_16 63 (dk_at dksL_law_1 18 rfl rfl)
theorem dL_law_43 : decode cL_law 43 = .ok (.iand, 1) := dk_126 (dk_at dksL_law_1 20 rfl rfl)
theorem dL_law_44 : decode cL_law 44 = .ok (.tableswitch 2989 0 61 #[264, 344, 400, 468, 524, 592, 648, 661, 729, 785, 841, 897, 960, 1023, 1086, 1142, 1198, 1211, 1281, 1294, 1307, 1320, 1376, 1432, 1488, 1501, 1514, 1584, 1597, 1653, 1666, 1679, 1692, 1772, 1828, 1891, 1947, 2003, 2059, 2115, 2128, 2184, 2228, 2242, 2256, 2270, 2284, 2298, 2354, 2419, 2485, 2498, 2554, 2610, 2668, 2712, 2756, 2800, 2844, 2888, 2932, 2945], 264) := by decide +kernel
theorem dL_law_308 : decode cL_law 308 = .ok (.aload_n 1, 1) := dk_43 (dk_at dksL_law_3 0 rfl rfl)
theorem dL_law_309 : decode cL_law 309 = .ok (.aload_n 0, 1) := dk_42 (dk_at dksL_law_3 1 rfl rfl)
theorem dL_law_310 : decode cL_law 310 = .ok (.iload 5, 2) := dk_21 5 (dk_at dksL_law_3 2 rfl rfl)
theorem dL_law_312 : decode cL_law 312 = .ok (.iconst 1, 1) := dk_4 (dk_at dksL_law_3 4 rfl rfl)
theorem dL_law_313 : decode cL_law 313 = .ok (.iadd, 1) := dk_96 (dk_at dksL_law_3 5 rfl rfl)
theorem dL_law_314 : decode cL_law 314 = .ok (.iaload, 1) := dk_46 (dk_at dksL_law_3 6 rfl rfl)
theorem dL_law_315 : decode cL_law 315 = .ok (.aload_n 0, 1) := dk_42 (dk_at dksL_law_3 7 rfl rfl)
theorem dL_law_316 : decode cL_law 316 = .ok (.iload 5, 2) := dk_21 5 (dk_at dksL_law_3 8 rfl rfl)
theorem dL_law_318 : decode cL_law 318 = .ok (.iconst 2, 1) := dk_5 (dk_at dksL_law_3 10 rfl rfl)
theorem dL_law_319 : decode cL_law 319 = .ok (.iadd, 1) := dk_96 (dk_at dksL_law_3 11 rfl rfl)
theorem dL_law_320 : decode cL_law 320 = .ok (.iaload, 1) := dk_46 (dk_at dksL_law_3 12 rfl rfl)
theorem dL_law_321 : decode cL_law 321 = .ok (.aload_n 0, 1) := dk_42 (dk_at dksL_law_3 13 rfl rfl)
theorem dL_law_322 : decode cL_law 322 = .ok (.iload 5, 2) := dk_21 5 (dk_at dksL_law_3 14 rfl rfl)
theorem dL_law_324 : decode cL_law 324 = .ok (.iconst 3, 1) := dk_6 (dk_at dksL_law_3 16 rfl rfl)
theorem dL_law_325 : decode cL_law 325 = .ok (.iadd, 1) := dk_96 (dk_at dksL_law_3 17 rfl rfl)
theorem dL_law_326 : decode cL_law 326 = .ok (.iaload, 1) := dk_46 (dk_at dksL_law_3 18 rfl rfl)
theorem dL_law_327 : decode cL_law 327 = .ok (.aload_n 3, 1) := dk_45 (dk_at dksL_law_3 19 rfl rfl)
theorem dL_law_328 : decode cL_law 328 = .ok (.invokestatic 164, 3) := dk_184 0 164 (dk_at dksL_law_3 20 rfl rfl)
theorem dL_law_331 : decode cL_law 331 = .ok (.istore 6, 2) := dk_54 6 (dk_at dksL_law_4 0 rfl rfl)
theorem dL_law_333 : decode cL_law 333 = .ok (.aload_n 2, 1) := dk_44 (dk_at dksL_law_4 2 rfl rfl)
theorem dL_law_334 : decode cL_law 334 = .ok (.aload_n 0, 1) := dk_42 (dk_at dksL_law_4 3 rfl rfl)
theorem dL_law_335 : decode cL_law 335 = .ok (.iload 5, 2) := dk_21 5 (dk_at dksL_law_4 4 rfl rfl)
theorem dL_law_337 : decode cL_law 337 = .ok (.iconst 1, 1) := dk_4 (dk_at dksL_law_4 6 rfl rfl)
theorem dL_law_338 : decode cL_law 338 = .ok (.iadd, 1) := dk_96 (dk_at dksL_law_4 7 rfl rfl)
theorem dL_law_339 : decode cL_law 339 = .ok (.iaload, 1) := dk_46 (dk_at dksL_law_4 8 rfl rfl)
theorem dL_law_340 : decode cL_law 340 = .ok (.aload_n 0, 1) := dk_42 (dk_at dksL_law_4 9 rfl rfl)
theorem dL_law_341 : decode cL_law 341 = .ok (.iload 5, 2) := dk_21 5 (dk_at dksL_law_4 10 rfl rfl)
theorem dL_law_343 : decode cL_law 343 = .ok (.iconst 2, 1) := dk_5 (dk_at dksL_law_4 12 rfl rfl)
theorem dL_law_344 : decode cL_law 344 = .ok (.iadd, 1) := dk_96 (dk_at dksL_law_4 13 rfl rfl)
theorem dL_law_345 : decode cL_law 345 = .ok (.iaload, 1) := dk_46 (dk_at dksL_law_4 14 rfl rfl)
theorem dL_law_346 : decode cL_law 346 = .ok (.aload_n 0, 1) := dk_42 (dk_at dksL_law_4 15 rfl rfl)
theorem dL_law_347 : decode cL_law 347 = .ok (.iload 5, 2) := dk_21 5 (dk_at dksL_law_4 16 rfl rfl)
theorem dL_law_349 : decode cL_law 349 = .ok (.iconst 3, 1) := dk_6 (dk_at dksL_law_4 18 rfl rfl)
theorem dL_law_350 : decode cL_law 350 = .ok (.iadd, 1) := dk_96 (dk_at dksL_law_4 19 rfl rfl)
theorem dL_law_351 : decode cL_law 351 = .ok (.iaload, 1) := dk_46 (dk_at dksL_law_4 20 rfl rfl)
theorem dL_law_352 : decode cL_law 352 = .ok (.invokevirtual 169, 3) := dk_182 0 169 (dk_at dksL_law_4 21 rfl rfl)
theorem dL_law_355 : decode cL_law 355 = .ok (.istore 7, 2) := dk_54 7 (dk_at dksL_law_5 0 rfl rfl)
theorem dL_law_357 : decode cL_law 357 = .ok (.aload_n 2, 1) := dk_44 (dk_at dksL_law_5 2 rfl rfl)
theorem dL_law_358 : decode cL_law 358 = .ok (.invokevirtual 170, 3) := dk_182 0 170 (dk_at dksL_law_5 3 rfl rfl)
theorem dL_law_361 : decode cL_law 361 = .ok (.iload 6, 2) := dk_21 6 (dk_at dksL_law_5 6 rfl rfl)
theorem dL_law_363 : decode cL_law 363 = .ok (.if_icmp .eq 5, 3) := dk_159 0 5 (dk_at dksL_law_5 8 rfl rfl)
theorem dL_law_366 : decode cL_law 366 = .ok (.iconst 0, 1) := dk_3 (dk_at dksL_law_5 11 rfl rfl)
theorem dL_law_367 : decode cL_law 367 = .ok (.ireturn, 1) := dk_172 (dk_at dksL_law_5 12 rfl rfl)
theorem dL_law_368 : decode cL_law 368 = .ok (.iload 6, 2) := dk_21 6 (dk_at dksL_law_5 13 rfl rfl)
theorem dL_law_370 : decode cL_law 370 = .ok (.ifCond .ne 15, 3) := dk_154 0 15 (dk_at dksL_law_5 15 rfl rfl)
theorem dL_law_373 : decode cL_law 373 = .ok (.aload_n 3, 1) := dk_45 (dk_at dksL_law_5 18 rfl rfl)
theorem dL_law_374 : decode cL_law 374 = .ok (.iconst 0, 1) := dk_3 (dk_at dksL_law_5 19 rfl rfl)
theorem dL_law_375 : decode cL_law 375 = .ok (.laload, 1) := dk_47 (dk_at dksL_law_5 20 rfl rfl)
theorem dL_law_376 : decode cL_law 376 = .ok (.iload 7, 2) := dk_21 7 (dk_at dksL_law_5 21 rfl rfl)
theorem dL_law_378 : decode cL_law 378 = .ok (.i2l, 1) := dk_133 (dk_at dksL_law_5 23 rfl rfl)
theorem dL_law_379 : decode cL_law 379 = .ok (.lcmp, 1) := dk_148 (dk_at dksL_law_6 0 rfl rfl)
theorem dL_law_380 : decode cL_law 380 = .ok (.ifCond .eq 5, 3) := dk_153 0 5 (dk_at dksL_law_6 1 rfl rfl)
theorem dL_law_383 : decode cL_law 383 = .ok (.iconst 0, 1) := dk_3 (dk_at dksL_law_6 4 rfl rfl)
theorem dL_law_384 : decode cL_law 384 = .ok (.ireturn, 1) := dk_172 (dk_at dksL_law_6 5 rfl rfl)
theorem dL_law_385 : decode cL_law 385 = .ok (.goto 2648, 3) := dk_167 10 88 (dk_at dksL_law_6 6 rfl rfl)
theorem dL_law_388 : decode cL_law 388 = .ok (.aload_n 1, 1) := dk_43 (dk_at dksL_law_6 9 rfl rfl)
theorem dL_law_389 : decode cL_law 389 = .ok (.aload_n 0, 1) := dk_42 (dk_at dksL_law_6 10 rfl rfl)
theorem dL_law_390 : decode cL_law 390 = .ok (.iload 5, 2) := dk_21 5 (dk_at dksL_law_6 11 rfl rfl)
theorem dL_law_392 : decode cL_law 392 = .ok (.iconst 1, 1) := dk_4 (dk_at dksL_law_6 13 rfl rfl)
theorem dL_law_393 : decode cL_law 393 = .ok (.iadd, 1) := dk_96 (dk_at dksL_law_6 14 rfl rfl)
theorem dL_law_394 : decode cL_law 394 = .ok (.iaload, 1) := dk_46 (dk_at dksL_law_6 15 rfl rfl)
theorem dL_law_395 : decode cL_law 395 = .ok (.aload_n 3, 1) := dk_45 (dk_at dksL_law_6 16 rfl rfl)
theorem dL_law_396 : decode cL_law 396 = .ok (.invokestatic 173, 3) := dk_184 0 173 (dk_at dksL_law_6 17 rfl rfl)
theorem dL_law_399 : decode cL_law 399 = .ok (.istore 6, 2) := dk_54 6 (dk_at dksL_law_6 20 rfl rfl)
theorem dL_law_401 : decode cL_law 401 = .ok (.aload_n 2, 1) := dk_44 (dk_at dksL_law_6 22 rfl rfl)
theorem dL_law_402 : decode cL_law 402 = .ok (.aload_n 0, 1) := dk_42 (dk_at dksL_law_6 23 rfl rfl)
theorem dL_law_403 : decode cL_law 403 = .ok (.iload 5, 2) := dk_21 5 (dk_at dksL_law_7 0 rfl rfl)
theorem dL_law_405 : decode cL_law 405 = .ok (.iconst 1, 1) := dk_4 (dk_at dksL_law_7 2 rfl rfl)
theorem dL_law_406 : decode cL_law 406 = .ok (.iadd, 1) := dk_96 (dk_at dksL_law_7 3 rfl rfl)
theorem dL_law_407 : decode cL_law 407 = .ok (.iaload, 1) := dk_46 (dk_at dksL_law_7 4 rfl rfl)
theorem dL_law_408 : decode cL_law 408 = .ok (.invokevirtual 176, 3) := dk_182 0 176 (dk_at dksL_law_7 5 rfl rfl)
theorem dL_law_411 : decode cL_law 411 = .ok (.istore 7, 2) := dk_54 7 (dk_at dksL_law_7 8 rfl rfl)
theorem dL_law_413 : decode cL_law 413 = .ok (.aload_n 2, 1) := dk_44 (dk_at dksL_law_7 10 rfl rfl)
theorem dL_law_414 : decode cL_law 414 = .ok (.invokevirtual 170, 3) := dk_182 0 170 (dk_at dksL_law_7 11 rfl rfl)
theorem dL_law_417 : decode cL_law 417 = .ok (.iload 6, 2) := dk_21 6 (dk_at dksL_law_7 14 rfl rfl)
theorem dL_law_419 : decode cL_law 419 = .ok (.if_icmp .eq 5, 3) := dk_159 0 5 (dk_at dksL_law_7 16 rfl rfl)
theorem dL_law_422 : decode cL_law 422 = .ok (.iconst 0, 1) := dk_3 (dk_at dksL_law_7 19 rfl rfl)
theorem dL_law_423 : decode cL_law 423 = .ok (.ireturn, 1) := dk_172 (dk_at dksL_law_7 20 rfl rfl)
theorem dL_law_424 : decode cL_law 424 = .ok (.iload 6, 2) := dk_21 6 (dk_at dksL_law_7 21 rfl rfl)
theorem dL_law_426 : decode cL_law 426 = .ok (.ifCond .ne 15, 3) := dk_154 0 15 (dk_at dksL_law_8 0 rfl rfl)
theorem dL_law_429 : decode cL_law 429 = .ok (.aload_n 3, 1) := dk_45 (dk_at dksL_law_8 3 rfl rfl)
theorem dL_law_430 : decode cL_law 430 = .ok (.iconst 0, 1) := dk_3 (dk_at dksL_law_8 4 rfl rfl)
theorem dL_law_431 : decode cL_law 431 = .ok (.laload, 1) := dk_47 (dk_at dksL_law_8 5 rfl rfl)
theorem dL_law_432 : decode cL_law 432 = .ok (.iload 7, 2) := dk_21 7 (dk_at dksL_law_8 6 rfl rfl)
theorem dL_law_434 : decode cL_law 434 = .ok (.i2l, 1) := dk_133 (dk_at dksL_law_8 8 rfl rfl)
theorem dL_law_435 : decode cL_law 435 = .ok (.lcmp, 1) := dk_148 (dk_at dksL_law_8 9 rfl rfl)
theorem dL_law_436 : decode cL_law 436 = .ok (.ifCond .eq 5, 3) := dk_153 0 5 (dk_at dksL_law_8 10 rfl rfl)
theorem dL_law_439 : decode cL_law 439 = .ok (.iconst 0, 1) := dk_3 (dk_at dksL_law_8 13 rfl rfl)
theorem dL_law_440 : decode cL_law 440 = .ok (.ireturn, 1) := dk_172 (dk_at dksL_law_8 14 rfl rfl)
theorem dL_law_441 : decode cL_law 441 = .ok (.goto 2592, 3) := dk_167 10 32 (dk_at dksL_law_8 15 rfl rfl)
theorem dL_law_444 : decode cL_law 444 = .ok (.aload_n 1, 1) := dk_43 (dk_at dksL_law_8 18 rfl rfl)
theorem dL_law_445 : decode cL_law 445 = .ok (.aload_n 0, 1) := dk_42 (dk_at dksL_law_8 19 rfl rfl)
theorem dL_law_446 : decode cL_law 446 = .ok (.iload 5, 2) := dk_21 5 (dk_at dksL_law_8 20 rfl rfl)
theorem dL_law_448 : decode cL_law 448 = .ok (.iconst 1, 1) := dk_4 (dk_at dksL_law_8 22 rfl rfl)
theorem dL_law_449 : decode cL_law 449 = .ok (.iadd, 1) := dk_96 (dk_at dksL_law_8 23 rfl rfl)
theorem dL_law_450 : decode cL_law 450 = .ok (.iaload, 1) := dk_46 (dk_at dksL_law_9 0 rfl rfl)
theorem dL_law_451 : decode cL_law 451 = .ok (.aload_n 0, 1) := dk_42 (dk_at dksL_law_9 1 rfl rfl)
theorem dL_law_452 : decode cL_law 452 = .ok (.iload 5, 2) := dk_21 5 (dk_at dksL_law_9 2 rfl rfl)
theorem dL_law_454 : decode cL_law 454 = .ok (.iconst 2, 1) := dk_5 (dk_at dksL_law_9 4 rfl rfl)
theorem dL_law_455 : decode cL_law 455 = .ok (.iadd, 1) := dk_96 (dk_at dksL_law_9 5 rfl rfl)
theorem dL_law_456 : decode cL_law 456 = .ok (.iaload, 1) := dk_46 (dk_at dksL_law_9 6 rfl rfl)
theorem dL_law_457 : decode cL_law 457 = .ok (.aload_n 3, 1) := dk_45 (dk_at dksL_law_9 7 rfl rfl)
theorem dL_law_458 : decode cL_law 458 = .ok (.invokestatic 177, 3) := dk_184 0 177 (dk_at dksL_law_9 8 rfl rfl)
theorem dL_law_461 : decode cL_law 461 = .ok (.istore 6, 2) := dk_54 6 (dk_at dksL_law_9 11 rfl rfl)
theorem dL_law_463 : decode cL_law 463 = .ok (.aload_n 2, 1) := dk_44 (dk_at dksL_law_9 13 rfl rfl)
theorem dL_law_464 : decode cL_law 464 = .ok (.aload_n 0, 1) := dk_42 (dk_at dksL_law_9 14 rfl rfl)
theorem dL_law_465 : decode cL_law 465 = .ok (.iload 5, 2) := dk_21 5 (dk_at dksL_law_9 15 rfl rfl)
theorem dL_law_467 : decode cL_law 467 = .ok (.iconst 1, 1) := dk_4 (dk_at dksL_law_9 17 rfl rfl)
theorem dL_law_468 : decode cL_law 468 = .ok (.iadd, 1) := dk_96 (dk_at dksL_law_9 18 rfl rfl)
theorem dL_law_469 : decode cL_law 469 = .ok (.iaload, 1) := dk_46 (dk_at dksL_law_9 19 rfl rfl)
theorem dL_law_470 : decode cL_law 470 = .ok (.aload_n 0, 1) := dk_42 (dk_at dksL_law_9 20 rfl rfl)
theorem dL_law_471 : decode cL_law 471 = .ok (.iload 5, 2) := dk_21 5 (dk_at dksL_law_9 21 rfl rfl)
theorem dL_law_473 : decode cL_law 473 = .ok (.iconst 2, 1) := dk_5 (dk_at dksL_law_9 23 rfl rfl)
theorem dL_law_474 : decode cL_law 474 = .ok (.iadd, 1) := dk_96 (dk_at dksL_law_10 0 rfl rfl)
theorem dL_law_475 : decode cL_law 475 = .ok (.iaload, 1) := dk_46 (dk_at dksL_law_10 1 rfl rfl)
theorem dL_law_476 : decode cL_law 476 = .ok (.invokevirtual 180, 3) := dk_182 0 180 (dk_at dksL_law_10 2 rfl rfl)
theorem dL_law_479 : decode cL_law 479 = .ok (.istore 7, 2) := dk_54 7 (dk_at dksL_law_10 5 rfl rfl)
theorem dL_law_481 : decode cL_law 481 = .ok (.aload_n 2, 1) := dk_44 (dk_at dksL_law_10 7 rfl rfl)
theorem dL_law_482 : decode cL_law 482 = .ok (.invokevirtual 170, 3) := dk_182 0 170 (dk_at dksL_law_10 8 rfl rfl)
theorem dL_law_485 : decode cL_law 485 = .ok (.iload 6, 2) := dk_21 6 (dk_at dksL_law_10 11 rfl rfl)
theorem dL_law_487 : decode cL_law 487 = .ok (.if_icmp .eq 5, 3) := dk_159 0 5 (dk_at dksL_law_10 13 rfl rfl)
theorem dL_law_490 : decode cL_law 490 = .ok (.iconst 0, 1) := dk_3 (dk_at dksL_law_10 16 rfl rfl)
theorem dL_law_491 : decode cL_law 491 = .ok (.ireturn, 1) := dk_172 (dk_at dksL_law_10 17 rfl rfl)
theorem dL_law_492 : decode cL_law 492 = .ok (.iload 6, 2) := dk_21 6 (dk_at dksL_law_10 18 rfl rfl)
theorem dL_law_494 : decode cL_law 494 = .ok (.ifCond .ne 15, 3) := dk_154 0 15 (dk_at dksL_law_10 20 rfl rfl)
theorem dL_law_497 : decode cL_law 497 = .ok (.aload_n 3, 1) := dk_45 (dk_at dksL_law_10 23 rfl rfl)
theorem dL_law_498 : decode cL_law 498 = .ok (.iconst 0, 1) := dk_3 (dk_at dksL_law_11 0 rfl rfl)
theorem dL_law_499 : decode cL_law 499 = .ok (.laload, 1) := dk_47 (dk_at dksL_law_11 1 rfl rfl)
theorem dL_law_500 : decode cL_law 500 = .ok (.iload 7, 2) := dk_21 7 (dk_at dksL_law_11 2 rfl rfl)
theorem dL_law_502 : decode cL_law 502 = .ok (.i2l, 1) := dk_133 (dk_at dksL_law_11 4 rfl rfl)
theorem dL_law_503 : decode cL_law 503 = .ok (.lcmp, 1) := dk_148 (dk_at dksL_law_11 5 rfl rfl)
theorem dL_law_504 : decode cL_law 504 = .ok (.ifCond .eq 5, 3) := dk_153 0 5 (dk_at dksL_law_11 6 rfl rfl)
theorem dL_law_507 : decode cL_law 507 = .ok (.iconst 0, 1) := dk_3 (dk_at dksL_law_11 9 rfl rfl)
theorem dL_law_508 : decode cL_law 508 = .ok (.ireturn, 1) := dk_172 (dk_at dksL_law_11 10 rfl rfl)
theorem dL_law_509 : decode cL_law 509 = .ok (.goto 2524, 3) := dk_167 9 220 (dk_at dksL_law_11 11 rfl rfl)
theorem dL_law_512 : decode cL_law 512 = .ok (.aload_n 1, 1) := dk_43 (dk_at dksL_law_11 14 rfl rfl)
theorem dL_law_513 : decode cL_law 513 = .ok (.aload_n 0, 1) := dk_42 (dk_at dksL_law_11 15 rfl rfl)
theorem dL_law_514 : decode cL_law 514 = .ok (.iload 5, 2) := dk_21 5 (dk_at dksL_law_11 16 rfl rfl)
theorem dL_law_516 : decode cL_law 516 = .ok (.iconst 1, 1) := dk_4 (dk_at dksL_law_11 18 rfl rfl)
theorem dL_law_517 : decode cL_law 517 = .ok (.iadd, 1) := dk_96 (dk_at dksL_law_11 19 rfl rfl)
theorem dL_law_518 : decode cL_law 518 = .ok (.iaload, 1) := dk_46 (dk_at dksL_law_11 20 rfl rfl)
theorem dL_law_519 : decode cL_law 519 = .ok (.aload_n 3, 1) := dk_45 (dk_at dksL_law_11 21 rfl rfl)
theorem dL_law_520 : decode cL_law 520 = .ok (.invokestatic 181, 3) := dk_184 0 181 (dk_at dksL_law_12 0 rfl rfl)
theorem dL_law_523 : decode cL_law 523 = .ok (.istore 6, 2) := dk_54 6 (dk_at dksL_law_12 3 rfl rfl)
theorem dL_law_525 : decode cL_law 525 = .ok (.aload_n 2, 1) := dk_44 (dk_at dksL_law_12 5 rfl rfl)
theorem dL_law_526 : decode cL_law 526 = .ok (.aload_n 0, 1) := dk_42 (dk_at dksL_law_12 6 rfl rfl)
theorem dL_law_527 : decode cL_law 527 = .ok (.iload 5, 2) := dk_21 5 (dk_at dksL_law_12 7 rfl rfl)
theorem dL_law_529 : decode cL_law 529 = .ok (.iconst 1, 1) := dk_4 (dk_at dksL_law_12 9 rfl rfl)
theorem dL_law_530 : decode cL_law 530 = .ok (.iadd, 1) := dk_96 (dk_at dksL_law_12 10 rfl rfl)
theorem dL_law_531 : decode cL_law 531 = .ok (.iaload, 1) := dk_46 (dk_at dksL_law_12 11 rfl rfl)
theorem dL_law_532 : decode cL_law 532 = .ok (.invokevirtual 183, 3) := dk_182 0 183 (dk_at dksL_law_12 12 rfl rfl)
theorem dL_law_535 : decode cL_law 535 = .ok (.istore 7, 2) := dk_54 7 (dk_at dksL_law_12 15 rfl rfl)
theorem dL_law_537 : decode cL_law 537 = .ok (.aload_n 2, 1) := dk_44 (dk_at dksL_law_12 17 rfl rfl)
theorem dL_law_538 : decode cL_law 538 = .ok (.invokevirtual 170, 3) := dk_182 0 170 (dk_at dksL_law_12 18 rfl rfl)
theorem dL_law_541 : decode cL_law 541 = .ok (.iload 6, 2) := dk_21 6 (dk_at dksL_law_12 21 rfl rfl)
theorem dL_law_543 : decode cL_law 543 = .ok (.if_icmp .eq 5, 3) := dk_159 0 5 (dk_at dksL_law_13 0 rfl rfl)
theorem dL_law_546 : decode cL_law 546 = .ok (.iconst 0, 1) := dk_3 (dk_at dksL_law_13 3 rfl rfl)
theorem dL_law_547 : decode cL_law 547 = .ok (.ireturn, 1) := dk_172 (dk_at dksL_law_13 4 rfl rfl)
theorem dL_law_548 : decode cL_law 548 = .ok (.iload 6, 2) := dk_21 6 (dk_at dksL_law_13 5 rfl rfl)
theorem dL_law_550 : decode cL_law 550 = .ok (.ifCond .ne 15, 3) := dk_154 0 15 (dk_at dksL_law_13 7 rfl rfl)
theorem dL_law_553 : decode cL_law 553 = .ok (.aload_n 3, 1) := dk_45 (dk_at dksL_law_13 10 rfl rfl)
theorem dL_law_554 : decode cL_law 554 = .ok (.iconst 0, 1) := dk_3 (dk_at dksL_law_13 11 rfl rfl)
theorem dL_law_555 : decode cL_law 555 = .ok (.laload, 1) := dk_47 (dk_at dksL_law_13 12 rfl rfl)
theorem dL_law_556 : decode cL_law 556 = .ok (.iload 7, 2) := dk_21 7 (dk_at dksL_law_13 13 rfl rfl)
theorem dL_law_558 : decode cL_law 558 = .ok (.i2l, 1) := dk_133 (dk_at dksL_law_13 15 rfl rfl)
theorem dL_law_559 : decode cL_law 559 = .ok (.lcmp, 1) := dk_148 (dk_at dksL_law_13 16 rfl rfl)
theorem dL_law_560 : decode cL_law 560 = .ok (.ifCond .eq 5, 3) := dk_153 0 5 (dk_at dksL_law_13 17 rfl rfl)
theorem dL_law_563 : decode cL_law 563 = .ok (.iconst 0, 1) := dk_3 (dk_at dksL_law_13 20 rfl rfl)
theorem dL_law_564 : decode cL_law 564 = .ok (.ireturn, 1) := dk_172 (dk_at dksL_law_13 21 rfl rfl)
theorem dL_law_565 : decode cL_law 565 = .ok (.goto 2468, 3) := dk_167 9 164 (dk_at dksL_law_14 0 rfl rfl)
theorem dL_law_568 : decode cL_law 568 = .ok (.aload_n 1, 1) := dk_43 (dk_at dksL_law_14 3 rfl rfl)
theorem dL_law_569 : decode cL_law 569 = .ok (.aload_n 0, 1) := dk_42 (dk_at dksL_law_14 4 rfl rfl)
theorem dL_law_570 : decode cL_law 570 = .ok (.iload 5, 2) := dk_21 5 (dk_at dksL_law_14 5 rfl rfl)
theorem dL_law_572 : decode cL_law 572 = .ok (.iconst 1, 1) := dk_4 (dk_at dksL_law_14 7 rfl rfl)
theorem dL_law_573 : decode cL_law 573 = .ok (.iadd, 1) := dk_96 (dk_at dksL_law_14 8 rfl rfl)
theorem dL_law_574 : decode cL_law 574 = .ok (.iaload, 1) := dk_46 (dk_at dksL_law_14 9 rfl rfl)
theorem dL_law_575 : decode cL_law 575 = .ok (.aload_n 0, 1) := dk_42 (dk_at dksL_law_14 10 rfl rfl)
theorem dL_law_576 : decode cL_law 576 = .ok (.iload 5, 2) := dk_21 5 (dk_at dksL_law_14 11 rfl rfl)
theorem dL_law_578 : decode cL_law 578 = .ok (.iconst 2, 1) := dk_5 (dk_at dksL_law_14 13 rfl rfl)
theorem dL_law_579 : decode cL_law 579 = .ok (.iadd, 1) := dk_96 (dk_at dksL_law_14 14 rfl rfl)
theorem dL_law_580 : decode cL_law 580 = .ok (.iaload, 1) := dk_46 (dk_at dksL_law_14 15 rfl rfl)
theorem dL_law_581 : decode cL_law 581 = .ok (.aload_n 3, 1) := dk_45 (dk_at dksL_law_14 16 rfl rfl)
theorem dL_law_582 : decode cL_law 582 = .ok (.invokestatic 184, 3) := dk_184 0 184 (dk_at dksL_law_14 17 rfl rfl)
theorem dL_law_585 : decode cL_law 585 = .ok (.istore 6, 2) := dk_54 6 (dk_at dksL_law_14 20 rfl rfl)
theorem dL_law_587 : decode cL_law 587 = .ok (.aload_n 2, 1) := dk_44 (dk_at dksL_law_14 22 rfl rfl)
theorem dL_law_588 : decode cL_law 588 = .ok (.aload_n 0, 1) := dk_42 (dk_at dksL_law_14 23 rfl rfl)
theorem dL_law_589 : decode cL_law 589 = .ok (.iload 5, 2) := dk_21 5 (dk_at dksL_law_15 0 rfl rfl)
theorem dL_law_591 : decode cL_law 591 = .ok (.iconst 1, 1) := dk_4 (dk_at dksL_law_15 2 rfl rfl)
theorem dL_law_592 : decode cL_law 592 = .ok (.iadd, 1) := dk_96 (dk_at dksL_law_15 3 rfl rfl)
theorem dL_law_593 : decode cL_law 593 = .ok (.iaload, 1) := dk_46 (dk_at dksL_law_15 4 rfl rfl)
theorem dL_law_594 : decode cL_law 594 = .ok (.aload_n 0, 1) := dk_42 (dk_at dksL_law_15 5 rfl rfl)
theorem dL_law_595 : decode cL_law 595 = .ok (.iload 5, 2) := dk_21 5 (dk_at dksL_law_15 6 rfl rfl)
theorem dL_law_597 : decode cL_law 597 = .ok (.iconst 2, 1) := dk_5 (dk_at dksL_law_15 8 rfl rfl)
theorem dL_law_598 : decode cL_law 598 = .ok (.iadd, 1) := dk_96 (dk_at dksL_law_15 9 rfl rfl)
theorem dL_law_599 : decode cL_law 599 = .ok (.iaload, 1) := dk_46 (dk_at dksL_law_15 10 rfl rfl)
theorem dL_law_600 : decode cL_law 600 = .ok (.invokevirtual 186, 3) := dk_182 0 186 (dk_at dksL_law_15 11 rfl rfl)
theorem dL_law_603 : decode cL_law 603 = .ok (.istore 7, 2) := dk_54 7 (dk_at dksL_law_15 14 rfl rfl)
theorem dL_law_605 : decode cL_law 605 = .ok (.aload_n 2, 1) := dk_44 (dk_at dksL_law_15 16 rfl rfl)
theorem dL_law_606 : decode cL_law 606 = .ok (.invokevirtual 170, 3) := dk_182 0 170 (dk_at dksL_law_15 17 rfl rfl)
theorem dL_law_609 : decode cL_law 609 = .ok (.iload 6, 2) := dk_21 6 (dk_at dksL_law_15 20 rfl rfl)
theorem dL_law_611 : decode cL_law 611 = .ok (.if_icmp .eq 5, 3) := dk_159 0 5 (dk_at dksL_law_16 0 rfl rfl)
theorem dL_law_614 : decode cL_law 614 = .ok (.iconst 0, 1) := dk_3 (dk_at dksL_law_16 3 rfl rfl)
theorem dL_law_615 : decode cL_law 615 = .ok (.ireturn, 1) := dk_172 (dk_at dksL_law_16 4 rfl rfl)
theorem dL_law_616 : decode cL_law 616 = .ok (.iload 6, 2) := dk_21 6 (dk_at dksL_law_16 5 rfl rfl)
theorem dL_law_618 : decode cL_law 618 = .ok (.ifCond .ne 15, 3) := dk_154 0 15 (dk_at dksL_law_16 7 rfl rfl)
theorem dL_law_621 : decode cL_law 621 = .ok (.aload_n 3, 1) := dk_45 (dk_at dksL_law_16 10 rfl rfl)
theorem dL_law_622 : decode cL_law 622 = .ok (.iconst 0, 1) := dk_3 (dk_at dksL_law_16 11 rfl rfl)
theorem dL_law_623 : decode cL_law 623 = .ok (.laload, 1) := dk_47 (dk_at dksL_law_16 12 rfl rfl)
theorem dL_law_624 : decode cL_law 624 = .ok (.iload 7, 2) := dk_21 7 (dk_at dksL_law_16 13 rfl rfl)
theorem dL_law_626 : decode cL_law 626 = .ok (.i2l, 1) := dk_133 (dk_at dksL_law_16 15 rfl rfl)
theorem dL_law_627 : decode cL_law 627 = .ok (.lcmp, 1) := dk_148 (dk_at dksL_law_16 16 rfl rfl)
theorem dL_law_628 : decode cL_law 628 = .ok (.ifCond .eq 5, 3) := dk_153 0 5 (dk_at dksL_law_16 17 rfl rfl)
theorem dL_law_631 : decode cL_law 631 = .ok (.iconst 0, 1) := dk_3 (dk_at dksL_law_16 20 rfl rfl)
theorem dL_law_632 : decode cL_law 632 = .ok (.ireturn, 1) := dk_172 (dk_at dksL_law_16 21 rfl rfl)
theorem dL_law_633 : decode cL_law 633 = .ok (.goto 2400, 3) := dk_167 9 96 (dk_at dksL_law_17 0 rfl rfl)
theorem dL_law_636 : decode cL_law 636 = .ok (.aload_n 1, 1) := dk_43 (dk_at dksL_law_17 3 rfl rfl)
theorem dL_law_637 : decode cL_law 637 = .ok (.aload_n 0, 1) := dk_42 (dk_at dksL_law_17 4 rfl rfl)
theorem dL_law_638 : decode cL_law 638 = .ok (.iload 5, 2) := dk_21 5 (dk_at dksL_law_17 5 rfl rfl)
theorem dL_law_640 : decode cL_law 640 = .ok (.iconst 1, 1) := dk_4 (dk_at dksL_law_17 7 rfl rfl)
theorem dL_law_641 : decode cL_law 641 = .ok (.iadd, 1) := dk_96 (dk_at dksL_law_17 8 rfl rfl)
theorem dL_law_642 : decode cL_law 642 = .ok (.iaload, 1) := dk_46 (dk_at dksL_law_17 9 rfl rfl)
theorem dL_law_643 : decode cL_law 643 = .ok (.aload_n 3, 1) := dk_45 (dk_at dksL_law_17 10 rfl rfl)
theorem dL_law_644 : decode cL_law 644 = .ok (.invokestatic 187, 3) := dk_184 0 187 (dk_at dksL_law_17 11 rfl rfl)
theorem dL_law_647 : decode cL_law 647 = .ok (.istore 6, 2) := dk_54 6 (dk_at dksL_law_17 14 rfl rfl)
theorem dL_law_649 : decode cL_law 649 = .ok (.aload_n 2, 1) := dk_44 (dk_at dksL_law_17 16 rfl rfl)
theorem dL_law_650 : decode cL_law 650 = .ok (.aload_n 0, 1) := dk_42 (dk_at dksL_law_17 17 rfl rfl)
theorem dL_law_651 : decode cL_law 651 = .ok (.iload 5, 2) := dk_21 5 (dk_at dksL_law_17 18 rfl rfl)
theorem dL_law_653 : decode cL_law 653 = .ok (.iconst 1, 1) := dk_4 (dk_at dksL_law_17 20 rfl rfl)
theorem dL_law_654 : decode cL_law 654 = .ok (.iadd, 1) := dk_96 (dk_at dksL_law_17 21 rfl rfl)
theorem dL_law_655 : decode cL_law 655 = .ok (.iaload, 1) := dk_46 (dk_at dksL_law_17 22 rfl rfl)
theorem dL_law_656 : decode cL_law 656 = .ok (.invokevirtual 189, 3) := dk_182 0 189 (dk_at dksL_law_18 0 rfl rfl)
theorem dL_law_659 : decode cL_law 659 = .ok (.istore 7, 2) := dk_54 7 (dk_at dksL_law_18 3 rfl rfl)
theorem dL_law_661 : decode cL_law 661 = .ok (.aload_n 2, 1) := dk_44 (dk_at dksL_law_18 5 rfl rfl)
theorem dL_law_662 : decode cL_law 662 = .ok (.invokevirtual 170, 3) := dk_182 0 170 (dk_at dksL_law_18 6 rfl rfl)
theorem dL_law_665 : decode cL_law 665 = .ok (.iload 6, 2) := dk_21 6 (dk_at dksL_law_18 9 rfl rfl)
theorem dL_law_667 : decode cL_law 667 = .ok (.if_icmp .eq 5, 3) := dk_159 0 5 (dk_at dksL_law_18 11 rfl rfl)
theorem dL_law_670 : decode cL_law 670 = .ok (.iconst 0, 1) := dk_3 (dk_at dksL_law_18 14 rfl rfl)
theorem dL_law_671 : decode cL_law 671 = .ok (.ireturn, 1) := dk_172 (dk_at dksL_law_18 15 rfl rfl)
theorem dL_law_672 : decode cL_law 672 = .ok (.iload 6, 2) := dk_21 6 (dk_at dksL_law_18 16 rfl rfl)
theorem dL_law_674 : decode cL_law 674 = .ok (.ifCond .ne 15, 3) := dk_154 0 15 (dk_at dksL_law_18 18 rfl rfl)
theorem dL_law_677 : decode cL_law 677 = .ok (.aload_n 3, 1) := dk_45 (dk_at dksL_law_18 21 rfl rfl)
theorem dL_law_678 : decode cL_law 678 = .ok (.iconst 0, 1) := dk_3 (dk_at dksL_law_18 22 rfl rfl)
theorem dL_law_679 : decode cL_law 679 = .ok (.laload, 1) := dk_47 (dk_at dksL_law_18 23 rfl rfl)
theorem dL_law_680 : decode cL_law 680 = .ok (.iload 7, 2) := dk_21 7 (dk_at dksL_law_19 0 rfl rfl)
theorem dL_law_682 : decode cL_law 682 = .ok (.i2l, 1) := dk_133 (dk_at dksL_law_19 2 rfl rfl)
theorem dL_law_683 : decode cL_law 683 = .ok (.lcmp, 1) := dk_148 (dk_at dksL_law_19 3 rfl rfl)
theorem dL_law_684 : decode cL_law 684 = .ok (.ifCond .eq 5, 3) := dk_153 0 5 (dk_at dksL_law_19 4 rfl rfl)
theorem dL_law_687 : decode cL_law 687 = .ok (.iconst 0, 1) := dk_3 (dk_at dksL_law_19 7 rfl rfl)
theorem dL_law_688 : decode cL_law 688 = .ok (.ireturn, 1) := dk_172 (dk_at dksL_law_19 8 rfl rfl)
theorem dL_law_689 : decode cL_law 689 = .ok (.goto 2344, 3) := dk_167 9 40 (dk_at dksL_law_19 9 rfl rfl)
theorem dL_law_692 : decode cL_law 692 = .ok (.aload_n 1, 1) := dk_43 (dk_at dksL_law_19 12 rfl rfl)
theorem dL_law_693 : decode cL_law 693 = .ok (.invokevirtual 190, 3) := dk_182 0 190 (dk_at dksL_law_19 13 rfl rfl)
theorem dL_law_696 : decode cL_law 696 = .ok (.aload_n 2, 1) := dk_44 (dk_at dksL_law_19 16 rfl rfl)
theorem dL_law_697 : decode cL_law 697 = .ok (.invokevirtual 193, 3) := dk_182 0 193 (dk_at dksL_law_19 17 rfl rfl)
theorem dL_law_700 : decode cL_law 700 = .ok (.if_icmp .eq 2333, 3) := dk_159 9 29 (dk_at dksL_law_19 20 rfl rfl)
theorem dL_law_703 : decode cL_law 703 = .ok (.iconst 0, 1) := dk_3 (dk_at dksL_law_19 23 rfl rfl)
theorem dL_law_704 : decode cL_law 704 = .ok (.ireturn, 1) := dk_172 (dk_at dksL_law_20 0 rfl rfl)
theorem dL_law_705 : decode cL_law 705 = .ok (.aload_n 1, 1) := dk_43 (dk_at dksL_law_20 1 rfl rfl)
theorem dL_law_706 : decode cL_law 706 = .ok (.aload_n 0, 1) := dk_42 (dk_at dksL_law_20 2 rfl rfl)
theorem dL_law_707 : decode cL_law 707 = .ok (.iload 5, 2) := dk_21 5 (dk_at dksL_law_20 3 rfl rfl)
theorem dL_law_709 : decode cL_law 709 = .ok (.iconst 1, 1) := dk_4 (dk_at dksL_law_20 5 rfl rfl)
theorem dL_law_710 : decode cL_law 710 = .ok (.iadd, 1) := dk_96 (dk_at dksL_law_20 6 rfl rfl)
theorem dL_law_711 : decode cL_law 711 = .ok (.iaload, 1) := dk_46 (dk_at dksL_law_20 7 rfl rfl)
theorem dL_law_712 : decode cL_law 712 = .ok (.aload_n 0, 1) := dk_42 (dk_at dksL_law_20 8 rfl rfl)
theorem dL_law_713 : decode cL_law 713 = .ok (.iload 5, 2) := dk_21 5 (dk_at dksL_law_20 9 rfl rfl)
theorem dL_law_715 : decode cL_law 715 = .ok (.iconst 2, 1) := dk_5 (dk_at dksL_law_20 11 rfl rfl)
theorem dL_law_716 : decode cL_law 716 = .ok (.iadd, 1) := dk_96 (dk_at dksL_law_20 12 rfl rfl)
theorem dL_law_717 : decode cL_law 717 = .ok (.iaload, 1) := dk_46 (dk_at dksL_law_20 13 rfl rfl)
theorem dL_law_718 : decode cL_law 718 = .ok (.aload_n 3, 1) := dk_45 (dk_at dksL_law_20 14 rfl rfl)
theorem dL_law_719 : decode cL_law 719 = .ok (.invokestatic 194, 3) := dk_184 0 194 (dk_at dksL_law_20 15 rfl rfl)
theorem dL_law_722 : decode cL_law 722 = .ok (.istore 6, 2) := dk_54 6 (dk_at dksL_law_20 18 rfl rfl)
theorem dL_law_724 : decode cL_law 724 = .ok (.aload_n 2, 1) := dk_44 (dk_at dksL_law_20 20 rfl rfl)
theorem dL_law_725 : decode cL_law 725 = .ok (.aload_n 0, 1) := dk_42 (dk_at dksL_law_20 21 rfl rfl)
theorem dL_law_726 : decode cL_law 726 = .ok (.iload 5, 2) := dk_21 5 (dk_at dksL_law_20 22 rfl rfl)
theorem dL_law_728 : decode cL_law 728 = .ok (.iconst 1, 1) := dk_4 (dk_at dksL_law_21 0 rfl rfl)
theorem dL_law_729 : decode cL_law 729 = .ok (.iadd, 1) := dk_96 (dk_at dksL_law_21 1 rfl rfl)
theorem dL_law_730 : decode cL_law 730 = .ok (.iaload, 1) := dk_46 (dk_at dksL_law_21 2 rfl rfl)
theorem dL_law_731 : decode cL_law 731 = .ok (.aload_n 0, 1) := dk_42 (dk_at dksL_law_21 3 rfl rfl)
theorem dL_law_732 : decode cL_law 732 = .ok (.iload 5, 2) := dk_21 5 (dk_at dksL_law_21 4 rfl rfl)
theorem dL_law_734 : decode cL_law 734 = .ok (.iconst 2, 1) := dk_5 (dk_at dksL_law_21 6 rfl rfl)
theorem dL_law_735 : decode cL_law 735 = .ok (.iadd, 1) := dk_96 (dk_at dksL_law_21 7 rfl rfl)
theorem dL_law_736 : decode cL_law 736 = .ok (.iaload, 1) := dk_46 (dk_at dksL_law_21 8 rfl rfl)
theorem dL_law_737 : decode cL_law 737 = .ok (.invokevirtual 196, 3) := dk_182 0 196 (dk_at dksL_law_21 9 rfl rfl)
theorem dL_law_740 : decode cL_law 740 = .ok (.istore 7, 2) := dk_54 7 (dk_at dksL_law_21 12 rfl rfl)
theorem dL_law_742 : decode cL_law 742 = .ok (.aload_n 2, 1) := dk_44 (dk_at dksL_law_21 14 rfl rfl)
theorem dL_law_743 : decode cL_law 743 = .ok (.invokevirtual 170, 3) := dk_182 0 170 (dk_at dksL_law_21 15 rfl rfl)
theorem dL_law_746 : decode cL_law 746 = .ok (.iload 6, 2) := dk_21 6 (dk_at dksL_law_21 18 rfl rfl)
theorem dL_law_748 : decode cL_law 748 = .ok (.if_icmp .eq 5, 3) := dk_159 0 5 (dk_at dksL_law_21 20 rfl rfl)
theorem dL_law_751 : decode cL_law 751 = .ok (.iconst 0, 1) := dk_3 (dk_at dksL_law_21 23 rfl rfl)
theorem dL_law_752 : decode cL_law 752 = .ok (.ireturn, 1) := dk_172 (dk_at dksL_law_22 0 rfl rfl)
theorem dL_law_753 : decode cL_law 753 = .ok (.iload 6, 2) := dk_21 6 (dk_at dksL_law_22 1 rfl rfl)
theorem dL_law_755 : decode cL_law 755 = .ok (.ifCond .ne 15, 3) := dk_154 0 15 (dk_at dksL_law_22 3 rfl rfl)
theorem dL_law_758 : decode cL_law 758 = .ok (.aload_n 3, 1) := dk_45 (dk_at dksL_law_22 6 rfl rfl)
theorem dL_law_759 : decode cL_law 759 = .ok (.iconst 0, 1) := dk_3 (dk_at dksL_law_22 7 rfl rfl)
theorem dL_law_760 : decode cL_law 760 = .ok (.laload, 1) := dk_47 (dk_at dksL_law_22 8 rfl rfl)
theorem dL_law_761 : decode cL_law 761 = .ok (.iload 7, 2) := dk_21 7 (dk_at dksL_law_22 9 rfl rfl)
theorem dL_law_763 : decode cL_law 763 = .ok (.i2l, 1) := dk_133 (dk_at dksL_law_22 11 rfl rfl)
theorem dL_law_764 : decode cL_law 764 = .ok (.lcmp, 1) := dk_148 (dk_at dksL_law_22 12 rfl rfl)
theorem dL_law_765 : decode cL_law 765 = .ok (.ifCond .eq 5, 3) := dk_153 0 5 (dk_at dksL_law_22 13 rfl rfl)
theorem dL_law_768 : decode cL_law 768 = .ok (.iconst 0, 1) := dk_3 (dk_at dksL_law_22 16 rfl rfl)
theorem dL_law_769 : decode cL_law 769 = .ok (.ireturn, 1) := dk_172 (dk_at dksL_law_22 17 rfl rfl)
theorem dL_law_770 : decode cL_law 770 = .ok (.goto 2263, 3) := dk_167 8 215 (dk_at dksL_law_22 18 rfl rfl)
theorem dL_law_773 : decode cL_law 773 = .ok (.aload_n 1, 1) := dk_43 (dk_at dksL_law_22 21 rfl rfl)
theorem dL_law_774 : decode cL_law 774 = .ok (.aload_n 0, 1) := dk_42 (dk_at dksL_law_22 22 rfl rfl)
theorem dL_law_775 : decode cL_law 775 = .ok (.iload 5, 2) := dk_21 5 (dk_at dksL_law_23 0 rfl rfl)
theorem dL_law_777 : decode cL_law 777 = .ok (.iconst 1, 1) := dk_4 (dk_at dksL_law_23 2 rfl rfl)
theorem dL_law_778 : decode cL_law 778 = .ok (.iadd, 1) := dk_96 (dk_at dksL_law_23 3 rfl rfl)
theorem dL_law_779 : decode cL_law 779 = .ok (.iaload, 1) := dk_46 (dk_at dksL_law_23 4 rfl rfl)
theorem dL_law_780 : decode cL_law 780 = .ok (.aload_n 3, 1) := dk_45 (dk_at dksL_law_23 5 rfl rfl)
theorem dL_law_781 : decode cL_law 781 = .ok (.invokestatic 197, 3) := dk_184 0 197 (dk_at dksL_law_23 6 rfl rfl)
theorem dL_law_784 : decode cL_law 784 = .ok (.istore 6, 2) := dk_54 6 (dk_at dksL_law_23 9 rfl rfl)
theorem dL_law_786 : decode cL_law 786 = .ok (.aload_n 2, 1) := dk_44 (dk_at dksL_law_23 11 rfl rfl)
theorem dL_law_787 : decode cL_law 787 = .ok (.aload_n 0, 1) := dk_42 (dk_at dksL_law_23 12 rfl rfl)
theorem dL_law_788 : decode cL_law 788 = .ok (.iload 5, 2) := dk_21 5 (dk_at dksL_law_23 13 rfl rfl)
theorem dL_law_790 : decode cL_law 790 = .ok (.iconst 1, 1) := dk_4 (dk_at dksL_law_23 15 rfl rfl)
theorem dL_law_791 : decode cL_law 791 = .ok (.iadd, 1) := dk_96 (dk_at dksL_law_23 16 rfl rfl)
theorem dL_law_792 : decode cL_law 792 = .ok (.iaload, 1) := dk_46 (dk_at dksL_law_23 17 rfl rfl)
theorem dL_law_793 : decode cL_law 793 = .ok (.invokevirtual 199, 3) := dk_182 0 199 (dk_at dksL_law_23 18 rfl rfl)
theorem dL_law_796 : decode cL_law 796 = .ok (.istore 7, 2) := dk_54 7 (dk_at dksL_law_23 21 rfl rfl)
theorem dL_law_798 : decode cL_law 798 = .ok (.aload_n 2, 1) := dk_44 (dk_at dksL_law_23 23 rfl rfl)
theorem dL_law_799 : decode cL_law 799 = .ok (.invokevirtual 170, 3) := dk_182 0 170 (dk_at dksL_law_24 0 rfl rfl)
theorem dL_law_802 : decode cL_law 802 = .ok (.iload 6, 2) := dk_21 6 (dk_at dksL_law_24 3 rfl rfl)
theorem dL_law_804 : decode cL_law 804 = .ok (.if_icmp .eq 5, 3) := dk_159 0 5 (dk_at dksL_law_24 5 rfl rfl)
theorem dL_law_807 : decode cL_law 807 = .ok (.iconst 0, 1) := dk_3 (dk_at dksL_law_24 8 rfl rfl)
theorem dL_law_808 : decode cL_law 808 = .ok (.ireturn, 1) := dk_172 (dk_at dksL_law_24 9 rfl rfl)
theorem dL_law_809 : decode cL_law 809 = .ok (.iload 6, 2) := dk_21 6 (dk_at dksL_law_24 10 rfl rfl)
theorem dL_law_811 : decode cL_law 811 = .ok (.ifCond .ne 15, 3) := dk_154 0 15 (dk_at dksL_law_24 12 rfl rfl)
theorem dL_law_814 : decode cL_law 814 = .ok (.aload_n 3, 1) := dk_45 (dk_at dksL_law_24 15 rfl rfl)
theorem dL_law_815 : decode cL_law 815 = .ok (.iconst 0, 1) := dk_3 (dk_at dksL_law_24 16 rfl rfl)
theorem dL_law_816 : decode cL_law 816 = .ok (.laload, 1) := dk_47 (dk_at dksL_law_24 17 rfl rfl)
theorem dL_law_817 : decode cL_law 817 = .ok (.iload 7, 2) := dk_21 7 (dk_at dksL_law_24 18 rfl rfl)
theorem dL_law_819 : decode cL_law 819 = .ok (.i2l, 1) := dk_133 (dk_at dksL_law_24 20 rfl rfl)
theorem dL_law_820 : decode cL_law 820 = .ok (.lcmp, 1) := dk_148 (dk_at dksL_law_24 21 rfl rfl)
theorem dL_law_821 : decode cL_law 821 = .ok (.ifCond .eq 5, 3) := dk_153 0 5 (dk_at dksL_law_25 0 rfl rfl)
theorem dL_law_824 : decode cL_law 824 = .ok (.iconst 0, 1) := dk_3 (dk_at dksL_law_25 3 rfl rfl)
theorem dL_law_825 : decode cL_law 825 = .ok (.ireturn, 1) := dk_172 (dk_at dksL_law_25 4 rfl rfl)
theorem dL_law_826 : decode cL_law 826 = .ok (.goto 2207, 3) := dk_167 8 159 (dk_at dksL_law_25 5 rfl rfl)
theorem dL_law_829 : decode cL_law 829 = .ok (.aload_n 1, 1) := dk_43 (dk_at dksL_law_25 8 rfl rfl)
theorem dL_law_830 : decode cL_law 830 = .ok (.aload_n 0, 1) := dk_42 (dk_at dksL_law_25 9 rfl rfl)
theorem dL_law_831 : decode cL_law 831 = .ok (.iload 5, 2) := dk_21 5 (dk_at dksL_law_25 10 rfl rfl)
theorem dL_law_833 : decode cL_law 833 = .ok (.iconst 1, 1) := dk_4 (dk_at dksL_law_25 12 rfl rfl)
theorem dL_law_834 : decode cL_law 834 = .ok (.iadd, 1) := dk_96 (dk_at dksL_law_25 13 rfl rfl)
theorem dL_law_835 : decode cL_law 835 = .ok (.iaload, 1) := dk_46 (dk_at dksL_law_25 14 rfl rfl)
theorem dL_law_836 : decode cL_law 836 = .ok (.aload_n 3, 1) := dk_45 (dk_at dksL_law_25 15 rfl rfl)
theorem dL_law_837 : decode cL_law 837 = .ok (.invokestatic 200, 3) := dk_184 0 200 (dk_at dksL_law_25 16 rfl rfl)
theorem dL_law_840 : decode cL_law 840 = .ok (.istore 6, 2) := dk_54 6 (dk_at dksL_law_25 19 rfl rfl)
theorem dL_law_842 : decode cL_law 842 = .ok (.aload_n 2, 1) := dk_44 (dk_at dksL_law_25 21 rfl rfl)
theorem dL_law_843 : decode cL_law 843 = .ok (.aload_n 0, 1) := dk_42 (dk_at dksL_law_25 22 rfl rfl)
theorem dL_law_844 : decode cL_law 844 = .ok (.iload 5, 2) := dk_21 5 (dk_at dksL_law_26 0 rfl rfl)
theorem dL_law_846 : decode cL_law 846 = .ok (.iconst 1, 1) := dk_4 (dk_at dksL_law_26 2 rfl rfl)
theorem dL_law_847 : decode cL_law 847 = .ok (.iadd, 1) := dk_96 (dk_at dksL_law_26 3 rfl rfl)
theorem dL_law_848 : decode cL_law 848 = .ok (.iaload, 1) := dk_46 (dk_at dksL_law_26 4 rfl rfl)
theorem dL_law_849 : decode cL_law 849 = .ok (.invokevirtual 202, 3) := dk_182 0 202 (dk_at dksL_law_26 5 rfl rfl)
theorem dL_law_852 : decode cL_law 852 = .ok (.istore 7, 2) := dk_54 7 (dk_at dksL_law_26 8 rfl rfl)
theorem dL_law_854 : decode cL_law 854 = .ok (.aload_n 2, 1) := dk_44 (dk_at dksL_law_26 10 rfl rfl)
theorem dL_law_855 : decode cL_law 855 = .ok (.invokevirtual 170, 3) := dk_182 0 170 (dk_at dksL_law_26 11 rfl rfl)
theorem dL_law_858 : decode cL_law 858 = .ok (.iload 6, 2) := dk_21 6 (dk_at dksL_law_26 14 rfl rfl)
theorem dL_law_860 : decode cL_law 860 = .ok (.if_icmp .eq 5, 3) := dk_159 0 5 (dk_at dksL_law_26 16 rfl rfl)
theorem dL_law_863 : decode cL_law 863 = .ok (.iconst 0, 1) := dk_3 (dk_at dksL_law_26 19 rfl rfl)
theorem dL_law_864 : decode cL_law 864 = .ok (.ireturn, 1) := dk_172 (dk_at dksL_law_26 20 rfl rfl)
theorem dL_law_865 : decode cL_law 865 = .ok (.iload 6, 2) := dk_21 6 (dk_at dksL_law_26 21 rfl rfl)
theorem dL_law_867 : decode cL_law 867 = .ok (.ifCond .ne 15, 3) := dk_154 0 15 (dk_at dksL_law_27 0 rfl rfl)
theorem dL_law_870 : decode cL_law 870 = .ok (.aload_n 3, 1) := dk_45 (dk_at dksL_law_27 3 rfl rfl)
theorem dL_law_871 : decode cL_law 871 = .ok (.iconst 0, 1) := dk_3 (dk_at dksL_law_27 4 rfl rfl)
theorem dL_law_872 : decode cL_law 872 = .ok (.laload, 1) := dk_47 (dk_at dksL_law_27 5 rfl rfl)
theorem dL_law_873 : decode cL_law 873 = .ok (.iload 7, 2) := dk_21 7 (dk_at dksL_law_27 6 rfl rfl)
theorem dL_law_875 : decode cL_law 875 = .ok (.i2l, 1) := dk_133 (dk_at dksL_law_27 8 rfl rfl)
theorem dL_law_876 : decode cL_law 876 = .ok (.lcmp, 1) := dk_148 (dk_at dksL_law_27 9 rfl rfl)
theorem dL_law_877 : decode cL_law 877 = .ok (.ifCond .eq 5, 3) := dk_153 0 5 (dk_at dksL_law_27 10 rfl rfl)
theorem dL_law_880 : decode cL_law 880 = .ok (.iconst 0, 1) := dk_3 (dk_at dksL_law_27 13 rfl rfl)
theorem dL_law_881 : decode cL_law 881 = .ok (.ireturn, 1) := dk_172 (dk_at dksL_law_27 14 rfl rfl)
theorem dL_law_882 : decode cL_law 882 = .ok (.goto 2151, 3) := dk_167 8 103 (dk_at dksL_law_27 15 rfl rfl)
theorem dL_law_885 : decode cL_law 885 = .ok (.aload_n 1, 1) := dk_43 (dk_at dksL_law_27 18 rfl rfl)
theorem dL_law_886 : decode cL_law 886 = .ok (.aload_n 0, 1) := dk_42 (dk_at dksL_law_27 19 rfl rfl)
theorem dL_law_887 : decode cL_law 887 = .ok (.iload 5, 2) := dk_21 5 (dk_at dksL_law_27 20 rfl rfl)
theorem dL_law_889 : decode cL_law 889 = .ok (.iconst 1, 1) := dk_4 (dk_at dksL_law_27 22 rfl rfl)
theorem dL_law_890 : decode cL_law 890 = .ok (.iadd, 1) := dk_96 (dk_at dksL_law_27 23 rfl rfl)
theorem dL_law_891 : decode cL_law 891 = .ok (.iaload, 1) := dk_46 (dk_at dksL_law_28 0 rfl rfl)
theorem dL_law_892 : decode cL_law 892 = .ok (.aload_n 3, 1) := dk_45 (dk_at dksL_law_28 1 rfl rfl)
theorem dL_law_893 : decode cL_law 893 = .ok (.invokestatic 203, 3) := dk_184 0 203 (dk_at dksL_law_28 2 rfl rfl)
theorem dL_law_896 : decode cL_law 896 = .ok (.istore 6, 2) := dk_54 6 (dk_at dksL_law_28 5 rfl rfl)
theorem dL_law_898 : decode cL_law 898 = .ok (.aload_n 2, 1) := dk_44 (dk_at dksL_law_28 7 rfl rfl)
theorem dL_law_899 : decode cL_law 899 = .ok (.aload_n 0, 1) := dk_42 (dk_at dksL_law_28 8 rfl rfl)
theorem dL_law_900 : decode cL_law 900 = .ok (.iload 5, 2) := dk_21 5 (dk_at dksL_law_28 9 rfl rfl)
theorem dL_law_902 : decode cL_law 902 = .ok (.iconst 1, 1) := dk_4 (dk_at dksL_law_28 11 rfl rfl)
theorem dL_law_903 : decode cL_law 903 = .ok (.iadd, 1) := dk_96 (dk_at dksL_law_28 12 rfl rfl)
theorem dL_law_904 : decode cL_law 904 = .ok (.iaload, 1) := dk_46 (dk_at dksL_law_28 13 rfl rfl)
theorem dL_law_905 : decode cL_law 905 = .ok (.invokevirtual 205, 3) := dk_182 0 205 (dk_at dksL_law_28 14 rfl rfl)
theorem dL_law_908 : decode cL_law 908 = .ok (.istore 7, 2) := dk_54 7 (dk_at dksL_law_28 17 rfl rfl)
theorem dL_law_910 : decode cL_law 910 = .ok (.aload_n 2, 1) := dk_44 (dk_at dksL_law_28 19 rfl rfl)
theorem dL_law_911 : decode cL_law 911 = .ok (.invokevirtual 170, 3) := dk_182 0 170 (dk_at dksL_law_28 20 rfl rfl)
theorem dL_law_914 : decode cL_law 914 = .ok (.iload 6, 2) := dk_21 6 (dk_at dksL_law_29 0 rfl rfl)
theorem dL_law_916 : decode cL_law 916 = .ok (.if_icmp .eq 5, 3) := dk_159 0 5 (dk_at dksL_law_29 2 rfl rfl)
theorem dL_law_919 : decode cL_law 919 = .ok (.iconst 0, 1) := dk_3 (dk_at dksL_law_29 5 rfl rfl)
theorem dL_law_920 : decode cL_law 920 = .ok (.ireturn, 1) := dk_172 (dk_at dksL_law_29 6 rfl rfl)
theorem dL_law_921 : decode cL_law 921 = .ok (.iload 6, 2) := dk_21 6 (dk_at dksL_law_29 7 rfl rfl)
theorem dL_law_923 : decode cL_law 923 = .ok (.ifCond .ne 15, 3) := dk_154 0 15 (dk_at dksL_law_29 9 rfl rfl)
theorem dL_law_926 : decode cL_law 926 = .ok (.aload_n 3, 1) := dk_45 (dk_at dksL_law_29 12 rfl rfl)
theorem dL_law_927 : decode cL_law 927 = .ok (.iconst 0, 1) := dk_3 (dk_at dksL_law_29 13 rfl rfl)
theorem dL_law_928 : decode cL_law 928 = .ok (.laload, 1) := dk_47 (dk_at dksL_law_29 14 rfl rfl)
theorem dL_law_929 : decode cL_law 929 = .ok (.iload 7, 2) := dk_21 7 (dk_at dksL_law_29 15 rfl rfl)
theorem dL_law_931 : decode cL_law 931 = .ok (.i2l, 1) := dk_133 (dk_at dksL_law_29 17 rfl rfl)
theorem dL_law_932 : decode cL_law 932 = .ok (.lcmp, 1) := dk_148 (dk_at dksL_law_29 18 rfl rfl)
theorem dL_law_933 : decode cL_law 933 = .ok (.ifCond .eq 5, 3) := dk_153 0 5 (dk_at dksL_law_29 19 rfl rfl)
theorem dL_law_936 : decode cL_law 936 = .ok (.iconst 0, 1) := dk_3 (dk_at dksL_law_29 22 rfl rfl)
theorem dL_law_937 : decode cL_law 937 = .ok (.ireturn, 1) := dk_172 (dk_at dksL_law_29 23 rfl rfl)
theorem dL_law_938 : decode cL_law 938 = .ok (.goto 2095, 3) := dk_167 8 47 (dk_at dksL_law_30 0 rfl rfl)
theorem dL_law_941 : decode cL_law 941 = .ok (.aload_n 1, 1) := dk_43 (dk_at dksL_law_30 3 rfl rfl)
theorem dL_law_942 : decode cL_law 942 = .ok (.aload_n 0, 1) := dk_42 (dk_at dksL_law_30 4 rfl rfl)
theorem dL_law_943 : decode cL_law 943 = .ok (.iload 5, 2) := dk_21 5 (dk_at dksL_law_30 5 rfl rfl)
theorem dL_law_945 : decode cL_law 945 = .ok (.iconst 1, 1) := dk_4 (dk_at dksL_law_30 7 rfl rfl)
theorem dL_law_946 : decode cL_law 946 = .ok (.iadd, 1) := dk_96 (dk_at dksL_law_30 8 rfl rfl)
theorem dL_law_947 : decode cL_law 947 = .ok (.iaload, 1) := dk_46 (dk_at dksL_law_30 9 rfl rfl)
theorem dL_law_948 : decode cL_law 948 = .ok (.aload_n 3, 1) := dk_45 (dk_at dksL_law_30 10 rfl rfl)
theorem dL_law_949 : decode cL_law 949 = .ok (.invokestatic 206, 3) := dk_184 0 206 (dk_at dksL_law_30 11 rfl rfl)
theorem dL_law_952 : decode cL_law 952 = .ok (.istore 6, 2) := dk_54 6 (dk_at dksL_law_30 14 rfl rfl)
theorem dL_law_954 : decode cL_law 954 = .ok (.aload_n 2, 1) := dk_44 (dk_at dksL_law_30 16 rfl rfl)
theorem dL_law_955 : decode cL_law 955 = .ok (.aload_n 0, 1) := dk_42 (dk_at dksL_law_30 17 rfl rfl)
theorem dL_law_956 : decode cL_law 956 = .ok (.iload 5, 2) := dk_21 5 (dk_at dksL_law_30 18 rfl rfl)
theorem dL_law_958 : decode cL_law 958 = .ok (.iconst 1, 1) := dk_4 (dk_at dksL_law_30 20 rfl rfl)
theorem dL_law_959 : decode cL_law 959 = .ok (.iadd, 1) := dk_96 (dk_at dksL_law_30 21 rfl rfl)
theorem dL_law_960 : decode cL_law 960 = .ok (.iaload, 1) := dk_46 (dk_at dksL_law_30 22 rfl rfl)
theorem dL_law_961 : decode cL_law 961 = .ok (.invokevirtual 208, 3) := dk_182 0 208 (dk_at dksL_law_31 0 rfl rfl)
theorem dL_law_964 : decode cL_law 964 = .ok (.istore 7, 2) := dk_54 7 (dk_at dksL_law_31 3 rfl rfl)
theorem dL_law_966 : decode cL_law 966 = .ok (.aload_n 2, 1) := dk_44 (dk_at dksL_law_31 5 rfl rfl)
theorem dL_law_967 : decode cL_law 967 = .ok (.invokevirtual 170, 3) := dk_182 0 170 (dk_at dksL_law_31 6 rfl rfl)
theorem dL_law_970 : decode cL_law 970 = .ok (.iload 6, 2) := dk_21 6 (dk_at dksL_law_31 9 rfl rfl)
theorem dL_law_972 : decode cL_law 972 = .ok (.if_icmp .eq 5, 3) := dk_159 0 5 (dk_at dksL_law_31 11 rfl rfl)
theorem dL_law_975 : decode cL_law 975 = .ok (.iconst 0, 1) := dk_3 (dk_at dksL_law_31 14 rfl rfl)
theorem dL_law_976 : decode cL_law 976 = .ok (.ireturn, 1) := dk_172 (dk_at dksL_law_31 15 rfl rfl)
theorem dL_law_977 : decode cL_law 977 = .ok (.iload 6, 2) := dk_21 6 (dk_at dksL_law_31 16 rfl rfl)
theorem dL_law_979 : decode cL_law 979 = .ok (.ifCond .ne 22, 3) := dk_154 0 22 (dk_at dksL_law_31 18 rfl rfl)
theorem dL_law_982 : decode cL_law 982 = .ok (.aload_n 3, 1) := dk_45 (dk_at dksL_law_31 21 rfl rfl)
theorem dL_law_983 : decode cL_law 983 = .ok (.iconst 0, 1) := dk_3 (dk_at dksL_law_31 22 rfl rfl)
theorem dL_law_984 : decode cL_law 984 = .ok (.laload, 1) := dk_47 (dk_at dksL_law_31 23 rfl rfl)
theorem dL_law_985 : decode cL_law 985 = .ok (.iload 7, 2) := dk_21 7 (dk_at dksL_law_32 0 rfl rfl)
theorem dL_law_987 : decode cL_law 987 = .ok (.ifCond .eq 7, 3) := dk_153 0 7 (dk_at dksL_law_32 2 rfl rfl)
theorem dL_law_990 : decode cL_law 990 = .ok (.lconst 1, 1) := dk_10 (dk_at dksL_law_32 5 rfl rfl)
theorem dL_law_991 : decode cL_law 991 = .ok (.goto 4, 3) := dk_167 0 4 (dk_at dksL_law_32 6 rfl rfl)
theorem dL_law_994 : decode cL_law 994 = .ok (.lconst 0, 1) := dk_9 (dk_at dksL_law_32 9 rfl rfl)
theorem dL_law_995 : decode cL_law 995 = .ok (.lcmp, 1) := dk_148 (dk_at dksL_law_32 10 rfl rfl)
theorem dL_law_996 : decode cL_law 996 = .ok (.ifCond .eq 5, 3) := dk_153 0 5 (dk_at dksL_law_32 11 rfl rfl)
theorem dL_law_999 : decode cL_law 999 = .ok (.iconst 0, 1) := dk_3 (dk_at dksL_law_32 14 rfl rfl)
theorem dL_law_1000 : decode cL_law 1000 = .ok (.ireturn, 1) := dk_172 (dk_at dksL_law_32 15 rfl rfl)
theorem dL_law_1001 : decode cL_law 1001 = .ok (.goto 2032, 3) := dk_167 7 240 (dk_at dksL_law_32 16 rfl rfl)
theorem dL_law_1004 : decode cL_law 1004 = .ok (.aload_n 1, 1) := dk_43 (dk_at dksL_law_32 19 rfl rfl)
theorem dL_law_1005 : decode cL_law 1005 = .ok (.aload_n 0, 1) := dk_42 (dk_at dksL_law_32 20 rfl rfl)
theorem dL_law_1006 : decode cL_law 1006 = .ok (.iload 5, 2) := dk_21 5 (dk_at dksL_law_32 21 rfl rfl)
theorem dL_law_1008 : decode cL_law 1008 = .ok (.iconst 1, 1) := dk_4 (dk_at dksL_law_32 23 rfl rfl)
theorem dL_law_1009 : decode cL_law 1009 = .ok (.iadd, 1) := dk_96 (dk_at dksL_law_33 0 rfl rfl)
theorem dL_law_1010 : decode cL_law 1010 = .ok (.iaload, 1) := dk_46 (dk_at dksL_law_33 1 rfl rfl)
theorem dL_law_1011 : decode cL_law 1011 = .ok (.aload_n 3, 1) := dk_45 (dk_at dksL_law_33 2 rfl rfl)
theorem dL_law_1012 : decode cL_law 1012 = .ok (.invokestatic 209, 3) := dk_184 0 209 (dk_at dksL_law_33 3 rfl rfl)
theorem dL_law_1015 : decode cL_law 1015 = .ok (.istore 6, 2) := dk_54 6 (dk_at dksL_law_33 6 rfl rfl)
theorem dL_law_1017 : decode cL_law 1017 = .ok (.aload_n 2, 1) := dk_44 (dk_at dksL_law_33 8 rfl rfl)
theorem dL_law_1018 : decode cL_law 1018 = .ok (.aload_n 0, 1) := dk_42 (dk_at dksL_law_33 9 rfl rfl)
theorem dL_law_1019 : decode cL_law 1019 = .ok (.iload 5, 2) := dk_21 5 (dk_at dksL_law_33 10 rfl rfl)
theorem dL_law_1021 : decode cL_law 1021 = .ok (.iconst 1, 1) := dk_4 (dk_at dksL_law_33 12 rfl rfl)
theorem dL_law_1022 : decode cL_law 1022 = .ok (.iadd, 1) := dk_96 (dk_at dksL_law_33 13 rfl rfl)
theorem dL_law_1023 : decode cL_law 1023 = .ok (.iaload, 1) := dk_46 (dk_at dksL_law_33 14 rfl rfl)
theorem dL_law_1024 : decode cL_law 1024 = .ok (.invokevirtual 211, 3) := dk_182 0 211 (dk_at dksL_law_33 15 rfl rfl)
theorem dL_law_1027 : decode cL_law 1027 = .ok (.istore 7, 2) := dk_54 7 (dk_at dksL_law_33 18 rfl rfl)
theorem dL_law_1029 : decode cL_law 1029 = .ok (.aload_n 2, 1) := dk_44 (dk_at dksL_law_33 20 rfl rfl)
theorem dL_law_1030 : decode cL_law 1030 = .ok (.invokevirtual 170, 3) := dk_182 0 170 (dk_at dksL_law_33 21 rfl rfl)
theorem dL_law_1033 : decode cL_law 1033 = .ok (.iload 6, 2) := dk_21 6 (dk_at dksL_law_34 0 rfl rfl)
theorem dL_law_1035 : decode cL_law 1035 = .ok (.if_icmp .eq 5, 3) := dk_159 0 5 (dk_at dksL_law_34 2 rfl rfl)
theorem dL_law_1038 : decode cL_law 1038 = .ok (.iconst 0, 1) := dk_3 (dk_at dksL_law_34 5 rfl rfl)
theorem dL_law_1039 : decode cL_law 1039 = .ok (.ireturn, 1) := dk_172 (dk_at dksL_law_34 6 rfl rfl)
theorem dL_law_1040 : decode cL_law 1040 = .ok (.iload 6, 2) := dk_21 6 (dk_at dksL_law_34 7 rfl rfl)
theorem dL_law_1042 : decode cL_law 1042 = .ok (.ifCond .ne 22, 3) := dk_154 0 22 (dk_at dksL_law_34 9 rfl rfl)
theorem dL_law_1045 : decode cL_law 1045 = .ok (.aload_n 3, 1) := dk_45 (dk_at dksL_law_34 12 rfl rfl)
theorem dL_law_1046 : decode cL_law 1046 = .ok (.iconst 0, 1) := dk_3 (dk_at dksL_law_34 13 rfl rfl)
theorem dL_law_1047 : decode cL_law 1047 = .ok (.laload, 1) := dk_47 (dk_at dksL_law_34 14 rfl rfl)
theorem dL_law_1048 : decode cL_law 1048 = .ok (.iload 7, 2) := dk_21 7 (dk_at dksL_law_34 15 rfl rfl)
theorem dL_law_1050 : decode cL_law 1050 = .ok (.ifCond .eq 7, 3) := dk_153 0 7 (dk_at dksL_law_34 17 rfl rfl)
theorem dL_law_1053 : decode cL_law 1053 = .ok (.lconst 1, 1) := dk_10 (dk_at dksL_law_34 20 rfl rfl)
theorem dL_law_1054 : decode cL_law 1054 = .ok (.goto 4, 3) := dk_167 0 4 (dk_at dksL_law_34 21 rfl rfl)
theorem dL_law_1057 : decode cL_law 1057 = .ok (.lconst 0, 1) := dk_9 (dk_at dksL_law_35 0 rfl rfl)
theorem dL_law_1058 : decode cL_law 1058 = .ok (.lcmp, 1) := dk_148 (dk_at dksL_law_35 1 rfl rfl)
theorem dL_law_1059 : decode cL_law 1059 = .ok (.ifCond .eq 5, 3) := dk_153 0 5 (dk_at dksL_law_35 2 rfl rfl)
theorem dL_law_1062 : decode cL_law 1062 = .ok (.iconst 0, 1) := dk_3 (dk_at dksL_law_35 5 rfl rfl)
theorem dL_law_1063 : decode cL_law 1063 = .ok (.ireturn, 1) := dk_172 (dk_at dksL_law_35 6 rfl rfl)
theorem dL_law_1064 : decode cL_law 1064 = .ok (.goto 1969, 3) := dk_167 7 177 (dk_at dksL_law_35 7 rfl rfl)
theorem dL_law_1067 : decode cL_law 1067 = .ok (.aload_n 1, 1) := dk_43 (dk_at dksL_law_35 10 rfl rfl)
theorem dL_law_1068 : decode cL_law 1068 = .ok (.aload_n 0, 1) := dk_42 (dk_at dksL_law_35 11 rfl rfl)
theorem dL_law_1069 : decode cL_law 1069 = .ok (.iload 5, 2) := dk_21 5 (dk_at dksL_law_35 12 rfl rfl)
theorem dL_law_1071 : decode cL_law 1071 = .ok (.iconst 1, 1) := dk_4 (dk_at dksL_law_35 14 rfl rfl)
theorem dL_law_1072 : decode cL_law 1072 = .ok (.iadd, 1) := dk_96 (dk_at dksL_law_35 15 rfl rfl)
theorem dL_law_1073 : decode cL_law 1073 = .ok (.iaload, 1) := dk_46 (dk_at dksL_law_35 16 rfl rfl)
theorem dL_law_1074 : decode cL_law 1074 = .ok (.aload_n 3, 1) := dk_45 (dk_at dksL_law_35 17 rfl rfl)
theorem dL_law_1075 : decode cL_law 1075 = .ok (.invokestatic 212, 3) := dk_184 0 212 (dk_at dksL_law_35 18 rfl rfl)
theorem dL_law_1078 : decode cL_law 1078 = .ok (.istore 6, 2) := dk_54 6 (dk_at dksL_law_35 21 rfl rfl)
theorem dL_law_1080 : decode cL_law 1080 = .ok (.aload_n 2, 1) := dk_44 (dk_at dksL_law_35 23 rfl rfl)
theorem dL_law_1081 : decode cL_law 1081 = .ok (.aload_n 0, 1) := dk_42 (dk_at dksL_law_36 0 rfl rfl)
theorem dL_law_1082 : decode cL_law 1082 = .ok (.iload 5, 2) := dk_21 5 (dk_at dksL_law_36 1 rfl rfl)
theorem dL_law_1084 : decode cL_law 1084 = .ok (.iconst 1, 1) := dk_4 (dk_at dksL_law_36 3 rfl rfl)
theorem dL_law_1085 : decode cL_law 1085 = .ok (.iadd, 1) := dk_96 (dk_at dksL_law_36 4 rfl rfl)
theorem dL_law_1086 : decode cL_law 1086 = .ok (.iaload, 1) := dk_46 (dk_at dksL_law_36 5 rfl rfl)
theorem dL_law_1087 : decode cL_law 1087 = .ok (.invokevirtual 214, 3) := dk_182 0 214 (dk_at dksL_law_36 6 rfl rfl)
theorem dL_law_1090 : decode cL_law 1090 = .ok (.istore 7, 2) := dk_54 7 (dk_at dksL_law_36 9 rfl rfl)
theorem dL_law_1092 : decode cL_law 1092 = .ok (.aload_n 2, 1) := dk_44 (dk_at dksL_law_36 11 rfl rfl)
theorem dL_law_1093 : decode cL_law 1093 = .ok (.invokevirtual 170, 3) := dk_182 0 170 (dk_at dksL_law_36 12 rfl rfl)
theorem dL_law_1096 : decode cL_law 1096 = .ok (.iload 6, 2) := dk_21 6 (dk_at dksL_law_36 15 rfl rfl)
theorem dL_law_1098 : decode cL_law 1098 = .ok (.if_icmp .eq 5, 3) := dk_159 0 5 (dk_at dksL_law_36 17 rfl rfl)
theorem dL_law_1101 : decode cL_law 1101 = .ok (.iconst 0, 1) := dk_3 (dk_at dksL_law_36 20 rfl rfl)
theorem dL_law_1102 : decode cL_law 1102 = .ok (.ireturn, 1) := dk_172 (dk_at dksL_law_36 21 rfl rfl)
theorem dL_law_1103 : decode cL_law 1103 = .ok (.iload 6, 2) := dk_21 6 (dk_at dksL_law_36 22 rfl rfl)
theorem dL_law_1105 : decode cL_law 1105 = .ok (.ifCond .ne 22, 3) := dk_154 0 22 (dk_at dksL_law_37 0 rfl rfl)
theorem dL_law_1108 : decode cL_law 1108 = .ok (.aload_n 3, 1) := dk_45 (dk_at dksL_law_37 3 rfl rfl)
theorem dL_law_1109 : decode cL_law 1109 = .ok (.iconst 0, 1) := dk_3 (dk_at dksL_law_37 4 rfl rfl)
theorem dL_law_1110 : decode cL_law 1110 = .ok (.laload, 1) := dk_47 (dk_at dksL_law_37 5 rfl rfl)
theorem dL_law_1111 : decode cL_law 1111 = .ok (.iload 7, 2) := dk_21 7 (dk_at dksL_law_37 6 rfl rfl)
theorem dL_law_1113 : decode cL_law 1113 = .ok (.ifCond .eq 7, 3) := dk_153 0 7 (dk_at dksL_law_37 8 rfl rfl)
theorem dL_law_1116 : decode cL_law 1116 = .ok (.lconst 1, 1) := dk_10 (dk_at dksL_law_37 11 rfl rfl)
theorem dL_law_1117 : decode cL_law 1117 = .ok (.goto 4, 3) := dk_167 0 4 (dk_at dksL_law_37 12 rfl rfl)
theorem dL_law_1120 : decode cL_law 1120 = .ok (.lconst 0, 1) := dk_9 (dk_at dksL_law_37 15 rfl rfl)
theorem dL_law_1121 : decode cL_law 1121 = .ok (.lcmp, 1) := dk_148 (dk_at dksL_law_37 16 rfl rfl)
theorem dL_law_1122 : decode cL_law 1122 = .ok (.ifCond .eq 5, 3) := dk_153 0 5 (dk_at dksL_law_37 17 rfl rfl)
theorem dL_law_1125 : decode cL_law 1125 = .ok (.iconst 0, 1) := dk_3 (dk_at dksL_law_37 20 rfl rfl)
theorem dL_law_1126 : decode cL_law 1126 = .ok (.ireturn, 1) := dk_172 (dk_at dksL_law_37 21 rfl rfl)
theorem dL_law_1127 : decode cL_law 1127 = .ok (.goto 1906, 3) := dk_167 7 114 (dk_at dksL_law_38 0 rfl rfl)
theorem dL_law_1130 : decode cL_law 1130 = .ok (.aload_n 1, 1) := dk_43 (dk_at dksL_law_38 3 rfl rfl)
theorem dL_law_1131 : decode cL_law 1131 = .ok (.aload_n 0, 1) := dk_42 (dk_at dksL_law_38 4 rfl rfl)
theorem dL_law_1132 : decode cL_law 1132 = .ok (.iload 5, 2) := dk_21 5 (dk_at dksL_law_38 5 rfl rfl)
theorem dL_law_1134 : decode cL_law 1134 = .ok (.iconst 1, 1) := dk_4 (dk_at dksL_law_38 7 rfl rfl)
theorem dL_law_1135 : decode cL_law 1135 = .ok (.iadd, 1) := dk_96 (dk_at dksL_law_38 8 rfl rfl)
theorem dL_law_1136 : decode cL_law 1136 = .ok (.iaload, 1) := dk_46 (dk_at dksL_law_38 9 rfl rfl)
theorem dL_law_1137 : decode cL_law 1137 = .ok (.aload_n 3, 1) := dk_45 (dk_at dksL_law_38 10 rfl rfl)
theorem dL_law_1138 : decode cL_law 1138 = .ok (.invokestatic 215, 3) := dk_184 0 215 (dk_at dksL_law_38 11 rfl rfl)
theorem dL_law_1141 : decode cL_law 1141 = .ok (.istore 6, 2) := dk_54 6 (dk_at dksL_law_38 14 rfl rfl)
theorem dL_law_1143 : decode cL_law 1143 = .ok (.aload_n 2, 1) := dk_44 (dk_at dksL_law_38 16 rfl rfl)
theorem dL_law_1144 : decode cL_law 1144 = .ok (.aload_n 0, 1) := dk_42 (dk_at dksL_law_38 17 rfl rfl)
theorem dL_law_1145 : decode cL_law 1145 = .ok (.iload 5, 2) := dk_21 5 (dk_at dksL_law_38 18 rfl rfl)
theorem dL_law_1147 : decode cL_law 1147 = .ok (.iconst 1, 1) := dk_4 (dk_at dksL_law_38 20 rfl rfl)
theorem dL_law_1148 : decode cL_law 1148 = .ok (.iadd, 1) := dk_96 (dk_at dksL_law_38 21 rfl rfl)
theorem dL_law_1149 : decode cL_law 1149 = .ok (.iaload, 1) := dk_46 (dk_at dksL_law_38 22 rfl rfl)
theorem dL_law_1150 : decode cL_law 1150 = .ok (.invokevirtual 217, 3) := dk_182 0 217 (dk_at dksL_law_39 0 rfl rfl)
theorem dL_law_1153 : decode cL_law 1153 = .ok (.istore 7, 2) := dk_54 7 (dk_at dksL_law_39 3 rfl rfl)
theorem dL_law_1155 : decode cL_law 1155 = .ok (.aload_n 2, 1) := dk_44 (dk_at dksL_law_39 5 rfl rfl)
theorem dL_law_1156 : decode cL_law 1156 = .ok (.invokevirtual 170, 3) := dk_182 0 170 (dk_at dksL_law_39 6 rfl rfl)
theorem dL_law_1159 : decode cL_law 1159 = .ok (.iload 6, 2) := dk_21 6 (dk_at dksL_law_39 9 rfl rfl)
theorem dL_law_1161 : decode cL_law 1161 = .ok (.if_icmp .eq 5, 3) := dk_159 0 5 (dk_at dksL_law_39 11 rfl rfl)
theorem dL_law_1164 : decode cL_law 1164 = .ok (.iconst 0, 1) := dk_3 (dk_at dksL_law_39 14 rfl rfl)
theorem dL_law_1165 : decode cL_law 1165 = .ok (.ireturn, 1) := dk_172 (dk_at dksL_law_39 15 rfl rfl)
theorem dL_law_1166 : decode cL_law 1166 = .ok (.iload 6, 2) := dk_21 6 (dk_at dksL_law_39 16 rfl rfl)
theorem dL_law_1168 : decode cL_law 1168 = .ok (.ifCond .ne 15, 3) := dk_154 0 15 (dk_at dksL_law_39 18 rfl rfl)
theorem dL_law_1171 : decode cL_law 1171 = .ok (.aload_n 3, 1) := dk_45 (dk_at dksL_law_39 21 rfl rfl)
theorem dL_law_1172 : decode cL_law 1172 = .ok (.iconst 0, 1) := dk_3 (dk_at dksL_law_39 22 rfl rfl)
theorem dL_law_1173 : decode cL_law 1173 = .ok (.laload, 1) := dk_47 (dk_at dksL_law_39 23 rfl rfl)
theorem dL_law_1174 : decode cL_law 1174 = .ok (.iload 7, 2) := dk_21 7 (dk_at dksL_law_40 0 rfl rfl)
theorem dL_law_1176 : decode cL_law 1176 = .ok (.i2l, 1) := dk_133 (dk_at dksL_law_40 2 rfl rfl)
theorem dL_law_1177 : decode cL_law 1177 = .ok (.lcmp, 1) := dk_148 (dk_at dksL_law_40 3 rfl rfl)
theorem dL_law_1178 : decode cL_law 1178 = .ok (.ifCond .eq 5, 3) := dk_153 0 5 (dk_at dksL_law_40 4 rfl rfl)
theorem dL_law_1181 : decode cL_law 1181 = .ok (.iconst 0, 1) := dk_3 (dk_at dksL_law_40 7 rfl rfl)
theorem dL_law_1182 : decode cL_law 1182 = .ok (.ireturn, 1) := dk_172 (dk_at dksL_law_40 8 rfl rfl)
theorem dL_law_1183 : decode cL_law 1183 = .ok (.goto 1850, 3) := dk_167 7 58 (dk_at dksL_law_40 9 rfl rfl)
theorem dL_law_1186 : decode cL_law 1186 = .ok (.aload_n 1, 1) := dk_43 (dk_at dksL_law_40 12 rfl rfl)
theorem dL_law_1187 : decode cL_law 1187 = .ok (.aload_n 0, 1) := dk_42 (dk_at dksL_law_40 13 rfl rfl)
theorem dL_law_1188 : decode cL_law 1188 = .ok (.iload 5, 2) := dk_21 5 (dk_at dksL_law_40 14 rfl rfl)
theorem dL_law_1190 : decode cL_law 1190 = .ok (.iconst 1, 1) := dk_4 (dk_at dksL_law_40 16 rfl rfl)
theorem dL_law_1191 : decode cL_law 1191 = .ok (.iadd, 1) := dk_96 (dk_at dksL_law_40 17 rfl rfl)
theorem dL_law_1192 : decode cL_law 1192 = .ok (.iaload, 1) := dk_46 (dk_at dksL_law_40 18 rfl rfl)
theorem dL_law_1193 : decode cL_law 1193 = .ok (.aload_n 3, 1) := dk_45 (dk_at dksL_law_40 19 rfl rfl)
theorem dL_law_1194 : decode cL_law 1194 = .ok (.invokestatic 218, 3) := dk_184 0 218 (dk_at dksL_law_40 20 rfl rfl)
theorem dL_law_1197 : decode cL_law 1197 = .ok (.istore 6, 2) := dk_54 6 (dk_at dksL_law_41 0 rfl rfl)
theorem dL_law_1199 : decode cL_law 1199 = .ok (.aload_n 2, 1) := dk_44 (dk_at dksL_law_41 2 rfl rfl)
theorem dL_law_1200 : decode cL_law 1200 = .ok (.aload_n 0, 1) := dk_42 (dk_at dksL_law_41 3 rfl rfl)
theorem dL_law_1201 : decode cL_law 1201 = .ok (.iload 5, 2) := dk_21 5 (dk_at dksL_law_41 4 rfl rfl)
theorem dL_law_1203 : decode cL_law 1203 = .ok (.iconst 1, 1) := dk_4 (dk_at dksL_law_41 6 rfl rfl)
theorem dL_law_1204 : decode cL_law 1204 = .ok (.iadd, 1) := dk_96 (dk_at dksL_law_41 7 rfl rfl)
theorem dL_law_1205 : decode cL_law 1205 = .ok (.iaload, 1) := dk_46 (dk_at dksL_law_41 8 rfl rfl)
theorem dL_law_1206 : decode cL_law 1206 = .ok (.invokevirtual 220, 3) := dk_182 0 220 (dk_at dksL_law_41 9 rfl rfl)
theorem dL_law_1209 : decode cL_law 1209 = .ok (.istore 7, 2) := dk_54 7 (dk_at dksL_law_41 12 rfl rfl)
theorem dL_law_1211 : decode cL_law 1211 = .ok (.aload_n 2, 1) := dk_44 (dk_at dksL_law_41 14 rfl rfl)
theorem dL_law_1212 : decode cL_law 1212 = .ok (.invokevirtual 170, 3) := dk_182 0 170 (dk_at dksL_law_41 15 rfl rfl)
theorem dL_law_1215 : decode cL_law 1215 = .ok (.iload 6, 2) := dk_21 6 (dk_at dksL_law_41 18 rfl rfl)
theorem dL_law_1217 : decode cL_law 1217 = .ok (.if_icmp .eq 5, 3) := dk_159 0 5 (dk_at dksL_law_41 20 rfl rfl)
theorem dL_law_1220 : decode cL_law 1220 = .ok (.iconst 0, 1) := dk_3 (dk_at dksL_law_41 23 rfl rfl)
theorem dL_law_1221 : decode cL_law 1221 = .ok (.ireturn, 1) := dk_172 (dk_at dksL_law_42 0 rfl rfl)
theorem dL_law_1222 : decode cL_law 1222 = .ok (.iload 6, 2) := dk_21 6 (dk_at dksL_law_42 1 rfl rfl)
theorem dL_law_1224 : decode cL_law 1224 = .ok (.ifCond .ne 15, 3) := dk_154 0 15 (dk_at dksL_law_42 3 rfl rfl)
theorem dL_law_1227 : decode cL_law 1227 = .ok (.aload_n 3, 1) := dk_45 (dk_at dksL_law_42 6 rfl rfl)
theorem dL_law_1228 : decode cL_law 1228 = .ok (.iconst 0, 1) := dk_3 (dk_at dksL_law_42 7 rfl rfl)
theorem dL_law_1229 : decode cL_law 1229 = .ok (.laload, 1) := dk_47 (dk_at dksL_law_42 8 rfl rfl)
theorem dL_law_1230 : decode cL_law 1230 = .ok (.iload 7, 2) := dk_21 7 (dk_at dksL_law_42 9 rfl rfl)
theorem dL_law_1232 : decode cL_law 1232 = .ok (.i2l, 1) := dk_133 (dk_at dksL_law_42 11 rfl rfl)
theorem dL_law_1233 : decode cL_law 1233 = .ok (.lcmp, 1) := dk_148 (dk_at dksL_law_42 12 rfl rfl)
theorem dL_law_1234 : decode cL_law 1234 = .ok (.ifCond .eq 5, 3) := dk_153 0 5 (dk_at dksL_law_42 13 rfl rfl)
theorem dL_law_1237 : decode cL_law 1237 = .ok (.iconst 0, 1) := dk_3 (dk_at dksL_law_42 16 rfl rfl)
theorem dL_law_1238 : decode cL_law 1238 = .ok (.ireturn, 1) := dk_172 (dk_at dksL_law_42 17 rfl rfl)
theorem dL_law_1239 : decode cL_law 1239 = .ok (.goto 1794, 3) := dk_167 7 2 (dk_at dksL_law_42 18 rfl rfl)
theorem dL_law_1242 : decode cL_law 1242 = .ok (.aload_n 1, 1) := dk_43 (dk_at dksL_law_42 21 rfl rfl)
theorem dL_law_1243 : decode cL_law 1243 = .ok (.invokevirtual 221, 3) := dk_182 0 221 (dk_at dksL_law_43 0 rfl rfl)
theorem dL_law_1246 : decode cL_law 1246 = .ok (.aload_n 2, 1) := dk_44 (dk_at dksL_law_43 3 rfl rfl)
theorem dL_law_1247 : decode cL_law 1247 = .ok (.invokevirtual 224, 3) := dk_182 0 224 (dk_at dksL_law_43 4 rfl rfl)
theorem dL_law_1250 : decode cL_law 1250 = .ok (.if_icmp .eq 1783, 3) := dk_159 6 247 (dk_at dksL_law_43 7 rfl rfl)
theorem dL_law_1253 : decode cL_law 1253 = .ok (.iconst 0, 1) := dk_3 (dk_at dksL_law_43 10 rfl rfl)
theorem dL_law_1254 : decode cL_law 1254 = .ok (.ireturn, 1) := dk_172 (dk_at dksL_law_43 11 rfl rfl)
theorem dL_law_1255 : decode cL_law 1255 = .ok (.aload_n 1, 1) := dk_43 (dk_at dksL_law_43 12 rfl rfl)
theorem dL_law_1256 : decode cL_law 1256 = .ok (.aload_n 0, 1) := dk_42 (dk_at dksL_law_43 13 rfl rfl)
theorem dL_law_1257 : decode cL_law 1257 = .ok (.iload 5, 2) := dk_21 5 (dk_at dksL_law_43 14 rfl rfl)
theorem dL_law_1259 : decode cL_law 1259 = .ok (.iconst 1, 1) := dk_4 (dk_at dksL_law_43 16 rfl rfl)
theorem dL_law_1260 : decode cL_law 1260 = .ok (.iadd, 1) := dk_96 (dk_at dksL_law_43 17 rfl rfl)
theorem dL_law_1261 : decode cL_law 1261 = .ok (.iaload, 1) := dk_46 (dk_at dksL_law_43 18 rfl rfl)
theorem dL_law_1262 : decode cL_law 1262 = .ok (.i2c, 1) := dk_146 (dk_at dksL_law_43 19 rfl rfl)
theorem dL_law_1263 : decode cL_law 1263 = .ok (.aload_n 0, 1) := dk_42 (dk_at dksL_law_43 20 rfl rfl)
theorem dL_law_1264 : decode cL_law 1264 = .ok (.iload 5, 2) := dk_21 5 (dk_at dksL_law_43 21 rfl rfl)
theorem dL_law_1266 : decode cL_law 1266 = .ok (.iconst 2, 1) := dk_5 (dk_at dksL_law_43 23 rfl rfl)
theorem dL_law_1267 : decode cL_law 1267 = .ok (.iadd, 1) := dk_96 (dk_at dksL_law_44 0 rfl rfl)
theorem dL_law_1268 : decode cL_law 1268 = .ok (.iaload, 1) := dk_46 (dk_at dksL_law_44 1 rfl rfl)
theorem dL_law_1269 : decode cL_law 1269 = .ok (.aload_n 3, 1) := dk_45 (dk_at dksL_law_44 2 rfl rfl)
theorem dL_law_1270 : decode cL_law 1270 = .ok (.invokestatic 225, 3) := dk_184 0 225 (dk_at dksL_law_44 3 rfl rfl)
theorem dL_law_1273 : decode cL_law 1273 = .ok (.istore 6, 2) := dk_54 6 (dk_at dksL_law_44 6 rfl rfl)
theorem dL_law_1275 : decode cL_law 1275 = .ok (.aload_n 2, 1) := dk_44 (dk_at dksL_law_44 8 rfl rfl)
theorem dL_law_1276 : decode cL_law 1276 = .ok (.aload_n 0, 1) := dk_42 (dk_at dksL_law_44 9 rfl rfl)
theorem dL_law_1277 : decode cL_law 1277 = .ok (.iload 5, 2) := dk_21 5 (dk_at dksL_law_44 10 rfl rfl)
theorem dL_law_1279 : decode cL_law 1279 = .ok (.iconst 1, 1) := dk_4 (dk_at dksL_law_44 12 rfl rfl)
theorem dL_law_1280 : decode cL_law 1280 = .ok (.iadd, 1) := dk_96 (dk_at dksL_law_44 13 rfl rfl)
theorem dL_law_1281 : decode cL_law 1281 = .ok (.iaload, 1) := dk_46 (dk_at dksL_law_44 14 rfl rfl)
theorem dL_law_1282 : decode cL_law 1282 = .ok (.i2c, 1) := dk_146 (dk_at dksL_law_44 15 rfl rfl)
theorem dL_law_1283 : decode cL_law 1283 = .ok (.aload_n 0, 1) := dk_42 (dk_at dksL_law_44 16 rfl rfl)
theorem dL_law_1284 : decode cL_law 1284 = .ok (.iload 5, 2) := dk_21 5 (dk_at dksL_law_44 17 rfl rfl)
theorem dL_law_1286 : decode cL_law 1286 = .ok (.iconst 2, 1) := dk_5 (dk_at dksL_law_44 19 rfl rfl)
theorem dL_law_1287 : decode cL_law 1287 = .ok (.iadd, 1) := dk_96 (dk_at dksL_law_44 20 rfl rfl)
theorem dL_law_1288 : decode cL_law 1288 = .ok (.iaload, 1) := dk_46 (dk_at dksL_law_44 21 rfl rfl)
theorem dL_law_1289 : decode cL_law 1289 = .ok (.invokevirtual 228, 3) := dk_182 0 228 (dk_at dksL_law_45 0 rfl rfl)
theorem dL_law_1292 : decode cL_law 1292 = .ok (.istore 7, 2) := dk_54 7 (dk_at dksL_law_45 3 rfl rfl)
theorem dL_law_1294 : decode cL_law 1294 = .ok (.aload_n 2, 1) := dk_44 (dk_at dksL_law_45 5 rfl rfl)
theorem dL_law_1295 : decode cL_law 1295 = .ok (.invokevirtual 170, 3) := dk_182 0 170 (dk_at dksL_law_45 6 rfl rfl)
theorem dL_law_1298 : decode cL_law 1298 = .ok (.iload 6, 2) := dk_21 6 (dk_at dksL_law_45 9 rfl rfl)
theorem dL_law_1300 : decode cL_law 1300 = .ok (.if_icmp .eq 5, 3) := dk_159 0 5 (dk_at dksL_law_45 11 rfl rfl)
theorem dL_law_1303 : decode cL_law 1303 = .ok (.iconst 0, 1) := dk_3 (dk_at dksL_law_45 14 rfl rfl)
theorem dL_law_1304 : decode cL_law 1304 = .ok (.ireturn, 1) := dk_172 (dk_at dksL_law_45 15 rfl rfl)
theorem dL_law_1305 : decode cL_law 1305 = .ok (.iload 6, 2) := dk_21 6 (dk_at dksL_law_45 16 rfl rfl)
theorem dL_law_1307 : decode cL_law 1307 = .ok (.ifCond .ne 15, 3) := dk_154 0 15 (dk_at dksL_law_45 18 rfl rfl)
theorem dL_law_1310 : decode cL_law 1310 = .ok (.aload_n 3, 1) := dk_45 (dk_at dksL_law_45 21 rfl rfl)
theorem dL_law_1311 : decode cL_law 1311 = .ok (.iconst 0, 1) := dk_3 (dk_at dksL_law_45 22 rfl rfl)
theorem dL_law_1312 : decode cL_law 1312 = .ok (.laload, 1) := dk_47 (dk_at dksL_law_45 23 rfl rfl)
theorem dL_law_1313 : decode cL_law 1313 = .ok (.iload 7, 2) := dk_21 7 (dk_at dksL_law_46 0 rfl rfl)
theorem dL_law_1315 : decode cL_law 1315 = .ok (.i2l, 1) := dk_133 (dk_at dksL_law_46 2 rfl rfl)
theorem dL_law_1316 : decode cL_law 1316 = .ok (.lcmp, 1) := dk_148 (dk_at dksL_law_46 3 rfl rfl)
theorem dL_law_1317 : decode cL_law 1317 = .ok (.ifCond .eq 5, 3) := dk_153 0 5 (dk_at dksL_law_46 4 rfl rfl)
theorem dL_law_1320 : decode cL_law 1320 = .ok (.iconst 0, 1) := dk_3 (dk_at dksL_law_46 7 rfl rfl)
theorem dL_law_1321 : decode cL_law 1321 = .ok (.ireturn, 1) := dk_172 (dk_at dksL_law_46 8 rfl rfl)
theorem dL_law_1322 : decode cL_law 1322 = .ok (.goto 1711, 3) := dk_167 6 175 (dk_at dksL_law_46 9 rfl rfl)
theorem dL_law_1325 : decode cL_law 1325 = .ok (.aload_n 1, 1) := dk_43 (dk_at dksL_law_46 12 rfl rfl)
theorem dL_law_1326 : decode cL_law 1326 = .ok (.invokevirtual 229, 3) := dk_182 0 229 (dk_at dksL_law_46 13 rfl rfl)
theorem dL_law_1329 : decode cL_law 1329 = .ok (.aload_n 2, 1) := dk_44 (dk_at dksL_law_46 16 rfl rfl)
theorem dL_law_1330 : decode cL_law 1330 = .ok (.invokevirtual 233, 3) := dk_182 0 233 (dk_at dksL_law_46 17 rfl rfl)
theorem dL_law_1333 : decode cL_law 1333 = .ok (.if_icmp .eq 1700, 3) := dk_159 6 164 (dk_at dksL_law_46 20 rfl rfl)
theorem dL_law_1336 : decode cL_law 1336 = .ok (.iconst 0, 1) := dk_3 (dk_at dksL_law_46 23 rfl rfl)
theorem dL_law_1337 : decode cL_law 1337 = .ok (.ireturn, 1) := dk_172 (dk_at dksL_law_47 0 rfl rfl)
theorem dL_law_1338 : decode cL_law 1338 = .ok (.aload_n 1, 1) := dk_43 (dk_at dksL_law_47 1 rfl rfl)
theorem dL_law_1339 : decode cL_law 1339 = .ok (.invokevirtual 234, 3) := dk_182 0 234 (dk_at dksL_law_47 2 rfl rfl)
theorem dL_law_1342 : decode cL_law 1342 = .ok (.aload_n 2, 1) := dk_44 (dk_at dksL_law_47 5 rfl rfl)
theorem dL_law_1343 : decode cL_law 1343 = .ok (.invokevirtual 237, 3) := dk_182 0 237 (dk_at dksL_law_47 6 rfl rfl)
theorem dL_law_1346 : decode cL_law 1346 = .ok (.if_icmp .eq 1687, 3) := dk_159 6 151 (dk_at dksL_law_47 9 rfl rfl)
theorem dL_law_1349 : decode cL_law 1349 = .ok (.iconst 0, 1) := dk_3 (dk_at dksL_law_47 12 rfl rfl)
theorem dL_law_1350 : decode cL_law 1350 = .ok (.ireturn, 1) := dk_172 (dk_at dksL_law_47 13 rfl rfl)
theorem dL_law_1351 : decode cL_law 1351 = .ok (.aload_n 1, 1) := dk_43 (dk_at dksL_law_47 14 rfl rfl)
theorem dL_law_1352 : decode cL_law 1352 = .ok (.invokevirtual 238, 3) := dk_182 0 238 (dk_at dksL_law_47 15 rfl rfl)
theorem dL_law_1355 : decode cL_law 1355 = .ok (.aload_n 2, 1) := dk_44 (dk_at dksL_law_47 18 rfl rfl)
theorem dL_law_1356 : decode cL_law 1356 = .ok (.invokevirtual 241, 3) := dk_182 0 241 (dk_at dksL_law_47 19 rfl rfl)
theorem dL_law_1359 : decode cL_law 1359 = .ok (.if_icmp .eq 1674, 3) := dk_159 6 138 (dk_at dksL_law_48 0 rfl rfl)
theorem dL_law_1362 : decode cL_law 1362 = .ok (.iconst 0, 1) := dk_3 (dk_at dksL_law_48 3 rfl rfl)
theorem dL_law_1363 : decode cL_law 1363 = .ok (.ireturn, 1) := dk_172 (dk_at dksL_law_48 4 rfl rfl)
theorem dL_law_1364 : decode cL_law 1364 = .ok (.aload_n 1, 1) := dk_43 (dk_at dksL_law_48 5 rfl rfl)
theorem dL_law_1365 : decode cL_law 1365 = .ok (.aload_n 0, 1) := dk_42 (dk_at dksL_law_48 6 rfl rfl)
theorem dL_law_1366 : decode cL_law 1366 = .ok (.iload 5, 2) := dk_21 5 (dk_at dksL_law_48 7 rfl rfl)
theorem dL_law_1368 : decode cL_law 1368 = .ok (.iconst 1, 1) := dk_4 (dk_at dksL_law_48 9 rfl rfl)
theorem dL_law_1369 : decode cL_law 1369 = .ok (.iadd, 1) := dk_96 (dk_at dksL_law_48 10 rfl rfl)
theorem dL_law_1370 : decode cL_law 1370 = .ok (.iaload, 1) := dk_46 (dk_at dksL_law_48 11 rfl rfl)
theorem dL_law_1371 : decode cL_law 1371 = .ok (.aload_n 3, 1) := dk_45 (dk_at dksL_law_48 12 rfl rfl)
theorem dL_law_1372 : decode cL_law 1372 = .ok (.invokestatic 242, 3) := dk_184 0 242 (dk_at dksL_law_48 13 rfl rfl)
theorem dL_law_1375 : decode cL_law 1375 = .ok (.istore 6, 2) := dk_54 6 (dk_at dksL_law_48 16 rfl rfl)
theorem dL_law_1377 : decode cL_law 1377 = .ok (.aload_n 2, 1) := dk_44 (dk_at dksL_law_48 18 rfl rfl)
theorem dL_law_1378 : decode cL_law 1378 = .ok (.aload_n 0, 1) := dk_42 (dk_at dksL_law_48 19 rfl rfl)
theorem dL_law_1379 : decode cL_law 1379 = .ok (.iload 5, 2) := dk_21 5 (dk_at dksL_law_48 20 rfl rfl)
theorem dL_law_1381 : decode cL_law 1381 = .ok (.iconst 1, 1) := dk_4 (dk_at dksL_law_48 22 rfl rfl)
theorem dL_law_1382 : decode cL_law 1382 = .ok (.iadd, 1) := dk_96 (dk_at dksL_law_48 23 rfl rfl)
theorem dL_law_1383 : decode cL_law 1383 = .ok (.iaload, 1) := dk_46 (dk_at dksL_law_49 0 rfl rfl)
theorem dL_law_1384 : decode cL_law 1384 = .ok (.invokevirtual 244, 3) := dk_182 0 244 (dk_at dksL_law_49 1 rfl rfl)
theorem dL_law_1387 : decode cL_law 1387 = .ok (.istore 7, 2) := dk_54 7 (dk_at dksL_law_49 4 rfl rfl)
theorem dL_law_1389 : decode cL_law 1389 = .ok (.aload_n 2, 1) := dk_44 (dk_at dksL_law_49 6 rfl rfl)
theorem dL_law_1390 : decode cL_law 1390 = .ok (.invokevirtual 170, 3) := dk_182 0 170 (dk_at dksL_law_49 7 rfl rfl)
theorem dL_law_1393 : decode cL_law 1393 = .ok (.iload 6, 2) := dk_21 6 (dk_at dksL_law_49 10 rfl rfl)
theorem dL_law_1395 : decode cL_law 1395 = .ok (.if_icmp .eq 5, 3) := dk_159 0 5 (dk_at dksL_law_49 12 rfl rfl)
theorem dL_law_1398 : decode cL_law 1398 = .ok (.iconst 0, 1) := dk_3 (dk_at dksL_law_49 15 rfl rfl)
theorem dL_law_1399 : decode cL_law 1399 = .ok (.ireturn, 1) := dk_172 (dk_at dksL_law_49 16 rfl rfl)
theorem dL_law_1400 : decode cL_law 1400 = .ok (.iload 6, 2) := dk_21 6 (dk_at dksL_law_49 17 rfl rfl)
theorem dL_law_1402 : decode cL_law 1402 = .ok (.ifCond .ne 15, 3) := dk_154 0 15 (dk_at dksL_law_49 19 rfl rfl)
theorem dL_law_1405 : decode cL_law 1405 = .ok (.aload_n 3, 1) := dk_45 (dk_at dksL_law_49 22 rfl rfl)
theorem dL_law_1406 : decode cL_law 1406 = .ok (.iconst 0, 1) := dk_3 (dk_at dksL_law_49 23 rfl rfl)
theorem dL_law_1407 : decode cL_law 1407 = .ok (.laload, 1) := dk_47 (dk_at dksL_law_50 0 rfl rfl)
theorem dL_law_1408 : decode cL_law 1408 = .ok (.iload 7, 2) := dk_21 7 (dk_at dksL_law_50 1 rfl rfl)
theorem dL_law_1410 : decode cL_law 1410 = .ok (.i2l, 1) := dk_133 (dk_at dksL_law_50 3 rfl rfl)
theorem dL_law_1411 : decode cL_law 1411 = .ok (.lcmp, 1) := dk_148 (dk_at dksL_law_50 4 rfl rfl)
theorem dL_law_1412 : decode cL_law 1412 = .ok (.ifCond .eq 5, 3) := dk_153 0 5 (dk_at dksL_law_50 5 rfl rfl)
theorem dL_law_1415 : decode cL_law 1415 = .ok (.iconst 0, 1) := dk_3 (dk_at dksL_law_50 8 rfl rfl)
theorem dL_law_1416 : decode cL_law 1416 = .ok (.ireturn, 1) := dk_172 (dk_at dksL_law_50 9 rfl rfl)
theorem dL_law_1417 : decode cL_law 1417 = .ok (.goto 1616, 3) := dk_167 6 80 (dk_at dksL_law_50 10 rfl rfl)
theorem dL_law_1420 : decode cL_law 1420 = .ok (.aload_n 1, 1) := dk_43 (dk_at dksL_law_50 13 rfl rfl)
theorem dL_law_1421 : decode cL_law 1421 = .ok (.aload_n 0, 1) := dk_42 (dk_at dksL_law_50 14 rfl rfl)
theorem dL_law_1422 : decode cL_law 1422 = .ok (.iload 5, 2) := dk_21 5 (dk_at dksL_law_50 15 rfl rfl)
theorem dL_law_1424 : decode cL_law 1424 = .ok (.iconst 1, 1) := dk_4 (dk_at dksL_law_50 17 rfl rfl)
theorem dL_law_1425 : decode cL_law 1425 = .ok (.iadd, 1) := dk_96 (dk_at dksL_law_50 18 rfl rfl)
theorem dL_law_1426 : decode cL_law 1426 = .ok (.iaload, 1) := dk_46 (dk_at dksL_law_50 19 rfl rfl)
theorem dL_law_1427 : decode cL_law 1427 = .ok (.aload_n 3, 1) := dk_45 (dk_at dksL_law_50 20 rfl rfl)
theorem dL_law_1428 : decode cL_law 1428 = .ok (.invokestatic 245, 3) := dk_184 0 245 (dk_at dksL_law_50 21 rfl rfl)
theorem dL_law_1431 : decode cL_law 1431 = .ok (.istore 6, 2) := dk_54 6 (dk_at dksL_law_51 0 rfl rfl)
theorem dL_law_1433 : decode cL_law 1433 = .ok (.aload_n 2, 1) := dk_44 (dk_at dksL_law_51 2 rfl rfl)
theorem dL_law_1434 : decode cL_law 1434 = .ok (.aload_n 0, 1) := dk_42 (dk_at dksL_law_51 3 rfl rfl)
theorem dL_law_1435 : decode cL_law 1435 = .ok (.iload 5, 2) := dk_21 5 (dk_at dksL_law_51 4 rfl rfl)
theorem dL_law_1437 : decode cL_law 1437 = .ok (.iconst 1, 1) := dk_4 (dk_at dksL_law_51 6 rfl rfl)
theorem dL_law_1438 : decode cL_law 1438 = .ok (.iadd, 1) := dk_96 (dk_at dksL_law_51 7 rfl rfl)
theorem dL_law_1439 : decode cL_law 1439 = .ok (.iaload, 1) := dk_46 (dk_at dksL_law_51 8 rfl rfl)
theorem dL_law_1440 : decode cL_law 1440 = .ok (.invokevirtual 247, 3) := dk_182 0 247 (dk_at dksL_law_51 9 rfl rfl)
theorem dL_law_1443 : decode cL_law 1443 = .ok (.istore 7, 2) := dk_54 7 (dk_at dksL_law_51 12 rfl rfl)
theorem dL_law_1445 : decode cL_law 1445 = .ok (.aload_n 2, 1) := dk_44 (dk_at dksL_law_51 14 rfl rfl)
theorem dL_law_1446 : decode cL_law 1446 = .ok (.invokevirtual 170, 3) := dk_182 0 170 (dk_at dksL_law_51 15 rfl rfl)
theorem dL_law_1449 : decode cL_law 1449 = .ok (.iload 6, 2) := dk_21 6 (dk_at dksL_law_51 18 rfl rfl)
theorem dL_law_1451 : decode cL_law 1451 = .ok (.if_icmp .eq 5, 3) := dk_159 0 5 (dk_at dksL_law_51 20 rfl rfl)
theorem dL_law_1454 : decode cL_law 1454 = .ok (.iconst 0, 1) := dk_3 (dk_at dksL_law_51 23 rfl rfl)
theorem dL_law_1455 : decode cL_law 1455 = .ok (.ireturn, 1) := dk_172 (dk_at dksL_law_52 0 rfl rfl)
theorem dL_law_1456 : decode cL_law 1456 = .ok (.iload 6, 2) := dk_21 6 (dk_at dksL_law_52 1 rfl rfl)
theorem dL_law_1458 : decode cL_law 1458 = .ok (.ifCond .ne 15, 3) := dk_154 0 15 (dk_at dksL_law_52 3 rfl rfl)
theorem dL_law_1461 : decode cL_law 1461 = .ok (.aload_n 3, 1) := dk_45 (dk_at dksL_law_52 6 rfl rfl)
theorem dL_law_1462 : decode cL_law 1462 = .ok (.iconst 0, 1) := dk_3 (dk_at dksL_law_52 7 rfl rfl)
theorem dL_law_1463 : decode cL_law 1463 = .ok (.laload, 1) := dk_47 (dk_at dksL_law_52 8 rfl rfl)
theorem dL_law_1464 : decode cL_law 1464 = .ok (.iload 7, 2) := dk_21 7 (dk_at dksL_law_52 9 rfl rfl)
theorem dL_law_1466 : decode cL_law 1466 = .ok (.i2l, 1) := dk_133 (dk_at dksL_law_52 11 rfl rfl)
theorem dL_law_1467 : decode cL_law 1467 = .ok (.lcmp, 1) := dk_148 (dk_at dksL_law_52 12 rfl rfl)
theorem dL_law_1468 : decode cL_law 1468 = .ok (.ifCond .eq 5, 3) := dk_153 0 5 (dk_at dksL_law_52 13 rfl rfl)
theorem dL_law_1471 : decode cL_law 1471 = .ok (.iconst 0, 1) := dk_3 (dk_at dksL_law_52 16 rfl rfl)
theorem dL_law_1472 : decode cL_law 1472 = .ok (.ireturn, 1) := dk_172 (dk_at dksL_law_52 17 rfl rfl)
theorem dL_law_1473 : decode cL_law 1473 = .ok (.goto 1560, 3) := dk_167 6 24 (dk_at dksL_law_52 18 rfl rfl)
theorem dL_law_1476 : decode cL_law 1476 = .ok (.aload_n 1, 1) := dk_43 (dk_at dksL_law_52 21 rfl rfl)
theorem dL_law_1477 : decode cL_law 1477 = .ok (.aload_n 0, 1) := dk_42 (dk_at dksL_law_52 22 rfl rfl)
theorem dL_law_1478 : decode cL_law 1478 = .ok (.iload 5, 2) := dk_21 5 (dk_at dksL_law_53 0 rfl rfl)
theorem dL_law_1480 : decode cL_law 1480 = .ok (.iconst 1, 1) := dk_4 (dk_at dksL_law_53 2 rfl rfl)
theorem dL_law_1481 : decode cL_law 1481 = .ok (.iadd, 1) := dk_96 (dk_at dksL_law_53 3 rfl rfl)
theorem dL_law_1482 : decode cL_law 1482 = .ok (.iaload, 1) := dk_46 (dk_at dksL_law_53 4 rfl rfl)
theorem dL_law_1483 : decode cL_law 1483 = .ok (.aload_n 3, 1) := dk_45 (dk_at dksL_law_53 5 rfl rfl)
theorem dL_law_1484 : decode cL_law 1484 = .ok (.invokestatic 248, 3) := dk_184 0 248 (dk_at dksL_law_53 6 rfl rfl)
theorem dL_law_1487 : decode cL_law 1487 = .ok (.istore 6, 2) := dk_54 6 (dk_at dksL_law_53 9 rfl rfl)
theorem dL_law_1489 : decode cL_law 1489 = .ok (.aload_n 2, 1) := dk_44 (dk_at dksL_law_53 11 rfl rfl)
theorem dL_law_1490 : decode cL_law 1490 = .ok (.aload_n 0, 1) := dk_42 (dk_at dksL_law_53 12 rfl rfl)
theorem dL_law_1491 : decode cL_law 1491 = .ok (.iload 5, 2) := dk_21 5 (dk_at dksL_law_53 13 rfl rfl)
theorem dL_law_1493 : decode cL_law 1493 = .ok (.iconst 1, 1) := dk_4 (dk_at dksL_law_53 15 rfl rfl)
theorem dL_law_1494 : decode cL_law 1494 = .ok (.iadd, 1) := dk_96 (dk_at dksL_law_53 16 rfl rfl)
theorem dL_law_1495 : decode cL_law 1495 = .ok (.iaload, 1) := dk_46 (dk_at dksL_law_53 17 rfl rfl)
theorem dL_law_1496 : decode cL_law 1496 = .ok (.invokevirtual 250, 3) := dk_182 0 250 (dk_at dksL_law_53 18 rfl rfl)
theorem dL_law_1499 : decode cL_law 1499 = .ok (.istore 7, 2) := dk_54 7 (dk_at dksL_law_53 21 rfl rfl)
theorem dL_law_1501 : decode cL_law 1501 = .ok (.aload_n 2, 1) := dk_44 (dk_at dksL_law_53 23 rfl rfl)
theorem dL_law_1502 : decode cL_law 1502 = .ok (.invokevirtual 170, 3) := dk_182 0 170 (dk_at dksL_law_54 0 rfl rfl)
theorem dL_law_1505 : decode cL_law 1505 = .ok (.iload 6, 2) := dk_21 6 (dk_at dksL_law_54 3 rfl rfl)
theorem dL_law_1507 : decode cL_law 1507 = .ok (.if_icmp .eq 5, 3) := dk_159 0 5 (dk_at dksL_law_54 5 rfl rfl)
theorem dL_law_1510 : decode cL_law 1510 = .ok (.iconst 0, 1) := dk_3 (dk_at dksL_law_54 8 rfl rfl)
theorem dL_law_1511 : decode cL_law 1511 = .ok (.ireturn, 1) := dk_172 (dk_at dksL_law_54 9 rfl rfl)
theorem dL_law_1512 : decode cL_law 1512 = .ok (.iload 6, 2) := dk_21 6 (dk_at dksL_law_54 10 rfl rfl)
theorem dL_law_1514 : decode cL_law 1514 = .ok (.ifCond .ne 15, 3) := dk_154 0 15 (dk_at dksL_law_54 12 rfl rfl)
theorem dL_law_1517 : decode cL_law 1517 = .ok (.aload_n 3, 1) := dk_45 (dk_at dksL_law_54 15 rfl rfl)
theorem dL_law_1518 : decode cL_law 1518 = .ok (.iconst 0, 1) := dk_3 (dk_at dksL_law_54 16 rfl rfl)
theorem dL_law_1519 : decode cL_law 1519 = .ok (.laload, 1) := dk_47 (dk_at dksL_law_54 17 rfl rfl)
theorem dL_law_1520 : decode cL_law 1520 = .ok (.iload 7, 2) := dk_21 7 (dk_at dksL_law_54 18 rfl rfl)
theorem dL_law_1522 : decode cL_law 1522 = .ok (.i2l, 1) := dk_133 (dk_at dksL_law_54 20 rfl rfl)
theorem dL_law_1523 : decode cL_law 1523 = .ok (.lcmp, 1) := dk_148 (dk_at dksL_law_54 21 rfl rfl)
theorem dL_law_1524 : decode cL_law 1524 = .ok (.ifCond .eq 5, 3) := dk_153 0 5 (dk_at dksL_law_55 0 rfl rfl)
theorem dL_law_1527 : decode cL_law 1527 = .ok (.iconst 0, 1) := dk_3 (dk_at dksL_law_55 3 rfl rfl)
theorem dL_law_1528 : decode cL_law 1528 = .ok (.ireturn, 1) := dk_172 (dk_at dksL_law_55 4 rfl rfl)
theorem dL_law_1529 : decode cL_law 1529 = .ok (.goto 1504, 3) := dk_167 5 224 (dk_at dksL_law_55 5 rfl rfl)
theorem dL_law_1532 : decode cL_law 1532 = .ok (.aload_n 1, 1) := dk_43 (dk_at dksL_law_55 8 rfl rfl)
theorem dL_law_1533 : decode cL_law 1533 = .ok (.invokevirtual 251, 3) := dk_182 0 251 (dk_at dksL_law_55 9 rfl rfl)
theorem dL_law_1536 : decode cL_law 1536 = .ok (.aload_n 2, 1) := dk_44 (dk_at dksL_law_55 12 rfl rfl)
theorem dL_law_1537 : decode cL_law 1537 = .ok (.invokevirtual 254, 3) := dk_182 0 254 (dk_at dksL_law_55 13 rfl rfl)
theorem dL_law_1540 : decode cL_law 1540 = .ok (.if_icmp .eq 1493, 3) := dk_159 5 213 (dk_at dksL_law_55 16 rfl rfl)
theorem dL_law_1543 : decode cL_law 1543 = .ok (.iconst 0, 1) := dk_3 (dk_at dksL_law_55 19 rfl rfl)
theorem dL_law_1544 : decode cL_law 1544 = .ok (.ireturn, 1) := dk_172 (dk_at dksL_law_55 20 rfl rfl)
theorem dL_law_1545 : decode cL_law 1545 = .ok (.aload_n 1, 1) := dk_43 (dk_at dksL_law_55 21 rfl rfl)
theorem dL_law_1546 : decode cL_law 1546 = .ok (.invokevirtual 255, 3) := dk_182 0 255 (dk_at dksL_law_56 0 rfl rfl)
theorem dL_law_1549 : decode cL_law 1549 = .ok (.aload_n 2, 1) := dk_44 (dk_at dksL_law_56 3 rfl rfl)
theorem dL_law_1550 : decode cL_law 1550 = .ok (.invokevirtual 258, 3) := dk_182 1 2 (dk_at dksL_law_56 4 rfl rfl)
theorem dL_law_1553 : decode cL_law 1553 = .ok (.if_icmp .eq 1480, 3) := dk_159 5 200 (dk_at dksL_law_56 7 rfl rfl)
theorem dL_law_1556 : decode cL_law 1556 = .ok (.iconst 0, 1) := dk_3 (dk_at dksL_law_56 10 rfl rfl)
theorem dL_law_1557 : decode cL_law 1557 = .ok (.ireturn, 1) := dk_172 (dk_at dksL_law_56 11 rfl rfl)
theorem dL_law_1558 : decode cL_law 1558 = .ok (.aload_n 1, 1) := dk_43 (dk_at dksL_law_56 12 rfl rfl)
theorem dL_law_1559 : decode cL_law 1559 = .ok (.aload_n 0, 1) := dk_42 (dk_at dksL_law_56 13 rfl rfl)
theorem dL_law_1560 : decode cL_law 1560 = .ok (.iload 5, 2) := dk_21 5 (dk_at dksL_law_56 14 rfl rfl)
theorem dL_law_1562 : decode cL_law 1562 = .ok (.iconst 1, 1) := dk_4 (dk_at dksL_law_56 16 rfl rfl)
theorem dL_law_1563 : decode cL_law 1563 = .ok (.iadd, 1) := dk_96 (dk_at dksL_law_56 17 rfl rfl)
theorem dL_law_1564 : decode cL_law 1564 = .ok (.iaload, 1) := dk_46 (dk_at dksL_law_56 18 rfl rfl)
theorem dL_law_1565 : decode cL_law 1565 = .ok (.i2c, 1) := dk_146 (dk_at dksL_law_56 19 rfl rfl)
theorem dL_law_1566 : decode cL_law 1566 = .ok (.aload_n 0, 1) := dk_42 (dk_at dksL_law_56 20 rfl rfl)
theorem dL_law_1567 : decode cL_law 1567 = .ok (.iload 5, 2) := dk_21 5 (dk_at dksL_law_56 21 rfl rfl)
theorem dL_law_1569 : decode cL_law 1569 = .ok (.iconst 2, 1) := dk_5 (dk_at dksL_law_56 23 rfl rfl)
theorem dL_law_1570 : decode cL_law 1570 = .ok (.iadd, 1) := dk_96 (dk_at dksL_law_57 0 rfl rfl)
theorem dL_law_1571 : decode cL_law 1571 = .ok (.iaload, 1) := dk_46 (dk_at dksL_law_57 1 rfl rfl)
theorem dL_law_1572 : decode cL_law 1572 = .ok (.aload_n 3, 1) := dk_45 (dk_at dksL_law_57 2 rfl rfl)
theorem dL_law_1573 : decode cL_law 1573 = .ok (.invokestatic 259, 3) := dk_184 1 3 (dk_at dksL_law_57 3 rfl rfl)
theorem dL_law_1576 : decode cL_law 1576 = .ok (.istore 6, 2) := dk_54 6 (dk_at dksL_law_57 6 rfl rfl)
theorem dL_law_1578 : decode cL_law 1578 = .ok (.aload_n 2, 1) := dk_44 (dk_at dksL_law_57 8 rfl rfl)
theorem dL_law_1579 : decode cL_law 1579 = .ok (.aload_n 0, 1) := dk_42 (dk_at dksL_law_57 9 rfl rfl)
theorem dL_law_1580 : decode cL_law 1580 = .ok (.iload 5, 2) := dk_21 5 (dk_at dksL_law_57 10 rfl rfl)
theorem dL_law_1582 : decode cL_law 1582 = .ok (.iconst 1, 1) := dk_4 (dk_at dksL_law_57 12 rfl rfl)
theorem dL_law_1583 : decode cL_law 1583 = .ok (.iadd, 1) := dk_96 (dk_at dksL_law_57 13 rfl rfl)
theorem dL_law_1584 : decode cL_law 1584 = .ok (.iaload, 1) := dk_46 (dk_at dksL_law_57 14 rfl rfl)
theorem dL_law_1585 : decode cL_law 1585 = .ok (.i2c, 1) := dk_146 (dk_at dksL_law_57 15 rfl rfl)
theorem dL_law_1586 : decode cL_law 1586 = .ok (.aload_n 0, 1) := dk_42 (dk_at dksL_law_57 16 rfl rfl)
theorem dL_law_1587 : decode cL_law 1587 = .ok (.iload 5, 2) := dk_21 5 (dk_at dksL_law_57 17 rfl rfl)
theorem dL_law_1589 : decode cL_law 1589 = .ok (.iconst 2, 1) := dk_5 (dk_at dksL_law_57 19 rfl rfl)
theorem dL_law_1590 : decode cL_law 1590 = .ok (.iadd, 1) := dk_96 (dk_at dksL_law_57 20 rfl rfl)
theorem dL_law_1591 : decode cL_law 1591 = .ok (.iaload, 1) := dk_46 (dk_at dksL_law_57 21 rfl rfl)
theorem dL_law_1592 : decode cL_law 1592 = .ok (.invokevirtual 261, 3) := dk_182 1 5 (dk_at dksL_law_58 0 rfl rfl)
theorem dL_law_1595 : decode cL_law 1595 = .ok (.istore 7, 2) := dk_54 7 (dk_at dksL_law_58 3 rfl rfl)
theorem dL_law_1597 : decode cL_law 1597 = .ok (.aload_n 2, 1) := dk_44 (dk_at dksL_law_58 5 rfl rfl)
theorem dL_law_1598 : decode cL_law 1598 = .ok (.invokevirtual 170, 3) := dk_182 0 170 (dk_at dksL_law_58 6 rfl rfl)
theorem dL_law_1601 : decode cL_law 1601 = .ok (.iload 6, 2) := dk_21 6 (dk_at dksL_law_58 9 rfl rfl)
theorem dL_law_1603 : decode cL_law 1603 = .ok (.if_icmp .eq 5, 3) := dk_159 0 5 (dk_at dksL_law_58 11 rfl rfl)
theorem dL_law_1606 : decode cL_law 1606 = .ok (.iconst 0, 1) := dk_3 (dk_at dksL_law_58 14 rfl rfl)
theorem dL_law_1607 : decode cL_law 1607 = .ok (.ireturn, 1) := dk_172 (dk_at dksL_law_58 15 rfl rfl)
theorem dL_law_1608 : decode cL_law 1608 = .ok (.iload 6, 2) := dk_21 6 (dk_at dksL_law_58 16 rfl rfl)
theorem dL_law_1610 : decode cL_law 1610 = .ok (.ifCond .ne 15, 3) := dk_154 0 15 (dk_at dksL_law_58 18 rfl rfl)
theorem dL_law_1613 : decode cL_law 1613 = .ok (.aload_n 3, 1) := dk_45 (dk_at dksL_law_58 21 rfl rfl)
theorem dL_law_1614 : decode cL_law 1614 = .ok (.iconst 0, 1) := dk_3 (dk_at dksL_law_58 22 rfl rfl)
theorem dL_law_1615 : decode cL_law 1615 = .ok (.laload, 1) := dk_47 (dk_at dksL_law_58 23 rfl rfl)
theorem dL_law_1616 : decode cL_law 1616 = .ok (.iload 7, 2) := dk_21 7 (dk_at dksL_law_59 0 rfl rfl)
theorem dL_law_1618 : decode cL_law 1618 = .ok (.i2l, 1) := dk_133 (dk_at dksL_law_59 2 rfl rfl)
theorem dL_law_1619 : decode cL_law 1619 = .ok (.lcmp, 1) := dk_148 (dk_at dksL_law_59 3 rfl rfl)
theorem dL_law_1620 : decode cL_law 1620 = .ok (.ifCond .eq 5, 3) := dk_153 0 5 (dk_at dksL_law_59 4 rfl rfl)
theorem dL_law_1623 : decode cL_law 1623 = .ok (.iconst 0, 1) := dk_3 (dk_at dksL_law_59 7 rfl rfl)
theorem dL_law_1624 : decode cL_law 1624 = .ok (.ireturn, 1) := dk_172 (dk_at dksL_law_59 8 rfl rfl)
theorem dL_law_1625 : decode cL_law 1625 = .ok (.goto 1408, 3) := dk_167 5 128 (dk_at dksL_law_59 9 rfl rfl)
theorem dL_law_1628 : decode cL_law 1628 = .ok (.aload_n 1, 1) := dk_43 (dk_at dksL_law_59 12 rfl rfl)
theorem dL_law_1629 : decode cL_law 1629 = .ok (.invokevirtual 262, 3) := dk_182 1 6 (dk_at dksL_law_59 13 rfl rfl)
theorem dL_law_1632 : decode cL_law 1632 = .ok (.aload_n 2, 1) := dk_44 (dk_at dksL_law_59 16 rfl rfl)
theorem dL_law_1633 : decode cL_law 1633 = .ok (.invokevirtual 265, 3) := dk_182 1 9 (dk_at dksL_law_59 17 rfl rfl)
theorem dL_law_1636 : decode cL_law 1636 = .ok (.if_icmp .eq 1397, 3) := dk_159 5 117 (dk_at dksL_law_59 20 rfl rfl)
theorem dL_law_1639 : decode cL_law 1639 = .ok (.iconst 0, 1) := dk_3 (dk_at dksL_law_59 23 rfl rfl)
theorem dL_law_1640 : decode cL_law 1640 = .ok (.ireturn, 1) := dk_172 (dk_at dksL_law_60 0 rfl rfl)
theorem dL_law_1641 : decode cL_law 1641 = .ok (.aload_n 1, 1) := dk_43 (dk_at dksL_law_60 1 rfl rfl)
theorem dL_law_1642 : decode cL_law 1642 = .ok (.aload_n 0, 1) := dk_42 (dk_at dksL_law_60 2 rfl rfl)
theorem dL_law_1643 : decode cL_law 1643 = .ok (.iload 5, 2) := dk_21 5 (dk_at dksL_law_60 3 rfl rfl)
theorem dL_law_1645 : decode cL_law 1645 = .ok (.iconst 1, 1) := dk_4 (dk_at dksL_law_60 5 rfl rfl)
theorem dL_law_1646 : decode cL_law 1646 = .ok (.iadd, 1) := dk_96 (dk_at dksL_law_60 6 rfl rfl)
theorem dL_law_1647 : decode cL_law 1647 = .ok (.iaload, 1) := dk_46 (dk_at dksL_law_60 7 rfl rfl)
theorem dL_law_1648 : decode cL_law 1648 = .ok (.aload_n 3, 1) := dk_45 (dk_at dksL_law_60 8 rfl rfl)
theorem dL_law_1649 : decode cL_law 1649 = .ok (.invokestatic 266, 3) := dk_184 1 10 (dk_at dksL_law_60 9 rfl rfl)
theorem dL_law_1652 : decode cL_law 1652 = .ok (.istore 6, 2) := dk_54 6 (dk_at dksL_law_60 12 rfl rfl)
theorem dL_law_1654 : decode cL_law 1654 = .ok (.aload_n 2, 1) := dk_44 (dk_at dksL_law_60 14 rfl rfl)
theorem dL_law_1655 : decode cL_law 1655 = .ok (.aload_n 0, 1) := dk_42 (dk_at dksL_law_60 15 rfl rfl)
theorem dL_law_1656 : decode cL_law 1656 = .ok (.iload 5, 2) := dk_21 5 (dk_at dksL_law_60 16 rfl rfl)
theorem dL_law_1658 : decode cL_law 1658 = .ok (.iconst 1, 1) := dk_4 (dk_at dksL_law_60 18 rfl rfl)
theorem dL_law_1659 : decode cL_law 1659 = .ok (.iadd, 1) := dk_96 (dk_at dksL_law_60 19 rfl rfl)
theorem dL_law_1660 : decode cL_law 1660 = .ok (.iaload, 1) := dk_46 (dk_at dksL_law_60 20 rfl rfl)
theorem dL_law_1661 : decode cL_law 1661 = .ok (.invokevirtual 268, 3) := dk_182 1 12 (dk_at dksL_law_60 21 rfl rfl)
theorem dL_law_1664 : decode cL_law 1664 = .ok (.istore 7, 2) := dk_54 7 (dk_at dksL_law_61 0 rfl rfl)
theorem dL_law_1666 : decode cL_law 1666 = .ok (.aload_n 2, 1) := dk_44 (dk_at dksL_law_61 2 rfl rfl)
theorem dL_law_1667 : decode cL_law 1667 = .ok (.invokevirtual 170, 3) := dk_182 0 170 (dk_at dksL_law_61 3 rfl rfl)
theorem dL_law_1670 : decode cL_law 1670 = .ok (.iload 6, 2) := dk_21 6 (dk_at dksL_law_61 6 rfl rfl)
theorem dL_law_1672 : decode cL_law 1672 = .ok (.if_icmp .eq 5, 3) := dk_159 0 5 (dk_at dksL_law_61 8 rfl rfl)
theorem dL_law_1675 : decode cL_law 1675 = .ok (.iconst 0, 1) := dk_3 (dk_at dksL_law_61 11 rfl rfl)
theorem dL_law_1676 : decode cL_law 1676 = .ok (.ireturn, 1) := dk_172 (dk_at dksL_law_61 12 rfl rfl)
theorem dL_law_1677 : decode cL_law 1677 = .ok (.iload 6, 2) := dk_21 6 (dk_at dksL_law_61 13 rfl rfl)
theorem dL_law_1679 : decode cL_law 1679 = .ok (.ifCond .ne 15, 3) := dk_154 0 15 (dk_at dksL_law_61 15 rfl rfl)
theorem dL_law_1682 : decode cL_law 1682 = .ok (.aload_n 3, 1) := dk_45 (dk_at dksL_law_61 18 rfl rfl)
theorem dL_law_1683 : decode cL_law 1683 = .ok (.iconst 0, 1) := dk_3 (dk_at dksL_law_61 19 rfl rfl)
theorem dL_law_1684 : decode cL_law 1684 = .ok (.laload, 1) := dk_47 (dk_at dksL_law_61 20 rfl rfl)
theorem dL_law_1685 : decode cL_law 1685 = .ok (.iload 7, 2) := dk_21 7 (dk_at dksL_law_61 21 rfl rfl)
theorem dL_law_1687 : decode cL_law 1687 = .ok (.i2l, 1) := dk_133 (dk_at dksL_law_61 23 rfl rfl)
theorem dL_law_1688 : decode cL_law 1688 = .ok (.lcmp, 1) := dk_148 (dk_at dksL_law_62 0 rfl rfl)
theorem dL_law_1689 : decode cL_law 1689 = .ok (.ifCond .eq 5, 3) := dk_153 0 5 (dk_at dksL_law_62 1 rfl rfl)
theorem dL_law_1692 : decode cL_law 1692 = .ok (.iconst 0, 1) := dk_3 (dk_at dksL_law_62 4 rfl rfl)
theorem dL_law_1693 : decode cL_law 1693 = .ok (.ireturn, 1) := dk_172 (dk_at dksL_law_62 5 rfl rfl)
theorem dL_law_1694 : decode cL_law 1694 = .ok (.goto 1339, 3) := dk_167 5 59 (dk_at dksL_law_62 6 rfl rfl)
theorem dL_law_1697 : decode cL_law 1697 = .ok (.aload_n 1, 1) := dk_43 (dk_at dksL_law_62 9 rfl rfl)
theorem dL_law_1698 : decode cL_law 1698 = .ok (.invokevirtual 269, 3) := dk_182 1 13 (dk_at dksL_law_62 10 rfl rfl)
theorem dL_law_1701 : decode cL_law 1701 = .ok (.aload_n 2, 1) := dk_44 (dk_at dksL_law_62 13 rfl rfl)
theorem dL_law_1702 : decode cL_law 1702 = .ok (.invokevirtual 272, 3) := dk_182 1 16 (dk_at dksL_law_62 14 rfl rfl)
theorem dL_law_1705 : decode cL_law 1705 = .ok (.if_icmp .eq 1328, 3) := dk_159 5 48 (dk_at dksL_law_62 17 rfl rfl)
theorem dL_law_1708 : decode cL_law 1708 = .ok (.iconst 0, 1) := dk_3 (dk_at dksL_law_62 20 rfl rfl)
theorem dL_law_1709 : decode cL_law 1709 = .ok (.ireturn, 1) := dk_172 (dk_at dksL_law_62 21 rfl rfl)
theorem dL_law_1710 : decode cL_law 1710 = .ok (.aload_n 1, 1) := dk_43 (dk_at dksL_law_62 22 rfl rfl)
theorem dL_law_1711 : decode cL_law 1711 = .ok (.invokevirtual 273, 3) := dk_182 1 17 (dk_at dksL_law_63 0 rfl rfl)
theorem dL_law_1714 : decode cL_law 1714 = .ok (.aload_n 2, 1) := dk_44 (dk_at dksL_law_63 3 rfl rfl)
theorem dL_law_1715 : decode cL_law 1715 = .ok (.invokevirtual 276, 3) := dk_182 1 20 (dk_at dksL_law_63 4 rfl rfl)
theorem dL_law_1718 : decode cL_law 1718 = .ok (.if_icmp .eq 1315, 3) := dk_159 5 35 (dk_at dksL_law_63 7 rfl rfl)
theorem dL_law_1721 : decode cL_law 1721 = .ok (.iconst 0, 1) := dk_3 (dk_at dksL_law_63 10 rfl rfl)
theorem dL_law_1722 : decode cL_law 1722 = .ok (.ireturn, 1) := dk_172 (dk_at dksL_law_63 11 rfl rfl)
theorem dL_law_1723 : decode cL_law 1723 = .ok (.aload_n 1, 1) := dk_43 (dk_at dksL_law_63 12 rfl rfl)
theorem dL_law_1724 : decode cL_law 1724 = .ok (.invokevirtual 277, 3) := dk_182 1 21 (dk_at dksL_law_63 13 rfl rfl)
theorem dL_law_1727 : decode cL_law 1727 = .ok (.aload_n 2, 1) := dk_44 (dk_at dksL_law_63 16 rfl rfl)
theorem dL_law_1728 : decode cL_law 1728 = .ok (.invokevirtual 280, 3) := dk_182 1 24 (dk_at dksL_law_63 17 rfl rfl)
theorem dL_law_1731 : decode cL_law 1731 = .ok (.if_icmp .eq 1302, 3) := dk_159 5 22 (dk_at dksL_law_63 20 rfl rfl)
theorem dL_law_1734 : decode cL_law 1734 = .ok (.iconst 0, 1) := dk_3 (dk_at dksL_law_63 23 rfl rfl)
theorem dL_law_1735 : decode cL_law 1735 = .ok (.ireturn, 1) := dk_172 (dk_at dksL_law_64 0 rfl rfl)
theorem dL_law_1736 : decode cL_law 1736 = .ok (.aload_n 1, 1) := dk_43 (dk_at dksL_law_64 1 rfl rfl)
theorem dL_law_1737 : decode cL_law 1737 = .ok (.aload_n 0, 1) := dk_42 (dk_at dksL_law_64 2 rfl rfl)
theorem dL_law_1738 : decode cL_law 1738 = .ok (.iload 5, 2) := dk_21 5 (dk_at dksL_law_64 3 rfl rfl)
theorem dL_law_1740 : decode cL_law 1740 = .ok (.iconst 1, 1) := dk_4 (dk_at dksL_law_64 5 rfl rfl)
theorem dL_law_1741 : decode cL_law 1741 = .ok (.iadd, 1) := dk_96 (dk_at dksL_law_64 6 rfl rfl)
theorem dL_law_1742 : decode cL_law 1742 = .ok (.iaload, 1) := dk_46 (dk_at dksL_law_64 7 rfl rfl)
theorem dL_law_1743 : decode cL_law 1743 = .ok (.aload_n 0, 1) := dk_42 (dk_at dksL_law_64 8 rfl rfl)
theorem dL_law_1744 : decode cL_law 1744 = .ok (.iload 5, 2) := dk_21 5 (dk_at dksL_law_64 9 rfl rfl)
theorem dL_law_1746 : decode cL_law 1746 = .ok (.iconst 2, 1) := dk_5 (dk_at dksL_law_64 11 rfl rfl)
theorem dL_law_1747 : decode cL_law 1747 = .ok (.iadd, 1) := dk_96 (dk_at dksL_law_64 12 rfl rfl)
theorem dL_law_1748 : decode cL_law 1748 = .ok (.iaload, 1) := dk_46 (dk_at dksL_law_64 13 rfl rfl)
theorem dL_law_1749 : decode cL_law 1749 = .ok (.aload_n 0, 1) := dk_42 (dk_at dksL_law_64 14 rfl rfl)
theorem dL_law_1750 : decode cL_law 1750 = .ok (.iload 5, 2) := dk_21 5 (dk_at dksL_law_64 15 rfl rfl)
theorem dL_law_1752 : decode cL_law 1752 = .ok (.iconst 3, 1) := dk_6 (dk_at dksL_law_64 17 rfl rfl)
theorem dL_law_1753 : decode cL_law 1753 = .ok (.iadd, 1) := dk_96 (dk_at dksL_law_64 18 rfl rfl)
theorem dL_law_1754 : decode cL_law 1754 = .ok (.iaload, 1) := dk_46 (dk_at dksL_law_64 19 rfl rfl)
theorem dL_law_1755 : decode cL_law 1755 = .ok (.aload_n 3, 1) := dk_45 (dk_at dksL_law_64 20 rfl rfl)
theorem dL_law_1756 : decode cL_law 1756 = .ok (.invokestatic 281, 3) := dk_184 1 25 (dk_at dksL_law_64 21 rfl rfl)
theorem dL_law_1759 : decode cL_law 1759 = .ok (.istore 6, 2) := dk_54 6 (dk_at dksL_law_65 0 rfl rfl)
theorem dL_law_1761 : decode cL_law 1761 = .ok (.aload_n 2, 1) := dk_44 (dk_at dksL_law_65 2 rfl rfl)
theorem dL_law_1762 : decode cL_law 1762 = .ok (.aload_n 0, 1) := dk_42 (dk_at dksL_law_65 3 rfl rfl)
theorem dL_law_1763 : decode cL_law 1763 = .ok (.iload 5, 2) := dk_21 5 (dk_at dksL_law_65 4 rfl rfl)
theorem dL_law_1765 : decode cL_law 1765 = .ok (.iconst 1, 1) := dk_4 (dk_at dksL_law_65 6 rfl rfl)
theorem dL_law_1766 : decode cL_law 1766 = .ok (.iadd, 1) := dk_96 (dk_at dksL_law_65 7 rfl rfl)
theorem dL_law_1767 : decode cL_law 1767 = .ok (.iaload, 1) := dk_46 (dk_at dksL_law_65 8 rfl rfl)
theorem dL_law_1768 : decode cL_law 1768 = .ok (.aload_n 0, 1) := dk_42 (dk_at dksL_law_65 9 rfl rfl)
theorem dL_law_1769 : decode cL_law 1769 = .ok (.iload 5, 2) := dk_21 5 (dk_at dksL_law_65 10 rfl rfl)
theorem dL_law_1771 : decode cL_law 1771 = .ok (.iconst 2, 1) := dk_5 (dk_at dksL_law_65 12 rfl rfl)
theorem dL_law_1772 : decode cL_law 1772 = .ok (.iadd, 1) := dk_96 (dk_at dksL_law_65 13 rfl rfl)
theorem dL_law_1773 : decode cL_law 1773 = .ok (.iaload, 1) := dk_46 (dk_at dksL_law_65 14 rfl rfl)
theorem dL_law_1774 : decode cL_law 1774 = .ok (.aload_n 0, 1) := dk_42 (dk_at dksL_law_65 15 rfl rfl)
theorem dL_law_1775 : decode cL_law 1775 = .ok (.iload 5, 2) := dk_21 5 (dk_at dksL_law_65 16 rfl rfl)
theorem dL_law_1777 : decode cL_law 1777 = .ok (.iconst 3, 1) := dk_6 (dk_at dksL_law_65 18 rfl rfl)
theorem dL_law_1778 : decode cL_law 1778 = .ok (.iadd, 1) := dk_96 (dk_at dksL_law_65 19 rfl rfl)
theorem dL_law_1779 : decode cL_law 1779 = .ok (.iaload, 1) := dk_46 (dk_at dksL_law_65 20 rfl rfl)
theorem dL_law_1780 : decode cL_law 1780 = .ok (.invokevirtual 283, 3) := dk_182 1 27 (dk_at dksL_law_65 21 rfl rfl)
theorem dL_law_1783 : decode cL_law 1783 = .ok (.istore 7, 2) := dk_54 7 (dk_at dksL_law_66 0 rfl rfl)
theorem dL_law_1785 : decode cL_law 1785 = .ok (.aload_n 2, 1) := dk_44 (dk_at dksL_law_66 2 rfl rfl)
theorem dL_law_1786 : decode cL_law 1786 = .ok (.invokevirtual 170, 3) := dk_182 0 170 (dk_at dksL_law_66 3 rfl rfl)
theorem dL_law_1789 : decode cL_law 1789 = .ok (.iload 6, 2) := dk_21 6 (dk_at dksL_law_66 6 rfl rfl)
theorem dL_law_1791 : decode cL_law 1791 = .ok (.if_icmp .eq 5, 3) := dk_159 0 5 (dk_at dksL_law_66 8 rfl rfl)
theorem dL_law_1794 : decode cL_law 1794 = .ok (.iconst 0, 1) := dk_3 (dk_at dksL_law_66 11 rfl rfl)
theorem dL_law_1795 : decode cL_law 1795 = .ok (.ireturn, 1) := dk_172 (dk_at dksL_law_66 12 rfl rfl)
theorem dL_law_1796 : decode cL_law 1796 = .ok (.iload 6, 2) := dk_21 6 (dk_at dksL_law_66 13 rfl rfl)
theorem dL_law_1798 : decode cL_law 1798 = .ok (.ifCond .ne 15, 3) := dk_154 0 15 (dk_at dksL_law_66 15 rfl rfl)
theorem dL_law_1801 : decode cL_law 1801 = .ok (.aload_n 3, 1) := dk_45 (dk_at dksL_law_66 18 rfl rfl)
theorem dL_law_1802 : decode cL_law 1802 = .ok (.iconst 0, 1) := dk_3 (dk_at dksL_law_66 19 rfl rfl)
theorem dL_law_1803 : decode cL_law 1803 = .ok (.laload, 1) := dk_47 (dk_at dksL_law_66 20 rfl rfl)
theorem dL_law_1804 : decode cL_law 1804 = .ok (.iload 7, 2) := dk_21 7 (dk_at dksL_law_66 21 rfl rfl)
theorem dL_law_1806 : decode cL_law 1806 = .ok (.i2l, 1) := dk_133 (dk_at dksL_law_66 23 rfl rfl)
theorem dL_law_1807 : decode cL_law 1807 = .ok (.lcmp, 1) := dk_148 (dk_at dksL_law_67 0 rfl rfl)
theorem dL_law_1808 : decode cL_law 1808 = .ok (.ifCond .eq 5, 3) := dk_153 0 5 (dk_at dksL_law_67 1 rfl rfl)
theorem dL_law_1811 : decode cL_law 1811 = .ok (.iconst 0, 1) := dk_3 (dk_at dksL_law_67 4 rfl rfl)
theorem dL_law_1812 : decode cL_law 1812 = .ok (.ireturn, 1) := dk_172 (dk_at dksL_law_67 5 rfl rfl)
theorem dL_law_1813 : decode cL_law 1813 = .ok (.goto 1220, 3) := dk_167 4 196 (dk_at dksL_law_67 6 rfl rfl)
theorem dL_law_1816 : decode cL_law 1816 = .ok (.aload_n 1, 1) := dk_43 (dk_at dksL_law_67 9 rfl rfl)
theorem dL_law_1817 : decode cL_law 1817 = .ok (.aload_n 0, 1) := dk_42 (dk_at dksL_law_67 10 rfl rfl)
theorem dL_law_1818 : decode cL_law 1818 = .ok (.iload 5, 2) := dk_21 5 (dk_at dksL_law_67 11 rfl rfl)
theorem dL_law_1820 : decode cL_law 1820 = .ok (.iconst 1, 1) := dk_4 (dk_at dksL_law_67 13 rfl rfl)
theorem dL_law_1821 : decode cL_law 1821 = .ok (.iadd, 1) := dk_96 (dk_at dksL_law_67 14 rfl rfl)
theorem dL_law_1822 : decode cL_law 1822 = .ok (.iaload, 1) := dk_46 (dk_at dksL_law_67 15 rfl rfl)
theorem dL_law_1823 : decode cL_law 1823 = .ok (.aload_n 3, 1) := dk_45 (dk_at dksL_law_67 16 rfl rfl)
theorem dL_law_1824 : decode cL_law 1824 = .ok (.invokestatic 284, 3) := dk_184 1 28 (dk_at dksL_law_67 17 rfl rfl)
theorem dL_law_1827 : decode cL_law 1827 = .ok (.istore 6, 2) := dk_54 6 (dk_at dksL_law_67 20 rfl rfl)
theorem dL_law_1829 : decode cL_law 1829 = .ok (.aload_n 2, 1) := dk_44 (dk_at dksL_law_67 22 rfl rfl)
theorem dL_law_1830 : decode cL_law 1830 = .ok (.aload_n 0, 1) := dk_42 (dk_at dksL_law_67 23 rfl rfl)
theorem dL_law_1831 : decode cL_law 1831 = .ok (.iload 5, 2) := dk_21 5 (dk_at dksL_law_68 0 rfl rfl)
theorem dL_law_1833 : decode cL_law 1833 = .ok (.iconst 1, 1) := dk_4 (dk_at dksL_law_68 2 rfl rfl)
theorem dL_law_1834 : decode cL_law 1834 = .ok (.iadd, 1) := dk_96 (dk_at dksL_law_68 3 rfl rfl)
theorem dL_law_1835 : decode cL_law 1835 = .ok (.iaload, 1) := dk_46 (dk_at dksL_law_68 4 rfl rfl)
theorem dL_law_1836 : decode cL_law 1836 = .ok (.invokevirtual 286, 3) := dk_182 1 30 (dk_at dksL_law_68 5 rfl rfl)
theorem dL_law_1839 : decode cL_law 1839 = .ok (.istore 7, 2) := dk_54 7 (dk_at dksL_law_68 8 rfl rfl)
theorem dL_law_1841 : decode cL_law 1841 = .ok (.aload_n 2, 1) := dk_44 (dk_at dksL_law_68 10 rfl rfl)
theorem dL_law_1842 : decode cL_law 1842 = .ok (.invokevirtual 170, 3) := dk_182 0 170 (dk_at dksL_law_68 11 rfl rfl)
theorem dL_law_1845 : decode cL_law 1845 = .ok (.iload 6, 2) := dk_21 6 (dk_at dksL_law_68 14 rfl rfl)
theorem dL_law_1847 : decode cL_law 1847 = .ok (.if_icmp .eq 5, 3) := dk_159 0 5 (dk_at dksL_law_68 16 rfl rfl)
theorem dL_law_1850 : decode cL_law 1850 = .ok (.iconst 0, 1) := dk_3 (dk_at dksL_law_68 19 rfl rfl)
theorem dL_law_1851 : decode cL_law 1851 = .ok (.ireturn, 1) := dk_172 (dk_at dksL_law_68 20 rfl rfl)
theorem dL_law_1852 : decode cL_law 1852 = .ok (.iload 6, 2) := dk_21 6 (dk_at dksL_law_68 21 rfl rfl)
theorem dL_law_1854 : decode cL_law 1854 = .ok (.ifCond .ne 15, 3) := dk_154 0 15 (dk_at dksL_law_69 0 rfl rfl)
theorem dL_law_1857 : decode cL_law 1857 = .ok (.aload_n 3, 1) := dk_45 (dk_at dksL_law_69 3 rfl rfl)
theorem dL_law_1858 : decode cL_law 1858 = .ok (.iconst 0, 1) := dk_3 (dk_at dksL_law_69 4 rfl rfl)
theorem dL_law_1859 : decode cL_law 1859 = .ok (.laload, 1) := dk_47 (dk_at dksL_law_69 5 rfl rfl)
theorem dL_law_1860 : decode cL_law 1860 = .ok (.iload 7, 2) := dk_21 7 (dk_at dksL_law_69 6 rfl rfl)
theorem dL_law_1862 : decode cL_law 1862 = .ok (.i2l, 1) := dk_133 (dk_at dksL_law_69 8 rfl rfl)
theorem dL_law_1863 : decode cL_law 1863 = .ok (.lcmp, 1) := dk_148 (dk_at dksL_law_69 9 rfl rfl)
theorem dL_law_1864 : decode cL_law 1864 = .ok (.ifCond .eq 5, 3) := dk_153 0 5 (dk_at dksL_law_69 10 rfl rfl)
theorem dL_law_1867 : decode cL_law 1867 = .ok (.iconst 0, 1) := dk_3 (dk_at dksL_law_69 13 rfl rfl)
theorem dL_law_1868 : decode cL_law 1868 = .ok (.ireturn, 1) := dk_172 (dk_at dksL_law_69 14 rfl rfl)
theorem dL_law_1869 : decode cL_law 1869 = .ok (.goto 1164, 3) := dk_167 4 140 (dk_at dksL_law_69 15 rfl rfl)
theorem dL_law_1872 : decode cL_law 1872 = .ok (.aload_n 1, 1) := dk_43 (dk_at dksL_law_69 18 rfl rfl)
theorem dL_law_1873 : decode cL_law 1873 = .ok (.aload_n 0, 1) := dk_42 (dk_at dksL_law_69 19 rfl rfl)
theorem dL_law_1874 : decode cL_law 1874 = .ok (.iload 5, 2) := dk_21 5 (dk_at dksL_law_69 20 rfl rfl)
theorem dL_law_1876 : decode cL_law 1876 = .ok (.iconst 1, 1) := dk_4 (dk_at dksL_law_69 22 rfl rfl)
theorem dL_law_1877 : decode cL_law 1877 = .ok (.iadd, 1) := dk_96 (dk_at dksL_law_69 23 rfl rfl)
theorem dL_law_1878 : decode cL_law 1878 = .ok (.iaload, 1) := dk_46 (dk_at dksL_law_70 0 rfl rfl)
theorem dL_law_1879 : decode cL_law 1879 = .ok (.aload_n 3, 1) := dk_45 (dk_at dksL_law_70 1 rfl rfl)
theorem dL_law_1880 : decode cL_law 1880 = .ok (.invokestatic 287, 3) := dk_184 1 31 (dk_at dksL_law_70 2 rfl rfl)
theorem dL_law_1883 : decode cL_law 1883 = .ok (.istore 6, 2) := dk_54 6 (dk_at dksL_law_70 5 rfl rfl)
theorem dL_law_1885 : decode cL_law 1885 = .ok (.aload_n 2, 1) := dk_44 (dk_at dksL_law_70 7 rfl rfl)
theorem dL_law_1886 : decode cL_law 1886 = .ok (.aload_n 0, 1) := dk_42 (dk_at dksL_law_70 8 rfl rfl)
theorem dL_law_1887 : decode cL_law 1887 = .ok (.iload 5, 2) := dk_21 5 (dk_at dksL_law_70 9 rfl rfl)
theorem dL_law_1889 : decode cL_law 1889 = .ok (.iconst 1, 1) := dk_4 (dk_at dksL_law_70 11 rfl rfl)
theorem dL_law_1890 : decode cL_law 1890 = .ok (.iadd, 1) := dk_96 (dk_at dksL_law_70 12 rfl rfl)
theorem dL_law_1891 : decode cL_law 1891 = .ok (.iaload, 1) := dk_46 (dk_at dksL_law_70 13 rfl rfl)
theorem dL_law_1892 : decode cL_law 1892 = .ok (.invokevirtual 289, 3) := dk_182 1 33 (dk_at dksL_law_70 14 rfl rfl)
theorem dL_law_1895 : decode cL_law 1895 = .ok (.istore 7, 2) := dk_54 7 (dk_at dksL_law_70 17 rfl rfl)
theorem dL_law_1897 : decode cL_law 1897 = .ok (.aload_n 2, 1) := dk_44 (dk_at dksL_law_70 19 rfl rfl)
theorem dL_law_1898 : decode cL_law 1898 = .ok (.invokevirtual 170, 3) := dk_182 0 170 (dk_at dksL_law_70 20 rfl rfl)
theorem dL_law_1901 : decode cL_law 1901 = .ok (.iload 6, 2) := dk_21 6 (dk_at dksL_law_71 0 rfl rfl)
theorem dL_law_1903 : decode cL_law 1903 = .ok (.if_icmp .eq 5, 3) := dk_159 0 5 (dk_at dksL_law_71 2 rfl rfl)
theorem dL_law_1906 : decode cL_law 1906 = .ok (.iconst 0, 1) := dk_3 (dk_at dksL_law_71 5 rfl rfl)
theorem dL_law_1907 : decode cL_law 1907 = .ok (.ireturn, 1) := dk_172 (dk_at dksL_law_71 6 rfl rfl)
theorem dL_law_1908 : decode cL_law 1908 = .ok (.iload 6, 2) := dk_21 6 (dk_at dksL_law_71 7 rfl rfl)
theorem dL_law_1910 : decode cL_law 1910 = .ok (.ifCond .ne 22, 3) := dk_154 0 22 (dk_at dksL_law_71 9 rfl rfl)
theorem dL_law_1913 : decode cL_law 1913 = .ok (.aload_n 3, 1) := dk_45 (dk_at dksL_law_71 12 rfl rfl)
theorem dL_law_1914 : decode cL_law 1914 = .ok (.iconst 0, 1) := dk_3 (dk_at dksL_law_71 13 rfl rfl)
theorem dL_law_1915 : decode cL_law 1915 = .ok (.laload, 1) := dk_47 (dk_at dksL_law_71 14 rfl rfl)
theorem dL_law_1916 : decode cL_law 1916 = .ok (.iload 7, 2) := dk_21 7 (dk_at dksL_law_71 15 rfl rfl)
theorem dL_law_1918 : decode cL_law 1918 = .ok (.ifCond .eq 7, 3) := dk_153 0 7 (dk_at dksL_law_71 17 rfl rfl)
theorem dL_law_1921 : decode cL_law 1921 = .ok (.lconst 1, 1) := dk_10 (dk_at dksL_law_71 20 rfl rfl)
theorem dL_law_1922 : decode cL_law 1922 = .ok (.goto 4, 3) := dk_167 0 4 (dk_at dksL_law_71 21 rfl rfl)
theorem dL_law_1925 : decode cL_law 1925 = .ok (.lconst 0, 1) := dk_9 (dk_at dksL_law_72 0 rfl rfl)
theorem dL_law_1926 : decode cL_law 1926 = .ok (.lcmp, 1) := dk_148 (dk_at dksL_law_72 1 rfl rfl)
theorem dL_law_1927 : decode cL_law 1927 = .ok (.ifCond .eq 5, 3) := dk_153 0 5 (dk_at dksL_law_72 2 rfl rfl)
theorem dL_law_1930 : decode cL_law 1930 = .ok (.iconst 0, 1) := dk_3 (dk_at dksL_law_72 5 rfl rfl)
theorem dL_law_1931 : decode cL_law 1931 = .ok (.ireturn, 1) := dk_172 (dk_at dksL_law_72 6 rfl rfl)
theorem dL_law_1932 : decode cL_law 1932 = .ok (.goto 1101, 3) := dk_167 4 77 (dk_at dksL_law_72 7 rfl rfl)
theorem dL_law_1935 : decode cL_law 1935 = .ok (.aload_n 1, 1) := dk_43 (dk_at dksL_law_72 10 rfl rfl)
theorem dL_law_1936 : decode cL_law 1936 = .ok (.aload_n 0, 1) := dk_42 (dk_at dksL_law_72 11 rfl rfl)
theorem dL_law_1937 : decode cL_law 1937 = .ok (.iload 5, 2) := dk_21 5 (dk_at dksL_law_72 12 rfl rfl)
theorem dL_law_1939 : decode cL_law 1939 = .ok (.iconst 1, 1) := dk_4 (dk_at dksL_law_72 14 rfl rfl)
theorem dL_law_1940 : decode cL_law 1940 = .ok (.iadd, 1) := dk_96 (dk_at dksL_law_72 15 rfl rfl)
theorem dL_law_1941 : decode cL_law 1941 = .ok (.iaload, 1) := dk_46 (dk_at dksL_law_72 16 rfl rfl)
theorem dL_law_1942 : decode cL_law 1942 = .ok (.aload_n 3, 1) := dk_45 (dk_at dksL_law_72 17 rfl rfl)
theorem dL_law_1943 : decode cL_law 1943 = .ok (.invokestatic 290, 3) := dk_184 1 34 (dk_at dksL_law_72 18 rfl rfl)
theorem dL_law_1946 : decode cL_law 1946 = .ok (.istore 6, 2) := dk_54 6 (dk_at dksL_law_72 21 rfl rfl)
theorem dL_law_1948 : decode cL_law 1948 = .ok (.aload_n 2, 1) := dk_44 (dk_at dksL_law_72 23 rfl rfl)
theorem dL_law_1949 : decode cL_law 1949 = .ok (.aload_n 0, 1) := dk_42 (dk_at dksL_law_73 0 rfl rfl)
theorem dL_law_1950 : decode cL_law 1950 = .ok (.iload 5, 2) := dk_21 5 (dk_at dksL_law_73 1 rfl rfl)
theorem dL_law_1952 : decode cL_law 1952 = .ok (.iconst 1, 1) := dk_4 (dk_at dksL_law_73 3 rfl rfl)
theorem dL_law_1953 : decode cL_law 1953 = .ok (.iadd, 1) := dk_96 (dk_at dksL_law_73 4 rfl rfl)
theorem dL_law_1954 : decode cL_law 1954 = .ok (.iaload, 1) := dk_46 (dk_at dksL_law_73 5 rfl rfl)
theorem dL_law_1955 : decode cL_law 1955 = .ok (.invokevirtual 292, 3) := dk_182 1 36 (dk_at dksL_law_73 6 rfl rfl)
theorem dL_law_1958 : decode cL_law 1958 = .ok (.istore 7, 2) := dk_54 7 (dk_at dksL_law_73 9 rfl rfl)
theorem dL_law_1960 : decode cL_law 1960 = .ok (.aload_n 2, 1) := dk_44 (dk_at dksL_law_73 11 rfl rfl)
theorem dL_law_1961 : decode cL_law 1961 = .ok (.invokevirtual 170, 3) := dk_182 0 170 (dk_at dksL_law_73 12 rfl rfl)
theorem dL_law_1964 : decode cL_law 1964 = .ok (.iload 6, 2) := dk_21 6 (dk_at dksL_law_73 15 rfl rfl)
theorem dL_law_1966 : decode cL_law 1966 = .ok (.if_icmp .eq 5, 3) := dk_159 0 5 (dk_at dksL_law_73 17 rfl rfl)
theorem dL_law_1969 : decode cL_law 1969 = .ok (.iconst 0, 1) := dk_3 (dk_at dksL_law_73 20 rfl rfl)
theorem dL_law_1970 : decode cL_law 1970 = .ok (.ireturn, 1) := dk_172 (dk_at dksL_law_73 21 rfl rfl)
theorem dL_law_1971 : decode cL_law 1971 = .ok (.iload 6, 2) := dk_21 6 (dk_at dksL_law_73 22 rfl rfl)
theorem dL_law_1973 : decode cL_law 1973 = .ok (.ifCond .ne 15, 3) := dk_154 0 15 (dk_at dksL_law_74 0 rfl rfl)
theorem dL_law_1976 : decode cL_law 1976 = .ok (.aload_n 3, 1) := dk_45 (dk_at dksL_law_74 3 rfl rfl)
theorem dL_law_1977 : decode cL_law 1977 = .ok (.iconst 0, 1) := dk_3 (dk_at dksL_law_74 4 rfl rfl)
theorem dL_law_1978 : decode cL_law 1978 = .ok (.laload, 1) := dk_47 (dk_at dksL_law_74 5 rfl rfl)
theorem dL_law_1979 : decode cL_law 1979 = .ok (.iload 7, 2) := dk_21 7 (dk_at dksL_law_74 6 rfl rfl)
theorem dL_law_1981 : decode cL_law 1981 = .ok (.i2l, 1) := dk_133 (dk_at dksL_law_74 8 rfl rfl)
theorem dL_law_1982 : decode cL_law 1982 = .ok (.lcmp, 1) := dk_148 (dk_at dksL_law_74 9 rfl rfl)
theorem dL_law_1983 : decode cL_law 1983 = .ok (.ifCond .eq 5, 3) := dk_153 0 5 (dk_at dksL_law_74 10 rfl rfl)
theorem dL_law_1986 : decode cL_law 1986 = .ok (.iconst 0, 1) := dk_3 (dk_at dksL_law_74 13 rfl rfl)
theorem dL_law_1987 : decode cL_law 1987 = .ok (.ireturn, 1) := dk_172 (dk_at dksL_law_74 14 rfl rfl)
theorem dL_law_1988 : decode cL_law 1988 = .ok (.goto 1045, 3) := dk_167 4 21 (dk_at dksL_law_74 15 rfl rfl)
theorem dL_law_1991 : decode cL_law 1991 = .ok (.aload_n 1, 1) := dk_43 (dk_at dksL_law_74 18 rfl rfl)
theorem dL_law_1992 : decode cL_law 1992 = .ok (.aload_n 0, 1) := dk_42 (dk_at dksL_law_74 19 rfl rfl)
theorem dL_law_1993 : decode cL_law 1993 = .ok (.iload 5, 2) := dk_21 5 (dk_at dksL_law_74 20 rfl rfl)
theorem dL_law_1995 : decode cL_law 1995 = .ok (.iconst 1, 1) := dk_4 (dk_at dksL_law_74 22 rfl rfl)
theorem dL_law_1996 : decode cL_law 1996 = .ok (.iadd, 1) := dk_96 (dk_at dksL_law_74 23 rfl rfl)
theorem dL_law_1997 : decode cL_law 1997 = .ok (.iaload, 1) := dk_46 (dk_at dksL_law_75 0 rfl rfl)
theorem dL_law_1998 : decode cL_law 1998 = .ok (.aload_n 3, 1) := dk_45 (dk_at dksL_law_75 1 rfl rfl)
theorem dL_law_1999 : decode cL_law 1999 = .ok (.invokestatic 293, 3) := dk_184 1 37 (dk_at dksL_law_75 2 rfl rfl)
theorem dL_law_2002 : decode cL_law 2002 = .ok (.istore 6, 2) := dk_54 6 (dk_at dksL_law_75 5 rfl rfl)
theorem dL_law_2004 : decode cL_law 2004 = .ok (.aload_n 2, 1) := dk_44 (dk_at dksL_law_75 7 rfl rfl)
theorem dL_law_2005 : decode cL_law 2005 = .ok (.aload_n 0, 1) := dk_42 (dk_at dksL_law_75 8 rfl rfl)
theorem dL_law_2006 : decode cL_law 2006 = .ok (.iload 5, 2) := dk_21 5 (dk_at dksL_law_75 9 rfl rfl)
theorem dL_law_2008 : decode cL_law 2008 = .ok (.iconst 1, 1) := dk_4 (dk_at dksL_law_75 11 rfl rfl)
theorem dL_law_2009 : decode cL_law 2009 = .ok (.iadd, 1) := dk_96 (dk_at dksL_law_75 12 rfl rfl)
theorem dL_law_2010 : decode cL_law 2010 = .ok (.iaload, 1) := dk_46 (dk_at dksL_law_75 13 rfl rfl)
theorem dL_law_2011 : decode cL_law 2011 = .ok (.invokevirtual 295, 3) := dk_182 1 39 (dk_at dksL_law_75 14 rfl rfl)
theorem dL_law_2014 : decode cL_law 2014 = .ok (.istore 7, 2) := dk_54 7 (dk_at dksL_law_75 17 rfl rfl)
theorem dL_law_2016 : decode cL_law 2016 = .ok (.aload_n 2, 1) := dk_44 (dk_at dksL_law_75 19 rfl rfl)
theorem dL_law_2017 : decode cL_law 2017 = .ok (.invokevirtual 170, 3) := dk_182 0 170 (dk_at dksL_law_75 20 rfl rfl)
theorem dL_law_2020 : decode cL_law 2020 = .ok (.iload 6, 2) := dk_21 6 (dk_at dksL_law_76 0 rfl rfl)
theorem dL_law_2022 : decode cL_law 2022 = .ok (.if_icmp .eq 5, 3) := dk_159 0 5 (dk_at dksL_law_76 2 rfl rfl)
theorem dL_law_2025 : decode cL_law 2025 = .ok (.iconst 0, 1) := dk_3 (dk_at dksL_law_76 5 rfl rfl)
theorem dL_law_2026 : decode cL_law 2026 = .ok (.ireturn, 1) := dk_172 (dk_at dksL_law_76 6 rfl rfl)
theorem dL_law_2027 : decode cL_law 2027 = .ok (.iload 6, 2) := dk_21 6 (dk_at dksL_law_76 7 rfl rfl)
theorem dL_law_2029 : decode cL_law 2029 = .ok (.ifCond .ne 15, 3) := dk_154 0 15 (dk_at dksL_law_76 9 rfl rfl)
theorem dL_law_2032 : decode cL_law 2032 = .ok (.aload_n 3, 1) := dk_45 (dk_at dksL_law_76 12 rfl rfl)
theorem dL_law_2033 : decode cL_law 2033 = .ok (.iconst 0, 1) := dk_3 (dk_at dksL_law_76 13 rfl rfl)
theorem dL_law_2034 : decode cL_law 2034 = .ok (.laload, 1) := dk_47 (dk_at dksL_law_76 14 rfl rfl)
theorem dL_law_2035 : decode cL_law 2035 = .ok (.iload 7, 2) := dk_21 7 (dk_at dksL_law_76 15 rfl rfl)
theorem dL_law_2037 : decode cL_law 2037 = .ok (.i2l, 1) := dk_133 (dk_at dksL_law_76 17 rfl rfl)
theorem dL_law_2038 : decode cL_law 2038 = .ok (.lcmp, 1) := dk_148 (dk_at dksL_law_76 18 rfl rfl)
theorem dL_law_2039 : decode cL_law 2039 = .ok (.ifCond .eq 5, 3) := dk_153 0 5 (dk_at dksL_law_76 19 rfl rfl)
theorem dL_law_2042 : decode cL_law 2042 = .ok (.iconst 0, 1) := dk_3 (dk_at dksL_law_76 22 rfl rfl)
theorem dL_law_2043 : decode cL_law 2043 = .ok (.ireturn, 1) := dk_172 (dk_at dksL_law_76 23 rfl rfl)
theorem dL_law_2044 : decode cL_law 2044 = .ok (.goto 989, 3) := dk_167 3 221 (dk_at dksL_law_77 0 rfl rfl)
theorem dL_law_2047 : decode cL_law 2047 = .ok (.aload_n 1, 1) := dk_43 (dk_at dksL_law_77 3 rfl rfl)
theorem dL_law_2048 : decode cL_law 2048 = .ok (.aload_n 0, 1) := dk_42 (dk_at dksL_law_77 4 rfl rfl)
theorem dL_law_2049 : decode cL_law 2049 = .ok (.iload 5, 2) := dk_21 5 (dk_at dksL_law_77 5 rfl rfl)
theorem dL_law_2051 : decode cL_law 2051 = .ok (.iconst 1, 1) := dk_4 (dk_at dksL_law_77 7 rfl rfl)
theorem dL_law_2052 : decode cL_law 2052 = .ok (.iadd, 1) := dk_96 (dk_at dksL_law_77 8 rfl rfl)
theorem dL_law_2053 : decode cL_law 2053 = .ok (.iaload, 1) := dk_46 (dk_at dksL_law_77 9 rfl rfl)
theorem dL_law_2054 : decode cL_law 2054 = .ok (.aload_n 3, 1) := dk_45 (dk_at dksL_law_77 10 rfl rfl)
theorem dL_law_2055 : decode cL_law 2055 = .ok (.invokestatic 296, 3) := dk_184 1 40 (dk_at dksL_law_77 11 rfl rfl)
theorem dL_law_2058 : decode cL_law 2058 = .ok (.istore 6, 2) := dk_54 6 (dk_at dksL_law_77 14 rfl rfl)
theorem dL_law_2060 : decode cL_law 2060 = .ok (.aload_n 2, 1) := dk_44 (dk_at dksL_law_77 16 rfl rfl)
theorem dL_law_2061 : decode cL_law 2061 = .ok (.aload_n 0, 1) := dk_42 (dk_at dksL_law_77 17 rfl rfl)
theorem dL_law_2062 : decode cL_law 2062 = .ok (.iload 5, 2) := dk_21 5 (dk_at dksL_law_77 18 rfl rfl)
theorem dL_law_2064 : decode cL_law 2064 = .ok (.iconst 1, 1) := dk_4 (dk_at dksL_law_77 20 rfl rfl)
theorem dL_law_2065 : decode cL_law 2065 = .ok (.iadd, 1) := dk_96 (dk_at dksL_law_77 21 rfl rfl)
theorem dL_law_2066 : decode cL_law 2066 = .ok (.iaload, 1) := dk_46 (dk_at dksL_law_77 22 rfl rfl)
theorem dL_law_2067 : decode cL_law 2067 = .ok (.invokevirtual 298, 3) := dk_182 1 42 (dk_at dksL_law_78 0 rfl rfl)
theorem dL_law_2070 : decode cL_law 2070 = .ok (.istore 7, 2) := dk_54 7 (dk_at dksL_law_78 3 rfl rfl)
theorem dL_law_2072 : decode cL_law 2072 = .ok (.aload_n 2, 1) := dk_44 (dk_at dksL_law_78 5 rfl rfl)
theorem dL_law_2073 : decode cL_law 2073 = .ok (.invokevirtual 170, 3) := dk_182 0 170 (dk_at dksL_law_78 6 rfl rfl)
theorem dL_law_2076 : decode cL_law 2076 = .ok (.iload 6, 2) := dk_21 6 (dk_at dksL_law_78 9 rfl rfl)
theorem dL_law_2078 : decode cL_law 2078 = .ok (.if_icmp .eq 5, 3) := dk_159 0 5 (dk_at dksL_law_78 11 rfl rfl)
theorem dL_law_2081 : decode cL_law 2081 = .ok (.iconst 0, 1) := dk_3 (dk_at dksL_law_78 14 rfl rfl)
theorem dL_law_2082 : decode cL_law 2082 = .ok (.ireturn, 1) := dk_172 (dk_at dksL_law_78 15 rfl rfl)
theorem dL_law_2083 : decode cL_law 2083 = .ok (.iload 6, 2) := dk_21 6 (dk_at dksL_law_78 16 rfl rfl)
theorem dL_law_2085 : decode cL_law 2085 = .ok (.ifCond .ne 15, 3) := dk_154 0 15 (dk_at dksL_law_78 18 rfl rfl)
theorem dL_law_2088 : decode cL_law 2088 = .ok (.aload_n 3, 1) := dk_45 (dk_at dksL_law_78 21 rfl rfl)
theorem dL_law_2089 : decode cL_law 2089 = .ok (.iconst 0, 1) := dk_3 (dk_at dksL_law_78 22 rfl rfl)
theorem dL_law_2090 : decode cL_law 2090 = .ok (.laload, 1) := dk_47 (dk_at dksL_law_78 23 rfl rfl)
theorem dL_law_2091 : decode cL_law 2091 = .ok (.iload 7, 2) := dk_21 7 (dk_at dksL_law_79 0 rfl rfl)
theorem dL_law_2093 : decode cL_law 2093 = .ok (.i2l, 1) := dk_133 (dk_at dksL_law_79 2 rfl rfl)
theorem dL_law_2094 : decode cL_law 2094 = .ok (.lcmp, 1) := dk_148 (dk_at dksL_law_79 3 rfl rfl)
theorem dL_law_2095 : decode cL_law 2095 = .ok (.ifCond .eq 5, 3) := dk_153 0 5 (dk_at dksL_law_79 4 rfl rfl)
theorem dL_law_2098 : decode cL_law 2098 = .ok (.iconst 0, 1) := dk_3 (dk_at dksL_law_79 7 rfl rfl)
theorem dL_law_2099 : decode cL_law 2099 = .ok (.ireturn, 1) := dk_172 (dk_at dksL_law_79 8 rfl rfl)
theorem dL_law_2100 : decode cL_law 2100 = .ok (.goto 933, 3) := dk_167 3 165 (dk_at dksL_law_79 9 rfl rfl)
theorem dL_law_2103 : decode cL_law 2103 = .ok (.aload_n 1, 1) := dk_43 (dk_at dksL_law_79 12 rfl rfl)
theorem dL_law_2104 : decode cL_law 2104 = .ok (.aload_n 0, 1) := dk_42 (dk_at dksL_law_79 13 rfl rfl)
theorem dL_law_2105 : decode cL_law 2105 = .ok (.iload 5, 2) := dk_21 5 (dk_at dksL_law_79 14 rfl rfl)
theorem dL_law_2107 : decode cL_law 2107 = .ok (.iconst 1, 1) := dk_4 (dk_at dksL_law_79 16 rfl rfl)
theorem dL_law_2108 : decode cL_law 2108 = .ok (.iadd, 1) := dk_96 (dk_at dksL_law_79 17 rfl rfl)
theorem dL_law_2109 : decode cL_law 2109 = .ok (.iaload, 1) := dk_46 (dk_at dksL_law_79 18 rfl rfl)
theorem dL_law_2110 : decode cL_law 2110 = .ok (.aload_n 3, 1) := dk_45 (dk_at dksL_law_79 19 rfl rfl)
theorem dL_law_2111 : decode cL_law 2111 = .ok (.invokestatic 299, 3) := dk_184 1 43 (dk_at dksL_law_79 20 rfl rfl)
theorem dL_law_2114 : decode cL_law 2114 = .ok (.istore 6, 2) := dk_54 6 (dk_at dksL_law_80 0 rfl rfl)
theorem dL_law_2116 : decode cL_law 2116 = .ok (.aload_n 2, 1) := dk_44 (dk_at dksL_law_80 2 rfl rfl)
theorem dL_law_2117 : decode cL_law 2117 = .ok (.aload_n 0, 1) := dk_42 (dk_at dksL_law_80 3 rfl rfl)
theorem dL_law_2118 : decode cL_law 2118 = .ok (.iload 5, 2) := dk_21 5 (dk_at dksL_law_80 4 rfl rfl)
theorem dL_law_2120 : decode cL_law 2120 = .ok (.iconst 1, 1) := dk_4 (dk_at dksL_law_80 6 rfl rfl)
theorem dL_law_2121 : decode cL_law 2121 = .ok (.iadd, 1) := dk_96 (dk_at dksL_law_80 7 rfl rfl)
theorem dL_law_2122 : decode cL_law 2122 = .ok (.iaload, 1) := dk_46 (dk_at dksL_law_80 8 rfl rfl)
theorem dL_law_2123 : decode cL_law 2123 = .ok (.invokevirtual 301, 3) := dk_182 1 45 (dk_at dksL_law_80 9 rfl rfl)
theorem dL_law_2126 : decode cL_law 2126 = .ok (.istore 7, 2) := dk_54 7 (dk_at dksL_law_80 12 rfl rfl)
theorem dL_law_2128 : decode cL_law 2128 = .ok (.aload_n 2, 1) := dk_44 (dk_at dksL_law_80 14 rfl rfl)
theorem dL_law_2129 : decode cL_law 2129 = .ok (.invokevirtual 170, 3) := dk_182 0 170 (dk_at dksL_law_80 15 rfl rfl)
theorem dL_law_2132 : decode cL_law 2132 = .ok (.iload 6, 2) := dk_21 6 (dk_at dksL_law_80 18 rfl rfl)
theorem dL_law_2134 : decode cL_law 2134 = .ok (.if_icmp .eq 5, 3) := dk_159 0 5 (dk_at dksL_law_80 20 rfl rfl)
theorem dL_law_2137 : decode cL_law 2137 = .ok (.iconst 0, 1) := dk_3 (dk_at dksL_law_80 23 rfl rfl)
theorem dL_law_2138 : decode cL_law 2138 = .ok (.ireturn, 1) := dk_172 (dk_at dksL_law_81 0 rfl rfl)
theorem dL_law_2139 : decode cL_law 2139 = .ok (.iload 6, 2) := dk_21 6 (dk_at dksL_law_81 1 rfl rfl)
theorem dL_law_2141 : decode cL_law 2141 = .ok (.ifCond .ne 15, 3) := dk_154 0 15 (dk_at dksL_law_81 3 rfl rfl)
theorem dL_law_2144 : decode cL_law 2144 = .ok (.aload_n 3, 1) := dk_45 (dk_at dksL_law_81 6 rfl rfl)
theorem dL_law_2145 : decode cL_law 2145 = .ok (.iconst 0, 1) := dk_3 (dk_at dksL_law_81 7 rfl rfl)
theorem dL_law_2146 : decode cL_law 2146 = .ok (.laload, 1) := dk_47 (dk_at dksL_law_81 8 rfl rfl)
theorem dL_law_2147 : decode cL_law 2147 = .ok (.iload 7, 2) := dk_21 7 (dk_at dksL_law_81 9 rfl rfl)
theorem dL_law_2149 : decode cL_law 2149 = .ok (.i2l, 1) := dk_133 (dk_at dksL_law_81 11 rfl rfl)
theorem dL_law_2150 : decode cL_law 2150 = .ok (.lcmp, 1) := dk_148 (dk_at dksL_law_81 12 rfl rfl)
theorem dL_law_2151 : decode cL_law 2151 = .ok (.ifCond .eq 5, 3) := dk_153 0 5 (dk_at dksL_law_81 13 rfl rfl)
theorem dL_law_2154 : decode cL_law 2154 = .ok (.iconst 0, 1) := dk_3 (dk_at dksL_law_81 16 rfl rfl)
theorem dL_law_2155 : decode cL_law 2155 = .ok (.ireturn, 1) := dk_172 (dk_at dksL_law_81 17 rfl rfl)
theorem dL_law_2156 : decode cL_law 2156 = .ok (.goto 877, 3) := dk_167 3 109 (dk_at dksL_law_81 18 rfl rfl)
theorem dL_law_2159 : decode cL_law 2159 = .ok (.aload_n 1, 1) := dk_43 (dk_at dksL_law_81 21 rfl rfl)
theorem dL_law_2160 : decode cL_law 2160 = .ok (.invokevirtual 302, 3) := dk_182 1 46 (dk_at dksL_law_82 0 rfl rfl)
theorem dL_law_2163 : decode cL_law 2163 = .ok (.aload_n 2, 1) := dk_44 (dk_at dksL_law_82 3 rfl rfl)
theorem dL_law_2164 : decode cL_law 2164 = .ok (.invokevirtual 305, 3) := dk_182 1 49 (dk_at dksL_law_82 4 rfl rfl)
theorem dL_law_2167 : decode cL_law 2167 = .ok (.if_icmp .eq 866, 3) := dk_159 3 98 (dk_at dksL_law_82 7 rfl rfl)
theorem dL_law_2170 : decode cL_law 2170 = .ok (.iconst 0, 1) := dk_3 (dk_at dksL_law_82 10 rfl rfl)
theorem dL_law_2171 : decode cL_law 2171 = .ok (.ireturn, 1) := dk_172 (dk_at dksL_law_82 11 rfl rfl)
theorem dL_law_2172 : decode cL_law 2172 = .ok (.aload_n 1, 1) := dk_43 (dk_at dksL_law_82 12 rfl rfl)
theorem dL_law_2173 : decode cL_law 2173 = .ok (.aload_n 0, 1) := dk_42 (dk_at dksL_law_82 13 rfl rfl)
theorem dL_law_2174 : decode cL_law 2174 = .ok (.iload 5, 2) := dk_21 5 (dk_at dksL_law_82 14 rfl rfl)
theorem dL_law_2176 : decode cL_law 2176 = .ok (.iconst 1, 1) := dk_4 (dk_at dksL_law_82 16 rfl rfl)
theorem dL_law_2177 : decode cL_law 2177 = .ok (.iadd, 1) := dk_96 (dk_at dksL_law_82 17 rfl rfl)
theorem dL_law_2178 : decode cL_law 2178 = .ok (.iaload, 1) := dk_46 (dk_at dksL_law_82 18 rfl rfl)
theorem dL_law_2179 : decode cL_law 2179 = .ok (.aload_n 3, 1) := dk_45 (dk_at dksL_law_82 19 rfl rfl)
theorem dL_law_2180 : decode cL_law 2180 = .ok (.invokestatic 306, 3) := dk_184 1 50 (dk_at dksL_law_82 20 rfl rfl)
theorem dL_law_2183 : decode cL_law 2183 = .ok (.istore 6, 2) := dk_54 6 (dk_at dksL_law_83 0 rfl rfl)
theorem dL_law_2185 : decode cL_law 2185 = .ok (.aload_n 2, 1) := dk_44 (dk_at dksL_law_83 2 rfl rfl)
theorem dL_law_2186 : decode cL_law 2186 = .ok (.aload_n 0, 1) := dk_42 (dk_at dksL_law_83 3 rfl rfl)
theorem dL_law_2187 : decode cL_law 2187 = .ok (.iload 5, 2) := dk_21 5 (dk_at dksL_law_83 4 rfl rfl)
theorem dL_law_2189 : decode cL_law 2189 = .ok (.iconst 1, 1) := dk_4 (dk_at dksL_law_83 6 rfl rfl)
theorem dL_law_2190 : decode cL_law 2190 = .ok (.iadd, 1) := dk_96 (dk_at dksL_law_83 7 rfl rfl)
theorem dL_law_2191 : decode cL_law 2191 = .ok (.iaload, 1) := dk_46 (dk_at dksL_law_83 8 rfl rfl)
theorem dL_law_2192 : decode cL_law 2192 = .ok (.invokevirtual 308, 3) := dk_182 1 52 (dk_at dksL_law_83 9 rfl rfl)
theorem dL_law_2195 : decode cL_law 2195 = .ok (.istore 7, 2) := dk_54 7 (dk_at dksL_law_83 12 rfl rfl)
theorem dL_law_2197 : decode cL_law 2197 = .ok (.aload_n 2, 1) := dk_44 (dk_at dksL_law_83 14 rfl rfl)
theorem dL_law_2198 : decode cL_law 2198 = .ok (.invokevirtual 170, 3) := dk_182 0 170 (dk_at dksL_law_83 15 rfl rfl)
theorem dL_law_2201 : decode cL_law 2201 = .ok (.iload 6, 2) := dk_21 6 (dk_at dksL_law_83 18 rfl rfl)
theorem dL_law_2203 : decode cL_law 2203 = .ok (.if_icmp .eq 5, 3) := dk_159 0 5 (dk_at dksL_law_83 20 rfl rfl)
theorem dL_law_2206 : decode cL_law 2206 = .ok (.iconst 0, 1) := dk_3 (dk_at dksL_law_83 23 rfl rfl)
theorem dL_law_2207 : decode cL_law 2207 = .ok (.ireturn, 1) := dk_172 (dk_at dksL_law_84 0 rfl rfl)
theorem dL_law_2208 : decode cL_law 2208 = .ok (.iload 6, 2) := dk_21 6 (dk_at dksL_law_84 1 rfl rfl)
theorem dL_law_2210 : decode cL_law 2210 = .ok (.ifCond .ne 15, 3) := dk_154 0 15 (dk_at dksL_law_84 3 rfl rfl)
theorem dL_law_2213 : decode cL_law 2213 = .ok (.aload_n 3, 1) := dk_45 (dk_at dksL_law_84 6 rfl rfl)
theorem dL_law_2214 : decode cL_law 2214 = .ok (.iconst 0, 1) := dk_3 (dk_at dksL_law_84 7 rfl rfl)
theorem dL_law_2215 : decode cL_law 2215 = .ok (.laload, 1) := dk_47 (dk_at dksL_law_84 8 rfl rfl)
theorem dL_law_2216 : decode cL_law 2216 = .ok (.iload 7, 2) := dk_21 7 (dk_at dksL_law_84 9 rfl rfl)
theorem dL_law_2218 : decode cL_law 2218 = .ok (.i2l, 1) := dk_133 (dk_at dksL_law_84 11 rfl rfl)
theorem dL_law_2219 : decode cL_law 2219 = .ok (.lcmp, 1) := dk_148 (dk_at dksL_law_84 12 rfl rfl)
theorem dL_law_2220 : decode cL_law 2220 = .ok (.ifCond .eq 5, 3) := dk_153 0 5 (dk_at dksL_law_84 13 rfl rfl)
theorem dL_law_2223 : decode cL_law 2223 = .ok (.iconst 0, 1) := dk_3 (dk_at dksL_law_84 16 rfl rfl)
theorem dL_law_2224 : decode cL_law 2224 = .ok (.ireturn, 1) := dk_172 (dk_at dksL_law_84 17 rfl rfl)
theorem dL_law_2225 : decode cL_law 2225 = .ok (.goto 808, 3) := dk_167 3 40 (dk_at dksL_law_84 18 rfl rfl)
theorem dL_law_2228 : decode cL_law 2228 = .ok (.aload_n 1, 1) := dk_43 (dk_at dksL_law_84 21 rfl rfl)
theorem dL_law_2229 : decode cL_law 2229 = .ok (.aload_n 3, 1) := dk_45 (dk_at dksL_law_84 22 rfl rfl)
theorem dL_law_2230 : decode cL_law 2230 = .ok (.invokestatic 309, 3) := dk_184 1 53 (dk_at dksL_law_85 0 rfl rfl)
theorem dL_law_2233 : decode cL_law 2233 = .ok (.istore 6, 2) := dk_54 6 (dk_at dksL_law_85 3 rfl rfl)
theorem dL_law_2235 : decode cL_law 2235 = .ok (.aload_n 2, 1) := dk_44 (dk_at dksL_law_85 5 rfl rfl)
theorem dL_law_2236 : decode cL_law 2236 = .ok (.invokevirtual 312, 3) := dk_182 1 56 (dk_at dksL_law_85 6 rfl rfl)
theorem dL_law_2239 : decode cL_law 2239 = .ok (.istore 7, 2) := dk_54 7 (dk_at dksL_law_85 9 rfl rfl)
theorem dL_law_2241 : decode cL_law 2241 = .ok (.aload_n 2, 1) := dk_44 (dk_at dksL_law_85 11 rfl rfl)
theorem dL_law_2242 : decode cL_law 2242 = .ok (.invokevirtual 170, 3) := dk_182 0 170 (dk_at dksL_law_85 12 rfl rfl)
theorem dL_law_2245 : decode cL_law 2245 = .ok (.iload 6, 2) := dk_21 6 (dk_at dksL_law_85 15 rfl rfl)
theorem dL_law_2247 : decode cL_law 2247 = .ok (.if_icmp .eq 5, 3) := dk_159 0 5 (dk_at dksL_law_85 17 rfl rfl)
theorem dL_law_2250 : decode cL_law 2250 = .ok (.iconst 0, 1) := dk_3 (dk_at dksL_law_85 20 rfl rfl)
theorem dL_law_2251 : decode cL_law 2251 = .ok (.ireturn, 1) := dk_172 (dk_at dksL_law_85 21 rfl rfl)
theorem dL_law_2252 : decode cL_law 2252 = .ok (.iload 6, 2) := dk_21 6 (dk_at dksL_law_85 22 rfl rfl)
theorem dL_law_2254 : decode cL_law 2254 = .ok (.ifCond .ne 15, 3) := dk_154 0 15 (dk_at dksL_law_86 0 rfl rfl)
theorem dL_law_2257 : decode cL_law 2257 = .ok (.aload_n 3, 1) := dk_45 (dk_at dksL_law_86 3 rfl rfl)
theorem dL_law_2258 : decode cL_law 2258 = .ok (.iconst 0, 1) := dk_3 (dk_at dksL_law_86 4 rfl rfl)
theorem dL_law_2259 : decode cL_law 2259 = .ok (.laload, 1) := dk_47 (dk_at dksL_law_86 5 rfl rfl)
theorem dL_law_2260 : decode cL_law 2260 = .ok (.iload 7, 2) := dk_21 7 (dk_at dksL_law_86 6 rfl rfl)
theorem dL_law_2262 : decode cL_law 2262 = .ok (.i2l, 1) := dk_133 (dk_at dksL_law_86 8 rfl rfl)
theorem dL_law_2263 : decode cL_law 2263 = .ok (.lcmp, 1) := dk_148 (dk_at dksL_law_86 9 rfl rfl)
theorem dL_law_2264 : decode cL_law 2264 = .ok (.ifCond .eq 5, 3) := dk_153 0 5 (dk_at dksL_law_86 10 rfl rfl)
theorem dL_law_2267 : decode cL_law 2267 = .ok (.iconst 0, 1) := dk_3 (dk_at dksL_law_86 13 rfl rfl)
theorem dL_law_2268 : decode cL_law 2268 = .ok (.ireturn, 1) := dk_172 (dk_at dksL_law_86 14 rfl rfl)
theorem dL_law_2269 : decode cL_law 2269 = .ok (.goto 764, 3) := dk_167 2 252 (dk_at dksL_law_86 15 rfl rfl)
theorem dL_law_2272 : decode cL_law 2272 = .ok (.aload_n 1, 1) := dk_43 (dk_at dksL_law_86 18 rfl rfl)
theorem dL_law_2273 : decode cL_law 2273 = .ok (.invokevirtual 313, 3) := dk_182 1 57 (dk_at dksL_law_86 19 rfl rfl)
theorem dL_law_2276 : decode cL_law 2276 = .ok (.aload_n 2, 1) := dk_44 (dk_at dksL_law_86 22 rfl rfl)
theorem dL_law_2277 : decode cL_law 2277 = .ok (.invokevirtual 317, 3) := dk_182 1 61 (dk_at dksL_law_87 0 rfl rfl)
theorem dL_law_2280 : decode cL_law 2280 = .ok (.lcmp, 1) := dk_148 (dk_at dksL_law_87 3 rfl rfl)
theorem dL_law_2281 : decode cL_law 2281 = .ok (.ifCond .eq 752, 3) := dk_153 2 240 (dk_at dksL_law_87 4 rfl rfl)
theorem dL_law_2284 : decode cL_law 2284 = .ok (.iconst 0, 1) := dk_3 (dk_at dksL_law_87 7 rfl rfl)
theorem dL_law_2285 : decode cL_law 2285 = .ok (.ireturn, 1) := dk_172 (dk_at dksL_law_87 8 rfl rfl)
theorem dL_law_2286 : decode cL_law 2286 = .ok (.aload_n 1, 1) := dk_43 (dk_at dksL_law_87 9 rfl rfl)
theorem dL_law_2287 : decode cL_law 2287 = .ok (.invokevirtual 318, 3) := dk_182 1 62 (dk_at dksL_law_87 10 rfl rfl)
theorem dL_law_2290 : decode cL_law 2290 = .ok (.aload_n 2, 1) := dk_44 (dk_at dksL_law_87 13 rfl rfl)
theorem dL_law_2291 : decode cL_law 2291 = .ok (.invokevirtual 321, 3) := dk_182 1 65 (dk_at dksL_law_87 14 rfl rfl)
theorem dL_law_2294 : decode cL_law 2294 = .ok (.lcmp, 1) := dk_148 (dk_at dksL_law_87 17 rfl rfl)
theorem dL_law_2295 : decode cL_law 2295 = .ok (.ifCond .eq 738, 3) := dk_153 2 226 (dk_at dksL_law_87 18 rfl rfl)
theorem dL_law_2298 : decode cL_law 2298 = .ok (.iconst 0, 1) := dk_3 (dk_at dksL_law_87 21 rfl rfl)
theorem dL_law_2299 : decode cL_law 2299 = .ok (.ireturn, 1) := dk_172 (dk_at dksL_law_87 22 rfl rfl)
theorem dL_law_2300 : decode cL_law 2300 = .ok (.aload_n 1, 1) := dk_43 (dk_at dksL_law_87 23 rfl rfl)
theorem dL_law_2301 : decode cL_law 2301 = .ok (.invokevirtual 322, 3) := dk_182 1 66 (dk_at dksL_law_88 0 rfl rfl)
theorem dL_law_2304 : decode cL_law 2304 = .ok (.aload_n 2, 1) := dk_44 (dk_at dksL_law_88 3 rfl rfl)
theorem dL_law_2305 : decode cL_law 2305 = .ok (.invokevirtual 325, 3) := dk_182 1 69 (dk_at dksL_law_88 4 rfl rfl)
theorem dL_law_2308 : decode cL_law 2308 = .ok (.lcmp, 1) := dk_148 (dk_at dksL_law_88 7 rfl rfl)
theorem dL_law_2309 : decode cL_law 2309 = .ok (.ifCond .eq 724, 3) := dk_153 2 212 (dk_at dksL_law_88 8 rfl rfl)
theorem dL_law_2312 : decode cL_law 2312 = .ok (.iconst 0, 1) := dk_3 (dk_at dksL_law_88 11 rfl rfl)
theorem dL_law_2313 : decode cL_law 2313 = .ok (.ireturn, 1) := dk_172 (dk_at dksL_law_88 12 rfl rfl)
theorem dL_law_2314 : decode cL_law 2314 = .ok (.aload_n 1, 1) := dk_43 (dk_at dksL_law_88 13 rfl rfl)
theorem dL_law_2315 : decode cL_law 2315 = .ok (.invokevirtual 326, 3) := dk_182 1 70 (dk_at dksL_law_88 14 rfl rfl)
theorem dL_law_2318 : decode cL_law 2318 = .ok (.aload_n 2, 1) := dk_44 (dk_at dksL_law_88 17 rfl rfl)
theorem dL_law_2319 : decode cL_law 2319 = .ok (.invokevirtual 329, 3) := dk_182 1 73 (dk_at dksL_law_88 18 rfl rfl)
theorem dL_law_2322 : decode cL_law 2322 = .ok (.lcmp, 1) := dk_148 (dk_at dksL_law_88 21 rfl rfl)
theorem dL_law_2323 : decode cL_law 2323 = .ok (.ifCond .eq 710, 3) := dk_153 2 198 (dk_at dksL_law_89 0 rfl rfl)
theorem dL_law_2326 : decode cL_law 2326 = .ok (.iconst 0, 1) := dk_3 (dk_at dksL_law_89 3 rfl rfl)
theorem dL_law_2327 : decode cL_law 2327 = .ok (.ireturn, 1) := dk_172 (dk_at dksL_law_89 4 rfl rfl)
theorem dL_law_2328 : decode cL_law 2328 = .ok (.aload_n 1, 1) := dk_43 (dk_at dksL_law_89 5 rfl rfl)
theorem dL_law_2329 : decode cL_law 2329 = .ok (.invokevirtual 330, 3) := dk_182 1 74 (dk_at dksL_law_89 6 rfl rfl)
theorem dL_law_2332 : decode cL_law 2332 = .ok (.aload_n 2, 1) := dk_44 (dk_at dksL_law_89 9 rfl rfl)
theorem dL_law_2333 : decode cL_law 2333 = .ok (.invokevirtual 333, 3) := dk_182 1 77 (dk_at dksL_law_89 10 rfl rfl)
theorem dL_law_2336 : decode cL_law 2336 = .ok (.lcmp, 1) := dk_148 (dk_at dksL_law_89 13 rfl rfl)
theorem dL_law_2337 : decode cL_law 2337 = .ok (.ifCond .eq 696, 3) := dk_153 2 184 (dk_at dksL_law_89 14 rfl rfl)
theorem dL_law_2340 : decode cL_law 2340 = .ok (.iconst 0, 1) := dk_3 (dk_at dksL_law_89 17 rfl rfl)
theorem dL_law_2341 : decode cL_law 2341 = .ok (.ireturn, 1) := dk_172 (dk_at dksL_law_89 18 rfl rfl)
theorem dL_law_2342 : decode cL_law 2342 = .ok (.aload_n 1, 1) := dk_43 (dk_at dksL_law_89 19 rfl rfl)
theorem dL_law_2343 : decode cL_law 2343 = .ok (.aload_n 0, 1) := dk_42 (dk_at dksL_law_89 20 rfl rfl)
theorem dL_law_2344 : decode cL_law 2344 = .ok (.iload 5, 2) := dk_21 5 (dk_at dksL_law_89 21 rfl rfl)
theorem dL_law_2346 : decode cL_law 2346 = .ok (.iconst 1, 1) := dk_4 (dk_at dksL_law_89 23 rfl rfl)
theorem dL_law_2347 : decode cL_law 2347 = .ok (.iadd, 1) := dk_96 (dk_at dksL_law_90 0 rfl rfl)
theorem dL_law_2348 : decode cL_law 2348 = .ok (.iaload, 1) := dk_46 (dk_at dksL_law_90 1 rfl rfl)
theorem dL_law_2349 : decode cL_law 2349 = .ok (.aload_n 3, 1) := dk_45 (dk_at dksL_law_90 2 rfl rfl)
theorem dL_law_2350 : decode cL_law 2350 = .ok (.invokestatic 334, 3) := dk_184 1 78 (dk_at dksL_law_90 3 rfl rfl)
theorem dL_law_2353 : decode cL_law 2353 = .ok (.istore 6, 2) := dk_54 6 (dk_at dksL_law_90 6 rfl rfl)
theorem dL_law_2355 : decode cL_law 2355 = .ok (.aload_n 2, 1) := dk_44 (dk_at dksL_law_90 8 rfl rfl)
theorem dL_law_2356 : decode cL_law 2356 = .ok (.aload_n 0, 1) := dk_42 (dk_at dksL_law_90 9 rfl rfl)
theorem dL_law_2357 : decode cL_law 2357 = .ok (.iload 5, 2) := dk_21 5 (dk_at dksL_law_90 10 rfl rfl)
theorem dL_law_2359 : decode cL_law 2359 = .ok (.iconst 1, 1) := dk_4 (dk_at dksL_law_90 12 rfl rfl)
theorem dL_law_2360 : decode cL_law 2360 = .ok (.iadd, 1) := dk_96 (dk_at dksL_law_90 13 rfl rfl)
theorem dL_law_2361 : decode cL_law 2361 = .ok (.iaload, 1) := dk_46 (dk_at dksL_law_90 14 rfl rfl)
theorem dL_law_2362 : decode cL_law 2362 = .ok (.invokevirtual 336, 3) := dk_182 1 80 (dk_at dksL_law_90 15 rfl rfl)
theorem dL_law_2365 : decode cL_law 2365 = .ok (.istore 7, 2) := dk_54 7 (dk_at dksL_law_90 18 rfl rfl)
theorem dL_law_2367 : decode cL_law 2367 = .ok (.aload_n 2, 1) := dk_44 (dk_at dksL_law_90 20 rfl rfl)
theorem dL_law_2368 : decode cL_law 2368 = .ok (.invokevirtual 170, 3) := dk_182 0 170 (dk_at dksL_law_90 21 rfl rfl)
theorem dL_law_2371 : decode cL_law 2371 = .ok (.iload 6, 2) := dk_21 6 (dk_at dksL_law_91 0 rfl rfl)
theorem dL_law_2373 : decode cL_law 2373 = .ok (.if_icmp .eq 5, 3) := dk_159 0 5 (dk_at dksL_law_91 2 rfl rfl)
theorem dL_law_2376 : decode cL_law 2376 = .ok (.iconst 0, 1) := dk_3 (dk_at dksL_law_91 5 rfl rfl)
theorem dL_law_2377 : decode cL_law 2377 = .ok (.ireturn, 1) := dk_172 (dk_at dksL_law_91 6 rfl rfl)
theorem dL_law_2378 : decode cL_law 2378 = .ok (.iload 6, 2) := dk_21 6 (dk_at dksL_law_91 7 rfl rfl)
theorem dL_law_2380 : decode cL_law 2380 = .ok (.ifCond .ne 15, 3) := dk_154 0 15 (dk_at dksL_law_91 9 rfl rfl)
theorem dL_law_2383 : decode cL_law 2383 = .ok (.aload_n 3, 1) := dk_45 (dk_at dksL_law_91 12 rfl rfl)
theorem dL_law_2384 : decode cL_law 2384 = .ok (.iconst 0, 1) := dk_3 (dk_at dksL_law_91 13 rfl rfl)
theorem dL_law_2385 : decode cL_law 2385 = .ok (.laload, 1) := dk_47 (dk_at dksL_law_91 14 rfl rfl)
theorem dL_law_2386 : decode cL_law 2386 = .ok (.iload 7, 2) := dk_21 7 (dk_at dksL_law_91 15 rfl rfl)
theorem dL_law_2388 : decode cL_law 2388 = .ok (.i2l, 1) := dk_133 (dk_at dksL_law_91 17 rfl rfl)
theorem dL_law_2389 : decode cL_law 2389 = .ok (.lcmp, 1) := dk_148 (dk_at dksL_law_91 18 rfl rfl)
theorem dL_law_2390 : decode cL_law 2390 = .ok (.ifCond .eq 5, 3) := dk_153 0 5 (dk_at dksL_law_91 19 rfl rfl)
theorem dL_law_2393 : decode cL_law 2393 = .ok (.iconst 0, 1) := dk_3 (dk_at dksL_law_91 22 rfl rfl)
theorem dL_law_2394 : decode cL_law 2394 = .ok (.ireturn, 1) := dk_172 (dk_at dksL_law_91 23 rfl rfl)
theorem dL_law_2395 : decode cL_law 2395 = .ok (.goto 638, 3) := dk_167 2 126 (dk_at dksL_law_92 0 rfl rfl)
theorem dL_law_2398 : decode cL_law 2398 = .ok (.aload_n 1, 1) := dk_43 (dk_at dksL_law_92 3 rfl rfl)
theorem dL_law_2399 : decode cL_law 2399 = .ok (.aload 4, 2) := dk_25 4 (dk_at dksL_law_92 4 rfl rfl)
theorem dL_law_2401 : decode cL_law 2401 = .ok (.invokestatic 337, 3) := dk_184 1 81 (dk_at dksL_law_92 6 rfl rfl)
theorem dL_law_2404 : decode cL_law 2404 = .ok (.istore 6, 2) := dk_54 6 (dk_at dksL_law_92 9 rfl rfl)
theorem dL_law_2406 : decode cL_law 2406 = .ok (.aload_n 2, 1) := dk_44 (dk_at dksL_law_92 11 rfl rfl)
theorem dL_law_2407 : decode cL_law 2407 = .ok (.invokevirtual 340, 3) := dk_182 1 84 (dk_at dksL_law_92 12 rfl rfl)
theorem dL_law_2410 : decode cL_law 2410 = .ok (.dstore 7, 2) := dk_57 7 (dk_at dksL_law_92 15 rfl rfl)
theorem dL_law_2412 : decode cL_law 2412 = .ok (.aload_n 2, 1) := dk_44 (dk_at dksL_law_92 17 rfl rfl)
theorem dL_law_2413 : decode cL_law 2413 = .ok (.invokevirtual 170, 3) := dk_182 0 170 (dk_at dksL_law_92 18 rfl rfl)
theorem dL_law_2416 : decode cL_law 2416 = .ok (.iload 6, 2) := dk_21 6 (dk_at dksL_law_92 21 rfl rfl)
theorem dL_law_2418 : decode cL_law 2418 = .ok (.if_icmp .eq 5, 3) := dk_159 0 5 (dk_at dksL_law_93 0 rfl rfl)
theorem dL_law_2421 : decode cL_law 2421 = .ok (.iconst 0, 1) := dk_3 (dk_at dksL_law_93 3 rfl rfl)
theorem dL_law_2422 : decode cL_law 2422 = .ok (.ireturn, 1) := dk_172 (dk_at dksL_law_93 4 rfl rfl)
theorem dL_law_2423 : decode cL_law 2423 = .ok (.iload 6, 2) := dk_21 6 (dk_at dksL_law_93 5 rfl rfl)
theorem dL_law_2425 : decode cL_law 2425 = .ok (.ifCond .ne 35, 3) := dk_154 0 35 (dk_at dksL_law_93 7 rfl rfl)
theorem dL_law_2428 : decode cL_law 2428 = .ok (.aload 4, 2) := dk_25 4 (dk_at dksL_law_93 10 rfl rfl)
theorem dL_law_2430 : decode cL_law 2430 = .ok (.iconst 0, 1) := dk_3 (dk_at dksL_law_93 12 rfl rfl)
theorem dL_law_2431 : decode cL_law 2431 = .ok (.daload, 1) := dk_49 (dk_at dksL_law_93 13 rfl rfl)
theorem dL_law_2432 : decode cL_law 2432 = .ok (.dload 7, 2) := dk_24 7 (dk_at dksL_law_93 14 rfl rfl)
theorem dL_law_2434 : decode cL_law 2434 = .ok (.dcmp .l, 1) := dk_151 (dk_at dksL_law_93 16 rfl rfl)
theorem dL_law_2435 : decode cL_law 2435 = .ok (.ifCond .eq 25, 3) := dk_153 0 25 (dk_at dksL_law_93 17 rfl rfl)
theorem dL_law_2438 : decode cL_law 2438 = .ok (.aload 4, 2) := dk_25 4 (dk_at dksL_law_93 20 rfl rfl)
theorem dL_law_2440 : decode cL_law 2440 = .ok (.iconst 0, 1) := dk_3 (dk_at dksL_law_93 22 rfl rfl)
theorem dL_law_2441 : decode cL_law 2441 = .ok (.daload, 1) := dk_49 (dk_at dksL_law_93 23 rfl rfl)
theorem dL_law_2442 : decode cL_law 2442 = .ok (.aload 4, 2) := dk_25 4 (dk_at dksL_law_94 0 rfl rfl)
theorem dL_law_2444 : decode cL_law 2444 = .ok (.iconst 0, 1) := dk_3 (dk_at dksL_law_94 2 rfl rfl)
theorem dL_law_2445 : decode cL_law 2445 = .ok (.daload, 1) := dk_49 (dk_at dksL_law_94 3 rfl rfl)
theorem dL_law_2446 : decode cL_law 2446 = .ok (.dcmp .l, 1) := dk_151 (dk_at dksL_law_94 4 rfl rfl)
theorem dL_law_2447 : decode cL_law 2447 = .ok (.ifCond .eq 11, 3) := dk_153 0 11 (dk_at dksL_law_94 5 rfl rfl)
theorem dL_law_2450 : decode cL_law 2450 = .ok (.dload 7, 2) := dk_24 7 (dk_at dksL_law_94 8 rfl rfl)
theorem dL_law_2452 : decode cL_law 2452 = .ok (.dload 7, 2) := dk_24 7 (dk_at dksL_law_94 10 rfl rfl)
theorem dL_law_2454 : decode cL_law 2454 = .ok (.dcmp .l, 1) := dk_151 (dk_at dksL_law_94 12 rfl rfl)
theorem dL_law_2455 : decode cL_law 2455 = .ok (.ifCond .ne 5, 3) := dk_154 0 5 (dk_at dksL_law_94 13 rfl rfl)
theorem dL_law_2458 : decode cL_law 2458 = .ok (.iconst 0, 1) := dk_3 (dk_at dksL_law_94 16 rfl rfl)
theorem dL_law_2459 : decode cL_law 2459 = .ok (.ireturn, 1) := dk_172 (dk_at dksL_law_94 17 rfl rfl)
theorem dL_law_2460 : decode cL_law 2460 = .ok (.goto 573, 3) := dk_167 2 61 (dk_at dksL_law_94 18 rfl rfl)
theorem dL_law_2463 : decode cL_law 2463 = .ok (.aload_n 1, 1) := dk_43 (dk_at dksL_law_94 21 rfl rfl)
theorem dL_law_2464 : decode cL_law 2464 = .ok (.aload 4, 2) := dk_25 4 (dk_at dksL_law_94 22 rfl rfl)
theorem dL_law_2466 : decode cL_law 2466 = .ok (.invokestatic 341, 3) := dk_184 1 85 (dk_at dksL_law_95 0 rfl rfl)
theorem dL_law_2469 : decode cL_law 2469 = .ok (.istore 6, 2) := dk_54 6 (dk_at dksL_law_95 3 rfl rfl)
theorem dL_law_2471 : decode cL_law 2471 = .ok (.aload_n 2, 1) := dk_44 (dk_at dksL_law_95 5 rfl rfl)
theorem dL_law_2472 : decode cL_law 2472 = .ok (.invokevirtual 343, 3) := dk_182 1 87 (dk_at dksL_law_95 6 rfl rfl)
theorem dL_law_2475 : decode cL_law 2475 = .ok (.fstore 7, 2) := dk_56 7 (dk_at dksL_law_95 9 rfl rfl)
theorem dL_law_2477 : decode cL_law 2477 = .ok (.aload_n 2, 1) := dk_44 (dk_at dksL_law_95 11 rfl rfl)
theorem dL_law_2478 : decode cL_law 2478 = .ok (.invokevirtual 170, 3) := dk_182 0 170 (dk_at dksL_law_95 12 rfl rfl)
theorem dL_law_2481 : decode cL_law 2481 = .ok (.iload 6, 2) := dk_21 6 (dk_at dksL_law_95 15 rfl rfl)
theorem dL_law_2483 : decode cL_law 2483 = .ok (.if_icmp .eq 5, 3) := dk_159 0 5 (dk_at dksL_law_95 17 rfl rfl)
theorem dL_law_2486 : decode cL_law 2486 = .ok (.iconst 0, 1) := dk_3 (dk_at dksL_law_95 20 rfl rfl)
theorem dL_law_2487 : decode cL_law 2487 = .ok (.ireturn, 1) := dk_172 (dk_at dksL_law_95 21 rfl rfl)
theorem dL_law_2488 : decode cL_law 2488 = .ok (.iload 6, 2) := dk_21 6 (dk_at dksL_law_95 22 rfl rfl)
theorem dL_law_2490 : decode cL_law 2490 = .ok (.ifCond .ne 36, 3) := dk_154 0 36 (dk_at dksL_law_96 0 rfl rfl)
theorem dL_law_2493 : decode cL_law 2493 = .ok (.aload 4, 2) := dk_25 4 (dk_at dksL_law_96 3 rfl rfl)
theorem dL_law_2495 : decode cL_law 2495 = .ok (.iconst 0, 1) := dk_3 (dk_at dksL_law_96 5 rfl rfl)
theorem dL_law_2496 : decode cL_law 2496 = .ok (.daload, 1) := dk_49 (dk_at dksL_law_96 6 rfl rfl)
theorem dL_law_2497 : decode cL_law 2497 = .ok (.fload 7, 2) := dk_23 7 (dk_at dksL_law_96 7 rfl rfl)
theorem dL_law_2499 : decode cL_law 2499 = .ok (.f2d, 1) := dk_141 (dk_at dksL_law_96 9 rfl rfl)
theorem dL_law_2500 : decode cL_law 2500 = .ok (.dcmp .l, 1) := dk_151 (dk_at dksL_law_96 10 rfl rfl)
theorem dL_law_2501 : decode cL_law 2501 = .ok (.ifCond .eq 25, 3) := dk_153 0 25 (dk_at dksL_law_96 11 rfl rfl)
theorem dL_law_2504 : decode cL_law 2504 = .ok (.aload 4, 2) := dk_25 4 (dk_at dksL_law_96 14 rfl rfl)
theorem dL_law_2506 : decode cL_law 2506 = .ok (.iconst 0, 1) := dk_3 (dk_at dksL_law_96 16 rfl rfl)
theorem dL_law_2507 : decode cL_law 2507 = .ok (.daload, 1) := dk_49 (dk_at dksL_law_96 17 rfl rfl)
theorem dL_law_2508 : decode cL_law 2508 = .ok (.aload 4, 2) := dk_25 4 (dk_at dksL_law_96 18 rfl rfl)
theorem dL_law_2510 : decode cL_law 2510 = .ok (.iconst 0, 1) := dk_3 (dk_at dksL_law_96 20 rfl rfl)
theorem dL_law_2511 : decode cL_law 2511 = .ok (.daload, 1) := dk_49 (dk_at dksL_law_96 21 rfl rfl)
theorem dL_law_2512 : decode cL_law 2512 = .ok (.dcmp .l, 1) := dk_151 (dk_at dksL_law_96 22 rfl rfl)
theorem dL_law_2513 : decode cL_law 2513 = .ok (.ifCond .eq 11, 3) := dk_153 0 11 (dk_at dksL_law_97 0 rfl rfl)
theorem dL_law_2516 : decode cL_law 2516 = .ok (.fload 7, 2) := dk_23 7 (dk_at dksL_law_97 3 rfl rfl)
theorem dL_law_2518 : decode cL_law 2518 = .ok (.fload 7, 2) := dk_23 7 (dk_at dksL_law_97 5 rfl rfl)
theorem dL_law_2520 : decode cL_law 2520 = .ok (.fcmp .l, 1) := dk_149 (dk_at dksL_law_97 7 rfl rfl)
theorem dL_law_2521 : decode cL_law 2521 = .ok (.ifCond .ne 5, 3) := dk_154 0 5 (dk_at dksL_law_97 8 rfl rfl)
theorem dL_law_2524 : decode cL_law 2524 = .ok (.iconst 0, 1) := dk_3 (dk_at dksL_law_97 11 rfl rfl)
theorem dL_law_2525 : decode cL_law 2525 = .ok (.ireturn, 1) := dk_172 (dk_at dksL_law_97 12 rfl rfl)
theorem dL_law_2526 : decode cL_law 2526 = .ok (.goto 507, 3) := dk_167 1 251 (dk_at dksL_law_97 13 rfl rfl)
theorem dL_law_2529 : decode cL_law 2529 = .ok (.aload_n 1, 1) := dk_43 (dk_at dksL_law_97 16 rfl rfl)
theorem dL_law_2530 : decode cL_law 2530 = .ok (.invokevirtual 344, 3) := dk_182 1 88 (dk_at dksL_law_97 17 rfl rfl)
theorem dL_law_2533 : decode cL_law 2533 = .ok (.aload_n 2, 1) := dk_44 (dk_at dksL_law_97 20 rfl rfl)
theorem dL_law_2534 : decode cL_law 2534 = .ok (.invokevirtual 348, 3) := dk_182 1 92 (dk_at dksL_law_97 21 rfl rfl)
theorem dL_law_2537 : decode cL_law 2537 = .ok (.if_icmp .eq 496, 3) := dk_159 1 240 (dk_at dksL_law_98 0 rfl rfl)
theorem dL_law_2540 : decode cL_law 2540 = .ok (.iconst 0, 1) := dk_3 (dk_at dksL_law_98 3 rfl rfl)
theorem dL_law_2541 : decode cL_law 2541 = .ok (.ireturn, 1) := dk_172 (dk_at dksL_law_98 4 rfl rfl)
theorem dL_law_2542 : decode cL_law 2542 = .ok (.aload_n 1, 1) := dk_43 (dk_at dksL_law_98 5 rfl rfl)
theorem dL_law_2543 : decode cL_law 2543 = .ok (.aload_n 0, 1) := dk_42 (dk_at dksL_law_98 6 rfl rfl)
theorem dL_law_2544 : decode cL_law 2544 = .ok (.iload 5, 2) := dk_21 5 (dk_at dksL_law_98 7 rfl rfl)
theorem dL_law_2546 : decode cL_law 2546 = .ok (.iconst 1, 1) := dk_4 (dk_at dksL_law_98 9 rfl rfl)
theorem dL_law_2547 : decode cL_law 2547 = .ok (.iadd, 1) := dk_96 (dk_at dksL_law_98 10 rfl rfl)
theorem dL_law_2548 : decode cL_law 2548 = .ok (.iaload, 1) := dk_46 (dk_at dksL_law_98 11 rfl rfl)
theorem dL_law_2549 : decode cL_law 2549 = .ok (.aload_n 3, 1) := dk_45 (dk_at dksL_law_98 12 rfl rfl)
theorem dL_law_2550 : decode cL_law 2550 = .ok (.invokestatic 349, 3) := dk_184 1 93 (dk_at dksL_law_98 13 rfl rfl)
theorem dL_law_2553 : decode cL_law 2553 = .ok (.istore 6, 2) := dk_54 6 (dk_at dksL_law_98 16 rfl rfl)
theorem dL_law_2555 : decode cL_law 2555 = .ok (.aload_n 2, 1) := dk_44 (dk_at dksL_law_98 18 rfl rfl)
theorem dL_law_2556 : decode cL_law 2556 = .ok (.aload_n 0, 1) := dk_42 (dk_at dksL_law_98 19 rfl rfl)
theorem dL_law_2557 : decode cL_law 2557 = .ok (.iload 5, 2) := dk_21 5 (dk_at dksL_law_98 20 rfl rfl)
theorem dL_law_2559 : decode cL_law 2559 = .ok (.iconst 1, 1) := dk_4 (dk_at dksL_law_98 22 rfl rfl)
theorem dL_law_2560 : decode cL_law 2560 = .ok (.iadd, 1) := dk_96 (dk_at dksL_law_98 23 rfl rfl)
theorem dL_law_2561 : decode cL_law 2561 = .ok (.iaload, 1) := dk_46 (dk_at dksL_law_99 0 rfl rfl)
theorem dL_law_2562 : decode cL_law 2562 = .ok (.invokevirtual 351, 3) := dk_182 1 95 (dk_at dksL_law_99 1 rfl rfl)
theorem dL_law_2565 : decode cL_law 2565 = .ok (.istore 7, 2) := dk_54 7 (dk_at dksL_law_99 4 rfl rfl)
theorem dL_law_2567 : decode cL_law 2567 = .ok (.aload_n 2, 1) := dk_44 (dk_at dksL_law_99 6 rfl rfl)
theorem dL_law_2568 : decode cL_law 2568 = .ok (.invokevirtual 170, 3) := dk_182 0 170 (dk_at dksL_law_99 7 rfl rfl)
theorem dL_law_2571 : decode cL_law 2571 = .ok (.iload 6, 2) := dk_21 6 (dk_at dksL_law_99 10 rfl rfl)
theorem dL_law_2573 : decode cL_law 2573 = .ok (.if_icmp .eq 5, 3) := dk_159 0 5 (dk_at dksL_law_99 12 rfl rfl)
theorem dL_law_2576 : decode cL_law 2576 = .ok (.iconst 0, 1) := dk_3 (dk_at dksL_law_99 15 rfl rfl)
theorem dL_law_2577 : decode cL_law 2577 = .ok (.ireturn, 1) := dk_172 (dk_at dksL_law_99 16 rfl rfl)
theorem dL_law_2578 : decode cL_law 2578 = .ok (.iload 6, 2) := dk_21 6 (dk_at dksL_law_99 17 rfl rfl)
theorem dL_law_2580 : decode cL_law 2580 = .ok (.ifCond .ne 15, 3) := dk_154 0 15 (dk_at dksL_law_99 19 rfl rfl)
theorem dL_law_2583 : decode cL_law 2583 = .ok (.aload_n 3, 1) := dk_45 (dk_at dksL_law_99 22 rfl rfl)
theorem dL_law_2584 : decode cL_law 2584 = .ok (.iconst 0, 1) := dk_3 (dk_at dksL_law_99 23 rfl rfl)
theorem dL_law_2585 : decode cL_law 2585 = .ok (.laload, 1) := dk_47 (dk_at dksL_law_100 0 rfl rfl)
theorem dL_law_2586 : decode cL_law 2586 = .ok (.iload 7, 2) := dk_21 7 (dk_at dksL_law_100 1 rfl rfl)
theorem dL_law_2588 : decode cL_law 2588 = .ok (.i2l, 1) := dk_133 (dk_at dksL_law_100 3 rfl rfl)
theorem dL_law_2589 : decode cL_law 2589 = .ok (.lcmp, 1) := dk_148 (dk_at dksL_law_100 4 rfl rfl)
theorem dL_law_2590 : decode cL_law 2590 = .ok (.ifCond .eq 5, 3) := dk_153 0 5 (dk_at dksL_law_100 5 rfl rfl)
theorem dL_law_2593 : decode cL_law 2593 = .ok (.iconst 0, 1) := dk_3 (dk_at dksL_law_100 8 rfl rfl)
theorem dL_law_2594 : decode cL_law 2594 = .ok (.ireturn, 1) := dk_172 (dk_at dksL_law_100 9 rfl rfl)
theorem dL_law_2595 : decode cL_law 2595 = .ok (.goto 438, 3) := dk_167 1 182 (dk_at dksL_law_100 10 rfl rfl)
theorem dL_law_2598 : decode cL_law 2598 = .ok (.aload_n 1, 1) := dk_43 (dk_at dksL_law_100 13 rfl rfl)
theorem dL_law_2599 : decode cL_law 2599 = .ok (.aload_n 0, 1) := dk_42 (dk_at dksL_law_100 14 rfl rfl)
theorem dL_law_2600 : decode cL_law 2600 = .ok (.iload 5, 2) := dk_21 5 (dk_at dksL_law_100 15 rfl rfl)
theorem dL_law_2602 : decode cL_law 2602 = .ok (.iconst 1, 1) := dk_4 (dk_at dksL_law_100 17 rfl rfl)
theorem dL_law_2603 : decode cL_law 2603 = .ok (.iadd, 1) := dk_96 (dk_at dksL_law_100 18 rfl rfl)
theorem dL_law_2604 : decode cL_law 2604 = .ok (.iaload, 1) := dk_46 (dk_at dksL_law_100 19 rfl rfl)
theorem dL_law_2605 : decode cL_law 2605 = .ok (.aload_n 3, 1) := dk_45 (dk_at dksL_law_100 20 rfl rfl)
theorem dL_law_2606 : decode cL_law 2606 = .ok (.invokestatic 352, 3) := dk_184 1 96 (dk_at dksL_law_100 21 rfl rfl)
theorem dL_law_2609 : decode cL_law 2609 = .ok (.istore 6, 2) := dk_54 6 (dk_at dksL_law_101 0 rfl rfl)
theorem dL_law_2611 : decode cL_law 2611 = .ok (.aload_n 2, 1) := dk_44 (dk_at dksL_law_101 2 rfl rfl)
theorem dL_law_2612 : decode cL_law 2612 = .ok (.aload_n 0, 1) := dk_42 (dk_at dksL_law_101 3 rfl rfl)
theorem dL_law_2613 : decode cL_law 2613 = .ok (.iload 5, 2) := dk_21 5 (dk_at dksL_law_101 4 rfl rfl)
theorem dL_law_2615 : decode cL_law 2615 = .ok (.iconst 1, 1) := dk_4 (dk_at dksL_law_101 6 rfl rfl)
theorem dL_law_2616 : decode cL_law 2616 = .ok (.iadd, 1) := dk_96 (dk_at dksL_law_101 7 rfl rfl)
theorem dL_law_2617 : decode cL_law 2617 = .ok (.iaload, 1) := dk_46 (dk_at dksL_law_101 8 rfl rfl)
theorem dL_law_2618 : decode cL_law 2618 = .ok (.invokevirtual 354, 3) := dk_182 1 98 (dk_at dksL_law_101 9 rfl rfl)
theorem dL_law_2621 : decode cL_law 2621 = .ok (.istore 7, 2) := dk_54 7 (dk_at dksL_law_101 12 rfl rfl)
theorem dL_law_2623 : decode cL_law 2623 = .ok (.aload_n 2, 1) := dk_44 (dk_at dksL_law_101 14 rfl rfl)
theorem dL_law_2624 : decode cL_law 2624 = .ok (.invokevirtual 170, 3) := dk_182 0 170 (dk_at dksL_law_101 15 rfl rfl)
theorem dL_law_2627 : decode cL_law 2627 = .ok (.iload 6, 2) := dk_21 6 (dk_at dksL_law_101 18 rfl rfl)
theorem dL_law_2629 : decode cL_law 2629 = .ok (.if_icmp .eq 5, 3) := dk_159 0 5 (dk_at dksL_law_101 20 rfl rfl)
theorem dL_law_2632 : decode cL_law 2632 = .ok (.iconst 0, 1) := dk_3 (dk_at dksL_law_101 23 rfl rfl)
theorem dL_law_2633 : decode cL_law 2633 = .ok (.ireturn, 1) := dk_172 (dk_at dksL_law_102 0 rfl rfl)
theorem dL_law_2634 : decode cL_law 2634 = .ok (.iload 6, 2) := dk_21 6 (dk_at dksL_law_102 1 rfl rfl)
theorem dL_law_2636 : decode cL_law 2636 = .ok (.ifCond .ne 15, 3) := dk_154 0 15 (dk_at dksL_law_102 3 rfl rfl)
theorem dL_law_2639 : decode cL_law 2639 = .ok (.aload_n 3, 1) := dk_45 (dk_at dksL_law_102 6 rfl rfl)
theorem dL_law_2640 : decode cL_law 2640 = .ok (.iconst 0, 1) := dk_3 (dk_at dksL_law_102 7 rfl rfl)
theorem dL_law_2641 : decode cL_law 2641 = .ok (.laload, 1) := dk_47 (dk_at dksL_law_102 8 rfl rfl)
theorem dL_law_2642 : decode cL_law 2642 = .ok (.iload 7, 2) := dk_21 7 (dk_at dksL_law_102 9 rfl rfl)
theorem dL_law_2644 : decode cL_law 2644 = .ok (.i2l, 1) := dk_133 (dk_at dksL_law_102 11 rfl rfl)
theorem dL_law_2645 : decode cL_law 2645 = .ok (.lcmp, 1) := dk_148 (dk_at dksL_law_102 12 rfl rfl)
theorem dL_law_2646 : decode cL_law 2646 = .ok (.ifCond .eq 5, 3) := dk_153 0 5 (dk_at dksL_law_102 13 rfl rfl)
theorem dL_law_2649 : decode cL_law 2649 = .ok (.iconst 0, 1) := dk_3 (dk_at dksL_law_102 16 rfl rfl)
theorem dL_law_2650 : decode cL_law 2650 = .ok (.ireturn, 1) := dk_172 (dk_at dksL_law_102 17 rfl rfl)
theorem dL_law_2651 : decode cL_law 2651 = .ok (.goto 382, 3) := dk_167 1 126 (dk_at dksL_law_102 18 rfl rfl)
theorem dL_law_2654 : decode cL_law 2654 = .ok (.aload_n 1, 1) := dk_43 (dk_at dksL_law_102 21 rfl rfl)
theorem dL_law_2655 : decode cL_law 2655 = .ok (.aload_n 0, 1) := dk_42 (dk_at dksL_law_102 22 rfl rfl)
theorem dL_law_2656 : decode cL_law 2656 = .ok (.iload 5, 2) := dk_21 5 (dk_at dksL_law_103 0 rfl rfl)
theorem dL_law_2658 : decode cL_law 2658 = .ok (.iconst 1, 1) := dk_4 (dk_at dksL_law_103 2 rfl rfl)
theorem dL_law_2659 : decode cL_law 2659 = .ok (.iadd, 1) := dk_96 (dk_at dksL_law_103 3 rfl rfl)
theorem dL_law_2660 : decode cL_law 2660 = .ok (.iaload, 1) := dk_46 (dk_at dksL_law_103 4 rfl rfl)
theorem dL_law_2661 : decode cL_law 2661 = .ok (.i2c, 1) := dk_146 (dk_at dksL_law_103 5 rfl rfl)
theorem dL_law_2662 : decode cL_law 2662 = .ok (.aload_n 3, 1) := dk_45 (dk_at dksL_law_103 6 rfl rfl)
theorem dL_law_2663 : decode cL_law 2663 = .ok (.invokestatic 355, 3) := dk_184 1 99 (dk_at dksL_law_103 7 rfl rfl)
theorem dL_law_2666 : decode cL_law 2666 = .ok (.istore 6, 2) := dk_54 6 (dk_at dksL_law_103 10 rfl rfl)
theorem dL_law_2668 : decode cL_law 2668 = .ok (.aload_n 2, 1) := dk_44 (dk_at dksL_law_103 12 rfl rfl)
theorem dL_law_2669 : decode cL_law 2669 = .ok (.aload_n 0, 1) := dk_42 (dk_at dksL_law_103 13 rfl rfl)
theorem dL_law_2670 : decode cL_law 2670 = .ok (.iload 5, 2) := dk_21 5 (dk_at dksL_law_103 14 rfl rfl)
theorem dL_law_2672 : decode cL_law 2672 = .ok (.iconst 1, 1) := dk_4 (dk_at dksL_law_103 16 rfl rfl)
theorem dL_law_2673 : decode cL_law 2673 = .ok (.iadd, 1) := dk_96 (dk_at dksL_law_103 17 rfl rfl)
theorem dL_law_2674 : decode cL_law 2674 = .ok (.iaload, 1) := dk_46 (dk_at dksL_law_103 18 rfl rfl)
theorem dL_law_2675 : decode cL_law 2675 = .ok (.i2c, 1) := dk_146 (dk_at dksL_law_103 19 rfl rfl)
theorem dL_law_2676 : decode cL_law 2676 = .ok (.invokevirtual 358, 3) := dk_182 1 102 (dk_at dksL_law_103 20 rfl rfl)
theorem dL_law_2679 : decode cL_law 2679 = .ok (.istore 7, 2) := dk_54 7 (dk_at dksL_law_104 0 rfl rfl)
theorem dL_law_2681 : decode cL_law 2681 = .ok (.aload_n 2, 1) := dk_44 (dk_at dksL_law_104 2 rfl rfl)
theorem dL_law_2682 : decode cL_law 2682 = .ok (.invokevirtual 170, 3) := dk_182 0 170 (dk_at dksL_law_104 3 rfl rfl)
theorem dL_law_2685 : decode cL_law 2685 = .ok (.iload 6, 2) := dk_21 6 (dk_at dksL_law_104 6 rfl rfl)
theorem dL_law_2687 : decode cL_law 2687 = .ok (.if_icmp .eq 5, 3) := dk_159 0 5 (dk_at dksL_law_104 8 rfl rfl)
theorem dL_law_2690 : decode cL_law 2690 = .ok (.iconst 0, 1) := dk_3 (dk_at dksL_law_104 11 rfl rfl)
theorem dL_law_2691 : decode cL_law 2691 = .ok (.ireturn, 1) := dk_172 (dk_at dksL_law_104 12 rfl rfl)
theorem dL_law_2692 : decode cL_law 2692 = .ok (.iload 6, 2) := dk_21 6 (dk_at dksL_law_104 13 rfl rfl)
theorem dL_law_2694 : decode cL_law 2694 = .ok (.ifCond .ne 15, 3) := dk_154 0 15 (dk_at dksL_law_104 15 rfl rfl)
theorem dL_law_2697 : decode cL_law 2697 = .ok (.aload_n 3, 1) := dk_45 (dk_at dksL_law_104 18 rfl rfl)
theorem dL_law_2698 : decode cL_law 2698 = .ok (.iconst 0, 1) := dk_3 (dk_at dksL_law_104 19 rfl rfl)
theorem dL_law_2699 : decode cL_law 2699 = .ok (.laload, 1) := dk_47 (dk_at dksL_law_104 20 rfl rfl)
theorem dL_law_2700 : decode cL_law 2700 = .ok (.iload 7, 2) := dk_21 7 (dk_at dksL_law_104 21 rfl rfl)
theorem dL_law_2702 : decode cL_law 2702 = .ok (.i2l, 1) := dk_133 (dk_at dksL_law_104 23 rfl rfl)
theorem dL_law_2703 : decode cL_law 2703 = .ok (.lcmp, 1) := dk_148 (dk_at dksL_law_105 0 rfl rfl)
theorem dL_law_2704 : decode cL_law 2704 = .ok (.ifCond .eq 5, 3) := dk_153 0 5 (dk_at dksL_law_105 1 rfl rfl)
theorem dL_law_2707 : decode cL_law 2707 = .ok (.iconst 0, 1) := dk_3 (dk_at dksL_law_105 4 rfl rfl)
theorem dL_law_2708 : decode cL_law 2708 = .ok (.ireturn, 1) := dk_172 (dk_at dksL_law_105 5 rfl rfl)
theorem dL_law_2709 : decode cL_law 2709 = .ok (.goto 324, 3) := dk_167 1 68 (dk_at dksL_law_105 6 rfl rfl)
theorem dL_law_2712 : decode cL_law 2712 = .ok (.aload_n 1, 1) := dk_43 (dk_at dksL_law_105 9 rfl rfl)
theorem dL_law_2713 : decode cL_law 2713 = .ok (.aload_n 3, 1) := dk_45 (dk_at dksL_law_105 10 rfl rfl)
theorem dL_law_2714 : decode cL_law 2714 = .ok (.invokestatic 359, 3) := dk_184 1 103 (dk_at dksL_law_105 11 rfl rfl)
theorem dL_law_2717 : decode cL_law 2717 = .ok (.istore 6, 2) := dk_54 6 (dk_at dksL_law_105 14 rfl rfl)
theorem dL_law_2719 : decode cL_law 2719 = .ok (.aload_n 2, 1) := dk_44 (dk_at dksL_law_105 16 rfl rfl)
theorem dL_law_2720 : decode cL_law 2720 = .ok (.invokevirtual 361, 3) := dk_182 1 105 (dk_at dksL_law_105 17 rfl rfl)
theorem dL_law_2723 : decode cL_law 2723 = .ok (.istore 7, 2) := dk_54 7 (dk_at dksL_law_105 20 rfl rfl)
theorem dL_law_2725 : decode cL_law 2725 = .ok (.aload_n 2, 1) := dk_44 (dk_at dksL_law_105 22 rfl rfl)
theorem dL_law_2726 : decode cL_law 2726 = .ok (.invokevirtual 170, 3) := dk_182 0 170 (dk_at dksL_law_106 0 rfl rfl)
theorem dL_law_2729 : decode cL_law 2729 = .ok (.iload 6, 2) := dk_21 6 (dk_at dksL_law_106 3 rfl rfl)
theorem dL_law_2731 : decode cL_law 2731 = .ok (.if_icmp .eq 5, 3) := dk_159 0 5 (dk_at dksL_law_106 5 rfl rfl)
theorem dL_law_2734 : decode cL_law 2734 = .ok (.iconst 0, 1) := dk_3 (dk_at dksL_law_106 8 rfl rfl)
theorem dL_law_2735 : decode cL_law 2735 = .ok (.ireturn, 1) := dk_172 (dk_at dksL_law_106 9 rfl rfl)
theorem dL_law_2736 : decode cL_law 2736 = .ok (.iload 6, 2) := dk_21 6 (dk_at dksL_law_106 10 rfl rfl)
theorem dL_law_2738 : decode cL_law 2738 = .ok (.ifCond .ne 15, 3) := dk_154 0 15 (dk_at dksL_law_106 12 rfl rfl)
theorem dL_law_2741 : decode cL_law 2741 = .ok (.aload_n 3, 1) := dk_45 (dk_at dksL_law_106 15 rfl rfl)
theorem dL_law_2742 : decode cL_law 2742 = .ok (.iconst 0, 1) := dk_3 (dk_at dksL_law_106 16 rfl rfl)
theorem dL_law_2743 : decode cL_law 2743 = .ok (.laload, 1) := dk_47 (dk_at dksL_law_106 17 rfl rfl)
theorem dL_law_2744 : decode cL_law 2744 = .ok (.iload 7, 2) := dk_21 7 (dk_at dksL_law_106 18 rfl rfl)
theorem dL_law_2746 : decode cL_law 2746 = .ok (.i2l, 1) := dk_133 (dk_at dksL_law_106 20 rfl rfl)
theorem dL_law_2747 : decode cL_law 2747 = .ok (.lcmp, 1) := dk_148 (dk_at dksL_law_106 21 rfl rfl)
theorem dL_law_2748 : decode cL_law 2748 = .ok (.ifCond .eq 5, 3) := dk_153 0 5 (dk_at dksL_law_107 0 rfl rfl)
theorem dL_law_2751 : decode cL_law 2751 = .ok (.iconst 0, 1) := dk_3 (dk_at dksL_law_107 3 rfl rfl)
theorem dL_law_2752 : decode cL_law 2752 = .ok (.ireturn, 1) := dk_172 (dk_at dksL_law_107 4 rfl rfl)
theorem dL_law_2753 : decode cL_law 2753 = .ok (.goto 280, 3) := dk_167 1 24 (dk_at dksL_law_107 5 rfl rfl)
theorem dL_law_2756 : decode cL_law 2756 = .ok (.aload_n 1, 1) := dk_43 (dk_at dksL_law_107 8 rfl rfl)
theorem dL_law_2757 : decode cL_law 2757 = .ok (.aload_n 3, 1) := dk_45 (dk_at dksL_law_107 9 rfl rfl)
theorem dL_law_2758 : decode cL_law 2758 = .ok (.invokestatic 362, 3) := dk_184 1 106 (dk_at dksL_law_107 10 rfl rfl)
theorem dL_law_2761 : decode cL_law 2761 = .ok (.istore 6, 2) := dk_54 6 (dk_at dksL_law_107 13 rfl rfl)
theorem dL_law_2763 : decode cL_law 2763 = .ok (.aload_n 2, 1) := dk_44 (dk_at dksL_law_107 15 rfl rfl)
theorem dL_law_2764 : decode cL_law 2764 = .ok (.invokevirtual 364, 3) := dk_182 1 108 (dk_at dksL_law_107 16 rfl rfl)
theorem dL_law_2767 : decode cL_law 2767 = .ok (.istore 7, 2) := dk_54 7 (dk_at dksL_law_107 19 rfl rfl)
theorem dL_law_2769 : decode cL_law 2769 = .ok (.aload_n 2, 1) := dk_44 (dk_at dksL_law_107 21 rfl rfl)
theorem dL_law_2770 : decode cL_law 2770 = .ok (.invokevirtual 170, 3) := dk_182 0 170 (dk_at dksL_law_108 0 rfl rfl)
theorem dL_law_2773 : decode cL_law 2773 = .ok (.iload 6, 2) := dk_21 6 (dk_at dksL_law_108 3 rfl rfl)
theorem dL_law_2775 : decode cL_law 2775 = .ok (.if_icmp .eq 5, 3) := dk_159 0 5 (dk_at dksL_law_108 5 rfl rfl)
theorem dL_law_2778 : decode cL_law 2778 = .ok (.iconst 0, 1) := dk_3 (dk_at dksL_law_108 8 rfl rfl)
theorem dL_law_2779 : decode cL_law 2779 = .ok (.ireturn, 1) := dk_172 (dk_at dksL_law_108 9 rfl rfl)
theorem dL_law_2780 : decode cL_law 2780 = .ok (.iload 6, 2) := dk_21 6 (dk_at dksL_law_108 10 rfl rfl)
theorem dL_law_2782 : decode cL_law 2782 = .ok (.ifCond .ne 15, 3) := dk_154 0 15 (dk_at dksL_law_108 12 rfl rfl)
theorem dL_law_2785 : decode cL_law 2785 = .ok (.aload_n 3, 1) := dk_45 (dk_at dksL_law_108 15 rfl rfl)
theorem dL_law_2786 : decode cL_law 2786 = .ok (.iconst 0, 1) := dk_3 (dk_at dksL_law_108 16 rfl rfl)
theorem dL_law_2787 : decode cL_law 2787 = .ok (.laload, 1) := dk_47 (dk_at dksL_law_108 17 rfl rfl)
theorem dL_law_2788 : decode cL_law 2788 = .ok (.iload 7, 2) := dk_21 7 (dk_at dksL_law_108 18 rfl rfl)
theorem dL_law_2790 : decode cL_law 2790 = .ok (.i2l, 1) := dk_133 (dk_at dksL_law_108 20 rfl rfl)
theorem dL_law_2791 : decode cL_law 2791 = .ok (.lcmp, 1) := dk_148 (dk_at dksL_law_108 21 rfl rfl)
theorem dL_law_2792 : decode cL_law 2792 = .ok (.ifCond .eq 5, 3) := dk_153 0 5 (dk_at dksL_law_109 0 rfl rfl)
theorem dL_law_2795 : decode cL_law 2795 = .ok (.iconst 0, 1) := dk_3 (dk_at dksL_law_109 3 rfl rfl)
theorem dL_law_2796 : decode cL_law 2796 = .ok (.ireturn, 1) := dk_172 (dk_at dksL_law_109 4 rfl rfl)
theorem dL_law_2797 : decode cL_law 2797 = .ok (.goto 236, 3) := dk_167 0 236 (dk_at dksL_law_109 5 rfl rfl)
theorem dL_law_2800 : decode cL_law 2800 = .ok (.aload_n 1, 1) := dk_43 (dk_at dksL_law_109 8 rfl rfl)
theorem dL_law_2801 : decode cL_law 2801 = .ok (.aload_n 3, 1) := dk_45 (dk_at dksL_law_109 9 rfl rfl)
theorem dL_law_2802 : decode cL_law 2802 = .ok (.invokestatic 365, 3) := dk_184 1 109 (dk_at dksL_law_109 10 rfl rfl)
theorem dL_law_2805 : decode cL_law 2805 = .ok (.istore 6, 2) := dk_54 6 (dk_at dksL_law_109 13 rfl rfl)
theorem dL_law_2807 : decode cL_law 2807 = .ok (.aload_n 2, 1) := dk_44 (dk_at dksL_law_109 15 rfl rfl)
theorem dL_law_2808 : decode cL_law 2808 = .ok (.invokevirtual 367, 3) := dk_182 1 111 (dk_at dksL_law_109 16 rfl rfl)
theorem dL_law_2811 : decode cL_law 2811 = .ok (.istore 7, 2) := dk_54 7 (dk_at dksL_law_109 19 rfl rfl)
theorem dL_law_2813 : decode cL_law 2813 = .ok (.aload_n 2, 1) := dk_44 (dk_at dksL_law_109 21 rfl rfl)
theorem dL_law_2814 : decode cL_law 2814 = .ok (.invokevirtual 170, 3) := dk_182 0 170 (dk_at dksL_law_110 0 rfl rfl)
theorem dL_law_2817 : decode cL_law 2817 = .ok (.iload 6, 2) := dk_21 6 (dk_at dksL_law_110 3 rfl rfl)
theorem dL_law_2819 : decode cL_law 2819 = .ok (.if_icmp .eq 5, 3) := dk_159 0 5 (dk_at dksL_law_110 5 rfl rfl)
theorem dL_law_2822 : decode cL_law 2822 = .ok (.iconst 0, 1) := dk_3 (dk_at dksL_law_110 8 rfl rfl)
theorem dL_law_2823 : decode cL_law 2823 = .ok (.ireturn, 1) := dk_172 (dk_at dksL_law_110 9 rfl rfl)
theorem dL_law_2824 : decode cL_law 2824 = .ok (.iload 6, 2) := dk_21 6 (dk_at dksL_law_110 10 rfl rfl)
theorem dL_law_2826 : decode cL_law 2826 = .ok (.ifCond .ne 15, 3) := dk_154 0 15 (dk_at dksL_law_110 12 rfl rfl)
theorem dL_law_2829 : decode cL_law 2829 = .ok (.aload_n 3, 1) := dk_45 (dk_at dksL_law_110 15 rfl rfl)
theorem dL_law_2830 : decode cL_law 2830 = .ok (.iconst 0, 1) := dk_3 (dk_at dksL_law_110 16 rfl rfl)
theorem dL_law_2831 : decode cL_law 2831 = .ok (.laload, 1) := dk_47 (dk_at dksL_law_110 17 rfl rfl)
theorem dL_law_2832 : decode cL_law 2832 = .ok (.iload 7, 2) := dk_21 7 (dk_at dksL_law_110 18 rfl rfl)
theorem dL_law_2834 : decode cL_law 2834 = .ok (.i2l, 1) := dk_133 (dk_at dksL_law_110 20 rfl rfl)
theorem dL_law_2835 : decode cL_law 2835 = .ok (.lcmp, 1) := dk_148 (dk_at dksL_law_110 21 rfl rfl)
theorem dL_law_2836 : decode cL_law 2836 = .ok (.ifCond .eq 5, 3) := dk_153 0 5 (dk_at dksL_law_111 0 rfl rfl)
theorem dL_law_2839 : decode cL_law 2839 = .ok (.iconst 0, 1) := dk_3 (dk_at dksL_law_111 3 rfl rfl)
theorem dL_law_2840 : decode cL_law 2840 = .ok (.ireturn, 1) := dk_172 (dk_at dksL_law_111 4 rfl rfl)
theorem dL_law_2841 : decode cL_law 2841 = .ok (.goto 192, 3) := dk_167 0 192 (dk_at dksL_law_111 5 rfl rfl)
theorem dL_law_2844 : decode cL_law 2844 = .ok (.aload_n 1, 1) := dk_43 (dk_at dksL_law_111 8 rfl rfl)
theorem dL_law_2845 : decode cL_law 2845 = .ok (.aload_n 3, 1) := dk_45 (dk_at dksL_law_111 9 rfl rfl)
theorem dL_law_2846 : decode cL_law 2846 = .ok (.invokestatic 368, 3) := dk_184 1 112 (dk_at dksL_law_111 10 rfl rfl)
theorem dL_law_2849 : decode cL_law 2849 = .ok (.istore 6, 2) := dk_54 6 (dk_at dksL_law_111 13 rfl rfl)
theorem dL_law_2851 : decode cL_law 2851 = .ok (.aload_n 2, 1) := dk_44 (dk_at dksL_law_111 15 rfl rfl)
theorem dL_law_2852 : decode cL_law 2852 = .ok (.invokevirtual 370, 3) := dk_182 1 114 (dk_at dksL_law_111 16 rfl rfl)
theorem dL_law_2855 : decode cL_law 2855 = .ok (.istore 7, 2) := dk_54 7 (dk_at dksL_law_111 19 rfl rfl)
theorem dL_law_2857 : decode cL_law 2857 = .ok (.aload_n 2, 1) := dk_44 (dk_at dksL_law_111 21 rfl rfl)
theorem dL_law_2858 : decode cL_law 2858 = .ok (.invokevirtual 170, 3) := dk_182 0 170 (dk_at dksL_law_112 0 rfl rfl)
theorem dL_law_2861 : decode cL_law 2861 = .ok (.iload 6, 2) := dk_21 6 (dk_at dksL_law_112 3 rfl rfl)
theorem dL_law_2863 : decode cL_law 2863 = .ok (.if_icmp .eq 5, 3) := dk_159 0 5 (dk_at dksL_law_112 5 rfl rfl)
theorem dL_law_2866 : decode cL_law 2866 = .ok (.iconst 0, 1) := dk_3 (dk_at dksL_law_112 8 rfl rfl)
theorem dL_law_2867 : decode cL_law 2867 = .ok (.ireturn, 1) := dk_172 (dk_at dksL_law_112 9 rfl rfl)
theorem dL_law_2868 : decode cL_law 2868 = .ok (.iload 6, 2) := dk_21 6 (dk_at dksL_law_112 10 rfl rfl)
theorem dL_law_2870 : decode cL_law 2870 = .ok (.ifCond .ne 15, 3) := dk_154 0 15 (dk_at dksL_law_112 12 rfl rfl)
theorem dL_law_2873 : decode cL_law 2873 = .ok (.aload_n 3, 1) := dk_45 (dk_at dksL_law_112 15 rfl rfl)
theorem dL_law_2874 : decode cL_law 2874 = .ok (.iconst 0, 1) := dk_3 (dk_at dksL_law_112 16 rfl rfl)
theorem dL_law_2875 : decode cL_law 2875 = .ok (.laload, 1) := dk_47 (dk_at dksL_law_112 17 rfl rfl)
theorem dL_law_2876 : decode cL_law 2876 = .ok (.iload 7, 2) := dk_21 7 (dk_at dksL_law_112 18 rfl rfl)
theorem dL_law_2878 : decode cL_law 2878 = .ok (.i2l, 1) := dk_133 (dk_at dksL_law_112 20 rfl rfl)
theorem dL_law_2879 : decode cL_law 2879 = .ok (.lcmp, 1) := dk_148 (dk_at dksL_law_112 21 rfl rfl)
theorem dL_law_2880 : decode cL_law 2880 = .ok (.ifCond .eq 5, 3) := dk_153 0 5 (dk_at dksL_law_113 0 rfl rfl)
theorem dL_law_2883 : decode cL_law 2883 = .ok (.iconst 0, 1) := dk_3 (dk_at dksL_law_113 3 rfl rfl)
theorem dL_law_2884 : decode cL_law 2884 = .ok (.ireturn, 1) := dk_172 (dk_at dksL_law_113 4 rfl rfl)
theorem dL_law_2885 : decode cL_law 2885 = .ok (.goto 148, 3) := dk_167 0 148 (dk_at dksL_law_113 5 rfl rfl)
theorem dL_law_2888 : decode cL_law 2888 = .ok (.aload_n 1, 1) := dk_43 (dk_at dksL_law_113 8 rfl rfl)
theorem dL_law_2889 : decode cL_law 2889 = .ok (.aload_n 3, 1) := dk_45 (dk_at dksL_law_113 9 rfl rfl)
theorem dL_law_2890 : decode cL_law 2890 = .ok (.invokestatic 371, 3) := dk_184 1 115 (dk_at dksL_law_113 10 rfl rfl)
theorem dL_law_2893 : decode cL_law 2893 = .ok (.istore 6, 2) := dk_54 6 (dk_at dksL_law_113 13 rfl rfl)
theorem dL_law_2895 : decode cL_law 2895 = .ok (.aload_n 2, 1) := dk_44 (dk_at dksL_law_113 15 rfl rfl)
theorem dL_law_2896 : decode cL_law 2896 = .ok (.invokevirtual 373, 3) := dk_182 1 117 (dk_at dksL_law_113 16 rfl rfl)
theorem dL_law_2899 : decode cL_law 2899 = .ok (.istore 7, 2) := dk_54 7 (dk_at dksL_law_113 19 rfl rfl)
theorem dL_law_2901 : decode cL_law 2901 = .ok (.aload_n 2, 1) := dk_44 (dk_at dksL_law_113 21 rfl rfl)
theorem dL_law_2902 : decode cL_law 2902 = .ok (.invokevirtual 170, 3) := dk_182 0 170 (dk_at dksL_law_114 0 rfl rfl)
theorem dL_law_2905 : decode cL_law 2905 = .ok (.iload 6, 2) := dk_21 6 (dk_at dksL_law_114 3 rfl rfl)
theorem dL_law_2907 : decode cL_law 2907 = .ok (.if_icmp .eq 5, 3) := dk_159 0 5 (dk_at dksL_law_114 5 rfl rfl)
theorem dL_law_2910 : decode cL_law 2910 = .ok (.iconst 0, 1) := dk_3 (dk_at dksL_law_114 8 rfl rfl)
theorem dL_law_2911 : decode cL_law 2911 = .ok (.ireturn, 1) := dk_172 (dk_at dksL_law_114 9 rfl rfl)
theorem dL_law_2912 : decode cL_law 2912 = .ok (.iload 6, 2) := dk_21 6 (dk_at dksL_law_114 10 rfl rfl)
theorem dL_law_2914 : decode cL_law 2914 = .ok (.ifCond .ne 15, 3) := dk_154 0 15 (dk_at dksL_law_114 12 rfl rfl)
theorem dL_law_2917 : decode cL_law 2917 = .ok (.aload_n 3, 1) := dk_45 (dk_at dksL_law_114 15 rfl rfl)
theorem dL_law_2918 : decode cL_law 2918 = .ok (.iconst 0, 1) := dk_3 (dk_at dksL_law_114 16 rfl rfl)
theorem dL_law_2919 : decode cL_law 2919 = .ok (.laload, 1) := dk_47 (dk_at dksL_law_114 17 rfl rfl)
theorem dL_law_2920 : decode cL_law 2920 = .ok (.iload 7, 2) := dk_21 7 (dk_at dksL_law_114 18 rfl rfl)
theorem dL_law_2922 : decode cL_law 2922 = .ok (.i2l, 1) := dk_133 (dk_at dksL_law_114 20 rfl rfl)
theorem dL_law_2923 : decode cL_law 2923 = .ok (.lcmp, 1) := dk_148 (dk_at dksL_law_114 21 rfl rfl)
theorem dL_law_2924 : decode cL_law 2924 = .ok (.ifCond .eq 5, 3) := dk_153 0 5 (dk_at dksL_law_115 0 rfl rfl)
theorem dL_law_2927 : decode cL_law 2927 = .ok (.iconst 0, 1) := dk_3 (dk_at dksL_law_115 3 rfl rfl)
theorem dL_law_2928 : decode cL_law 2928 = .ok (.ireturn, 1) := dk_172 (dk_at dksL_law_115 4 rfl rfl)
theorem dL_law_2929 : decode cL_law 2929 = .ok (.goto 104, 3) := dk_167 0 104 (dk_at dksL_law_115 5 rfl rfl)
theorem dL_law_2932 : decode cL_law 2932 = .ok (.aload_n 1, 1) := dk_43 (dk_at dksL_law_115 8 rfl rfl)
theorem dL_law_2933 : decode cL_law 2933 = .ok (.aload_n 3, 1) := dk_45 (dk_at dksL_law_115 9 rfl rfl)
theorem dL_law_2934 : decode cL_law 2934 = .ok (.invokestatic 374, 3) := dk_184 1 118 (dk_at dksL_law_115 10 rfl rfl)
theorem dL_law_2937 : decode cL_law 2937 = .ok (.istore 6, 2) := dk_54 6 (dk_at dksL_law_115 13 rfl rfl)
theorem dL_law_2939 : decode cL_law 2939 = .ok (.aload_n 2, 1) := dk_44 (dk_at dksL_law_115 15 rfl rfl)
theorem dL_law_2940 : decode cL_law 2940 = .ok (.invokevirtual 376, 3) := dk_182 1 120 (dk_at dksL_law_115 16 rfl rfl)
theorem dL_law_2943 : decode cL_law 2943 = .ok (.istore 7, 2) := dk_54 7 (dk_at dksL_law_115 19 rfl rfl)
theorem dL_law_2945 : decode cL_law 2945 = .ok (.aload_n 2, 1) := dk_44 (dk_at dksL_law_115 21 rfl rfl)
theorem dL_law_2946 : decode cL_law 2946 = .ok (.invokevirtual 170, 3) := dk_182 0 170 (dk_at dksL_law_116 0 rfl rfl)
theorem dL_law_2949 : decode cL_law 2949 = .ok (.iload 6, 2) := dk_21 6 (dk_at dksL_law_116 3 rfl rfl)
theorem dL_law_2951 : decode cL_law 2951 = .ok (.if_icmp .eq 5, 3) := dk_159 0 5 (dk_at dksL_law_116 5 rfl rfl)
theorem dL_law_2954 : decode cL_law 2954 = .ok (.iconst 0, 1) := dk_3 (dk_at dksL_law_116 8 rfl rfl)
theorem dL_law_2955 : decode cL_law 2955 = .ok (.ireturn, 1) := dk_172 (dk_at dksL_law_116 9 rfl rfl)
theorem dL_law_2956 : decode cL_law 2956 = .ok (.iload 6, 2) := dk_21 6 (dk_at dksL_law_116 10 rfl rfl)
theorem dL_law_2958 : decode cL_law 2958 = .ok (.ifCond .ne 15, 3) := dk_154 0 15 (dk_at dksL_law_116 12 rfl rfl)
theorem dL_law_2961 : decode cL_law 2961 = .ok (.aload_n 3, 1) := dk_45 (dk_at dksL_law_116 15 rfl rfl)
theorem dL_law_2962 : decode cL_law 2962 = .ok (.iconst 0, 1) := dk_3 (dk_at dksL_law_116 16 rfl rfl)
theorem dL_law_2963 : decode cL_law 2963 = .ok (.laload, 1) := dk_47 (dk_at dksL_law_116 17 rfl rfl)
theorem dL_law_2964 : decode cL_law 2964 = .ok (.iload 7, 2) := dk_21 7 (dk_at dksL_law_116 18 rfl rfl)
theorem dL_law_2966 : decode cL_law 2966 = .ok (.i2l, 1) := dk_133 (dk_at dksL_law_116 20 rfl rfl)
theorem dL_law_2967 : decode cL_law 2967 = .ok (.lcmp, 1) := dk_148 (dk_at dksL_law_116 21 rfl rfl)
theorem dL_law_2968 : decode cL_law 2968 = .ok (.ifCond .eq 5, 3) := dk_153 0 5 (dk_at dksL_law_117 0 rfl rfl)
theorem dL_law_2971 : decode cL_law 2971 = .ok (.iconst 0, 1) := dk_3 (dk_at dksL_law_117 3 rfl rfl)
theorem dL_law_2972 : decode cL_law 2972 = .ok (.ireturn, 1) := dk_172 (dk_at dksL_law_117 4 rfl rfl)
theorem dL_law_2973 : decode cL_law 2973 = .ok (.goto 60, 3) := dk_167 0 60 (dk_at dksL_law_117 5 rfl rfl)
theorem dL_law_2976 : decode cL_law 2976 = .ok (.aload_n 1, 1) := dk_43 (dk_at dksL_law_117 8 rfl rfl)
theorem dL_law_2977 : decode cL_law 2977 = .ok (.invokevirtual 377, 3) := dk_182 1 121 (dk_at dksL_law_117 9 rfl rfl)
theorem dL_law_2980 : decode cL_law 2980 = .ok (.aload_n 2, 1) := dk_44 (dk_at dksL_law_117 12 rfl rfl)
theorem dL_law_2981 : decode cL_law 2981 = .ok (.invokevirtual 380, 3) := dk_182 1 124 (dk_at dksL_law_117 13 rfl rfl)
theorem dL_law_2984 : decode cL_law 2984 = .ok (.if_icmp .eq 49, 3) := dk_159 0 49 (dk_at dksL_law_117 16 rfl rfl)
theorem dL_law_2987 : decode cL_law 2987 = .ok (.iconst 0, 1) := dk_3 (dk_at dksL_law_117 19 rfl rfl)
theorem dL_law_2988 : decode cL_law 2988 = .ok (.ireturn, 1) := dk_172 (dk_at dksL_law_117 20 rfl rfl)
theorem dL_law_2989 : decode cL_law 2989 = .ok (.aload_n 1, 1) := dk_43 (dk_at dksL_law_117 21 rfl rfl)
theorem dL_law_2990 : decode cL_law 2990 = .ok (.aload_n 3, 1) := dk_45 (dk_at dksL_law_117 22 rfl rfl)
theorem dL_law_2991 : decode cL_law 2991 = .ok (.invokestatic 381, 3) := dk_184 1 125 (dk_at dksL_law_118 0 rfl rfl)
theorem dL_law_2994 : decode cL_law 2994 = .ok (.istore 6, 2) := dk_54 6 (dk_at dksL_law_118 3 rfl rfl)
theorem dL_law_2996 : decode cL_law 2996 = .ok (.aload_n 2, 1) := dk_44 (dk_at dksL_law_118 5 rfl rfl)
theorem dL_law_2997 : decode cL_law 2997 = .ok (.invokevirtual 383, 3) := dk_182 1 127 (dk_at dksL_law_118 6 rfl rfl)
theorem dL_law_3000 : decode cL_law 3000 = .ok (.istore 7, 2) := dk_54 7 (dk_at dksL_law_118 9 rfl rfl)
theorem dL_law_3002 : decode cL_law 3002 = .ok (.aload_n 2, 1) := dk_44 (dk_at dksL_law_118 11 rfl rfl)
theorem dL_law_3003 : decode cL_law 3003 = .ok (.invokevirtual 170, 3) := dk_182 0 170 (dk_at dksL_law_118 12 rfl rfl)
theorem dL_law_3006 : decode cL_law 3006 = .ok (.iload 6, 2) := dk_21 6 (dk_at dksL_law_118 15 rfl rfl)
theorem dL_law_3008 : decode cL_law 3008 = .ok (.if_icmp .eq 5, 3) := dk_159 0 5 (dk_at dksL_law_118 17 rfl rfl)
theorem dL_law_3011 : decode cL_law 3011 = .ok (.iconst 0, 1) := dk_3 (dk_at dksL_law_118 20 rfl rfl)
theorem dL_law_3012 : decode cL_law 3012 = .ok (.ireturn, 1) := dk_172 (dk_at dksL_law_118 21 rfl rfl)
theorem dL_law_3013 : decode cL_law 3013 = .ok (.iload 6, 2) := dk_21 6 (dk_at dksL_law_118 22 rfl rfl)
theorem dL_law_3015 : decode cL_law 3015 = .ok (.ifCond .ne 15, 3) := dk_154 0 15 (dk_at dksL_law_119 0 rfl rfl)
theorem dL_law_3018 : decode cL_law 3018 = .ok (.aload_n 3, 1) := dk_45 (dk_at dksL_law_119 3 rfl rfl)
theorem dL_law_3019 : decode cL_law 3019 = .ok (.iconst 0, 1) := dk_3 (dk_at dksL_law_119 4 rfl rfl)
theorem dL_law_3020 : decode cL_law 3020 = .ok (.laload, 1) := dk_47 (dk_at dksL_law_119 5 rfl rfl)
theorem dL_law_3021 : decode cL_law 3021 = .ok (.iload 7, 2) := dk_21 7 (dk_at dksL_law_119 6 rfl rfl)
theorem dL_law_3023 : decode cL_law 3023 = .ok (.i2l, 1) := dk_133 (dk_at dksL_law_119 8 rfl rfl)
theorem dL_law_3024 : decode cL_law 3024 = .ok (.lcmp, 1) := dk_148 (dk_at dksL_law_119 9 rfl rfl)
theorem dL_law_3025 : decode cL_law 3025 = .ok (.ifCond .eq 5, 3) := dk_153 0 5 (dk_at dksL_law_119 10 rfl rfl)
theorem dL_law_3028 : decode cL_law 3028 = .ok (.iconst 0, 1) := dk_3 (dk_at dksL_law_119 13 rfl rfl)
theorem dL_law_3029 : decode cL_law 3029 = .ok (.ireturn, 1) := dk_172 (dk_at dksL_law_119 14 rfl rfl)
theorem dL_law_3030 : decode cL_law 3030 = .ok (.goto 3, 3) := dk_167 0 3 (dk_at dksL_law_119 15 rfl rfl)
theorem dL_law_3033 : decode cL_law 3033 = .ok (.iinc 5 4, 3) := dk_132 5 4 (dk_at dksL_law_119 18 rfl rfl)
theorem dL_law_3036 : decode cL_law 3036 = .ok (.goto (-3008), 3) := dk_167 244 64 (dk_at dksL_law_119 21 rfl rfl)
theorem dL_law_3039 : decode cL_law 3039 = .ok (.iconst 1, 1) := dk_4 (dk_at dksL_law_120 0 rfl rfl)
theorem dL_law_3040 : decode cL_law 3040 = .ok (.ireturn, 1) := dk_172 (dk_at dksL_law_120 1 rfl rfl)
