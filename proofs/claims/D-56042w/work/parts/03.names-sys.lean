set_option maxRecDepth 100000
/-! WindFarmDispatcher -/
def RX1 : String := "WindFarmDispatcher"
def TX1 : u_T := fun k => match k with
  | 0 => ("WindFarmDispatcher", "farm", "LWindFarmDispatcher$Farm;", false)
  | 1 => ("WindFarmDispatcher", "snapshot", "LWindFarmDispatcher$Farm;", false)
  | 2 => ("WindFarmDispatcher", "history", "Ljava/util/ArrayList;", true)
  | 3 => ("WindFarmDispatcher", "input", "Ljava/lang/StringBuilder;", true)
  | 4 => ("WindFarmDispatcher", "output", "Ljava/lang/String;", false)
  | 5 => ("WindFarmDispatcher", "syntaxError", "LWindFarmDispatcher$SyntaxError;", false)
  | _ => ("WindFarmDispatcher", "rejection", "LWindFarmDispatcher$Rejection;", false)
def tyX1 : Nat → FieldType := fun k => match k with
  | 0 => .object "WindFarmDispatcher$Farm"
  | 1 => .object "WindFarmDispatcher$Farm"
  | 2 => .object "java/util/ArrayList"
  | 3 => .object "java/lang/StringBuilder"
  | 4 => .object "java/lang/String"
  | 5 => .object "WindFarmDispatcher$SyntaxError"
  | _ => .object "WindFarmDispatcher$Rejection"
abbrev wsX10 : List Cond := u_ws RX1 TX1 7
theorem nmX1 : ∀ a, a < 7 → ∀ b, b < 7 → a ≠ b → (TX1 a).2.1 ≠ (TX1 b).2.1 := by decide +kernel
theorem tyX1_ok : ∀ k, k < 7 → parseFieldDescriptor (TX1 k).2.2.1 = some (tyX1 k) := by decide +kernel
abbrev cX1_init : ByteArray := prog_1_method_22_code
def yX1_init : MethodName := ⟨RX1, "<init>", "()V"⟩
def dkwX1_init_1 : List UInt8 := [181, 0, 82, 42, 187, 0, 86, 89, 183, 0, 88, 181, 0, 89, 42, 18, 93, 181, 0, 95, 177]
abbrev dktX1_init_1 : List UInt8 := dkwX1_init_1 ++ []
def dkwX1_init_0 : List UInt8 := [42, 183, 0, 71, 42, 187, 0, 74, 89, 183, 0, 76, 181, 0, 77, 42, 187, 0, 49, 89, 183, 0, 81]
abbrev dktX1_init_0 : List UInt8 := dkwX1_init_0 ++ dktX1_init_1
theorem dksX1_init_0 : cX1_init.data.toList.drop 0 = dktX1_init_0 := by decide +kernel
theorem dksX1_init_1 : cX1_init.data.toList.drop 23 = dktX1_init_1 := dk_seg dksX1_init_0 23 rfl rfl
theorem dX1_init_0 : decode cX1_init 0 = .ok (.aload_n 0, 1) := dk_42 (dk_at dksX1_init_0 0 rfl rfl)
theorem dX1_init_1 : decode cX1_init 1 = .ok (.invokespecial 71, 3) := dk_183 0 71 (dk_at dksX1_init_0 1 rfl rfl)
theorem dX1_init_4 : decode cX1_init 4 = .ok (.aload_n 0, 1) := dk_42 (dk_at dksX1_init_0 4 rfl rfl)
theorem dX1_init_5 : decode cX1_init 5 = .ok (.new 74, 3) := dk_187 0 74 (dk_at dksX1_init_0 5 rfl rfl)
theorem dX1_init_8 : decode cX1_init 8 = .ok (.dup, 1) := dk_89 (dk_at dksX1_init_0 8 rfl rfl)
theorem dX1_init_9 : decode cX1_init 9 = .ok (.invokespecial 76, 3) := dk_183 0 76 (dk_at dksX1_init_0 9 rfl rfl)
theorem dX1_init_12 : decode cX1_init 12 = .ok (.putfield 77, 3) := dk_181 0 77 (dk_at dksX1_init_0 12 rfl rfl)
theorem dX1_init_15 : decode cX1_init 15 = .ok (.aload_n 0, 1) := dk_42 (dk_at dksX1_init_0 15 rfl rfl)
theorem dX1_init_16 : decode cX1_init 16 = .ok (.new 49, 3) := dk_187 0 49 (dk_at dksX1_init_0 16 rfl rfl)
theorem dX1_init_19 : decode cX1_init 19 = .ok (.dup, 1) := dk_89 (dk_at dksX1_init_0 19 rfl rfl)
theorem dX1_init_20 : decode cX1_init 20 = .ok (.invokespecial 81, 3) := dk_183 0 81 (dk_at dksX1_init_0 20 rfl rfl)
theorem dX1_init_23 : decode cX1_init 23 = .ok (.putfield 82, 3) := dk_181 0 82 (dk_at dksX1_init_1 0 rfl rfl)
theorem dX1_init_26 : decode cX1_init 26 = .ok (.aload_n 0, 1) := dk_42 (dk_at dksX1_init_1 3 rfl rfl)
theorem dX1_init_27 : decode cX1_init 27 = .ok (.new 86, 3) := dk_187 0 86 (dk_at dksX1_init_1 4 rfl rfl)
theorem dX1_init_30 : decode cX1_init 30 = .ok (.dup, 1) := dk_89 (dk_at dksX1_init_1 7 rfl rfl)
theorem dX1_init_31 : decode cX1_init 31 = .ok (.invokespecial 88, 3) := dk_183 0 88 (dk_at dksX1_init_1 8 rfl rfl)
theorem dX1_init_34 : decode cX1_init 34 = .ok (.putfield 89, 3) := dk_181 0 89 (dk_at dksX1_init_1 11 rfl rfl)
theorem dX1_init_37 : decode cX1_init 37 = .ok (.aload_n 0, 1) := dk_42 (dk_at dksX1_init_1 14 rfl rfl)
theorem dX1_init_38 : decode cX1_init 38 = .ok (.ldc 93, 2) := dk_18 93 (dk_at dksX1_init_1 15 rfl rfl)
theorem dX1_init_40 : decode cX1_init 40 = .ok (.putfield 95, 3) := dk_181 0 95 (dk_at dksX1_init_1 17 rfl rfl)
theorem dX1_init_43 : decode cX1_init 43 = .ok (.return_, 1) := dk_177 (dk_at dksX1_init_1 20 rfl rfl)
abbrev cX1_turbineCount : ByteArray := prog_1_method_36_code
def yX1_turbineCount : MethodName := ⟨RX1, "turbineCount", "()I"⟩
def dkwX1_turbineCount_0 : List UInt8 := [42, 180, 0, 77, 180, 0, 131, 182, 0, 48, 172]
abbrev dktX1_turbineCount_0 : List UInt8 := dkwX1_turbineCount_0 ++ []
theorem dksX1_turbineCount_0 : cX1_turbineCount.data.toList.drop 0 = dktX1_turbineCount_0 := by decide +kernel
theorem dX1_turbineCount_0 : decode cX1_turbineCount 0 = .ok (.aload_n 0, 1) := dk_42 (dk_at dksX1_turbineCount_0 0 rfl rfl)
theorem dX1_turbineCount_1 : decode cX1_turbineCount 1 = .ok (.getfield 77, 3) := dk_180 0 77 (dk_at dksX1_turbineCount_0 1 rfl rfl)
theorem dX1_turbineCount_4 : decode cX1_turbineCount 4 = .ok (.getfield 131, 3) := dk_180 0 131 (dk_at dksX1_turbineCount_0 4 rfl rfl)
theorem dX1_turbineCount_7 : decode cX1_turbineCount 7 = .ok (.invokevirtual 48, 3) := dk_182 0 48 (dk_at dksX1_turbineCount_0 7 rfl rfl)
theorem dX1_turbineCount_10 : decode cX1_turbineCount 10 = .ok (.ireturn, 1) := dk_172 (dk_at dksX1_turbineCount_0 10 rfl rfl)
abbrev cX1_freeCrews : ByteArray := prog_1_method_46_code
def yX1_freeCrews : MethodName := ⟨RX1, "freeCrews", "()I"⟩
def dkwX1_freeCrews_0 : List UInt8 := [5, 42, 180, 0, 77, 182, 0, 217, 100, 172]
abbrev dktX1_freeCrews_0 : List UInt8 := dkwX1_freeCrews_0 ++ []
theorem dksX1_freeCrews_0 : cX1_freeCrews.data.toList.drop 0 = dktX1_freeCrews_0 := by decide +kernel
theorem dX1_freeCrews_0 : decode cX1_freeCrews 0 = .ok (.iconst 2, 1) := dk_5 (dk_at dksX1_freeCrews_0 0 rfl rfl)
theorem dX1_freeCrews_1 : decode cX1_freeCrews 1 = .ok (.aload_n 0, 1) := dk_42 (dk_at dksX1_freeCrews_0 1 rfl rfl)
theorem dX1_freeCrews_2 : decode cX1_freeCrews 2 = .ok (.getfield 77, 3) := dk_180 0 77 (dk_at dksX1_freeCrews_0 2 rfl rfl)
theorem dX1_freeCrews_5 : decode cX1_freeCrews 5 = .ok (.invokevirtual 217, 3) := dk_182 0 217 (dk_at dksX1_freeCrews_0 5 rfl rfl)
theorem dX1_freeCrews_8 : decode cX1_freeCrews 8 = .ok (.isub, 1) := dk_100 (dk_at dksX1_freeCrews_0 8 rfl rfl)
theorem dX1_freeCrews_9 : decode cX1_freeCrews 9 = .ok (.ireturn, 1) := dk_172 (dk_at dksX1_freeCrews_0 9 rfl rfl)
abbrev cX1_asInt : ByteArray := prog_1_method_11_code
def yX1_asInt : MethodName := ⟨RX1, "asInt", "(Z)I"⟩
def dkwX1_asInt_0 : List UInt8 := [26, 153, 0, 7, 4, 167, 0, 4, 3, 172]
abbrev dktX1_asInt_0 : List UInt8 := dkwX1_asInt_0 ++ []
theorem dksX1_asInt_0 : cX1_asInt.data.toList.drop 0 = dktX1_asInt_0 := by decide +kernel
theorem dX1_asInt_0 : decode cX1_asInt 0 = .ok (.iload_n 0, 1) := dk_26 (dk_at dksX1_asInt_0 0 rfl rfl)
theorem dX1_asInt_1 : decode cX1_asInt 1 = .ok (.ifCond .eq 7, 3) := dk_153 0 7 (dk_at dksX1_asInt_0 1 rfl rfl)
theorem dX1_asInt_4 : decode cX1_asInt 4 = .ok (.iconst 1, 1) := dk_4 (dk_at dksX1_asInt_0 4 rfl rfl)
theorem dX1_asInt_5 : decode cX1_asInt 5 = .ok (.goto 4, 3) := dk_167 0 4 (dk_at dksX1_asInt_0 5 rfl rfl)
theorem dX1_asInt_8 : decode cX1_asInt 8 = .ok (.iconst 0, 1) := dk_3 (dk_at dksX1_asInt_0 8 rfl rfl)
theorem dX1_asInt_9 : decode cX1_asInt 9 = .ok (.ireturn, 1) := dk_172 (dk_at dksX1_asInt_0 9 rfl rfl)
abbrev cX1_windDirection : ByteArray := prog_1_method_48_code
def yX1_windDirection : MethodName := ⟨RX1, "windDirection", "()C"⟩
def dkwX1_windDirection_0 : List UInt8 := [42, 180, 0, 77, 180, 0, 227, 182, 0, 36, 172]
abbrev dktX1_windDirection_0 : List UInt8 := dkwX1_windDirection_0 ++ []
theorem dksX1_windDirection_0 : cX1_windDirection.data.toList.drop 0 = dktX1_windDirection_0 := by decide +kernel
theorem dX1_windDirection_0 : decode cX1_windDirection 0 = .ok (.aload_n 0, 1) := dk_42 (dk_at dksX1_windDirection_0 0 rfl rfl)
theorem dX1_windDirection_1 : decode cX1_windDirection 1 = .ok (.getfield 77, 3) := dk_180 0 77 (dk_at dksX1_windDirection_0 1 rfl rfl)
theorem dX1_windDirection_4 : decode cX1_windDirection 4 = .ok (.getfield 227, 3) := dk_180 0 227 (dk_at dksX1_windDirection_0 4 rfl rfl)
theorem dX1_windDirection_7 : decode cX1_windDirection 7 = .ok (.invokevirtual 36, 3) := dk_182 0 36 (dk_at dksX1_windDirection_0 7 rfl rfl)
theorem dX1_windDirection_10 : decode cX1_windDirection 10 = .ok (.ireturn, 1) := dk_172 (dk_at dksX1_windDirection_0 10 rfl rfl)
abbrev cX1_windSpeed : ByteArray := prog_1_method_49_code
def yX1_windSpeed : MethodName := ⟨RX1, "windSpeed", "()I"⟩
def dkwX1_windSpeed_0 : List UInt8 := [42, 180, 0, 77, 180, 0, 231, 172]
abbrev dktX1_windSpeed_0 : List UInt8 := dkwX1_windSpeed_0 ++ []
theorem dksX1_windSpeed_0 : cX1_windSpeed.data.toList.drop 0 = dktX1_windSpeed_0 := by decide +kernel
theorem dX1_windSpeed_0 : decode cX1_windSpeed 0 = .ok (.aload_n 0, 1) := dk_42 (dk_at dksX1_windSpeed_0 0 rfl rfl)
theorem dX1_windSpeed_1 : decode cX1_windSpeed 1 = .ok (.getfield 77, 3) := dk_180 0 77 (dk_at dksX1_windSpeed_0 1 rfl rfl)
theorem dX1_windSpeed_4 : decode cX1_windSpeed 4 = .ok (.getfield 231, 3) := dk_180 0 231 (dk_at dksX1_windSpeed_0 4 rfl rfl)
theorem dX1_windSpeed_7 : decode cX1_windSpeed 7 = .ok (.ireturn, 1) := dk_172 (dk_at dksX1_windSpeed_0 7 rfl rfl)
abbrev cX1_powerFactor : ByteArray := prog_1_method_50_code
def yX1_powerFactor : MethodName := ⟨RX1, "powerFactor", "()I"⟩
def dkwX1_powerFactor_0 : List UInt8 := [42, 180, 0, 77, 180, 0, 231, 184, 0, 234, 172]
abbrev dktX1_powerFactor_0 : List UInt8 := dkwX1_powerFactor_0 ++ []
theorem dksX1_powerFactor_0 : cX1_powerFactor.data.toList.drop 0 = dktX1_powerFactor_0 := by decide +kernel
theorem dX1_powerFactor_0 : decode cX1_powerFactor 0 = .ok (.aload_n 0, 1) := dk_42 (dk_at dksX1_powerFactor_0 0 rfl rfl)
theorem dX1_powerFactor_1 : decode cX1_powerFactor 1 = .ok (.getfield 77, 3) := dk_180 0 77 (dk_at dksX1_powerFactor_0 1 rfl rfl)
theorem dX1_powerFactor_4 : decode cX1_powerFactor 4 = .ok (.getfield 231, 3) := dk_180 0 231 (dk_at dksX1_powerFactor_0 4 rfl rfl)
theorem dX1_powerFactor_7 : decode cX1_powerFactor 7 = .ok (.invokestatic 234, 3) := dk_184 0 234 (dk_at dksX1_powerFactor_0 7 rfl rfl)
theorem dX1_powerFactor_10 : decode cX1_powerFactor 10 = .ok (.ireturn, 1) := dk_172 (dk_at dksX1_powerFactor_0 10 rfl rfl)
abbrev cX1_factorFor : ByteArray := prog_1_method_20_code
def yX1_factorFor : MethodName := ⟨RX1, "factorFor", "(I)I"⟩
def dkwX1_factorFor_1 : List UInt8 := [162, 0, 7, 8, 167, 0, 16, 26, 16, 12, 162, 0, 8, 16, 8, 167, 0, 5, 16, 10, 172]
abbrev dktX1_factorFor_1 : List UInt8 := dkwX1_factorFor_1 ++ []
def dkwX1_factorFor_0 : List UInt8 := [26, 6, 161, 0, 9, 26, 16, 22, 164, 0, 5, 3, 172, 26, 8, 162, 0, 5, 5, 172, 26, 16, 8]
abbrev dktX1_factorFor_0 : List UInt8 := dkwX1_factorFor_0 ++ dktX1_factorFor_1
theorem dksX1_factorFor_0 : cX1_factorFor.data.toList.drop 0 = dktX1_factorFor_0 := by decide +kernel
theorem dksX1_factorFor_1 : cX1_factorFor.data.toList.drop 23 = dktX1_factorFor_1 := dk_seg dksX1_factorFor_0 23 rfl rfl
theorem dX1_factorFor_0 : decode cX1_factorFor 0 = .ok (.iload_n 0, 1) := dk_26 (dk_at dksX1_factorFor_0 0 rfl rfl)
theorem dX1_factorFor_1 : decode cX1_factorFor 1 = .ok (.iconst 3, 1) := dk_6 (dk_at dksX1_factorFor_0 1 rfl rfl)
theorem dX1_factorFor_2 : decode cX1_factorFor 2 = .ok (.if_icmp .lt 9, 3) := dk_161 0 9 (dk_at dksX1_factorFor_0 2 rfl rfl)
theorem dX1_factorFor_5 : decode cX1_factorFor 5 = .ok (.iload_n 0, 1) := dk_26 (dk_at dksX1_factorFor_0 5 rfl rfl)
theorem dX1_factorFor_6 : decode cX1_factorFor 6 = .ok (.bipush 22, 2) := dk_16 22 (dk_at dksX1_factorFor_0 6 rfl rfl)
theorem dX1_factorFor_8 : decode cX1_factorFor 8 = .ok (.if_icmp .le 5, 3) := dk_164 0 5 (dk_at dksX1_factorFor_0 8 rfl rfl)
theorem dX1_factorFor_11 : decode cX1_factorFor 11 = .ok (.iconst 0, 1) := dk_3 (dk_at dksX1_factorFor_0 11 rfl rfl)
theorem dX1_factorFor_12 : decode cX1_factorFor 12 = .ok (.ireturn, 1) := dk_172 (dk_at dksX1_factorFor_0 12 rfl rfl)
theorem dX1_factorFor_13 : decode cX1_factorFor 13 = .ok (.iload_n 0, 1) := dk_26 (dk_at dksX1_factorFor_0 13 rfl rfl)
theorem dX1_factorFor_14 : decode cX1_factorFor 14 = .ok (.iconst 5, 1) := dk_8 (dk_at dksX1_factorFor_0 14 rfl rfl)
theorem dX1_factorFor_15 : decode cX1_factorFor 15 = .ok (.if_icmp .ge 5, 3) := dk_162 0 5 (dk_at dksX1_factorFor_0 15 rfl rfl)
theorem dX1_factorFor_18 : decode cX1_factorFor 18 = .ok (.iconst 2, 1) := dk_5 (dk_at dksX1_factorFor_0 18 rfl rfl)
theorem dX1_factorFor_19 : decode cX1_factorFor 19 = .ok (.ireturn, 1) := dk_172 (dk_at dksX1_factorFor_0 19 rfl rfl)
theorem dX1_factorFor_20 : decode cX1_factorFor 20 = .ok (.iload_n 0, 1) := dk_26 (dk_at dksX1_factorFor_0 20 rfl rfl)
theorem dX1_factorFor_21 : decode cX1_factorFor 21 = .ok (.bipush 8, 2) := dk_16 8 (dk_at dksX1_factorFor_0 21 rfl rfl)
theorem dX1_factorFor_23 : decode cX1_factorFor 23 = .ok (.if_icmp .ge 7, 3) := dk_162 0 7 (dk_at dksX1_factorFor_1 0 rfl rfl)
theorem dX1_factorFor_26 : decode cX1_factorFor 26 = .ok (.iconst 5, 1) := dk_8 (dk_at dksX1_factorFor_1 3 rfl rfl)
theorem dX1_factorFor_27 : decode cX1_factorFor 27 = .ok (.goto 16, 3) := dk_167 0 16 (dk_at dksX1_factorFor_1 4 rfl rfl)
theorem dX1_factorFor_30 : decode cX1_factorFor 30 = .ok (.iload_n 0, 1) := dk_26 (dk_at dksX1_factorFor_1 7 rfl rfl)
theorem dX1_factorFor_31 : decode cX1_factorFor 31 = .ok (.bipush 12, 2) := dk_16 12 (dk_at dksX1_factorFor_1 8 rfl rfl)
theorem dX1_factorFor_33 : decode cX1_factorFor 33 = .ok (.if_icmp .ge 8, 3) := dk_162 0 8 (dk_at dksX1_factorFor_1 10 rfl rfl)
theorem dX1_factorFor_36 : decode cX1_factorFor 36 = .ok (.bipush 8, 2) := dk_16 8 (dk_at dksX1_factorFor_1 13 rfl rfl)
theorem dX1_factorFor_38 : decode cX1_factorFor 38 = .ok (.goto 5, 3) := dk_167 0 5 (dk_at dksX1_factorFor_1 15 rfl rfl)
theorem dX1_factorFor_41 : decode cX1_factorFor 41 = .ok (.bipush 10, 2) := dk_16 10 (dk_at dksX1_factorFor_1 18 rfl rfl)
theorem dX1_factorFor_43 : decode cX1_factorFor 43 = .ok (.ireturn, 1) := dk_172 (dk_at dksX1_factorFor_1 20 rfl rfl)
abbrev cX1_totalOutput : ByteArray := prog_1_method_54_code
def yX1_totalOutput : MethodName := ⟨RX1, "totalOutput", "()I"⟩
def dkwX1_totalOutput_0 : List UInt8 := [42, 180, 0, 77, 182, 0, 246, 172]
abbrev dktX1_totalOutput_0 : List UInt8 := dkwX1_totalOutput_0 ++ []
theorem dksX1_totalOutput_0 : cX1_totalOutput.data.toList.drop 0 = dktX1_totalOutput_0 := by decide +kernel
theorem dX1_totalOutput_0 : decode cX1_totalOutput 0 = .ok (.aload_n 0, 1) := dk_42 (dk_at dksX1_totalOutput_0 0 rfl rfl)
theorem dX1_totalOutput_1 : decode cX1_totalOutput 1 = .ok (.getfield 77, 3) := dk_180 0 77 (dk_at dksX1_totalOutput_0 1 rfl rfl)
theorem dX1_totalOutput_4 : decode cX1_totalOutput 4 = .ok (.invokevirtual 246, 3) := dk_182 0 246 (dk_at dksX1_totalOutput_0 4 rfl rfl)
theorem dX1_totalOutput_7 : decode cX1_totalOutput 7 = .ok (.ireturn, 1) := dk_172 (dk_at dksX1_totalOutput_0 7 rfl rfl)
abbrev cX1_isCell : ByteArray := prog_1_method_2_code
def yX1_isCell : MethodName := ⟨RX1, "isCell", "(II)Z"⟩
def dkwX1_isCell_0 : List UInt8 := [26, 3, 7, 184, 0, 3, 153, 0, 16, 27, 3, 8, 184, 0, 3, 153, 0, 7, 4, 167, 0, 4, 3, 172]
abbrev dktX1_isCell_0 : List UInt8 := dkwX1_isCell_0 ++ []
theorem dksX1_isCell_0 : cX1_isCell.data.toList.drop 0 = dktX1_isCell_0 := by decide +kernel
theorem dX1_isCell_0 : decode cX1_isCell 0 = .ok (.iload_n 0, 1) := dk_26 (dk_at dksX1_isCell_0 0 rfl rfl)
theorem dX1_isCell_1 : decode cX1_isCell 1 = .ok (.iconst 0, 1) := dk_3 (dk_at dksX1_isCell_0 1 rfl rfl)
theorem dX1_isCell_2 : decode cX1_isCell 2 = .ok (.iconst 4, 1) := dk_7 (dk_at dksX1_isCell_0 2 rfl rfl)
theorem dX1_isCell_3 : decode cX1_isCell 3 = .ok (.invokestatic 3, 3) := dk_184 0 3 (dk_at dksX1_isCell_0 3 rfl rfl)
theorem dX1_isCell_6 : decode cX1_isCell 6 = .ok (.ifCond .eq 16, 3) := dk_153 0 16 (dk_at dksX1_isCell_0 6 rfl rfl)
theorem dX1_isCell_9 : decode cX1_isCell 9 = .ok (.iload_n 1, 1) := dk_27 (dk_at dksX1_isCell_0 9 rfl rfl)
theorem dX1_isCell_10 : decode cX1_isCell 10 = .ok (.iconst 0, 1) := dk_3 (dk_at dksX1_isCell_0 10 rfl rfl)
theorem dX1_isCell_11 : decode cX1_isCell 11 = .ok (.iconst 5, 1) := dk_8 (dk_at dksX1_isCell_0 11 rfl rfl)
theorem dX1_isCell_12 : decode cX1_isCell 12 = .ok (.invokestatic 3, 3) := dk_184 0 3 (dk_at dksX1_isCell_0 12 rfl rfl)
theorem dX1_isCell_15 : decode cX1_isCell 15 = .ok (.ifCond .eq 7, 3) := dk_153 0 7 (dk_at dksX1_isCell_0 15 rfl rfl)
theorem dX1_isCell_18 : decode cX1_isCell 18 = .ok (.iconst 1, 1) := dk_4 (dk_at dksX1_isCell_0 18 rfl rfl)
theorem dX1_isCell_19 : decode cX1_isCell 19 = .ok (.goto 4, 3) := dk_167 0 4 (dk_at dksX1_isCell_0 19 rfl rfl)
theorem dX1_isCell_22 : decode cX1_isCell 22 = .ok (.iconst 0, 1) := dk_3 (dk_at dksX1_isCell_0 22 rfl rfl)
theorem dX1_isCell_23 : decode cX1_isCell 23 = .ok (.ireturn, 1) := dk_172 (dk_at dksX1_isCell_0 23 rfl rfl)
abbrev cX1_isBetween : ByteArray := prog_1_method_1_code
def yX1_isBetween : MethodName := ⟨RX1, "isBetween", "(III)Z"⟩
def dkwX1_isBetween_0 : List UInt8 := [26, 27, 161, 0, 12, 26, 28, 163, 0, 7, 4, 167, 0, 4, 3, 172]
abbrev dktX1_isBetween_0 : List UInt8 := dkwX1_isBetween_0 ++ []
theorem dksX1_isBetween_0 : cX1_isBetween.data.toList.drop 0 = dktX1_isBetween_0 := by decide +kernel
theorem dX1_isBetween_0 : decode cX1_isBetween 0 = .ok (.iload_n 0, 1) := dk_26 (dk_at dksX1_isBetween_0 0 rfl rfl)
theorem dX1_isBetween_1 : decode cX1_isBetween 1 = .ok (.iload_n 1, 1) := dk_27 (dk_at dksX1_isBetween_0 1 rfl rfl)
theorem dX1_isBetween_2 : decode cX1_isBetween 2 = .ok (.if_icmp .lt 12, 3) := dk_161 0 12 (dk_at dksX1_isBetween_0 2 rfl rfl)
theorem dX1_isBetween_5 : decode cX1_isBetween 5 = .ok (.iload_n 0, 1) := dk_26 (dk_at dksX1_isBetween_0 5 rfl rfl)
theorem dX1_isBetween_6 : decode cX1_isBetween 6 = .ok (.iload_n 2, 1) := dk_28 (dk_at dksX1_isBetween_0 6 rfl rfl)
theorem dX1_isBetween_7 : decode cX1_isBetween 7 = .ok (.if_icmp .gt 7, 3) := dk_163 0 7 (dk_at dksX1_isBetween_0 7 rfl rfl)
theorem dX1_isBetween_10 : decode cX1_isBetween 10 = .ok (.iconst 1, 1) := dk_4 (dk_at dksX1_isBetween_0 10 rfl rfl)
theorem dX1_isBetween_11 : decode cX1_isBetween 11 = .ok (.goto 4, 3) := dk_167 0 4 (dk_at dksX1_isBetween_0 11 rfl rfl)
theorem dX1_isBetween_14 : decode cX1_isBetween 14 = .ok (.iconst 0, 1) := dk_3 (dk_at dksX1_isBetween_0 14 rfl rfl)
theorem dX1_isBetween_15 : decode cX1_isBetween 15 = .ok (.ireturn, 1) := dk_172 (dk_at dksX1_isBetween_0 15 rfl rfl)
abbrev cX1_totalOutputByLines : ByteArray := prog_1_method_55_code
def yX1_totalOutputByLines : MethodName := ⟨RX1, "totalOutputByLines", "()I"⟩
def dkwX1_totalOutputByLines_0 : List UInt8 := [42, 180, 0, 77, 182, 0, 249, 172]
abbrev dktX1_totalOutputByLines_0 : List UInt8 := dkwX1_totalOutputByLines_0 ++ []
theorem dksX1_totalOutputByLines_0 : cX1_totalOutputByLines.data.toList.drop 0 = dktX1_totalOutputByLines_0 := by decide +kernel
theorem dX1_totalOutputByLines_0 : decode cX1_totalOutputByLines 0 = .ok (.aload_n 0, 1) := dk_42 (dk_at dksX1_totalOutputByLines_0 0 rfl rfl)
theorem dX1_totalOutputByLines_1 : decode cX1_totalOutputByLines 1 = .ok (.getfield 77, 3) := dk_180 0 77 (dk_at dksX1_totalOutputByLines_0 1 rfl rfl)
theorem dX1_totalOutputByLines_4 : decode cX1_totalOutputByLines 4 = .ok (.invokevirtual 249, 3) := dk_182 0 249 (dk_at dksX1_totalOutputByLines_0 4 rfl rfl)
theorem dX1_totalOutputByLines_7 : decode cX1_totalOutputByLines 7 = .ok (.ireturn, 1) := dk_172 (dk_at dksX1_totalOutputByLines_0 7 rfl rfl)
abbrev cX1_bestDirection : ByteArray := prog_1_method_57_code
def yX1_bestDirection : MethodName := ⟨RX1, "bestDirection", "()C"⟩
def dkwX1_bestDirection_0 : List UInt8 := [42, 180, 0, 77, 182, 1, 0, 182, 0, 36, 172]
abbrev dktX1_bestDirection_0 : List UInt8 := dkwX1_bestDirection_0 ++ []
theorem dksX1_bestDirection_0 : cX1_bestDirection.data.toList.drop 0 = dktX1_bestDirection_0 := by decide +kernel
theorem dX1_bestDirection_0 : decode cX1_bestDirection 0 = .ok (.aload_n 0, 1) := dk_42 (dk_at dksX1_bestDirection_0 0 rfl rfl)
theorem dX1_bestDirection_1 : decode cX1_bestDirection 1 = .ok (.getfield 77, 3) := dk_180 0 77 (dk_at dksX1_bestDirection_0 1 rfl rfl)
theorem dX1_bestDirection_4 : decode cX1_bestDirection 4 = .ok (.invokevirtual 256, 3) := dk_182 1 0 (dk_at dksX1_bestDirection_0 4 rfl rfl)
theorem dX1_bestDirection_7 : decode cX1_bestDirection 7 = .ok (.invokevirtual 36, 3) := dk_182 0 36 (dk_at dksX1_bestDirection_0 7 rfl rfl)
theorem dX1_bestDirection_10 : decode cX1_bestDirection 10 = .ok (.ireturn, 1) := dk_172 (dk_at dksX1_bestDirection_0 10 rfl rfl)
abbrev cX1_gridLimit : ByteArray := prog_1_method_59_code
def yX1_gridLimit : MethodName := ⟨RX1, "gridLimit", "()I"⟩
def dkwX1_gridLimit_0 : List UInt8 := [42, 180, 0, 77, 180, 1, 7, 172]
abbrev dktX1_gridLimit_0 : List UInt8 := dkwX1_gridLimit_0 ++ []
theorem dksX1_gridLimit_0 : cX1_gridLimit.data.toList.drop 0 = dktX1_gridLimit_0 := by decide +kernel
theorem dX1_gridLimit_0 : decode cX1_gridLimit 0 = .ok (.aload_n 0, 1) := dk_42 (dk_at dksX1_gridLimit_0 0 rfl rfl)
theorem dX1_gridLimit_1 : decode cX1_gridLimit 1 = .ok (.getfield 77, 3) := dk_180 0 77 (dk_at dksX1_gridLimit_0 1 rfl rfl)
theorem dX1_gridLimit_4 : decode cX1_gridLimit 4 = .ok (.getfield 263, 3) := dk_180 1 7 (dk_at dksX1_gridLimit_0 4 rfl rfl)
theorem dX1_gridLimit_7 : decode cX1_gridLimit 7 = .ok (.ireturn, 1) := dk_172 (dk_at dksX1_gridLimit_0 7 rfl rfl)
abbrev cX1_dispatch : ByteArray := prog_1_method_60_code
def yX1_dispatch : MethodName := ⟨RX1, "dispatch", "()I"⟩
def dkwX1_dispatch_0 : List UInt8 := [42, 187, 0, 58, 89, 16, 100, 2, 183, 0, 171, 182, 0, 163, 172]
abbrev dktX1_dispatch_0 : List UInt8 := dkwX1_dispatch_0 ++ []
theorem dksX1_dispatch_0 : cX1_dispatch.data.toList.drop 0 = dktX1_dispatch_0 := by decide +kernel
theorem dX1_dispatch_0 : decode cX1_dispatch 0 = .ok (.aload_n 0, 1) := dk_42 (dk_at dksX1_dispatch_0 0 rfl rfl)
theorem dX1_dispatch_1 : decode cX1_dispatch 1 = .ok (.new 58, 3) := dk_187 0 58 (dk_at dksX1_dispatch_0 1 rfl rfl)
theorem dX1_dispatch_4 : decode cX1_dispatch 4 = .ok (.dup, 1) := dk_89 (dk_at dksX1_dispatch_0 4 rfl rfl)
theorem dX1_dispatch_5 : decode cX1_dispatch 5 = .ok (.bipush 100, 2) := dk_16 100 (dk_at dksX1_dispatch_0 5 rfl rfl)
theorem dX1_dispatch_7 : decode cX1_dispatch 7 = .ok (.iconst (-1), 1) := dk_2 (dk_at dksX1_dispatch_0 7 rfl rfl)
theorem dX1_dispatch_8 : decode cX1_dispatch 8 = .ok (.invokespecial 171, 3) := dk_183 0 171 (dk_at dksX1_dispatch_0 8 rfl rfl)
theorem dX1_dispatch_11 : decode cX1_dispatch 11 = .ok (.invokevirtual 163, 3) := dk_182 0 163 (dk_at dksX1_dispatch_0 11 rfl rfl)
theorem dX1_dispatch_14 : decode cX1_dispatch 14 = .ok (.ireturn, 1) := dk_172 (dk_at dksX1_dispatch_0 14 rfl rfl)
abbrev cX1_change : ByteArray := prog_1_method_24_code
def yX1_change : MethodName := ⟨RX1, "change", "(LWindFarmDispatcher$Command;)I"⟩
def dkwX1_change_1 : List UInt8 := [181, 0, 117, 187, 0, 121, 89, 183, 0, 123, 191]
abbrev dktX1_change_1 : List UInt8 := dkwX1_change_1 ++ []
def dkwX1_change_0 : List UInt8 := [42, 180, 0, 77, 182, 0, 106, 77, 43, 44, 182, 0, 110, 62, 42, 44, 29, 182, 0, 113, 172, 78, 42, 45]
abbrev dktX1_change_0 : List UInt8 := dkwX1_change_0 ++ dktX1_change_1
theorem dksX1_change_0 : cX1_change.data.toList.drop 0 = dktX1_change_0 := by decide +kernel
theorem dksX1_change_1 : cX1_change.data.toList.drop 24 = dktX1_change_1 := dk_seg dksX1_change_0 24 rfl rfl
theorem dX1_change_0 : decode cX1_change 0 = .ok (.aload_n 0, 1) := dk_42 (dk_at dksX1_change_0 0 rfl rfl)
theorem dX1_change_1 : decode cX1_change 1 = .ok (.getfield 77, 3) := dk_180 0 77 (dk_at dksX1_change_0 1 rfl rfl)
theorem dX1_change_4 : decode cX1_change 4 = .ok (.invokevirtual 106, 3) := dk_182 0 106 (dk_at dksX1_change_0 4 rfl rfl)
theorem dX1_change_7 : decode cX1_change 7 = .ok (.astore_n 2, 1) := dk_77 (dk_at dksX1_change_0 7 rfl rfl)
theorem dX1_change_8 : decode cX1_change 8 = .ok (.aload_n 1, 1) := dk_43 (dk_at dksX1_change_0 8 rfl rfl)
theorem dX1_change_9 : decode cX1_change 9 = .ok (.aload_n 2, 1) := dk_44 (dk_at dksX1_change_0 9 rfl rfl)
theorem dX1_change_10 : decode cX1_change 10 = .ok (.invokevirtual 110, 3) := dk_182 0 110 (dk_at dksX1_change_0 10 rfl rfl)
theorem dX1_change_13 : decode cX1_change 13 = .ok (.istore_n 3, 1) := dk_62 (dk_at dksX1_change_0 13 rfl rfl)
theorem dX1_change_14 : decode cX1_change 14 = .ok (.aload_n 0, 1) := dk_42 (dk_at dksX1_change_0 14 rfl rfl)
theorem dX1_change_15 : decode cX1_change 15 = .ok (.aload_n 2, 1) := dk_44 (dk_at dksX1_change_0 15 rfl rfl)
theorem dX1_change_16 : decode cX1_change 16 = .ok (.iload_n 3, 1) := dk_29 (dk_at dksX1_change_0 16 rfl rfl)
theorem dX1_change_17 : decode cX1_change 17 = .ok (.invokevirtual 113, 3) := dk_182 0 113 (dk_at dksX1_change_0 17 rfl rfl)
theorem dX1_change_20 : decode cX1_change 20 = .ok (.ireturn, 1) := dk_172 (dk_at dksX1_change_0 20 rfl rfl)
theorem dX1_change_21 : decode cX1_change 21 = .ok (.astore_n 3, 1) := dk_78 (dk_at dksX1_change_0 21 rfl rfl)
theorem dX1_change_22 : decode cX1_change 22 = .ok (.aload_n 0, 1) := dk_42 (dk_at dksX1_change_0 22 rfl rfl)
theorem dX1_change_23 : decode cX1_change 23 = .ok (.aload_n 3, 1) := dk_45 (dk_at dksX1_change_0 23 rfl rfl)
theorem dX1_change_24 : decode cX1_change 24 = .ok (.putfield 117, 3) := dk_181 0 117 (dk_at dksX1_change_1 0 rfl rfl)
theorem dX1_change_27 : decode cX1_change 27 = .ok (.new 121, 3) := dk_187 0 121 (dk_at dksX1_change_1 3 rfl rfl)
theorem dX1_change_30 : decode cX1_change 30 = .ok (.dup, 1) := dk_89 (dk_at dksX1_change_1 6 rfl rfl)
theorem dX1_change_31 : decode cX1_change 31 = .ok (.invokespecial 123, 3) := dk_183 0 123 (dk_at dksX1_change_1 7 rfl rfl)
theorem dX1_change_34 : decode cX1_change 34 = .ok (.athrow, 1) := dk_191 (dk_at dksX1_change_1 10 rfl rfl)
abbrev cX1_rejectIf : ByteArray := prog_1_method_17_code
def yX1_rejectIf : MethodName := ⟨RX1, "rejectIf", "(ZII)V"⟩
def dkwX1_rejectIf_0 : List UInt8 := [26, 153, 0, 13, 187, 0, 25, 89, 27, 28, 183, 0, 27, 191, 177]
abbrev dktX1_rejectIf_0 : List UInt8 := dkwX1_rejectIf_0 ++ []
theorem dksX1_rejectIf_0 : cX1_rejectIf.data.toList.drop 0 = dktX1_rejectIf_0 := by decide +kernel
theorem dX1_rejectIf_0 : decode cX1_rejectIf 0 = .ok (.iload_n 0, 1) := dk_26 (dk_at dksX1_rejectIf_0 0 rfl rfl)
theorem dX1_rejectIf_1 : decode cX1_rejectIf 1 = .ok (.ifCond .eq 13, 3) := dk_153 0 13 (dk_at dksX1_rejectIf_0 1 rfl rfl)
theorem dX1_rejectIf_4 : decode cX1_rejectIf 4 = .ok (.new 25, 3) := dk_187 0 25 (dk_at dksX1_rejectIf_0 4 rfl rfl)
theorem dX1_rejectIf_7 : decode cX1_rejectIf 7 = .ok (.dup, 1) := dk_89 (dk_at dksX1_rejectIf_0 7 rfl rfl)
theorem dX1_rejectIf_8 : decode cX1_rejectIf 8 = .ok (.iload_n 1, 1) := dk_27 (dk_at dksX1_rejectIf_0 8 rfl rfl)
theorem dX1_rejectIf_9 : decode cX1_rejectIf 9 = .ok (.iload_n 2, 1) := dk_28 (dk_at dksX1_rejectIf_0 9 rfl rfl)
theorem dX1_rejectIf_10 : decode cX1_rejectIf 10 = .ok (.invokespecial 27, 3) := dk_183 0 27 (dk_at dksX1_rejectIf_0 10 rfl rfl)
theorem dX1_rejectIf_13 : decode cX1_rejectIf 13 = .ok (.athrow, 1) := dk_191 (dk_at dksX1_rejectIf_0 13 rfl rfl)
theorem dX1_rejectIf_14 : decode cX1_rejectIf 14 = .ok (.return_, 1) := dk_177 (dk_at dksX1_rejectIf_0 14 rfl rfl)
abbrev cX1_directionFor : ByteArray := prog_1_method_18_code
def yX1_directionFor : MethodName := ⟨RX1, "directionFor", "(C)LWindFarmDispatcher$Direction;"⟩
def dkwX1_directionFor_1 : List UInt8 := [26, 160, 0, 6, 25, 4, 176, 132, 3, 1, 167, 255, 231, 1, 176]
abbrev dktX1_directionFor_1 : List UInt8 := dkwX1_directionFor_1 ++ []
def dkwX1_directionFor_0 : List UInt8 := [184, 0, 30, 76, 43, 190, 61, 3, 62, 29, 28, 162, 0, 26, 43, 29, 50, 58, 4, 25, 4, 182, 0, 36]
abbrev dktX1_directionFor_0 : List UInt8 := dkwX1_directionFor_0 ++ dktX1_directionFor_1
theorem dksX1_directionFor_0 : cX1_directionFor.data.toList.drop 0 = dktX1_directionFor_0 := by decide +kernel
theorem dksX1_directionFor_1 : cX1_directionFor.data.toList.drop 24 = dktX1_directionFor_1 := dk_seg dksX1_directionFor_0 24 rfl rfl
theorem dX1_directionFor_0 : decode cX1_directionFor 0 = .ok (.invokestatic 30, 3) := dk_184 0 30 (dk_at dksX1_directionFor_0 0 rfl rfl)
theorem dX1_directionFor_3 : decode cX1_directionFor 3 = .ok (.astore_n 1, 1) := dk_76 (dk_at dksX1_directionFor_0 3 rfl rfl)
theorem dX1_directionFor_4 : decode cX1_directionFor 4 = .ok (.aload_n 1, 1) := dk_43 (dk_at dksX1_directionFor_0 4 rfl rfl)
theorem dX1_directionFor_5 : decode cX1_directionFor 5 = .ok (.arraylength, 1) := dk_190 (dk_at dksX1_directionFor_0 5 rfl rfl)
theorem dX1_directionFor_6 : decode cX1_directionFor 6 = .ok (.istore_n 2, 1) := dk_61 (dk_at dksX1_directionFor_0 6 rfl rfl)
theorem dX1_directionFor_7 : decode cX1_directionFor 7 = .ok (.iconst 0, 1) := dk_3 (dk_at dksX1_directionFor_0 7 rfl rfl)
theorem dX1_directionFor_8 : decode cX1_directionFor 8 = .ok (.istore_n 3, 1) := dk_62 (dk_at dksX1_directionFor_0 8 rfl rfl)
theorem dX1_directionFor_9 : decode cX1_directionFor 9 = .ok (.iload_n 3, 1) := dk_29 (dk_at dksX1_directionFor_0 9 rfl rfl)
theorem dX1_directionFor_10 : decode cX1_directionFor 10 = .ok (.iload_n 2, 1) := dk_28 (dk_at dksX1_directionFor_0 10 rfl rfl)
theorem dX1_directionFor_11 : decode cX1_directionFor 11 = .ok (.if_icmp .ge 26, 3) := dk_162 0 26 (dk_at dksX1_directionFor_0 11 rfl rfl)
theorem dX1_directionFor_14 : decode cX1_directionFor 14 = .ok (.aload_n 1, 1) := dk_43 (dk_at dksX1_directionFor_0 14 rfl rfl)
theorem dX1_directionFor_15 : decode cX1_directionFor 15 = .ok (.iload_n 3, 1) := dk_29 (dk_at dksX1_directionFor_0 15 rfl rfl)
theorem dX1_directionFor_16 : decode cX1_directionFor 16 = .ok (.aaload, 1) := dk_50 (dk_at dksX1_directionFor_0 16 rfl rfl)
theorem dX1_directionFor_17 : decode cX1_directionFor 17 = .ok (.astore 4, 2) := dk_58 4 (dk_at dksX1_directionFor_0 17 rfl rfl)
theorem dX1_directionFor_19 : decode cX1_directionFor 19 = .ok (.aload 4, 2) := dk_25 4 (dk_at dksX1_directionFor_0 19 rfl rfl)
theorem dX1_directionFor_21 : decode cX1_directionFor 21 = .ok (.invokevirtual 36, 3) := dk_182 0 36 (dk_at dksX1_directionFor_0 21 rfl rfl)
theorem dX1_directionFor_24 : decode cX1_directionFor 24 = .ok (.iload_n 0, 1) := dk_26 (dk_at dksX1_directionFor_1 0 rfl rfl)
theorem dX1_directionFor_25 : decode cX1_directionFor 25 = .ok (.if_icmp .ne 6, 3) := dk_160 0 6 (dk_at dksX1_directionFor_1 1 rfl rfl)
theorem dX1_directionFor_28 : decode cX1_directionFor 28 = .ok (.aload 4, 2) := dk_25 4 (dk_at dksX1_directionFor_1 4 rfl rfl)
theorem dX1_directionFor_30 : decode cX1_directionFor 30 = .ok (.areturn, 1) := dk_176 (dk_at dksX1_directionFor_1 6 rfl rfl)
theorem dX1_directionFor_31 : decode cX1_directionFor 31 = .ok (.iinc 3 1, 3) := dk_132 3 1 (dk_at dksX1_directionFor_1 7 rfl rfl)
theorem dX1_directionFor_34 : decode cX1_directionFor 34 = .ok (.goto (-25), 3) := dk_167 255 231 (dk_at dksX1_directionFor_1 10 rfl rfl)
theorem dX1_directionFor_37 : decode cX1_directionFor 37 = .ok (.aconst_null, 1) := dk_1 (dk_at dksX1_directionFor_1 13 rfl rfl)
theorem dX1_directionFor_38 : decode cX1_directionFor 38 = .ok (.areturn, 1) := dk_176 (dk_at dksX1_directionFor_1 14 rfl rfl)
abbrev cX1_commit : ByteArray := prog_1_method_23_code
def yX1_commit : MethodName := ⟨RX1, "commit", "(LWindFarmDispatcher$Farm;I)I"⟩
def dkwX1_commit_1 : List UInt8 := [42, 180, 0, 82, 42, 180, 0, 77, 182, 0, 102, 87, 42, 43, 181, 0, 77, 28, 172]
abbrev dktX1_commit_1 : List UInt8 := dkwX1_commit_1 ++ []
def dkwX1_commit_0 : List UInt8 := [42, 180, 0, 82, 182, 0, 48, 16, 8, 160, 0, 15, 42, 180, 0, 82, 3, 182, 0, 99, 192, 0, 74, 78]
abbrev dktX1_commit_0 : List UInt8 := dkwX1_commit_0 ++ dktX1_commit_1
theorem dksX1_commit_0 : cX1_commit.data.toList.drop 0 = dktX1_commit_0 := by decide +kernel
theorem dksX1_commit_1 : cX1_commit.data.toList.drop 24 = dktX1_commit_1 := dk_seg dksX1_commit_0 24 rfl rfl
theorem dX1_commit_0 : decode cX1_commit 0 = .ok (.aload_n 0, 1) := dk_42 (dk_at dksX1_commit_0 0 rfl rfl)
theorem dX1_commit_1 : decode cX1_commit 1 = .ok (.getfield 82, 3) := dk_180 0 82 (dk_at dksX1_commit_0 1 rfl rfl)
theorem dX1_commit_4 : decode cX1_commit 4 = .ok (.invokevirtual 48, 3) := dk_182 0 48 (dk_at dksX1_commit_0 4 rfl rfl)
theorem dX1_commit_7 : decode cX1_commit 7 = .ok (.bipush 8, 2) := dk_16 8 (dk_at dksX1_commit_0 7 rfl rfl)
theorem dX1_commit_9 : decode cX1_commit 9 = .ok (.if_icmp .ne 15, 3) := dk_160 0 15 (dk_at dksX1_commit_0 9 rfl rfl)
theorem dX1_commit_12 : decode cX1_commit 12 = .ok (.aload_n 0, 1) := dk_42 (dk_at dksX1_commit_0 12 rfl rfl)
theorem dX1_commit_13 : decode cX1_commit 13 = .ok (.getfield 82, 3) := dk_180 0 82 (dk_at dksX1_commit_0 13 rfl rfl)
theorem dX1_commit_16 : decode cX1_commit 16 = .ok (.iconst 0, 1) := dk_3 (dk_at dksX1_commit_0 16 rfl rfl)
theorem dX1_commit_17 : decode cX1_commit 17 = .ok (.invokevirtual 99, 3) := dk_182 0 99 (dk_at dksX1_commit_0 17 rfl rfl)
theorem dX1_commit_20 : decode cX1_commit 20 = .ok (.checkcast 74, 3) := dk_192 0 74 (dk_at dksX1_commit_0 20 rfl rfl)
theorem dX1_commit_23 : decode cX1_commit 23 = .ok (.astore_n 3, 1) := dk_78 (dk_at dksX1_commit_0 23 rfl rfl)
theorem dX1_commit_24 : decode cX1_commit 24 = .ok (.aload_n 0, 1) := dk_42 (dk_at dksX1_commit_1 0 rfl rfl)
theorem dX1_commit_25 : decode cX1_commit 25 = .ok (.getfield 82, 3) := dk_180 0 82 (dk_at dksX1_commit_1 1 rfl rfl)
theorem dX1_commit_28 : decode cX1_commit 28 = .ok (.aload_n 0, 1) := dk_42 (dk_at dksX1_commit_1 4 rfl rfl)
theorem dX1_commit_29 : decode cX1_commit 29 = .ok (.getfield 77, 3) := dk_180 0 77 (dk_at dksX1_commit_1 5 rfl rfl)
theorem dX1_commit_32 : decode cX1_commit 32 = .ok (.invokevirtual 102, 3) := dk_182 0 102 (dk_at dksX1_commit_1 8 rfl rfl)
theorem dX1_commit_35 : decode cX1_commit 35 = .ok (.pop, 1) := dk_87 (dk_at dksX1_commit_1 11 rfl rfl)
theorem dX1_commit_36 : decode cX1_commit 36 = .ok (.aload_n 0, 1) := dk_42 (dk_at dksX1_commit_1 12 rfl rfl)
theorem dX1_commit_37 : decode cX1_commit 37 = .ok (.aload_n 1, 1) := dk_43 (dk_at dksX1_commit_1 13 rfl rfl)
theorem dX1_commit_38 : decode cX1_commit 38 = .ok (.putfield 77, 3) := dk_181 0 77 (dk_at dksX1_commit_1 14 rfl rfl)
theorem dX1_commit_41 : decode cX1_commit 41 = .ok (.iload_n 2, 1) := dk_28 (dk_at dksX1_commit_1 17 rfl rfl)
theorem dX1_commit_42 : decode cX1_commit 42 = .ok (.ireturn, 1) := dk_172 (dk_at dksX1_commit_1 18 rfl rfl)
abbrev cX1_releaseAll : ByteArray := prog_1_method_61_code
def yX1_releaseAll : MethodName := ⟨RX1, "releaseAll", "()I"⟩
def dkwX1_releaseAll_0 : List UInt8 := [42, 187, 0, 58, 89, 16, 118, 2, 183, 0, 171, 182, 0, 163, 172]
abbrev dktX1_releaseAll_0 : List UInt8 := dkwX1_releaseAll_0 ++ []
theorem dksX1_releaseAll_0 : cX1_releaseAll.data.toList.drop 0 = dktX1_releaseAll_0 := by decide +kernel
theorem dX1_releaseAll_0 : decode cX1_releaseAll 0 = .ok (.aload_n 0, 1) := dk_42 (dk_at dksX1_releaseAll_0 0 rfl rfl)
theorem dX1_releaseAll_1 : decode cX1_releaseAll 1 = .ok (.new 58, 3) := dk_187 0 58 (dk_at dksX1_releaseAll_0 1 rfl rfl)
theorem dX1_releaseAll_4 : decode cX1_releaseAll 4 = .ok (.dup, 1) := dk_89 (dk_at dksX1_releaseAll_0 4 rfl rfl)
theorem dX1_releaseAll_5 : decode cX1_releaseAll 5 = .ok (.bipush 118, 2) := dk_16 118 (dk_at dksX1_releaseAll_0 5 rfl rfl)
theorem dX1_releaseAll_7 : decode cX1_releaseAll 7 = .ok (.iconst (-1), 1) := dk_2 (dk_at dksX1_releaseAll_0 7 rfl rfl)
theorem dX1_releaseAll_8 : decode cX1_releaseAll 8 = .ok (.invokespecial 171, 3) := dk_183 0 171 (dk_at dksX1_releaseAll_0 8 rfl rfl)
theorem dX1_releaseAll_11 : decode cX1_releaseAll 11 = .ok (.invokevirtual 163, 3) := dk_182 0 163 (dk_at dksX1_releaseAll_0 11 rfl rfl)
theorem dX1_releaseAll_14 : decode cX1_releaseAll 14 = .ok (.ireturn, 1) := dk_172 (dk_at dksX1_releaseAll_0 14 rfl rfl)
abbrev cX1_time : ByteArray := prog_1_method_69_code
def yX1_time : MethodName := ⟨RX1, "time", "()I"⟩
def dkwX1_time_0 : List UInt8 := [42, 180, 0, 77, 180, 1, 29, 172]
abbrev dktX1_time_0 : List UInt8 := dkwX1_time_0 ++ []
theorem dksX1_time_0 : cX1_time.data.toList.drop 0 = dktX1_time_0 := by decide +kernel
theorem dX1_time_0 : decode cX1_time 0 = .ok (.aload_n 0, 1) := dk_42 (dk_at dksX1_time_0 0 rfl rfl)
theorem dX1_time_1 : decode cX1_time 1 = .ok (.getfield 77, 3) := dk_180 0 77 (dk_at dksX1_time_0 1 rfl rfl)
theorem dX1_time_4 : decode cX1_time 4 = .ok (.getfield 285, 3) := dk_180 1 29 (dk_at dksX1_time_0 4 rfl rfl)
theorem dX1_time_7 : decode cX1_time 7 = .ok (.ireturn, 1) := dk_172 (dk_at dksX1_time_0 7 rfl rfl)
abbrev cX1_energyMade : ByteArray := prog_1_method_72_code
def yX1_energyMade : MethodName := ⟨RX1, "energyMade", "()J"⟩
def dkwX1_energyMade_0 : List UInt8 := [42, 180, 0, 77, 180, 1, 38, 173]
abbrev dktX1_energyMade_0 : List UInt8 := dkwX1_energyMade_0 ++ []
theorem dksX1_energyMade_0 : cX1_energyMade.data.toList.drop 0 = dktX1_energyMade_0 := by decide +kernel
theorem dX1_energyMade_0 : decode cX1_energyMade 0 = .ok (.aload_n 0, 1) := dk_42 (dk_at dksX1_energyMade_0 0 rfl rfl)
theorem dX1_energyMade_1 : decode cX1_energyMade 1 = .ok (.getfield 77, 3) := dk_180 0 77 (dk_at dksX1_energyMade_0 1 rfl rfl)
theorem dX1_energyMade_4 : decode cX1_energyMade 4 = .ok (.getfield 294, 3) := dk_180 1 38 (dk_at dksX1_energyMade_0 4 rfl rfl)
theorem dX1_energyMade_7 : decode cX1_energyMade 7 = .ok (.lreturn, 1) := dk_173 (dk_at dksX1_energyMade_0 7 rfl rfl)
abbrev cX1_energyLost : ByteArray := prog_1_method_73_code
def yX1_energyLost : MethodName := ⟨RX1, "energyLost", "()J"⟩
def dkwX1_energyLost_0 : List UInt8 := [42, 180, 0, 77, 180, 1, 42, 173]
abbrev dktX1_energyLost_0 : List UInt8 := dkwX1_energyLost_0 ++ []
theorem dksX1_energyLost_0 : cX1_energyLost.data.toList.drop 0 = dktX1_energyLost_0 := by decide +kernel
theorem dX1_energyLost_0 : decode cX1_energyLost 0 = .ok (.aload_n 0, 1) := dk_42 (dk_at dksX1_energyLost_0 0 rfl rfl)
theorem dX1_energyLost_1 : decode cX1_energyLost 1 = .ok (.getfield 77, 3) := dk_180 0 77 (dk_at dksX1_energyLost_0 1 rfl rfl)
theorem dX1_energyLost_4 : decode cX1_energyLost 4 = .ok (.getfield 298, 3) := dk_180 1 42 (dk_at dksX1_energyLost_0 4 rfl rfl)
theorem dX1_energyLost_7 : decode cX1_energyLost 7 = .ok (.lreturn, 1) := dk_173 (dk_at dksX1_energyLost_0 7 rfl rfl)
abbrev cX1_energySold : ByteArray := prog_1_method_74_code
def yX1_energySold : MethodName := ⟨RX1, "energySold", "()J"⟩
def dkwX1_energySold_0 : List UInt8 := [42, 180, 0, 77, 180, 1, 45, 173]
abbrev dktX1_energySold_0 : List UInt8 := dkwX1_energySold_0 ++ []
theorem dksX1_energySold_0 : cX1_energySold.data.toList.drop 0 = dktX1_energySold_0 := by decide +kernel
theorem dX1_energySold_0 : decode cX1_energySold 0 = .ok (.aload_n 0, 1) := dk_42 (dk_at dksX1_energySold_0 0 rfl rfl)
theorem dX1_energySold_1 : decode cX1_energySold 1 = .ok (.getfield 77, 3) := dk_180 0 77 (dk_at dksX1_energySold_0 1 rfl rfl)
theorem dX1_energySold_4 : decode cX1_energySold 4 = .ok (.getfield 301, 3) := dk_180 1 45 (dk_at dksX1_energySold_0 4 rfl rfl)
theorem dX1_energySold_7 : decode cX1_energySold 7 = .ok (.lreturn, 1) := dk_173 (dk_at dksX1_energySold_0 7 rfl rfl)
abbrev cX1_energySpilled : ByteArray := prog_1_method_75_code
def yX1_energySpilled : MethodName := ⟨RX1, "energySpilled", "()J"⟩
def dkwX1_energySpilled_0 : List UInt8 := [42, 180, 0, 77, 180, 1, 38, 42, 180, 0, 77, 180, 1, 42, 101, 42, 180, 0, 77, 180, 1, 45, 101, 173]
abbrev dktX1_energySpilled_0 : List UInt8 := dkwX1_energySpilled_0 ++ []
theorem dksX1_energySpilled_0 : cX1_energySpilled.data.toList.drop 0 = dktX1_energySpilled_0 := by decide +kernel
theorem dX1_energySpilled_0 : decode cX1_energySpilled 0 = .ok (.aload_n 0, 1) := dk_42 (dk_at dksX1_energySpilled_0 0 rfl rfl)
theorem dX1_energySpilled_1 : decode cX1_energySpilled 1 = .ok (.getfield 77, 3) := dk_180 0 77 (dk_at dksX1_energySpilled_0 1 rfl rfl)
theorem dX1_energySpilled_4 : decode cX1_energySpilled 4 = .ok (.getfield 294, 3) := dk_180 1 38 (dk_at dksX1_energySpilled_0 4 rfl rfl)
theorem dX1_energySpilled_7 : decode cX1_energySpilled 7 = .ok (.aload_n 0, 1) := dk_42 (dk_at dksX1_energySpilled_0 7 rfl rfl)
theorem dX1_energySpilled_8 : decode cX1_energySpilled 8 = .ok (.getfield 77, 3) := dk_180 0 77 (dk_at dksX1_energySpilled_0 8 rfl rfl)
theorem dX1_energySpilled_11 : decode cX1_energySpilled 11 = .ok (.getfield 298, 3) := dk_180 1 42 (dk_at dksX1_energySpilled_0 11 rfl rfl)
theorem dX1_energySpilled_14 : decode cX1_energySpilled 14 = .ok (.lsub, 1) := dk_101 (dk_at dksX1_energySpilled_0 14 rfl rfl)
theorem dX1_energySpilled_15 : decode cX1_energySpilled 15 = .ok (.aload_n 0, 1) := dk_42 (dk_at dksX1_energySpilled_0 15 rfl rfl)
theorem dX1_energySpilled_16 : decode cX1_energySpilled 16 = .ok (.getfield 77, 3) := dk_180 0 77 (dk_at dksX1_energySpilled_0 16 rfl rfl)
theorem dX1_energySpilled_19 : decode cX1_energySpilled 19 = .ok (.getfield 301, 3) := dk_180 1 45 (dk_at dksX1_energySpilled_0 19 rfl rfl)
theorem dX1_energySpilled_22 : decode cX1_energySpilled 22 = .ok (.lsub, 1) := dk_101 (dk_at dksX1_energySpilled_0 22 rfl rfl)
theorem dX1_energySpilled_23 : decode cX1_energySpilled 23 = .ok (.lreturn, 1) := dk_173 (dk_at dksX1_energySpilled_0 23 rfl rfl)
abbrev cX1_coins : ByteArray := prog_1_method_76_code
def yX1_coins : MethodName := ⟨RX1, "coins", "()J"⟩
def dkwX1_coins_0 : List UInt8 := [42, 180, 0, 77, 180, 1, 48, 173]
abbrev dktX1_coins_0 : List UInt8 := dkwX1_coins_0 ++ []
theorem dksX1_coins_0 : cX1_coins.data.toList.drop 0 = dktX1_coins_0 := by decide +kernel
theorem dX1_coins_0 : decode cX1_coins 0 = .ok (.aload_n 0, 1) := dk_42 (dk_at dksX1_coins_0 0 rfl rfl)
theorem dX1_coins_1 : decode cX1_coins 1 = .ok (.getfield 77, 3) := dk_180 0 77 (dk_at dksX1_coins_0 1 rfl rfl)
theorem dX1_coins_4 : decode cX1_coins 4 = .ok (.getfield 304, 3) := dk_180 1 48 (dk_at dksX1_coins_0 4 rfl rfl)
theorem dX1_coins_7 : decode cX1_coins 7 = .ok (.lreturn, 1) := dk_173 (dk_at dksX1_coins_0 7 rfl rfl)
abbrev cX1_isConsistent : ByteArray := prog_1_method_80_code
def yX1_isConsistent : MethodName := ⟨RX1, "isConsistent", "()Z"⟩
def dkwX1_isConsistent_0 : List UInt8 := [42, 180, 0, 77, 182, 1, 67, 172]
abbrev dktX1_isConsistent_0 : List UInt8 := dkwX1_isConsistent_0 ++ []
theorem dksX1_isConsistent_0 : cX1_isConsistent.data.toList.drop 0 = dktX1_isConsistent_0 := by decide +kernel
theorem dX1_isConsistent_0 : decode cX1_isConsistent 0 = .ok (.aload_n 0, 1) := dk_42 (dk_at dksX1_isConsistent_0 0 rfl rfl)
theorem dX1_isConsistent_1 : decode cX1_isConsistent 1 = .ok (.getfield 77, 3) := dk_180 0 77 (dk_at dksX1_isConsistent_0 1 rfl rfl)
theorem dX1_isConsistent_4 : decode cX1_isConsistent 4 = .ok (.invokevirtual 323, 3) := dk_182 1 67 (dk_at dksX1_isConsistent_0 4 rfl rfl)
theorem dX1_isConsistent_7 : decode cX1_isConsistent 7 = .ok (.ireturn, 1) := dk_172 (dk_at dksX1_isConsistent_0 7 rfl rfl)
abbrev cX1_saveSnapshot : ByteArray := prog_1_method_90_code
def yX1_saveSnapshot : MethodName := ⟨RX1, "saveSnapshot", "()I"⟩
def dkwX1_saveSnapshot_0 : List UInt8 := [42, 42, 180, 0, 77, 182, 0, 106, 181, 1, 145, 42, 180, 1, 145, 180, 0, 131, 182, 0, 48, 172]
abbrev dktX1_saveSnapshot_0 : List UInt8 := dkwX1_saveSnapshot_0 ++ []
theorem dksX1_saveSnapshot_0 : cX1_saveSnapshot.data.toList.drop 0 = dktX1_saveSnapshot_0 := by decide +kernel
theorem dX1_saveSnapshot_0 : decode cX1_saveSnapshot 0 = .ok (.aload_n 0, 1) := dk_42 (dk_at dksX1_saveSnapshot_0 0 rfl rfl)
theorem dX1_saveSnapshot_1 : decode cX1_saveSnapshot 1 = .ok (.aload_n 0, 1) := dk_42 (dk_at dksX1_saveSnapshot_0 1 rfl rfl)
theorem dX1_saveSnapshot_2 : decode cX1_saveSnapshot 2 = .ok (.getfield 77, 3) := dk_180 0 77 (dk_at dksX1_saveSnapshot_0 2 rfl rfl)
theorem dX1_saveSnapshot_5 : decode cX1_saveSnapshot 5 = .ok (.invokevirtual 106, 3) := dk_182 0 106 (dk_at dksX1_saveSnapshot_0 5 rfl rfl)
theorem dX1_saveSnapshot_8 : decode cX1_saveSnapshot 8 = .ok (.putfield 401, 3) := dk_181 1 145 (dk_at dksX1_saveSnapshot_0 8 rfl rfl)
theorem dX1_saveSnapshot_11 : decode cX1_saveSnapshot 11 = .ok (.aload_n 0, 1) := dk_42 (dk_at dksX1_saveSnapshot_0 11 rfl rfl)
theorem dX1_saveSnapshot_12 : decode cX1_saveSnapshot 12 = .ok (.getfield 401, 3) := dk_180 1 145 (dk_at dksX1_saveSnapshot_0 12 rfl rfl)
theorem dX1_saveSnapshot_15 : decode cX1_saveSnapshot 15 = .ok (.getfield 131, 3) := dk_180 0 131 (dk_at dksX1_saveSnapshot_0 15 rfl rfl)
theorem dX1_saveSnapshot_18 : decode cX1_saveSnapshot 18 = .ok (.invokevirtual 48, 3) := dk_182 0 48 (dk_at dksX1_saveSnapshot_0 18 rfl rfl)
theorem dX1_saveSnapshot_21 : decode cX1_saveSnapshot 21 = .ok (.ireturn, 1) := dk_172 (dk_at dksX1_saveSnapshot_0 21 rfl rfl)
abbrev cX1_addTurbine : ByteArray := prog_1_method_30_code
def yX1_addTurbine : MethodName := ⟨RX1, "addTurbine", "(III)I"⟩
def dkwX1_addTurbine_1 : List UInt8 := [29, 183, 0, 160, 182, 0, 163, 172]
abbrev dktX1_addTurbine_1 : List UInt8 := dkwX1_addTurbine_1 ++ []
def dkwX1_addTurbine_0 : List UInt8 := [27, 28, 184, 0, 150, 184, 0, 127, 29, 184, 0, 154, 184, 0, 157, 42, 187, 0, 58, 89, 16, 97, 27, 28]
abbrev dktX1_addTurbine_0 : List UInt8 := dkwX1_addTurbine_0 ++ dktX1_addTurbine_1
theorem dksX1_addTurbine_0 : cX1_addTurbine.data.toList.drop 0 = dktX1_addTurbine_0 := by decide +kernel
theorem dksX1_addTurbine_1 : cX1_addTurbine.data.toList.drop 24 = dktX1_addTurbine_1 := dk_seg dksX1_addTurbine_0 24 rfl rfl
theorem dX1_addTurbine_0 : decode cX1_addTurbine 0 = .ok (.iload_n 1, 1) := dk_27 (dk_at dksX1_addTurbine_0 0 rfl rfl)
theorem dX1_addTurbine_1 : decode cX1_addTurbine 1 = .ok (.iload_n 2, 1) := dk_28 (dk_at dksX1_addTurbine_0 1 rfl rfl)
theorem dX1_addTurbine_2 : decode cX1_addTurbine 2 = .ok (.invokestatic 150, 3) := dk_184 0 150 (dk_at dksX1_addTurbine_0 2 rfl rfl)
theorem dX1_addTurbine_5 : decode cX1_addTurbine 5 = .ok (.invokestatic 127, 3) := dk_184 0 127 (dk_at dksX1_addTurbine_0 5 rfl rfl)
theorem dX1_addTurbine_8 : decode cX1_addTurbine 8 = .ok (.iload_n 3, 1) := dk_29 (dk_at dksX1_addTurbine_0 8 rfl rfl)
theorem dX1_addTurbine_9 : decode cX1_addTurbine 9 = .ok (.invokestatic 154, 3) := dk_184 0 154 (dk_at dksX1_addTurbine_0 9 rfl rfl)
theorem dX1_addTurbine_12 : decode cX1_addTurbine 12 = .ok (.invokestatic 157, 3) := dk_184 0 157 (dk_at dksX1_addTurbine_0 12 rfl rfl)
theorem dX1_addTurbine_15 : decode cX1_addTurbine 15 = .ok (.aload_n 0, 1) := dk_42 (dk_at dksX1_addTurbine_0 15 rfl rfl)
theorem dX1_addTurbine_16 : decode cX1_addTurbine 16 = .ok (.new 58, 3) := dk_187 0 58 (dk_at dksX1_addTurbine_0 16 rfl rfl)
theorem dX1_addTurbine_19 : decode cX1_addTurbine 19 = .ok (.dup, 1) := dk_89 (dk_at dksX1_addTurbine_0 19 rfl rfl)
theorem dX1_addTurbine_20 : decode cX1_addTurbine 20 = .ok (.bipush 97, 2) := dk_16 97 (dk_at dksX1_addTurbine_0 20 rfl rfl)
theorem dX1_addTurbine_22 : decode cX1_addTurbine 22 = .ok (.iload_n 1, 1) := dk_27 (dk_at dksX1_addTurbine_0 22 rfl rfl)
theorem dX1_addTurbine_23 : decode cX1_addTurbine 23 = .ok (.iload_n 2, 1) := dk_28 (dk_at dksX1_addTurbine_0 23 rfl rfl)
theorem dX1_addTurbine_24 : decode cX1_addTurbine 24 = .ok (.iload_n 3, 1) := dk_29 (dk_at dksX1_addTurbine_1 0 rfl rfl)
theorem dX1_addTurbine_25 : decode cX1_addTurbine 25 = .ok (.invokespecial 160, 3) := dk_183 0 160 (dk_at dksX1_addTurbine_1 1 rfl rfl)
theorem dX1_addTurbine_28 : decode cX1_addTurbine 28 = .ok (.invokevirtual 163, 3) := dk_182 0 163 (dk_at dksX1_addTurbine_1 4 rfl rfl)
theorem dX1_addTurbine_31 : decode cX1_addTurbine 31 = .ok (.ireturn, 1) := dk_172 (dk_at dksX1_addTurbine_1 7 rfl rfl)
abbrev cX1_requireIndex : ByteArray := prog_1_method_12_code
def yX1_requireIndex : MethodName := ⟨RX1, "requireIndex", "(Z)V"⟩
def dkwX1_requireIndex_0 : List UInt8 := [26, 154, 0, 11, 187, 0, 7, 89, 183, 0, 9, 191, 177]
abbrev dktX1_requireIndex_0 : List UInt8 := dkwX1_requireIndex_0 ++ []
theorem dksX1_requireIndex_0 : cX1_requireIndex.data.toList.drop 0 = dktX1_requireIndex_0 := by decide +kernel
theorem dX1_requireIndex_0 : decode cX1_requireIndex 0 = .ok (.iload_n 0, 1) := dk_26 (dk_at dksX1_requireIndex_0 0 rfl rfl)
theorem dX1_requireIndex_1 : decode cX1_requireIndex 1 = .ok (.ifCond .ne 11, 3) := dk_154 0 11 (dk_at dksX1_requireIndex_0 1 rfl rfl)
theorem dX1_requireIndex_4 : decode cX1_requireIndex 4 = .ok (.new 7, 3) := dk_187 0 7 (dk_at dksX1_requireIndex_0 4 rfl rfl)
theorem dX1_requireIndex_7 : decode cX1_requireIndex 7 = .ok (.dup, 1) := dk_89 (dk_at dksX1_requireIndex_0 7 rfl rfl)
theorem dX1_requireIndex_8 : decode cX1_requireIndex 8 = .ok (.invokespecial 9, 3) := dk_183 0 9 (dk_at dksX1_requireIndex_0 8 rfl rfl)
theorem dX1_requireIndex_11 : decode cX1_requireIndex 11 = .ok (.athrow, 1) := dk_191 (dk_at dksX1_requireIndex_0 11 rfl rfl)
theorem dX1_requireIndex_12 : decode cX1_requireIndex 12 = .ok (.return_, 1) := dk_177 (dk_at dksX1_requireIndex_0 12 rfl rfl)
abbrev cX1_isRated : ByteArray := prog_1_method_3_code
def yX1_isRated : MethodName := ⟨RX1, "isRated", "(I)Z"⟩
def dkwX1_isRated_0 : List UInt8 := [26, 4, 16, 9, 184, 0, 3, 172]
abbrev dktX1_isRated_0 : List UInt8 := dkwX1_isRated_0 ++ []
theorem dksX1_isRated_0 : cX1_isRated.data.toList.drop 0 = dktX1_isRated_0 := by decide +kernel
theorem dX1_isRated_0 : decode cX1_isRated 0 = .ok (.iload_n 0, 1) := dk_26 (dk_at dksX1_isRated_0 0 rfl rfl)
theorem dX1_isRated_1 : decode cX1_isRated 1 = .ok (.iconst 1, 1) := dk_4 (dk_at dksX1_isRated_0 1 rfl rfl)
theorem dX1_isRated_2 : decode cX1_isRated 2 = .ok (.bipush 9, 2) := dk_16 9 (dk_at dksX1_isRated_0 2 rfl rfl)
theorem dX1_isRated_4 : decode cX1_isRated 4 = .ok (.invokestatic 3, 3) := dk_184 0 3 (dk_at dksX1_isRated_0 4 rfl rfl)
theorem dX1_isRated_7 : decode cX1_isRated 7 = .ok (.ireturn, 1) := dk_172 (dk_at dksX1_isRated_0 7 rfl rfl)
abbrev cX1_requireArgument : ByteArray := prog_1_method_13_code
def yX1_requireArgument : MethodName := ⟨RX1, "requireArgument", "(Z)V"⟩
def dkwX1_requireArgument_0 : List UInt8 := [26, 154, 0, 11, 187, 0, 13, 89, 183, 0, 15, 191, 177]
abbrev dktX1_requireArgument_0 : List UInt8 := dkwX1_requireArgument_0 ++ []
theorem dksX1_requireArgument_0 : cX1_requireArgument.data.toList.drop 0 = dktX1_requireArgument_0 := by decide +kernel
theorem dX1_requireArgument_0 : decode cX1_requireArgument 0 = .ok (.iload_n 0, 1) := dk_26 (dk_at dksX1_requireArgument_0 0 rfl rfl)
theorem dX1_requireArgument_1 : decode cX1_requireArgument 1 = .ok (.ifCond .ne 11, 3) := dk_154 0 11 (dk_at dksX1_requireArgument_0 1 rfl rfl)
theorem dX1_requireArgument_4 : decode cX1_requireArgument 4 = .ok (.new 13, 3) := dk_187 0 13 (dk_at dksX1_requireArgument_0 4 rfl rfl)
theorem dX1_requireArgument_7 : decode cX1_requireArgument 7 = .ok (.dup, 1) := dk_89 (dk_at dksX1_requireArgument_0 7 rfl rfl)
theorem dX1_requireArgument_8 : decode cX1_requireArgument 8 = .ok (.invokespecial 15, 3) := dk_183 0 15 (dk_at dksX1_requireArgument_0 8 rfl rfl)
theorem dX1_requireArgument_11 : decode cX1_requireArgument 11 = .ok (.athrow, 1) := dk_191 (dk_at dksX1_requireArgument_0 11 rfl rfl)
theorem dX1_requireArgument_12 : decode cX1_requireArgument 12 = .ok (.return_, 1) := dk_177 (dk_at dksX1_requireArgument_0 12 rfl rfl)
abbrev cX1_fail : ByteArray := prog_1_method_31_code
def yX1_fail : MethodName := ⟨RX1, "fail", "(I)I"⟩
def dkwX1_fail_0 : List UInt8 := [42, 27, 182, 0, 167, 42, 187, 0, 58, 89, 16, 102, 27, 183, 0, 171, 182, 0, 163, 172]
abbrev dktX1_fail_0 : List UInt8 := dkwX1_fail_0 ++ []
theorem dksX1_fail_0 : cX1_fail.data.toList.drop 0 = dktX1_fail_0 := by decide +kernel
theorem dX1_fail_0 : decode cX1_fail 0 = .ok (.aload_n 0, 1) := dk_42 (dk_at dksX1_fail_0 0 rfl rfl)
theorem dX1_fail_1 : decode cX1_fail 1 = .ok (.iload_n 1, 1) := dk_27 (dk_at dksX1_fail_0 1 rfl rfl)
theorem dX1_fail_2 : decode cX1_fail 2 = .ok (.invokevirtual 167, 3) := dk_182 0 167 (dk_at dksX1_fail_0 2 rfl rfl)
theorem dX1_fail_5 : decode cX1_fail 5 = .ok (.aload_n 0, 1) := dk_42 (dk_at dksX1_fail_0 5 rfl rfl)
theorem dX1_fail_6 : decode cX1_fail 6 = .ok (.new 58, 3) := dk_187 0 58 (dk_at dksX1_fail_0 6 rfl rfl)
theorem dX1_fail_9 : decode cX1_fail 9 = .ok (.dup, 1) := dk_89 (dk_at dksX1_fail_0 9 rfl rfl)
theorem dX1_fail_10 : decode cX1_fail 10 = .ok (.bipush 102, 2) := dk_16 102 (dk_at dksX1_fail_0 10 rfl rfl)
theorem dX1_fail_12 : decode cX1_fail 12 = .ok (.iload_n 1, 1) := dk_27 (dk_at dksX1_fail_0 12 rfl rfl)
theorem dX1_fail_13 : decode cX1_fail 13 = .ok (.invokespecial 171, 3) := dk_183 0 171 (dk_at dksX1_fail_0 13 rfl rfl)
theorem dX1_fail_16 : decode cX1_fail 16 = .ok (.invokevirtual 163, 3) := dk_182 0 163 (dk_at dksX1_fail_0 16 rfl rfl)
theorem dX1_fail_19 : decode cX1_fail 19 = .ok (.ireturn, 1) := dk_172 (dk_at dksX1_fail_0 19 rfl rfl)
abbrev cX1_checkTurbine : ByteArray := prog_1_method_25_code
def yX1_checkTurbine : MethodName := ⟨RX1, "checkTurbine", "(I)V"⟩
def dkwX1_checkTurbine_0 : List UInt8 := [42, 180, 0, 77, 27, 182, 0, 124, 184, 0, 127, 177]
abbrev dktX1_checkTurbine_0 : List UInt8 := dkwX1_checkTurbine_0 ++ []
theorem dksX1_checkTurbine_0 : cX1_checkTurbine.data.toList.drop 0 = dktX1_checkTurbine_0 := by decide +kernel
theorem dX1_checkTurbine_0 : decode cX1_checkTurbine 0 = .ok (.aload_n 0, 1) := dk_42 (dk_at dksX1_checkTurbine_0 0 rfl rfl)
theorem dX1_checkTurbine_1 : decode cX1_checkTurbine 1 = .ok (.getfield 77, 3) := dk_180 0 77 (dk_at dksX1_checkTurbine_0 1 rfl rfl)
theorem dX1_checkTurbine_4 : decode cX1_checkTurbine 4 = .ok (.iload_n 1, 1) := dk_27 (dk_at dksX1_checkTurbine_0 4 rfl rfl)
theorem dX1_checkTurbine_5 : decode cX1_checkTurbine 5 = .ok (.invokevirtual 124, 3) := dk_182 0 124 (dk_at dksX1_checkTurbine_0 5 rfl rfl)
theorem dX1_checkTurbine_8 : decode cX1_checkTurbine 8 = .ok (.invokestatic 127, 3) := dk_184 0 127 (dk_at dksX1_checkTurbine_0 8 rfl rfl)
theorem dX1_checkTurbine_11 : decode cX1_checkTurbine 11 = .ok (.return_, 1) := dk_177 (dk_at dksX1_checkTurbine_0 11 rfl rfl)
abbrev cX1_sendCrew : ByteArray := prog_1_method_32_code
def yX1_sendCrew : MethodName := ⟨RX1, "sendCrew", "(II)I"⟩
def dkwX1_sendCrew_1 : List UInt8 := [183, 0, 160, 182, 0, 163, 172]
abbrev dktX1_sendCrew_1 : List UInt8 := dkwX1_sendCrew_1 ++ []
def dkwX1_sendCrew_0 : List UInt8 := [42, 27, 182, 0, 167, 28, 184, 0, 174, 184, 0, 157, 42, 187, 0, 58, 89, 16, 115, 27, 28, 2]
abbrev dktX1_sendCrew_0 : List UInt8 := dkwX1_sendCrew_0 ++ dktX1_sendCrew_1
theorem dksX1_sendCrew_0 : cX1_sendCrew.data.toList.drop 0 = dktX1_sendCrew_0 := by decide +kernel
theorem dksX1_sendCrew_1 : cX1_sendCrew.data.toList.drop 22 = dktX1_sendCrew_1 := dk_seg dksX1_sendCrew_0 22 rfl rfl
theorem dX1_sendCrew_0 : decode cX1_sendCrew 0 = .ok (.aload_n 0, 1) := dk_42 (dk_at dksX1_sendCrew_0 0 rfl rfl)
theorem dX1_sendCrew_1 : decode cX1_sendCrew 1 = .ok (.iload_n 1, 1) := dk_27 (dk_at dksX1_sendCrew_0 1 rfl rfl)
theorem dX1_sendCrew_2 : decode cX1_sendCrew 2 = .ok (.invokevirtual 167, 3) := dk_182 0 167 (dk_at dksX1_sendCrew_0 2 rfl rfl)
theorem dX1_sendCrew_5 : decode cX1_sendCrew 5 = .ok (.iload_n 2, 1) := dk_28 (dk_at dksX1_sendCrew_0 5 rfl rfl)
theorem dX1_sendCrew_6 : decode cX1_sendCrew 6 = .ok (.invokestatic 174, 3) := dk_184 0 174 (dk_at dksX1_sendCrew_0 6 rfl rfl)
theorem dX1_sendCrew_9 : decode cX1_sendCrew 9 = .ok (.invokestatic 157, 3) := dk_184 0 157 (dk_at dksX1_sendCrew_0 9 rfl rfl)
theorem dX1_sendCrew_12 : decode cX1_sendCrew 12 = .ok (.aload_n 0, 1) := dk_42 (dk_at dksX1_sendCrew_0 12 rfl rfl)
theorem dX1_sendCrew_13 : decode cX1_sendCrew 13 = .ok (.new 58, 3) := dk_187 0 58 (dk_at dksX1_sendCrew_0 13 rfl rfl)
theorem dX1_sendCrew_16 : decode cX1_sendCrew 16 = .ok (.dup, 1) := dk_89 (dk_at dksX1_sendCrew_0 16 rfl rfl)
theorem dX1_sendCrew_17 : decode cX1_sendCrew 17 = .ok (.bipush 115, 2) := dk_16 115 (dk_at dksX1_sendCrew_0 17 rfl rfl)
theorem dX1_sendCrew_19 : decode cX1_sendCrew 19 = .ok (.iload_n 1, 1) := dk_27 (dk_at dksX1_sendCrew_0 19 rfl rfl)
theorem dX1_sendCrew_20 : decode cX1_sendCrew 20 = .ok (.iload_n 2, 1) := dk_28 (dk_at dksX1_sendCrew_0 20 rfl rfl)
theorem dX1_sendCrew_21 : decode cX1_sendCrew 21 = .ok (.iconst (-1), 1) := dk_2 (dk_at dksX1_sendCrew_0 21 rfl rfl)
theorem dX1_sendCrew_22 : decode cX1_sendCrew 22 = .ok (.invokespecial 160, 3) := dk_183 0 160 (dk_at dksX1_sendCrew_1 0 rfl rfl)
theorem dX1_sendCrew_25 : decode cX1_sendCrew 25 = .ok (.invokevirtual 163, 3) := dk_182 0 163 (dk_at dksX1_sendCrew_1 3 rfl rfl)
theorem dX1_sendCrew_28 : decode cX1_sendCrew 28 = .ok (.ireturn, 1) := dk_172 (dk_at dksX1_sendCrew_1 6 rfl rfl)
abbrev cX1_isService : ByteArray := prog_1_method_4_code
def yX1_isService : MethodName := ⟨RX1, "isService", "(I)Z"⟩
def dkwX1_isService_0 : List UInt8 := [26, 4, 16, 12, 184, 0, 3, 172]
abbrev dktX1_isService_0 : List UInt8 := dkwX1_isService_0 ++ []
theorem dksX1_isService_0 : cX1_isService.data.toList.drop 0 = dktX1_isService_0 := by decide +kernel
theorem dX1_isService_0 : decode cX1_isService 0 = .ok (.iload_n 0, 1) := dk_26 (dk_at dksX1_isService_0 0 rfl rfl)
theorem dX1_isService_1 : decode cX1_isService 1 = .ok (.iconst 1, 1) := dk_4 (dk_at dksX1_isService_0 1 rfl rfl)
theorem dX1_isService_2 : decode cX1_isService 2 = .ok (.bipush 12, 2) := dk_16 12 (dk_at dksX1_isService_0 2 rfl rfl)
theorem dX1_isService_4 : decode cX1_isService 4 = .ok (.invokestatic 3, 3) := dk_184 0 3 (dk_at dksX1_isService_0 4 rfl rfl)
theorem dX1_isService_7 : decode cX1_isService 7 = .ok (.ireturn, 1) := dk_172 (dk_at dksX1_isService_0 7 rfl rfl)
abbrev cX1_recallCrew : ByteArray := prog_1_method_33_code
def yX1_recallCrew : MethodName := ⟨RX1, "recallCrew", "(I)I"⟩
def dkwX1_recallCrew_0 : List UInt8 := [42, 27, 182, 0, 167, 42, 187, 0, 58, 89, 16, 114, 27, 183, 0, 171, 182, 0, 163, 172]
abbrev dktX1_recallCrew_0 : List UInt8 := dkwX1_recallCrew_0 ++ []
theorem dksX1_recallCrew_0 : cX1_recallCrew.data.toList.drop 0 = dktX1_recallCrew_0 := by decide +kernel
theorem dX1_recallCrew_0 : decode cX1_recallCrew 0 = .ok (.aload_n 0, 1) := dk_42 (dk_at dksX1_recallCrew_0 0 rfl rfl)
theorem dX1_recallCrew_1 : decode cX1_recallCrew 1 = .ok (.iload_n 1, 1) := dk_27 (dk_at dksX1_recallCrew_0 1 rfl rfl)
theorem dX1_recallCrew_2 : decode cX1_recallCrew 2 = .ok (.invokevirtual 167, 3) := dk_182 0 167 (dk_at dksX1_recallCrew_0 2 rfl rfl)
theorem dX1_recallCrew_5 : decode cX1_recallCrew 5 = .ok (.aload_n 0, 1) := dk_42 (dk_at dksX1_recallCrew_0 5 rfl rfl)
theorem dX1_recallCrew_6 : decode cX1_recallCrew 6 = .ok (.new 58, 3) := dk_187 0 58 (dk_at dksX1_recallCrew_0 6 rfl rfl)
theorem dX1_recallCrew_9 : decode cX1_recallCrew 9 = .ok (.dup, 1) := dk_89 (dk_at dksX1_recallCrew_0 9 rfl rfl)
theorem dX1_recallCrew_10 : decode cX1_recallCrew 10 = .ok (.bipush 114, 2) := dk_16 114 (dk_at dksX1_recallCrew_0 10 rfl rfl)
theorem dX1_recallCrew_12 : decode cX1_recallCrew 12 = .ok (.iload_n 1, 1) := dk_27 (dk_at dksX1_recallCrew_0 12 rfl rfl)
theorem dX1_recallCrew_13 : decode cX1_recallCrew 13 = .ok (.invokespecial 171, 3) := dk_183 0 171 (dk_at dksX1_recallCrew_0 13 rfl rfl)
theorem dX1_recallCrew_16 : decode cX1_recallCrew 16 = .ok (.invokevirtual 163, 3) := dk_182 0 163 (dk_at dksX1_recallCrew_0 16 rfl rfl)
theorem dX1_recallCrew_19 : decode cX1_recallCrew 19 = .ok (.ireturn, 1) := dk_172 (dk_at dksX1_recallCrew_0 19 rfl rfl)
abbrev cX1_curtail : ByteArray := prog_1_method_34_code
def yX1_curtail : MethodName := ⟨RX1, "curtail", "(II)I"⟩
def dkwX1_curtail_1 : List UInt8 := [183, 0, 160, 182, 0, 163, 172]
abbrev dktX1_curtail_1 : List UInt8 := dkwX1_curtail_1 ++ []
def dkwX1_curtail_0 : List UInt8 := [42, 27, 182, 0, 167, 28, 184, 0, 177, 184, 0, 157, 42, 187, 0, 58, 89, 16, 99, 27, 28, 2]
abbrev dktX1_curtail_0 : List UInt8 := dkwX1_curtail_0 ++ dktX1_curtail_1
theorem dksX1_curtail_0 : cX1_curtail.data.toList.drop 0 = dktX1_curtail_0 := by decide +kernel
theorem dksX1_curtail_1 : cX1_curtail.data.toList.drop 22 = dktX1_curtail_1 := dk_seg dksX1_curtail_0 22 rfl rfl
theorem dX1_curtail_0 : decode cX1_curtail 0 = .ok (.aload_n 0, 1) := dk_42 (dk_at dksX1_curtail_0 0 rfl rfl)
theorem dX1_curtail_1 : decode cX1_curtail 1 = .ok (.iload_n 1, 1) := dk_27 (dk_at dksX1_curtail_0 1 rfl rfl)
theorem dX1_curtail_2 : decode cX1_curtail 2 = .ok (.invokevirtual 167, 3) := dk_182 0 167 (dk_at dksX1_curtail_0 2 rfl rfl)
theorem dX1_curtail_5 : decode cX1_curtail 5 = .ok (.iload_n 2, 1) := dk_28 (dk_at dksX1_curtail_0 5 rfl rfl)
theorem dX1_curtail_6 : decode cX1_curtail 6 = .ok (.invokestatic 177, 3) := dk_184 0 177 (dk_at dksX1_curtail_0 6 rfl rfl)
theorem dX1_curtail_9 : decode cX1_curtail 9 = .ok (.invokestatic 157, 3) := dk_184 0 157 (dk_at dksX1_curtail_0 9 rfl rfl)
theorem dX1_curtail_12 : decode cX1_curtail 12 = .ok (.aload_n 0, 1) := dk_42 (dk_at dksX1_curtail_0 12 rfl rfl)
theorem dX1_curtail_13 : decode cX1_curtail 13 = .ok (.new 58, 3) := dk_187 0 58 (dk_at dksX1_curtail_0 13 rfl rfl)
theorem dX1_curtail_16 : decode cX1_curtail 16 = .ok (.dup, 1) := dk_89 (dk_at dksX1_curtail_0 16 rfl rfl)
theorem dX1_curtail_17 : decode cX1_curtail 17 = .ok (.bipush 99, 2) := dk_16 99 (dk_at dksX1_curtail_0 17 rfl rfl)
theorem dX1_curtail_19 : decode cX1_curtail 19 = .ok (.iload_n 1, 1) := dk_27 (dk_at dksX1_curtail_0 19 rfl rfl)
theorem dX1_curtail_20 : decode cX1_curtail 20 = .ok (.iload_n 2, 1) := dk_28 (dk_at dksX1_curtail_0 20 rfl rfl)
theorem dX1_curtail_21 : decode cX1_curtail 21 = .ok (.iconst (-1), 1) := dk_2 (dk_at dksX1_curtail_0 21 rfl rfl)
theorem dX1_curtail_22 : decode cX1_curtail 22 = .ok (.invokespecial 160, 3) := dk_183 0 160 (dk_at dksX1_curtail_1 0 rfl rfl)
theorem dX1_curtail_25 : decode cX1_curtail 25 = .ok (.invokevirtual 163, 3) := dk_182 0 163 (dk_at dksX1_curtail_1 3 rfl rfl)
theorem dX1_curtail_28 : decode cX1_curtail 28 = .ok (.ireturn, 1) := dk_172 (dk_at dksX1_curtail_1 6 rfl rfl)
abbrev cX1_isLimit : ByteArray := prog_1_method_5_code
def yX1_isLimit : MethodName := ⟨RX1, "isLimit", "(I)Z"⟩
def dkwX1_isLimit_0 : List UInt8 := [26, 3, 16, 90, 184, 0, 3, 172]
abbrev dktX1_isLimit_0 : List UInt8 := dkwX1_isLimit_0 ++ []
theorem dksX1_isLimit_0 : cX1_isLimit.data.toList.drop 0 = dktX1_isLimit_0 := by decide +kernel
theorem dX1_isLimit_0 : decode cX1_isLimit 0 = .ok (.iload_n 0, 1) := dk_26 (dk_at dksX1_isLimit_0 0 rfl rfl)
theorem dX1_isLimit_1 : decode cX1_isLimit 1 = .ok (.iconst 0, 1) := dk_3 (dk_at dksX1_isLimit_0 1 rfl rfl)
theorem dX1_isLimit_2 : decode cX1_isLimit 2 = .ok (.bipush 90, 2) := dk_16 90 (dk_at dksX1_isLimit_0 2 rfl rfl)
theorem dX1_isLimit_4 : decode cX1_isLimit 4 = .ok (.invokestatic 3, 3) := dk_184 0 3 (dk_at dksX1_isLimit_0 4 rfl rfl)
theorem dX1_isLimit_7 : decode cX1_isLimit 7 = .ok (.ireturn, 1) := dk_172 (dk_at dksX1_isLimit_0 7 rfl rfl)
abbrev cX1_release : ByteArray := prog_1_method_35_code
def yX1_release : MethodName := ⟨RX1, "release", "(I)I"⟩
def dkwX1_release_0 : List UInt8 := [42, 27, 182, 0, 167, 42, 187, 0, 58, 89, 16, 117, 27, 183, 0, 171, 182, 0, 163, 172]
abbrev dktX1_release_0 : List UInt8 := dkwX1_release_0 ++ []
theorem dksX1_release_0 : cX1_release.data.toList.drop 0 = dktX1_release_0 := by decide +kernel
theorem dX1_release_0 : decode cX1_release 0 = .ok (.aload_n 0, 1) := dk_42 (dk_at dksX1_release_0 0 rfl rfl)
theorem dX1_release_1 : decode cX1_release 1 = .ok (.iload_n 1, 1) := dk_27 (dk_at dksX1_release_0 1 rfl rfl)
theorem dX1_release_2 : decode cX1_release 2 = .ok (.invokevirtual 167, 3) := dk_182 0 167 (dk_at dksX1_release_0 2 rfl rfl)
theorem dX1_release_5 : decode cX1_release 5 = .ok (.aload_n 0, 1) := dk_42 (dk_at dksX1_release_0 5 rfl rfl)
theorem dX1_release_6 : decode cX1_release 6 = .ok (.new 58, 3) := dk_187 0 58 (dk_at dksX1_release_0 6 rfl rfl)
theorem dX1_release_9 : decode cX1_release 9 = .ok (.dup, 1) := dk_89 (dk_at dksX1_release_0 9 rfl rfl)
theorem dX1_release_10 : decode cX1_release 10 = .ok (.bipush 117, 2) := dk_16 117 (dk_at dksX1_release_0 10 rfl rfl)
theorem dX1_release_12 : decode cX1_release 12 = .ok (.iload_n 1, 1) := dk_27 (dk_at dksX1_release_0 12 rfl rfl)
theorem dX1_release_13 : decode cX1_release 13 = .ok (.invokespecial 171, 3) := dk_183 0 171 (dk_at dksX1_release_0 13 rfl rfl)
theorem dX1_release_16 : decode cX1_release 16 = .ok (.invokevirtual 163, 3) := dk_182 0 163 (dk_at dksX1_release_0 16 rfl rfl)
theorem dX1_release_19 : decode cX1_release 19 = .ok (.ireturn, 1) := dk_172 (dk_at dksX1_release_0 19 rfl rfl)
abbrev cX1_turbineAt : ByteArray := prog_1_method_37_code
def yX1_turbineAt : MethodName := ⟨RX1, "turbineAt", "(II)I"⟩
def dkwX1_turbineAt_1 : List UInt8 := [4, 167, 0, 4, 3, 184, 0, 136, 45, 180, 0, 184, 172]
abbrev dktX1_turbineAt_1 : List UInt8 := dkwX1_turbineAt_1 ++ []
def dkwX1_turbineAt_0 : List UInt8 := [27, 28, 184, 0, 150, 184, 0, 127, 42, 180, 0, 77, 180, 0, 180, 27, 50, 28, 50, 78, 45, 198, 0, 7]
abbrev dktX1_turbineAt_0 : List UInt8 := dkwX1_turbineAt_0 ++ dktX1_turbineAt_1
theorem dksX1_turbineAt_0 : cX1_turbineAt.data.toList.drop 0 = dktX1_turbineAt_0 := by decide +kernel
theorem dksX1_turbineAt_1 : cX1_turbineAt.data.toList.drop 24 = dktX1_turbineAt_1 := dk_seg dksX1_turbineAt_0 24 rfl rfl
theorem dX1_turbineAt_0 : decode cX1_turbineAt 0 = .ok (.iload_n 1, 1) := dk_27 (dk_at dksX1_turbineAt_0 0 rfl rfl)
theorem dX1_turbineAt_1 : decode cX1_turbineAt 1 = .ok (.iload_n 2, 1) := dk_28 (dk_at dksX1_turbineAt_0 1 rfl rfl)
theorem dX1_turbineAt_2 : decode cX1_turbineAt 2 = .ok (.invokestatic 150, 3) := dk_184 0 150 (dk_at dksX1_turbineAt_0 2 rfl rfl)
theorem dX1_turbineAt_5 : decode cX1_turbineAt 5 = .ok (.invokestatic 127, 3) := dk_184 0 127 (dk_at dksX1_turbineAt_0 5 rfl rfl)
theorem dX1_turbineAt_8 : decode cX1_turbineAt 8 = .ok (.aload_n 0, 1) := dk_42 (dk_at dksX1_turbineAt_0 8 rfl rfl)
theorem dX1_turbineAt_9 : decode cX1_turbineAt 9 = .ok (.getfield 77, 3) := dk_180 0 77 (dk_at dksX1_turbineAt_0 9 rfl rfl)
theorem dX1_turbineAt_12 : decode cX1_turbineAt 12 = .ok (.getfield 180, 3) := dk_180 0 180 (dk_at dksX1_turbineAt_0 12 rfl rfl)
theorem dX1_turbineAt_15 : decode cX1_turbineAt 15 = .ok (.iload_n 1, 1) := dk_27 (dk_at dksX1_turbineAt_0 15 rfl rfl)
theorem dX1_turbineAt_16 : decode cX1_turbineAt 16 = .ok (.aaload, 1) := dk_50 (dk_at dksX1_turbineAt_0 16 rfl rfl)
theorem dX1_turbineAt_17 : decode cX1_turbineAt 17 = .ok (.iload_n 2, 1) := dk_28 (dk_at dksX1_turbineAt_0 17 rfl rfl)
theorem dX1_turbineAt_18 : decode cX1_turbineAt 18 = .ok (.aaload, 1) := dk_50 (dk_at dksX1_turbineAt_0 18 rfl rfl)
theorem dX1_turbineAt_19 : decode cX1_turbineAt 19 = .ok (.astore_n 3, 1) := dk_78 (dk_at dksX1_turbineAt_0 19 rfl rfl)
theorem dX1_turbineAt_20 : decode cX1_turbineAt 20 = .ok (.aload_n 3, 1) := dk_45 (dk_at dksX1_turbineAt_0 20 rfl rfl)
theorem dX1_turbineAt_21 : decode cX1_turbineAt 21 = .ok (.ifnull 7, 3) := dk_198 0 7 (dk_at dksX1_turbineAt_0 21 rfl rfl)
theorem dX1_turbineAt_24 : decode cX1_turbineAt 24 = .ok (.iconst 1, 1) := dk_4 (dk_at dksX1_turbineAt_1 0 rfl rfl)
theorem dX1_turbineAt_25 : decode cX1_turbineAt 25 = .ok (.goto 4, 3) := dk_167 0 4 (dk_at dksX1_turbineAt_1 1 rfl rfl)
theorem dX1_turbineAt_28 : decode cX1_turbineAt 28 = .ok (.iconst 0, 1) := dk_3 (dk_at dksX1_turbineAt_1 4 rfl rfl)
theorem dX1_turbineAt_29 : decode cX1_turbineAt 29 = .ok (.invokestatic 136, 3) := dk_184 0 136 (dk_at dksX1_turbineAt_1 5 rfl rfl)
theorem dX1_turbineAt_32 : decode cX1_turbineAt 32 = .ok (.aload_n 3, 1) := dk_45 (dk_at dksX1_turbineAt_1 8 rfl rfl)
theorem dX1_turbineAt_33 : decode cX1_turbineAt 33 = .ok (.getfield 184, 3) := dk_180 0 184 (dk_at dksX1_turbineAt_1 9 rfl rfl)
theorem dX1_turbineAt_36 : decode cX1_turbineAt 36 = .ok (.ireturn, 1) := dk_172 (dk_at dksX1_turbineAt_1 12 rfl rfl)
abbrev cX1_requireElement : ByteArray := prog_1_method_15_code
def yX1_requireElement : MethodName := ⟨RX1, "requireElement", "(Z)V"⟩
def dkwX1_requireElement_0 : List UInt8 := [26, 154, 0, 11, 187, 0, 19, 89, 183, 0, 21, 191, 177]
abbrev dktX1_requireElement_0 : List UInt8 := dkwX1_requireElement_0 ++ []
theorem dksX1_requireElement_0 : cX1_requireElement.data.toList.drop 0 = dktX1_requireElement_0 := by decide +kernel
theorem dX1_requireElement_0 : decode cX1_requireElement 0 = .ok (.iload_n 0, 1) := dk_26 (dk_at dksX1_requireElement_0 0 rfl rfl)
theorem dX1_requireElement_1 : decode cX1_requireElement 1 = .ok (.ifCond .ne 11, 3) := dk_154 0 11 (dk_at dksX1_requireElement_0 1 rfl rfl)
theorem dX1_requireElement_4 : decode cX1_requireElement 4 = .ok (.new 19, 3) := dk_187 0 19 (dk_at dksX1_requireElement_0 4 rfl rfl)
theorem dX1_requireElement_7 : decode cX1_requireElement 7 = .ok (.dup, 1) := dk_89 (dk_at dksX1_requireElement_0 7 rfl rfl)
theorem dX1_requireElement_8 : decode cX1_requireElement 8 = .ok (.invokespecial 21, 3) := dk_183 0 21 (dk_at dksX1_requireElement_0 8 rfl rfl)
theorem dX1_requireElement_11 : decode cX1_requireElement 11 = .ok (.athrow, 1) := dk_191 (dk_at dksX1_requireElement_0 11 rfl rfl)
theorem dX1_requireElement_12 : decode cX1_requireElement 12 = .ok (.return_, 1) := dk_177 (dk_at dksX1_requireElement_0 12 rfl rfl)
abbrev cX1_rowOf : ByteArray := prog_1_method_38_code
def yX1_rowOf : MethodName := ⟨RX1, "rowOf", "(I)I"⟩
def dkwX1_rowOf_0 : List UInt8 := [42, 27, 182, 0, 187, 180, 0, 191, 172]
abbrev dktX1_rowOf_0 : List UInt8 := dkwX1_rowOf_0 ++ []
theorem dksX1_rowOf_0 : cX1_rowOf.data.toList.drop 0 = dktX1_rowOf_0 := by decide +kernel
theorem dX1_rowOf_0 : decode cX1_rowOf 0 = .ok (.aload_n 0, 1) := dk_42 (dk_at dksX1_rowOf_0 0 rfl rfl)
theorem dX1_rowOf_1 : decode cX1_rowOf 1 = .ok (.iload_n 1, 1) := dk_27 (dk_at dksX1_rowOf_0 1 rfl rfl)
theorem dX1_rowOf_2 : decode cX1_rowOf 2 = .ok (.invokevirtual 187, 3) := dk_182 0 187 (dk_at dksX1_rowOf_0 2 rfl rfl)
theorem dX1_rowOf_5 : decode cX1_rowOf 5 = .ok (.getfield 191, 3) := dk_180 0 191 (dk_at dksX1_rowOf_0 5 rfl rfl)
theorem dX1_rowOf_8 : decode cX1_rowOf 8 = .ok (.ireturn, 1) := dk_172 (dk_at dksX1_rowOf_0 8 rfl rfl)
abbrev cX1_requireTurbine : ByteArray := prog_1_method_26_code
def yX1_requireTurbine : MethodName := ⟨RX1, "requireTurbine", "(I)LWindFarmDispatcher$Turbine;"⟩
def dkwX1_requireTurbine_1 : List UInt8 := [192, 0, 134, 176]
abbrev dktX1_requireTurbine_1 : List UInt8 := dkwX1_requireTurbine_1 ++ []
def dkwX1_requireTurbine_0 : List UInt8 := [42, 180, 0, 77, 27, 182, 0, 124, 184, 0, 127, 42, 180, 0, 77, 180, 0, 131, 27, 182, 0, 54]
abbrev dktX1_requireTurbine_0 : List UInt8 := dkwX1_requireTurbine_0 ++ dktX1_requireTurbine_1
theorem dksX1_requireTurbine_0 : cX1_requireTurbine.data.toList.drop 0 = dktX1_requireTurbine_0 := by decide +kernel
theorem dksX1_requireTurbine_1 : cX1_requireTurbine.data.toList.drop 22 = dktX1_requireTurbine_1 := dk_seg dksX1_requireTurbine_0 22 rfl rfl
theorem dX1_requireTurbine_0 : decode cX1_requireTurbine 0 = .ok (.aload_n 0, 1) := dk_42 (dk_at dksX1_requireTurbine_0 0 rfl rfl)
theorem dX1_requireTurbine_1 : decode cX1_requireTurbine 1 = .ok (.getfield 77, 3) := dk_180 0 77 (dk_at dksX1_requireTurbine_0 1 rfl rfl)
theorem dX1_requireTurbine_4 : decode cX1_requireTurbine 4 = .ok (.iload_n 1, 1) := dk_27 (dk_at dksX1_requireTurbine_0 4 rfl rfl)
theorem dX1_requireTurbine_5 : decode cX1_requireTurbine 5 = .ok (.invokevirtual 124, 3) := dk_182 0 124 (dk_at dksX1_requireTurbine_0 5 rfl rfl)
theorem dX1_requireTurbine_8 : decode cX1_requireTurbine 8 = .ok (.invokestatic 127, 3) := dk_184 0 127 (dk_at dksX1_requireTurbine_0 8 rfl rfl)
theorem dX1_requireTurbine_11 : decode cX1_requireTurbine 11 = .ok (.aload_n 0, 1) := dk_42 (dk_at dksX1_requireTurbine_0 11 rfl rfl)
theorem dX1_requireTurbine_12 : decode cX1_requireTurbine 12 = .ok (.getfield 77, 3) := dk_180 0 77 (dk_at dksX1_requireTurbine_0 12 rfl rfl)
theorem dX1_requireTurbine_15 : decode cX1_requireTurbine 15 = .ok (.getfield 131, 3) := dk_180 0 131 (dk_at dksX1_requireTurbine_0 15 rfl rfl)
theorem dX1_requireTurbine_18 : decode cX1_requireTurbine 18 = .ok (.iload_n 1, 1) := dk_27 (dk_at dksX1_requireTurbine_0 18 rfl rfl)
theorem dX1_requireTurbine_19 : decode cX1_requireTurbine 19 = .ok (.invokevirtual 54, 3) := dk_182 0 54 (dk_at dksX1_requireTurbine_0 19 rfl rfl)
theorem dX1_requireTurbine_22 : decode cX1_requireTurbine 22 = .ok (.checkcast 134, 3) := dk_192 0 134 (dk_at dksX1_requireTurbine_1 0 rfl rfl)
theorem dX1_requireTurbine_25 : decode cX1_requireTurbine 25 = .ok (.areturn, 1) := dk_176 (dk_at dksX1_requireTurbine_1 3 rfl rfl)
abbrev cX1_columnOf : ByteArray := prog_1_method_39_code
def yX1_columnOf : MethodName := ⟨RX1, "columnOf", "(I)I"⟩
def dkwX1_columnOf_0 : List UInt8 := [42, 27, 182, 0, 187, 180, 0, 194, 172]
abbrev dktX1_columnOf_0 : List UInt8 := dkwX1_columnOf_0 ++ []
theorem dksX1_columnOf_0 : cX1_columnOf.data.toList.drop 0 = dktX1_columnOf_0 := by decide +kernel
theorem dX1_columnOf_0 : decode cX1_columnOf 0 = .ok (.aload_n 0, 1) := dk_42 (dk_at dksX1_columnOf_0 0 rfl rfl)
theorem dX1_columnOf_1 : decode cX1_columnOf 1 = .ok (.iload_n 1, 1) := dk_27 (dk_at dksX1_columnOf_0 1 rfl rfl)
theorem dX1_columnOf_2 : decode cX1_columnOf 2 = .ok (.invokevirtual 187, 3) := dk_182 0 187 (dk_at dksX1_columnOf_0 2 rfl rfl)
theorem dX1_columnOf_5 : decode cX1_columnOf 5 = .ok (.getfield 194, 3) := dk_180 0 194 (dk_at dksX1_columnOf_0 5 rfl rfl)
theorem dX1_columnOf_8 : decode cX1_columnOf 8 = .ok (.ireturn, 1) := dk_172 (dk_at dksX1_columnOf_0 8 rfl rfl)
abbrev cX1_ratedPower : ByteArray := prog_1_method_40_code
def yX1_ratedPower : MethodName := ⟨RX1, "ratedPower", "(I)I"⟩
def dkwX1_ratedPower_0 : List UInt8 := [42, 27, 182, 0, 187, 180, 0, 197, 172]
abbrev dktX1_ratedPower_0 : List UInt8 := dkwX1_ratedPower_0 ++ []
theorem dksX1_ratedPower_0 : cX1_ratedPower.data.toList.drop 0 = dktX1_ratedPower_0 := by decide +kernel
theorem dX1_ratedPower_0 : decode cX1_ratedPower 0 = .ok (.aload_n 0, 1) := dk_42 (dk_at dksX1_ratedPower_0 0 rfl rfl)
theorem dX1_ratedPower_1 : decode cX1_ratedPower 1 = .ok (.iload_n 1, 1) := dk_27 (dk_at dksX1_ratedPower_0 1 rfl rfl)
theorem dX1_ratedPower_2 : decode cX1_ratedPower 2 = .ok (.invokevirtual 187, 3) := dk_182 0 187 (dk_at dksX1_ratedPower_0 2 rfl rfl)
theorem dX1_ratedPower_5 : decode cX1_ratedPower 5 = .ok (.getfield 197, 3) := dk_180 0 197 (dk_at dksX1_ratedPower_0 5 rfl rfl)
theorem dX1_ratedPower_8 : decode cX1_ratedPower 8 = .ok (.ireturn, 1) := dk_172 (dk_at dksX1_ratedPower_0 8 rfl rfl)
abbrev cX1_isRunning : ByteArray := prog_1_method_41_code
def yX1_isRunning : MethodName := ⟨RX1, "isRunning", "(I)Z"⟩
def dkwX1_isRunning_0 : List UInt8 := [42, 27, 182, 0, 187, 182, 0, 200, 172]
abbrev dktX1_isRunning_0 : List UInt8 := dkwX1_isRunning_0 ++ []
theorem dksX1_isRunning_0 : cX1_isRunning.data.toList.drop 0 = dktX1_isRunning_0 := by decide +kernel
theorem dX1_isRunning_0 : decode cX1_isRunning 0 = .ok (.aload_n 0, 1) := dk_42 (dk_at dksX1_isRunning_0 0 rfl rfl)
theorem dX1_isRunning_1 : decode cX1_isRunning 1 = .ok (.iload_n 1, 1) := dk_27 (dk_at dksX1_isRunning_0 1 rfl rfl)
theorem dX1_isRunning_2 : decode cX1_isRunning 2 = .ok (.invokevirtual 187, 3) := dk_182 0 187 (dk_at dksX1_isRunning_0 2 rfl rfl)
theorem dX1_isRunning_5 : decode cX1_isRunning 5 = .ok (.invokevirtual 200, 3) := dk_182 0 200 (dk_at dksX1_isRunning_0 5 rfl rfl)
theorem dX1_isRunning_8 : decode cX1_isRunning 8 = .ok (.ireturn, 1) := dk_172 (dk_at dksX1_isRunning_0 8 rfl rfl)
abbrev cX1_isFailed : ByteArray := prog_1_method_42_code
def yX1_isFailed : MethodName := ⟨RX1, "isFailed", "(I)Z"⟩
def dkwX1_isFailed_0 : List UInt8 := [42, 27, 182, 0, 187, 182, 0, 204, 172]
abbrev dktX1_isFailed_0 : List UInt8 := dkwX1_isFailed_0 ++ []
theorem dksX1_isFailed_0 : cX1_isFailed.data.toList.drop 0 = dktX1_isFailed_0 := by decide +kernel
theorem dX1_isFailed_0 : decode cX1_isFailed 0 = .ok (.aload_n 0, 1) := dk_42 (dk_at dksX1_isFailed_0 0 rfl rfl)
theorem dX1_isFailed_1 : decode cX1_isFailed 1 = .ok (.iload_n 1, 1) := dk_27 (dk_at dksX1_isFailed_0 1 rfl rfl)
theorem dX1_isFailed_2 : decode cX1_isFailed 2 = .ok (.invokevirtual 187, 3) := dk_182 0 187 (dk_at dksX1_isFailed_0 2 rfl rfl)
theorem dX1_isFailed_5 : decode cX1_isFailed 5 = .ok (.invokevirtual 204, 3) := dk_182 0 204 (dk_at dksX1_isFailed_0 5 rfl rfl)
theorem dX1_isFailed_8 : decode cX1_isFailed 8 = .ok (.ireturn, 1) := dk_172 (dk_at dksX1_isFailed_0 8 rfl rfl)
abbrev cX1_isInService : ByteArray := prog_1_method_43_code
def yX1_isInService : MethodName := ⟨RX1, "isInService", "(I)Z"⟩
def dkwX1_isInService_0 : List UInt8 := [42, 27, 182, 0, 187, 182, 0, 207, 158, 0, 7, 4, 167, 0, 4, 3, 172]
abbrev dktX1_isInService_0 : List UInt8 := dkwX1_isInService_0 ++ []
theorem dksX1_isInService_0 : cX1_isInService.data.toList.drop 0 = dktX1_isInService_0 := by decide +kernel
theorem dX1_isInService_0 : decode cX1_isInService 0 = .ok (.aload_n 0, 1) := dk_42 (dk_at dksX1_isInService_0 0 rfl rfl)
theorem dX1_isInService_1 : decode cX1_isInService 1 = .ok (.iload_n 1, 1) := dk_27 (dk_at dksX1_isInService_0 1 rfl rfl)
theorem dX1_isInService_2 : decode cX1_isInService 2 = .ok (.invokevirtual 187, 3) := dk_182 0 187 (dk_at dksX1_isInService_0 2 rfl rfl)
theorem dX1_isInService_5 : decode cX1_isInService 5 = .ok (.invokevirtual 207, 3) := dk_182 0 207 (dk_at dksX1_isInService_0 5 rfl rfl)
theorem dX1_isInService_8 : decode cX1_isInService 8 = .ok (.ifCond .le 7, 3) := dk_158 0 7 (dk_at dksX1_isInService_0 8 rfl rfl)
theorem dX1_isInService_11 : decode cX1_isInService 11 = .ok (.iconst 1, 1) := dk_4 (dk_at dksX1_isInService_0 11 rfl rfl)
theorem dX1_isInService_12 : decode cX1_isInService 12 = .ok (.goto 4, 3) := dk_167 0 4 (dk_at dksX1_isInService_0 12 rfl rfl)
theorem dX1_isInService_15 : decode cX1_isInService 15 = .ok (.iconst 0, 1) := dk_3 (dk_at dksX1_isInService_0 15 rfl rfl)
theorem dX1_isInService_16 : decode cX1_isInService 16 = .ok (.ireturn, 1) := dk_172 (dk_at dksX1_isInService_0 16 rfl rfl)
abbrev cX1_limitOf : ByteArray := prog_1_method_44_code
def yX1_limitOf : MethodName := ⟨RX1, "limitOf", "(I)I"⟩
def dkwX1_limitOf_0 : List UInt8 := [42, 27, 182, 0, 187, 182, 0, 210, 184, 0, 213, 172]
abbrev dktX1_limitOf_0 : List UInt8 := dkwX1_limitOf_0 ++ []
theorem dksX1_limitOf_0 : cX1_limitOf.data.toList.drop 0 = dktX1_limitOf_0 := by decide +kernel
theorem dX1_limitOf_0 : decode cX1_limitOf 0 = .ok (.aload_n 0, 1) := dk_42 (dk_at dksX1_limitOf_0 0 rfl rfl)
theorem dX1_limitOf_1 : decode cX1_limitOf 1 = .ok (.iload_n 1, 1) := dk_27 (dk_at dksX1_limitOf_0 1 rfl rfl)
theorem dX1_limitOf_2 : decode cX1_limitOf 2 = .ok (.invokevirtual 187, 3) := dk_182 0 187 (dk_at dksX1_limitOf_0 2 rfl rfl)
theorem dX1_limitOf_5 : decode cX1_limitOf 5 = .ok (.invokevirtual 210, 3) := dk_182 0 210 (dk_at dksX1_limitOf_0 5 rfl rfl)
theorem dX1_limitOf_8 : decode cX1_limitOf 8 = .ok (.invokestatic 213, 3) := dk_184 0 213 (dk_at dksX1_limitOf_0 8 rfl rfl)
theorem dX1_limitOf_11 : decode cX1_limitOf 11 = .ok (.ireturn, 1) := dk_172 (dk_at dksX1_limitOf_0 11 rfl rfl)
abbrev cX1_requireFound : ByteArray := prog_1_method_27_code
def yX1_requireFound : MethodName := ⟨RX1, "requireFound", "(I)I"⟩
def dkwX1_requireFound_0 : List UInt8 := [26, 2, 159, 0, 7, 4, 167, 0, 4, 3, 184, 0, 136, 26, 172]
abbrev dktX1_requireFound_0 : List UInt8 := dkwX1_requireFound_0 ++ []
theorem dksX1_requireFound_0 : cX1_requireFound.data.toList.drop 0 = dktX1_requireFound_0 := by decide +kernel
theorem dX1_requireFound_0 : decode cX1_requireFound 0 = .ok (.iload_n 0, 1) := dk_26 (dk_at dksX1_requireFound_0 0 rfl rfl)
theorem dX1_requireFound_1 : decode cX1_requireFound 1 = .ok (.iconst (-1), 1) := dk_2 (dk_at dksX1_requireFound_0 1 rfl rfl)
theorem dX1_requireFound_2 : decode cX1_requireFound 2 = .ok (.if_icmp .eq 7, 3) := dk_159 0 7 (dk_at dksX1_requireFound_0 2 rfl rfl)
theorem dX1_requireFound_5 : decode cX1_requireFound 5 = .ok (.iconst 1, 1) := dk_4 (dk_at dksX1_requireFound_0 5 rfl rfl)
theorem dX1_requireFound_6 : decode cX1_requireFound 6 = .ok (.goto 4, 3) := dk_167 0 4 (dk_at dksX1_requireFound_0 6 rfl rfl)
theorem dX1_requireFound_9 : decode cX1_requireFound 9 = .ok (.iconst 0, 1) := dk_3 (dk_at dksX1_requireFound_0 9 rfl rfl)
theorem dX1_requireFound_10 : decode cX1_requireFound 10 = .ok (.invokestatic 136, 3) := dk_184 0 136 (dk_at dksX1_requireFound_0 10 rfl rfl)
theorem dX1_requireFound_13 : decode cX1_requireFound 13 = .ok (.iload_n 0, 1) := dk_26 (dk_at dksX1_requireFound_0 13 rfl rfl)
theorem dX1_requireFound_14 : decode cX1_requireFound 14 = .ok (.ireturn, 1) := dk_172 (dk_at dksX1_requireFound_0 14 rfl rfl)
abbrev cX1_serviceHoursLeft : ByteArray := prog_1_method_45_code
def yX1_serviceHoursLeft : MethodName := ⟨RX1, "serviceHoursLeft", "(I)I"⟩
def dkwX1_serviceHoursLeft_0 : List UInt8 := [42, 27, 182, 0, 187, 182, 0, 207, 61, 28, 158, 0, 7, 4, 167, 0, 4, 3, 184, 0, 136, 28, 172]
abbrev dktX1_serviceHoursLeft_0 : List UInt8 := dkwX1_serviceHoursLeft_0 ++ []
theorem dksX1_serviceHoursLeft_0 : cX1_serviceHoursLeft.data.toList.drop 0 = dktX1_serviceHoursLeft_0 := by decide +kernel
theorem dX1_serviceHoursLeft_0 : decode cX1_serviceHoursLeft 0 = .ok (.aload_n 0, 1) := dk_42 (dk_at dksX1_serviceHoursLeft_0 0 rfl rfl)
theorem dX1_serviceHoursLeft_1 : decode cX1_serviceHoursLeft 1 = .ok (.iload_n 1, 1) := dk_27 (dk_at dksX1_serviceHoursLeft_0 1 rfl rfl)
theorem dX1_serviceHoursLeft_2 : decode cX1_serviceHoursLeft 2 = .ok (.invokevirtual 187, 3) := dk_182 0 187 (dk_at dksX1_serviceHoursLeft_0 2 rfl rfl)
theorem dX1_serviceHoursLeft_5 : decode cX1_serviceHoursLeft 5 = .ok (.invokevirtual 207, 3) := dk_182 0 207 (dk_at dksX1_serviceHoursLeft_0 5 rfl rfl)
theorem dX1_serviceHoursLeft_8 : decode cX1_serviceHoursLeft 8 = .ok (.istore_n 2, 1) := dk_61 (dk_at dksX1_serviceHoursLeft_0 8 rfl rfl)
theorem dX1_serviceHoursLeft_9 : decode cX1_serviceHoursLeft 9 = .ok (.iload_n 2, 1) := dk_28 (dk_at dksX1_serviceHoursLeft_0 9 rfl rfl)
theorem dX1_serviceHoursLeft_10 : decode cX1_serviceHoursLeft 10 = .ok (.ifCond .le 7, 3) := dk_158 0 7 (dk_at dksX1_serviceHoursLeft_0 10 rfl rfl)
theorem dX1_serviceHoursLeft_13 : decode cX1_serviceHoursLeft 13 = .ok (.iconst 1, 1) := dk_4 (dk_at dksX1_serviceHoursLeft_0 13 rfl rfl)
theorem dX1_serviceHoursLeft_14 : decode cX1_serviceHoursLeft 14 = .ok (.goto 4, 3) := dk_167 0 4 (dk_at dksX1_serviceHoursLeft_0 14 rfl rfl)
theorem dX1_serviceHoursLeft_17 : decode cX1_serviceHoursLeft 17 = .ok (.iconst 0, 1) := dk_3 (dk_at dksX1_serviceHoursLeft_0 17 rfl rfl)
theorem dX1_serviceHoursLeft_18 : decode cX1_serviceHoursLeft 18 = .ok (.invokestatic 136, 3) := dk_184 0 136 (dk_at dksX1_serviceHoursLeft_0 18 rfl rfl)
theorem dX1_serviceHoursLeft_21 : decode cX1_serviceHoursLeft 21 = .ok (.iload_n 2, 1) := dk_28 (dk_at dksX1_serviceHoursLeft_0 21 rfl rfl)
theorem dX1_serviceHoursLeft_22 : decode cX1_serviceHoursLeft 22 = .ok (.ireturn, 1) := dk_172 (dk_at dksX1_serviceHoursLeft_0 22 rfl rfl)
abbrev cX1_setWind : ByteArray := prog_1_method_47_code
def yX1_setWind : MethodName := ⟨RX1, "setWind", "(CI)I"⟩
def dkwX1_setWind_1 : List UInt8 := [182, 0, 163, 172]
abbrev dktX1_setWind_1 : List UInt8 := dkwX1_setWind_1 ++ []
def dkwX1_setWind_0 : List UInt8 := [27, 28, 184, 0, 220, 184, 0, 157, 42, 187, 0, 58, 89, 16, 119, 27, 28, 2, 2, 183, 0, 224]
abbrev dktX1_setWind_0 : List UInt8 := dkwX1_setWind_0 ++ dktX1_setWind_1
theorem dksX1_setWind_0 : cX1_setWind.data.toList.drop 0 = dktX1_setWind_0 := by decide +kernel
theorem dksX1_setWind_1 : cX1_setWind.data.toList.drop 22 = dktX1_setWind_1 := dk_seg dksX1_setWind_0 22 rfl rfl
theorem dX1_setWind_0 : decode cX1_setWind 0 = .ok (.iload_n 1, 1) := dk_27 (dk_at dksX1_setWind_0 0 rfl rfl)
theorem dX1_setWind_1 : decode cX1_setWind 1 = .ok (.iload_n 2, 1) := dk_28 (dk_at dksX1_setWind_0 1 rfl rfl)
theorem dX1_setWind_2 : decode cX1_setWind 2 = .ok (.invokestatic 220, 3) := dk_184 0 220 (dk_at dksX1_setWind_0 2 rfl rfl)
theorem dX1_setWind_5 : decode cX1_setWind 5 = .ok (.invokestatic 157, 3) := dk_184 0 157 (dk_at dksX1_setWind_0 5 rfl rfl)
theorem dX1_setWind_8 : decode cX1_setWind 8 = .ok (.aload_n 0, 1) := dk_42 (dk_at dksX1_setWind_0 8 rfl rfl)
theorem dX1_setWind_9 : decode cX1_setWind 9 = .ok (.new 58, 3) := dk_187 0 58 (dk_at dksX1_setWind_0 9 rfl rfl)
theorem dX1_setWind_12 : decode cX1_setWind 12 = .ok (.dup, 1) := dk_89 (dk_at dksX1_setWind_0 12 rfl rfl)
theorem dX1_setWind_13 : decode cX1_setWind 13 = .ok (.bipush 119, 2) := dk_16 119 (dk_at dksX1_setWind_0 13 rfl rfl)
theorem dX1_setWind_15 : decode cX1_setWind 15 = .ok (.iload_n 1, 1) := dk_27 (dk_at dksX1_setWind_0 15 rfl rfl)
theorem dX1_setWind_16 : decode cX1_setWind 16 = .ok (.iload_n 2, 1) := dk_28 (dk_at dksX1_setWind_0 16 rfl rfl)
theorem dX1_setWind_17 : decode cX1_setWind 17 = .ok (.iconst (-1), 1) := dk_2 (dk_at dksX1_setWind_0 17 rfl rfl)
theorem dX1_setWind_18 : decode cX1_setWind 18 = .ok (.iconst (-1), 1) := dk_2 (dk_at dksX1_setWind_0 18 rfl rfl)
theorem dX1_setWind_19 : decode cX1_setWind 19 = .ok (.invokespecial 224, 3) := dk_183 0 224 (dk_at dksX1_setWind_0 19 rfl rfl)
theorem dX1_setWind_22 : decode cX1_setWind 22 = .ok (.invokevirtual 163, 3) := dk_182 0 163 (dk_at dksX1_setWind_1 0 rfl rfl)
theorem dX1_setWind_25 : decode cX1_setWind 25 = .ok (.ireturn, 1) := dk_172 (dk_at dksX1_setWind_1 3 rfl rfl)
abbrev cX1_isWind : ByteArray := prog_1_method_19_code
def yX1_isWind : MethodName := ⟨RX1, "isWind", "(CI)Z"⟩
def dkwX1_isWind_0 : List UInt8 := [26, 184, 0, 40, 198, 0, 14, 27, 184, 0, 44, 153, 0, 7, 4, 167, 0, 4, 3, 172]
abbrev dktX1_isWind_0 : List UInt8 := dkwX1_isWind_0 ++ []
theorem dksX1_isWind_0 : cX1_isWind.data.toList.drop 0 = dktX1_isWind_0 := by decide +kernel
theorem dX1_isWind_0 : decode cX1_isWind 0 = .ok (.iload_n 0, 1) := dk_26 (dk_at dksX1_isWind_0 0 rfl rfl)
theorem dX1_isWind_1 : decode cX1_isWind 1 = .ok (.invokestatic 40, 3) := dk_184 0 40 (dk_at dksX1_isWind_0 1 rfl rfl)
theorem dX1_isWind_4 : decode cX1_isWind 4 = .ok (.ifnull 14, 3) := dk_198 0 14 (dk_at dksX1_isWind_0 4 rfl rfl)
theorem dX1_isWind_7 : decode cX1_isWind 7 = .ok (.iload_n 1, 1) := dk_27 (dk_at dksX1_isWind_0 7 rfl rfl)
theorem dX1_isWind_8 : decode cX1_isWind 8 = .ok (.invokestatic 44, 3) := dk_184 0 44 (dk_at dksX1_isWind_0 8 rfl rfl)
theorem dX1_isWind_11 : decode cX1_isWind 11 = .ok (.ifCond .eq 7, 3) := dk_153 0 7 (dk_at dksX1_isWind_0 11 rfl rfl)
theorem dX1_isWind_14 : decode cX1_isWind 14 = .ok (.iconst 1, 1) := dk_4 (dk_at dksX1_isWind_0 14 rfl rfl)
theorem dX1_isWind_15 : decode cX1_isWind 15 = .ok (.goto 4, 3) := dk_167 0 4 (dk_at dksX1_isWind_0 15 rfl rfl)
theorem dX1_isWind_18 : decode cX1_isWind 18 = .ok (.iconst 0, 1) := dk_3 (dk_at dksX1_isWind_0 18 rfl rfl)
theorem dX1_isWind_19 : decode cX1_isWind 19 = .ok (.ireturn, 1) := dk_172 (dk_at dksX1_isWind_0 19 rfl rfl)
abbrev cX1_isSpeed : ByteArray := prog_1_method_7_code
def yX1_isSpeed : MethodName := ⟨RX1, "isSpeed", "(I)Z"⟩
def dkwX1_isSpeed_0 : List UInt8 := [26, 3, 16, 30, 184, 0, 3, 172]
abbrev dktX1_isSpeed_0 : List UInt8 := dkwX1_isSpeed_0 ++ []
theorem dksX1_isSpeed_0 : cX1_isSpeed.data.toList.drop 0 = dktX1_isSpeed_0 := by decide +kernel
theorem dX1_isSpeed_0 : decode cX1_isSpeed 0 = .ok (.iload_n 0, 1) := dk_26 (dk_at dksX1_isSpeed_0 0 rfl rfl)
theorem dX1_isSpeed_1 : decode cX1_isSpeed 1 = .ok (.iconst 0, 1) := dk_3 (dk_at dksX1_isSpeed_0 1 rfl rfl)
theorem dX1_isSpeed_2 : decode cX1_isSpeed 2 = .ok (.bipush 30, 2) := dk_16 30 (dk_at dksX1_isSpeed_0 2 rfl rfl)
theorem dX1_isSpeed_4 : decode cX1_isSpeed 4 = .ok (.invokestatic 3, 3) := dk_184 0 3 (dk_at dksX1_isSpeed_0 4 rfl rfl)
theorem dX1_isSpeed_7 : decode cX1_isSpeed 7 = .ok (.ireturn, 1) := dk_172 (dk_at dksX1_isSpeed_0 7 rfl rfl)
abbrev cX1_wakeLoss : ByteArray := prog_1_method_51_code
def yX1_wakeLoss : MethodName := ⟨RX1, "wakeLoss", "(I)I"⟩
def dkwX1_wakeLoss_0 : List UInt8 := [42, 180, 0, 77, 42, 27, 182, 0, 187, 182, 0, 237, 172]
abbrev dktX1_wakeLoss_0 : List UInt8 := dkwX1_wakeLoss_0 ++ []
theorem dksX1_wakeLoss_0 : cX1_wakeLoss.data.toList.drop 0 = dktX1_wakeLoss_0 := by decide +kernel
theorem dX1_wakeLoss_0 : decode cX1_wakeLoss 0 = .ok (.aload_n 0, 1) := dk_42 (dk_at dksX1_wakeLoss_0 0 rfl rfl)
theorem dX1_wakeLoss_1 : decode cX1_wakeLoss 1 = .ok (.getfield 77, 3) := dk_180 0 77 (dk_at dksX1_wakeLoss_0 1 rfl rfl)
theorem dX1_wakeLoss_4 : decode cX1_wakeLoss 4 = .ok (.aload_n 0, 1) := dk_42 (dk_at dksX1_wakeLoss_0 4 rfl rfl)
theorem dX1_wakeLoss_5 : decode cX1_wakeLoss 5 = .ok (.iload_n 1, 1) := dk_27 (dk_at dksX1_wakeLoss_0 5 rfl rfl)
theorem dX1_wakeLoss_6 : decode cX1_wakeLoss 6 = .ok (.invokevirtual 187, 3) := dk_182 0 187 (dk_at dksX1_wakeLoss_0 6 rfl rfl)
theorem dX1_wakeLoss_9 : decode cX1_wakeLoss 9 = .ok (.invokevirtual 237, 3) := dk_182 0 237 (dk_at dksX1_wakeLoss_0 9 rfl rfl)
theorem dX1_wakeLoss_12 : decode cX1_wakeLoss 12 = .ok (.ireturn, 1) := dk_172 (dk_at dksX1_wakeLoss_0 12 rfl rfl)
abbrev cX1_availablePower : ByteArray := prog_1_method_52_code
def yX1_availablePower : MethodName := ⟨RX1, "availablePower", "(I)I"⟩
def dkwX1_availablePower_0 : List UInt8 := [42, 180, 0, 77, 42, 27, 182, 0, 187, 182, 0, 241, 172]
abbrev dktX1_availablePower_0 : List UInt8 := dkwX1_availablePower_0 ++ []
theorem dksX1_availablePower_0 : cX1_availablePower.data.toList.drop 0 = dktX1_availablePower_0 := by decide +kernel
theorem dX1_availablePower_0 : decode cX1_availablePower 0 = .ok (.aload_n 0, 1) := dk_42 (dk_at dksX1_availablePower_0 0 rfl rfl)
theorem dX1_availablePower_1 : decode cX1_availablePower 1 = .ok (.getfield 77, 3) := dk_180 0 77 (dk_at dksX1_availablePower_0 1 rfl rfl)
theorem dX1_availablePower_4 : decode cX1_availablePower 4 = .ok (.aload_n 0, 1) := dk_42 (dk_at dksX1_availablePower_0 4 rfl rfl)
theorem dX1_availablePower_5 : decode cX1_availablePower 5 = .ok (.iload_n 1, 1) := dk_27 (dk_at dksX1_availablePower_0 5 rfl rfl)
theorem dX1_availablePower_6 : decode cX1_availablePower 6 = .ok (.invokevirtual 187, 3) := dk_182 0 187 (dk_at dksX1_availablePower_0 6 rfl rfl)
theorem dX1_availablePower_9 : decode cX1_availablePower 9 = .ok (.invokevirtual 241, 3) := dk_182 0 241 (dk_at dksX1_availablePower_0 9 rfl rfl)
theorem dX1_availablePower_12 : decode cX1_availablePower 12 = .ok (.ireturn, 1) := dk_172 (dk_at dksX1_availablePower_0 12 rfl rfl)
abbrev cX1_outputOf : ByteArray := prog_1_method_53_code
def yX1_outputOf : MethodName := ⟨RX1, "outputOf", "(I)I"⟩
def dkwX1_outputOf_0 : List UInt8 := [42, 180, 0, 77, 42, 27, 182, 0, 187, 182, 0, 244, 172]
abbrev dktX1_outputOf_0 : List UInt8 := dkwX1_outputOf_0 ++ []
theorem dksX1_outputOf_0 : cX1_outputOf.data.toList.drop 0 = dktX1_outputOf_0 := by decide +kernel
theorem dX1_outputOf_0 : decode cX1_outputOf 0 = .ok (.aload_n 0, 1) := dk_42 (dk_at dksX1_outputOf_0 0 rfl rfl)
theorem dX1_outputOf_1 : decode cX1_outputOf 1 = .ok (.getfield 77, 3) := dk_180 0 77 (dk_at dksX1_outputOf_0 1 rfl rfl)
theorem dX1_outputOf_4 : decode cX1_outputOf 4 = .ok (.aload_n 0, 1) := dk_42 (dk_at dksX1_outputOf_0 4 rfl rfl)
theorem dX1_outputOf_5 : decode cX1_outputOf 5 = .ok (.iload_n 1, 1) := dk_27 (dk_at dksX1_outputOf_0 5 rfl rfl)
theorem dX1_outputOf_6 : decode cX1_outputOf 6 = .ok (.invokevirtual 187, 3) := dk_182 0 187 (dk_at dksX1_outputOf_0 6 rfl rfl)
theorem dX1_outputOf_9 : decode cX1_outputOf 9 = .ok (.invokevirtual 244, 3) := dk_182 0 244 (dk_at dksX1_outputOf_0 9 rfl rfl)
theorem dX1_outputOf_12 : decode cX1_outputOf 12 = .ok (.ireturn, 1) := dk_172 (dk_at dksX1_outputOf_0 12 rfl rfl)
abbrev cX1_outputWith : ByteArray := prog_1_method_56_code
def yX1_outputWith : MethodName := ⟨RX1, "outputWith", "(CI)I"⟩
def dkwX1_outputWith_0 : List UInt8 := [27, 28, 184, 0, 220, 184, 0, 157, 42, 180, 0, 77, 27, 184, 0, 40, 28, 182, 0, 252, 172]
abbrev dktX1_outputWith_0 : List UInt8 := dkwX1_outputWith_0 ++ []
theorem dksX1_outputWith_0 : cX1_outputWith.data.toList.drop 0 = dktX1_outputWith_0 := by decide +kernel
theorem dX1_outputWith_0 : decode cX1_outputWith 0 = .ok (.iload_n 1, 1) := dk_27 (dk_at dksX1_outputWith_0 0 rfl rfl)
theorem dX1_outputWith_1 : decode cX1_outputWith 1 = .ok (.iload_n 2, 1) := dk_28 (dk_at dksX1_outputWith_0 1 rfl rfl)
theorem dX1_outputWith_2 : decode cX1_outputWith 2 = .ok (.invokestatic 220, 3) := dk_184 0 220 (dk_at dksX1_outputWith_0 2 rfl rfl)
theorem dX1_outputWith_5 : decode cX1_outputWith 5 = .ok (.invokestatic 157, 3) := dk_184 0 157 (dk_at dksX1_outputWith_0 5 rfl rfl)
theorem dX1_outputWith_8 : decode cX1_outputWith 8 = .ok (.aload_n 0, 1) := dk_42 (dk_at dksX1_outputWith_0 8 rfl rfl)
theorem dX1_outputWith_9 : decode cX1_outputWith 9 = .ok (.getfield 77, 3) := dk_180 0 77 (dk_at dksX1_outputWith_0 9 rfl rfl)
theorem dX1_outputWith_12 : decode cX1_outputWith 12 = .ok (.iload_n 1, 1) := dk_27 (dk_at dksX1_outputWith_0 12 rfl rfl)
theorem dX1_outputWith_13 : decode cX1_outputWith 13 = .ok (.invokestatic 40, 3) := dk_184 0 40 (dk_at dksX1_outputWith_0 13 rfl rfl)
theorem dX1_outputWith_16 : decode cX1_outputWith 16 = .ok (.iload_n 2, 1) := dk_28 (dk_at dksX1_outputWith_0 16 rfl rfl)
theorem dX1_outputWith_17 : decode cX1_outputWith 17 = .ok (.invokevirtual 252, 3) := dk_182 0 252 (dk_at dksX1_outputWith_0 17 rfl rfl)
theorem dX1_outputWith_20 : decode cX1_outputWith 20 = .ok (.ireturn, 1) := dk_172 (dk_at dksX1_outputWith_0 20 rfl rfl)
abbrev cX1_setGridLimit : ByteArray := prog_1_method_58_code
def yX1_setGridLimit : MethodName := ⟨RX1, "setGridLimit", "(I)I"⟩
def dkwX1_setGridLimit_0 : List UInt8 := [27, 184, 1, 4, 184, 0, 157, 42, 187, 0, 58, 89, 16, 103, 27, 183, 0, 171, 182, 0, 163, 172]
abbrev dktX1_setGridLimit_0 : List UInt8 := dkwX1_setGridLimit_0 ++ []
theorem dksX1_setGridLimit_0 : cX1_setGridLimit.data.toList.drop 0 = dktX1_setGridLimit_0 := by decide +kernel
theorem dX1_setGridLimit_0 : decode cX1_setGridLimit 0 = .ok (.iload_n 1, 1) := dk_27 (dk_at dksX1_setGridLimit_0 0 rfl rfl)
theorem dX1_setGridLimit_1 : decode cX1_setGridLimit 1 = .ok (.invokestatic 260, 3) := dk_184 1 4 (dk_at dksX1_setGridLimit_0 1 rfl rfl)
theorem dX1_setGridLimit_4 : decode cX1_setGridLimit 4 = .ok (.invokestatic 157, 3) := dk_184 0 157 (dk_at dksX1_setGridLimit_0 4 rfl rfl)
theorem dX1_setGridLimit_7 : decode cX1_setGridLimit 7 = .ok (.aload_n 0, 1) := dk_42 (dk_at dksX1_setGridLimit_0 7 rfl rfl)
theorem dX1_setGridLimit_8 : decode cX1_setGridLimit 8 = .ok (.new 58, 3) := dk_187 0 58 (dk_at dksX1_setGridLimit_0 8 rfl rfl)
theorem dX1_setGridLimit_11 : decode cX1_setGridLimit 11 = .ok (.dup, 1) := dk_89 (dk_at dksX1_setGridLimit_0 11 rfl rfl)
theorem dX1_setGridLimit_12 : decode cX1_setGridLimit 12 = .ok (.bipush 103, 2) := dk_16 103 (dk_at dksX1_setGridLimit_0 12 rfl rfl)
theorem dX1_setGridLimit_14 : decode cX1_setGridLimit 14 = .ok (.iload_n 1, 1) := dk_27 (dk_at dksX1_setGridLimit_0 14 rfl rfl)
theorem dX1_setGridLimit_15 : decode cX1_setGridLimit 15 = .ok (.invokespecial 171, 3) := dk_183 0 171 (dk_at dksX1_setGridLimit_0 15 rfl rfl)
theorem dX1_setGridLimit_18 : decode cX1_setGridLimit 18 = .ok (.invokevirtual 163, 3) := dk_182 0 163 (dk_at dksX1_setGridLimit_0 18 rfl rfl)
theorem dX1_setGridLimit_21 : decode cX1_setGridLimit 21 = .ok (.ireturn, 1) := dk_172 (dk_at dksX1_setGridLimit_0 21 rfl rfl)
abbrev cX1_isGridLimit : ByteArray := prog_1_method_6_code
def yX1_isGridLimit : MethodName := ⟨RX1, "isGridLimit", "(I)Z"⟩
def dkwX1_isGridLimit_0 : List UInt8 := [26, 3, 17, 3, 231, 184, 0, 3, 172]
abbrev dktX1_isGridLimit_0 : List UInt8 := dkwX1_isGridLimit_0 ++ []
theorem dksX1_isGridLimit_0 : cX1_isGridLimit.data.toList.drop 0 = dktX1_isGridLimit_0 := by decide +kernel
theorem dX1_isGridLimit_0 : decode cX1_isGridLimit 0 = .ok (.iload_n 0, 1) := dk_26 (dk_at dksX1_isGridLimit_0 0 rfl rfl)
theorem dX1_isGridLimit_1 : decode cX1_isGridLimit 1 = .ok (.iconst 0, 1) := dk_3 (dk_at dksX1_isGridLimit_0 1 rfl rfl)
theorem dX1_isGridLimit_2 : decode cX1_isGridLimit 2 = .ok (.sipush 999, 3) := dk_17 3 231 (dk_at dksX1_isGridLimit_0 2 rfl rfl)
theorem dX1_isGridLimit_5 : decode cX1_isGridLimit 5 = .ok (.invokestatic 3, 3) := dk_184 0 3 (dk_at dksX1_isGridLimit_0 5 rfl rfl)
theorem dX1_isGridLimit_8 : decode cX1_isGridLimit 8 = .ok (.ireturn, 1) := dk_172 (dk_at dksX1_isGridLimit_0 8 rfl rfl)
abbrev cX1_placeBid : ByteArray := prog_1_method_62_code
def yX1_placeBid : MethodName := ⟨RX1, "placeBid", "(III)I"⟩
def dkwX1_placeBid_1 : List UInt8 := [29, 183, 0, 160, 182, 0, 163, 172]
abbrev dktX1_placeBid_1 : List UInt8 := dkwX1_placeBid_1 ++ []
def dkwX1_placeBid_0 : List UInt8 := [27, 184, 0, 139, 184, 0, 127, 28, 29, 184, 1, 10, 184, 0, 157, 42, 187, 0, 58, 89, 16, 98, 27, 28]
abbrev dktX1_placeBid_0 : List UInt8 := dkwX1_placeBid_0 ++ dktX1_placeBid_1
theorem dksX1_placeBid_0 : cX1_placeBid.data.toList.drop 0 = dktX1_placeBid_0 := by decide +kernel
theorem dksX1_placeBid_1 : cX1_placeBid.data.toList.drop 24 = dktX1_placeBid_1 := dk_seg dksX1_placeBid_0 24 rfl rfl
theorem dX1_placeBid_0 : decode cX1_placeBid 0 = .ok (.iload_n 1, 1) := dk_27 (dk_at dksX1_placeBid_0 0 rfl rfl)
theorem dX1_placeBid_1 : decode cX1_placeBid 1 = .ok (.invokestatic 139, 3) := dk_184 0 139 (dk_at dksX1_placeBid_0 1 rfl rfl)
theorem dX1_placeBid_4 : decode cX1_placeBid 4 = .ok (.invokestatic 127, 3) := dk_184 0 127 (dk_at dksX1_placeBid_0 4 rfl rfl)
theorem dX1_placeBid_7 : decode cX1_placeBid 7 = .ok (.iload_n 2, 1) := dk_28 (dk_at dksX1_placeBid_0 7 rfl rfl)
theorem dX1_placeBid_8 : decode cX1_placeBid 8 = .ok (.iload_n 3, 1) := dk_29 (dk_at dksX1_placeBid_0 8 rfl rfl)
theorem dX1_placeBid_9 : decode cX1_placeBid 9 = .ok (.invokestatic 266, 3) := dk_184 1 10 (dk_at dksX1_placeBid_0 9 rfl rfl)
theorem dX1_placeBid_12 : decode cX1_placeBid 12 = .ok (.invokestatic 157, 3) := dk_184 0 157 (dk_at dksX1_placeBid_0 12 rfl rfl)
theorem dX1_placeBid_15 : decode cX1_placeBid 15 = .ok (.aload_n 0, 1) := dk_42 (dk_at dksX1_placeBid_0 15 rfl rfl)
theorem dX1_placeBid_16 : decode cX1_placeBid 16 = .ok (.new 58, 3) := dk_187 0 58 (dk_at dksX1_placeBid_0 16 rfl rfl)
theorem dX1_placeBid_19 : decode cX1_placeBid 19 = .ok (.dup, 1) := dk_89 (dk_at dksX1_placeBid_0 19 rfl rfl)
theorem dX1_placeBid_20 : decode cX1_placeBid 20 = .ok (.bipush 98, 2) := dk_16 98 (dk_at dksX1_placeBid_0 20 rfl rfl)
theorem dX1_placeBid_22 : decode cX1_placeBid 22 = .ok (.iload_n 1, 1) := dk_27 (dk_at dksX1_placeBid_0 22 rfl rfl)
theorem dX1_placeBid_23 : decode cX1_placeBid 23 = .ok (.iload_n 2, 1) := dk_28 (dk_at dksX1_placeBid_0 23 rfl rfl)
theorem dX1_placeBid_24 : decode cX1_placeBid 24 = .ok (.iload_n 3, 1) := dk_29 (dk_at dksX1_placeBid_1 0 rfl rfl)
theorem dX1_placeBid_25 : decode cX1_placeBid 25 = .ok (.invokespecial 160, 3) := dk_183 0 160 (dk_at dksX1_placeBid_1 1 rfl rfl)
theorem dX1_placeBid_28 : decode cX1_placeBid 28 = .ok (.invokevirtual 163, 3) := dk_182 0 163 (dk_at dksX1_placeBid_1 4 rfl rfl)
theorem dX1_placeBid_31 : decode cX1_placeBid 31 = .ok (.ireturn, 1) := dk_172 (dk_at dksX1_placeBid_1 7 rfl rfl)
abbrev cX1_isHour : ByteArray := prog_1_method_8_code
def yX1_isHour : MethodName := ⟨RX1, "isHour", "(I)Z"⟩
def dkwX1_isHour_0 : List UInt8 := [26, 3, 16, 23, 184, 0, 3, 172]
abbrev dktX1_isHour_0 : List UInt8 := dkwX1_isHour_0 ++ []
theorem dksX1_isHour_0 : cX1_isHour.data.toList.drop 0 = dktX1_isHour_0 := by decide +kernel
theorem dX1_isHour_0 : decode cX1_isHour 0 = .ok (.iload_n 0, 1) := dk_26 (dk_at dksX1_isHour_0 0 rfl rfl)
theorem dX1_isHour_1 : decode cX1_isHour 1 = .ok (.iconst 0, 1) := dk_3 (dk_at dksX1_isHour_0 1 rfl rfl)
theorem dX1_isHour_2 : decode cX1_isHour 2 = .ok (.bipush 23, 2) := dk_16 23 (dk_at dksX1_isHour_0 2 rfl rfl)
theorem dX1_isHour_4 : decode cX1_isHour 4 = .ok (.invokestatic 3, 3) := dk_184 0 3 (dk_at dksX1_isHour_0 4 rfl rfl)
theorem dX1_isHour_7 : decode cX1_isHour 7 = .ok (.ireturn, 1) := dk_172 (dk_at dksX1_isHour_0 7 rfl rfl)
abbrev cX1_isOffer : ByteArray := prog_1_method_9_code
def yX1_isOffer : MethodName := ⟨RX1, "isOffer", "(II)Z"⟩
def dkwX1_isOffer_1 : List UInt8 := [167, 0, 4, 3, 172]
abbrev dktX1_isOffer_1 : List UInt8 := dkwX1_isOffer_1 ++ []
def dkwX1_isOffer_0 : List UInt8 := [26, 4, 16, 50, 184, 0, 3, 153, 0, 18, 27, 4, 17, 1, 244, 184, 0, 3, 153, 0, 7, 4]
abbrev dktX1_isOffer_0 : List UInt8 := dkwX1_isOffer_0 ++ dktX1_isOffer_1
theorem dksX1_isOffer_0 : cX1_isOffer.data.toList.drop 0 = dktX1_isOffer_0 := by decide +kernel
theorem dksX1_isOffer_1 : cX1_isOffer.data.toList.drop 22 = dktX1_isOffer_1 := dk_seg dksX1_isOffer_0 22 rfl rfl
theorem dX1_isOffer_0 : decode cX1_isOffer 0 = .ok (.iload_n 0, 1) := dk_26 (dk_at dksX1_isOffer_0 0 rfl rfl)
theorem dX1_isOffer_1 : decode cX1_isOffer 1 = .ok (.iconst 1, 1) := dk_4 (dk_at dksX1_isOffer_0 1 rfl rfl)
theorem dX1_isOffer_2 : decode cX1_isOffer 2 = .ok (.bipush 50, 2) := dk_16 50 (dk_at dksX1_isOffer_0 2 rfl rfl)
theorem dX1_isOffer_4 : decode cX1_isOffer 4 = .ok (.invokestatic 3, 3) := dk_184 0 3 (dk_at dksX1_isOffer_0 4 rfl rfl)
theorem dX1_isOffer_7 : decode cX1_isOffer 7 = .ok (.ifCond .eq 18, 3) := dk_153 0 18 (dk_at dksX1_isOffer_0 7 rfl rfl)
theorem dX1_isOffer_10 : decode cX1_isOffer 10 = .ok (.iload_n 1, 1) := dk_27 (dk_at dksX1_isOffer_0 10 rfl rfl)
theorem dX1_isOffer_11 : decode cX1_isOffer 11 = .ok (.iconst 1, 1) := dk_4 (dk_at dksX1_isOffer_0 11 rfl rfl)
theorem dX1_isOffer_12 : decode cX1_isOffer 12 = .ok (.sipush 500, 3) := dk_17 1 244 (dk_at dksX1_isOffer_0 12 rfl rfl)
theorem dX1_isOffer_15 : decode cX1_isOffer 15 = .ok (.invokestatic 3, 3) := dk_184 0 3 (dk_at dksX1_isOffer_0 15 rfl rfl)
theorem dX1_isOffer_18 : decode cX1_isOffer 18 = .ok (.ifCond .eq 7, 3) := dk_153 0 7 (dk_at dksX1_isOffer_0 18 rfl rfl)
theorem dX1_isOffer_21 : decode cX1_isOffer 21 = .ok (.iconst 1, 1) := dk_4 (dk_at dksX1_isOffer_0 21 rfl rfl)
theorem dX1_isOffer_22 : decode cX1_isOffer 22 = .ok (.goto 4, 3) := dk_167 0 4 (dk_at dksX1_isOffer_1 0 rfl rfl)
theorem dX1_isOffer_25 : decode cX1_isOffer 25 = .ok (.iconst 0, 1) := dk_3 (dk_at dksX1_isOffer_1 3 rfl rfl)
theorem dX1_isOffer_26 : decode cX1_isOffer 26 = .ok (.ireturn, 1) := dk_172 (dk_at dksX1_isOffer_1 4 rfl rfl)
abbrev cX1_withdrawBid : ByteArray := prog_1_method_63_code
def yX1_withdrawBid : MethodName := ⟨RX1, "withdrawBid", "(I)I"⟩
def dkwX1_withdrawBid_0 : List UInt8 := [27, 184, 0, 139, 184, 0, 127, 42, 187, 0, 58, 89, 16, 113, 27, 183, 0, 171, 182, 0, 163, 172]
abbrev dktX1_withdrawBid_0 : List UInt8 := dkwX1_withdrawBid_0 ++ []
theorem dksX1_withdrawBid_0 : cX1_withdrawBid.data.toList.drop 0 = dktX1_withdrawBid_0 := by decide +kernel
theorem dX1_withdrawBid_0 : decode cX1_withdrawBid 0 = .ok (.iload_n 1, 1) := dk_27 (dk_at dksX1_withdrawBid_0 0 rfl rfl)
theorem dX1_withdrawBid_1 : decode cX1_withdrawBid 1 = .ok (.invokestatic 139, 3) := dk_184 0 139 (dk_at dksX1_withdrawBid_0 1 rfl rfl)
theorem dX1_withdrawBid_4 : decode cX1_withdrawBid 4 = .ok (.invokestatic 127, 3) := dk_184 0 127 (dk_at dksX1_withdrawBid_0 4 rfl rfl)
theorem dX1_withdrawBid_7 : decode cX1_withdrawBid 7 = .ok (.aload_n 0, 1) := dk_42 (dk_at dksX1_withdrawBid_0 7 rfl rfl)
theorem dX1_withdrawBid_8 : decode cX1_withdrawBid 8 = .ok (.new 58, 3) := dk_187 0 58 (dk_at dksX1_withdrawBid_0 8 rfl rfl)
theorem dX1_withdrawBid_11 : decode cX1_withdrawBid 11 = .ok (.dup, 1) := dk_89 (dk_at dksX1_withdrawBid_0 11 rfl rfl)
theorem dX1_withdrawBid_12 : decode cX1_withdrawBid 12 = .ok (.bipush 113, 2) := dk_16 113 (dk_at dksX1_withdrawBid_0 12 rfl rfl)
theorem dX1_withdrawBid_14 : decode cX1_withdrawBid 14 = .ok (.iload_n 1, 1) := dk_27 (dk_at dksX1_withdrawBid_0 14 rfl rfl)
theorem dX1_withdrawBid_15 : decode cX1_withdrawBid 15 = .ok (.invokespecial 171, 3) := dk_183 0 171 (dk_at dksX1_withdrawBid_0 15 rfl rfl)
theorem dX1_withdrawBid_18 : decode cX1_withdrawBid 18 = .ok (.invokevirtual 163, 3) := dk_182 0 163 (dk_at dksX1_withdrawBid_0 18 rfl rfl)
theorem dX1_withdrawBid_21 : decode cX1_withdrawBid 21 = .ok (.ireturn, 1) := dk_172 (dk_at dksX1_withdrawBid_0 21 rfl rfl)
abbrev cX1_hasBid : ByteArray := prog_1_method_64_code
def yX1_hasBid : MethodName := ⟨RX1, "hasBid", "(I)Z"⟩
def dkwX1_hasBid_0 : List UInt8 := [27, 184, 0, 139, 184, 0, 127, 42, 180, 0, 77, 27, 182, 0, 142, 172]
abbrev dktX1_hasBid_0 : List UInt8 := dkwX1_hasBid_0 ++ []
theorem dksX1_hasBid_0 : cX1_hasBid.data.toList.drop 0 = dktX1_hasBid_0 := by decide +kernel
theorem dX1_hasBid_0 : decode cX1_hasBid 0 = .ok (.iload_n 1, 1) := dk_27 (dk_at dksX1_hasBid_0 0 rfl rfl)
theorem dX1_hasBid_1 : decode cX1_hasBid 1 = .ok (.invokestatic 139, 3) := dk_184 0 139 (dk_at dksX1_hasBid_0 1 rfl rfl)
theorem dX1_hasBid_4 : decode cX1_hasBid 4 = .ok (.invokestatic 127, 3) := dk_184 0 127 (dk_at dksX1_hasBid_0 4 rfl rfl)
theorem dX1_hasBid_7 : decode cX1_hasBid 7 = .ok (.aload_n 0, 1) := dk_42 (dk_at dksX1_hasBid_0 7 rfl rfl)
theorem dX1_hasBid_8 : decode cX1_hasBid 8 = .ok (.getfield 77, 3) := dk_180 0 77 (dk_at dksX1_hasBid_0 8 rfl rfl)
theorem dX1_hasBid_11 : decode cX1_hasBid 11 = .ok (.iload_n 1, 1) := dk_27 (dk_at dksX1_hasBid_0 11 rfl rfl)
theorem dX1_hasBid_12 : decode cX1_hasBid 12 = .ok (.invokevirtual 142, 3) := dk_182 0 142 (dk_at dksX1_hasBid_0 12 rfl rfl)
theorem dX1_hasBid_15 : decode cX1_hasBid 15 = .ok (.ireturn, 1) := dk_172 (dk_at dksX1_hasBid_0 15 rfl rfl)
abbrev cX1_bidPrice : ByteArray := prog_1_method_65_code
def yX1_bidPrice : MethodName := ⟨RX1, "bidPrice", "(I)I"⟩
def dkwX1_bidPrice_0 : List UInt8 := [42, 27, 182, 1, 13, 42, 180, 0, 77, 180, 1, 16, 27, 46, 172]
abbrev dktX1_bidPrice_0 : List UInt8 := dkwX1_bidPrice_0 ++ []
theorem dksX1_bidPrice_0 : cX1_bidPrice.data.toList.drop 0 = dktX1_bidPrice_0 := by decide +kernel
theorem dX1_bidPrice_0 : decode cX1_bidPrice 0 = .ok (.aload_n 0, 1) := dk_42 (dk_at dksX1_bidPrice_0 0 rfl rfl)
theorem dX1_bidPrice_1 : decode cX1_bidPrice 1 = .ok (.iload_n 1, 1) := dk_27 (dk_at dksX1_bidPrice_0 1 rfl rfl)
theorem dX1_bidPrice_2 : decode cX1_bidPrice 2 = .ok (.invokevirtual 269, 3) := dk_182 1 13 (dk_at dksX1_bidPrice_0 2 rfl rfl)
theorem dX1_bidPrice_5 : decode cX1_bidPrice 5 = .ok (.aload_n 0, 1) := dk_42 (dk_at dksX1_bidPrice_0 5 rfl rfl)
theorem dX1_bidPrice_6 : decode cX1_bidPrice 6 = .ok (.getfield 77, 3) := dk_180 0 77 (dk_at dksX1_bidPrice_0 6 rfl rfl)
theorem dX1_bidPrice_9 : decode cX1_bidPrice 9 = .ok (.getfield 272, 3) := dk_180 1 16 (dk_at dksX1_bidPrice_0 9 rfl rfl)
theorem dX1_bidPrice_12 : decode cX1_bidPrice 12 = .ok (.iload_n 1, 1) := dk_27 (dk_at dksX1_bidPrice_0 12 rfl rfl)
theorem dX1_bidPrice_13 : decode cX1_bidPrice 13 = .ok (.iaload, 1) := dk_46 (dk_at dksX1_bidPrice_0 13 rfl rfl)
theorem dX1_bidPrice_14 : decode cX1_bidPrice 14 = .ok (.ireturn, 1) := dk_172 (dk_at dksX1_bidPrice_0 14 rfl rfl)
abbrev cX1_requireBid : ByteArray := prog_1_method_28_code
def yX1_requireBid : MethodName := ⟨RX1, "requireBid", "(I)V"⟩
def dkwX1_requireBid_0 : List UInt8 := [27, 184, 0, 139, 184, 0, 127, 42, 180, 0, 77, 27, 182, 0, 142, 184, 0, 136, 177]
abbrev dktX1_requireBid_0 : List UInt8 := dkwX1_requireBid_0 ++ []
theorem dksX1_requireBid_0 : cX1_requireBid.data.toList.drop 0 = dktX1_requireBid_0 := by decide +kernel
theorem dX1_requireBid_0 : decode cX1_requireBid 0 = .ok (.iload_n 1, 1) := dk_27 (dk_at dksX1_requireBid_0 0 rfl rfl)
theorem dX1_requireBid_1 : decode cX1_requireBid 1 = .ok (.invokestatic 139, 3) := dk_184 0 139 (dk_at dksX1_requireBid_0 1 rfl rfl)
theorem dX1_requireBid_4 : decode cX1_requireBid 4 = .ok (.invokestatic 127, 3) := dk_184 0 127 (dk_at dksX1_requireBid_0 4 rfl rfl)
theorem dX1_requireBid_7 : decode cX1_requireBid 7 = .ok (.aload_n 0, 1) := dk_42 (dk_at dksX1_requireBid_0 7 rfl rfl)
theorem dX1_requireBid_8 : decode cX1_requireBid 8 = .ok (.getfield 77, 3) := dk_180 0 77 (dk_at dksX1_requireBid_0 8 rfl rfl)
theorem dX1_requireBid_11 : decode cX1_requireBid 11 = .ok (.iload_n 1, 1) := dk_27 (dk_at dksX1_requireBid_0 11 rfl rfl)
theorem dX1_requireBid_12 : decode cX1_requireBid 12 = .ok (.invokevirtual 142, 3) := dk_182 0 142 (dk_at dksX1_requireBid_0 12 rfl rfl)
theorem dX1_requireBid_15 : decode cX1_requireBid 15 = .ok (.invokestatic 136, 3) := dk_184 0 136 (dk_at dksX1_requireBid_0 15 rfl rfl)
theorem dX1_requireBid_18 : decode cX1_requireBid 18 = .ok (.return_, 1) := dk_177 (dk_at dksX1_requireBid_0 18 rfl rfl)
abbrev cX1_bidQuantity : ByteArray := prog_1_method_66_code
def yX1_bidQuantity : MethodName := ⟨RX1, "bidQuantity", "(I)I"⟩
def dkwX1_bidQuantity_0 : List UInt8 := [42, 27, 182, 1, 13, 42, 180, 0, 77, 180, 1, 20, 27, 46, 172]
abbrev dktX1_bidQuantity_0 : List UInt8 := dkwX1_bidQuantity_0 ++ []
theorem dksX1_bidQuantity_0 : cX1_bidQuantity.data.toList.drop 0 = dktX1_bidQuantity_0 := by decide +kernel
theorem dX1_bidQuantity_0 : decode cX1_bidQuantity 0 = .ok (.aload_n 0, 1) := dk_42 (dk_at dksX1_bidQuantity_0 0 rfl rfl)
theorem dX1_bidQuantity_1 : decode cX1_bidQuantity 1 = .ok (.iload_n 1, 1) := dk_27 (dk_at dksX1_bidQuantity_0 1 rfl rfl)
theorem dX1_bidQuantity_2 : decode cX1_bidQuantity 2 = .ok (.invokevirtual 269, 3) := dk_182 1 13 (dk_at dksX1_bidQuantity_0 2 rfl rfl)
theorem dX1_bidQuantity_5 : decode cX1_bidQuantity 5 = .ok (.aload_n 0, 1) := dk_42 (dk_at dksX1_bidQuantity_0 5 rfl rfl)
theorem dX1_bidQuantity_6 : decode cX1_bidQuantity 6 = .ok (.getfield 77, 3) := dk_180 0 77 (dk_at dksX1_bidQuantity_0 6 rfl rfl)
theorem dX1_bidQuantity_9 : decode cX1_bidQuantity 9 = .ok (.getfield 276, 3) := dk_180 1 20 (dk_at dksX1_bidQuantity_0 9 rfl rfl)
theorem dX1_bidQuantity_12 : decode cX1_bidQuantity 12 = .ok (.iload_n 1, 1) := dk_27 (dk_at dksX1_bidQuantity_0 12 rfl rfl)
theorem dX1_bidQuantity_13 : decode cX1_bidQuantity 13 = .ok (.iaload, 1) := dk_46 (dk_at dksX1_bidQuantity_0 13 rfl rfl)
theorem dX1_bidQuantity_14 : decode cX1_bidQuantity 14 = .ok (.ireturn, 1) := dk_172 (dk_at dksX1_bidQuantity_0 14 rfl rfl)
abbrev cX1_bidByPrice : ByteArray := prog_1_method_67_code
def yX1_bidByPrice : MethodName := ⟨RX1, "bidByPrice", "(I)I"⟩
def dkwX1_bidByPrice_0 : List UInt8 := [42, 180, 0, 77, 27, 182, 1, 23, 184, 0, 213, 172]
abbrev dktX1_bidByPrice_0 : List UInt8 := dkwX1_bidByPrice_0 ++ []
theorem dksX1_bidByPrice_0 : cX1_bidByPrice.data.toList.drop 0 = dktX1_bidByPrice_0 := by decide +kernel
theorem dX1_bidByPrice_0 : decode cX1_bidByPrice 0 = .ok (.aload_n 0, 1) := dk_42 (dk_at dksX1_bidByPrice_0 0 rfl rfl)
theorem dX1_bidByPrice_1 : decode cX1_bidByPrice 1 = .ok (.getfield 77, 3) := dk_180 0 77 (dk_at dksX1_bidByPrice_0 1 rfl rfl)
theorem dX1_bidByPrice_4 : decode cX1_bidByPrice 4 = .ok (.iload_n 1, 1) := dk_27 (dk_at dksX1_bidByPrice_0 4 rfl rfl)
theorem dX1_bidByPrice_5 : decode cX1_bidByPrice 5 = .ok (.invokevirtual 279, 3) := dk_182 1 23 (dk_at dksX1_bidByPrice_0 5 rfl rfl)
theorem dX1_bidByPrice_8 : decode cX1_bidByPrice 8 = .ok (.invokestatic 213, 3) := dk_184 0 213 (dk_at dksX1_bidByPrice_0 8 rfl rfl)
theorem dX1_bidByPrice_11 : decode cX1_bidByPrice 11 = .ok (.ireturn, 1) := dk_172 (dk_at dksX1_bidByPrice_0 11 rfl rfl)
abbrev cX1_passHours : ByteArray := prog_1_method_68_code
def yX1_passHours : MethodName := ⟨RX1, "passHours", "(I)I"⟩
def dkwX1_passHours_0 : List UInt8 := [27, 184, 1, 26, 184, 0, 157, 42, 187, 0, 58, 89, 16, 116, 27, 183, 0, 171, 182, 0, 163, 172]
abbrev dktX1_passHours_0 : List UInt8 := dkwX1_passHours_0 ++ []
theorem dksX1_passHours_0 : cX1_passHours.data.toList.drop 0 = dktX1_passHours_0 := by decide +kernel
theorem dX1_passHours_0 : decode cX1_passHours 0 = .ok (.iload_n 1, 1) := dk_27 (dk_at dksX1_passHours_0 0 rfl rfl)
theorem dX1_passHours_1 : decode cX1_passHours 1 = .ok (.invokestatic 282, 3) := dk_184 1 26 (dk_at dksX1_passHours_0 1 rfl rfl)
theorem dX1_passHours_4 : decode cX1_passHours 4 = .ok (.invokestatic 157, 3) := dk_184 0 157 (dk_at dksX1_passHours_0 4 rfl rfl)
theorem dX1_passHours_7 : decode cX1_passHours 7 = .ok (.aload_n 0, 1) := dk_42 (dk_at dksX1_passHours_0 7 rfl rfl)
theorem dX1_passHours_8 : decode cX1_passHours 8 = .ok (.new 58, 3) := dk_187 0 58 (dk_at dksX1_passHours_0 8 rfl rfl)
theorem dX1_passHours_11 : decode cX1_passHours 11 = .ok (.dup, 1) := dk_89 (dk_at dksX1_passHours_0 11 rfl rfl)
theorem dX1_passHours_12 : decode cX1_passHours 12 = .ok (.bipush 116, 2) := dk_16 116 (dk_at dksX1_passHours_0 12 rfl rfl)
theorem dX1_passHours_14 : decode cX1_passHours 14 = .ok (.iload_n 1, 1) := dk_27 (dk_at dksX1_passHours_0 14 rfl rfl)
theorem dX1_passHours_15 : decode cX1_passHours 15 = .ok (.invokespecial 171, 3) := dk_183 0 171 (dk_at dksX1_passHours_0 15 rfl rfl)
theorem dX1_passHours_18 : decode cX1_passHours 18 = .ok (.invokevirtual 163, 3) := dk_182 0 163 (dk_at dksX1_passHours_0 18 rfl rfl)
theorem dX1_passHours_21 : decode cX1_passHours 21 = .ok (.ireturn, 1) := dk_172 (dk_at dksX1_passHours_0 21 rfl rfl)
abbrev cX1_areHours : ByteArray := prog_1_method_10_code
def yX1_areHours : MethodName := ⟨RX1, "areHours", "(I)Z"⟩
def dkwX1_areHours_0 : List UInt8 := [26, 4, 16, 48, 184, 0, 3, 172]
abbrev dktX1_areHours_0 : List UInt8 := dkwX1_areHours_0 ++ []
theorem dksX1_areHours_0 : cX1_areHours.data.toList.drop 0 = dktX1_areHours_0 := by decide +kernel
theorem dX1_areHours_0 : decode cX1_areHours 0 = .ok (.iload_n 0, 1) := dk_26 (dk_at dksX1_areHours_0 0 rfl rfl)
theorem dX1_areHours_1 : decode cX1_areHours 1 = .ok (.iconst 1, 1) := dk_4 (dk_at dksX1_areHours_0 1 rfl rfl)
theorem dX1_areHours_2 : decode cX1_areHours 2 = .ok (.bipush 48, 2) := dk_16 48 (dk_at dksX1_areHours_0 2 rfl rfl)
theorem dX1_areHours_4 : decode cX1_areHours 4 = .ok (.invokestatic 3, 3) := dk_184 0 3 (dk_at dksX1_areHours_0 4 rfl rfl)
theorem dX1_areHours_7 : decode cX1_areHours 7 = .ok (.ireturn, 1) := dk_172 (dk_at dksX1_areHours_0 7 rfl rfl)
abbrev cX1_incomeWithin : ByteArray := prog_1_method_70_code
def yX1_incomeWithin : MethodName := ⟨RX1, "incomeWithin", "(I)I"⟩
def dkwX1_incomeWithin_0 : List UInt8 := [27, 184, 1, 26, 184, 0, 157, 42, 180, 0, 77, 27, 182, 1, 32, 172]
abbrev dktX1_incomeWithin_0 : List UInt8 := dkwX1_incomeWithin_0 ++ []
theorem dksX1_incomeWithin_0 : cX1_incomeWithin.data.toList.drop 0 = dktX1_incomeWithin_0 := by decide +kernel
theorem dX1_incomeWithin_0 : decode cX1_incomeWithin 0 = .ok (.iload_n 1, 1) := dk_27 (dk_at dksX1_incomeWithin_0 0 rfl rfl)
theorem dX1_incomeWithin_1 : decode cX1_incomeWithin 1 = .ok (.invokestatic 282, 3) := dk_184 1 26 (dk_at dksX1_incomeWithin_0 1 rfl rfl)
theorem dX1_incomeWithin_4 : decode cX1_incomeWithin 4 = .ok (.invokestatic 157, 3) := dk_184 0 157 (dk_at dksX1_incomeWithin_0 4 rfl rfl)
theorem dX1_incomeWithin_7 : decode cX1_incomeWithin 7 = .ok (.aload_n 0, 1) := dk_42 (dk_at dksX1_incomeWithin_0 7 rfl rfl)
theorem dX1_incomeWithin_8 : decode cX1_incomeWithin 8 = .ok (.getfield 77, 3) := dk_180 0 77 (dk_at dksX1_incomeWithin_0 8 rfl rfl)
theorem dX1_incomeWithin_11 : decode cX1_incomeWithin 11 = .ok (.iload_n 1, 1) := dk_27 (dk_at dksX1_incomeWithin_0 11 rfl rfl)
theorem dX1_incomeWithin_12 : decode cX1_incomeWithin 12 = .ok (.invokevirtual 288, 3) := dk_182 1 32 (dk_at dksX1_incomeWithin_0 12 rfl rfl)
theorem dX1_incomeWithin_15 : decode cX1_incomeWithin 15 = .ok (.ireturn, 1) := dk_172 (dk_at dksX1_incomeWithin_0 15 rfl rfl)
abbrev cX1_hoursToBid : ByteArray := prog_1_method_71_code
def yX1_hoursToBid : MethodName := ⟨RX1, "hoursToBid", "()I"⟩
def dkwX1_hoursToBid_0 : List UInt8 := [42, 180, 0, 77, 182, 1, 35, 184, 0, 213, 172]
abbrev dktX1_hoursToBid_0 : List UInt8 := dkwX1_hoursToBid_0 ++ []
theorem dksX1_hoursToBid_0 : cX1_hoursToBid.data.toList.drop 0 = dktX1_hoursToBid_0 := by decide +kernel
theorem dX1_hoursToBid_0 : decode cX1_hoursToBid 0 = .ok (.aload_n 0, 1) := dk_42 (dk_at dksX1_hoursToBid_0 0 rfl rfl)
theorem dX1_hoursToBid_1 : decode cX1_hoursToBid 1 = .ok (.getfield 77, 3) := dk_180 0 77 (dk_at dksX1_hoursToBid_0 1 rfl rfl)
theorem dX1_hoursToBid_4 : decode cX1_hoursToBid 4 = .ok (.invokevirtual 291, 3) := dk_182 1 35 (dk_at dksX1_hoursToBid_0 4 rfl rfl)
theorem dX1_hoursToBid_7 : decode cX1_hoursToBid 7 = .ok (.invokestatic 213, 3) := dk_184 0 213 (dk_at dksX1_hoursToBid_0 7 rfl rfl)
theorem dX1_hoursToBid_10 : decode cX1_hoursToBid 10 = .ok (.ireturn, 1) := dk_172 (dk_at dksX1_hoursToBid_0 10 rfl rfl)
abbrev cX1_turbineByOutput : ByteArray := prog_1_method_77_code
def yX1_turbineByOutput : MethodName := ⟨RX1, "turbineByOutput", "(I)I"⟩
def dkwX1_turbineByOutput_0 : List UInt8 := [42, 180, 0, 77, 27, 4, 182, 1, 51, 184, 0, 213, 172]
abbrev dktX1_turbineByOutput_0 : List UInt8 := dkwX1_turbineByOutput_0 ++ []
theorem dksX1_turbineByOutput_0 : cX1_turbineByOutput.data.toList.drop 0 = dktX1_turbineByOutput_0 := by decide +kernel
theorem dX1_turbineByOutput_0 : decode cX1_turbineByOutput 0 = .ok (.aload_n 0, 1) := dk_42 (dk_at dksX1_turbineByOutput_0 0 rfl rfl)
theorem dX1_turbineByOutput_1 : decode cX1_turbineByOutput 1 = .ok (.getfield 77, 3) := dk_180 0 77 (dk_at dksX1_turbineByOutput_0 1 rfl rfl)
theorem dX1_turbineByOutput_4 : decode cX1_turbineByOutput 4 = .ok (.iload_n 1, 1) := dk_27 (dk_at dksX1_turbineByOutput_0 4 rfl rfl)
theorem dX1_turbineByOutput_5 : decode cX1_turbineByOutput 5 = .ok (.iconst 1, 1) := dk_4 (dk_at dksX1_turbineByOutput_0 5 rfl rfl)
theorem dX1_turbineByOutput_6 : decode cX1_turbineByOutput 6 = .ok (.invokevirtual 307, 3) := dk_182 1 51 (dk_at dksX1_turbineByOutput_0 6 rfl rfl)
theorem dX1_turbineByOutput_9 : decode cX1_turbineByOutput 9 = .ok (.invokestatic 213, 3) := dk_184 0 213 (dk_at dksX1_turbineByOutput_0 9 rfl rfl)
theorem dX1_turbineByOutput_12 : decode cX1_turbineByOutput 12 = .ok (.ireturn, 1) := dk_172 (dk_at dksX1_turbineByOutput_0 12 rfl rfl)
abbrev cX1_meanOutput : ByteArray := prog_1_method_78_code
def yX1_meanOutput : MethodName := ⟨RX1, "meanOutput", "()D"⟩
def dkwX1_meanOutput_1 : List UInt8 := [135, 111, 175]
abbrev dktX1_meanOutput_1 : List UInt8 := dkwX1_meanOutput_1 ++ []
def dkwX1_meanOutput_0 : List UInt8 := [42, 182, 1, 55, 158, 0, 7, 4, 167, 0, 4, 3, 184, 1, 58, 42, 182, 1, 61, 135, 42, 182, 1, 55]
abbrev dktX1_meanOutput_0 : List UInt8 := dkwX1_meanOutput_0 ++ dktX1_meanOutput_1
theorem dksX1_meanOutput_0 : cX1_meanOutput.data.toList.drop 0 = dktX1_meanOutput_0 := by decide +kernel
theorem dksX1_meanOutput_1 : cX1_meanOutput.data.toList.drop 24 = dktX1_meanOutput_1 := dk_seg dksX1_meanOutput_0 24 rfl rfl
theorem dX1_meanOutput_0 : decode cX1_meanOutput 0 = .ok (.aload_n 0, 1) := dk_42 (dk_at dksX1_meanOutput_0 0 rfl rfl)
theorem dX1_meanOutput_1 : decode cX1_meanOutput 1 = .ok (.invokevirtual 311, 3) := dk_182 1 55 (dk_at dksX1_meanOutput_0 1 rfl rfl)
theorem dX1_meanOutput_4 : decode cX1_meanOutput 4 = .ok (.ifCond .le 7, 3) := dk_158 0 7 (dk_at dksX1_meanOutput_0 4 rfl rfl)
theorem dX1_meanOutput_7 : decode cX1_meanOutput 7 = .ok (.iconst 1, 1) := dk_4 (dk_at dksX1_meanOutput_0 7 rfl rfl)
theorem dX1_meanOutput_8 : decode cX1_meanOutput 8 = .ok (.goto 4, 3) := dk_167 0 4 (dk_at dksX1_meanOutput_0 8 rfl rfl)
theorem dX1_meanOutput_11 : decode cX1_meanOutput 11 = .ok (.iconst 0, 1) := dk_3 (dk_at dksX1_meanOutput_0 11 rfl rfl)
theorem dX1_meanOutput_12 : decode cX1_meanOutput 12 = .ok (.invokestatic 314, 3) := dk_184 1 58 (dk_at dksX1_meanOutput_0 12 rfl rfl)
theorem dX1_meanOutput_15 : decode cX1_meanOutput 15 = .ok (.aload_n 0, 1) := dk_42 (dk_at dksX1_meanOutput_0 15 rfl rfl)
theorem dX1_meanOutput_16 : decode cX1_meanOutput 16 = .ok (.invokevirtual 317, 3) := dk_182 1 61 (dk_at dksX1_meanOutput_0 16 rfl rfl)
theorem dX1_meanOutput_19 : decode cX1_meanOutput 19 = .ok (.i2d, 1) := dk_135 (dk_at dksX1_meanOutput_0 19 rfl rfl)
theorem dX1_meanOutput_20 : decode cX1_meanOutput 20 = .ok (.aload_n 0, 1) := dk_42 (dk_at dksX1_meanOutput_0 20 rfl rfl)
theorem dX1_meanOutput_21 : decode cX1_meanOutput 21 = .ok (.invokevirtual 311, 3) := dk_182 1 55 (dk_at dksX1_meanOutput_0 21 rfl rfl)
theorem dX1_meanOutput_24 : decode cX1_meanOutput 24 = .ok (.i2d, 1) := dk_135 (dk_at dksX1_meanOutput_1 0 rfl rfl)
theorem dX1_meanOutput_25 : decode cX1_meanOutput 25 = .ok (.ddiv, 1) := dk_111 (dk_at dksX1_meanOutput_1 1 rfl rfl)
theorem dX1_meanOutput_26 : decode cX1_meanOutput 26 = .ok (.dreturn, 1) := dk_175 (dk_at dksX1_meanOutput_1 2 rfl rfl)
abbrev cX1_requireCount : ByteArray := prog_1_method_16_code
def yX1_requireCount : MethodName := ⟨RX1, "requireCount", "(Z)V"⟩
def dkwX1_requireCount_0 : List UInt8 := [26, 154, 0, 11, 187, 0, 22, 89, 183, 0, 24, 191, 177]
abbrev dktX1_requireCount_0 : List UInt8 := dkwX1_requireCount_0 ++ []
theorem dksX1_requireCount_0 : cX1_requireCount.data.toList.drop 0 = dktX1_requireCount_0 := by decide +kernel
theorem dX1_requireCount_0 : decode cX1_requireCount 0 = .ok (.iload_n 0, 1) := dk_26 (dk_at dksX1_requireCount_0 0 rfl rfl)
theorem dX1_requireCount_1 : decode cX1_requireCount 1 = .ok (.ifCond .ne 11, 3) := dk_154 0 11 (dk_at dksX1_requireCount_0 1 rfl rfl)
theorem dX1_requireCount_4 : decode cX1_requireCount 4 = .ok (.new 22, 3) := dk_187 0 22 (dk_at dksX1_requireCount_0 4 rfl rfl)
theorem dX1_requireCount_7 : decode cX1_requireCount 7 = .ok (.dup, 1) := dk_89 (dk_at dksX1_requireCount_0 7 rfl rfl)
theorem dX1_requireCount_8 : decode cX1_requireCount 8 = .ok (.invokespecial 24, 3) := dk_183 0 24 (dk_at dksX1_requireCount_0 8 rfl rfl)
theorem dX1_requireCount_11 : decode cX1_requireCount 11 = .ok (.athrow, 1) := dk_191 (dk_at dksX1_requireCount_0 11 rfl rfl)
theorem dX1_requireCount_12 : decode cX1_requireCount 12 = .ok (.return_, 1) := dk_177 (dk_at dksX1_requireCount_0 12 rfl rfl)
abbrev cX1_runningShare : ByteArray := prog_1_method_79_code
def yX1_runningShare : MethodName := ⟨RX1, "runningShare", "()F"⟩
def dkwX1_runningShare_1 : List UInt8 := [182, 1, 64, 100, 134, 42, 182, 1, 55, 134, 110, 174]
abbrev dktX1_runningShare_1 : List UInt8 := dkwX1_runningShare_1 ++ []
def dkwX1_runningShare_0 : List UInt8 := [42, 182, 1, 55, 158, 0, 7, 4, 167, 0, 4, 3, 184, 1, 58, 42, 182, 1, 55, 42, 180, 0, 77]
abbrev dktX1_runningShare_0 : List UInt8 := dkwX1_runningShare_0 ++ dktX1_runningShare_1
theorem dksX1_runningShare_0 : cX1_runningShare.data.toList.drop 0 = dktX1_runningShare_0 := by decide +kernel
theorem dksX1_runningShare_1 : cX1_runningShare.data.toList.drop 23 = dktX1_runningShare_1 := dk_seg dksX1_runningShare_0 23 rfl rfl
theorem dX1_runningShare_0 : decode cX1_runningShare 0 = .ok (.aload_n 0, 1) := dk_42 (dk_at dksX1_runningShare_0 0 rfl rfl)
theorem dX1_runningShare_1 : decode cX1_runningShare 1 = .ok (.invokevirtual 311, 3) := dk_182 1 55 (dk_at dksX1_runningShare_0 1 rfl rfl)
theorem dX1_runningShare_4 : decode cX1_runningShare 4 = .ok (.ifCond .le 7, 3) := dk_158 0 7 (dk_at dksX1_runningShare_0 4 rfl rfl)
theorem dX1_runningShare_7 : decode cX1_runningShare 7 = .ok (.iconst 1, 1) := dk_4 (dk_at dksX1_runningShare_0 7 rfl rfl)
theorem dX1_runningShare_8 : decode cX1_runningShare 8 = .ok (.goto 4, 3) := dk_167 0 4 (dk_at dksX1_runningShare_0 8 rfl rfl)
theorem dX1_runningShare_11 : decode cX1_runningShare 11 = .ok (.iconst 0, 1) := dk_3 (dk_at dksX1_runningShare_0 11 rfl rfl)
theorem dX1_runningShare_12 : decode cX1_runningShare 12 = .ok (.invokestatic 314, 3) := dk_184 1 58 (dk_at dksX1_runningShare_0 12 rfl rfl)
theorem dX1_runningShare_15 : decode cX1_runningShare 15 = .ok (.aload_n 0, 1) := dk_42 (dk_at dksX1_runningShare_0 15 rfl rfl)
theorem dX1_runningShare_16 : decode cX1_runningShare 16 = .ok (.invokevirtual 311, 3) := dk_182 1 55 (dk_at dksX1_runningShare_0 16 rfl rfl)
theorem dX1_runningShare_19 : decode cX1_runningShare 19 = .ok (.aload_n 0, 1) := dk_42 (dk_at dksX1_runningShare_0 19 rfl rfl)
theorem dX1_runningShare_20 : decode cX1_runningShare 20 = .ok (.getfield 77, 3) := dk_180 0 77 (dk_at dksX1_runningShare_0 20 rfl rfl)
theorem dX1_runningShare_23 : decode cX1_runningShare 23 = .ok (.invokevirtual 320, 3) := dk_182 1 64 (dk_at dksX1_runningShare_1 0 rfl rfl)
theorem dX1_runningShare_26 : decode cX1_runningShare 26 = .ok (.isub, 1) := dk_100 (dk_at dksX1_runningShare_1 3 rfl rfl)
theorem dX1_runningShare_27 : decode cX1_runningShare 27 = .ok (.i2f, 1) := dk_134 (dk_at dksX1_runningShare_1 4 rfl rfl)
theorem dX1_runningShare_28 : decode cX1_runningShare 28 = .ok (.aload_n 0, 1) := dk_42 (dk_at dksX1_runningShare_1 5 rfl rfl)
theorem dX1_runningShare_29 : decode cX1_runningShare 29 = .ok (.invokevirtual 311, 3) := dk_182 1 55 (dk_at dksX1_runningShare_1 6 rfl rfl)
theorem dX1_runningShare_32 : decode cX1_runningShare 32 = .ok (.i2f, 1) := dk_134 (dk_at dksX1_runningShare_1 9 rfl rfl)
theorem dX1_runningShare_33 : decode cX1_runningShare 33 = .ok (.fdiv, 1) := dk_110 (dk_at dksX1_runningShare_1 10 rfl rfl)
theorem dX1_runningShare_34 : decode cX1_runningShare 34 = .ok (.freturn, 1) := dk_174 (dk_at dksX1_runningShare_1 11 rfl rfl)
abbrev cX1_writeTurbine : ByteArray := prog_1_method_81_code
def yX1_writeTurbine : MethodName := ⟨RX1, "writeTurbine", "(I)I"⟩
def dkwX1_writeTurbine_3 : List UInt8 := [182, 1, 70, 44, 180, 1, 85, 185, 1, 89, 1, 0, 182, 1, 76, 182, 1, 95, 182, 1, 98, 172]
abbrev dktX1_writeTurbine_3 : List UInt8 := dkwX1_writeTurbine_3 ++ []
def dkwX1_writeTurbine_2 : List UInt8 := [182, 1, 76, 44, 180, 0, 197, 182, 1, 70, 19, 1, 83, 182, 1, 76, 42, 180, 0, 77, 44, 182, 0, 244]
abbrev dktX1_writeTurbine_2 : List UInt8 := dkwX1_writeTurbine_2 ++ dktX1_writeTurbine_3
def dkwX1_writeTurbine_1 : List UInt8 := [44, 180, 0, 191, 182, 1, 70, 19, 1, 79, 182, 1, 76, 44, 180, 0, 194, 182, 1, 70, 19, 1, 81]
abbrev dktX1_writeTurbine_1 : List UInt8 := dkwX1_writeTurbine_1 ++ dktX1_writeTurbine_2
def dkwX1_writeTurbine_0 : List UInt8 := [42, 27, 182, 0, 187, 77, 42, 187, 0, 86, 89, 183, 0, 88, 27, 182, 1, 70, 19, 1, 74, 182, 1, 76]
abbrev dktX1_writeTurbine_0 : List UInt8 := dkwX1_writeTurbine_0 ++ dktX1_writeTurbine_1
theorem dksX1_writeTurbine_0 : cX1_writeTurbine.data.toList.drop 0 = dktX1_writeTurbine_0 := by decide +kernel
theorem dksX1_writeTurbine_1 : cX1_writeTurbine.data.toList.drop 24 = dktX1_writeTurbine_1 := dk_seg dksX1_writeTurbine_0 24 rfl rfl
theorem dksX1_writeTurbine_2 : cX1_writeTurbine.data.toList.drop 47 = dktX1_writeTurbine_2 := dk_seg dksX1_writeTurbine_1 23 rfl rfl
theorem dksX1_writeTurbine_3 : cX1_writeTurbine.data.toList.drop 71 = dktX1_writeTurbine_3 := dk_seg dksX1_writeTurbine_2 24 rfl rfl
theorem dX1_writeTurbine_0 : decode cX1_writeTurbine 0 = .ok (.aload_n 0, 1) := dk_42 (dk_at dksX1_writeTurbine_0 0 rfl rfl)
theorem dX1_writeTurbine_1 : decode cX1_writeTurbine 1 = .ok (.iload_n 1, 1) := dk_27 (dk_at dksX1_writeTurbine_0 1 rfl rfl)
theorem dX1_writeTurbine_2 : decode cX1_writeTurbine 2 = .ok (.invokevirtual 187, 3) := dk_182 0 187 (dk_at dksX1_writeTurbine_0 2 rfl rfl)
theorem dX1_writeTurbine_5 : decode cX1_writeTurbine 5 = .ok (.astore_n 2, 1) := dk_77 (dk_at dksX1_writeTurbine_0 5 rfl rfl)
theorem dX1_writeTurbine_6 : decode cX1_writeTurbine 6 = .ok (.aload_n 0, 1) := dk_42 (dk_at dksX1_writeTurbine_0 6 rfl rfl)
theorem dX1_writeTurbine_7 : decode cX1_writeTurbine 7 = .ok (.new 86, 3) := dk_187 0 86 (dk_at dksX1_writeTurbine_0 7 rfl rfl)
theorem dX1_writeTurbine_10 : decode cX1_writeTurbine 10 = .ok (.dup, 1) := dk_89 (dk_at dksX1_writeTurbine_0 10 rfl rfl)
theorem dX1_writeTurbine_11 : decode cX1_writeTurbine 11 = .ok (.invokespecial 88, 3) := dk_183 0 88 (dk_at dksX1_writeTurbine_0 11 rfl rfl)
theorem dX1_writeTurbine_14 : decode cX1_writeTurbine 14 = .ok (.iload_n 1, 1) := dk_27 (dk_at dksX1_writeTurbine_0 14 rfl rfl)
theorem dX1_writeTurbine_15 : decode cX1_writeTurbine 15 = .ok (.invokevirtual 326, 3) := dk_182 1 70 (dk_at dksX1_writeTurbine_0 15 rfl rfl)
theorem dX1_writeTurbine_18 : decode cX1_writeTurbine 18 = .ok (.ldc_w 330, 3) := dk_19 1 74 (dk_at dksX1_writeTurbine_0 18 rfl rfl)
theorem dX1_writeTurbine_21 : decode cX1_writeTurbine 21 = .ok (.invokevirtual 332, 3) := dk_182 1 76 (dk_at dksX1_writeTurbine_0 21 rfl rfl)
theorem dX1_writeTurbine_24 : decode cX1_writeTurbine 24 = .ok (.aload_n 2, 1) := dk_44 (dk_at dksX1_writeTurbine_1 0 rfl rfl)
theorem dX1_writeTurbine_25 : decode cX1_writeTurbine 25 = .ok (.getfield 191, 3) := dk_180 0 191 (dk_at dksX1_writeTurbine_1 1 rfl rfl)
theorem dX1_writeTurbine_28 : decode cX1_writeTurbine 28 = .ok (.invokevirtual 326, 3) := dk_182 1 70 (dk_at dksX1_writeTurbine_1 4 rfl rfl)
theorem dX1_writeTurbine_31 : decode cX1_writeTurbine 31 = .ok (.ldc_w 335, 3) := dk_19 1 79 (dk_at dksX1_writeTurbine_1 7 rfl rfl)
theorem dX1_writeTurbine_34 : decode cX1_writeTurbine 34 = .ok (.invokevirtual 332, 3) := dk_182 1 76 (dk_at dksX1_writeTurbine_1 10 rfl rfl)
theorem dX1_writeTurbine_37 : decode cX1_writeTurbine 37 = .ok (.aload_n 2, 1) := dk_44 (dk_at dksX1_writeTurbine_1 13 rfl rfl)
theorem dX1_writeTurbine_38 : decode cX1_writeTurbine 38 = .ok (.getfield 194, 3) := dk_180 0 194 (dk_at dksX1_writeTurbine_1 14 rfl rfl)
theorem dX1_writeTurbine_41 : decode cX1_writeTurbine 41 = .ok (.invokevirtual 326, 3) := dk_182 1 70 (dk_at dksX1_writeTurbine_1 17 rfl rfl)
theorem dX1_writeTurbine_44 : decode cX1_writeTurbine 44 = .ok (.ldc_w 337, 3) := dk_19 1 81 (dk_at dksX1_writeTurbine_1 20 rfl rfl)
theorem dX1_writeTurbine_47 : decode cX1_writeTurbine 47 = .ok (.invokevirtual 332, 3) := dk_182 1 76 (dk_at dksX1_writeTurbine_2 0 rfl rfl)
theorem dX1_writeTurbine_50 : decode cX1_writeTurbine 50 = .ok (.aload_n 2, 1) := dk_44 (dk_at dksX1_writeTurbine_2 3 rfl rfl)
theorem dX1_writeTurbine_51 : decode cX1_writeTurbine 51 = .ok (.getfield 197, 3) := dk_180 0 197 (dk_at dksX1_writeTurbine_2 4 rfl rfl)
theorem dX1_writeTurbine_54 : decode cX1_writeTurbine 54 = .ok (.invokevirtual 326, 3) := dk_182 1 70 (dk_at dksX1_writeTurbine_2 7 rfl rfl)
theorem dX1_writeTurbine_57 : decode cX1_writeTurbine 57 = .ok (.ldc_w 339, 3) := dk_19 1 83 (dk_at dksX1_writeTurbine_2 10 rfl rfl)
theorem dX1_writeTurbine_60 : decode cX1_writeTurbine 60 = .ok (.invokevirtual 332, 3) := dk_182 1 76 (dk_at dksX1_writeTurbine_2 13 rfl rfl)
theorem dX1_writeTurbine_63 : decode cX1_writeTurbine 63 = .ok (.aload_n 0, 1) := dk_42 (dk_at dksX1_writeTurbine_2 16 rfl rfl)
theorem dX1_writeTurbine_64 : decode cX1_writeTurbine 64 = .ok (.getfield 77, 3) := dk_180 0 77 (dk_at dksX1_writeTurbine_2 17 rfl rfl)
theorem dX1_writeTurbine_67 : decode cX1_writeTurbine 67 = .ok (.aload_n 2, 1) := dk_44 (dk_at dksX1_writeTurbine_2 20 rfl rfl)
theorem dX1_writeTurbine_68 : decode cX1_writeTurbine 68 = .ok (.invokevirtual 244, 3) := dk_182 0 244 (dk_at dksX1_writeTurbine_2 21 rfl rfl)
theorem dX1_writeTurbine_71 : decode cX1_writeTurbine 71 = .ok (.invokevirtual 326, 3) := dk_182 1 70 (dk_at dksX1_writeTurbine_3 0 rfl rfl)
theorem dX1_writeTurbine_74 : decode cX1_writeTurbine 74 = .ok (.aload_n 2, 1) := dk_44 (dk_at dksX1_writeTurbine_3 3 rfl rfl)
theorem dX1_writeTurbine_75 : decode cX1_writeTurbine 75 = .ok (.getfield 341, 3) := dk_180 1 85 (dk_at dksX1_writeTurbine_3 4 rfl rfl)
theorem dX1_writeTurbine_78 : decode cX1_writeTurbine 78 = .ok (.invokeinterface 345 1, 5) := by decide +kernel
theorem dX1_writeTurbine_83 : decode cX1_writeTurbine 83 = .ok (.invokevirtual 332, 3) := dk_182 1 76 (dk_at dksX1_writeTurbine_3 12 rfl rfl)
theorem dX1_writeTurbine_86 : decode cX1_writeTurbine 86 = .ok (.invokevirtual 351, 3) := dk_182 1 95 (dk_at dksX1_writeTurbine_3 15 rfl rfl)
theorem dX1_writeTurbine_89 : decode cX1_writeTurbine 89 = .ok (.invokevirtual 354, 3) := dk_182 1 98 (dk_at dksX1_writeTurbine_3 18 rfl rfl)
theorem dX1_writeTurbine_92 : decode cX1_writeTurbine 92 = .ok (.ireturn, 1) := dk_172 (dk_at dksX1_writeTurbine_3 21 rfl rfl)
abbrev cX1_write : ByteArray := prog_1_method_29_code
def yX1_write : MethodName := ⟨RX1, "write", "(Ljava/lang/String;)I"⟩
def dkwX1_write_0 : List UInt8 := [42, 43, 181, 0, 95, 42, 180, 0, 95, 182, 0, 145, 172]
abbrev dktX1_write_0 : List UInt8 := dkwX1_write_0 ++ []
theorem dksX1_write_0 : cX1_write.data.toList.drop 0 = dktX1_write_0 := by decide +kernel
theorem dX1_write_0 : decode cX1_write 0 = .ok (.aload_n 0, 1) := dk_42 (dk_at dksX1_write_0 0 rfl rfl)
theorem dX1_write_1 : decode cX1_write 1 = .ok (.aload_n 1, 1) := dk_43 (dk_at dksX1_write_0 1 rfl rfl)
theorem dX1_write_2 : decode cX1_write 2 = .ok (.putfield 95, 3) := dk_181 0 95 (dk_at dksX1_write_0 2 rfl rfl)
theorem dX1_write_5 : decode cX1_write 5 = .ok (.aload_n 0, 1) := dk_42 (dk_at dksX1_write_0 5 rfl rfl)
theorem dX1_write_6 : decode cX1_write 6 = .ok (.getfield 95, 3) := dk_180 0 95 (dk_at dksX1_write_0 6 rfl rfl)
theorem dX1_write_9 : decode cX1_write 9 = .ok (.invokevirtual 145, 3) := dk_182 0 145 (dk_at dksX1_write_0 9 rfl rfl)
theorem dX1_write_12 : decode cX1_write 12 = .ok (.ireturn, 1) := dk_172 (dk_at dksX1_write_0 12 rfl rfl)
abbrev cX1_outputAt : ByteArray := prog_1_method_82_code
def yX1_outputAt : MethodName := ⟨RX1, "outputAt", "(I)C"⟩
def dkwX1_outputAt_1 : List UInt8 := [182, 1, 102, 172]
abbrev dktX1_outputAt_1 : List UInt8 := dkwX1_outputAt_1 ++ []
def dkwX1_outputAt_0 : List UInt8 := [27, 3, 42, 180, 0, 95, 182, 0, 145, 4, 100, 184, 0, 3, 184, 0, 127, 42, 180, 0, 95, 27]
abbrev dktX1_outputAt_0 : List UInt8 := dkwX1_outputAt_0 ++ dktX1_outputAt_1
theorem dksX1_outputAt_0 : cX1_outputAt.data.toList.drop 0 = dktX1_outputAt_0 := by decide +kernel
theorem dksX1_outputAt_1 : cX1_outputAt.data.toList.drop 22 = dktX1_outputAt_1 := dk_seg dksX1_outputAt_0 22 rfl rfl
theorem dX1_outputAt_0 : decode cX1_outputAt 0 = .ok (.iload_n 1, 1) := dk_27 (dk_at dksX1_outputAt_0 0 rfl rfl)
theorem dX1_outputAt_1 : decode cX1_outputAt 1 = .ok (.iconst 0, 1) := dk_3 (dk_at dksX1_outputAt_0 1 rfl rfl)
theorem dX1_outputAt_2 : decode cX1_outputAt 2 = .ok (.aload_n 0, 1) := dk_42 (dk_at dksX1_outputAt_0 2 rfl rfl)
theorem dX1_outputAt_3 : decode cX1_outputAt 3 = .ok (.getfield 95, 3) := dk_180 0 95 (dk_at dksX1_outputAt_0 3 rfl rfl)
theorem dX1_outputAt_6 : decode cX1_outputAt 6 = .ok (.invokevirtual 145, 3) := dk_182 0 145 (dk_at dksX1_outputAt_0 6 rfl rfl)
theorem dX1_outputAt_9 : decode cX1_outputAt 9 = .ok (.iconst 1, 1) := dk_4 (dk_at dksX1_outputAt_0 9 rfl rfl)
theorem dX1_outputAt_10 : decode cX1_outputAt 10 = .ok (.isub, 1) := dk_100 (dk_at dksX1_outputAt_0 10 rfl rfl)
theorem dX1_outputAt_11 : decode cX1_outputAt 11 = .ok (.invokestatic 3, 3) := dk_184 0 3 (dk_at dksX1_outputAt_0 11 rfl rfl)
theorem dX1_outputAt_14 : decode cX1_outputAt 14 = .ok (.invokestatic 127, 3) := dk_184 0 127 (dk_at dksX1_outputAt_0 14 rfl rfl)
theorem dX1_outputAt_17 : decode cX1_outputAt 17 = .ok (.aload_n 0, 1) := dk_42 (dk_at dksX1_outputAt_0 17 rfl rfl)
theorem dX1_outputAt_18 : decode cX1_outputAt 18 = .ok (.getfield 95, 3) := dk_180 0 95 (dk_at dksX1_outputAt_0 18 rfl rfl)
theorem dX1_outputAt_21 : decode cX1_outputAt 21 = .ok (.iload_n 1, 1) := dk_27 (dk_at dksX1_outputAt_0 21 rfl rfl)
theorem dX1_outputAt_22 : decode cX1_outputAt 22 = .ok (.invokevirtual 358, 3) := dk_182 1 102 (dk_at dksX1_outputAt_1 0 rfl rfl)
theorem dX1_outputAt_25 : decode cX1_outputAt 25 = .ok (.ireturn, 1) := dk_172 (dk_at dksX1_outputAt_1 3 rfl rfl)
abbrev cX1_appendInput : ByteArray := prog_1_method_83_code
def yX1_appendInput : MethodName := ⟨RX1, "appendInput", "(C)I"⟩
def dkwX1_appendInput_1 : List UInt8 := [167, 0, 4, 3, 184, 1, 107, 42, 180, 0, 89, 27, 182, 1, 110, 87, 42, 180, 0, 89, 182, 1, 106, 172]
abbrev dktX1_appendInput_1 : List UInt8 := dkwX1_appendInput_1 ++ []
def dkwX1_appendInput_0 : List UInt8 := [27, 16, 32, 16, 126, 184, 0, 3, 184, 0, 157, 42, 180, 0, 89, 182, 1, 106, 16, 60, 162, 0, 7, 4]
abbrev dktX1_appendInput_0 : List UInt8 := dkwX1_appendInput_0 ++ dktX1_appendInput_1
theorem dksX1_appendInput_0 : cX1_appendInput.data.toList.drop 0 = dktX1_appendInput_0 := by decide +kernel
theorem dksX1_appendInput_1 : cX1_appendInput.data.toList.drop 24 = dktX1_appendInput_1 := dk_seg dksX1_appendInput_0 24 rfl rfl
theorem dX1_appendInput_0 : decode cX1_appendInput 0 = .ok (.iload_n 1, 1) := dk_27 (dk_at dksX1_appendInput_0 0 rfl rfl)
theorem dX1_appendInput_1 : decode cX1_appendInput 1 = .ok (.bipush 32, 2) := dk_16 32 (dk_at dksX1_appendInput_0 1 rfl rfl)
theorem dX1_appendInput_3 : decode cX1_appendInput 3 = .ok (.bipush 126, 2) := dk_16 126 (dk_at dksX1_appendInput_0 3 rfl rfl)
theorem dX1_appendInput_5 : decode cX1_appendInput 5 = .ok (.invokestatic 3, 3) := dk_184 0 3 (dk_at dksX1_appendInput_0 5 rfl rfl)
theorem dX1_appendInput_8 : decode cX1_appendInput 8 = .ok (.invokestatic 157, 3) := dk_184 0 157 (dk_at dksX1_appendInput_0 8 rfl rfl)
theorem dX1_appendInput_11 : decode cX1_appendInput 11 = .ok (.aload_n 0, 1) := dk_42 (dk_at dksX1_appendInput_0 11 rfl rfl)
theorem dX1_appendInput_12 : decode cX1_appendInput 12 = .ok (.getfield 89, 3) := dk_180 0 89 (dk_at dksX1_appendInput_0 12 rfl rfl)
theorem dX1_appendInput_15 : decode cX1_appendInput 15 = .ok (.invokevirtual 362, 3) := dk_182 1 106 (dk_at dksX1_appendInput_0 15 rfl rfl)
theorem dX1_appendInput_18 : decode cX1_appendInput 18 = .ok (.bipush 60, 2) := dk_16 60 (dk_at dksX1_appendInput_0 18 rfl rfl)
theorem dX1_appendInput_20 : decode cX1_appendInput 20 = .ok (.if_icmp .ge 7, 3) := dk_162 0 7 (dk_at dksX1_appendInput_0 20 rfl rfl)
theorem dX1_appendInput_23 : decode cX1_appendInput 23 = .ok (.iconst 1, 1) := dk_4 (dk_at dksX1_appendInput_0 23 rfl rfl)
theorem dX1_appendInput_24 : decode cX1_appendInput 24 = .ok (.goto 4, 3) := dk_167 0 4 (dk_at dksX1_appendInput_1 0 rfl rfl)
theorem dX1_appendInput_27 : decode cX1_appendInput 27 = .ok (.iconst 0, 1) := dk_3 (dk_at dksX1_appendInput_1 3 rfl rfl)
theorem dX1_appendInput_28 : decode cX1_appendInput 28 = .ok (.invokestatic 363, 3) := dk_184 1 107 (dk_at dksX1_appendInput_1 4 rfl rfl)
theorem dX1_appendInput_31 : decode cX1_appendInput 31 = .ok (.aload_n 0, 1) := dk_42 (dk_at dksX1_appendInput_1 7 rfl rfl)
theorem dX1_appendInput_32 : decode cX1_appendInput 32 = .ok (.getfield 89, 3) := dk_180 0 89 (dk_at dksX1_appendInput_1 8 rfl rfl)
theorem dX1_appendInput_35 : decode cX1_appendInput 35 = .ok (.iload_n 1, 1) := dk_27 (dk_at dksX1_appendInput_1 11 rfl rfl)
theorem dX1_appendInput_36 : decode cX1_appendInput 36 = .ok (.invokevirtual 366, 3) := dk_182 1 110 (dk_at dksX1_appendInput_1 12 rfl rfl)
theorem dX1_appendInput_39 : decode cX1_appendInput 39 = .ok (.pop, 1) := dk_87 (dk_at dksX1_appendInput_1 15 rfl rfl)
theorem dX1_appendInput_40 : decode cX1_appendInput 40 = .ok (.aload_n 0, 1) := dk_42 (dk_at dksX1_appendInput_1 16 rfl rfl)
theorem dX1_appendInput_41 : decode cX1_appendInput 41 = .ok (.getfield 89, 3) := dk_180 0 89 (dk_at dksX1_appendInput_1 17 rfl rfl)
theorem dX1_appendInput_44 : decode cX1_appendInput 44 = .ok (.invokevirtual 362, 3) := dk_182 1 106 (dk_at dksX1_appendInput_1 20 rfl rfl)
theorem dX1_appendInput_47 : decode cX1_appendInput 47 = .ok (.ireturn, 1) := dk_172 (dk_at dksX1_appendInput_1 23 rfl rfl)
abbrev cX1_requireState : ByteArray := prog_1_method_14_code
def yX1_requireState : MethodName := ⟨RX1, "requireState", "(Z)V"⟩
def dkwX1_requireState_0 : List UInt8 := [26, 154, 0, 11, 187, 0, 16, 89, 183, 0, 18, 191, 177]
abbrev dktX1_requireState_0 : List UInt8 := dkwX1_requireState_0 ++ []
theorem dksX1_requireState_0 : cX1_requireState.data.toList.drop 0 = dktX1_requireState_0 := by decide +kernel
theorem dX1_requireState_0 : decode cX1_requireState 0 = .ok (.iload_n 0, 1) := dk_26 (dk_at dksX1_requireState_0 0 rfl rfl)
theorem dX1_requireState_1 : decode cX1_requireState 1 = .ok (.ifCond .ne 11, 3) := dk_154 0 11 (dk_at dksX1_requireState_0 1 rfl rfl)
theorem dX1_requireState_4 : decode cX1_requireState 4 = .ok (.new 16, 3) := dk_187 0 16 (dk_at dksX1_requireState_0 4 rfl rfl)
theorem dX1_requireState_7 : decode cX1_requireState 7 = .ok (.dup, 1) := dk_89 (dk_at dksX1_requireState_0 7 rfl rfl)
theorem dX1_requireState_8 : decode cX1_requireState 8 = .ok (.invokespecial 18, 3) := dk_183 0 18 (dk_at dksX1_requireState_0 8 rfl rfl)
theorem dX1_requireState_11 : decode cX1_requireState 11 = .ok (.athrow, 1) := dk_191 (dk_at dksX1_requireState_0 11 rfl rfl)
theorem dX1_requireState_12 : decode cX1_requireState 12 = .ok (.return_, 1) := dk_177 (dk_at dksX1_requireState_0 12 rfl rfl)
abbrev cX1_execute : ByteArray := prog_1_method_84_code
def yX1_execute : MethodName := ⟨RX1, "execute", "()I"⟩
def dkwX1_execute_3 : List UInt8 := [44, 181, 0, 117, 187, 0, 121, 89, 183, 0, 123, 191]
abbrev dktX1_execute_3 : List UInt8 := dkwX1_execute_3 ++ []
def dkwX1_execute_2 : List UInt8 := [42, 44, 181, 1, 130, 187, 0, 13, 89, 183, 0, 15, 191, 77, 187, 0, 16, 89, 183, 0, 18, 191, 77, 42]
abbrev dktX1_execute_2 : List UInt8 := dkwX1_execute_2 ++ dktX1_execute_3
def dkwX1_execute_1 : List UInt8 := [180, 0, 77, 182, 0, 106, 77, 43, 182, 1, 121, 44, 184, 1, 125, 62, 42, 44, 29, 182, 0, 113, 172, 77]
abbrev dktX1_execute_1 : List UInt8 := dkwX1_execute_1 ++ dktX1_execute_2
def dkwX1_execute_0 : List UInt8 := [187, 1, 113, 89, 42, 180, 0, 89, 182, 1, 95, 183, 1, 115, 76, 42, 180, 0, 89, 3, 182, 1, 118, 42]
abbrev dktX1_execute_0 : List UInt8 := dkwX1_execute_0 ++ dktX1_execute_1
theorem dksX1_execute_0 : cX1_execute.data.toList.drop 0 = dktX1_execute_0 := by decide +kernel
theorem dksX1_execute_1 : cX1_execute.data.toList.drop 24 = dktX1_execute_1 := dk_seg dksX1_execute_0 24 rfl rfl
theorem dksX1_execute_2 : cX1_execute.data.toList.drop 48 = dktX1_execute_2 := dk_seg dksX1_execute_1 24 rfl rfl
theorem dksX1_execute_3 : cX1_execute.data.toList.drop 72 = dktX1_execute_3 := dk_seg dksX1_execute_2 24 rfl rfl
theorem dX1_execute_0 : decode cX1_execute 0 = .ok (.new 369, 3) := dk_187 1 113 (dk_at dksX1_execute_0 0 rfl rfl)
theorem dX1_execute_3 : decode cX1_execute 3 = .ok (.dup, 1) := dk_89 (dk_at dksX1_execute_0 3 rfl rfl)
theorem dX1_execute_4 : decode cX1_execute 4 = .ok (.aload_n 0, 1) := dk_42 (dk_at dksX1_execute_0 4 rfl rfl)
theorem dX1_execute_5 : decode cX1_execute 5 = .ok (.getfield 89, 3) := dk_180 0 89 (dk_at dksX1_execute_0 5 rfl rfl)
theorem dX1_execute_8 : decode cX1_execute 8 = .ok (.invokevirtual 351, 3) := dk_182 1 95 (dk_at dksX1_execute_0 8 rfl rfl)
theorem dX1_execute_11 : decode cX1_execute 11 = .ok (.invokespecial 371, 3) := dk_183 1 115 (dk_at dksX1_execute_0 11 rfl rfl)
theorem dX1_execute_14 : decode cX1_execute 14 = .ok (.astore_n 1, 1) := dk_76 (dk_at dksX1_execute_0 14 rfl rfl)
theorem dX1_execute_15 : decode cX1_execute 15 = .ok (.aload_n 0, 1) := dk_42 (dk_at dksX1_execute_0 15 rfl rfl)
theorem dX1_execute_16 : decode cX1_execute 16 = .ok (.getfield 89, 3) := dk_180 0 89 (dk_at dksX1_execute_0 16 rfl rfl)
theorem dX1_execute_19 : decode cX1_execute 19 = .ok (.iconst 0, 1) := dk_3 (dk_at dksX1_execute_0 19 rfl rfl)
theorem dX1_execute_20 : decode cX1_execute 20 = .ok (.invokevirtual 374, 3) := dk_182 1 118 (dk_at dksX1_execute_0 20 rfl rfl)
theorem dX1_execute_23 : decode cX1_execute 23 = .ok (.aload_n 0, 1) := dk_42 (dk_at dksX1_execute_0 23 rfl rfl)
theorem dX1_execute_24 : decode cX1_execute 24 = .ok (.getfield 77, 3) := dk_180 0 77 (dk_at dksX1_execute_1 0 rfl rfl)
theorem dX1_execute_27 : decode cX1_execute 27 = .ok (.invokevirtual 106, 3) := dk_182 0 106 (dk_at dksX1_execute_1 3 rfl rfl)
theorem dX1_execute_30 : decode cX1_execute 30 = .ok (.astore_n 2, 1) := dk_77 (dk_at dksX1_execute_1 6 rfl rfl)
theorem dX1_execute_31 : decode cX1_execute 31 = .ok (.aload_n 1, 1) := dk_43 (dk_at dksX1_execute_1 7 rfl rfl)
theorem dX1_execute_32 : decode cX1_execute 32 = .ok (.invokevirtual 377, 3) := dk_182 1 121 (dk_at dksX1_execute_1 8 rfl rfl)
theorem dX1_execute_35 : decode cX1_execute 35 = .ok (.aload_n 2, 1) := dk_44 (dk_at dksX1_execute_1 11 rfl rfl)
theorem dX1_execute_36 : decode cX1_execute 36 = .ok (.invokestatic 381, 3) := dk_184 1 125 (dk_at dksX1_execute_1 12 rfl rfl)
theorem dX1_execute_39 : decode cX1_execute 39 = .ok (.istore_n 3, 1) := dk_62 (dk_at dksX1_execute_1 15 rfl rfl)
theorem dX1_execute_40 : decode cX1_execute 40 = .ok (.aload_n 0, 1) := dk_42 (dk_at dksX1_execute_1 16 rfl rfl)
theorem dX1_execute_41 : decode cX1_execute 41 = .ok (.aload_n 2, 1) := dk_44 (dk_at dksX1_execute_1 17 rfl rfl)
theorem dX1_execute_42 : decode cX1_execute 42 = .ok (.iload_n 3, 1) := dk_29 (dk_at dksX1_execute_1 18 rfl rfl)
theorem dX1_execute_43 : decode cX1_execute 43 = .ok (.invokevirtual 113, 3) := dk_182 0 113 (dk_at dksX1_execute_1 19 rfl rfl)
theorem dX1_execute_46 : decode cX1_execute 46 = .ok (.ireturn, 1) := dk_172 (dk_at dksX1_execute_1 22 rfl rfl)
theorem dX1_execute_47 : decode cX1_execute 47 = .ok (.astore_n 2, 1) := dk_77 (dk_at dksX1_execute_1 23 rfl rfl)
theorem dX1_execute_48 : decode cX1_execute 48 = .ok (.aload_n 0, 1) := dk_42 (dk_at dksX1_execute_2 0 rfl rfl)
theorem dX1_execute_49 : decode cX1_execute 49 = .ok (.aload_n 2, 1) := dk_44 (dk_at dksX1_execute_2 1 rfl rfl)
theorem dX1_execute_50 : decode cX1_execute 50 = .ok (.putfield 386, 3) := dk_181 1 130 (dk_at dksX1_execute_2 2 rfl rfl)
theorem dX1_execute_53 : decode cX1_execute 53 = .ok (.new 13, 3) := dk_187 0 13 (dk_at dksX1_execute_2 5 rfl rfl)
theorem dX1_execute_56 : decode cX1_execute 56 = .ok (.dup, 1) := dk_89 (dk_at dksX1_execute_2 8 rfl rfl)
theorem dX1_execute_57 : decode cX1_execute 57 = .ok (.invokespecial 15, 3) := dk_183 0 15 (dk_at dksX1_execute_2 9 rfl rfl)
theorem dX1_execute_60 : decode cX1_execute 60 = .ok (.athrow, 1) := dk_191 (dk_at dksX1_execute_2 12 rfl rfl)
theorem dX1_execute_61 : decode cX1_execute 61 = .ok (.astore_n 2, 1) := dk_77 (dk_at dksX1_execute_2 13 rfl rfl)
theorem dX1_execute_62 : decode cX1_execute 62 = .ok (.new 16, 3) := dk_187 0 16 (dk_at dksX1_execute_2 14 rfl rfl)
theorem dX1_execute_65 : decode cX1_execute 65 = .ok (.dup, 1) := dk_89 (dk_at dksX1_execute_2 17 rfl rfl)
theorem dX1_execute_66 : decode cX1_execute 66 = .ok (.invokespecial 18, 3) := dk_183 0 18 (dk_at dksX1_execute_2 18 rfl rfl)
theorem dX1_execute_69 : decode cX1_execute 69 = .ok (.athrow, 1) := dk_191 (dk_at dksX1_execute_2 21 rfl rfl)
theorem dX1_execute_70 : decode cX1_execute 70 = .ok (.astore_n 2, 1) := dk_77 (dk_at dksX1_execute_2 22 rfl rfl)
theorem dX1_execute_71 : decode cX1_execute 71 = .ok (.aload_n 0, 1) := dk_42 (dk_at dksX1_execute_2 23 rfl rfl)
theorem dX1_execute_72 : decode cX1_execute 72 = .ok (.aload_n 2, 1) := dk_44 (dk_at dksX1_execute_3 0 rfl rfl)
theorem dX1_execute_73 : decode cX1_execute 73 = .ok (.putfield 117, 3) := dk_181 0 117 (dk_at dksX1_execute_3 1 rfl rfl)
theorem dX1_execute_76 : decode cX1_execute 76 = .ok (.new 121, 3) := dk_187 0 121 (dk_at dksX1_execute_3 4 rfl rfl)
theorem dX1_execute_79 : decode cX1_execute 79 = .ok (.dup, 1) := dk_89 (dk_at dksX1_execute_3 7 rfl rfl)
theorem dX1_execute_80 : decode cX1_execute 80 = .ok (.invokespecial 123, 3) := dk_183 0 123 (dk_at dksX1_execute_3 8 rfl rfl)
theorem dX1_execute_83 : decode cX1_execute 83 = .ok (.athrow, 1) := dk_191 (dk_at dksX1_execute_3 11 rfl rfl)
abbrev cX1_run : ByteArray := prog_1_method_21_code
def yX1_run : MethodName := ⟨RX1, "run", "(Ljava/util/ArrayList;LWindFarmDispatcher$Farm;)I"⟩
def dkwX1_run_2 : List UInt8 := [167, 255, 213, 42, 182, 0, 48, 172]
abbrev dktX1_run_2 : List UInt8 := dkwX1_run_2 ++ []
def dkwX1_run_1 : List UInt8 := [167, 0, 19, 78, 187, 0, 25, 89, 16, 10, 28, 45, 180, 0, 64, 183, 0, 68, 191, 132, 2, 1]
abbrev dktX1_run_1 : List UInt8 := dkwX1_run_1 ++ dktX1_run_2
def dkwX1_run_0 : List UInt8 := [3, 61, 28, 42, 182, 0, 48, 162, 0, 41, 42, 28, 182, 0, 54, 192, 0, 58, 43, 182, 0, 60, 62]
abbrev dktX1_run_0 : List UInt8 := dkwX1_run_0 ++ dktX1_run_1
theorem dksX1_run_0 : cX1_run.data.toList.drop 0 = dktX1_run_0 := by decide +kernel
theorem dksX1_run_1 : cX1_run.data.toList.drop 23 = dktX1_run_1 := dk_seg dksX1_run_0 23 rfl rfl
theorem dksX1_run_2 : cX1_run.data.toList.drop 45 = dktX1_run_2 := dk_seg dksX1_run_1 22 rfl rfl
theorem dX1_run_0 : decode cX1_run 0 = .ok (.iconst 0, 1) := dk_3 (dk_at dksX1_run_0 0 rfl rfl)
theorem dX1_run_1 : decode cX1_run 1 = .ok (.istore_n 2, 1) := dk_61 (dk_at dksX1_run_0 1 rfl rfl)
theorem dX1_run_2 : decode cX1_run 2 = .ok (.iload_n 2, 1) := dk_28 (dk_at dksX1_run_0 2 rfl rfl)
theorem dX1_run_3 : decode cX1_run 3 = .ok (.aload_n 0, 1) := dk_42 (dk_at dksX1_run_0 3 rfl rfl)
theorem dX1_run_4 : decode cX1_run 4 = .ok (.invokevirtual 48, 3) := dk_182 0 48 (dk_at dksX1_run_0 4 rfl rfl)
theorem dX1_run_7 : decode cX1_run 7 = .ok (.if_icmp .ge 41, 3) := dk_162 0 41 (dk_at dksX1_run_0 7 rfl rfl)
theorem dX1_run_10 : decode cX1_run 10 = .ok (.aload_n 0, 1) := dk_42 (dk_at dksX1_run_0 10 rfl rfl)
theorem dX1_run_11 : decode cX1_run 11 = .ok (.iload_n 2, 1) := dk_28 (dk_at dksX1_run_0 11 rfl rfl)
theorem dX1_run_12 : decode cX1_run 12 = .ok (.invokevirtual 54, 3) := dk_182 0 54 (dk_at dksX1_run_0 12 rfl rfl)
theorem dX1_run_15 : decode cX1_run 15 = .ok (.checkcast 58, 3) := dk_192 0 58 (dk_at dksX1_run_0 15 rfl rfl)
theorem dX1_run_18 : decode cX1_run 18 = .ok (.aload_n 1, 1) := dk_43 (dk_at dksX1_run_0 18 rfl rfl)
theorem dX1_run_19 : decode cX1_run 19 = .ok (.invokevirtual 60, 3) := dk_182 0 60 (dk_at dksX1_run_0 19 rfl rfl)
theorem dX1_run_22 : decode cX1_run 22 = .ok (.istore_n 3, 1) := dk_62 (dk_at dksX1_run_0 22 rfl rfl)
theorem dX1_run_23 : decode cX1_run 23 = .ok (.goto 19, 3) := dk_167 0 19 (dk_at dksX1_run_1 0 rfl rfl)
theorem dX1_run_26 : decode cX1_run 26 = .ok (.astore_n 3, 1) := dk_78 (dk_at dksX1_run_1 3 rfl rfl)
theorem dX1_run_27 : decode cX1_run 27 = .ok (.new 25, 3) := dk_187 0 25 (dk_at dksX1_run_1 4 rfl rfl)
theorem dX1_run_30 : decode cX1_run 30 = .ok (.dup, 1) := dk_89 (dk_at dksX1_run_1 7 rfl rfl)
theorem dX1_run_31 : decode cX1_run 31 = .ok (.bipush 10, 2) := dk_16 10 (dk_at dksX1_run_1 8 rfl rfl)
theorem dX1_run_33 : decode cX1_run 33 = .ok (.iload_n 2, 1) := dk_28 (dk_at dksX1_run_1 10 rfl rfl)
theorem dX1_run_34 : decode cX1_run 34 = .ok (.aload_n 3, 1) := dk_45 (dk_at dksX1_run_1 11 rfl rfl)
theorem dX1_run_35 : decode cX1_run 35 = .ok (.getfield 64, 3) := dk_180 0 64 (dk_at dksX1_run_1 12 rfl rfl)
theorem dX1_run_38 : decode cX1_run 38 = .ok (.invokespecial 68, 3) := dk_183 0 68 (dk_at dksX1_run_1 15 rfl rfl)
theorem dX1_run_41 : decode cX1_run 41 = .ok (.athrow, 1) := dk_191 (dk_at dksX1_run_1 18 rfl rfl)
theorem dX1_run_42 : decode cX1_run 42 = .ok (.iinc 2 1, 3) := dk_132 2 1 (dk_at dksX1_run_1 19 rfl rfl)
theorem dX1_run_45 : decode cX1_run 45 = .ok (.goto (-43), 3) := dk_167 255 213 (dk_at dksX1_run_2 0 rfl rfl)
theorem dX1_run_48 : decode cX1_run 48 = .ok (.aload_n 0, 1) := dk_42 (dk_at dksX1_run_2 3 rfl rfl)
theorem dX1_run_49 : decode cX1_run 49 = .ok (.invokevirtual 48, 3) := dk_182 0 48 (dk_at dksX1_run_2 4 rfl rfl)
theorem dX1_run_52 : decode cX1_run 52 = .ok (.ireturn, 1) := dk_172 (dk_at dksX1_run_2 7 rfl rfl)
abbrev cX1_syntaxErrorOffset : ByteArray := prog_1_method_85_code
def yX1_syntaxErrorOffset : MethodName := ⟨RX1, "syntaxErrorOffset", "()I"⟩
def dkwX1_syntaxErrorOffset_0 : List UInt8 := [42, 180, 1, 130, 198, 0, 7, 4, 167, 0, 4, 3, 184, 0, 136, 42, 180, 1, 130, 180, 1, 136, 172]
abbrev dktX1_syntaxErrorOffset_0 : List UInt8 := dkwX1_syntaxErrorOffset_0 ++ []
theorem dksX1_syntaxErrorOffset_0 : cX1_syntaxErrorOffset.data.toList.drop 0 = dktX1_syntaxErrorOffset_0 := by decide +kernel
theorem dX1_syntaxErrorOffset_0 : decode cX1_syntaxErrorOffset 0 = .ok (.aload_n 0, 1) := dk_42 (dk_at dksX1_syntaxErrorOffset_0 0 rfl rfl)
theorem dX1_syntaxErrorOffset_1 : decode cX1_syntaxErrorOffset 1 = .ok (.getfield 386, 3) := dk_180 1 130 (dk_at dksX1_syntaxErrorOffset_0 1 rfl rfl)
theorem dX1_syntaxErrorOffset_4 : decode cX1_syntaxErrorOffset 4 = .ok (.ifnull 7, 3) := dk_198 0 7 (dk_at dksX1_syntaxErrorOffset_0 4 rfl rfl)
theorem dX1_syntaxErrorOffset_7 : decode cX1_syntaxErrorOffset 7 = .ok (.iconst 1, 1) := dk_4 (dk_at dksX1_syntaxErrorOffset_0 7 rfl rfl)
theorem dX1_syntaxErrorOffset_8 : decode cX1_syntaxErrorOffset 8 = .ok (.goto 4, 3) := dk_167 0 4 (dk_at dksX1_syntaxErrorOffset_0 8 rfl rfl)
theorem dX1_syntaxErrorOffset_11 : decode cX1_syntaxErrorOffset 11 = .ok (.iconst 0, 1) := dk_3 (dk_at dksX1_syntaxErrorOffset_0 11 rfl rfl)
theorem dX1_syntaxErrorOffset_12 : decode cX1_syntaxErrorOffset 12 = .ok (.invokestatic 136, 3) := dk_184 0 136 (dk_at dksX1_syntaxErrorOffset_0 12 rfl rfl)
theorem dX1_syntaxErrorOffset_15 : decode cX1_syntaxErrorOffset 15 = .ok (.aload_n 0, 1) := dk_42 (dk_at dksX1_syntaxErrorOffset_0 15 rfl rfl)
theorem dX1_syntaxErrorOffset_16 : decode cX1_syntaxErrorOffset 16 = .ok (.getfield 386, 3) := dk_180 1 130 (dk_at dksX1_syntaxErrorOffset_0 16 rfl rfl)
theorem dX1_syntaxErrorOffset_19 : decode cX1_syntaxErrorOffset 19 = .ok (.getfield 392, 3) := dk_180 1 136 (dk_at dksX1_syntaxErrorOffset_0 19 rfl rfl)
theorem dX1_syntaxErrorOffset_22 : decode cX1_syntaxErrorOffset 22 = .ok (.ireturn, 1) := dk_172 (dk_at dksX1_syntaxErrorOffset_0 22 rfl rfl)
abbrev cX1_rejectionReason : ByteArray := prog_1_method_86_code
def yX1_rejectionReason : MethodName := ⟨RX1, "rejectionReason", "()I"⟩
def dkwX1_rejectionReason_0 : List UInt8 := [42, 180, 0, 117, 198, 0, 7, 4, 167, 0, 4, 3, 184, 0, 136, 42, 180, 0, 117, 180, 0, 64, 172]
abbrev dktX1_rejectionReason_0 : List UInt8 := dkwX1_rejectionReason_0 ++ []
theorem dksX1_rejectionReason_0 : cX1_rejectionReason.data.toList.drop 0 = dktX1_rejectionReason_0 := by decide +kernel
theorem dX1_rejectionReason_0 : decode cX1_rejectionReason 0 = .ok (.aload_n 0, 1) := dk_42 (dk_at dksX1_rejectionReason_0 0 rfl rfl)
theorem dX1_rejectionReason_1 : decode cX1_rejectionReason 1 = .ok (.getfield 117, 3) := dk_180 0 117 (dk_at dksX1_rejectionReason_0 1 rfl rfl)
theorem dX1_rejectionReason_4 : decode cX1_rejectionReason 4 = .ok (.ifnull 7, 3) := dk_198 0 7 (dk_at dksX1_rejectionReason_0 4 rfl rfl)
theorem dX1_rejectionReason_7 : decode cX1_rejectionReason 7 = .ok (.iconst 1, 1) := dk_4 (dk_at dksX1_rejectionReason_0 7 rfl rfl)
theorem dX1_rejectionReason_8 : decode cX1_rejectionReason 8 = .ok (.goto 4, 3) := dk_167 0 4 (dk_at dksX1_rejectionReason_0 8 rfl rfl)
theorem dX1_rejectionReason_11 : decode cX1_rejectionReason 11 = .ok (.iconst 0, 1) := dk_3 (dk_at dksX1_rejectionReason_0 11 rfl rfl)
theorem dX1_rejectionReason_12 : decode cX1_rejectionReason 12 = .ok (.invokestatic 136, 3) := dk_184 0 136 (dk_at dksX1_rejectionReason_0 12 rfl rfl)
theorem dX1_rejectionReason_15 : decode cX1_rejectionReason 15 = .ok (.aload_n 0, 1) := dk_42 (dk_at dksX1_rejectionReason_0 15 rfl rfl)
theorem dX1_rejectionReason_16 : decode cX1_rejectionReason 16 = .ok (.getfield 117, 3) := dk_180 0 117 (dk_at dksX1_rejectionReason_0 16 rfl rfl)
theorem dX1_rejectionReason_19 : decode cX1_rejectionReason 19 = .ok (.getfield 64, 3) := dk_180 0 64 (dk_at dksX1_rejectionReason_0 19 rfl rfl)
theorem dX1_rejectionReason_22 : decode cX1_rejectionReason 22 = .ok (.ireturn, 1) := dk_172 (dk_at dksX1_rejectionReason_0 22 rfl rfl)
abbrev cX1_rejectionDetail : ByteArray := prog_1_method_87_code
def yX1_rejectionDetail : MethodName := ⟨RX1, "rejectionDetail", "()I"⟩
def dkwX1_rejectionDetail_0 : List UInt8 := [42, 180, 0, 117, 198, 0, 7, 4, 167, 0, 4, 3, 184, 0, 136, 42, 180, 0, 117, 180, 1, 139, 172]
abbrev dktX1_rejectionDetail_0 : List UInt8 := dkwX1_rejectionDetail_0 ++ []
theorem dksX1_rejectionDetail_0 : cX1_rejectionDetail.data.toList.drop 0 = dktX1_rejectionDetail_0 := by decide +kernel
theorem dX1_rejectionDetail_0 : decode cX1_rejectionDetail 0 = .ok (.aload_n 0, 1) := dk_42 (dk_at dksX1_rejectionDetail_0 0 rfl rfl)
theorem dX1_rejectionDetail_1 : decode cX1_rejectionDetail 1 = .ok (.getfield 117, 3) := dk_180 0 117 (dk_at dksX1_rejectionDetail_0 1 rfl rfl)
theorem dX1_rejectionDetail_4 : decode cX1_rejectionDetail 4 = .ok (.ifnull 7, 3) := dk_198 0 7 (dk_at dksX1_rejectionDetail_0 4 rfl rfl)
theorem dX1_rejectionDetail_7 : decode cX1_rejectionDetail 7 = .ok (.iconst 1, 1) := dk_4 (dk_at dksX1_rejectionDetail_0 7 rfl rfl)
theorem dX1_rejectionDetail_8 : decode cX1_rejectionDetail 8 = .ok (.goto 4, 3) := dk_167 0 4 (dk_at dksX1_rejectionDetail_0 8 rfl rfl)
theorem dX1_rejectionDetail_11 : decode cX1_rejectionDetail 11 = .ok (.iconst 0, 1) := dk_3 (dk_at dksX1_rejectionDetail_0 11 rfl rfl)
theorem dX1_rejectionDetail_12 : decode cX1_rejectionDetail 12 = .ok (.invokestatic 136, 3) := dk_184 0 136 (dk_at dksX1_rejectionDetail_0 12 rfl rfl)
theorem dX1_rejectionDetail_15 : decode cX1_rejectionDetail 15 = .ok (.aload_n 0, 1) := dk_42 (dk_at dksX1_rejectionDetail_0 15 rfl rfl)
theorem dX1_rejectionDetail_16 : decode cX1_rejectionDetail 16 = .ok (.getfield 117, 3) := dk_180 0 117 (dk_at dksX1_rejectionDetail_0 16 rfl rfl)
theorem dX1_rejectionDetail_19 : decode cX1_rejectionDetail 19 = .ok (.getfield 395, 3) := dk_180 1 139 (dk_at dksX1_rejectionDetail_0 19 rfl rfl)
theorem dX1_rejectionDetail_22 : decode cX1_rejectionDetail 22 = .ok (.ireturn, 1) := dk_172 (dk_at dksX1_rejectionDetail_0 22 rfl rfl)
abbrev cX1_causeReason : ByteArray := prog_1_method_88_code
def yX1_causeReason : MethodName := ⟨RX1, "causeReason", "()I"⟩
def dkwX1_causeReason_1 : List UInt8 := [184, 0, 136, 42, 180, 0, 117, 180, 1, 142, 172]
abbrev dktX1_causeReason_1 : List UInt8 := dkwX1_causeReason_1 ++ []
def dkwX1_causeReason_0 : List UInt8 := [42, 180, 0, 117, 198, 0, 17, 42, 180, 0, 117, 180, 1, 142, 153, 0, 7, 4, 167, 0, 4, 3]
abbrev dktX1_causeReason_0 : List UInt8 := dkwX1_causeReason_0 ++ dktX1_causeReason_1
theorem dksX1_causeReason_0 : cX1_causeReason.data.toList.drop 0 = dktX1_causeReason_0 := by decide +kernel
theorem dksX1_causeReason_1 : cX1_causeReason.data.toList.drop 22 = dktX1_causeReason_1 := dk_seg dksX1_causeReason_0 22 rfl rfl
theorem dX1_causeReason_0 : decode cX1_causeReason 0 = .ok (.aload_n 0, 1) := dk_42 (dk_at dksX1_causeReason_0 0 rfl rfl)
theorem dX1_causeReason_1 : decode cX1_causeReason 1 = .ok (.getfield 117, 3) := dk_180 0 117 (dk_at dksX1_causeReason_0 1 rfl rfl)
theorem dX1_causeReason_4 : decode cX1_causeReason 4 = .ok (.ifnull 17, 3) := dk_198 0 17 (dk_at dksX1_causeReason_0 4 rfl rfl)
theorem dX1_causeReason_7 : decode cX1_causeReason 7 = .ok (.aload_n 0, 1) := dk_42 (dk_at dksX1_causeReason_0 7 rfl rfl)
theorem dX1_causeReason_8 : decode cX1_causeReason 8 = .ok (.getfield 117, 3) := dk_180 0 117 (dk_at dksX1_causeReason_0 8 rfl rfl)
theorem dX1_causeReason_11 : decode cX1_causeReason 11 = .ok (.getfield 398, 3) := dk_180 1 142 (dk_at dksX1_causeReason_0 11 rfl rfl)
theorem dX1_causeReason_14 : decode cX1_causeReason 14 = .ok (.ifCond .eq 7, 3) := dk_153 0 7 (dk_at dksX1_causeReason_0 14 rfl rfl)
theorem dX1_causeReason_17 : decode cX1_causeReason 17 = .ok (.iconst 1, 1) := dk_4 (dk_at dksX1_causeReason_0 17 rfl rfl)
theorem dX1_causeReason_18 : decode cX1_causeReason 18 = .ok (.goto 4, 3) := dk_167 0 4 (dk_at dksX1_causeReason_0 18 rfl rfl)
theorem dX1_causeReason_21 : decode cX1_causeReason 21 = .ok (.iconst 0, 1) := dk_3 (dk_at dksX1_causeReason_0 21 rfl rfl)
theorem dX1_causeReason_22 : decode cX1_causeReason 22 = .ok (.invokestatic 136, 3) := dk_184 0 136 (dk_at dksX1_causeReason_1 0 rfl rfl)
theorem dX1_causeReason_25 : decode cX1_causeReason 25 = .ok (.aload_n 0, 1) := dk_42 (dk_at dksX1_causeReason_1 3 rfl rfl)
theorem dX1_causeReason_26 : decode cX1_causeReason 26 = .ok (.getfield 117, 3) := dk_180 0 117 (dk_at dksX1_causeReason_1 4 rfl rfl)
theorem dX1_causeReason_29 : decode cX1_causeReason 29 = .ok (.getfield 398, 3) := dk_180 1 142 (dk_at dksX1_causeReason_1 7 rfl rfl)
theorem dX1_causeReason_32 : decode cX1_causeReason 32 = .ok (.ireturn, 1) := dk_172 (dk_at dksX1_causeReason_1 10 rfl rfl)
abbrev cX1_undo : ByteArray := prog_1_method_89_code
def yX1_undo : MethodName := ⟨RX1, "undo", "()I"⟩
def dkwX1_undo_2 : List UInt8 := [172]
abbrev dktX1_undo_2 : List UInt8 := dkwX1_undo_2 ++ []
def dkwX1_undo_1 : List UInt8 := [180, 0, 82, 182, 0, 48, 4, 100, 182, 0, 99, 192, 0, 74, 181, 0, 77, 42, 180, 0, 82, 182, 0, 48]
abbrev dktX1_undo_1 : List UInt8 := dkwX1_undo_1 ++ dktX1_undo_2
def dkwX1_undo_0 : List UInt8 := [42, 180, 0, 82, 182, 0, 48, 158, 0, 7, 4, 167, 0, 4, 3, 184, 1, 107, 42, 42, 180, 0, 82, 42]
abbrev dktX1_undo_0 : List UInt8 := dkwX1_undo_0 ++ dktX1_undo_1
theorem dksX1_undo_0 : cX1_undo.data.toList.drop 0 = dktX1_undo_0 := by decide +kernel
theorem dksX1_undo_1 : cX1_undo.data.toList.drop 24 = dktX1_undo_1 := dk_seg dksX1_undo_0 24 rfl rfl
theorem dksX1_undo_2 : cX1_undo.data.toList.drop 48 = dktX1_undo_2 := dk_seg dksX1_undo_1 24 rfl rfl
theorem dX1_undo_0 : decode cX1_undo 0 = .ok (.aload_n 0, 1) := dk_42 (dk_at dksX1_undo_0 0 rfl rfl)
theorem dX1_undo_1 : decode cX1_undo 1 = .ok (.getfield 82, 3) := dk_180 0 82 (dk_at dksX1_undo_0 1 rfl rfl)
theorem dX1_undo_4 : decode cX1_undo 4 = .ok (.invokevirtual 48, 3) := dk_182 0 48 (dk_at dksX1_undo_0 4 rfl rfl)
theorem dX1_undo_7 : decode cX1_undo 7 = .ok (.ifCond .le 7, 3) := dk_158 0 7 (dk_at dksX1_undo_0 7 rfl rfl)
theorem dX1_undo_10 : decode cX1_undo 10 = .ok (.iconst 1, 1) := dk_4 (dk_at dksX1_undo_0 10 rfl rfl)
theorem dX1_undo_11 : decode cX1_undo 11 = .ok (.goto 4, 3) := dk_167 0 4 (dk_at dksX1_undo_0 11 rfl rfl)
theorem dX1_undo_14 : decode cX1_undo 14 = .ok (.iconst 0, 1) := dk_3 (dk_at dksX1_undo_0 14 rfl rfl)
theorem dX1_undo_15 : decode cX1_undo 15 = .ok (.invokestatic 363, 3) := dk_184 1 107 (dk_at dksX1_undo_0 15 rfl rfl)
theorem dX1_undo_18 : decode cX1_undo 18 = .ok (.aload_n 0, 1) := dk_42 (dk_at dksX1_undo_0 18 rfl rfl)
theorem dX1_undo_19 : decode cX1_undo 19 = .ok (.aload_n 0, 1) := dk_42 (dk_at dksX1_undo_0 19 rfl rfl)
theorem dX1_undo_20 : decode cX1_undo 20 = .ok (.getfield 82, 3) := dk_180 0 82 (dk_at dksX1_undo_0 20 rfl rfl)
theorem dX1_undo_23 : decode cX1_undo 23 = .ok (.aload_n 0, 1) := dk_42 (dk_at dksX1_undo_0 23 rfl rfl)
theorem dX1_undo_24 : decode cX1_undo 24 = .ok (.getfield 82, 3) := dk_180 0 82 (dk_at dksX1_undo_1 0 rfl rfl)
theorem dX1_undo_27 : decode cX1_undo 27 = .ok (.invokevirtual 48, 3) := dk_182 0 48 (dk_at dksX1_undo_1 3 rfl rfl)
theorem dX1_undo_30 : decode cX1_undo 30 = .ok (.iconst 1, 1) := dk_4 (dk_at dksX1_undo_1 6 rfl rfl)
theorem dX1_undo_31 : decode cX1_undo 31 = .ok (.isub, 1) := dk_100 (dk_at dksX1_undo_1 7 rfl rfl)
theorem dX1_undo_32 : decode cX1_undo 32 = .ok (.invokevirtual 99, 3) := dk_182 0 99 (dk_at dksX1_undo_1 8 rfl rfl)
theorem dX1_undo_35 : decode cX1_undo 35 = .ok (.checkcast 74, 3) := dk_192 0 74 (dk_at dksX1_undo_1 11 rfl rfl)
theorem dX1_undo_38 : decode cX1_undo 38 = .ok (.putfield 77, 3) := dk_181 0 77 (dk_at dksX1_undo_1 14 rfl rfl)
theorem dX1_undo_41 : decode cX1_undo 41 = .ok (.aload_n 0, 1) := dk_42 (dk_at dksX1_undo_1 17 rfl rfl)
theorem dX1_undo_42 : decode cX1_undo 42 = .ok (.getfield 82, 3) := dk_180 0 82 (dk_at dksX1_undo_1 18 rfl rfl)
theorem dX1_undo_45 : decode cX1_undo 45 = .ok (.invokevirtual 48, 3) := dk_182 0 48 (dk_at dksX1_undo_1 21 rfl rfl)
theorem dX1_undo_48 : decode cX1_undo 48 = .ok (.ireturn, 1) := dk_172 (dk_at dksX1_undo_2 0 rfl rfl)
abbrev cX1_restoreSnapshot : ByteArray := prog_1_method_91_code
def yX1_restoreSnapshot : MethodName := ⟨RX1, "restoreSnapshot", "()I"⟩
def dkwX1_restoreSnapshot_1 : List UInt8 := [181, 0, 77, 42, 180, 0, 82, 182, 1, 148, 42, 182, 1, 55, 172]
abbrev dktX1_restoreSnapshot_1 : List UInt8 := dkwX1_restoreSnapshot_1 ++ []
def dkwX1_restoreSnapshot_0 : List UInt8 := [42, 180, 1, 145, 198, 0, 7, 4, 167, 0, 4, 3, 184, 1, 107, 42, 42, 180, 1, 145, 182, 0, 106]
abbrev dktX1_restoreSnapshot_0 : List UInt8 := dkwX1_restoreSnapshot_0 ++ dktX1_restoreSnapshot_1
theorem dksX1_restoreSnapshot_0 : cX1_restoreSnapshot.data.toList.drop 0 = dktX1_restoreSnapshot_0 := by decide +kernel
theorem dksX1_restoreSnapshot_1 : cX1_restoreSnapshot.data.toList.drop 23 = dktX1_restoreSnapshot_1 := dk_seg dksX1_restoreSnapshot_0 23 rfl rfl
theorem dX1_restoreSnapshot_0 : decode cX1_restoreSnapshot 0 = .ok (.aload_n 0, 1) := dk_42 (dk_at dksX1_restoreSnapshot_0 0 rfl rfl)
theorem dX1_restoreSnapshot_1 : decode cX1_restoreSnapshot 1 = .ok (.getfield 401, 3) := dk_180 1 145 (dk_at dksX1_restoreSnapshot_0 1 rfl rfl)
theorem dX1_restoreSnapshot_4 : decode cX1_restoreSnapshot 4 = .ok (.ifnull 7, 3) := dk_198 0 7 (dk_at dksX1_restoreSnapshot_0 4 rfl rfl)
theorem dX1_restoreSnapshot_7 : decode cX1_restoreSnapshot 7 = .ok (.iconst 1, 1) := dk_4 (dk_at dksX1_restoreSnapshot_0 7 rfl rfl)
theorem dX1_restoreSnapshot_8 : decode cX1_restoreSnapshot 8 = .ok (.goto 4, 3) := dk_167 0 4 (dk_at dksX1_restoreSnapshot_0 8 rfl rfl)
theorem dX1_restoreSnapshot_11 : decode cX1_restoreSnapshot 11 = .ok (.iconst 0, 1) := dk_3 (dk_at dksX1_restoreSnapshot_0 11 rfl rfl)
theorem dX1_restoreSnapshot_12 : decode cX1_restoreSnapshot 12 = .ok (.invokestatic 363, 3) := dk_184 1 107 (dk_at dksX1_restoreSnapshot_0 12 rfl rfl)
theorem dX1_restoreSnapshot_15 : decode cX1_restoreSnapshot 15 = .ok (.aload_n 0, 1) := dk_42 (dk_at dksX1_restoreSnapshot_0 15 rfl rfl)
theorem dX1_restoreSnapshot_16 : decode cX1_restoreSnapshot 16 = .ok (.aload_n 0, 1) := dk_42 (dk_at dksX1_restoreSnapshot_0 16 rfl rfl)
theorem dX1_restoreSnapshot_17 : decode cX1_restoreSnapshot 17 = .ok (.getfield 401, 3) := dk_180 1 145 (dk_at dksX1_restoreSnapshot_0 17 rfl rfl)
theorem dX1_restoreSnapshot_20 : decode cX1_restoreSnapshot 20 = .ok (.invokevirtual 106, 3) := dk_182 0 106 (dk_at dksX1_restoreSnapshot_0 20 rfl rfl)
theorem dX1_restoreSnapshot_23 : decode cX1_restoreSnapshot 23 = .ok (.putfield 77, 3) := dk_181 0 77 (dk_at dksX1_restoreSnapshot_1 0 rfl rfl)
theorem dX1_restoreSnapshot_26 : decode cX1_restoreSnapshot 26 = .ok (.aload_n 0, 1) := dk_42 (dk_at dksX1_restoreSnapshot_1 3 rfl rfl)
theorem dX1_restoreSnapshot_27 : decode cX1_restoreSnapshot 27 = .ok (.getfield 82, 3) := dk_180 0 82 (dk_at dksX1_restoreSnapshot_1 4 rfl rfl)
theorem dX1_restoreSnapshot_30 : decode cX1_restoreSnapshot 30 = .ok (.invokevirtual 404, 3) := dk_182 1 148 (dk_at dksX1_restoreSnapshot_1 7 rfl rfl)
theorem dX1_restoreSnapshot_33 : decode cX1_restoreSnapshot 33 = .ok (.aload_n 0, 1) := dk_42 (dk_at dksX1_restoreSnapshot_1 10 rfl rfl)
theorem dX1_restoreSnapshot_34 : decode cX1_restoreSnapshot 34 = .ok (.invokevirtual 311, 3) := dk_182 1 55 (dk_at dksX1_restoreSnapshot_1 11 rfl rfl)
theorem dX1_restoreSnapshot_37 : decode cX1_restoreSnapshot 37 = .ok (.ireturn, 1) := dk_172 (dk_at dksX1_restoreSnapshot_1 14 rfl rfl)
theorem q76 : (Jvm.Cond.initialized "WindFarmDispatcher") ∈ lw_all := lw_g (lw_at lw_m1 1 rfl) rfl
theorem q120 : (Jvm.Cond.instantiable "WindFarmDispatcher" (7 : Nat)) ∈ lw_all := lw_g (lw_at lw_m1 45 rfl) rfl
theorem q122 : (Jvm.Cond.instanceMethod ({ cls := "WindFarmDispatcher", name := "<init>", desc := "()V" } : Jvm.MethodName)) ∈ lw_all := lw_g (lw_at lw_m1 47 rfl) rfl
theorem q123 : (Jvm.Cond.code ({ cls := "WindFarmDispatcher", name := "<init>", desc := "()V" } : Jvm.MethodName) prog_1_method_22_code (1 : Nat) (Option.none : Option Jvm.ClassFile.FieldType)) ∈ lw_all := lw_g (lw_at lw_m1 48 rfl) rfl
theorem q124 : (Jvm.Cond.methodLink "WindFarmDispatcher" (71 : Nat) ({ cls := "java/lang/Object", name := "<init>", desc := "()V" } : Jvm.MethodName)) ∈ lw_all := lw_g (lw_at lw_m1 49 rfl) rfl
theorem q127 : (Jvm.Cond.classLink "WindFarmDispatcher" (74 : Nat) "WindFarmDispatcher$Farm") ∈ lw_all := lw_g (lw_at lw_m1 52 rfl) rfl
theorem q129 : (Jvm.Cond.methodLinkNest "WindFarmDispatcher" (76 : Nat) ({ cls := "WindFarmDispatcher$Farm", name := "<init>", desc := "()V" } : Jvm.MethodName) "WindFarmDispatcher") ∈ lw_tbl := lw_at lw_m1 54 rfl
theorem q166 : (Jvm.Cond.fieldLinkNest "WindFarmDispatcher" (131 : Nat) "WindFarmDispatcher$Farm" "turbines" "Ljava/util/ArrayList;" "WindFarmDispatcher") ∈ lw_tbl := lw_at lw_m1 91 rfl
theorem q168 : (Jvm.Cond.fieldLinkNest "WindFarmDispatcher" (180 : Nat) "WindFarmDispatcher$Farm" "grid" "[[LWindFarmDispatcher$Turbine;" "WindFarmDispatcher") ∈ lw_tbl := lw_at lw_m1 93 rfl
theorem q170 : (Jvm.Cond.fieldLinkNest "WindFarmDispatcher" (272 : Nat) "WindFarmDispatcher$Farm" "prices" "[I" "WindFarmDispatcher") ∈ lw_tbl := lw_at lw_m1 95 rfl
theorem q172 : (Jvm.Cond.fieldLinkNest "WindFarmDispatcher" (276 : Nat) "WindFarmDispatcher$Farm" "quantities" "[I" "WindFarmDispatcher") ∈ lw_tbl := lw_at lw_m1 97 rfl
theorem q174 : (Jvm.Cond.fieldLinkNest "WindFarmDispatcher" (227 : Nat) "WindFarmDispatcher$Farm" "direction" "LWindFarmDispatcher$Direction;" "WindFarmDispatcher") ∈ lw_tbl := lw_at lw_m1 99 rfl
theorem q176 : (Jvm.Cond.fieldLinkNest "WindFarmDispatcher" (231 : Nat) "WindFarmDispatcher$Farm" "speed" "I" "WindFarmDispatcher") ∈ lw_tbl := lw_at lw_m1 101 rfl
theorem q178 : (Jvm.Cond.fieldLinkNest "WindFarmDispatcher" (263 : Nat) "WindFarmDispatcher$Farm" "gridLimit" "I" "WindFarmDispatcher") ∈ lw_tbl := lw_at lw_m1 103 rfl
theorem q180 : (Jvm.Cond.fieldLinkNest "WindFarmDispatcher" (285 : Nat) "WindFarmDispatcher$Farm" "time" "I" "WindFarmDispatcher") ∈ lw_tbl := lw_at lw_m1 105 rfl
theorem q182 : (Jvm.Cond.fieldLinkNest "WindFarmDispatcher" (294 : Nat) "WindFarmDispatcher$Farm" "made" "J" "WindFarmDispatcher") ∈ lw_tbl := lw_at lw_m1 107 rfl
theorem q184 : (Jvm.Cond.fieldLinkNest "WindFarmDispatcher" (298 : Nat) "WindFarmDispatcher$Farm" "lost" "J" "WindFarmDispatcher") ∈ lw_tbl := lw_at lw_m1 109 rfl
theorem q186 : (Jvm.Cond.fieldLinkNest "WindFarmDispatcher" (301 : Nat) "WindFarmDispatcher$Farm" "sold" "J" "WindFarmDispatcher") ∈ lw_tbl := lw_at lw_m1 111 rfl
theorem q188 : (Jvm.Cond.fieldLinkNest "WindFarmDispatcher" (304 : Nat) "WindFarmDispatcher$Farm" "coins" "J" "WindFarmDispatcher") ∈ lw_tbl := lw_at lw_m1 113 rfl
theorem q215 : (Jvm.Cond.classLink "WindFarmDispatcher" (49 : Nat) "java/util/ArrayList") ∈ lw_all := lw_g (lw_at lw_m1 140 rfl) rfl
theorem q216 : (Jvm.Cond.methodLink "WindFarmDispatcher" (81 : Nat) ({ cls := "java/util/ArrayList", name := "<init>", desc := "()V" } : Jvm.MethodName)) ∈ lw_all := lw_g (lw_at lw_m1 141 rfl) rfl
theorem q217 : (Jvm.Cond.classLink "WindFarmDispatcher" (86 : Nat) "java/lang/StringBuilder") ∈ lw_all := lw_g (lw_at lw_m1 142 rfl) rfl
theorem q219 : (Jvm.Cond.methodLink "WindFarmDispatcher" (88 : Nat) ({ cls := "java/lang/StringBuilder", name := "<init>", desc := "()V" } : Jvm.MethodName)) ∈ lw_all := lw_g (lw_at lw_m1 144 rfl) rfl
theorem q250 : (Jvm.Cond.stringRef "WindFarmDispatcher" (93 : Nat) "") ∈ lw_tbl := lw_at lw_m1 175 rfl
theorem q251 : (Jvm.Cond.fieldLink "WindFarmDispatcher" (77 : Nat) "WindFarmDispatcher" "farm" "LWindFarmDispatcher$Farm;") ∈ lw_all := lw_g (lw_at lw_m1 176 rfl) rfl
theorem q252 : (Jvm.Cond.fieldLink "WindFarmDispatcher" (401 : Nat) "WindFarmDispatcher" "snapshot" "LWindFarmDispatcher$Farm;") ∈ lw_all := lw_g (lw_at lw_m1 177 rfl) rfl
theorem q253 : (Jvm.Cond.fieldLink "WindFarmDispatcher" (82 : Nat) "WindFarmDispatcher" "history" "Ljava/util/ArrayList;") ∈ lw_all := lw_g (lw_at lw_m1 178 rfl) rfl
theorem q254 : (Jvm.Cond.fieldLink "WindFarmDispatcher" (89 : Nat) "WindFarmDispatcher" "input" "Ljava/lang/StringBuilder;") ∈ lw_all := lw_g (lw_at lw_m1 179 rfl) rfl
theorem q255 : (Jvm.Cond.fieldLink "WindFarmDispatcher" (95 : Nat) "WindFarmDispatcher" "output" "Ljava/lang/String;") ∈ lw_all := lw_g (lw_at lw_m1 180 rfl) rfl
theorem q256 : (Jvm.Cond.fieldLink "WindFarmDispatcher" (386 : Nat) "WindFarmDispatcher" "syntaxError" "LWindFarmDispatcher$SyntaxError;") ∈ lw_all := lw_g (lw_at lw_m1 181 rfl) rfl
theorem q257 : (Jvm.Cond.fieldLink "WindFarmDispatcher" (117 : Nat) "WindFarmDispatcher" "rejection" "LWindFarmDispatcher$Rejection;") ∈ lw_all := lw_g (lw_at lw_m1 182 rfl) rfl
theorem q258 : (Jvm.Cond.lays "WindFarmDispatcher" "WindFarmDispatcher" "farm" "LWindFarmDispatcher$Farm;") ∈ lw_all := lw_g (lw_at lw_m1 183 rfl) rfl
theorem q259 : (Jvm.Cond.soleField "WindFarmDispatcher" "farm") ∈ lw_all := lw_g (lw_at lw_m1 184 rfl) rfl
theorem q260 : (Jvm.Cond.lays "WindFarmDispatcher" "WindFarmDispatcher" "snapshot" "LWindFarmDispatcher$Farm;") ∈ lw_all := lw_g (lw_at lw_m1 185 rfl) rfl
theorem q261 : (Jvm.Cond.soleField "WindFarmDispatcher" "snapshot") ∈ lw_all := lw_g (lw_at lw_m1 186 rfl) rfl
theorem q262 : (Jvm.Cond.laysFinal "WindFarmDispatcher" "WindFarmDispatcher" "history" "Ljava/util/ArrayList;") ∈ lw_all := lw_g (lw_at lw_m1 187 rfl) rfl
theorem q263 : (Jvm.Cond.soleField "WindFarmDispatcher" "history") ∈ lw_all := lw_g (lw_at lw_m1 188 rfl) rfl
theorem q264 : (Jvm.Cond.laysFinal "WindFarmDispatcher" "WindFarmDispatcher" "input" "Ljava/lang/StringBuilder;") ∈ lw_all := lw_g (lw_at lw_m1 189 rfl) rfl
theorem q265 : (Jvm.Cond.soleField "WindFarmDispatcher" "input") ∈ lw_all := lw_g (lw_at lw_m1 190 rfl) rfl
theorem q266 : (Jvm.Cond.lays "WindFarmDispatcher" "WindFarmDispatcher" "output" "Ljava/lang/String;") ∈ lw_all := lw_g (lw_at lw_m1 191 rfl) rfl
theorem q267 : (Jvm.Cond.soleField "WindFarmDispatcher" "output") ∈ lw_all := lw_g (lw_at lw_m1 192 rfl) rfl
theorem q268 : (Jvm.Cond.lays "WindFarmDispatcher" "WindFarmDispatcher" "syntaxError" "LWindFarmDispatcher$SyntaxError;") ∈ lw_all := lw_g (lw_at lw_m1 193 rfl) rfl
theorem q269 : (Jvm.Cond.soleField "WindFarmDispatcher" "syntaxError") ∈ lw_all := lw_g (lw_at lw_m1 194 rfl) rfl
theorem q270 : (Jvm.Cond.lays "WindFarmDispatcher" "WindFarmDispatcher" "rejection" "LWindFarmDispatcher$Rejection;") ∈ lw_all := lw_g (lw_at lw_m1 195 rfl) rfl
theorem q271 : (Jvm.Cond.soleField "WindFarmDispatcher" "rejection") ∈ lw_all := lw_g (lw_at lw_m1 196 rfl) rfl
theorem q272 : (Jvm.Cond.superclass "WindFarmDispatcher" "java/lang/Object") ∈ lw_all := lw_g (lw_at lw_m1 197 rfl) rfl
theorem q274 : (Jvm.Cond.instanceMethod ({ cls := "WindFarmDispatcher", name := "turbineCount", desc := "()I" } : Jvm.MethodName)) ∈ lw_all := lw_g (lw_at lw_m1 199 rfl) rfl
theorem q275 : (Jvm.Cond.selects "WindFarmDispatcher" ({ cls := "WindFarmDispatcher", name := "turbineCount", desc := "()I" } : Jvm.MethodName) ({ cls := "WindFarmDispatcher", name := "turbineCount", desc := "()I" } : Jvm.MethodName)) ∈ lw_all := lw_g (lw_at lw_m1 200 rfl) rfl
theorem q276 : (Jvm.Cond.code ({ cls := "WindFarmDispatcher", name := "turbineCount", desc := "()I" } : Jvm.MethodName) prog_1_method_36_code (1 : Nat) (Option.some Jvm.ClassFile.FieldType.int)) ∈ lw_all := lw_g (lw_at lw_m1 201 rfl) rfl
theorem q277 : (Jvm.Cond.methodLink "WindFarmDispatcher" (48 : Nat) ({ cls := "java/util/ArrayList", name := "size", desc := "()I" } : Jvm.MethodName)) ∈ lw_all := lw_g (lw_at lw_m1 202 rfl) rfl
theorem q282 : (Jvm.Cond.instanceMethod ({ cls := "WindFarmDispatcher", name := "freeCrews", desc := "()I" } : Jvm.MethodName)) ∈ lw_all := lw_g (lw_at lw_m1 207 rfl) rfl
theorem q283 : (Jvm.Cond.selects "WindFarmDispatcher" ({ cls := "WindFarmDispatcher", name := "freeCrews", desc := "()I" } : Jvm.MethodName) ({ cls := "WindFarmDispatcher", name := "freeCrews", desc := "()I" } : Jvm.MethodName)) ∈ lw_all := lw_g (lw_at lw_m1 208 rfl) rfl
theorem q284 : (Jvm.Cond.code ({ cls := "WindFarmDispatcher", name := "freeCrews", desc := "()I" } : Jvm.MethodName) prog_1_method_46_code (1 : Nat) (Option.some Jvm.ClassFile.FieldType.int)) ∈ lw_all := lw_g (lw_at lw_m1 209 rfl) rfl
theorem q285 : (Jvm.Cond.methodLink "WindFarmDispatcher" (217 : Nat) ({ cls := "WindFarmDispatcher$Farm", name := "inService", desc := "()I" } : Jvm.MethodName)) ∈ lw_all := lw_g (lw_at lw_m1 210 rfl) rfl
theorem q311 : (Jvm.Cond.static ({ cls := "WindFarmDispatcher", name := "asInt", desc := "(Z)I" } : Jvm.MethodName)) ∈ lw_all := lw_g (lw_at lw_m1 236 rfl) rfl
theorem q312 : (Jvm.Cond.code ({ cls := "WindFarmDispatcher", name := "asInt", desc := "(Z)I" } : Jvm.MethodName) prog_1_method_11_code (1 : Nat) (Option.some Jvm.ClassFile.FieldType.int)) ∈ lw_all := lw_g (lw_at lw_m1 237 rfl) rfl
theorem q314 : (Jvm.Cond.instanceMethod ({ cls := "WindFarmDispatcher", name := "windDirection", desc := "()C" } : Jvm.MethodName)) ∈ lw_all := lw_g (lw_at lw_m1 239 rfl) rfl
theorem q315 : (Jvm.Cond.selects "WindFarmDispatcher" ({ cls := "WindFarmDispatcher", name := "windDirection", desc := "()C" } : Jvm.MethodName) ({ cls := "WindFarmDispatcher", name := "windDirection", desc := "()C" } : Jvm.MethodName)) ∈ lw_all := lw_g (lw_at lw_m2 0 rfl) rfl
theorem q316 : (Jvm.Cond.code ({ cls := "WindFarmDispatcher", name := "windDirection", desc := "()C" } : Jvm.MethodName) prog_1_method_48_code (1 : Nat) (Option.some Jvm.ClassFile.FieldType.char)) ∈ lw_all := lw_g (lw_at lw_m2 1 rfl) rfl
theorem q317 : (Jvm.Cond.methodLink "WindFarmDispatcher" (36 : Nat) ({ cls := "WindFarmDispatcher$Direction", name := "letter", desc := "()C" } : Jvm.MethodName)) ∈ lw_all := lw_g (lw_at lw_m2 2 rfl) rfl
theorem q326 : (Jvm.Cond.instanceMethod ({ cls := "WindFarmDispatcher", name := "windSpeed", desc := "()I" } : Jvm.MethodName)) ∈ lw_all := lw_g (lw_at lw_m2 11 rfl) rfl
theorem q327 : (Jvm.Cond.selects "WindFarmDispatcher" ({ cls := "WindFarmDispatcher", name := "windSpeed", desc := "()I" } : Jvm.MethodName) ({ cls := "WindFarmDispatcher", name := "windSpeed", desc := "()I" } : Jvm.MethodName)) ∈ lw_all := lw_g (lw_at lw_m2 12 rfl) rfl
theorem q328 : (Jvm.Cond.code ({ cls := "WindFarmDispatcher", name := "windSpeed", desc := "()I" } : Jvm.MethodName) prog_1_method_49_code (1 : Nat) (Option.some Jvm.ClassFile.FieldType.int)) ∈ lw_all := lw_g (lw_at lw_m2 13 rfl) rfl
theorem q330 : (Jvm.Cond.instanceMethod ({ cls := "WindFarmDispatcher", name := "powerFactor", desc := "()I" } : Jvm.MethodName)) ∈ lw_all := lw_g (lw_at lw_m2 15 rfl) rfl
theorem q331 : (Jvm.Cond.selects "WindFarmDispatcher" ({ cls := "WindFarmDispatcher", name := "powerFactor", desc := "()I" } : Jvm.MethodName) ({ cls := "WindFarmDispatcher", name := "powerFactor", desc := "()I" } : Jvm.MethodName)) ∈ lw_all := lw_g (lw_at lw_m2 16 rfl) rfl
theorem q332 : (Jvm.Cond.code ({ cls := "WindFarmDispatcher", name := "powerFactor", desc := "()I" } : Jvm.MethodName) prog_1_method_50_code (1 : Nat) (Option.some Jvm.ClassFile.FieldType.int)) ∈ lw_all := lw_g (lw_at lw_m2 17 rfl) rfl
theorem q333 : (Jvm.Cond.methodLink "WindFarmDispatcher" (234 : Nat) ({ cls := "WindFarmDispatcher", name := "factorFor", desc := "(I)I" } : Jvm.MethodName)) ∈ lw_all := lw_g (lw_at lw_m2 18 rfl) rfl
theorem q334 : (Jvm.Cond.static ({ cls := "WindFarmDispatcher", name := "factorFor", desc := "(I)I" } : Jvm.MethodName)) ∈ lw_all := lw_g (lw_at lw_m2 19 rfl) rfl
theorem q335 : (Jvm.Cond.code ({ cls := "WindFarmDispatcher", name := "factorFor", desc := "(I)I" } : Jvm.MethodName) prog_1_method_20_code (1 : Nat) (Option.some Jvm.ClassFile.FieldType.int)) ∈ lw_all := lw_g (lw_at lw_m2 20 rfl) rfl
theorem q337 : (Jvm.Cond.instanceMethod ({ cls := "WindFarmDispatcher", name := "totalOutput", desc := "()I" } : Jvm.MethodName)) ∈ lw_all := lw_g (lw_at lw_m2 22 rfl) rfl
theorem q338 : (Jvm.Cond.selects "WindFarmDispatcher" ({ cls := "WindFarmDispatcher", name := "totalOutput", desc := "()I" } : Jvm.MethodName) ({ cls := "WindFarmDispatcher", name := "totalOutput", desc := "()I" } : Jvm.MethodName)) ∈ lw_all := lw_g (lw_at lw_m2 23 rfl) rfl
theorem q339 : (Jvm.Cond.code ({ cls := "WindFarmDispatcher", name := "totalOutput", desc := "()I" } : Jvm.MethodName) prog_1_method_54_code (1 : Nat) (Option.some Jvm.ClassFile.FieldType.int)) ∈ lw_all := lw_g (lw_at lw_m2 24 rfl) rfl
theorem q340 : (Jvm.Cond.methodLink "WindFarmDispatcher" (246 : Nat) ({ cls := "WindFarmDispatcher$Farm", name := "total", desc := "()I" } : Jvm.MethodName)) ∈ lw_all := lw_g (lw_at lw_m2 25 rfl) rfl
theorem q392 : (Jvm.Cond.static ({ cls := "WindFarmDispatcher", name := "isCell", desc := "(II)Z" } : Jvm.MethodName)) ∈ lw_all := lw_g (lw_at lw_m2 77 rfl) rfl
theorem q393 : (Jvm.Cond.code ({ cls := "WindFarmDispatcher", name := "isCell", desc := "(II)Z" } : Jvm.MethodName) prog_1_method_2_code (2 : Nat) (Option.some Jvm.ClassFile.FieldType.boolean)) ∈ lw_all := lw_g (lw_at lw_m2 78 rfl) rfl
theorem q394 : (Jvm.Cond.methodLink "WindFarmDispatcher" (3 : Nat) ({ cls := "WindFarmDispatcher", name := "isBetween", desc := "(III)Z" } : Jvm.MethodName)) ∈ lw_all := lw_g (lw_at lw_m2 79 rfl) rfl
theorem q395 : (Jvm.Cond.static ({ cls := "WindFarmDispatcher", name := "isBetween", desc := "(III)Z" } : Jvm.MethodName)) ∈ lw_all := lw_g (lw_at lw_m2 80 rfl) rfl
theorem q396 : (Jvm.Cond.code ({ cls := "WindFarmDispatcher", name := "isBetween", desc := "(III)Z" } : Jvm.MethodName) prog_1_method_1_code (3 : Nat) (Option.some Jvm.ClassFile.FieldType.boolean)) ∈ lw_all := lw_g (lw_at lw_m2 81 rfl) rfl
theorem q443 : (Jvm.Cond.instanceMethod ({ cls := "WindFarmDispatcher", name := "totalOutputByLines", desc := "()I" } : Jvm.MethodName)) ∈ lw_all := lw_g (lw_at lw_m2 128 rfl) rfl
theorem q444 : (Jvm.Cond.selects "WindFarmDispatcher" ({ cls := "WindFarmDispatcher", name := "totalOutputByLines", desc := "()I" } : Jvm.MethodName) ({ cls := "WindFarmDispatcher", name := "totalOutputByLines", desc := "()I" } : Jvm.MethodName)) ∈ lw_all := lw_g (lw_at lw_m2 129 rfl) rfl
theorem q445 : (Jvm.Cond.code ({ cls := "WindFarmDispatcher", name := "totalOutputByLines", desc := "()I" } : Jvm.MethodName) prog_1_method_55_code (1 : Nat) (Option.some Jvm.ClassFile.FieldType.int)) ∈ lw_all := lw_g (lw_at lw_m2 130 rfl) rfl
theorem q446 : (Jvm.Cond.methodLink "WindFarmDispatcher" (249 : Nat) ({ cls := "WindFarmDispatcher$Farm", name := "totalByLines", desc := "()I" } : Jvm.MethodName)) ∈ lw_all := lw_g (lw_at lw_m2 131 rfl) rfl
theorem q465 : (Jvm.Cond.instanceMethod ({ cls := "WindFarmDispatcher", name := "bestDirection", desc := "()C" } : Jvm.MethodName)) ∈ lw_all := lw_g (lw_at lw_m2 150 rfl) rfl
theorem q466 : (Jvm.Cond.selects "WindFarmDispatcher" ({ cls := "WindFarmDispatcher", name := "bestDirection", desc := "()C" } : Jvm.MethodName) ({ cls := "WindFarmDispatcher", name := "bestDirection", desc := "()C" } : Jvm.MethodName)) ∈ lw_all := lw_g (lw_at lw_m2 151 rfl) rfl
theorem q467 : (Jvm.Cond.code ({ cls := "WindFarmDispatcher", name := "bestDirection", desc := "()C" } : Jvm.MethodName) prog_1_method_57_code (1 : Nat) (Option.some Jvm.ClassFile.FieldType.char)) ∈ lw_all := lw_g (lw_at lw_m2 152 rfl) rfl
theorem q468 : (Jvm.Cond.methodLink "WindFarmDispatcher" (256 : Nat) ({ cls := "WindFarmDispatcher$Farm", name := "bestDirection", desc := "()LWindFarmDispatcher$Direction;" } : Jvm.MethodName)) ∈ lw_all := lw_g (lw_at lw_m2 153 rfl) rfl
theorem q486 : (Jvm.Cond.instanceMethod ({ cls := "WindFarmDispatcher", name := "gridLimit", desc := "()I" } : Jvm.MethodName)) ∈ lw_all := lw_g (lw_at lw_m2 171 rfl) rfl
theorem q487 : (Jvm.Cond.selects "WindFarmDispatcher" ({ cls := "WindFarmDispatcher", name := "gridLimit", desc := "()I" } : Jvm.MethodName) ({ cls := "WindFarmDispatcher", name := "gridLimit", desc := "()I" } : Jvm.MethodName)) ∈ lw_all := lw_g (lw_at lw_m2 172 rfl) rfl
theorem q488 : (Jvm.Cond.code ({ cls := "WindFarmDispatcher", name := "gridLimit", desc := "()I" } : Jvm.MethodName) prog_1_method_59_code (1 : Nat) (Option.some Jvm.ClassFile.FieldType.int)) ∈ lw_all := lw_g (lw_at lw_m2 173 rfl) rfl
theorem q490 : (Jvm.Cond.instanceMethod ({ cls := "WindFarmDispatcher", name := "dispatch", desc := "()I" } : Jvm.MethodName)) ∈ lw_all := lw_g (lw_at lw_m2 175 rfl) rfl
theorem q491 : (Jvm.Cond.selects "WindFarmDispatcher" ({ cls := "WindFarmDispatcher", name := "dispatch", desc := "()I" } : Jvm.MethodName) ({ cls := "WindFarmDispatcher", name := "dispatch", desc := "()I" } : Jvm.MethodName)) ∈ lw_all := lw_g (lw_at lw_m2 176 rfl) rfl
theorem q492 : (Jvm.Cond.code ({ cls := "WindFarmDispatcher", name := "dispatch", desc := "()I" } : Jvm.MethodName) prog_1_method_60_code (1 : Nat) (Option.some Jvm.ClassFile.FieldType.int)) ∈ lw_all := lw_g (lw_at lw_m2 177 rfl) rfl
theorem q493 : (Jvm.Cond.classLink "WindFarmDispatcher" (58 : Nat) "WindFarmDispatcher$Command") ∈ lw_all := lw_g (lw_at lw_m2 178 rfl) rfl
theorem q495 : (Jvm.Cond.methodLink "WindFarmDispatcher" (171 : Nat) ({ cls := "WindFarmDispatcher$Command", name := "<init>", desc := "(CI)V" } : Jvm.MethodName)) ∈ lw_all := lw_g (lw_at lw_m2 180 rfl) rfl
theorem q518 : (Jvm.Cond.methodLink "WindFarmDispatcher" (163 : Nat) ({ cls := "WindFarmDispatcher", name := "change", desc := "(LWindFarmDispatcher$Command;)I" } : Jvm.MethodName)) ∈ lw_all := lw_g (lw_at lw_m2 203 rfl) rfl
theorem q519 : (Jvm.Cond.privateMethod ({ cls := "WindFarmDispatcher", name := "change", desc := "(LWindFarmDispatcher$Command;)I" } : Jvm.MethodName)) ∈ lw_tbl := lw_at lw_m2 204 rfl
theorem q520 : (Jvm.Cond.instanceMethod ({ cls := "WindFarmDispatcher", name := "change", desc := "(LWindFarmDispatcher$Command;)I" } : Jvm.MethodName)) ∈ lw_all := lw_g (lw_at lw_m2 205 rfl) rfl
theorem q521 : (Jvm.Cond.codeWith ({ cls := "WindFarmDispatcher", name := "change", desc := "(LWindFarmDispatcher$Command;)I" } : Jvm.MethodName) prog_1_method_24_code (4 : Nat) (Option.some Jvm.ClassFile.FieldType.int) [((8 : Nat), (20 : Nat), (21 : Nat), (25 : Nat))]) ∈ lw_all := lw_g (lw_at lw_m2 206 rfl) rfl
theorem q522 : (Jvm.Cond.classLink "WindFarmDispatcher" (25 : Nat) "WindFarmDispatcher$Rejection") ∈ lw_all := lw_g (lw_at lw_m2 207 rfl) rfl
theorem q523 : (Jvm.Cond.methodLink "WindFarmDispatcher" (106 : Nat) ({ cls := "WindFarmDispatcher$Farm", name := "copy", desc := "()LWindFarmDispatcher$Farm;" } : Jvm.MethodName)) ∈ lw_all := lw_g (lw_at lw_m2 208 rfl) rfl
theorem q546 : (Jvm.Cond.fieldLinkNest "WindFarmDispatcher" (184 : Nat) "WindFarmDispatcher$Turbine" "index" "I" "WindFarmDispatcher") ∈ lw_tbl := lw_at lw_m2 231 rfl
theorem q549 : (Jvm.Cond.fieldLinkNest "WindFarmDispatcher" (191 : Nat) "WindFarmDispatcher$Turbine" "row" "I" "WindFarmDispatcher") ∈ lw_tbl := lw_at lw_m2 234 rfl
theorem q552 : (Jvm.Cond.fieldLinkNest "WindFarmDispatcher" (194 : Nat) "WindFarmDispatcher$Turbine" "column" "I" "WindFarmDispatcher") ∈ lw_tbl := lw_at lw_m2 237 rfl
theorem q555 : (Jvm.Cond.fieldLinkNest "WindFarmDispatcher" (197 : Nat) "WindFarmDispatcher$Turbine" "rated" "I" "WindFarmDispatcher") ∈ lw_tbl := lw_at lw_m3 0 rfl
theorem q558 : (Jvm.Cond.fieldLinkNest "WindFarmDispatcher" (341 : Nat) "WindFarmDispatcher$Turbine" "state" "LWindFarmDispatcher$State;" "WindFarmDispatcher") ∈ lw_tbl := lw_at lw_m3 3 rfl
theorem q600 : (Jvm.Cond.selects "WindFarmDispatcher" ({ cls := "java/lang/Object", name := "getClass", desc := "()Ljava/lang/Class;" } : Jvm.MethodName) ({ cls := "java/lang/Object", name := "getClass", desc := "()Ljava/lang/Class;" } : Jvm.MethodName)) ∈ lw_all := lw_g (lw_at lw_m3 45 rfl) rfl
theorem q641 : (Jvm.Cond.methodLink "WindFarmDispatcher" (110 : Nat) ({ cls := "WindFarmDispatcher$Command", name := "run", desc := "(LWindFarmDispatcher$Farm;)I" } : Jvm.MethodName)) ∈ lw_all := lw_g (lw_at lw_m3 86 rfl) rfl
theorem q650 : (Jvm.Cond.static ({ cls := "WindFarmDispatcher", name := "rejectIf", desc := "(ZII)V" } : Jvm.MethodName)) ∈ lw_all := lw_g (lw_at lw_m3 95 rfl) rfl
theorem q651 : (Jvm.Cond.code ({ cls := "WindFarmDispatcher", name := "rejectIf", desc := "(ZII)V" } : Jvm.MethodName) prog_1_method_17_code (3 : Nat) (Option.none : Option Jvm.ClassFile.FieldType)) ∈ lw_all := lw_g (lw_at lw_m3 96 rfl) rfl
theorem q698 : (Jvm.Cond.methodLink "WindFarmDispatcher" (27 : Nat) ({ cls := "WindFarmDispatcher$Rejection", name := "<init>", desc := "(II)V" } : Jvm.MethodName)) ∈ lw_all := lw_g (lw_at lw_m3 143 rfl) rfl
theorem q709 : (Jvm.Cond.fieldLinkNest "WindFarmDispatcher" (64 : Nat) "WindFarmDispatcher$Rejection" "reason" "I" "WindFarmDispatcher") ∈ lw_tbl := lw_at lw_m3 154 rfl
theorem q711 : (Jvm.Cond.fieldLinkNest "WindFarmDispatcher" (395 : Nat) "WindFarmDispatcher$Rejection" "detail" "I" "WindFarmDispatcher") ∈ lw_tbl := lw_at lw_m3 156 rfl
theorem q713 : (Jvm.Cond.fieldLinkNest "WindFarmDispatcher" (398 : Nat) "WindFarmDispatcher$Rejection" "causeReason" "I" "WindFarmDispatcher") ∈ lw_tbl := lw_at lw_m3 158 rfl
theorem q811 : (Jvm.Cond.static ({ cls := "WindFarmDispatcher", name := "directionFor", desc := "(C)LWindFarmDispatcher$Direction;" } : Jvm.MethodName)) ∈ lw_all := lw_g (lw_at lw_m4 16 rfl) rfl
theorem q812 : (Jvm.Cond.code ({ cls := "WindFarmDispatcher", name := "directionFor", desc := "(C)LWindFarmDispatcher$Direction;" } : Jvm.MethodName) prog_1_method_18_code (5 : Nat) (Option.some (Jvm.ClassFile.FieldType.object "WindFarmDispatcher$Direction"))) ∈ lw_all := lw_g (lw_at lw_m4 17 rfl) rfl
theorem q813 : (Jvm.Cond.methodLink "WindFarmDispatcher" (30 : Nat) ({ cls := "WindFarmDispatcher$Direction", name := "values", desc := "()[LWindFarmDispatcher$Direction;" } : Jvm.MethodName)) ∈ lw_all := lw_g (lw_at lw_m4 18 rfl) rfl
theorem q876 : (Jvm.Cond.methodLink "WindFarmDispatcher" (113 : Nat) ({ cls := "WindFarmDispatcher", name := "commit", desc := "(LWindFarmDispatcher$Farm;I)I" } : Jvm.MethodName)) ∈ lw_all := lw_g (lw_at lw_m4 81 rfl) rfl
theorem q877 : (Jvm.Cond.privateMethod ({ cls := "WindFarmDispatcher", name := "commit", desc := "(LWindFarmDispatcher$Farm;I)I" } : Jvm.MethodName)) ∈ lw_tbl := lw_at lw_m4 82 rfl
theorem q878 : (Jvm.Cond.instanceMethod ({ cls := "WindFarmDispatcher", name := "commit", desc := "(LWindFarmDispatcher$Farm;I)I" } : Jvm.MethodName)) ∈ lw_all := lw_g (lw_at lw_m4 83 rfl) rfl
theorem q879 : (Jvm.Cond.code ({ cls := "WindFarmDispatcher", name := "commit", desc := "(LWindFarmDispatcher$Farm;I)I" } : Jvm.MethodName) prog_1_method_23_code (4 : Nat) (Option.some Jvm.ClassFile.FieldType.int)) ∈ lw_all := lw_g (lw_at lw_m4 84 rfl) rfl
theorem q880 : (Jvm.Cond.methodLink "WindFarmDispatcher" (99 : Nat) ({ cls := "java/util/ArrayList", name := "remove", desc := "(I)Ljava/lang/Object;" } : Jvm.MethodName)) ∈ lw_all := lw_g (lw_at lw_m4 85 rfl) rfl
theorem q889 : (Jvm.Cond.methodLink "WindFarmDispatcher" (102 : Nat) ({ cls := "java/util/ArrayList", name := "add", desc := "(Ljava/lang/Object;)Z" } : Jvm.MethodName)) ∈ lw_all := lw_g (lw_at lw_m4 94 rfl) rfl
theorem q890 : (Jvm.Cond.classLink "WindFarmDispatcher" (121 : Nat) "java/lang/UnsupportedOperationException") ∈ lw_all := lw_g (lw_at lw_m4 95 rfl) rfl
theorem q901 : (Jvm.Cond.methodLink "WindFarmDispatcher" (123 : Nat) ({ cls := "java/lang/UnsupportedOperationException", name := "<init>", desc := "()V" } : Jvm.MethodName)) ∈ lw_all := lw_g (lw_at lw_m4 106 rfl) rfl
theorem q911 : (Jvm.Cond.instanceMethod ({ cls := "WindFarmDispatcher", name := "releaseAll", desc := "()I" } : Jvm.MethodName)) ∈ lw_all := lw_g (lw_at lw_m4 116 rfl) rfl
theorem q912 : (Jvm.Cond.selects "WindFarmDispatcher" ({ cls := "WindFarmDispatcher", name := "releaseAll", desc := "()I" } : Jvm.MethodName) ({ cls := "WindFarmDispatcher", name := "releaseAll", desc := "()I" } : Jvm.MethodName)) ∈ lw_all := lw_g (lw_at lw_m4 117 rfl) rfl
theorem q913 : (Jvm.Cond.code ({ cls := "WindFarmDispatcher", name := "releaseAll", desc := "()I" } : Jvm.MethodName) prog_1_method_61_code (1 : Nat) (Option.some Jvm.ClassFile.FieldType.int)) ∈ lw_all := lw_g (lw_at lw_m4 118 rfl) rfl
theorem q915 : (Jvm.Cond.instanceMethod ({ cls := "WindFarmDispatcher", name := "time", desc := "()I" } : Jvm.MethodName)) ∈ lw_all := lw_g (lw_at lw_m4 120 rfl) rfl
theorem q916 : (Jvm.Cond.selects "WindFarmDispatcher" ({ cls := "WindFarmDispatcher", name := "time", desc := "()I" } : Jvm.MethodName) ({ cls := "WindFarmDispatcher", name := "time", desc := "()I" } : Jvm.MethodName)) ∈ lw_all := lw_g (lw_at lw_m4 121 rfl) rfl
theorem q917 : (Jvm.Cond.code ({ cls := "WindFarmDispatcher", name := "time", desc := "()I" } : Jvm.MethodName) prog_1_method_69_code (1 : Nat) (Option.some Jvm.ClassFile.FieldType.int)) ∈ lw_all := lw_g (lw_at lw_m4 122 rfl) rfl
theorem q919 : (Jvm.Cond.instanceMethod ({ cls := "WindFarmDispatcher", name := "energyMade", desc := "()J" } : Jvm.MethodName)) ∈ lw_all := lw_g (lw_at lw_m4 124 rfl) rfl
theorem q920 : (Jvm.Cond.selects "WindFarmDispatcher" ({ cls := "WindFarmDispatcher", name := "energyMade", desc := "()J" } : Jvm.MethodName) ({ cls := "WindFarmDispatcher", name := "energyMade", desc := "()J" } : Jvm.MethodName)) ∈ lw_all := lw_g (lw_at lw_m4 125 rfl) rfl
theorem q921 : (Jvm.Cond.code ({ cls := "WindFarmDispatcher", name := "energyMade", desc := "()J" } : Jvm.MethodName) prog_1_method_72_code (1 : Nat) (Option.some Jvm.ClassFile.FieldType.long)) ∈ lw_all := lw_g (lw_at lw_m4 126 rfl) rfl
theorem q923 : (Jvm.Cond.instanceMethod ({ cls := "WindFarmDispatcher", name := "energyLost", desc := "()J" } : Jvm.MethodName)) ∈ lw_all := lw_g (lw_at lw_m4 128 rfl) rfl
theorem q924 : (Jvm.Cond.selects "WindFarmDispatcher" ({ cls := "WindFarmDispatcher", name := "energyLost", desc := "()J" } : Jvm.MethodName) ({ cls := "WindFarmDispatcher", name := "energyLost", desc := "()J" } : Jvm.MethodName)) ∈ lw_all := lw_g (lw_at lw_m4 129 rfl) rfl
theorem q925 : (Jvm.Cond.code ({ cls := "WindFarmDispatcher", name := "energyLost", desc := "()J" } : Jvm.MethodName) prog_1_method_73_code (1 : Nat) (Option.some Jvm.ClassFile.FieldType.long)) ∈ lw_all := lw_g (lw_at lw_m4 130 rfl) rfl
theorem q927 : (Jvm.Cond.instanceMethod ({ cls := "WindFarmDispatcher", name := "energySold", desc := "()J" } : Jvm.MethodName)) ∈ lw_all := lw_g (lw_at lw_m4 132 rfl) rfl
theorem q928 : (Jvm.Cond.selects "WindFarmDispatcher" ({ cls := "WindFarmDispatcher", name := "energySold", desc := "()J" } : Jvm.MethodName) ({ cls := "WindFarmDispatcher", name := "energySold", desc := "()J" } : Jvm.MethodName)) ∈ lw_all := lw_g (lw_at lw_m4 133 rfl) rfl
theorem q929 : (Jvm.Cond.code ({ cls := "WindFarmDispatcher", name := "energySold", desc := "()J" } : Jvm.MethodName) prog_1_method_74_code (1 : Nat) (Option.some Jvm.ClassFile.FieldType.long)) ∈ lw_all := lw_g (lw_at lw_m4 134 rfl) rfl
theorem q931 : (Jvm.Cond.instanceMethod ({ cls := "WindFarmDispatcher", name := "energySpilled", desc := "()J" } : Jvm.MethodName)) ∈ lw_all := lw_g (lw_at lw_m4 136 rfl) rfl
theorem q932 : (Jvm.Cond.selects "WindFarmDispatcher" ({ cls := "WindFarmDispatcher", name := "energySpilled", desc := "()J" } : Jvm.MethodName) ({ cls := "WindFarmDispatcher", name := "energySpilled", desc := "()J" } : Jvm.MethodName)) ∈ lw_all := lw_g (lw_at lw_m4 137 rfl) rfl
theorem q933 : (Jvm.Cond.code ({ cls := "WindFarmDispatcher", name := "energySpilled", desc := "()J" } : Jvm.MethodName) prog_1_method_75_code (1 : Nat) (Option.some Jvm.ClassFile.FieldType.long)) ∈ lw_all := lw_g (lw_at lw_m4 138 rfl) rfl
theorem q935 : (Jvm.Cond.instanceMethod ({ cls := "WindFarmDispatcher", name := "coins", desc := "()J" } : Jvm.MethodName)) ∈ lw_all := lw_g (lw_at lw_m4 140 rfl) rfl
theorem q936 : (Jvm.Cond.selects "WindFarmDispatcher" ({ cls := "WindFarmDispatcher", name := "coins", desc := "()J" } : Jvm.MethodName) ({ cls := "WindFarmDispatcher", name := "coins", desc := "()J" } : Jvm.MethodName)) ∈ lw_all := lw_g (lw_at lw_m4 141 rfl) rfl
theorem q937 : (Jvm.Cond.code ({ cls := "WindFarmDispatcher", name := "coins", desc := "()J" } : Jvm.MethodName) prog_1_method_76_code (1 : Nat) (Option.some Jvm.ClassFile.FieldType.long)) ∈ lw_all := lw_g (lw_at lw_m4 142 rfl) rfl
theorem q939 : (Jvm.Cond.instanceMethod ({ cls := "WindFarmDispatcher", name := "isConsistent", desc := "()Z" } : Jvm.MethodName)) ∈ lw_all := lw_g (lw_at lw_m4 144 rfl) rfl
theorem q940 : (Jvm.Cond.selects "WindFarmDispatcher" ({ cls := "WindFarmDispatcher", name := "isConsistent", desc := "()Z" } : Jvm.MethodName) ({ cls := "WindFarmDispatcher", name := "isConsistent", desc := "()Z" } : Jvm.MethodName)) ∈ lw_all := lw_g (lw_at lw_m4 145 rfl) rfl
theorem q941 : (Jvm.Cond.code ({ cls := "WindFarmDispatcher", name := "isConsistent", desc := "()Z" } : Jvm.MethodName) prog_1_method_80_code (1 : Nat) (Option.some Jvm.ClassFile.FieldType.boolean)) ∈ lw_all := lw_g (lw_at lw_m4 146 rfl) rfl
theorem q942 : (Jvm.Cond.methodLink "WindFarmDispatcher" (323 : Nat) ({ cls := "WindFarmDispatcher$Farm", name := "isConsistent", desc := "()Z" } : Jvm.MethodName)) ∈ lw_all := lw_g (lw_at lw_m4 147 rfl) rfl
theorem q948 : (Jvm.Cond.instanceMethod ({ cls := "WindFarmDispatcher", name := "saveSnapshot", desc := "()I" } : Jvm.MethodName)) ∈ lw_all := lw_g (lw_at lw_m4 153 rfl) rfl
theorem q949 : (Jvm.Cond.selects "WindFarmDispatcher" ({ cls := "WindFarmDispatcher", name := "saveSnapshot", desc := "()I" } : Jvm.MethodName) ({ cls := "WindFarmDispatcher", name := "saveSnapshot", desc := "()I" } : Jvm.MethodName)) ∈ lw_all := lw_g (lw_at lw_m4 154 rfl) rfl
theorem q950 : (Jvm.Cond.code ({ cls := "WindFarmDispatcher", name := "saveSnapshot", desc := "()I" } : Jvm.MethodName) prog_1_method_90_code (1 : Nat) (Option.some Jvm.ClassFile.FieldType.int)) ∈ lw_all := lw_g (lw_at lw_m4 155 rfl) rfl
theorem q989 : (Jvm.Cond.instanceMethod ({ cls := "WindFarmDispatcher", name := "addTurbine", desc := "(III)I" } : Jvm.MethodName)) ∈ lw_all := lw_g (lw_at lw_m4 194 rfl) rfl
theorem q990 : (Jvm.Cond.selects "WindFarmDispatcher" ({ cls := "WindFarmDispatcher", name := "addTurbine", desc := "(III)I" } : Jvm.MethodName) ({ cls := "WindFarmDispatcher", name := "addTurbine", desc := "(III)I" } : Jvm.MethodName)) ∈ lw_all := lw_g (lw_at lw_m4 195 rfl) rfl
theorem q991 : (Jvm.Cond.code ({ cls := "WindFarmDispatcher", name := "addTurbine", desc := "(III)I" } : Jvm.MethodName) prog_1_method_30_code (4 : Nat) (Option.some Jvm.ClassFile.FieldType.int)) ∈ lw_all := lw_g (lw_at lw_m4 196 rfl) rfl
theorem q992 : (Jvm.Cond.methodLink "WindFarmDispatcher" (150 : Nat) ({ cls := "WindFarmDispatcher", name := "isCell", desc := "(II)Z" } : Jvm.MethodName)) ∈ lw_all := lw_g (lw_at lw_m4 197 rfl) rfl
theorem q993 : (Jvm.Cond.methodLink "WindFarmDispatcher" (127 : Nat) ({ cls := "WindFarmDispatcher", name := "requireIndex", desc := "(Z)V" } : Jvm.MethodName)) ∈ lw_all := lw_g (lw_at lw_m4 198 rfl) rfl
theorem q994 : (Jvm.Cond.static ({ cls := "WindFarmDispatcher", name := "requireIndex", desc := "(Z)V" } : Jvm.MethodName)) ∈ lw_all := lw_g (lw_at lw_m4 199 rfl) rfl
theorem q995 : (Jvm.Cond.code ({ cls := "WindFarmDispatcher", name := "requireIndex", desc := "(Z)V" } : Jvm.MethodName) prog_1_method_12_code (1 : Nat) (Option.none : Option Jvm.ClassFile.FieldType)) ∈ lw_all := lw_g (lw_at lw_m4 200 rfl) rfl
theorem q996 : (Jvm.Cond.classLink "WindFarmDispatcher" (7 : Nat) "java/lang/IndexOutOfBoundsException") ∈ lw_all := lw_g (lw_at lw_m4 201 rfl) rfl
theorem q1005 : (Jvm.Cond.methodLink "WindFarmDispatcher" (9 : Nat) ({ cls := "java/lang/IndexOutOfBoundsException", name := "<init>", desc := "()V" } : Jvm.MethodName)) ∈ lw_all := lw_g (lw_at lw_m4 210 rfl) rfl
theorem q1011 : (Jvm.Cond.methodLink "WindFarmDispatcher" (154 : Nat) ({ cls := "WindFarmDispatcher", name := "isRated", desc := "(I)Z" } : Jvm.MethodName)) ∈ lw_all := lw_g (lw_at lw_m4 216 rfl) rfl
theorem q1012 : (Jvm.Cond.static ({ cls := "WindFarmDispatcher", name := "isRated", desc := "(I)Z" } : Jvm.MethodName)) ∈ lw_all := lw_g (lw_at lw_m4 217 rfl) rfl
theorem q1013 : (Jvm.Cond.code ({ cls := "WindFarmDispatcher", name := "isRated", desc := "(I)Z" } : Jvm.MethodName) prog_1_method_3_code (1 : Nat) (Option.some Jvm.ClassFile.FieldType.boolean)) ∈ lw_all := lw_g (lw_at lw_m4 218 rfl) rfl
theorem q1014 : (Jvm.Cond.methodLink "WindFarmDispatcher" (157 : Nat) ({ cls := "WindFarmDispatcher", name := "requireArgument", desc := "(Z)V" } : Jvm.MethodName)) ∈ lw_all := lw_g (lw_at lw_m4 219 rfl) rfl
theorem q1015 : (Jvm.Cond.static ({ cls := "WindFarmDispatcher", name := "requireArgument", desc := "(Z)V" } : Jvm.MethodName)) ∈ lw_all := lw_g (lw_at lw_m4 220 rfl) rfl
theorem q1016 : (Jvm.Cond.code ({ cls := "WindFarmDispatcher", name := "requireArgument", desc := "(Z)V" } : Jvm.MethodName) prog_1_method_13_code (1 : Nat) (Option.none : Option Jvm.ClassFile.FieldType)) ∈ lw_all := lw_g (lw_at lw_m4 221 rfl) rfl
theorem q1017 : (Jvm.Cond.classLink "WindFarmDispatcher" (13 : Nat) "java/lang/IllegalArgumentException") ∈ lw_all := lw_g (lw_at lw_m4 222 rfl) rfl
theorem q1026 : (Jvm.Cond.methodLink "WindFarmDispatcher" (15 : Nat) ({ cls := "java/lang/IllegalArgumentException", name := "<init>", desc := "()V" } : Jvm.MethodName)) ∈ lw_all := lw_g (lw_at lw_m4 231 rfl) rfl
theorem q1032 : (Jvm.Cond.methodLink "WindFarmDispatcher" (160 : Nat) ({ cls := "WindFarmDispatcher$Command", name := "<init>", desc := "(CIII)V" } : Jvm.MethodName)) ∈ lw_all := lw_g (lw_at lw_m4 237 rfl) rfl
theorem q1039 : (Jvm.Cond.instanceMethod ({ cls := "WindFarmDispatcher", name := "fail", desc := "(I)I" } : Jvm.MethodName)) ∈ lw_all := lw_g (lw_at lw_m5 4 rfl) rfl
theorem q1040 : (Jvm.Cond.selects "WindFarmDispatcher" ({ cls := "WindFarmDispatcher", name := "fail", desc := "(I)I" } : Jvm.MethodName) ({ cls := "WindFarmDispatcher", name := "fail", desc := "(I)I" } : Jvm.MethodName)) ∈ lw_all := lw_g (lw_at lw_m5 5 rfl) rfl
theorem q1041 : (Jvm.Cond.code ({ cls := "WindFarmDispatcher", name := "fail", desc := "(I)I" } : Jvm.MethodName) prog_1_method_31_code (2 : Nat) (Option.some Jvm.ClassFile.FieldType.int)) ∈ lw_all := lw_g (lw_at lw_m5 6 rfl) rfl
theorem q1042 : (Jvm.Cond.methodLink "WindFarmDispatcher" (167 : Nat) ({ cls := "WindFarmDispatcher", name := "checkTurbine", desc := "(I)V" } : Jvm.MethodName)) ∈ lw_all := lw_g (lw_at lw_m5 7 rfl) rfl
theorem q1043 : (Jvm.Cond.privateMethod ({ cls := "WindFarmDispatcher", name := "checkTurbine", desc := "(I)V" } : Jvm.MethodName)) ∈ lw_tbl := lw_at lw_m5 8 rfl
theorem q1044 : (Jvm.Cond.instanceMethod ({ cls := "WindFarmDispatcher", name := "checkTurbine", desc := "(I)V" } : Jvm.MethodName)) ∈ lw_all := lw_g (lw_at lw_m5 9 rfl) rfl
theorem q1045 : (Jvm.Cond.code ({ cls := "WindFarmDispatcher", name := "checkTurbine", desc := "(I)V" } : Jvm.MethodName) prog_1_method_25_code (2 : Nat) (Option.none : Option Jvm.ClassFile.FieldType)) ∈ lw_all := lw_g (lw_at lw_m5 10 rfl) rfl
theorem q1046 : (Jvm.Cond.methodLink "WindFarmDispatcher" (124 : Nat) ({ cls := "WindFarmDispatcher$Farm", name := "has", desc := "(I)Z" } : Jvm.MethodName)) ∈ lw_all := lw_g (lw_at lw_m5 11 rfl) rfl
theorem q1055 : (Jvm.Cond.instanceMethod ({ cls := "WindFarmDispatcher", name := "sendCrew", desc := "(II)I" } : Jvm.MethodName)) ∈ lw_all := lw_g (lw_at lw_m5 20 rfl) rfl
theorem q1056 : (Jvm.Cond.selects "WindFarmDispatcher" ({ cls := "WindFarmDispatcher", name := "sendCrew", desc := "(II)I" } : Jvm.MethodName) ({ cls := "WindFarmDispatcher", name := "sendCrew", desc := "(II)I" } : Jvm.MethodName)) ∈ lw_all := lw_g (lw_at lw_m5 21 rfl) rfl
theorem q1057 : (Jvm.Cond.code ({ cls := "WindFarmDispatcher", name := "sendCrew", desc := "(II)I" } : Jvm.MethodName) prog_1_method_32_code (3 : Nat) (Option.some Jvm.ClassFile.FieldType.int)) ∈ lw_all := lw_g (lw_at lw_m5 22 rfl) rfl
theorem q1058 : (Jvm.Cond.methodLink "WindFarmDispatcher" (174 : Nat) ({ cls := "WindFarmDispatcher", name := "isService", desc := "(I)Z" } : Jvm.MethodName)) ∈ lw_all := lw_g (lw_at lw_m5 23 rfl) rfl
theorem q1059 : (Jvm.Cond.static ({ cls := "WindFarmDispatcher", name := "isService", desc := "(I)Z" } : Jvm.MethodName)) ∈ lw_all := lw_g (lw_at lw_m5 24 rfl) rfl
theorem q1060 : (Jvm.Cond.code ({ cls := "WindFarmDispatcher", name := "isService", desc := "(I)Z" } : Jvm.MethodName) prog_1_method_4_code (1 : Nat) (Option.some Jvm.ClassFile.FieldType.boolean)) ∈ lw_all := lw_g (lw_at lw_m5 25 rfl) rfl
theorem q1065 : (Jvm.Cond.instanceMethod ({ cls := "WindFarmDispatcher", name := "recallCrew", desc := "(I)I" } : Jvm.MethodName)) ∈ lw_all := lw_g (lw_at lw_m5 30 rfl) rfl
theorem q1066 : (Jvm.Cond.selects "WindFarmDispatcher" ({ cls := "WindFarmDispatcher", name := "recallCrew", desc := "(I)I" } : Jvm.MethodName) ({ cls := "WindFarmDispatcher", name := "recallCrew", desc := "(I)I" } : Jvm.MethodName)) ∈ lw_all := lw_g (lw_at lw_m5 31 rfl) rfl
theorem q1067 : (Jvm.Cond.code ({ cls := "WindFarmDispatcher", name := "recallCrew", desc := "(I)I" } : Jvm.MethodName) prog_1_method_33_code (2 : Nat) (Option.some Jvm.ClassFile.FieldType.int)) ∈ lw_all := lw_g (lw_at lw_m5 32 rfl) rfl
theorem q1072 : (Jvm.Cond.instanceMethod ({ cls := "WindFarmDispatcher", name := "curtail", desc := "(II)I" } : Jvm.MethodName)) ∈ lw_all := lw_g (lw_at lw_m5 37 rfl) rfl
theorem q1073 : (Jvm.Cond.selects "WindFarmDispatcher" ({ cls := "WindFarmDispatcher", name := "curtail", desc := "(II)I" } : Jvm.MethodName) ({ cls := "WindFarmDispatcher", name := "curtail", desc := "(II)I" } : Jvm.MethodName)) ∈ lw_all := lw_g (lw_at lw_m5 38 rfl) rfl
theorem q1074 : (Jvm.Cond.code ({ cls := "WindFarmDispatcher", name := "curtail", desc := "(II)I" } : Jvm.MethodName) prog_1_method_34_code (3 : Nat) (Option.some Jvm.ClassFile.FieldType.int)) ∈ lw_all := lw_g (lw_at lw_m5 39 rfl) rfl
theorem q1075 : (Jvm.Cond.methodLink "WindFarmDispatcher" (177 : Nat) ({ cls := "WindFarmDispatcher", name := "isLimit", desc := "(I)Z" } : Jvm.MethodName)) ∈ lw_all := lw_g (lw_at lw_m5 40 rfl) rfl
theorem q1076 : (Jvm.Cond.static ({ cls := "WindFarmDispatcher", name := "isLimit", desc := "(I)Z" } : Jvm.MethodName)) ∈ lw_all := lw_g (lw_at lw_m5 41 rfl) rfl
theorem q1077 : (Jvm.Cond.code ({ cls := "WindFarmDispatcher", name := "isLimit", desc := "(I)Z" } : Jvm.MethodName) prog_1_method_5_code (1 : Nat) (Option.some Jvm.ClassFile.FieldType.boolean)) ∈ lw_all := lw_g (lw_at lw_m5 42 rfl) rfl
theorem q1082 : (Jvm.Cond.instanceMethod ({ cls := "WindFarmDispatcher", name := "release", desc := "(I)I" } : Jvm.MethodName)) ∈ lw_all := lw_g (lw_at lw_m5 47 rfl) rfl
theorem q1083 : (Jvm.Cond.selects "WindFarmDispatcher" ({ cls := "WindFarmDispatcher", name := "release", desc := "(I)I" } : Jvm.MethodName) ({ cls := "WindFarmDispatcher", name := "release", desc := "(I)I" } : Jvm.MethodName)) ∈ lw_all := lw_g (lw_at lw_m5 48 rfl) rfl
theorem q1084 : (Jvm.Cond.code ({ cls := "WindFarmDispatcher", name := "release", desc := "(I)I" } : Jvm.MethodName) prog_1_method_35_code (2 : Nat) (Option.some Jvm.ClassFile.FieldType.int)) ∈ lw_all := lw_g (lw_at lw_m5 49 rfl) rfl
theorem q1090 : (Jvm.Cond.instanceMethod ({ cls := "WindFarmDispatcher", name := "turbineAt", desc := "(II)I" } : Jvm.MethodName)) ∈ lw_all := lw_g (lw_at lw_m5 55 rfl) rfl
theorem q1091 : (Jvm.Cond.selects "WindFarmDispatcher" ({ cls := "WindFarmDispatcher", name := "turbineAt", desc := "(II)I" } : Jvm.MethodName) ({ cls := "WindFarmDispatcher", name := "turbineAt", desc := "(II)I" } : Jvm.MethodName)) ∈ lw_all := lw_g (lw_at lw_m5 56 rfl) rfl
theorem q1092 : (Jvm.Cond.code ({ cls := "WindFarmDispatcher", name := "turbineAt", desc := "(II)I" } : Jvm.MethodName) prog_1_method_37_code (4 : Nat) (Option.some Jvm.ClassFile.FieldType.int)) ∈ lw_all := lw_g (lw_at lw_m5 57 rfl) rfl
theorem q1093 : (Jvm.Cond.methodLink "WindFarmDispatcher" (136 : Nat) ({ cls := "WindFarmDispatcher", name := "requireElement", desc := "(Z)V" } : Jvm.MethodName)) ∈ lw_all := lw_g (lw_at lw_m5 58 rfl) rfl
theorem q1094 : (Jvm.Cond.static ({ cls := "WindFarmDispatcher", name := "requireElement", desc := "(Z)V" } : Jvm.MethodName)) ∈ lw_all := lw_g (lw_at lw_m5 59 rfl) rfl
theorem q1095 : (Jvm.Cond.code ({ cls := "WindFarmDispatcher", name := "requireElement", desc := "(Z)V" } : Jvm.MethodName) prog_1_method_15_code (1 : Nat) (Option.none : Option Jvm.ClassFile.FieldType)) ∈ lw_all := lw_g (lw_at lw_m5 60 rfl) rfl
theorem q1096 : (Jvm.Cond.classLink "WindFarmDispatcher" (19 : Nat) "java/util/NoSuchElementException") ∈ lw_all := lw_g (lw_at lw_m5 61 rfl) rfl
theorem q1105 : (Jvm.Cond.methodLink "WindFarmDispatcher" (21 : Nat) ({ cls := "java/util/NoSuchElementException", name := "<init>", desc := "()V" } : Jvm.MethodName)) ∈ lw_all := lw_g (lw_at lw_m5 70 rfl) rfl
theorem q1115 : (Jvm.Cond.instanceMethod ({ cls := "WindFarmDispatcher", name := "rowOf", desc := "(I)I" } : Jvm.MethodName)) ∈ lw_all := lw_g (lw_at lw_m5 80 rfl) rfl
theorem q1116 : (Jvm.Cond.selects "WindFarmDispatcher" ({ cls := "WindFarmDispatcher", name := "rowOf", desc := "(I)I" } : Jvm.MethodName) ({ cls := "WindFarmDispatcher", name := "rowOf", desc := "(I)I" } : Jvm.MethodName)) ∈ lw_all := lw_g (lw_at lw_m5 81 rfl) rfl
theorem q1117 : (Jvm.Cond.code ({ cls := "WindFarmDispatcher", name := "rowOf", desc := "(I)I" } : Jvm.MethodName) prog_1_method_38_code (2 : Nat) (Option.some Jvm.ClassFile.FieldType.int)) ∈ lw_all := lw_g (lw_at lw_m5 82 rfl) rfl
theorem q1118 : (Jvm.Cond.methodLink "WindFarmDispatcher" (187 : Nat) ({ cls := "WindFarmDispatcher", name := "requireTurbine", desc := "(I)LWindFarmDispatcher$Turbine;" } : Jvm.MethodName)) ∈ lw_all := lw_g (lw_at lw_m5 83 rfl) rfl
theorem q1119 : (Jvm.Cond.privateMethod ({ cls := "WindFarmDispatcher", name := "requireTurbine", desc := "(I)LWindFarmDispatcher$Turbine;" } : Jvm.MethodName)) ∈ lw_tbl := lw_at lw_m5 84 rfl
theorem q1120 : (Jvm.Cond.instanceMethod ({ cls := "WindFarmDispatcher", name := "requireTurbine", desc := "(I)LWindFarmDispatcher$Turbine;" } : Jvm.MethodName)) ∈ lw_all := lw_g (lw_at lw_m5 85 rfl) rfl
theorem q1121 : (Jvm.Cond.code ({ cls := "WindFarmDispatcher", name := "requireTurbine", desc := "(I)LWindFarmDispatcher$Turbine;" } : Jvm.MethodName) prog_1_method_26_code (2 : Nat) (Option.some (Jvm.ClassFile.FieldType.object "WindFarmDispatcher$Turbine"))) ∈ lw_all := lw_g (lw_at lw_m5 86 rfl) rfl
theorem q1122 : (Jvm.Cond.methodLink "WindFarmDispatcher" (54 : Nat) ({ cls := "java/util/ArrayList", name := "get", desc := "(I)Ljava/lang/Object;" } : Jvm.MethodName)) ∈ lw_all := lw_g (lw_at lw_m5 87 rfl) rfl
theorem q1123 : (Jvm.Cond.classLink "WindFarmDispatcher" (134 : Nat) "WindFarmDispatcher$Turbine") ∈ lw_all := lw_g (lw_at lw_m5 88 rfl) rfl
theorem q1128 : (Jvm.Cond.instanceMethod ({ cls := "WindFarmDispatcher", name := "columnOf", desc := "(I)I" } : Jvm.MethodName)) ∈ lw_all := lw_g (lw_at lw_m5 93 rfl) rfl
theorem q1129 : (Jvm.Cond.selects "WindFarmDispatcher" ({ cls := "WindFarmDispatcher", name := "columnOf", desc := "(I)I" } : Jvm.MethodName) ({ cls := "WindFarmDispatcher", name := "columnOf", desc := "(I)I" } : Jvm.MethodName)) ∈ lw_all := lw_g (lw_at lw_m5 94 rfl) rfl
theorem q1130 : (Jvm.Cond.code ({ cls := "WindFarmDispatcher", name := "columnOf", desc := "(I)I" } : Jvm.MethodName) prog_1_method_39_code (2 : Nat) (Option.some Jvm.ClassFile.FieldType.int)) ∈ lw_all := lw_g (lw_at lw_m5 95 rfl) rfl
theorem q1135 : (Jvm.Cond.instanceMethod ({ cls := "WindFarmDispatcher", name := "ratedPower", desc := "(I)I" } : Jvm.MethodName)) ∈ lw_all := lw_g (lw_at lw_m5 100 rfl) rfl
theorem q1136 : (Jvm.Cond.selects "WindFarmDispatcher" ({ cls := "WindFarmDispatcher", name := "ratedPower", desc := "(I)I" } : Jvm.MethodName) ({ cls := "WindFarmDispatcher", name := "ratedPower", desc := "(I)I" } : Jvm.MethodName)) ∈ lw_all := lw_g (lw_at lw_m5 101 rfl) rfl
theorem q1137 : (Jvm.Cond.code ({ cls := "WindFarmDispatcher", name := "ratedPower", desc := "(I)I" } : Jvm.MethodName) prog_1_method_40_code (2 : Nat) (Option.some Jvm.ClassFile.FieldType.int)) ∈ lw_all := lw_g (lw_at lw_m5 102 rfl) rfl
theorem q1142 : (Jvm.Cond.instanceMethod ({ cls := "WindFarmDispatcher", name := "isRunning", desc := "(I)Z" } : Jvm.MethodName)) ∈ lw_all := lw_g (lw_at lw_m5 107 rfl) rfl
theorem q1143 : (Jvm.Cond.selects "WindFarmDispatcher" ({ cls := "WindFarmDispatcher", name := "isRunning", desc := "(I)Z" } : Jvm.MethodName) ({ cls := "WindFarmDispatcher", name := "isRunning", desc := "(I)Z" } : Jvm.MethodName)) ∈ lw_all := lw_g (lw_at lw_m5 108 rfl) rfl
theorem q1144 : (Jvm.Cond.code ({ cls := "WindFarmDispatcher", name := "isRunning", desc := "(I)Z" } : Jvm.MethodName) prog_1_method_41_code (2 : Nat) (Option.some Jvm.ClassFile.FieldType.boolean)) ∈ lw_all := lw_g (lw_at lw_m5 109 rfl) rfl
theorem q1145 : (Jvm.Cond.methodLink "WindFarmDispatcher" (200 : Nat) ({ cls := "WindFarmDispatcher$Turbine", name := "isRunning", desc := "()Z" } : Jvm.MethodName)) ∈ lw_all := lw_g (lw_at lw_m5 110 rfl) rfl
theorem q1150 : (Jvm.Cond.instanceMethod ({ cls := "WindFarmDispatcher", name := "isFailed", desc := "(I)Z" } : Jvm.MethodName)) ∈ lw_all := lw_g (lw_at lw_m5 115 rfl) rfl
theorem q1151 : (Jvm.Cond.selects "WindFarmDispatcher" ({ cls := "WindFarmDispatcher", name := "isFailed", desc := "(I)Z" } : Jvm.MethodName) ({ cls := "WindFarmDispatcher", name := "isFailed", desc := "(I)Z" } : Jvm.MethodName)) ∈ lw_all := lw_g (lw_at lw_m5 116 rfl) rfl
theorem q1152 : (Jvm.Cond.code ({ cls := "WindFarmDispatcher", name := "isFailed", desc := "(I)Z" } : Jvm.MethodName) prog_1_method_42_code (2 : Nat) (Option.some Jvm.ClassFile.FieldType.boolean)) ∈ lw_all := lw_g (lw_at lw_m5 117 rfl) rfl
theorem q1153 : (Jvm.Cond.methodLink "WindFarmDispatcher" (204 : Nat) ({ cls := "WindFarmDispatcher$Turbine", name := "isFailed", desc := "()Z" } : Jvm.MethodName)) ∈ lw_all := lw_g (lw_at lw_m5 118 rfl) rfl
theorem q1158 : (Jvm.Cond.instanceMethod ({ cls := "WindFarmDispatcher", name := "isInService", desc := "(I)Z" } : Jvm.MethodName)) ∈ lw_all := lw_g (lw_at lw_m5 123 rfl) rfl
theorem q1159 : (Jvm.Cond.selects "WindFarmDispatcher" ({ cls := "WindFarmDispatcher", name := "isInService", desc := "(I)Z" } : Jvm.MethodName) ({ cls := "WindFarmDispatcher", name := "isInService", desc := "(I)Z" } : Jvm.MethodName)) ∈ lw_all := lw_g (lw_at lw_m5 124 rfl) rfl
theorem q1160 : (Jvm.Cond.code ({ cls := "WindFarmDispatcher", name := "isInService", desc := "(I)Z" } : Jvm.MethodName) prog_1_method_43_code (2 : Nat) (Option.some Jvm.ClassFile.FieldType.boolean)) ∈ lw_all := lw_g (lw_at lw_m5 125 rfl) rfl
theorem q1161 : (Jvm.Cond.methodLink "WindFarmDispatcher" (207 : Nat) ({ cls := "WindFarmDispatcher$Turbine", name := "serviceHours", desc := "()I" } : Jvm.MethodName)) ∈ lw_all := lw_g (lw_at lw_m5 126 rfl) rfl
theorem q1166 : (Jvm.Cond.instanceMethod ({ cls := "WindFarmDispatcher", name := "limitOf", desc := "(I)I" } : Jvm.MethodName)) ∈ lw_all := lw_g (lw_at lw_m5 131 rfl) rfl
theorem q1167 : (Jvm.Cond.selects "WindFarmDispatcher" ({ cls := "WindFarmDispatcher", name := "limitOf", desc := "(I)I" } : Jvm.MethodName) ({ cls := "WindFarmDispatcher", name := "limitOf", desc := "(I)I" } : Jvm.MethodName)) ∈ lw_all := lw_g (lw_at lw_m5 132 rfl) rfl
theorem q1168 : (Jvm.Cond.code ({ cls := "WindFarmDispatcher", name := "limitOf", desc := "(I)I" } : Jvm.MethodName) prog_1_method_44_code (2 : Nat) (Option.some Jvm.ClassFile.FieldType.int)) ∈ lw_all := lw_g (lw_at lw_m5 133 rfl) rfl
theorem q1169 : (Jvm.Cond.methodLink "WindFarmDispatcher" (210 : Nat) ({ cls := "WindFarmDispatcher$Turbine", name := "limit", desc := "()I" } : Jvm.MethodName)) ∈ lw_all := lw_g (lw_at lw_m5 134 rfl) rfl
theorem q1170 : (Jvm.Cond.methodLink "WindFarmDispatcher" (213 : Nat) ({ cls := "WindFarmDispatcher", name := "requireFound", desc := "(I)I" } : Jvm.MethodName)) ∈ lw_all := lw_g (lw_at lw_m5 135 rfl) rfl
theorem q1171 : (Jvm.Cond.static ({ cls := "WindFarmDispatcher", name := "requireFound", desc := "(I)I" } : Jvm.MethodName)) ∈ lw_all := lw_g (lw_at lw_m5 136 rfl) rfl
theorem q1172 : (Jvm.Cond.code ({ cls := "WindFarmDispatcher", name := "requireFound", desc := "(I)I" } : Jvm.MethodName) prog_1_method_27_code (1 : Nat) (Option.some Jvm.ClassFile.FieldType.int)) ∈ lw_all := lw_g (lw_at lw_m5 137 rfl) rfl
theorem q1177 : (Jvm.Cond.instanceMethod ({ cls := "WindFarmDispatcher", name := "serviceHoursLeft", desc := "(I)I" } : Jvm.MethodName)) ∈ lw_all := lw_g (lw_at lw_m5 142 rfl) rfl
theorem q1178 : (Jvm.Cond.selects "WindFarmDispatcher" ({ cls := "WindFarmDispatcher", name := "serviceHoursLeft", desc := "(I)I" } : Jvm.MethodName) ({ cls := "WindFarmDispatcher", name := "serviceHoursLeft", desc := "(I)I" } : Jvm.MethodName)) ∈ lw_all := lw_g (lw_at lw_m5 143 rfl) rfl
theorem q1179 : (Jvm.Cond.code ({ cls := "WindFarmDispatcher", name := "serviceHoursLeft", desc := "(I)I" } : Jvm.MethodName) prog_1_method_45_code (3 : Nat) (Option.some Jvm.ClassFile.FieldType.int)) ∈ lw_all := lw_g (lw_at lw_m5 144 rfl) rfl
theorem q1184 : (Jvm.Cond.instanceMethod ({ cls := "WindFarmDispatcher", name := "setWind", desc := "(CI)I" } : Jvm.MethodName)) ∈ lw_all := lw_g (lw_at lw_m5 149 rfl) rfl
theorem q1185 : (Jvm.Cond.selects "WindFarmDispatcher" ({ cls := "WindFarmDispatcher", name := "setWind", desc := "(CI)I" } : Jvm.MethodName) ({ cls := "WindFarmDispatcher", name := "setWind", desc := "(CI)I" } : Jvm.MethodName)) ∈ lw_all := lw_g (lw_at lw_m5 150 rfl) rfl
theorem q1186 : (Jvm.Cond.code ({ cls := "WindFarmDispatcher", name := "setWind", desc := "(CI)I" } : Jvm.MethodName) prog_1_method_47_code (3 : Nat) (Option.some Jvm.ClassFile.FieldType.int)) ∈ lw_all := lw_g (lw_at lw_m5 151 rfl) rfl
theorem q1187 : (Jvm.Cond.methodLink "WindFarmDispatcher" (220 : Nat) ({ cls := "WindFarmDispatcher", name := "isWind", desc := "(CI)Z" } : Jvm.MethodName)) ∈ lw_all := lw_g (lw_at lw_m5 152 rfl) rfl
theorem q1188 : (Jvm.Cond.static ({ cls := "WindFarmDispatcher", name := "isWind", desc := "(CI)Z" } : Jvm.MethodName)) ∈ lw_all := lw_g (lw_at lw_m5 153 rfl) rfl
theorem q1189 : (Jvm.Cond.code ({ cls := "WindFarmDispatcher", name := "isWind", desc := "(CI)Z" } : Jvm.MethodName) prog_1_method_19_code (2 : Nat) (Option.some Jvm.ClassFile.FieldType.boolean)) ∈ lw_all := lw_g (lw_at lw_m5 154 rfl) rfl
theorem q1190 : (Jvm.Cond.methodLink "WindFarmDispatcher" (40 : Nat) ({ cls := "WindFarmDispatcher", name := "directionFor", desc := "(C)LWindFarmDispatcher$Direction;" } : Jvm.MethodName)) ∈ lw_all := lw_g (lw_at lw_m5 155 rfl) rfl
theorem q1191 : (Jvm.Cond.methodLink "WindFarmDispatcher" (44 : Nat) ({ cls := "WindFarmDispatcher", name := "isSpeed", desc := "(I)Z" } : Jvm.MethodName)) ∈ lw_all := lw_g (lw_at lw_m5 156 rfl) rfl
theorem q1192 : (Jvm.Cond.static ({ cls := "WindFarmDispatcher", name := "isSpeed", desc := "(I)Z" } : Jvm.MethodName)) ∈ lw_all := lw_g (lw_at lw_m5 157 rfl) rfl
theorem q1193 : (Jvm.Cond.code ({ cls := "WindFarmDispatcher", name := "isSpeed", desc := "(I)Z" } : Jvm.MethodName) prog_1_method_7_code (1 : Nat) (Option.some Jvm.ClassFile.FieldType.boolean)) ∈ lw_all := lw_g (lw_at lw_m5 158 rfl) rfl
theorem q1194 : (Jvm.Cond.methodLink "WindFarmDispatcher" (224 : Nat) ({ cls := "WindFarmDispatcher$Command", name := "<init>", desc := "(CCIII)V" } : Jvm.MethodName)) ∈ lw_all := lw_g (lw_at lw_m5 159 rfl) rfl
theorem q1199 : (Jvm.Cond.instanceMethod ({ cls := "WindFarmDispatcher", name := "wakeLoss", desc := "(I)I" } : Jvm.MethodName)) ∈ lw_all := lw_g (lw_at lw_m5 164 rfl) rfl
theorem q1200 : (Jvm.Cond.selects "WindFarmDispatcher" ({ cls := "WindFarmDispatcher", name := "wakeLoss", desc := "(I)I" } : Jvm.MethodName) ({ cls := "WindFarmDispatcher", name := "wakeLoss", desc := "(I)I" } : Jvm.MethodName)) ∈ lw_all := lw_g (lw_at lw_m5 165 rfl) rfl
theorem q1201 : (Jvm.Cond.code ({ cls := "WindFarmDispatcher", name := "wakeLoss", desc := "(I)I" } : Jvm.MethodName) prog_1_method_51_code (2 : Nat) (Option.some Jvm.ClassFile.FieldType.int)) ∈ lw_all := lw_g (lw_at lw_m5 166 rfl) rfl
theorem q1202 : (Jvm.Cond.methodLink "WindFarmDispatcher" (237 : Nat) ({ cls := "WindFarmDispatcher$Farm", name := "wakeLoss", desc := "(LWindFarmDispatcher$Turbine;)I" } : Jvm.MethodName)) ∈ lw_all := lw_g (lw_at lw_m5 167 rfl) rfl
theorem q1210 : (Jvm.Cond.instanceMethod ({ cls := "WindFarmDispatcher", name := "availablePower", desc := "(I)I" } : Jvm.MethodName)) ∈ lw_all := lw_g (lw_at lw_m5 175 rfl) rfl
theorem q1211 : (Jvm.Cond.selects "WindFarmDispatcher" ({ cls := "WindFarmDispatcher", name := "availablePower", desc := "(I)I" } : Jvm.MethodName) ({ cls := "WindFarmDispatcher", name := "availablePower", desc := "(I)I" } : Jvm.MethodName)) ∈ lw_all := lw_g (lw_at lw_m5 176 rfl) rfl
theorem q1212 : (Jvm.Cond.code ({ cls := "WindFarmDispatcher", name := "availablePower", desc := "(I)I" } : Jvm.MethodName) prog_1_method_52_code (2 : Nat) (Option.some Jvm.ClassFile.FieldType.int)) ∈ lw_all := lw_g (lw_at lw_m5 177 rfl) rfl
theorem q1213 : (Jvm.Cond.methodLink "WindFarmDispatcher" (241 : Nat) ({ cls := "WindFarmDispatcher$Farm", name := "available", desc := "(LWindFarmDispatcher$Turbine;)I" } : Jvm.MethodName)) ∈ lw_all := lw_g (lw_at lw_m5 178 rfl) rfl
theorem q1222 : (Jvm.Cond.instanceMethod ({ cls := "WindFarmDispatcher", name := "outputOf", desc := "(I)I" } : Jvm.MethodName)) ∈ lw_all := lw_g (lw_at lw_m5 187 rfl) rfl
theorem q1223 : (Jvm.Cond.selects "WindFarmDispatcher" ({ cls := "WindFarmDispatcher", name := "outputOf", desc := "(I)I" } : Jvm.MethodName) ({ cls := "WindFarmDispatcher", name := "outputOf", desc := "(I)I" } : Jvm.MethodName)) ∈ lw_all := lw_g (lw_at lw_m5 188 rfl) rfl
theorem q1224 : (Jvm.Cond.code ({ cls := "WindFarmDispatcher", name := "outputOf", desc := "(I)I" } : Jvm.MethodName) prog_1_method_53_code (2 : Nat) (Option.some Jvm.ClassFile.FieldType.int)) ∈ lw_all := lw_g (lw_at lw_m5 189 rfl) rfl
theorem q1225 : (Jvm.Cond.methodLink "WindFarmDispatcher" (244 : Nat) ({ cls := "WindFarmDispatcher$Farm", name := "output", desc := "(LWindFarmDispatcher$Turbine;)I" } : Jvm.MethodName)) ∈ lw_all := lw_g (lw_at lw_m5 190 rfl) rfl
theorem q1230 : (Jvm.Cond.instanceMethod ({ cls := "WindFarmDispatcher", name := "outputWith", desc := "(CI)I" } : Jvm.MethodName)) ∈ lw_all := lw_g (lw_at lw_m5 195 rfl) rfl
theorem q1231 : (Jvm.Cond.selects "WindFarmDispatcher" ({ cls := "WindFarmDispatcher", name := "outputWith", desc := "(CI)I" } : Jvm.MethodName) ({ cls := "WindFarmDispatcher", name := "outputWith", desc := "(CI)I" } : Jvm.MethodName)) ∈ lw_all := lw_g (lw_at lw_m5 196 rfl) rfl
theorem q1232 : (Jvm.Cond.code ({ cls := "WindFarmDispatcher", name := "outputWith", desc := "(CI)I" } : Jvm.MethodName) prog_1_method_56_code (3 : Nat) (Option.some Jvm.ClassFile.FieldType.int)) ∈ lw_all := lw_g (lw_at lw_m5 197 rfl) rfl
theorem q1233 : (Jvm.Cond.methodLink "WindFarmDispatcher" (252 : Nat) ({ cls := "WindFarmDispatcher$Farm", name := "totalWith", desc := "(LWindFarmDispatcher$Direction;I)I" } : Jvm.MethodName)) ∈ lw_all := lw_g (lw_at lw_m5 198 rfl) rfl
theorem q1238 : (Jvm.Cond.instanceMethod ({ cls := "WindFarmDispatcher", name := "setGridLimit", desc := "(I)I" } : Jvm.MethodName)) ∈ lw_all := lw_g (lw_at lw_m5 203 rfl) rfl
theorem q1239 : (Jvm.Cond.selects "WindFarmDispatcher" ({ cls := "WindFarmDispatcher", name := "setGridLimit", desc := "(I)I" } : Jvm.MethodName) ({ cls := "WindFarmDispatcher", name := "setGridLimit", desc := "(I)I" } : Jvm.MethodName)) ∈ lw_all := lw_g (lw_at lw_m5 204 rfl) rfl
theorem q1240 : (Jvm.Cond.code ({ cls := "WindFarmDispatcher", name := "setGridLimit", desc := "(I)I" } : Jvm.MethodName) prog_1_method_58_code (2 : Nat) (Option.some Jvm.ClassFile.FieldType.int)) ∈ lw_all := lw_g (lw_at lw_m5 205 rfl) rfl
theorem q1241 : (Jvm.Cond.methodLink "WindFarmDispatcher" (260 : Nat) ({ cls := "WindFarmDispatcher", name := "isGridLimit", desc := "(I)Z" } : Jvm.MethodName)) ∈ lw_all := lw_g (lw_at lw_m5 206 rfl) rfl
theorem q1242 : (Jvm.Cond.static ({ cls := "WindFarmDispatcher", name := "isGridLimit", desc := "(I)Z" } : Jvm.MethodName)) ∈ lw_all := lw_g (lw_at lw_m5 207 rfl) rfl
theorem q1243 : (Jvm.Cond.code ({ cls := "WindFarmDispatcher", name := "isGridLimit", desc := "(I)Z" } : Jvm.MethodName) prog_1_method_6_code (1 : Nat) (Option.some Jvm.ClassFile.FieldType.boolean)) ∈ lw_all := lw_g (lw_at lw_m5 208 rfl) rfl
theorem q1248 : (Jvm.Cond.instanceMethod ({ cls := "WindFarmDispatcher", name := "placeBid", desc := "(III)I" } : Jvm.MethodName)) ∈ lw_all := lw_g (lw_at lw_m5 213 rfl) rfl
theorem q1249 : (Jvm.Cond.selects "WindFarmDispatcher" ({ cls := "WindFarmDispatcher", name := "placeBid", desc := "(III)I" } : Jvm.MethodName) ({ cls := "WindFarmDispatcher", name := "placeBid", desc := "(III)I" } : Jvm.MethodName)) ∈ lw_all := lw_g (lw_at lw_m5 214 rfl) rfl
theorem q1250 : (Jvm.Cond.code ({ cls := "WindFarmDispatcher", name := "placeBid", desc := "(III)I" } : Jvm.MethodName) prog_1_method_62_code (4 : Nat) (Option.some Jvm.ClassFile.FieldType.int)) ∈ lw_all := lw_g (lw_at lw_m5 215 rfl) rfl
theorem q1251 : (Jvm.Cond.methodLink "WindFarmDispatcher" (139 : Nat) ({ cls := "WindFarmDispatcher", name := "isHour", desc := "(I)Z" } : Jvm.MethodName)) ∈ lw_all := lw_g (lw_at lw_m5 216 rfl) rfl
theorem q1252 : (Jvm.Cond.static ({ cls := "WindFarmDispatcher", name := "isHour", desc := "(I)Z" } : Jvm.MethodName)) ∈ lw_all := lw_g (lw_at lw_m5 217 rfl) rfl
theorem q1253 : (Jvm.Cond.code ({ cls := "WindFarmDispatcher", name := "isHour", desc := "(I)Z" } : Jvm.MethodName) prog_1_method_8_code (1 : Nat) (Option.some Jvm.ClassFile.FieldType.boolean)) ∈ lw_all := lw_g (lw_at lw_m5 218 rfl) rfl
theorem q1254 : (Jvm.Cond.methodLink "WindFarmDispatcher" (266 : Nat) ({ cls := "WindFarmDispatcher", name := "isOffer", desc := "(II)Z" } : Jvm.MethodName)) ∈ lw_all := lw_g (lw_at lw_m5 219 rfl) rfl
theorem q1255 : (Jvm.Cond.static ({ cls := "WindFarmDispatcher", name := "isOffer", desc := "(II)Z" } : Jvm.MethodName)) ∈ lw_all := lw_g (lw_at lw_m5 220 rfl) rfl
theorem q1256 : (Jvm.Cond.code ({ cls := "WindFarmDispatcher", name := "isOffer", desc := "(II)Z" } : Jvm.MethodName) prog_1_method_9_code (2 : Nat) (Option.some Jvm.ClassFile.FieldType.boolean)) ∈ lw_all := lw_g (lw_at lw_m5 221 rfl) rfl
theorem q1261 : (Jvm.Cond.instanceMethod ({ cls := "WindFarmDispatcher", name := "withdrawBid", desc := "(I)I" } : Jvm.MethodName)) ∈ lw_all := lw_g (lw_at lw_m5 226 rfl) rfl
theorem q1262 : (Jvm.Cond.selects "WindFarmDispatcher" ({ cls := "WindFarmDispatcher", name := "withdrawBid", desc := "(I)I" } : Jvm.MethodName) ({ cls := "WindFarmDispatcher", name := "withdrawBid", desc := "(I)I" } : Jvm.MethodName)) ∈ lw_all := lw_g (lw_at lw_m5 227 rfl) rfl
theorem q1263 : (Jvm.Cond.code ({ cls := "WindFarmDispatcher", name := "withdrawBid", desc := "(I)I" } : Jvm.MethodName) prog_1_method_63_code (2 : Nat) (Option.some Jvm.ClassFile.FieldType.int)) ∈ lw_all := lw_g (lw_at lw_m5 228 rfl) rfl
theorem q1268 : (Jvm.Cond.instanceMethod ({ cls := "WindFarmDispatcher", name := "hasBid", desc := "(I)Z" } : Jvm.MethodName)) ∈ lw_all := lw_g (lw_at lw_m5 233 rfl) rfl
theorem q1269 : (Jvm.Cond.selects "WindFarmDispatcher" ({ cls := "WindFarmDispatcher", name := "hasBid", desc := "(I)Z" } : Jvm.MethodName) ({ cls := "WindFarmDispatcher", name := "hasBid", desc := "(I)Z" } : Jvm.MethodName)) ∈ lw_all := lw_g (lw_at lw_m5 234 rfl) rfl
theorem q1270 : (Jvm.Cond.code ({ cls := "WindFarmDispatcher", name := "hasBid", desc := "(I)Z" } : Jvm.MethodName) prog_1_method_64_code (2 : Nat) (Option.some Jvm.ClassFile.FieldType.boolean)) ∈ lw_all := lw_g (lw_at lw_m5 235 rfl) rfl
theorem q1271 : (Jvm.Cond.methodLink "WindFarmDispatcher" (142 : Nat) ({ cls := "WindFarmDispatcher$Farm", name := "hasBid", desc := "(I)Z" } : Jvm.MethodName)) ∈ lw_all := lw_g (lw_at lw_m5 236 rfl) rfl
theorem q1276 : (Jvm.Cond.instanceMethod ({ cls := "WindFarmDispatcher", name := "bidPrice", desc := "(I)I" } : Jvm.MethodName)) ∈ lw_all := lw_g (lw_at lw_m6 1 rfl) rfl
theorem q1277 : (Jvm.Cond.selects "WindFarmDispatcher" ({ cls := "WindFarmDispatcher", name := "bidPrice", desc := "(I)I" } : Jvm.MethodName) ({ cls := "WindFarmDispatcher", name := "bidPrice", desc := "(I)I" } : Jvm.MethodName)) ∈ lw_all := lw_g (lw_at lw_m6 2 rfl) rfl
theorem q1278 : (Jvm.Cond.code ({ cls := "WindFarmDispatcher", name := "bidPrice", desc := "(I)I" } : Jvm.MethodName) prog_1_method_65_code (2 : Nat) (Option.some Jvm.ClassFile.FieldType.int)) ∈ lw_all := lw_g (lw_at lw_m6 3 rfl) rfl
theorem q1279 : (Jvm.Cond.methodLink "WindFarmDispatcher" (269 : Nat) ({ cls := "WindFarmDispatcher", name := "requireBid", desc := "(I)V" } : Jvm.MethodName)) ∈ lw_all := lw_g (lw_at lw_m6 4 rfl) rfl
theorem q1280 : (Jvm.Cond.privateMethod ({ cls := "WindFarmDispatcher", name := "requireBid", desc := "(I)V" } : Jvm.MethodName)) ∈ lw_tbl := lw_at lw_m6 5 rfl
theorem q1281 : (Jvm.Cond.instanceMethod ({ cls := "WindFarmDispatcher", name := "requireBid", desc := "(I)V" } : Jvm.MethodName)) ∈ lw_all := lw_g (lw_at lw_m6 6 rfl) rfl
theorem q1282 : (Jvm.Cond.code ({ cls := "WindFarmDispatcher", name := "requireBid", desc := "(I)V" } : Jvm.MethodName) prog_1_method_28_code (2 : Nat) (Option.none : Option Jvm.ClassFile.FieldType)) ∈ lw_all := lw_g (lw_at lw_m6 7 rfl) rfl
theorem q1287 : (Jvm.Cond.instanceMethod ({ cls := "WindFarmDispatcher", name := "bidQuantity", desc := "(I)I" } : Jvm.MethodName)) ∈ lw_all := lw_g (lw_at lw_m6 12 rfl) rfl
theorem q1288 : (Jvm.Cond.selects "WindFarmDispatcher" ({ cls := "WindFarmDispatcher", name := "bidQuantity", desc := "(I)I" } : Jvm.MethodName) ({ cls := "WindFarmDispatcher", name := "bidQuantity", desc := "(I)I" } : Jvm.MethodName)) ∈ lw_all := lw_g (lw_at lw_m6 13 rfl) rfl
theorem q1289 : (Jvm.Cond.code ({ cls := "WindFarmDispatcher", name := "bidQuantity", desc := "(I)I" } : Jvm.MethodName) prog_1_method_66_code (2 : Nat) (Option.some Jvm.ClassFile.FieldType.int)) ∈ lw_all := lw_g (lw_at lw_m6 14 rfl) rfl
theorem q1294 : (Jvm.Cond.instanceMethod ({ cls := "WindFarmDispatcher", name := "bidByPrice", desc := "(I)I" } : Jvm.MethodName)) ∈ lw_all := lw_g (lw_at lw_m6 19 rfl) rfl
theorem q1295 : (Jvm.Cond.selects "WindFarmDispatcher" ({ cls := "WindFarmDispatcher", name := "bidByPrice", desc := "(I)I" } : Jvm.MethodName) ({ cls := "WindFarmDispatcher", name := "bidByPrice", desc := "(I)I" } : Jvm.MethodName)) ∈ lw_all := lw_g (lw_at lw_m6 20 rfl) rfl
theorem q1296 : (Jvm.Cond.code ({ cls := "WindFarmDispatcher", name := "bidByPrice", desc := "(I)I" } : Jvm.MethodName) prog_1_method_67_code (2 : Nat) (Option.some Jvm.ClassFile.FieldType.int)) ∈ lw_all := lw_g (lw_at lw_m6 21 rfl) rfl
theorem q1297 : (Jvm.Cond.methodLink "WindFarmDispatcher" (279 : Nat) ({ cls := "WindFarmDispatcher$Farm", name := "bidByPrice", desc := "(I)I" } : Jvm.MethodName)) ∈ lw_all := lw_g (lw_at lw_m6 22 rfl) rfl
theorem q1309 : (Jvm.Cond.instanceMethod ({ cls := "WindFarmDispatcher", name := "passHours", desc := "(I)I" } : Jvm.MethodName)) ∈ lw_all := lw_g (lw_at lw_m6 34 rfl) rfl
theorem q1310 : (Jvm.Cond.selects "WindFarmDispatcher" ({ cls := "WindFarmDispatcher", name := "passHours", desc := "(I)I" } : Jvm.MethodName) ({ cls := "WindFarmDispatcher", name := "passHours", desc := "(I)I" } : Jvm.MethodName)) ∈ lw_all := lw_g (lw_at lw_m6 35 rfl) rfl
theorem q1311 : (Jvm.Cond.code ({ cls := "WindFarmDispatcher", name := "passHours", desc := "(I)I" } : Jvm.MethodName) prog_1_method_68_code (2 : Nat) (Option.some Jvm.ClassFile.FieldType.int)) ∈ lw_all := lw_g (lw_at lw_m6 36 rfl) rfl
theorem q1312 : (Jvm.Cond.methodLink "WindFarmDispatcher" (282 : Nat) ({ cls := "WindFarmDispatcher", name := "areHours", desc := "(I)Z" } : Jvm.MethodName)) ∈ lw_all := lw_g (lw_at lw_m6 37 rfl) rfl
theorem q1313 : (Jvm.Cond.static ({ cls := "WindFarmDispatcher", name := "areHours", desc := "(I)Z" } : Jvm.MethodName)) ∈ lw_all := lw_g (lw_at lw_m6 38 rfl) rfl
theorem q1314 : (Jvm.Cond.code ({ cls := "WindFarmDispatcher", name := "areHours", desc := "(I)Z" } : Jvm.MethodName) prog_1_method_10_code (1 : Nat) (Option.some Jvm.ClassFile.FieldType.boolean)) ∈ lw_all := lw_g (lw_at lw_m6 39 rfl) rfl
theorem q1319 : (Jvm.Cond.instanceMethod ({ cls := "WindFarmDispatcher", name := "incomeWithin", desc := "(I)I" } : Jvm.MethodName)) ∈ lw_all := lw_g (lw_at lw_m6 44 rfl) rfl
theorem q1320 : (Jvm.Cond.selects "WindFarmDispatcher" ({ cls := "WindFarmDispatcher", name := "incomeWithin", desc := "(I)I" } : Jvm.MethodName) ({ cls := "WindFarmDispatcher", name := "incomeWithin", desc := "(I)I" } : Jvm.MethodName)) ∈ lw_all := lw_g (lw_at lw_m6 45 rfl) rfl
theorem q1321 : (Jvm.Cond.code ({ cls := "WindFarmDispatcher", name := "incomeWithin", desc := "(I)I" } : Jvm.MethodName) prog_1_method_70_code (2 : Nat) (Option.some Jvm.ClassFile.FieldType.int)) ∈ lw_all := lw_g (lw_at lw_m6 46 rfl) rfl
theorem q1322 : (Jvm.Cond.methodLink "WindFarmDispatcher" (288 : Nat) ({ cls := "WindFarmDispatcher$Farm", name := "incomeWithin", desc := "(I)I" } : Jvm.MethodName)) ∈ lw_all := lw_g (lw_at lw_m6 47 rfl) rfl
theorem q1332 : (Jvm.Cond.instanceMethod ({ cls := "WindFarmDispatcher", name := "hoursToBid", desc := "()I" } : Jvm.MethodName)) ∈ lw_all := lw_g (lw_at lw_m6 57 rfl) rfl
theorem q1333 : (Jvm.Cond.selects "WindFarmDispatcher" ({ cls := "WindFarmDispatcher", name := "hoursToBid", desc := "()I" } : Jvm.MethodName) ({ cls := "WindFarmDispatcher", name := "hoursToBid", desc := "()I" } : Jvm.MethodName)) ∈ lw_all := lw_g (lw_at lw_m6 58 rfl) rfl
theorem q1334 : (Jvm.Cond.code ({ cls := "WindFarmDispatcher", name := "hoursToBid", desc := "()I" } : Jvm.MethodName) prog_1_method_71_code (1 : Nat) (Option.some Jvm.ClassFile.FieldType.int)) ∈ lw_all := lw_g (lw_at lw_m6 59 rfl) rfl
theorem q1335 : (Jvm.Cond.methodLink "WindFarmDispatcher" (291 : Nat) ({ cls := "WindFarmDispatcher$Farm", name := "hoursToBid", desc := "()I" } : Jvm.MethodName)) ∈ lw_all := lw_g (lw_at lw_m6 60 rfl) rfl
theorem q1343 : (Jvm.Cond.instanceMethod ({ cls := "WindFarmDispatcher", name := "turbineByOutput", desc := "(I)I" } : Jvm.MethodName)) ∈ lw_all := lw_g (lw_at lw_m6 68 rfl) rfl
theorem q1344 : (Jvm.Cond.selects "WindFarmDispatcher" ({ cls := "WindFarmDispatcher", name := "turbineByOutput", desc := "(I)I" } : Jvm.MethodName) ({ cls := "WindFarmDispatcher", name := "turbineByOutput", desc := "(I)I" } : Jvm.MethodName)) ∈ lw_all := lw_g (lw_at lw_m6 69 rfl) rfl
theorem q1345 : (Jvm.Cond.code ({ cls := "WindFarmDispatcher", name := "turbineByOutput", desc := "(I)I" } : Jvm.MethodName) prog_1_method_77_code (2 : Nat) (Option.some Jvm.ClassFile.FieldType.int)) ∈ lw_all := lw_g (lw_at lw_m6 70 rfl) rfl
theorem q1346 : (Jvm.Cond.methodLink "WindFarmDispatcher" (307 : Nat) ({ cls := "WindFarmDispatcher$Farm", name := "turbineByOutput", desc := "(IZ)I" } : Jvm.MethodName)) ∈ lw_all := lw_g (lw_at lw_m6 71 rfl) rfl
theorem q1365 : (Jvm.Cond.instanceMethod ({ cls := "WindFarmDispatcher", name := "meanOutput", desc := "()D" } : Jvm.MethodName)) ∈ lw_all := lw_g (lw_at lw_m6 90 rfl) rfl
theorem q1366 : (Jvm.Cond.selects "WindFarmDispatcher" ({ cls := "WindFarmDispatcher", name := "meanOutput", desc := "()D" } : Jvm.MethodName) ({ cls := "WindFarmDispatcher", name := "meanOutput", desc := "()D" } : Jvm.MethodName)) ∈ lw_all := lw_g (lw_at lw_m6 91 rfl) rfl
theorem q1367 : (Jvm.Cond.code ({ cls := "WindFarmDispatcher", name := "meanOutput", desc := "()D" } : Jvm.MethodName) prog_1_method_78_code (1 : Nat) (Option.some Jvm.ClassFile.FieldType.double)) ∈ lw_all := lw_g (lw_at lw_m6 92 rfl) rfl
theorem q1368 : (Jvm.Cond.methodLink "WindFarmDispatcher" (311 : Nat) ({ cls := "WindFarmDispatcher", name := "turbineCount", desc := "()I" } : Jvm.MethodName)) ∈ lw_all := lw_g (lw_at lw_m6 93 rfl) rfl
theorem q1369 : (Jvm.Cond.methodLink "WindFarmDispatcher" (314 : Nat) ({ cls := "WindFarmDispatcher", name := "requireCount", desc := "(Z)V" } : Jvm.MethodName)) ∈ lw_all := lw_g (lw_at lw_m6 94 rfl) rfl
theorem q1370 : (Jvm.Cond.static ({ cls := "WindFarmDispatcher", name := "requireCount", desc := "(Z)V" } : Jvm.MethodName)) ∈ lw_all := lw_g (lw_at lw_m6 95 rfl) rfl
theorem q1371 : (Jvm.Cond.code ({ cls := "WindFarmDispatcher", name := "requireCount", desc := "(Z)V" } : Jvm.MethodName) prog_1_method_16_code (1 : Nat) (Option.none : Option Jvm.ClassFile.FieldType)) ∈ lw_all := lw_g (lw_at lw_m6 96 rfl) rfl
theorem q1372 : (Jvm.Cond.classLink "WindFarmDispatcher" (22 : Nat) "java/lang/ArithmeticException") ∈ lw_all := lw_g (lw_at lw_m6 97 rfl) rfl
theorem q1373 : (Jvm.Cond.methodLink "WindFarmDispatcher" (24 : Nat) ({ cls := "java/lang/ArithmeticException", name := "<init>", desc := "()V" } : Jvm.MethodName)) ∈ lw_all := lw_g (lw_at lw_m6 98 rfl) rfl
theorem q1377 : (Jvm.Cond.methodLink "WindFarmDispatcher" (317 : Nat) ({ cls := "WindFarmDispatcher", name := "totalOutput", desc := "()I" } : Jvm.MethodName)) ∈ lw_all := lw_g (lw_at lw_m6 102 rfl) rfl
theorem q1382 : (Jvm.Cond.instanceMethod ({ cls := "WindFarmDispatcher", name := "runningShare", desc := "()F" } : Jvm.MethodName)) ∈ lw_all := lw_g (lw_at lw_m6 107 rfl) rfl
theorem q1383 : (Jvm.Cond.selects "WindFarmDispatcher" ({ cls := "WindFarmDispatcher", name := "runningShare", desc := "()F" } : Jvm.MethodName) ({ cls := "WindFarmDispatcher", name := "runningShare", desc := "()F" } : Jvm.MethodName)) ∈ lw_all := lw_g (lw_at lw_m6 108 rfl) rfl
theorem q1384 : (Jvm.Cond.code ({ cls := "WindFarmDispatcher", name := "runningShare", desc := "()F" } : Jvm.MethodName) prog_1_method_79_code (1 : Nat) (Option.some Jvm.ClassFile.FieldType.float)) ∈ lw_all := lw_g (lw_at lw_m6 109 rfl) rfl
theorem q1385 : (Jvm.Cond.methodLink "WindFarmDispatcher" (320 : Nat) ({ cls := "WindFarmDispatcher$Farm", name := "idleTurbines", desc := "()I" } : Jvm.MethodName)) ∈ lw_all := lw_g (lw_at lw_m6 110 rfl) rfl
theorem q1390 : (Jvm.Cond.instanceMethod ({ cls := "WindFarmDispatcher", name := "writeTurbine", desc := "(I)I" } : Jvm.MethodName)) ∈ lw_all := lw_g (lw_at lw_m6 115 rfl) rfl
theorem q1391 : (Jvm.Cond.selects "WindFarmDispatcher" ({ cls := "WindFarmDispatcher", name := "writeTurbine", desc := "(I)I" } : Jvm.MethodName) ({ cls := "WindFarmDispatcher", name := "writeTurbine", desc := "(I)I" } : Jvm.MethodName)) ∈ lw_all := lw_g (lw_at lw_m6 116 rfl) rfl
theorem q1392 : (Jvm.Cond.code ({ cls := "WindFarmDispatcher", name := "writeTurbine", desc := "(I)I" } : Jvm.MethodName) prog_1_method_81_code (3 : Nat) (Option.some Jvm.ClassFile.FieldType.int)) ∈ lw_all := lw_g (lw_at lw_m6 117 rfl) rfl
theorem q1393 : (Jvm.Cond.methodLink "WindFarmDispatcher" (326 : Nat) ({ cls := "java/lang/StringBuilder", name := "append", desc := "(I)Ljava/lang/StringBuilder;" } : Jvm.MethodName)) ∈ lw_all := lw_g (lw_at lw_m6 118 rfl) rfl
theorem q1464 : (Jvm.Cond.stringRef "WindFarmDispatcher" (330 : Nat) "@") ∈ lw_tbl := lw_at lw_m6 189 rfl
theorem q1465 : (Jvm.Cond.methodLink "WindFarmDispatcher" (332 : Nat) ({ cls := "java/lang/StringBuilder", name := "append", desc := "(Ljava/lang/String;)Ljava/lang/StringBuilder;" } : Jvm.MethodName)) ∈ lw_all := lw_g (lw_at lw_m6 190 rfl) rfl
theorem q1522 : (Jvm.Cond.stringRef "WindFarmDispatcher" (335 : Nat) ",") ∈ lw_tbl := lw_at lw_m7 7 rfl
theorem q1523 : (Jvm.Cond.stringRef "WindFarmDispatcher" (337 : Nat) "p") ∈ lw_tbl := lw_at lw_m7 8 rfl
theorem q1524 : (Jvm.Cond.stringRef "WindFarmDispatcher" (339 : Nat) "=") ∈ lw_tbl := lw_at lw_m7 9 rfl
theorem q1525 : (Jvm.Cond.interfaceEntry "WindFarmDispatcher" (345 : Nat)) ∈ lw_tbl := lw_at lw_m7 10 rfl
theorem q1526 : (Jvm.Cond.methodLink "WindFarmDispatcher" (345 : Nat) ({ cls := "WindFarmDispatcher$State", name := "sign", desc := "()Ljava/lang/String;" } : Jvm.MethodName)) ∈ lw_all := lw_g (lw_at lw_m7 11 rfl) rfl
theorem q1628 : (Jvm.Cond.methodLink "WindFarmDispatcher" (351 : Nat) ({ cls := "java/lang/StringBuilder", name := "toString", desc := "()Ljava/lang/String;" } : Jvm.MethodName)) ∈ lw_all := lw_g (lw_at lw_m7 113 rfl) rfl
theorem q1629 : (Jvm.Cond.methodLink "WindFarmDispatcher" (354 : Nat) ({ cls := "WindFarmDispatcher", name := "write", desc := "(Ljava/lang/String;)I" } : Jvm.MethodName)) ∈ lw_all := lw_g (lw_at lw_m7 114 rfl) rfl
theorem q1630 : (Jvm.Cond.privateMethod ({ cls := "WindFarmDispatcher", name := "write", desc := "(Ljava/lang/String;)I" } : Jvm.MethodName)) ∈ lw_tbl := lw_at lw_m7 115 rfl
theorem q1631 : (Jvm.Cond.instanceMethod ({ cls := "WindFarmDispatcher", name := "write", desc := "(Ljava/lang/String;)I" } : Jvm.MethodName)) ∈ lw_all := lw_g (lw_at lw_m7 116 rfl) rfl
theorem q1632 : (Jvm.Cond.code ({ cls := "WindFarmDispatcher", name := "write", desc := "(Ljava/lang/String;)I" } : Jvm.MethodName) prog_1_method_29_code (2 : Nat) (Option.some Jvm.ClassFile.FieldType.int)) ∈ lw_all := lw_g (lw_at lw_m7 117 rfl) rfl
theorem q1633 : (Jvm.Cond.methodLink "WindFarmDispatcher" (145 : Nat) ({ cls := "java/lang/String", name := "length", desc := "()I" } : Jvm.MethodName)) ∈ lw_all := lw_g (lw_at lw_m7 118 rfl) rfl
theorem q1638 : (Jvm.Cond.instanceMethod ({ cls := "WindFarmDispatcher", name := "outputAt", desc := "(I)C" } : Jvm.MethodName)) ∈ lw_all := lw_g (lw_at lw_m7 123 rfl) rfl
theorem q1639 : (Jvm.Cond.selects "WindFarmDispatcher" ({ cls := "WindFarmDispatcher", name := "outputAt", desc := "(I)C" } : Jvm.MethodName) ({ cls := "WindFarmDispatcher", name := "outputAt", desc := "(I)C" } : Jvm.MethodName)) ∈ lw_all := lw_g (lw_at lw_m7 124 rfl) rfl
theorem q1640 : (Jvm.Cond.code ({ cls := "WindFarmDispatcher", name := "outputAt", desc := "(I)C" } : Jvm.MethodName) prog_1_method_82_code (2 : Nat) (Option.some Jvm.ClassFile.FieldType.char)) ∈ lw_all := lw_g (lw_at lw_m7 125 rfl) rfl
theorem q1641 : (Jvm.Cond.methodLink "WindFarmDispatcher" (358 : Nat) ({ cls := "java/lang/String", name := "charAt", desc := "(I)C" } : Jvm.MethodName)) ∈ lw_all := lw_g (lw_at lw_m7 126 rfl) rfl
theorem q1668 : (Jvm.Cond.instanceMethod ({ cls := "WindFarmDispatcher", name := "appendInput", desc := "(C)I" } : Jvm.MethodName)) ∈ lw_all := lw_g (lw_at lw_m7 153 rfl) rfl
theorem q1669 : (Jvm.Cond.selects "WindFarmDispatcher" ({ cls := "WindFarmDispatcher", name := "appendInput", desc := "(C)I" } : Jvm.MethodName) ({ cls := "WindFarmDispatcher", name := "appendInput", desc := "(C)I" } : Jvm.MethodName)) ∈ lw_all := lw_g (lw_at lw_m7 154 rfl) rfl
theorem q1670 : (Jvm.Cond.code ({ cls := "WindFarmDispatcher", name := "appendInput", desc := "(C)I" } : Jvm.MethodName) prog_1_method_83_code (2 : Nat) (Option.some Jvm.ClassFile.FieldType.int)) ∈ lw_all := lw_g (lw_at lw_m7 155 rfl) rfl
theorem q1671 : (Jvm.Cond.methodLink "WindFarmDispatcher" (362 : Nat) ({ cls := "java/lang/StringBuilder", name := "length", desc := "()I" } : Jvm.MethodName)) ∈ lw_all := lw_g (lw_at lw_m7 156 rfl) rfl
theorem q1672 : (Jvm.Cond.methodLink "WindFarmDispatcher" (363 : Nat) ({ cls := "WindFarmDispatcher", name := "requireState", desc := "(Z)V" } : Jvm.MethodName)) ∈ lw_all := lw_g (lw_at lw_m7 157 rfl) rfl
theorem q1673 : (Jvm.Cond.static ({ cls := "WindFarmDispatcher", name := "requireState", desc := "(Z)V" } : Jvm.MethodName)) ∈ lw_all := lw_g (lw_at lw_m7 158 rfl) rfl
theorem q1674 : (Jvm.Cond.code ({ cls := "WindFarmDispatcher", name := "requireState", desc := "(Z)V" } : Jvm.MethodName) prog_1_method_14_code (1 : Nat) (Option.none : Option Jvm.ClassFile.FieldType)) ∈ lw_all := lw_g (lw_at lw_m7 159 rfl) rfl
theorem q1675 : (Jvm.Cond.classLink "WindFarmDispatcher" (16 : Nat) "java/lang/IllegalStateException") ∈ lw_all := lw_g (lw_at lw_m7 160 rfl) rfl
theorem q1684 : (Jvm.Cond.methodLink "WindFarmDispatcher" (18 : Nat) ({ cls := "java/lang/IllegalStateException", name := "<init>", desc := "()V" } : Jvm.MethodName)) ∈ lw_all := lw_g (lw_at lw_m7 169 rfl) rfl
theorem q1690 : (Jvm.Cond.methodLink "WindFarmDispatcher" (366 : Nat) ({ cls := "java/lang/StringBuilder", name := "append", desc := "(C)Ljava/lang/StringBuilder;" } : Jvm.MethodName)) ∈ lw_all := lw_g (lw_at lw_m7 175 rfl) rfl
theorem q1707 : (Jvm.Cond.instanceMethod ({ cls := "WindFarmDispatcher", name := "execute", desc := "()I" } : Jvm.MethodName)) ∈ lw_all := lw_g (lw_at lw_m7 192 rfl) rfl
theorem q1708 : (Jvm.Cond.selects "WindFarmDispatcher" ({ cls := "WindFarmDispatcher", name := "execute", desc := "()I" } : Jvm.MethodName) ({ cls := "WindFarmDispatcher", name := "execute", desc := "()I" } : Jvm.MethodName)) ∈ lw_all := lw_g (lw_at lw_m7 193 rfl) rfl
theorem q1709 : (Jvm.Cond.codeWith ({ cls := "WindFarmDispatcher", name := "execute", desc := "()I" } : Jvm.MethodName) prog_1_method_84_code (4 : Nat) (Option.some Jvm.ClassFile.FieldType.int) [((23 : Nat), (46 : Nat), (47 : Nat), (384 : Nat)), ((23 : Nat), (46 : Nat), (61 : Nat), (390 : Nat)), ((23 : Nat), (46 : Nat), (70 : Nat), (25 : Nat))]) ∈ lw_all := lw_g (lw_at lw_m7 194 rfl) rfl
theorem q1710 : (Jvm.Cond.classLink "WindFarmDispatcher" (384 : Nat) "WindFarmDispatcher$SyntaxError") ∈ lw_all := lw_g (lw_at lw_m7 195 rfl) rfl
theorem q1711 : (Jvm.Cond.classLink "WindFarmDispatcher" (390 : Nat) "WindFarmDispatcher$BadCommand") ∈ lw_all := lw_g (lw_at lw_m7 196 rfl) rfl
theorem q1712 : (Jvm.Cond.classLink "WindFarmDispatcher" (369 : Nat) "WindFarmDispatcher$Parser") ∈ lw_all := lw_g (lw_at lw_m7 197 rfl) rfl
theorem q1714 : (Jvm.Cond.methodLink "WindFarmDispatcher" (371 : Nat) ({ cls := "WindFarmDispatcher$Parser", name := "<init>", desc := "(Ljava/lang/String;)V" } : Jvm.MethodName)) ∈ lw_all := lw_g (lw_at lw_m7 199 rfl) rfl
theorem q1730 : (Jvm.Cond.methodLink "WindFarmDispatcher" (374 : Nat) ({ cls := "java/lang/StringBuilder", name := "setLength", desc := "(I)V" } : Jvm.MethodName)) ∈ lw_all := lw_g (lw_at lw_m7 215 rfl) rfl
theorem q1782 : (Jvm.Cond.methodLink "WindFarmDispatcher" (377 : Nat) ({ cls := "WindFarmDispatcher$Parser", name := "parse", desc := "()Ljava/util/ArrayList;" } : Jvm.MethodName)) ∈ lw_all := lw_g (lw_at lw_m8 27 rfl) rfl
theorem q1861 : (Jvm.Cond.fieldLinkNest "WindFarmDispatcher" (392 : Nat) "WindFarmDispatcher$SyntaxError" "offset" "I" "WindFarmDispatcher") ∈ lw_tbl := lw_at lw_m8 106 rfl
theorem q1886 : (Jvm.Cond.methodLink "WindFarmDispatcher" (381 : Nat) ({ cls := "WindFarmDispatcher", name := "run", desc := "(Ljava/util/ArrayList;LWindFarmDispatcher$Farm;)I" } : Jvm.MethodName)) ∈ lw_all := lw_g (lw_at lw_m8 131 rfl) rfl
theorem q1887 : (Jvm.Cond.static ({ cls := "WindFarmDispatcher", name := "run", desc := "(Ljava/util/ArrayList;LWindFarmDispatcher$Farm;)I" } : Jvm.MethodName)) ∈ lw_all := lw_g (lw_at lw_m8 132 rfl) rfl
theorem q1888 : (Jvm.Cond.codeWith ({ cls := "WindFarmDispatcher", name := "run", desc := "(Ljava/util/ArrayList;LWindFarmDispatcher$Farm;)I" } : Jvm.MethodName) prog_1_method_21_code (4 : Nat) (Option.some Jvm.ClassFile.FieldType.int) [((10 : Nat), (23 : Nat), (26 : Nat), (25 : Nat))]) ∈ lw_all := lw_g (lw_at lw_m8 133 rfl) rfl
theorem q1889 : (Jvm.Cond.methodLink "WindFarmDispatcher" (60 : Nat) ({ cls := "WindFarmDispatcher$Command", name := "checkedRun", desc := "(LWindFarmDispatcher$Farm;)I" } : Jvm.MethodName)) ∈ lw_all := lw_g (lw_at lw_m8 134 rfl) rfl
theorem q1923 : (Jvm.Cond.methodLink "WindFarmDispatcher" (68 : Nat) ({ cls := "WindFarmDispatcher$Rejection", name := "<init>", desc := "(III)V" } : Jvm.MethodName)) ∈ lw_all := lw_g (lw_at lw_m8 168 rfl) rfl
theorem q1928 : (Jvm.Cond.instanceMethod ({ cls := "WindFarmDispatcher", name := "syntaxErrorOffset", desc := "()I" } : Jvm.MethodName)) ∈ lw_all := lw_g (lw_at lw_m8 173 rfl) rfl
theorem q1929 : (Jvm.Cond.selects "WindFarmDispatcher" ({ cls := "WindFarmDispatcher", name := "syntaxErrorOffset", desc := "()I" } : Jvm.MethodName) ({ cls := "WindFarmDispatcher", name := "syntaxErrorOffset", desc := "()I" } : Jvm.MethodName)) ∈ lw_all := lw_g (lw_at lw_m8 174 rfl) rfl
theorem q1930 : (Jvm.Cond.code ({ cls := "WindFarmDispatcher", name := "syntaxErrorOffset", desc := "()I" } : Jvm.MethodName) prog_1_method_85_code (1 : Nat) (Option.some Jvm.ClassFile.FieldType.int)) ∈ lw_all := lw_g (lw_at lw_m8 175 rfl) rfl
theorem q1935 : (Jvm.Cond.instanceMethod ({ cls := "WindFarmDispatcher", name := "rejectionReason", desc := "()I" } : Jvm.MethodName)) ∈ lw_all := lw_g (lw_at lw_m8 180 rfl) rfl
theorem q1936 : (Jvm.Cond.selects "WindFarmDispatcher" ({ cls := "WindFarmDispatcher", name := "rejectionReason", desc := "()I" } : Jvm.MethodName) ({ cls := "WindFarmDispatcher", name := "rejectionReason", desc := "()I" } : Jvm.MethodName)) ∈ lw_all := lw_g (lw_at lw_m8 181 rfl) rfl
theorem q1937 : (Jvm.Cond.code ({ cls := "WindFarmDispatcher", name := "rejectionReason", desc := "()I" } : Jvm.MethodName) prog_1_method_86_code (1 : Nat) (Option.some Jvm.ClassFile.FieldType.int)) ∈ lw_all := lw_g (lw_at lw_m8 182 rfl) rfl
theorem q1942 : (Jvm.Cond.instanceMethod ({ cls := "WindFarmDispatcher", name := "rejectionDetail", desc := "()I" } : Jvm.MethodName)) ∈ lw_all := lw_g (lw_at lw_m8 187 rfl) rfl
theorem q1943 : (Jvm.Cond.selects "WindFarmDispatcher" ({ cls := "WindFarmDispatcher", name := "rejectionDetail", desc := "()I" } : Jvm.MethodName) ({ cls := "WindFarmDispatcher", name := "rejectionDetail", desc := "()I" } : Jvm.MethodName)) ∈ lw_all := lw_g (lw_at lw_m8 188 rfl) rfl
theorem q1944 : (Jvm.Cond.code ({ cls := "WindFarmDispatcher", name := "rejectionDetail", desc := "()I" } : Jvm.MethodName) prog_1_method_87_code (1 : Nat) (Option.some Jvm.ClassFile.FieldType.int)) ∈ lw_all := lw_g (lw_at lw_m8 189 rfl) rfl
theorem q1949 : (Jvm.Cond.instanceMethod ({ cls := "WindFarmDispatcher", name := "causeReason", desc := "()I" } : Jvm.MethodName)) ∈ lw_all := lw_g (lw_at lw_m8 194 rfl) rfl
theorem q1950 : (Jvm.Cond.selects "WindFarmDispatcher" ({ cls := "WindFarmDispatcher", name := "causeReason", desc := "()I" } : Jvm.MethodName) ({ cls := "WindFarmDispatcher", name := "causeReason", desc := "()I" } : Jvm.MethodName)) ∈ lw_all := lw_g (lw_at lw_m8 195 rfl) rfl
theorem q1951 : (Jvm.Cond.code ({ cls := "WindFarmDispatcher", name := "causeReason", desc := "()I" } : Jvm.MethodName) prog_1_method_88_code (1 : Nat) (Option.some Jvm.ClassFile.FieldType.int)) ∈ lw_all := lw_g (lw_at lw_m8 196 rfl) rfl
theorem q1956 : (Jvm.Cond.instanceMethod ({ cls := "WindFarmDispatcher", name := "undo", desc := "()I" } : Jvm.MethodName)) ∈ lw_all := lw_g (lw_at lw_m8 201 rfl) rfl
theorem q1957 : (Jvm.Cond.selects "WindFarmDispatcher" ({ cls := "WindFarmDispatcher", name := "undo", desc := "()I" } : Jvm.MethodName) ({ cls := "WindFarmDispatcher", name := "undo", desc := "()I" } : Jvm.MethodName)) ∈ lw_all := lw_g (lw_at lw_m8 202 rfl) rfl
theorem q1958 : (Jvm.Cond.code ({ cls := "WindFarmDispatcher", name := "undo", desc := "()I" } : Jvm.MethodName) prog_1_method_89_code (1 : Nat) (Option.some Jvm.ClassFile.FieldType.int)) ∈ lw_all := lw_g (lw_at lw_m8 203 rfl) rfl
theorem q1963 : (Jvm.Cond.instanceMethod ({ cls := "WindFarmDispatcher", name := "restoreSnapshot", desc := "()I" } : Jvm.MethodName)) ∈ lw_all := lw_g (lw_at lw_m8 208 rfl) rfl
theorem q1964 : (Jvm.Cond.selects "WindFarmDispatcher" ({ cls := "WindFarmDispatcher", name := "restoreSnapshot", desc := "()I" } : Jvm.MethodName) ({ cls := "WindFarmDispatcher", name := "restoreSnapshot", desc := "()I" } : Jvm.MethodName)) ∈ lw_all := lw_g (lw_at lw_m8 209 rfl) rfl
theorem q1965 : (Jvm.Cond.code ({ cls := "WindFarmDispatcher", name := "restoreSnapshot", desc := "()I" } : Jvm.MethodName) prog_1_method_91_code (1 : Nat) (Option.some Jvm.ClassFile.FieldType.int)) ∈ lw_all := lw_g (lw_at lw_m8 210 rfl) rfl
theorem q1966 : (Jvm.Cond.methodLink "WindFarmDispatcher" (404 : Nat) ({ cls := "java/util/ArrayList", name := "clear", desc := "()V" } : Jvm.MethodName)) ∈ lw_all := lw_g (lw_at lw_m8 211 rfl) rfl
theorem q2510 : (Jvm.Cond.castable "WindFarmDispatcher" "java/lang/Object") ∈ lw_tbl := lw_at lw_m11 35 rfl
theorem in_X1 : ∀ w ∈ wsX10, w ∈ lw_all := lw_in wsX10 [258, 260, 262, 264, 266, 268, 270] (by decide +kernel) (by decide +kernel)
/-! WindFarmDispatcher$Farm -/
def RX2 : String := "WindFarmDispatcher$Farm"
def TX2 : u_T := fun k => match k with
  | 0 => ("WindFarmDispatcher$Farm", "turbines", "Ljava/util/ArrayList;", true)
  | 1 => ("WindFarmDispatcher$Farm", "grid", "[[LWindFarmDispatcher$Turbine;", true)
  | 2 => ("WindFarmDispatcher$Farm", "prices", "[I", true)
  | 3 => ("WindFarmDispatcher$Farm", "quantities", "[I", true)
  | 4 => ("WindFarmDispatcher$Farm", "direction", "LWindFarmDispatcher$Direction;", false)
  | 5 => ("WindFarmDispatcher$Farm", "speed", "I", false)
  | 6 => ("WindFarmDispatcher$Farm", "gridLimit", "I", false)
  | 7 => ("WindFarmDispatcher$Farm", "time", "I", false)
  | 8 => ("WindFarmDispatcher$Farm", "made", "J", false)
  | 9 => ("WindFarmDispatcher$Farm", "lost", "J", false)
  | 10 => ("WindFarmDispatcher$Farm", "sold", "J", false)
  | _ => ("WindFarmDispatcher$Farm", "coins", "J", false)
def tyX2 : Nat → FieldType := fun k => match k with
  | 0 => .object "java/util/ArrayList"
  | 1 => .array (.array (.object "WindFarmDispatcher$Turbine"))
  | 2 => .array .int
  | 3 => .array .int
  | 4 => .object "WindFarmDispatcher$Direction"
  | 5 => .int
  | 6 => .int
  | 7 => .int
  | 8 => .long
  | 9 => .long
  | 10 => .long
  | _ => .long
abbrev wsX20 : List Cond := u_ws RX2 TX2 12
theorem nmX2 : ∀ a, a < 12 → ∀ b, b < 12 → a ≠ b → (TX2 a).2.1 ≠ (TX2 b).2.1 := by decide +kernel
theorem tyX2_ok : ∀ k, k < 12 → parseFieldDescriptor (TX2 k).2.2.1 = some (tyX2 k) := by decide +kernel
abbrev cX2_init : ByteArray := prog_11_method_1_code
def yX2_init : MethodName := ⟨RX2, "<init>", "()V"⟩
def dkwX2_init_2 : List UInt8 := [181, 0, 36, 42, 17, 3, 231, 181, 0, 39, 177]
abbrev dktX2_init_2 : List UInt8 := dkwX2_init_2 ++ []
def dkwX2_init_1 : List UInt8 := [181, 0, 20, 42, 16, 24, 188, 10, 181, 0, 23, 42, 16, 24, 188, 10, 181, 0, 27, 42, 178, 0, 30]
abbrev dktX2_init_1 : List UInt8 := dkwX2_init_1 ++ dktX2_init_2
def dkwX2_init_0 : List UInt8 := [42, 183, 0, 3, 42, 187, 0, 9, 89, 183, 0, 11, 181, 0, 12, 42, 8, 16, 6, 197, 0, 18, 2]
abbrev dktX2_init_0 : List UInt8 := dkwX2_init_0 ++ dktX2_init_1
theorem dksX2_init_0 : cX2_init.data.toList.drop 0 = dktX2_init_0 := by decide +kernel
theorem dksX2_init_1 : cX2_init.data.toList.drop 23 = dktX2_init_1 := dk_seg dksX2_init_0 23 rfl rfl
theorem dksX2_init_2 : cX2_init.data.toList.drop 46 = dktX2_init_2 := dk_seg dksX2_init_1 23 rfl rfl
theorem dX2_init_0 : decode cX2_init 0 = .ok (.aload_n 0, 1) := dk_42 (dk_at dksX2_init_0 0 rfl rfl)
theorem dX2_init_1 : decode cX2_init 1 = .ok (.invokespecial 3, 3) := dk_183 0 3 (dk_at dksX2_init_0 1 rfl rfl)
theorem dX2_init_4 : decode cX2_init 4 = .ok (.aload_n 0, 1) := dk_42 (dk_at dksX2_init_0 4 rfl rfl)
theorem dX2_init_5 : decode cX2_init 5 = .ok (.new 9, 3) := dk_187 0 9 (dk_at dksX2_init_0 5 rfl rfl)
theorem dX2_init_8 : decode cX2_init 8 = .ok (.dup, 1) := dk_89 (dk_at dksX2_init_0 8 rfl rfl)
theorem dX2_init_9 : decode cX2_init 9 = .ok (.invokespecial 11, 3) := dk_183 0 11 (dk_at dksX2_init_0 9 rfl rfl)
theorem dX2_init_12 : decode cX2_init 12 = .ok (.putfield 12, 3) := dk_181 0 12 (dk_at dksX2_init_0 12 rfl rfl)
theorem dX2_init_15 : decode cX2_init 15 = .ok (.aload_n 0, 1) := dk_42 (dk_at dksX2_init_0 15 rfl rfl)
theorem dX2_init_16 : decode cX2_init 16 = .ok (.iconst 5, 1) := dk_8 (dk_at dksX2_init_0 16 rfl rfl)
theorem dX2_init_17 : decode cX2_init 17 = .ok (.bipush 6, 2) := dk_16 6 (dk_at dksX2_init_0 17 rfl rfl)
theorem dX2_init_19 : decode cX2_init 19 = .ok (.multianewarray 18 2, 4) := by decide +kernel
theorem dX2_init_23 : decode cX2_init 23 = .ok (.putfield 20, 3) := dk_181 0 20 (dk_at dksX2_init_1 0 rfl rfl)
theorem dX2_init_26 : decode cX2_init 26 = .ok (.aload_n 0, 1) := dk_42 (dk_at dksX2_init_1 3 rfl rfl)
theorem dX2_init_27 : decode cX2_init 27 = .ok (.bipush 24, 2) := dk_16 24 (dk_at dksX2_init_1 4 rfl rfl)
theorem dX2_init_29 : decode cX2_init 29 = .ok (.newarray .int, 2) := dk_188_10 (dk_at dksX2_init_1 6 rfl rfl)
theorem dX2_init_31 : decode cX2_init 31 = .ok (.putfield 23, 3) := dk_181 0 23 (dk_at dksX2_init_1 8 rfl rfl)
theorem dX2_init_34 : decode cX2_init 34 = .ok (.aload_n 0, 1) := dk_42 (dk_at dksX2_init_1 11 rfl rfl)
theorem dX2_init_35 : decode cX2_init 35 = .ok (.bipush 24, 2) := dk_16 24 (dk_at dksX2_init_1 12 rfl rfl)
theorem dX2_init_37 : decode cX2_init 37 = .ok (.newarray .int, 2) := dk_188_10 (dk_at dksX2_init_1 14 rfl rfl)
theorem dX2_init_39 : decode cX2_init 39 = .ok (.putfield 27, 3) := dk_181 0 27 (dk_at dksX2_init_1 16 rfl rfl)
theorem dX2_init_42 : decode cX2_init 42 = .ok (.aload_n 0, 1) := dk_42 (dk_at dksX2_init_1 19 rfl rfl)
theorem dX2_init_43 : decode cX2_init 43 = .ok (.getstatic 30, 3) := dk_178 0 30 (dk_at dksX2_init_1 20 rfl rfl)
theorem dX2_init_46 : decode cX2_init 46 = .ok (.putfield 36, 3) := dk_181 0 36 (dk_at dksX2_init_2 0 rfl rfl)
theorem dX2_init_49 : decode cX2_init 49 = .ok (.aload_n 0, 1) := dk_42 (dk_at dksX2_init_2 3 rfl rfl)
theorem dX2_init_50 : decode cX2_init 50 = .ok (.sipush 999, 3) := dk_17 3 231 (dk_at dksX2_init_2 4 rfl rfl)
theorem dX2_init_53 : decode cX2_init 53 = .ok (.putfield 39, 3) := dk_181 0 39 (dk_at dksX2_init_2 7 rfl rfl)
theorem dX2_init_56 : decode cX2_init 56 = .ok (.return_, 1) := dk_177 (dk_at dksX2_init_2 10 rfl rfl)
abbrev cX2_inService : ByteArray := prog_11_method_19_code
def yX2_inService : MethodName := ⟨RX2, "inService", "()I"⟩
def dkwX2_inService_2 : List UInt8 := [167, 255, 214, 27, 172]
abbrev dktX2_inService_2 : List UInt8 := dkwX2_inService_2 ++ []
def dkwX2_inService_1 : List UInt8 := [192, 0, 52, 182, 0, 168, 158, 0, 7, 4, 167, 0, 4, 3, 184, 0, 171, 96, 60, 132, 2, 1]
abbrev dktX2_inService_1 : List UInt8 := dkwX2_inService_1 ++ dktX2_inService_2
def dkwX2_inService_0 : List UInt8 := [3, 60, 3, 61, 28, 42, 180, 0, 12, 182, 0, 44, 162, 0, 37, 27, 42, 180, 0, 12, 28, 182, 0, 48]
abbrev dktX2_inService_0 : List UInt8 := dkwX2_inService_0 ++ dktX2_inService_1
theorem dksX2_inService_0 : cX2_inService.data.toList.drop 0 = dktX2_inService_0 := by decide +kernel
theorem dksX2_inService_1 : cX2_inService.data.toList.drop 24 = dktX2_inService_1 := dk_seg dksX2_inService_0 24 rfl rfl
theorem dksX2_inService_2 : cX2_inService.data.toList.drop 46 = dktX2_inService_2 := dk_seg dksX2_inService_1 22 rfl rfl
theorem dX2_inService_0 : decode cX2_inService 0 = .ok (.iconst 0, 1) := dk_3 (dk_at dksX2_inService_0 0 rfl rfl)
theorem dX2_inService_1 : decode cX2_inService 1 = .ok (.istore_n 1, 1) := dk_60 (dk_at dksX2_inService_0 1 rfl rfl)
theorem dX2_inService_2 : decode cX2_inService 2 = .ok (.iconst 0, 1) := dk_3 (dk_at dksX2_inService_0 2 rfl rfl)
theorem dX2_inService_3 : decode cX2_inService 3 = .ok (.istore_n 2, 1) := dk_61 (dk_at dksX2_inService_0 3 rfl rfl)
theorem dX2_inService_4 : decode cX2_inService 4 = .ok (.iload_n 2, 1) := dk_28 (dk_at dksX2_inService_0 4 rfl rfl)
theorem dX2_inService_5 : decode cX2_inService 5 = .ok (.aload_n 0, 1) := dk_42 (dk_at dksX2_inService_0 5 rfl rfl)
theorem dX2_inService_6 : decode cX2_inService 6 = .ok (.getfield 12, 3) := dk_180 0 12 (dk_at dksX2_inService_0 6 rfl rfl)
theorem dX2_inService_9 : decode cX2_inService 9 = .ok (.invokevirtual 44, 3) := dk_182 0 44 (dk_at dksX2_inService_0 9 rfl rfl)
theorem dX2_inService_12 : decode cX2_inService 12 = .ok (.if_icmp .ge 37, 3) := dk_162 0 37 (dk_at dksX2_inService_0 12 rfl rfl)
theorem dX2_inService_15 : decode cX2_inService 15 = .ok (.iload_n 1, 1) := dk_27 (dk_at dksX2_inService_0 15 rfl rfl)
theorem dX2_inService_16 : decode cX2_inService 16 = .ok (.aload_n 0, 1) := dk_42 (dk_at dksX2_inService_0 16 rfl rfl)
theorem dX2_inService_17 : decode cX2_inService 17 = .ok (.getfield 12, 3) := dk_180 0 12 (dk_at dksX2_inService_0 17 rfl rfl)
theorem dX2_inService_20 : decode cX2_inService 20 = .ok (.iload_n 2, 1) := dk_28 (dk_at dksX2_inService_0 20 rfl rfl)
theorem dX2_inService_21 : decode cX2_inService 21 = .ok (.invokevirtual 48, 3) := dk_182 0 48 (dk_at dksX2_inService_0 21 rfl rfl)
theorem dX2_inService_24 : decode cX2_inService 24 = .ok (.checkcast 52, 3) := dk_192 0 52 (dk_at dksX2_inService_1 0 rfl rfl)
theorem dX2_inService_27 : decode cX2_inService 27 = .ok (.invokevirtual 168, 3) := dk_182 0 168 (dk_at dksX2_inService_1 3 rfl rfl)
theorem dX2_inService_30 : decode cX2_inService 30 = .ok (.ifCond .le 7, 3) := dk_158 0 7 (dk_at dksX2_inService_1 6 rfl rfl)
theorem dX2_inService_33 : decode cX2_inService 33 = .ok (.iconst 1, 1) := dk_4 (dk_at dksX2_inService_1 9 rfl rfl)
theorem dX2_inService_34 : decode cX2_inService 34 = .ok (.goto 4, 3) := dk_167 0 4 (dk_at dksX2_inService_1 10 rfl rfl)
theorem dX2_inService_37 : decode cX2_inService 37 = .ok (.iconst 0, 1) := dk_3 (dk_at dksX2_inService_1 13 rfl rfl)
theorem dX2_inService_38 : decode cX2_inService 38 = .ok (.invokestatic 171, 3) := dk_184 0 171 (dk_at dksX2_inService_1 14 rfl rfl)
theorem dX2_inService_41 : decode cX2_inService 41 = .ok (.iadd, 1) := dk_96 (dk_at dksX2_inService_1 17 rfl rfl)
theorem dX2_inService_42 : decode cX2_inService 42 = .ok (.istore_n 1, 1) := dk_60 (dk_at dksX2_inService_1 18 rfl rfl)
theorem dX2_inService_43 : decode cX2_inService 43 = .ok (.iinc 2 1, 3) := dk_132 2 1 (dk_at dksX2_inService_1 19 rfl rfl)
theorem dX2_inService_46 : decode cX2_inService 46 = .ok (.goto (-42), 3) := dk_167 255 214 (dk_at dksX2_inService_2 0 rfl rfl)
theorem dX2_inService_49 : decode cX2_inService 49 = .ok (.iload_n 1, 1) := dk_27 (dk_at dksX2_inService_2 3 rfl rfl)
theorem dX2_inService_50 : decode cX2_inService 50 = .ok (.ireturn, 1) := dk_172 (dk_at dksX2_inService_2 4 rfl rfl)
abbrev cX2_total : ByteArray := prog_11_method_12_code
def yX2_total : MethodName := ⟨RX2, "total", "()I"⟩
def dkwX2_total_0 : List UInt8 := [42, 42, 180, 0, 36, 42, 180, 0, 71, 182, 0, 142, 172]
abbrev dktX2_total_0 : List UInt8 := dkwX2_total_0 ++ []
theorem dksX2_total_0 : cX2_total.data.toList.drop 0 = dktX2_total_0 := by decide +kernel
theorem dX2_total_0 : decode cX2_total 0 = .ok (.aload_n 0, 1) := dk_42 (dk_at dksX2_total_0 0 rfl rfl)
theorem dX2_total_1 : decode cX2_total 1 = .ok (.aload_n 0, 1) := dk_42 (dk_at dksX2_total_0 1 rfl rfl)
theorem dX2_total_2 : decode cX2_total 2 = .ok (.getfield 36, 3) := dk_180 0 36 (dk_at dksX2_total_0 2 rfl rfl)
theorem dX2_total_5 : decode cX2_total 5 = .ok (.aload_n 0, 1) := dk_42 (dk_at dksX2_total_0 5 rfl rfl)
theorem dX2_total_6 : decode cX2_total 6 = .ok (.getfield 71, 3) := dk_180 0 71 (dk_at dksX2_total_0 6 rfl rfl)
theorem dX2_total_9 : decode cX2_total 9 = .ok (.invokevirtual 142, 3) := dk_182 0 142 (dk_at dksX2_total_0 9 rfl rfl)
theorem dX2_total_12 : decode cX2_total 12 = .ok (.ireturn, 1) := dk_172 (dk_at dksX2_total_0 12 rfl rfl)
abbrev cX2_totalWith : ByteArray := prog_11_method_11_code
def yX2_totalWith : MethodName := ⟨RX2, "totalWith", "(LWindFarmDispatcher$Direction;I)I"⟩
def dkwX2_totalWith_2 : List UInt8 := [29, 172]
abbrev dktX2_totalWith_2 : List UInt8 := dkwX2_totalWith_2 ++ []
def dkwX2_totalWith_1 : List UInt8 := [21, 4, 182, 0, 48, 192, 0, 52, 43, 28, 184, 0, 122, 182, 0, 138, 96, 62, 132, 4, 1, 167, 255, 217]
abbrev dktX2_totalWith_1 : List UInt8 := dkwX2_totalWith_1 ++ dktX2_totalWith_2
def dkwX2_totalWith_0 : List UInt8 := [3, 62, 3, 54, 4, 21, 4, 42, 180, 0, 12, 182, 0, 44, 162, 0, 33, 29, 42, 42, 180, 0, 12]
abbrev dktX2_totalWith_0 : List UInt8 := dkwX2_totalWith_0 ++ dktX2_totalWith_1
theorem dksX2_totalWith_0 : cX2_totalWith.data.toList.drop 0 = dktX2_totalWith_0 := by decide +kernel
theorem dksX2_totalWith_1 : cX2_totalWith.data.toList.drop 23 = dktX2_totalWith_1 := dk_seg dksX2_totalWith_0 23 rfl rfl
theorem dksX2_totalWith_2 : cX2_totalWith.data.toList.drop 47 = dktX2_totalWith_2 := dk_seg dksX2_totalWith_1 24 rfl rfl
theorem dX2_totalWith_0 : decode cX2_totalWith 0 = .ok (.iconst 0, 1) := dk_3 (dk_at dksX2_totalWith_0 0 rfl rfl)
theorem dX2_totalWith_1 : decode cX2_totalWith 1 = .ok (.istore_n 3, 1) := dk_62 (dk_at dksX2_totalWith_0 1 rfl rfl)
theorem dX2_totalWith_2 : decode cX2_totalWith 2 = .ok (.iconst 0, 1) := dk_3 (dk_at dksX2_totalWith_0 2 rfl rfl)
theorem dX2_totalWith_3 : decode cX2_totalWith 3 = .ok (.istore 4, 2) := dk_54 4 (dk_at dksX2_totalWith_0 3 rfl rfl)
theorem dX2_totalWith_5 : decode cX2_totalWith 5 = .ok (.iload 4, 2) := dk_21 4 (dk_at dksX2_totalWith_0 5 rfl rfl)
theorem dX2_totalWith_7 : decode cX2_totalWith 7 = .ok (.aload_n 0, 1) := dk_42 (dk_at dksX2_totalWith_0 7 rfl rfl)
theorem dX2_totalWith_8 : decode cX2_totalWith 8 = .ok (.getfield 12, 3) := dk_180 0 12 (dk_at dksX2_totalWith_0 8 rfl rfl)
theorem dX2_totalWith_11 : decode cX2_totalWith 11 = .ok (.invokevirtual 44, 3) := dk_182 0 44 (dk_at dksX2_totalWith_0 11 rfl rfl)
theorem dX2_totalWith_14 : decode cX2_totalWith 14 = .ok (.if_icmp .ge 33, 3) := dk_162 0 33 (dk_at dksX2_totalWith_0 14 rfl rfl)
theorem dX2_totalWith_17 : decode cX2_totalWith 17 = .ok (.iload_n 3, 1) := dk_29 (dk_at dksX2_totalWith_0 17 rfl rfl)
theorem dX2_totalWith_18 : decode cX2_totalWith 18 = .ok (.aload_n 0, 1) := dk_42 (dk_at dksX2_totalWith_0 18 rfl rfl)
theorem dX2_totalWith_19 : decode cX2_totalWith 19 = .ok (.aload_n 0, 1) := dk_42 (dk_at dksX2_totalWith_0 19 rfl rfl)
theorem dX2_totalWith_20 : decode cX2_totalWith 20 = .ok (.getfield 12, 3) := dk_180 0 12 (dk_at dksX2_totalWith_0 20 rfl rfl)
theorem dX2_totalWith_23 : decode cX2_totalWith 23 = .ok (.iload 4, 2) := dk_21 4 (dk_at dksX2_totalWith_1 0 rfl rfl)
theorem dX2_totalWith_25 : decode cX2_totalWith 25 = .ok (.invokevirtual 48, 3) := dk_182 0 48 (dk_at dksX2_totalWith_1 2 rfl rfl)
theorem dX2_totalWith_28 : decode cX2_totalWith 28 = .ok (.checkcast 52, 3) := dk_192 0 52 (dk_at dksX2_totalWith_1 5 rfl rfl)
theorem dX2_totalWith_31 : decode cX2_totalWith 31 = .ok (.aload_n 1, 1) := dk_43 (dk_at dksX2_totalWith_1 8 rfl rfl)
theorem dX2_totalWith_32 : decode cX2_totalWith 32 = .ok (.iload_n 2, 1) := dk_28 (dk_at dksX2_totalWith_1 9 rfl rfl)
theorem dX2_totalWith_33 : decode cX2_totalWith 33 = .ok (.invokestatic 122, 3) := dk_184 0 122 (dk_at dksX2_totalWith_1 10 rfl rfl)
theorem dX2_totalWith_36 : decode cX2_totalWith 36 = .ok (.invokevirtual 138, 3) := dk_182 0 138 (dk_at dksX2_totalWith_1 13 rfl rfl)
theorem dX2_totalWith_39 : decode cX2_totalWith 39 = .ok (.iadd, 1) := dk_96 (dk_at dksX2_totalWith_1 16 rfl rfl)
theorem dX2_totalWith_40 : decode cX2_totalWith 40 = .ok (.istore_n 3, 1) := dk_62 (dk_at dksX2_totalWith_1 17 rfl rfl)
theorem dX2_totalWith_41 : decode cX2_totalWith 41 = .ok (.iinc 4 1, 3) := dk_132 4 1 (dk_at dksX2_totalWith_1 18 rfl rfl)
theorem dX2_totalWith_44 : decode cX2_totalWith 44 = .ok (.goto (-39), 3) := dk_167 255 217 (dk_at dksX2_totalWith_1 21 rfl rfl)
theorem dX2_totalWith_47 : decode cX2_totalWith 47 = .ok (.iload_n 3, 1) := dk_29 (dk_at dksX2_totalWith_2 0 rfl rfl)
theorem dX2_totalWith_48 : decode cX2_totalWith 48 = .ok (.ireturn, 1) := dk_172 (dk_at dksX2_totalWith_2 1 rfl rfl)
abbrev cX2_output : ByteArray := prog_11_method_9_code
def yX2_output : MethodName := ⟨RX2, "output", "(LWindFarmDispatcher$Turbine;LWindFarmDispatcher$Direction;I)I"⟩
def dkwX2_output_0 : List UInt8 := [43, 180, 0, 67, 43, 29, 42, 43, 44, 182, 0, 118, 182, 0, 129, 185, 0, 133, 2, 0, 172]
abbrev dktX2_output_0 : List UInt8 := dkwX2_output_0 ++ []
theorem dksX2_output_0 : cX2_output.data.toList.drop 0 = dktX2_output_0 := by decide +kernel
theorem dX2_output_0 : decode cX2_output 0 = .ok (.aload_n 1, 1) := dk_43 (dk_at dksX2_output_0 0 rfl rfl)
theorem dX2_output_1 : decode cX2_output 1 = .ok (.getfield 67, 3) := dk_180 0 67 (dk_at dksX2_output_0 1 rfl rfl)
theorem dX2_output_4 : decode cX2_output 4 = .ok (.aload_n 1, 1) := dk_43 (dk_at dksX2_output_0 4 rfl rfl)
theorem dX2_output_5 : decode cX2_output 5 = .ok (.iload_n 3, 1) := dk_29 (dk_at dksX2_output_0 5 rfl rfl)
theorem dX2_output_6 : decode cX2_output 6 = .ok (.aload_n 0, 1) := dk_42 (dk_at dksX2_output_0 6 rfl rfl)
theorem dX2_output_7 : decode cX2_output 7 = .ok (.aload_n 1, 1) := dk_43 (dk_at dksX2_output_0 7 rfl rfl)
theorem dX2_output_8 : decode cX2_output 8 = .ok (.aload_n 2, 1) := dk_44 (dk_at dksX2_output_0 8 rfl rfl)
theorem dX2_output_9 : decode cX2_output 9 = .ok (.invokevirtual 118, 3) := dk_182 0 118 (dk_at dksX2_output_0 9 rfl rfl)
theorem dX2_output_12 : decode cX2_output 12 = .ok (.invokevirtual 129, 3) := dk_182 0 129 (dk_at dksX2_output_0 12 rfl rfl)
theorem dX2_output_15 : decode cX2_output 15 = .ok (.invokeinterface 133 2, 5) := by decide +kernel
theorem dX2_output_20 : decode cX2_output 20 = .ok (.ireturn, 1) := dk_172 (dk_at dksX2_output_0 20 rfl rfl)
abbrev cX2_wakeLoss : ByteArray := prog_11_method_6_code
def yX2_wakeLoss : MethodName := ⟨RX2, "wakeLoss", "(LWindFarmDispatcher$Turbine;LWindFarmDispatcher$Direction;)I"⟩
def dkwX2_wakeLoss_2 : List UInt8 := [21, 4, 44, 182, 0, 112, 96, 182, 0, 115, 153, 0, 7, 4, 167, 0, 4, 3, 96, 172]
abbrev dktX2_wakeLoss_2 : List UInt8 := dkwX2_wakeLoss_2 ++ []
def dkwX2_wakeLoss_1 : List UInt8 := [21, 4, 182, 0, 115, 153, 0, 7, 6, 167, 0, 4, 3, 54, 5, 21, 5, 42, 29, 44, 182, 0, 109, 96]
abbrev dktX2_wakeLoss_1 : List UInt8 := dkwX2_wakeLoss_1 ++ dktX2_wakeLoss_2
def dkwX2_wakeLoss_0 : List UInt8 := [43, 180, 0, 54, 44, 182, 0, 109, 96, 62, 43, 180, 0, 57, 44, 182, 0, 112, 96, 54, 4, 42, 29]
abbrev dktX2_wakeLoss_0 : List UInt8 := dkwX2_wakeLoss_0 ++ dktX2_wakeLoss_1
theorem dksX2_wakeLoss_0 : cX2_wakeLoss.data.toList.drop 0 = dktX2_wakeLoss_0 := by decide +kernel
theorem dksX2_wakeLoss_1 : cX2_wakeLoss.data.toList.drop 23 = dktX2_wakeLoss_1 := dk_seg dksX2_wakeLoss_0 23 rfl rfl
theorem dksX2_wakeLoss_2 : cX2_wakeLoss.data.toList.drop 47 = dktX2_wakeLoss_2 := dk_seg dksX2_wakeLoss_1 24 rfl rfl
theorem dX2_wakeLoss_0 : decode cX2_wakeLoss 0 = .ok (.aload_n 1, 1) := dk_43 (dk_at dksX2_wakeLoss_0 0 rfl rfl)
theorem dX2_wakeLoss_1 : decode cX2_wakeLoss 1 = .ok (.getfield 54, 3) := dk_180 0 54 (dk_at dksX2_wakeLoss_0 1 rfl rfl)
theorem dX2_wakeLoss_4 : decode cX2_wakeLoss 4 = .ok (.aload_n 2, 1) := dk_44 (dk_at dksX2_wakeLoss_0 4 rfl rfl)
theorem dX2_wakeLoss_5 : decode cX2_wakeLoss 5 = .ok (.invokevirtual 109, 3) := dk_182 0 109 (dk_at dksX2_wakeLoss_0 5 rfl rfl)
theorem dX2_wakeLoss_8 : decode cX2_wakeLoss 8 = .ok (.iadd, 1) := dk_96 (dk_at dksX2_wakeLoss_0 8 rfl rfl)
theorem dX2_wakeLoss_9 : decode cX2_wakeLoss 9 = .ok (.istore_n 3, 1) := dk_62 (dk_at dksX2_wakeLoss_0 9 rfl rfl)
theorem dX2_wakeLoss_10 : decode cX2_wakeLoss 10 = .ok (.aload_n 1, 1) := dk_43 (dk_at dksX2_wakeLoss_0 10 rfl rfl)
theorem dX2_wakeLoss_11 : decode cX2_wakeLoss 11 = .ok (.getfield 57, 3) := dk_180 0 57 (dk_at dksX2_wakeLoss_0 11 rfl rfl)
theorem dX2_wakeLoss_14 : decode cX2_wakeLoss 14 = .ok (.aload_n 2, 1) := dk_44 (dk_at dksX2_wakeLoss_0 14 rfl rfl)
theorem dX2_wakeLoss_15 : decode cX2_wakeLoss 15 = .ok (.invokevirtual 112, 3) := dk_182 0 112 (dk_at dksX2_wakeLoss_0 15 rfl rfl)
theorem dX2_wakeLoss_18 : decode cX2_wakeLoss 18 = .ok (.iadd, 1) := dk_96 (dk_at dksX2_wakeLoss_0 18 rfl rfl)
theorem dX2_wakeLoss_19 : decode cX2_wakeLoss 19 = .ok (.istore 4, 2) := dk_54 4 (dk_at dksX2_wakeLoss_0 19 rfl rfl)
theorem dX2_wakeLoss_21 : decode cX2_wakeLoss 21 = .ok (.aload_n 0, 1) := dk_42 (dk_at dksX2_wakeLoss_0 21 rfl rfl)
theorem dX2_wakeLoss_22 : decode cX2_wakeLoss 22 = .ok (.iload_n 3, 1) := dk_29 (dk_at dksX2_wakeLoss_0 22 rfl rfl)
theorem dX2_wakeLoss_23 : decode cX2_wakeLoss 23 = .ok (.iload 4, 2) := dk_21 4 (dk_at dksX2_wakeLoss_1 0 rfl rfl)
theorem dX2_wakeLoss_25 : decode cX2_wakeLoss 25 = .ok (.invokevirtual 115, 3) := dk_182 0 115 (dk_at dksX2_wakeLoss_1 2 rfl rfl)
theorem dX2_wakeLoss_28 : decode cX2_wakeLoss 28 = .ok (.ifCond .eq 7, 3) := dk_153 0 7 (dk_at dksX2_wakeLoss_1 5 rfl rfl)
theorem dX2_wakeLoss_31 : decode cX2_wakeLoss 31 = .ok (.iconst 3, 1) := dk_6 (dk_at dksX2_wakeLoss_1 8 rfl rfl)
theorem dX2_wakeLoss_32 : decode cX2_wakeLoss 32 = .ok (.goto 4, 3) := dk_167 0 4 (dk_at dksX2_wakeLoss_1 9 rfl rfl)
theorem dX2_wakeLoss_35 : decode cX2_wakeLoss 35 = .ok (.iconst 0, 1) := dk_3 (dk_at dksX2_wakeLoss_1 12 rfl rfl)
theorem dX2_wakeLoss_36 : decode cX2_wakeLoss 36 = .ok (.istore 5, 2) := dk_54 5 (dk_at dksX2_wakeLoss_1 13 rfl rfl)
theorem dX2_wakeLoss_38 : decode cX2_wakeLoss 38 = .ok (.iload 5, 2) := dk_21 5 (dk_at dksX2_wakeLoss_1 15 rfl rfl)
theorem dX2_wakeLoss_40 : decode cX2_wakeLoss 40 = .ok (.aload_n 0, 1) := dk_42 (dk_at dksX2_wakeLoss_1 17 rfl rfl)
theorem dX2_wakeLoss_41 : decode cX2_wakeLoss 41 = .ok (.iload_n 3, 1) := dk_29 (dk_at dksX2_wakeLoss_1 18 rfl rfl)
theorem dX2_wakeLoss_42 : decode cX2_wakeLoss 42 = .ok (.aload_n 2, 1) := dk_44 (dk_at dksX2_wakeLoss_1 19 rfl rfl)
theorem dX2_wakeLoss_43 : decode cX2_wakeLoss 43 = .ok (.invokevirtual 109, 3) := dk_182 0 109 (dk_at dksX2_wakeLoss_1 20 rfl rfl)
theorem dX2_wakeLoss_46 : decode cX2_wakeLoss 46 = .ok (.iadd, 1) := dk_96 (dk_at dksX2_wakeLoss_1 23 rfl rfl)
theorem dX2_wakeLoss_47 : decode cX2_wakeLoss 47 = .ok (.iload 4, 2) := dk_21 4 (dk_at dksX2_wakeLoss_2 0 rfl rfl)
theorem dX2_wakeLoss_49 : decode cX2_wakeLoss 49 = .ok (.aload_n 2, 1) := dk_44 (dk_at dksX2_wakeLoss_2 2 rfl rfl)
theorem dX2_wakeLoss_50 : decode cX2_wakeLoss 50 = .ok (.invokevirtual 112, 3) := dk_182 0 112 (dk_at dksX2_wakeLoss_2 3 rfl rfl)
theorem dX2_wakeLoss_53 : decode cX2_wakeLoss 53 = .ok (.iadd, 1) := dk_96 (dk_at dksX2_wakeLoss_2 6 rfl rfl)
theorem dX2_wakeLoss_54 : decode cX2_wakeLoss 54 = .ok (.invokevirtual 115, 3) := dk_182 0 115 (dk_at dksX2_wakeLoss_2 7 rfl rfl)
theorem dX2_wakeLoss_57 : decode cX2_wakeLoss 57 = .ok (.ifCond .eq 7, 3) := dk_153 0 7 (dk_at dksX2_wakeLoss_2 10 rfl rfl)
theorem dX2_wakeLoss_60 : decode cX2_wakeLoss 60 = .ok (.iconst 1, 1) := dk_4 (dk_at dksX2_wakeLoss_2 13 rfl rfl)
theorem dX2_wakeLoss_61 : decode cX2_wakeLoss 61 = .ok (.goto 4, 3) := dk_167 0 4 (dk_at dksX2_wakeLoss_2 14 rfl rfl)
theorem dX2_wakeLoss_64 : decode cX2_wakeLoss 64 = .ok (.iconst 0, 1) := dk_3 (dk_at dksX2_wakeLoss_2 17 rfl rfl)
theorem dX2_wakeLoss_65 : decode cX2_wakeLoss 65 = .ok (.iadd, 1) := dk_96 (dk_at dksX2_wakeLoss_2 18 rfl rfl)
theorem dX2_wakeLoss_66 : decode cX2_wakeLoss 66 = .ok (.ireturn, 1) := dk_172 (dk_at dksX2_wakeLoss_2 19 rfl rfl)
abbrev cX2_isRunningAt : ByteArray := prog_11_method_5_code
def yX2_isRunningAt : MethodName := ⟨RX2, "isRunningAt", "(II)Z"⟩
def dkwX2_isRunningAt_1 : List UInt8 := [50, 28, 50, 182, 0, 105, 153, 0, 7, 4, 167, 0, 4, 3, 172]
abbrev dktX2_isRunningAt_1 : List UInt8 := dkwX2_isRunningAt_1 ++ []
def dkwX2_isRunningAt_0 : List UInt8 := [27, 28, 184, 0, 101, 153, 0, 32, 42, 180, 0, 20, 27, 50, 28, 50, 198, 0, 21, 42, 180, 0, 20, 27]
abbrev dktX2_isRunningAt_0 : List UInt8 := dkwX2_isRunningAt_0 ++ dktX2_isRunningAt_1
theorem dksX2_isRunningAt_0 : cX2_isRunningAt.data.toList.drop 0 = dktX2_isRunningAt_0 := by decide +kernel
theorem dksX2_isRunningAt_1 : cX2_isRunningAt.data.toList.drop 24 = dktX2_isRunningAt_1 := dk_seg dksX2_isRunningAt_0 24 rfl rfl
theorem dX2_isRunningAt_0 : decode cX2_isRunningAt 0 = .ok (.iload_n 1, 1) := dk_27 (dk_at dksX2_isRunningAt_0 0 rfl rfl)
theorem dX2_isRunningAt_1 : decode cX2_isRunningAt 1 = .ok (.iload_n 2, 1) := dk_28 (dk_at dksX2_isRunningAt_0 1 rfl rfl)
theorem dX2_isRunningAt_2 : decode cX2_isRunningAt 2 = .ok (.invokestatic 101, 3) := dk_184 0 101 (dk_at dksX2_isRunningAt_0 2 rfl rfl)
theorem dX2_isRunningAt_5 : decode cX2_isRunningAt 5 = .ok (.ifCond .eq 32, 3) := dk_153 0 32 (dk_at dksX2_isRunningAt_0 5 rfl rfl)
theorem dX2_isRunningAt_8 : decode cX2_isRunningAt 8 = .ok (.aload_n 0, 1) := dk_42 (dk_at dksX2_isRunningAt_0 8 rfl rfl)
theorem dX2_isRunningAt_9 : decode cX2_isRunningAt 9 = .ok (.getfield 20, 3) := dk_180 0 20 (dk_at dksX2_isRunningAt_0 9 rfl rfl)
theorem dX2_isRunningAt_12 : decode cX2_isRunningAt 12 = .ok (.iload_n 1, 1) := dk_27 (dk_at dksX2_isRunningAt_0 12 rfl rfl)
theorem dX2_isRunningAt_13 : decode cX2_isRunningAt 13 = .ok (.aaload, 1) := dk_50 (dk_at dksX2_isRunningAt_0 13 rfl rfl)
theorem dX2_isRunningAt_14 : decode cX2_isRunningAt 14 = .ok (.iload_n 2, 1) := dk_28 (dk_at dksX2_isRunningAt_0 14 rfl rfl)
theorem dX2_isRunningAt_15 : decode cX2_isRunningAt 15 = .ok (.aaload, 1) := dk_50 (dk_at dksX2_isRunningAt_0 15 rfl rfl)
theorem dX2_isRunningAt_16 : decode cX2_isRunningAt 16 = .ok (.ifnull 21, 3) := dk_198 0 21 (dk_at dksX2_isRunningAt_0 16 rfl rfl)
theorem dX2_isRunningAt_19 : decode cX2_isRunningAt 19 = .ok (.aload_n 0, 1) := dk_42 (dk_at dksX2_isRunningAt_0 19 rfl rfl)
theorem dX2_isRunningAt_20 : decode cX2_isRunningAt 20 = .ok (.getfield 20, 3) := dk_180 0 20 (dk_at dksX2_isRunningAt_0 20 rfl rfl)
theorem dX2_isRunningAt_23 : decode cX2_isRunningAt 23 = .ok (.iload_n 1, 1) := dk_27 (dk_at dksX2_isRunningAt_0 23 rfl rfl)
theorem dX2_isRunningAt_24 : decode cX2_isRunningAt 24 = .ok (.aaload, 1) := dk_50 (dk_at dksX2_isRunningAt_1 0 rfl rfl)
theorem dX2_isRunningAt_25 : decode cX2_isRunningAt 25 = .ok (.iload_n 2, 1) := dk_28 (dk_at dksX2_isRunningAt_1 1 rfl rfl)
theorem dX2_isRunningAt_26 : decode cX2_isRunningAt 26 = .ok (.aaload, 1) := dk_50 (dk_at dksX2_isRunningAt_1 2 rfl rfl)
theorem dX2_isRunningAt_27 : decode cX2_isRunningAt 27 = .ok (.invokevirtual 105, 3) := dk_182 0 105 (dk_at dksX2_isRunningAt_1 3 rfl rfl)
theorem dX2_isRunningAt_30 : decode cX2_isRunningAt 30 = .ok (.ifCond .eq 7, 3) := dk_153 0 7 (dk_at dksX2_isRunningAt_1 6 rfl rfl)
theorem dX2_isRunningAt_33 : decode cX2_isRunningAt 33 = .ok (.iconst 1, 1) := dk_4 (dk_at dksX2_isRunningAt_1 9 rfl rfl)
theorem dX2_isRunningAt_34 : decode cX2_isRunningAt 34 = .ok (.goto 4, 3) := dk_167 0 4 (dk_at dksX2_isRunningAt_1 10 rfl rfl)
theorem dX2_isRunningAt_37 : decode cX2_isRunningAt 37 = .ok (.iconst 0, 1) := dk_3 (dk_at dksX2_isRunningAt_1 13 rfl rfl)
theorem dX2_isRunningAt_38 : decode cX2_isRunningAt 38 = .ok (.ireturn, 1) := dk_172 (dk_at dksX2_isRunningAt_1 14 rfl rfl)
abbrev cX2_totalByLines : ByteArray := prog_11_method_13_code
def yX2_totalByLines : MethodName := ⟨RX2, "totalByLines", "()I"⟩
def dkwX2_totalByLines_1 : List UInt8 := [162, 0, 17, 28, 42, 29, 182, 0, 149, 96, 61, 132, 3, 1, 167, 255, 240, 28, 172]
abbrev dktX2_totalByLines_1 : List UInt8 := dkwX2_totalByLines_1 ++ []
def dkwX2_totalByLines_0 : List UInt8 := [42, 180, 0, 36, 182, 0, 146, 153, 0, 8, 16, 6, 167, 0, 4, 8, 60, 3, 61, 3, 62, 29, 27]
abbrev dktX2_totalByLines_0 : List UInt8 := dkwX2_totalByLines_0 ++ dktX2_totalByLines_1
theorem dksX2_totalByLines_0 : cX2_totalByLines.data.toList.drop 0 = dktX2_totalByLines_0 := by decide +kernel
theorem dksX2_totalByLines_1 : cX2_totalByLines.data.toList.drop 23 = dktX2_totalByLines_1 := dk_seg dksX2_totalByLines_0 23 rfl rfl
theorem dX2_totalByLines_0 : decode cX2_totalByLines 0 = .ok (.aload_n 0, 1) := dk_42 (dk_at dksX2_totalByLines_0 0 rfl rfl)
theorem dX2_totalByLines_1 : decode cX2_totalByLines 1 = .ok (.getfield 36, 3) := dk_180 0 36 (dk_at dksX2_totalByLines_0 1 rfl rfl)
theorem dX2_totalByLines_4 : decode cX2_totalByLines 4 = .ok (.invokevirtual 146, 3) := dk_182 0 146 (dk_at dksX2_totalByLines_0 4 rfl rfl)
theorem dX2_totalByLines_7 : decode cX2_totalByLines 7 = .ok (.ifCond .eq 8, 3) := dk_153 0 8 (dk_at dksX2_totalByLines_0 7 rfl rfl)
theorem dX2_totalByLines_10 : decode cX2_totalByLines 10 = .ok (.bipush 6, 2) := dk_16 6 (dk_at dksX2_totalByLines_0 10 rfl rfl)
theorem dX2_totalByLines_12 : decode cX2_totalByLines 12 = .ok (.goto 4, 3) := dk_167 0 4 (dk_at dksX2_totalByLines_0 12 rfl rfl)
theorem dX2_totalByLines_15 : decode cX2_totalByLines 15 = .ok (.iconst 5, 1) := dk_8 (dk_at dksX2_totalByLines_0 15 rfl rfl)
theorem dX2_totalByLines_16 : decode cX2_totalByLines 16 = .ok (.istore_n 1, 1) := dk_60 (dk_at dksX2_totalByLines_0 16 rfl rfl)
theorem dX2_totalByLines_17 : decode cX2_totalByLines 17 = .ok (.iconst 0, 1) := dk_3 (dk_at dksX2_totalByLines_0 17 rfl rfl)
theorem dX2_totalByLines_18 : decode cX2_totalByLines 18 = .ok (.istore_n 2, 1) := dk_61 (dk_at dksX2_totalByLines_0 18 rfl rfl)
theorem dX2_totalByLines_19 : decode cX2_totalByLines 19 = .ok (.iconst 0, 1) := dk_3 (dk_at dksX2_totalByLines_0 19 rfl rfl)
theorem dX2_totalByLines_20 : decode cX2_totalByLines 20 = .ok (.istore_n 3, 1) := dk_62 (dk_at dksX2_totalByLines_0 20 rfl rfl)
theorem dX2_totalByLines_21 : decode cX2_totalByLines 21 = .ok (.iload_n 3, 1) := dk_29 (dk_at dksX2_totalByLines_0 21 rfl rfl)
theorem dX2_totalByLines_22 : decode cX2_totalByLines 22 = .ok (.iload_n 1, 1) := dk_27 (dk_at dksX2_totalByLines_0 22 rfl rfl)
theorem dX2_totalByLines_23 : decode cX2_totalByLines 23 = .ok (.if_icmp .ge 17, 3) := dk_162 0 17 (dk_at dksX2_totalByLines_1 0 rfl rfl)
theorem dX2_totalByLines_26 : decode cX2_totalByLines 26 = .ok (.iload_n 2, 1) := dk_28 (dk_at dksX2_totalByLines_1 3 rfl rfl)
theorem dX2_totalByLines_27 : decode cX2_totalByLines 27 = .ok (.aload_n 0, 1) := dk_42 (dk_at dksX2_totalByLines_1 4 rfl rfl)
theorem dX2_totalByLines_28 : decode cX2_totalByLines 28 = .ok (.iload_n 3, 1) := dk_29 (dk_at dksX2_totalByLines_1 5 rfl rfl)
theorem dX2_totalByLines_29 : decode cX2_totalByLines 29 = .ok (.invokevirtual 149, 3) := dk_182 0 149 (dk_at dksX2_totalByLines_1 6 rfl rfl)
theorem dX2_totalByLines_32 : decode cX2_totalByLines 32 = .ok (.iadd, 1) := dk_96 (dk_at dksX2_totalByLines_1 9 rfl rfl)
theorem dX2_totalByLines_33 : decode cX2_totalByLines 33 = .ok (.istore_n 2, 1) := dk_61 (dk_at dksX2_totalByLines_1 10 rfl rfl)
theorem dX2_totalByLines_34 : decode cX2_totalByLines 34 = .ok (.iinc 3 1, 3) := dk_132 3 1 (dk_at dksX2_totalByLines_1 11 rfl rfl)
theorem dX2_totalByLines_37 : decode cX2_totalByLines 37 = .ok (.goto (-16), 3) := dk_167 255 240 (dk_at dksX2_totalByLines_1 14 rfl rfl)
theorem dX2_totalByLines_40 : decode cX2_totalByLines 40 = .ok (.iload_n 2, 1) := dk_28 (dk_at dksX2_totalByLines_1 17 rfl rfl)
theorem dX2_totalByLines_41 : decode cX2_totalByLines 41 = .ok (.ireturn, 1) := dk_172 (dk_at dksX2_totalByLines_1 18 rfl rfl)
abbrev cX2_outputOfLine : ByteArray := prog_11_method_14_code
def yX2_outputOfLine : MethodName := ⟨RX2, "outputOfLine", "(I)I"⟩
def dkwX2_outputOfLine_9 : List UInt8 := [172]
abbrev dktX2_outputOfLine_9 : List UInt8 := dkwX2_outputOfLine_9 ++ []
def dkwX2_outputOfLine_8 : List UInt8 := [185, 0, 133, 2, 0, 96, 54, 8, 21, 6, 54, 7, 21, 12, 54, 6, 132, 9, 1, 167, 255, 116, 21, 8]
abbrev dktX2_outputOfLine_8 : List UInt8 := dkwX2_outputOfLine_8 ++ dktX2_outputOfLine_9
def dkwX2_outputOfLine_7 : List UInt8 := [54, 13, 21, 8, 25, 11, 180, 0, 67, 25, 11, 180, 0, 60, 3, 21, 5, 21, 13, 100, 184, 0, 152, 104]
abbrev dktX2_outputOfLine_7 : List UInt8 := dkwX2_outputOfLine_7 ++ dktX2_outputOfLine_8
def dkwX2_outputOfLine_6 : List UInt8 := [153, 0, 56, 21, 6, 153, 0, 7, 6, 167, 0, 4, 3, 21, 7, 153, 0, 7, 4, 167, 0, 4, 3, 96]
abbrev dktX2_outputOfLine_6 : List UInt8 := dkwX2_outputOfLine_6 ++ dktX2_outputOfLine_7
def dkwX2_outputOfLine_5 : List UInt8 := [58, 11, 25, 11, 198, 0, 15, 25, 11, 182, 0, 105, 153, 0, 7, 4, 167, 0, 4, 3, 54, 12, 21, 12]
abbrev dktX2_outputOfLine_5 : List UInt8 := dkwX2_outputOfLine_5 ++ dktX2_outputOfLine_6
def dkwX2_outputOfLine_4 : List UInt8 := [153, 0, 15, 42, 180, 0, 20, 21, 10, 50, 27, 50, 167, 0, 12, 42, 180, 0, 20, 27, 50, 21, 10, 50]
abbrev dktX2_outputOfLine_4 : List UInt8 := dkwX2_outputOfLine_4 ++ dktX2_outputOfLine_5
def dkwX2_outputOfLine_3 : List UInt8 := [162, 0, 140, 21, 4, 153, 0, 8, 21, 9, 167, 0, 9, 29, 4, 100, 21, 9, 100, 54, 10, 28]
abbrev dktX2_outputOfLine_3 : List UInt8 := dkwX2_outputOfLine_3 ++ dktX2_outputOfLine_4
def dkwX2_outputOfLine_2 : List UInt8 := [180, 0, 71, 184, 0, 122, 54, 5, 3, 54, 6, 3, 54, 7, 3, 54, 8, 3, 54, 9, 21, 9, 29]
abbrev dktX2_outputOfLine_2 : List UInt8 := dkwX2_outputOfLine_2 ++ dktX2_outputOfLine_3
def dkwX2_outputOfLine_1 : List UInt8 := [182, 0, 109, 42, 180, 0, 36, 182, 0, 112, 96, 156, 0, 7, 4, 167, 0, 4, 3, 54, 4, 42]
abbrev dktX2_outputOfLine_1 : List UInt8 := dkwX2_outputOfLine_1 ++ dktX2_outputOfLine_2
def dkwX2_outputOfLine_0 : List UInt8 := [42, 180, 0, 36, 182, 0, 146, 61, 28, 153, 0, 7, 8, 167, 0, 5, 16, 6, 62, 42, 180, 0, 36]
abbrev dktX2_outputOfLine_0 : List UInt8 := dkwX2_outputOfLine_0 ++ dktX2_outputOfLine_1
theorem dksX2_outputOfLine_0 : cX2_outputOfLine.data.toList.drop 0 = dktX2_outputOfLine_0 := by decide +kernel
theorem dksX2_outputOfLine_1 : cX2_outputOfLine.data.toList.drop 23 = dktX2_outputOfLine_1 := dk_seg dksX2_outputOfLine_0 23 rfl rfl
theorem dksX2_outputOfLine_2 : cX2_outputOfLine.data.toList.drop 45 = dktX2_outputOfLine_2 := dk_seg dksX2_outputOfLine_1 22 rfl rfl
theorem dksX2_outputOfLine_3 : cX2_outputOfLine.data.toList.drop 68 = dktX2_outputOfLine_3 := dk_seg dksX2_outputOfLine_2 23 rfl rfl
theorem dksX2_outputOfLine_4 : cX2_outputOfLine.data.toList.drop 90 = dktX2_outputOfLine_4 := dk_seg dksX2_outputOfLine_3 22 rfl rfl
theorem dksX2_outputOfLine_5 : cX2_outputOfLine.data.toList.drop 114 = dktX2_outputOfLine_5 := dk_seg dksX2_outputOfLine_4 24 rfl rfl
theorem dksX2_outputOfLine_6 : cX2_outputOfLine.data.toList.drop 138 = dktX2_outputOfLine_6 := dk_seg dksX2_outputOfLine_5 24 rfl rfl
theorem dksX2_outputOfLine_7 : cX2_outputOfLine.data.toList.drop 162 = dktX2_outputOfLine_7 := dk_seg dksX2_outputOfLine_6 24 rfl rfl
theorem dksX2_outputOfLine_8 : cX2_outputOfLine.data.toList.drop 186 = dktX2_outputOfLine_8 := dk_seg dksX2_outputOfLine_7 24 rfl rfl
theorem dksX2_outputOfLine_9 : cX2_outputOfLine.data.toList.drop 210 = dktX2_outputOfLine_9 := dk_seg dksX2_outputOfLine_8 24 rfl rfl
theorem dX2_outputOfLine_0 : decode cX2_outputOfLine 0 = .ok (.aload_n 0, 1) := dk_42 (dk_at dksX2_outputOfLine_0 0 rfl rfl)
theorem dX2_outputOfLine_1 : decode cX2_outputOfLine 1 = .ok (.getfield 36, 3) := dk_180 0 36 (dk_at dksX2_outputOfLine_0 1 rfl rfl)
theorem dX2_outputOfLine_4 : decode cX2_outputOfLine 4 = .ok (.invokevirtual 146, 3) := dk_182 0 146 (dk_at dksX2_outputOfLine_0 4 rfl rfl)
theorem dX2_outputOfLine_7 : decode cX2_outputOfLine 7 = .ok (.istore_n 2, 1) := dk_61 (dk_at dksX2_outputOfLine_0 7 rfl rfl)
theorem dX2_outputOfLine_8 : decode cX2_outputOfLine 8 = .ok (.iload_n 2, 1) := dk_28 (dk_at dksX2_outputOfLine_0 8 rfl rfl)
theorem dX2_outputOfLine_9 : decode cX2_outputOfLine 9 = .ok (.ifCond .eq 7, 3) := dk_153 0 7 (dk_at dksX2_outputOfLine_0 9 rfl rfl)
theorem dX2_outputOfLine_12 : decode cX2_outputOfLine 12 = .ok (.iconst 5, 1) := dk_8 (dk_at dksX2_outputOfLine_0 12 rfl rfl)
theorem dX2_outputOfLine_13 : decode cX2_outputOfLine 13 = .ok (.goto 5, 3) := dk_167 0 5 (dk_at dksX2_outputOfLine_0 13 rfl rfl)
theorem dX2_outputOfLine_16 : decode cX2_outputOfLine 16 = .ok (.bipush 6, 2) := dk_16 6 (dk_at dksX2_outputOfLine_0 16 rfl rfl)
theorem dX2_outputOfLine_18 : decode cX2_outputOfLine 18 = .ok (.istore_n 3, 1) := dk_62 (dk_at dksX2_outputOfLine_0 18 rfl rfl)
theorem dX2_outputOfLine_19 : decode cX2_outputOfLine 19 = .ok (.aload_n 0, 1) := dk_42 (dk_at dksX2_outputOfLine_0 19 rfl rfl)
theorem dX2_outputOfLine_20 : decode cX2_outputOfLine 20 = .ok (.getfield 36, 3) := dk_180 0 36 (dk_at dksX2_outputOfLine_0 20 rfl rfl)
theorem dX2_outputOfLine_23 : decode cX2_outputOfLine 23 = .ok (.invokevirtual 109, 3) := dk_182 0 109 (dk_at dksX2_outputOfLine_1 0 rfl rfl)
theorem dX2_outputOfLine_26 : decode cX2_outputOfLine 26 = .ok (.aload_n 0, 1) := dk_42 (dk_at dksX2_outputOfLine_1 3 rfl rfl)
theorem dX2_outputOfLine_27 : decode cX2_outputOfLine 27 = .ok (.getfield 36, 3) := dk_180 0 36 (dk_at dksX2_outputOfLine_1 4 rfl rfl)
theorem dX2_outputOfLine_30 : decode cX2_outputOfLine 30 = .ok (.invokevirtual 112, 3) := dk_182 0 112 (dk_at dksX2_outputOfLine_1 7 rfl rfl)
theorem dX2_outputOfLine_33 : decode cX2_outputOfLine 33 = .ok (.iadd, 1) := dk_96 (dk_at dksX2_outputOfLine_1 10 rfl rfl)
theorem dX2_outputOfLine_34 : decode cX2_outputOfLine 34 = .ok (.ifCond .ge 7, 3) := dk_156 0 7 (dk_at dksX2_outputOfLine_1 11 rfl rfl)
theorem dX2_outputOfLine_37 : decode cX2_outputOfLine 37 = .ok (.iconst 1, 1) := dk_4 (dk_at dksX2_outputOfLine_1 14 rfl rfl)
theorem dX2_outputOfLine_38 : decode cX2_outputOfLine 38 = .ok (.goto 4, 3) := dk_167 0 4 (dk_at dksX2_outputOfLine_1 15 rfl rfl)
theorem dX2_outputOfLine_41 : decode cX2_outputOfLine 41 = .ok (.iconst 0, 1) := dk_3 (dk_at dksX2_outputOfLine_1 18 rfl rfl)
theorem dX2_outputOfLine_42 : decode cX2_outputOfLine 42 = .ok (.istore 4, 2) := dk_54 4 (dk_at dksX2_outputOfLine_1 19 rfl rfl)
theorem dX2_outputOfLine_44 : decode cX2_outputOfLine 44 = .ok (.aload_n 0, 1) := dk_42 (dk_at dksX2_outputOfLine_1 21 rfl rfl)
theorem dX2_outputOfLine_45 : decode cX2_outputOfLine 45 = .ok (.getfield 71, 3) := dk_180 0 71 (dk_at dksX2_outputOfLine_2 0 rfl rfl)
theorem dX2_outputOfLine_48 : decode cX2_outputOfLine 48 = .ok (.invokestatic 122, 3) := dk_184 0 122 (dk_at dksX2_outputOfLine_2 3 rfl rfl)
theorem dX2_outputOfLine_51 : decode cX2_outputOfLine 51 = .ok (.istore 5, 2) := dk_54 5 (dk_at dksX2_outputOfLine_2 6 rfl rfl)
theorem dX2_outputOfLine_53 : decode cX2_outputOfLine 53 = .ok (.iconst 0, 1) := dk_3 (dk_at dksX2_outputOfLine_2 8 rfl rfl)
theorem dX2_outputOfLine_54 : decode cX2_outputOfLine 54 = .ok (.istore 6, 2) := dk_54 6 (dk_at dksX2_outputOfLine_2 9 rfl rfl)
theorem dX2_outputOfLine_56 : decode cX2_outputOfLine 56 = .ok (.iconst 0, 1) := dk_3 (dk_at dksX2_outputOfLine_2 11 rfl rfl)
theorem dX2_outputOfLine_57 : decode cX2_outputOfLine 57 = .ok (.istore 7, 2) := dk_54 7 (dk_at dksX2_outputOfLine_2 12 rfl rfl)
theorem dX2_outputOfLine_59 : decode cX2_outputOfLine 59 = .ok (.iconst 0, 1) := dk_3 (dk_at dksX2_outputOfLine_2 14 rfl rfl)
theorem dX2_outputOfLine_60 : decode cX2_outputOfLine 60 = .ok (.istore 8, 2) := dk_54 8 (dk_at dksX2_outputOfLine_2 15 rfl rfl)
theorem dX2_outputOfLine_62 : decode cX2_outputOfLine 62 = .ok (.iconst 0, 1) := dk_3 (dk_at dksX2_outputOfLine_2 17 rfl rfl)
theorem dX2_outputOfLine_63 : decode cX2_outputOfLine 63 = .ok (.istore 9, 2) := dk_54 9 (dk_at dksX2_outputOfLine_2 18 rfl rfl)
theorem dX2_outputOfLine_65 : decode cX2_outputOfLine 65 = .ok (.iload 9, 2) := dk_21 9 (dk_at dksX2_outputOfLine_2 20 rfl rfl)
theorem dX2_outputOfLine_67 : decode cX2_outputOfLine 67 = .ok (.iload_n 3, 1) := dk_29 (dk_at dksX2_outputOfLine_2 22 rfl rfl)
theorem dX2_outputOfLine_68 : decode cX2_outputOfLine 68 = .ok (.if_icmp .ge 140, 3) := dk_162 0 140 (dk_at dksX2_outputOfLine_3 0 rfl rfl)
theorem dX2_outputOfLine_71 : decode cX2_outputOfLine 71 = .ok (.iload 4, 2) := dk_21 4 (dk_at dksX2_outputOfLine_3 3 rfl rfl)
theorem dX2_outputOfLine_73 : decode cX2_outputOfLine 73 = .ok (.ifCond .eq 8, 3) := dk_153 0 8 (dk_at dksX2_outputOfLine_3 5 rfl rfl)
theorem dX2_outputOfLine_76 : decode cX2_outputOfLine 76 = .ok (.iload 9, 2) := dk_21 9 (dk_at dksX2_outputOfLine_3 8 rfl rfl)
theorem dX2_outputOfLine_78 : decode cX2_outputOfLine 78 = .ok (.goto 9, 3) := dk_167 0 9 (dk_at dksX2_outputOfLine_3 10 rfl rfl)
theorem dX2_outputOfLine_81 : decode cX2_outputOfLine 81 = .ok (.iload_n 3, 1) := dk_29 (dk_at dksX2_outputOfLine_3 13 rfl rfl)
theorem dX2_outputOfLine_82 : decode cX2_outputOfLine 82 = .ok (.iconst 1, 1) := dk_4 (dk_at dksX2_outputOfLine_3 14 rfl rfl)
theorem dX2_outputOfLine_83 : decode cX2_outputOfLine 83 = .ok (.isub, 1) := dk_100 (dk_at dksX2_outputOfLine_3 15 rfl rfl)
theorem dX2_outputOfLine_84 : decode cX2_outputOfLine 84 = .ok (.iload 9, 2) := dk_21 9 (dk_at dksX2_outputOfLine_3 16 rfl rfl)
theorem dX2_outputOfLine_86 : decode cX2_outputOfLine 86 = .ok (.isub, 1) := dk_100 (dk_at dksX2_outputOfLine_3 18 rfl rfl)
theorem dX2_outputOfLine_87 : decode cX2_outputOfLine 87 = .ok (.istore 10, 2) := dk_54 10 (dk_at dksX2_outputOfLine_3 19 rfl rfl)
theorem dX2_outputOfLine_89 : decode cX2_outputOfLine 89 = .ok (.iload_n 2, 1) := dk_28 (dk_at dksX2_outputOfLine_3 21 rfl rfl)
theorem dX2_outputOfLine_90 : decode cX2_outputOfLine 90 = .ok (.ifCond .eq 15, 3) := dk_153 0 15 (dk_at dksX2_outputOfLine_4 0 rfl rfl)
theorem dX2_outputOfLine_93 : decode cX2_outputOfLine 93 = .ok (.aload_n 0, 1) := dk_42 (dk_at dksX2_outputOfLine_4 3 rfl rfl)
theorem dX2_outputOfLine_94 : decode cX2_outputOfLine 94 = .ok (.getfield 20, 3) := dk_180 0 20 (dk_at dksX2_outputOfLine_4 4 rfl rfl)
theorem dX2_outputOfLine_97 : decode cX2_outputOfLine 97 = .ok (.iload 10, 2) := dk_21 10 (dk_at dksX2_outputOfLine_4 7 rfl rfl)
theorem dX2_outputOfLine_99 : decode cX2_outputOfLine 99 = .ok (.aaload, 1) := dk_50 (dk_at dksX2_outputOfLine_4 9 rfl rfl)
theorem dX2_outputOfLine_100 : decode cX2_outputOfLine 100 = .ok (.iload_n 1, 1) := dk_27 (dk_at dksX2_outputOfLine_4 10 rfl rfl)
theorem dX2_outputOfLine_101 : decode cX2_outputOfLine 101 = .ok (.aaload, 1) := dk_50 (dk_at dksX2_outputOfLine_4 11 rfl rfl)
theorem dX2_outputOfLine_102 : decode cX2_outputOfLine 102 = .ok (.goto 12, 3) := dk_167 0 12 (dk_at dksX2_outputOfLine_4 12 rfl rfl)
theorem dX2_outputOfLine_105 : decode cX2_outputOfLine 105 = .ok (.aload_n 0, 1) := dk_42 (dk_at dksX2_outputOfLine_4 15 rfl rfl)
theorem dX2_outputOfLine_106 : decode cX2_outputOfLine 106 = .ok (.getfield 20, 3) := dk_180 0 20 (dk_at dksX2_outputOfLine_4 16 rfl rfl)
theorem dX2_outputOfLine_109 : decode cX2_outputOfLine 109 = .ok (.iload_n 1, 1) := dk_27 (dk_at dksX2_outputOfLine_4 19 rfl rfl)
theorem dX2_outputOfLine_110 : decode cX2_outputOfLine 110 = .ok (.aaload, 1) := dk_50 (dk_at dksX2_outputOfLine_4 20 rfl rfl)
theorem dX2_outputOfLine_111 : decode cX2_outputOfLine 111 = .ok (.iload 10, 2) := dk_21 10 (dk_at dksX2_outputOfLine_4 21 rfl rfl)
theorem dX2_outputOfLine_113 : decode cX2_outputOfLine 113 = .ok (.aaload, 1) := dk_50 (dk_at dksX2_outputOfLine_4 23 rfl rfl)
theorem dX2_outputOfLine_114 : decode cX2_outputOfLine 114 = .ok (.astore 11, 2) := dk_58 11 (dk_at dksX2_outputOfLine_5 0 rfl rfl)
theorem dX2_outputOfLine_116 : decode cX2_outputOfLine 116 = .ok (.aload 11, 2) := dk_25 11 (dk_at dksX2_outputOfLine_5 2 rfl rfl)
theorem dX2_outputOfLine_118 : decode cX2_outputOfLine 118 = .ok (.ifnull 15, 3) := dk_198 0 15 (dk_at dksX2_outputOfLine_5 4 rfl rfl)
theorem dX2_outputOfLine_121 : decode cX2_outputOfLine 121 = .ok (.aload 11, 2) := dk_25 11 (dk_at dksX2_outputOfLine_5 7 rfl rfl)
theorem dX2_outputOfLine_123 : decode cX2_outputOfLine 123 = .ok (.invokevirtual 105, 3) := dk_182 0 105 (dk_at dksX2_outputOfLine_5 9 rfl rfl)
theorem dX2_outputOfLine_126 : decode cX2_outputOfLine 126 = .ok (.ifCond .eq 7, 3) := dk_153 0 7 (dk_at dksX2_outputOfLine_5 12 rfl rfl)
theorem dX2_outputOfLine_129 : decode cX2_outputOfLine 129 = .ok (.iconst 1, 1) := dk_4 (dk_at dksX2_outputOfLine_5 15 rfl rfl)
theorem dX2_outputOfLine_130 : decode cX2_outputOfLine 130 = .ok (.goto 4, 3) := dk_167 0 4 (dk_at dksX2_outputOfLine_5 16 rfl rfl)
theorem dX2_outputOfLine_133 : decode cX2_outputOfLine 133 = .ok (.iconst 0, 1) := dk_3 (dk_at dksX2_outputOfLine_5 19 rfl rfl)
theorem dX2_outputOfLine_134 : decode cX2_outputOfLine 134 = .ok (.istore 12, 2) := dk_54 12 (dk_at dksX2_outputOfLine_5 20 rfl rfl)
theorem dX2_outputOfLine_136 : decode cX2_outputOfLine 136 = .ok (.iload 12, 2) := dk_21 12 (dk_at dksX2_outputOfLine_5 22 rfl rfl)
theorem dX2_outputOfLine_138 : decode cX2_outputOfLine 138 = .ok (.ifCond .eq 56, 3) := dk_153 0 56 (dk_at dksX2_outputOfLine_6 0 rfl rfl)
theorem dX2_outputOfLine_141 : decode cX2_outputOfLine 141 = .ok (.iload 6, 2) := dk_21 6 (dk_at dksX2_outputOfLine_6 3 rfl rfl)
theorem dX2_outputOfLine_143 : decode cX2_outputOfLine 143 = .ok (.ifCond .eq 7, 3) := dk_153 0 7 (dk_at dksX2_outputOfLine_6 5 rfl rfl)
theorem dX2_outputOfLine_146 : decode cX2_outputOfLine 146 = .ok (.iconst 3, 1) := dk_6 (dk_at dksX2_outputOfLine_6 8 rfl rfl)
theorem dX2_outputOfLine_147 : decode cX2_outputOfLine 147 = .ok (.goto 4, 3) := dk_167 0 4 (dk_at dksX2_outputOfLine_6 9 rfl rfl)
theorem dX2_outputOfLine_150 : decode cX2_outputOfLine 150 = .ok (.iconst 0, 1) := dk_3 (dk_at dksX2_outputOfLine_6 12 rfl rfl)
theorem dX2_outputOfLine_151 : decode cX2_outputOfLine 151 = .ok (.iload 7, 2) := dk_21 7 (dk_at dksX2_outputOfLine_6 13 rfl rfl)
theorem dX2_outputOfLine_153 : decode cX2_outputOfLine 153 = .ok (.ifCond .eq 7, 3) := dk_153 0 7 (dk_at dksX2_outputOfLine_6 15 rfl rfl)
theorem dX2_outputOfLine_156 : decode cX2_outputOfLine 156 = .ok (.iconst 1, 1) := dk_4 (dk_at dksX2_outputOfLine_6 18 rfl rfl)
theorem dX2_outputOfLine_157 : decode cX2_outputOfLine 157 = .ok (.goto 4, 3) := dk_167 0 4 (dk_at dksX2_outputOfLine_6 19 rfl rfl)
theorem dX2_outputOfLine_160 : decode cX2_outputOfLine 160 = .ok (.iconst 0, 1) := dk_3 (dk_at dksX2_outputOfLine_6 22 rfl rfl)
theorem dX2_outputOfLine_161 : decode cX2_outputOfLine 161 = .ok (.iadd, 1) := dk_96 (dk_at dksX2_outputOfLine_6 23 rfl rfl)
theorem dX2_outputOfLine_162 : decode cX2_outputOfLine 162 = .ok (.istore 13, 2) := dk_54 13 (dk_at dksX2_outputOfLine_7 0 rfl rfl)
theorem dX2_outputOfLine_164 : decode cX2_outputOfLine 164 = .ok (.iload 8, 2) := dk_21 8 (dk_at dksX2_outputOfLine_7 2 rfl rfl)
theorem dX2_outputOfLine_166 : decode cX2_outputOfLine 166 = .ok (.aload 11, 2) := dk_25 11 (dk_at dksX2_outputOfLine_7 4 rfl rfl)
theorem dX2_outputOfLine_168 : decode cX2_outputOfLine 168 = .ok (.getfield 67, 3) := dk_180 0 67 (dk_at dksX2_outputOfLine_7 6 rfl rfl)
theorem dX2_outputOfLine_171 : decode cX2_outputOfLine 171 = .ok (.aload 11, 2) := dk_25 11 (dk_at dksX2_outputOfLine_7 9 rfl rfl)
theorem dX2_outputOfLine_173 : decode cX2_outputOfLine 173 = .ok (.getfield 60, 3) := dk_180 0 60 (dk_at dksX2_outputOfLine_7 11 rfl rfl)
theorem dX2_outputOfLine_176 : decode cX2_outputOfLine 176 = .ok (.iconst 0, 1) := dk_3 (dk_at dksX2_outputOfLine_7 14 rfl rfl)
theorem dX2_outputOfLine_177 : decode cX2_outputOfLine 177 = .ok (.iload 5, 2) := dk_21 5 (dk_at dksX2_outputOfLine_7 15 rfl rfl)
theorem dX2_outputOfLine_179 : decode cX2_outputOfLine 179 = .ok (.iload 13, 2) := dk_21 13 (dk_at dksX2_outputOfLine_7 17 rfl rfl)
theorem dX2_outputOfLine_181 : decode cX2_outputOfLine 181 = .ok (.isub, 1) := dk_100 (dk_at dksX2_outputOfLine_7 19 rfl rfl)
theorem dX2_outputOfLine_182 : decode cX2_outputOfLine 182 = .ok (.invokestatic 152, 3) := dk_184 0 152 (dk_at dksX2_outputOfLine_7 20 rfl rfl)
theorem dX2_outputOfLine_185 : decode cX2_outputOfLine 185 = .ok (.imul, 1) := dk_104 (dk_at dksX2_outputOfLine_7 23 rfl rfl)
theorem dX2_outputOfLine_186 : decode cX2_outputOfLine 186 = .ok (.invokeinterface 133 2, 5) := by decide +kernel
theorem dX2_outputOfLine_191 : decode cX2_outputOfLine 191 = .ok (.iadd, 1) := dk_96 (dk_at dksX2_outputOfLine_8 5 rfl rfl)
theorem dX2_outputOfLine_192 : decode cX2_outputOfLine 192 = .ok (.istore 8, 2) := dk_54 8 (dk_at dksX2_outputOfLine_8 6 rfl rfl)
theorem dX2_outputOfLine_194 : decode cX2_outputOfLine 194 = .ok (.iload 6, 2) := dk_21 6 (dk_at dksX2_outputOfLine_8 8 rfl rfl)
theorem dX2_outputOfLine_196 : decode cX2_outputOfLine 196 = .ok (.istore 7, 2) := dk_54 7 (dk_at dksX2_outputOfLine_8 10 rfl rfl)
theorem dX2_outputOfLine_198 : decode cX2_outputOfLine 198 = .ok (.iload 12, 2) := dk_21 12 (dk_at dksX2_outputOfLine_8 12 rfl rfl)
theorem dX2_outputOfLine_200 : decode cX2_outputOfLine 200 = .ok (.istore 6, 2) := dk_54 6 (dk_at dksX2_outputOfLine_8 14 rfl rfl)
theorem dX2_outputOfLine_202 : decode cX2_outputOfLine 202 = .ok (.iinc 9 1, 3) := dk_132 9 1 (dk_at dksX2_outputOfLine_8 16 rfl rfl)
theorem dX2_outputOfLine_205 : decode cX2_outputOfLine 205 = .ok (.goto (-140), 3) := dk_167 255 116 (dk_at dksX2_outputOfLine_8 19 rfl rfl)
theorem dX2_outputOfLine_208 : decode cX2_outputOfLine 208 = .ok (.iload 8, 2) := dk_21 8 (dk_at dksX2_outputOfLine_8 22 rfl rfl)
theorem dX2_outputOfLine_210 : decode cX2_outputOfLine 210 = .ok (.ireturn, 1) := dk_172 (dk_at dksX2_outputOfLine_9 0 rfl rfl)
abbrev cX2_bestDirection : ByteArray := prog_11_method_15_code
def yX2_bestDirection : MethodName := ⟨RX2, "bestDirection", "()LWindFarmDispatcher$Direction;"⟩
def dkwX2_bestDirection_3 : List UInt8 := [176]
abbrev dktX2_bestDirection_3 : List UInt8 := dkwX2_bestDirection_3 ++ []
def dkwX2_bestDirection_2 : List UInt8 := [164, 0, 8, 25, 6, 167, 0, 4, 43, 76, 28, 21, 7, 184, 0, 152, 61, 132, 5, 1, 167, 255, 208, 43]
abbrev dktX2_bestDirection_2 : List UInt8 := dkwX2_bestDirection_2 ++ dktX2_bestDirection_3
def dkwX2_bestDirection_1 : List UInt8 := [162, 0, 47, 45, 21, 5, 50, 58, 6, 42, 25, 6, 42, 180, 0, 71, 182, 0, 142, 54, 7, 21, 7, 28]
abbrev dktX2_bestDirection_1 : List UInt8 := dkwX2_bestDirection_1 ++ dktX2_bestDirection_2
def dkwX2_bestDirection_0 : List UInt8 := [42, 180, 0, 36, 76, 2, 61, 184, 0, 157, 78, 45, 190, 54, 4, 3, 54, 5, 21, 5, 21, 4]
abbrev dktX2_bestDirection_0 : List UInt8 := dkwX2_bestDirection_0 ++ dktX2_bestDirection_1
theorem dksX2_bestDirection_0 : cX2_bestDirection.data.toList.drop 0 = dktX2_bestDirection_0 := by decide +kernel
theorem dksX2_bestDirection_1 : cX2_bestDirection.data.toList.drop 22 = dktX2_bestDirection_1 := dk_seg dksX2_bestDirection_0 22 rfl rfl
theorem dksX2_bestDirection_2 : cX2_bestDirection.data.toList.drop 46 = dktX2_bestDirection_2 := dk_seg dksX2_bestDirection_1 24 rfl rfl
theorem dksX2_bestDirection_3 : cX2_bestDirection.data.toList.drop 70 = dktX2_bestDirection_3 := dk_seg dksX2_bestDirection_2 24 rfl rfl
theorem dX2_bestDirection_0 : decode cX2_bestDirection 0 = .ok (.aload_n 0, 1) := dk_42 (dk_at dksX2_bestDirection_0 0 rfl rfl)
theorem dX2_bestDirection_1 : decode cX2_bestDirection 1 = .ok (.getfield 36, 3) := dk_180 0 36 (dk_at dksX2_bestDirection_0 1 rfl rfl)
theorem dX2_bestDirection_4 : decode cX2_bestDirection 4 = .ok (.astore_n 1, 1) := dk_76 (dk_at dksX2_bestDirection_0 4 rfl rfl)
theorem dX2_bestDirection_5 : decode cX2_bestDirection 5 = .ok (.iconst (-1), 1) := dk_2 (dk_at dksX2_bestDirection_0 5 rfl rfl)
theorem dX2_bestDirection_6 : decode cX2_bestDirection 6 = .ok (.istore_n 2, 1) := dk_61 (dk_at dksX2_bestDirection_0 6 rfl rfl)
theorem dX2_bestDirection_7 : decode cX2_bestDirection 7 = .ok (.invokestatic 157, 3) := dk_184 0 157 (dk_at dksX2_bestDirection_0 7 rfl rfl)
theorem dX2_bestDirection_10 : decode cX2_bestDirection 10 = .ok (.astore_n 3, 1) := dk_78 (dk_at dksX2_bestDirection_0 10 rfl rfl)
theorem dX2_bestDirection_11 : decode cX2_bestDirection 11 = .ok (.aload_n 3, 1) := dk_45 (dk_at dksX2_bestDirection_0 11 rfl rfl)
theorem dX2_bestDirection_12 : decode cX2_bestDirection 12 = .ok (.arraylength, 1) := dk_190 (dk_at dksX2_bestDirection_0 12 rfl rfl)
theorem dX2_bestDirection_13 : decode cX2_bestDirection 13 = .ok (.istore 4, 2) := dk_54 4 (dk_at dksX2_bestDirection_0 13 rfl rfl)
theorem dX2_bestDirection_15 : decode cX2_bestDirection 15 = .ok (.iconst 0, 1) := dk_3 (dk_at dksX2_bestDirection_0 15 rfl rfl)
theorem dX2_bestDirection_16 : decode cX2_bestDirection 16 = .ok (.istore 5, 2) := dk_54 5 (dk_at dksX2_bestDirection_0 16 rfl rfl)
theorem dX2_bestDirection_18 : decode cX2_bestDirection 18 = .ok (.iload 5, 2) := dk_21 5 (dk_at dksX2_bestDirection_0 18 rfl rfl)
theorem dX2_bestDirection_20 : decode cX2_bestDirection 20 = .ok (.iload 4, 2) := dk_21 4 (dk_at dksX2_bestDirection_0 20 rfl rfl)
theorem dX2_bestDirection_22 : decode cX2_bestDirection 22 = .ok (.if_icmp .ge 47, 3) := dk_162 0 47 (dk_at dksX2_bestDirection_1 0 rfl rfl)
theorem dX2_bestDirection_25 : decode cX2_bestDirection 25 = .ok (.aload_n 3, 1) := dk_45 (dk_at dksX2_bestDirection_1 3 rfl rfl)
theorem dX2_bestDirection_26 : decode cX2_bestDirection 26 = .ok (.iload 5, 2) := dk_21 5 (dk_at dksX2_bestDirection_1 4 rfl rfl)
theorem dX2_bestDirection_28 : decode cX2_bestDirection 28 = .ok (.aaload, 1) := dk_50 (dk_at dksX2_bestDirection_1 6 rfl rfl)
theorem dX2_bestDirection_29 : decode cX2_bestDirection 29 = .ok (.astore 6, 2) := dk_58 6 (dk_at dksX2_bestDirection_1 7 rfl rfl)
theorem dX2_bestDirection_31 : decode cX2_bestDirection 31 = .ok (.aload_n 0, 1) := dk_42 (dk_at dksX2_bestDirection_1 9 rfl rfl)
theorem dX2_bestDirection_32 : decode cX2_bestDirection 32 = .ok (.aload 6, 2) := dk_25 6 (dk_at dksX2_bestDirection_1 10 rfl rfl)
theorem dX2_bestDirection_34 : decode cX2_bestDirection 34 = .ok (.aload_n 0, 1) := dk_42 (dk_at dksX2_bestDirection_1 12 rfl rfl)
theorem dX2_bestDirection_35 : decode cX2_bestDirection 35 = .ok (.getfield 71, 3) := dk_180 0 71 (dk_at dksX2_bestDirection_1 13 rfl rfl)
theorem dX2_bestDirection_38 : decode cX2_bestDirection 38 = .ok (.invokevirtual 142, 3) := dk_182 0 142 (dk_at dksX2_bestDirection_1 16 rfl rfl)
theorem dX2_bestDirection_41 : decode cX2_bestDirection 41 = .ok (.istore 7, 2) := dk_54 7 (dk_at dksX2_bestDirection_1 19 rfl rfl)
theorem dX2_bestDirection_43 : decode cX2_bestDirection 43 = .ok (.iload 7, 2) := dk_21 7 (dk_at dksX2_bestDirection_1 21 rfl rfl)
theorem dX2_bestDirection_45 : decode cX2_bestDirection 45 = .ok (.iload_n 2, 1) := dk_28 (dk_at dksX2_bestDirection_1 23 rfl rfl)
theorem dX2_bestDirection_46 : decode cX2_bestDirection 46 = .ok (.if_icmp .le 8, 3) := dk_164 0 8 (dk_at dksX2_bestDirection_2 0 rfl rfl)
theorem dX2_bestDirection_49 : decode cX2_bestDirection 49 = .ok (.aload 6, 2) := dk_25 6 (dk_at dksX2_bestDirection_2 3 rfl rfl)
theorem dX2_bestDirection_51 : decode cX2_bestDirection 51 = .ok (.goto 4, 3) := dk_167 0 4 (dk_at dksX2_bestDirection_2 5 rfl rfl)
theorem dX2_bestDirection_54 : decode cX2_bestDirection 54 = .ok (.aload_n 1, 1) := dk_43 (dk_at dksX2_bestDirection_2 8 rfl rfl)
theorem dX2_bestDirection_55 : decode cX2_bestDirection 55 = .ok (.astore_n 1, 1) := dk_76 (dk_at dksX2_bestDirection_2 9 rfl rfl)
theorem dX2_bestDirection_56 : decode cX2_bestDirection 56 = .ok (.iload_n 2, 1) := dk_28 (dk_at dksX2_bestDirection_2 10 rfl rfl)
theorem dX2_bestDirection_57 : decode cX2_bestDirection 57 = .ok (.iload 7, 2) := dk_21 7 (dk_at dksX2_bestDirection_2 11 rfl rfl)
theorem dX2_bestDirection_59 : decode cX2_bestDirection 59 = .ok (.invokestatic 152, 3) := dk_184 0 152 (dk_at dksX2_bestDirection_2 13 rfl rfl)
theorem dX2_bestDirection_62 : decode cX2_bestDirection 62 = .ok (.istore_n 2, 1) := dk_61 (dk_at dksX2_bestDirection_2 16 rfl rfl)
theorem dX2_bestDirection_63 : decode cX2_bestDirection 63 = .ok (.iinc 5 1, 3) := dk_132 5 1 (dk_at dksX2_bestDirection_2 17 rfl rfl)
theorem dX2_bestDirection_66 : decode cX2_bestDirection 66 = .ok (.goto (-48), 3) := dk_167 255 208 (dk_at dksX2_bestDirection_2 20 rfl rfl)
theorem dX2_bestDirection_69 : decode cX2_bestDirection 69 = .ok (.aload_n 1, 1) := dk_43 (dk_at dksX2_bestDirection_2 23 rfl rfl)
theorem dX2_bestDirection_70 : decode cX2_bestDirection 70 = .ok (.areturn, 1) := dk_176 (dk_at dksX2_bestDirection_3 0 rfl rfl)
abbrev cX2_copy : ByteArray := prog_11_method_2_code
def yX2_copy : MethodName := ⟨RX2, "copy", "()LWindFarmDispatcher$Farm;"⟩
def dkwX2_copy_6 : List UInt8 := [180, 0, 81, 181, 0, 81, 43, 42, 180, 0, 84, 181, 0, 84, 43, 42, 180, 0, 87, 181, 0, 87, 43, 176]
abbrev dktX2_copy_6 : List UInt8 := dkwX2_copy_6 ++ []
def dkwX2_copy_5 : List UInt8 := [180, 0, 39, 181, 0, 39, 43, 42, 180, 0, 74, 181, 0, 74, 43, 42, 180, 0, 77, 181, 0, 77, 43, 42]
abbrev dktX2_copy_5 : List UInt8 := dkwX2_copy_5 ++ dktX2_copy_6
def dkwX2_copy_4 : List UInt8 := [132, 2, 1, 167, 255, 223, 43, 42, 180, 0, 36, 181, 0, 36, 43, 42, 180, 0, 71, 181, 0, 71, 43, 42]
abbrev dktX2_copy_4 : List UInt8 := dkwX2_copy_4 ++ dktX2_copy_5
def dkwX2_copy_3 : List UInt8 := [43, 180, 0, 23, 28, 42, 180, 0, 23, 28, 46, 79, 43, 180, 0, 27, 28, 42, 180, 0, 27, 28, 46, 79]
abbrev dktX2_copy_3 : List UInt8 := dkwX2_copy_3 ++ dktX2_copy_4
def dkwX2_copy_2 : List UInt8 := [182, 0, 63, 45, 180, 0, 67, 181, 0, 67, 132, 2, 1, 167, 255, 207, 3, 61, 28, 16, 24, 162, 0, 33]
abbrev dktX2_copy_2 : List UInt8 := dkwX2_copy_2 ++ dktX2_copy_3
def dkwX2_copy_1 : List UInt8 := [180, 0, 12, 28, 182, 0, 48, 192, 0, 52, 78, 43, 45, 180, 0, 54, 45, 180, 0, 57, 45, 180, 0, 60]
abbrev dktX2_copy_1 : List UInt8 := dkwX2_copy_1 ++ dktX2_copy_2
def dkwX2_copy_0 : List UInt8 := [187, 0, 13, 89, 183, 0, 43, 76, 3, 61, 28, 42, 180, 0, 12, 182, 0, 44, 162, 0, 44, 42]
abbrev dktX2_copy_0 : List UInt8 := dkwX2_copy_0 ++ dktX2_copy_1
theorem dksX2_copy_0 : cX2_copy.data.toList.drop 0 = dktX2_copy_0 := by decide +kernel
theorem dksX2_copy_1 : cX2_copy.data.toList.drop 22 = dktX2_copy_1 := dk_seg dksX2_copy_0 22 rfl rfl
theorem dksX2_copy_2 : cX2_copy.data.toList.drop 46 = dktX2_copy_2 := dk_seg dksX2_copy_1 24 rfl rfl
theorem dksX2_copy_3 : cX2_copy.data.toList.drop 70 = dktX2_copy_3 := dk_seg dksX2_copy_2 24 rfl rfl
theorem dksX2_copy_4 : cX2_copy.data.toList.drop 94 = dktX2_copy_4 := dk_seg dksX2_copy_3 24 rfl rfl
theorem dksX2_copy_5 : cX2_copy.data.toList.drop 118 = dktX2_copy_5 := dk_seg dksX2_copy_4 24 rfl rfl
theorem dksX2_copy_6 : cX2_copy.data.toList.drop 142 = dktX2_copy_6 := dk_seg dksX2_copy_5 24 rfl rfl
theorem dX2_copy_0 : decode cX2_copy 0 = .ok (.new 13, 3) := dk_187 0 13 (dk_at dksX2_copy_0 0 rfl rfl)
theorem dX2_copy_3 : decode cX2_copy 3 = .ok (.dup, 1) := dk_89 (dk_at dksX2_copy_0 3 rfl rfl)
theorem dX2_copy_4 : decode cX2_copy 4 = .ok (.invokespecial 43, 3) := dk_183 0 43 (dk_at dksX2_copy_0 4 rfl rfl)
theorem dX2_copy_7 : decode cX2_copy 7 = .ok (.astore_n 1, 1) := dk_76 (dk_at dksX2_copy_0 7 rfl rfl)
theorem dX2_copy_8 : decode cX2_copy 8 = .ok (.iconst 0, 1) := dk_3 (dk_at dksX2_copy_0 8 rfl rfl)
theorem dX2_copy_9 : decode cX2_copy 9 = .ok (.istore_n 2, 1) := dk_61 (dk_at dksX2_copy_0 9 rfl rfl)
theorem dX2_copy_10 : decode cX2_copy 10 = .ok (.iload_n 2, 1) := dk_28 (dk_at dksX2_copy_0 10 rfl rfl)
theorem dX2_copy_11 : decode cX2_copy 11 = .ok (.aload_n 0, 1) := dk_42 (dk_at dksX2_copy_0 11 rfl rfl)
theorem dX2_copy_12 : decode cX2_copy 12 = .ok (.getfield 12, 3) := dk_180 0 12 (dk_at dksX2_copy_0 12 rfl rfl)
theorem dX2_copy_15 : decode cX2_copy 15 = .ok (.invokevirtual 44, 3) := dk_182 0 44 (dk_at dksX2_copy_0 15 rfl rfl)
theorem dX2_copy_18 : decode cX2_copy 18 = .ok (.if_icmp .ge 44, 3) := dk_162 0 44 (dk_at dksX2_copy_0 18 rfl rfl)
theorem dX2_copy_21 : decode cX2_copy 21 = .ok (.aload_n 0, 1) := dk_42 (dk_at dksX2_copy_0 21 rfl rfl)
theorem dX2_copy_22 : decode cX2_copy 22 = .ok (.getfield 12, 3) := dk_180 0 12 (dk_at dksX2_copy_1 0 rfl rfl)
theorem dX2_copy_25 : decode cX2_copy 25 = .ok (.iload_n 2, 1) := dk_28 (dk_at dksX2_copy_1 3 rfl rfl)
theorem dX2_copy_26 : decode cX2_copy 26 = .ok (.invokevirtual 48, 3) := dk_182 0 48 (dk_at dksX2_copy_1 4 rfl rfl)
theorem dX2_copy_29 : decode cX2_copy 29 = .ok (.checkcast 52, 3) := dk_192 0 52 (dk_at dksX2_copy_1 7 rfl rfl)
theorem dX2_copy_32 : decode cX2_copy 32 = .ok (.astore_n 3, 1) := dk_78 (dk_at dksX2_copy_1 10 rfl rfl)
theorem dX2_copy_33 : decode cX2_copy 33 = .ok (.aload_n 1, 1) := dk_43 (dk_at dksX2_copy_1 11 rfl rfl)
theorem dX2_copy_34 : decode cX2_copy 34 = .ok (.aload_n 3, 1) := dk_45 (dk_at dksX2_copy_1 12 rfl rfl)
theorem dX2_copy_35 : decode cX2_copy 35 = .ok (.getfield 54, 3) := dk_180 0 54 (dk_at dksX2_copy_1 13 rfl rfl)
theorem dX2_copy_38 : decode cX2_copy 38 = .ok (.aload_n 3, 1) := dk_45 (dk_at dksX2_copy_1 16 rfl rfl)
theorem dX2_copy_39 : decode cX2_copy 39 = .ok (.getfield 57, 3) := dk_180 0 57 (dk_at dksX2_copy_1 17 rfl rfl)
theorem dX2_copy_42 : decode cX2_copy 42 = .ok (.aload_n 3, 1) := dk_45 (dk_at dksX2_copy_1 20 rfl rfl)
theorem dX2_copy_43 : decode cX2_copy 43 = .ok (.getfield 60, 3) := dk_180 0 60 (dk_at dksX2_copy_1 21 rfl rfl)
theorem dX2_copy_46 : decode cX2_copy 46 = .ok (.invokevirtual 63, 3) := dk_182 0 63 (dk_at dksX2_copy_2 0 rfl rfl)
theorem dX2_copy_49 : decode cX2_copy 49 = .ok (.aload_n 3, 1) := dk_45 (dk_at dksX2_copy_2 3 rfl rfl)
theorem dX2_copy_50 : decode cX2_copy 50 = .ok (.getfield 67, 3) := dk_180 0 67 (dk_at dksX2_copy_2 4 rfl rfl)
theorem dX2_copy_53 : decode cX2_copy 53 = .ok (.putfield 67, 3) := dk_181 0 67 (dk_at dksX2_copy_2 7 rfl rfl)
theorem dX2_copy_56 : decode cX2_copy 56 = .ok (.iinc 2 1, 3) := dk_132 2 1 (dk_at dksX2_copy_2 10 rfl rfl)
theorem dX2_copy_59 : decode cX2_copy 59 = .ok (.goto (-49), 3) := dk_167 255 207 (dk_at dksX2_copy_2 13 rfl rfl)
theorem dX2_copy_62 : decode cX2_copy 62 = .ok (.iconst 0, 1) := dk_3 (dk_at dksX2_copy_2 16 rfl rfl)
theorem dX2_copy_63 : decode cX2_copy 63 = .ok (.istore_n 2, 1) := dk_61 (dk_at dksX2_copy_2 17 rfl rfl)
theorem dX2_copy_64 : decode cX2_copy 64 = .ok (.iload_n 2, 1) := dk_28 (dk_at dksX2_copy_2 18 rfl rfl)
theorem dX2_copy_65 : decode cX2_copy 65 = .ok (.bipush 24, 2) := dk_16 24 (dk_at dksX2_copy_2 19 rfl rfl)
theorem dX2_copy_67 : decode cX2_copy 67 = .ok (.if_icmp .ge 33, 3) := dk_162 0 33 (dk_at dksX2_copy_2 21 rfl rfl)
theorem dX2_copy_70 : decode cX2_copy 70 = .ok (.aload_n 1, 1) := dk_43 (dk_at dksX2_copy_3 0 rfl rfl)
theorem dX2_copy_71 : decode cX2_copy 71 = .ok (.getfield 23, 3) := dk_180 0 23 (dk_at dksX2_copy_3 1 rfl rfl)
theorem dX2_copy_74 : decode cX2_copy 74 = .ok (.iload_n 2, 1) := dk_28 (dk_at dksX2_copy_3 4 rfl rfl)
theorem dX2_copy_75 : decode cX2_copy 75 = .ok (.aload_n 0, 1) := dk_42 (dk_at dksX2_copy_3 5 rfl rfl)
theorem dX2_copy_76 : decode cX2_copy 76 = .ok (.getfield 23, 3) := dk_180 0 23 (dk_at dksX2_copy_3 6 rfl rfl)
theorem dX2_copy_79 : decode cX2_copy 79 = .ok (.iload_n 2, 1) := dk_28 (dk_at dksX2_copy_3 9 rfl rfl)
theorem dX2_copy_80 : decode cX2_copy 80 = .ok (.iaload, 1) := dk_46 (dk_at dksX2_copy_3 10 rfl rfl)
theorem dX2_copy_81 : decode cX2_copy 81 = .ok (.iastore, 1) := dk_79 (dk_at dksX2_copy_3 11 rfl rfl)
theorem dX2_copy_82 : decode cX2_copy 82 = .ok (.aload_n 1, 1) := dk_43 (dk_at dksX2_copy_3 12 rfl rfl)
theorem dX2_copy_83 : decode cX2_copy 83 = .ok (.getfield 27, 3) := dk_180 0 27 (dk_at dksX2_copy_3 13 rfl rfl)
theorem dX2_copy_86 : decode cX2_copy 86 = .ok (.iload_n 2, 1) := dk_28 (dk_at dksX2_copy_3 16 rfl rfl)
theorem dX2_copy_87 : decode cX2_copy 87 = .ok (.aload_n 0, 1) := dk_42 (dk_at dksX2_copy_3 17 rfl rfl)
theorem dX2_copy_88 : decode cX2_copy 88 = .ok (.getfield 27, 3) := dk_180 0 27 (dk_at dksX2_copy_3 18 rfl rfl)
theorem dX2_copy_91 : decode cX2_copy 91 = .ok (.iload_n 2, 1) := dk_28 (dk_at dksX2_copy_3 21 rfl rfl)
theorem dX2_copy_92 : decode cX2_copy 92 = .ok (.iaload, 1) := dk_46 (dk_at dksX2_copy_3 22 rfl rfl)
theorem dX2_copy_93 : decode cX2_copy 93 = .ok (.iastore, 1) := dk_79 (dk_at dksX2_copy_3 23 rfl rfl)
theorem dX2_copy_94 : decode cX2_copy 94 = .ok (.iinc 2 1, 3) := dk_132 2 1 (dk_at dksX2_copy_4 0 rfl rfl)
theorem dX2_copy_97 : decode cX2_copy 97 = .ok (.goto (-33), 3) := dk_167 255 223 (dk_at dksX2_copy_4 3 rfl rfl)
theorem dX2_copy_100 : decode cX2_copy 100 = .ok (.aload_n 1, 1) := dk_43 (dk_at dksX2_copy_4 6 rfl rfl)
theorem dX2_copy_101 : decode cX2_copy 101 = .ok (.aload_n 0, 1) := dk_42 (dk_at dksX2_copy_4 7 rfl rfl)
theorem dX2_copy_102 : decode cX2_copy 102 = .ok (.getfield 36, 3) := dk_180 0 36 (dk_at dksX2_copy_4 8 rfl rfl)
theorem dX2_copy_105 : decode cX2_copy 105 = .ok (.putfield 36, 3) := dk_181 0 36 (dk_at dksX2_copy_4 11 rfl rfl)
theorem dX2_copy_108 : decode cX2_copy 108 = .ok (.aload_n 1, 1) := dk_43 (dk_at dksX2_copy_4 14 rfl rfl)
theorem dX2_copy_109 : decode cX2_copy 109 = .ok (.aload_n 0, 1) := dk_42 (dk_at dksX2_copy_4 15 rfl rfl)
theorem dX2_copy_110 : decode cX2_copy 110 = .ok (.getfield 71, 3) := dk_180 0 71 (dk_at dksX2_copy_4 16 rfl rfl)
theorem dX2_copy_113 : decode cX2_copy 113 = .ok (.putfield 71, 3) := dk_181 0 71 (dk_at dksX2_copy_4 19 rfl rfl)
theorem dX2_copy_116 : decode cX2_copy 116 = .ok (.aload_n 1, 1) := dk_43 (dk_at dksX2_copy_4 22 rfl rfl)
theorem dX2_copy_117 : decode cX2_copy 117 = .ok (.aload_n 0, 1) := dk_42 (dk_at dksX2_copy_4 23 rfl rfl)
theorem dX2_copy_118 : decode cX2_copy 118 = .ok (.getfield 39, 3) := dk_180 0 39 (dk_at dksX2_copy_5 0 rfl rfl)
theorem dX2_copy_121 : decode cX2_copy 121 = .ok (.putfield 39, 3) := dk_181 0 39 (dk_at dksX2_copy_5 3 rfl rfl)
theorem dX2_copy_124 : decode cX2_copy 124 = .ok (.aload_n 1, 1) := dk_43 (dk_at dksX2_copy_5 6 rfl rfl)
theorem dX2_copy_125 : decode cX2_copy 125 = .ok (.aload_n 0, 1) := dk_42 (dk_at dksX2_copy_5 7 rfl rfl)
theorem dX2_copy_126 : decode cX2_copy 126 = .ok (.getfield 74, 3) := dk_180 0 74 (dk_at dksX2_copy_5 8 rfl rfl)
theorem dX2_copy_129 : decode cX2_copy 129 = .ok (.putfield 74, 3) := dk_181 0 74 (dk_at dksX2_copy_5 11 rfl rfl)
theorem dX2_copy_132 : decode cX2_copy 132 = .ok (.aload_n 1, 1) := dk_43 (dk_at dksX2_copy_5 14 rfl rfl)
theorem dX2_copy_133 : decode cX2_copy 133 = .ok (.aload_n 0, 1) := dk_42 (dk_at dksX2_copy_5 15 rfl rfl)
theorem dX2_copy_134 : decode cX2_copy 134 = .ok (.getfield 77, 3) := dk_180 0 77 (dk_at dksX2_copy_5 16 rfl rfl)
theorem dX2_copy_137 : decode cX2_copy 137 = .ok (.putfield 77, 3) := dk_181 0 77 (dk_at dksX2_copy_5 19 rfl rfl)
theorem dX2_copy_140 : decode cX2_copy 140 = .ok (.aload_n 1, 1) := dk_43 (dk_at dksX2_copy_5 22 rfl rfl)
theorem dX2_copy_141 : decode cX2_copy 141 = .ok (.aload_n 0, 1) := dk_42 (dk_at dksX2_copy_5 23 rfl rfl)
theorem dX2_copy_142 : decode cX2_copy 142 = .ok (.getfield 81, 3) := dk_180 0 81 (dk_at dksX2_copy_6 0 rfl rfl)
theorem dX2_copy_145 : decode cX2_copy 145 = .ok (.putfield 81, 3) := dk_181 0 81 (dk_at dksX2_copy_6 3 rfl rfl)
theorem dX2_copy_148 : decode cX2_copy 148 = .ok (.aload_n 1, 1) := dk_43 (dk_at dksX2_copy_6 6 rfl rfl)
theorem dX2_copy_149 : decode cX2_copy 149 = .ok (.aload_n 0, 1) := dk_42 (dk_at dksX2_copy_6 7 rfl rfl)
theorem dX2_copy_150 : decode cX2_copy 150 = .ok (.getfield 84, 3) := dk_180 0 84 (dk_at dksX2_copy_6 8 rfl rfl)
theorem dX2_copy_153 : decode cX2_copy 153 = .ok (.putfield 84, 3) := dk_181 0 84 (dk_at dksX2_copy_6 11 rfl rfl)
theorem dX2_copy_156 : decode cX2_copy 156 = .ok (.aload_n 1, 1) := dk_43 (dk_at dksX2_copy_6 14 rfl rfl)
theorem dX2_copy_157 : decode cX2_copy 157 = .ok (.aload_n 0, 1) := dk_42 (dk_at dksX2_copy_6 15 rfl rfl)
theorem dX2_copy_158 : decode cX2_copy 158 = .ok (.getfield 87, 3) := dk_180 0 87 (dk_at dksX2_copy_6 16 rfl rfl)
theorem dX2_copy_161 : decode cX2_copy 161 = .ok (.putfield 87, 3) := dk_181 0 87 (dk_at dksX2_copy_6 19 rfl rfl)
theorem dX2_copy_164 : decode cX2_copy 164 = .ok (.aload_n 1, 1) := dk_43 (dk_at dksX2_copy_6 22 rfl rfl)
theorem dX2_copy_165 : decode cX2_copy 165 = .ok (.areturn, 1) := dk_176 (dk_at dksX2_copy_6 23 rfl rfl)
abbrev cX2_put : ByteArray := prog_11_method_3_code
def yX2_put : MethodName := ⟨RX2, "put", "(III)LWindFarmDispatcher$Turbine;"⟩
def dkwX2_put_1 : List UInt8 := [25, 4, 182, 0, 93, 87, 42, 180, 0, 20, 27, 50, 28, 25, 4, 83, 25, 4, 176]
abbrev dktX2_put_1 : List UInt8 := dkwX2_put_1 ++ []
def dkwX2_put_0 : List UInt8 := [187, 0, 52, 89, 42, 180, 0, 12, 182, 0, 44, 27, 28, 29, 183, 0, 90, 58, 4, 42, 180, 0, 12]
abbrev dktX2_put_0 : List UInt8 := dkwX2_put_0 ++ dktX2_put_1
theorem dksX2_put_0 : cX2_put.data.toList.drop 0 = dktX2_put_0 := by decide +kernel
theorem dksX2_put_1 : cX2_put.data.toList.drop 23 = dktX2_put_1 := dk_seg dksX2_put_0 23 rfl rfl
theorem dX2_put_0 : decode cX2_put 0 = .ok (.new 52, 3) := dk_187 0 52 (dk_at dksX2_put_0 0 rfl rfl)
theorem dX2_put_3 : decode cX2_put 3 = .ok (.dup, 1) := dk_89 (dk_at dksX2_put_0 3 rfl rfl)
theorem dX2_put_4 : decode cX2_put 4 = .ok (.aload_n 0, 1) := dk_42 (dk_at dksX2_put_0 4 rfl rfl)
theorem dX2_put_5 : decode cX2_put 5 = .ok (.getfield 12, 3) := dk_180 0 12 (dk_at dksX2_put_0 5 rfl rfl)
theorem dX2_put_8 : decode cX2_put 8 = .ok (.invokevirtual 44, 3) := dk_182 0 44 (dk_at dksX2_put_0 8 rfl rfl)
theorem dX2_put_11 : decode cX2_put 11 = .ok (.iload_n 1, 1) := dk_27 (dk_at dksX2_put_0 11 rfl rfl)
theorem dX2_put_12 : decode cX2_put 12 = .ok (.iload_n 2, 1) := dk_28 (dk_at dksX2_put_0 12 rfl rfl)
theorem dX2_put_13 : decode cX2_put 13 = .ok (.iload_n 3, 1) := dk_29 (dk_at dksX2_put_0 13 rfl rfl)
theorem dX2_put_14 : decode cX2_put 14 = .ok (.invokespecial 90, 3) := dk_183 0 90 (dk_at dksX2_put_0 14 rfl rfl)
theorem dX2_put_17 : decode cX2_put 17 = .ok (.astore 4, 2) := dk_58 4 (dk_at dksX2_put_0 17 rfl rfl)
theorem dX2_put_19 : decode cX2_put 19 = .ok (.aload_n 0, 1) := dk_42 (dk_at dksX2_put_0 19 rfl rfl)
theorem dX2_put_20 : decode cX2_put 20 = .ok (.getfield 12, 3) := dk_180 0 12 (dk_at dksX2_put_0 20 rfl rfl)
theorem dX2_put_23 : decode cX2_put 23 = .ok (.aload 4, 2) := dk_25 4 (dk_at dksX2_put_1 0 rfl rfl)
theorem dX2_put_25 : decode cX2_put 25 = .ok (.invokevirtual 93, 3) := dk_182 0 93 (dk_at dksX2_put_1 2 rfl rfl)
theorem dX2_put_28 : decode cX2_put 28 = .ok (.pop, 1) := dk_87 (dk_at dksX2_put_1 5 rfl rfl)
theorem dX2_put_29 : decode cX2_put 29 = .ok (.aload_n 0, 1) := dk_42 (dk_at dksX2_put_1 6 rfl rfl)
theorem dX2_put_30 : decode cX2_put 30 = .ok (.getfield 20, 3) := dk_180 0 20 (dk_at dksX2_put_1 7 rfl rfl)
theorem dX2_put_33 : decode cX2_put 33 = .ok (.iload_n 1, 1) := dk_27 (dk_at dksX2_put_1 10 rfl rfl)
theorem dX2_put_34 : decode cX2_put 34 = .ok (.aaload, 1) := dk_50 (dk_at dksX2_put_1 11 rfl rfl)
theorem dX2_put_35 : decode cX2_put 35 = .ok (.iload_n 2, 1) := dk_28 (dk_at dksX2_put_1 12 rfl rfl)
theorem dX2_put_36 : decode cX2_put 36 = .ok (.aload 4, 2) := dk_25 4 (dk_at dksX2_put_1 13 rfl rfl)
theorem dX2_put_38 : decode cX2_put 38 = .ok (.aastore, 1) := dk_83 (dk_at dksX2_put_1 15 rfl rfl)
theorem dX2_put_39 : decode cX2_put 39 = .ok (.aload 4, 2) := dk_25 4 (dk_at dksX2_put_1 16 rfl rfl)
theorem dX2_put_41 : decode cX2_put 41 = .ok (.areturn, 1) := dk_176 (dk_at dksX2_put_1 18 rfl rfl)
abbrev cX2_addTurbine : ByteArray := prog_11_method_16_code
def yX2_addTurbine : MethodName := ⟨RX2, "addTurbine", "(III)I"⟩
def dkwX2_addTurbine_3 : List UInt8 := [180, 0, 165, 172]
abbrev dktX2_addTurbine_3 : List UInt8 := dkwX2_addTurbine_3 ++ []
def dkwX2_addTurbine_2 : List UInt8 := [199, 0, 7, 2, 167, 0, 8, 25, 4, 180, 0, 165, 184, 0, 161, 42, 27, 28, 29, 182, 0, 63]
abbrev dktX2_addTurbine_2 : List UInt8 := dkwX2_addTurbine_2 ++ dktX2_addTurbine_3
def dkwX2_addTurbine_1 : List UInt8 := [180, 0, 20, 27, 50, 28, 50, 58, 4, 25, 4, 198, 0, 7, 4, 167, 0, 4, 3, 5, 25, 4]
abbrev dktX2_addTurbine_1 : List UInt8 := dkwX2_addTurbine_1 ++ dktX2_addTurbine_2
def dkwX2_addTurbine_0 : List UInt8 := [42, 180, 0, 12, 182, 0, 44, 16, 12, 160, 0, 7, 4, 167, 0, 4, 3, 4, 16, 12, 184, 0, 161, 42]
abbrev dktX2_addTurbine_0 : List UInt8 := dkwX2_addTurbine_0 ++ dktX2_addTurbine_1
theorem dksX2_addTurbine_0 : cX2_addTurbine.data.toList.drop 0 = dktX2_addTurbine_0 := by decide +kernel
theorem dksX2_addTurbine_1 : cX2_addTurbine.data.toList.drop 24 = dktX2_addTurbine_1 := dk_seg dksX2_addTurbine_0 24 rfl rfl
theorem dksX2_addTurbine_2 : cX2_addTurbine.data.toList.drop 46 = dktX2_addTurbine_2 := dk_seg dksX2_addTurbine_1 22 rfl rfl
theorem dksX2_addTurbine_3 : cX2_addTurbine.data.toList.drop 68 = dktX2_addTurbine_3 := dk_seg dksX2_addTurbine_2 22 rfl rfl
theorem dX2_addTurbine_0 : decode cX2_addTurbine 0 = .ok (.aload_n 0, 1) := dk_42 (dk_at dksX2_addTurbine_0 0 rfl rfl)
theorem dX2_addTurbine_1 : decode cX2_addTurbine 1 = .ok (.getfield 12, 3) := dk_180 0 12 (dk_at dksX2_addTurbine_0 1 rfl rfl)
theorem dX2_addTurbine_4 : decode cX2_addTurbine 4 = .ok (.invokevirtual 44, 3) := dk_182 0 44 (dk_at dksX2_addTurbine_0 4 rfl rfl)
theorem dX2_addTurbine_7 : decode cX2_addTurbine 7 = .ok (.bipush 12, 2) := dk_16 12 (dk_at dksX2_addTurbine_0 7 rfl rfl)
theorem dX2_addTurbine_9 : decode cX2_addTurbine 9 = .ok (.if_icmp .ne 7, 3) := dk_160 0 7 (dk_at dksX2_addTurbine_0 9 rfl rfl)
theorem dX2_addTurbine_12 : decode cX2_addTurbine 12 = .ok (.iconst 1, 1) := dk_4 (dk_at dksX2_addTurbine_0 12 rfl rfl)
theorem dX2_addTurbine_13 : decode cX2_addTurbine 13 = .ok (.goto 4, 3) := dk_167 0 4 (dk_at dksX2_addTurbine_0 13 rfl rfl)
theorem dX2_addTurbine_16 : decode cX2_addTurbine 16 = .ok (.iconst 0, 1) := dk_3 (dk_at dksX2_addTurbine_0 16 rfl rfl)
theorem dX2_addTurbine_17 : decode cX2_addTurbine 17 = .ok (.iconst 1, 1) := dk_4 (dk_at dksX2_addTurbine_0 17 rfl rfl)
theorem dX2_addTurbine_18 : decode cX2_addTurbine 18 = .ok (.bipush 12, 2) := dk_16 12 (dk_at dksX2_addTurbine_0 18 rfl rfl)
theorem dX2_addTurbine_20 : decode cX2_addTurbine 20 = .ok (.invokestatic 161, 3) := dk_184 0 161 (dk_at dksX2_addTurbine_0 20 rfl rfl)
theorem dX2_addTurbine_23 : decode cX2_addTurbine 23 = .ok (.aload_n 0, 1) := dk_42 (dk_at dksX2_addTurbine_0 23 rfl rfl)
theorem dX2_addTurbine_24 : decode cX2_addTurbine 24 = .ok (.getfield 20, 3) := dk_180 0 20 (dk_at dksX2_addTurbine_1 0 rfl rfl)
theorem dX2_addTurbine_27 : decode cX2_addTurbine 27 = .ok (.iload_n 1, 1) := dk_27 (dk_at dksX2_addTurbine_1 3 rfl rfl)
theorem dX2_addTurbine_28 : decode cX2_addTurbine 28 = .ok (.aaload, 1) := dk_50 (dk_at dksX2_addTurbine_1 4 rfl rfl)
theorem dX2_addTurbine_29 : decode cX2_addTurbine 29 = .ok (.iload_n 2, 1) := dk_28 (dk_at dksX2_addTurbine_1 5 rfl rfl)
theorem dX2_addTurbine_30 : decode cX2_addTurbine 30 = .ok (.aaload, 1) := dk_50 (dk_at dksX2_addTurbine_1 6 rfl rfl)
theorem dX2_addTurbine_31 : decode cX2_addTurbine 31 = .ok (.astore 4, 2) := dk_58 4 (dk_at dksX2_addTurbine_1 7 rfl rfl)
theorem dX2_addTurbine_33 : decode cX2_addTurbine 33 = .ok (.aload 4, 2) := dk_25 4 (dk_at dksX2_addTurbine_1 9 rfl rfl)
theorem dX2_addTurbine_35 : decode cX2_addTurbine 35 = .ok (.ifnull 7, 3) := dk_198 0 7 (dk_at dksX2_addTurbine_1 11 rfl rfl)
theorem dX2_addTurbine_38 : decode cX2_addTurbine 38 = .ok (.iconst 1, 1) := dk_4 (dk_at dksX2_addTurbine_1 14 rfl rfl)
theorem dX2_addTurbine_39 : decode cX2_addTurbine 39 = .ok (.goto 4, 3) := dk_167 0 4 (dk_at dksX2_addTurbine_1 15 rfl rfl)
theorem dX2_addTurbine_42 : decode cX2_addTurbine 42 = .ok (.iconst 0, 1) := dk_3 (dk_at dksX2_addTurbine_1 18 rfl rfl)
theorem dX2_addTurbine_43 : decode cX2_addTurbine 43 = .ok (.iconst 2, 1) := dk_5 (dk_at dksX2_addTurbine_1 19 rfl rfl)
theorem dX2_addTurbine_44 : decode cX2_addTurbine 44 = .ok (.aload 4, 2) := dk_25 4 (dk_at dksX2_addTurbine_1 20 rfl rfl)
theorem dX2_addTurbine_46 : decode cX2_addTurbine 46 = .ok (.ifnonnull 7, 3) := dk_199 0 7 (dk_at dksX2_addTurbine_2 0 rfl rfl)
theorem dX2_addTurbine_49 : decode cX2_addTurbine 49 = .ok (.iconst (-1), 1) := dk_2 (dk_at dksX2_addTurbine_2 3 rfl rfl)
theorem dX2_addTurbine_50 : decode cX2_addTurbine 50 = .ok (.goto 8, 3) := dk_167 0 8 (dk_at dksX2_addTurbine_2 4 rfl rfl)
theorem dX2_addTurbine_53 : decode cX2_addTurbine 53 = .ok (.aload 4, 2) := dk_25 4 (dk_at dksX2_addTurbine_2 7 rfl rfl)
theorem dX2_addTurbine_55 : decode cX2_addTurbine 55 = .ok (.getfield 165, 3) := dk_180 0 165 (dk_at dksX2_addTurbine_2 9 rfl rfl)
theorem dX2_addTurbine_58 : decode cX2_addTurbine 58 = .ok (.invokestatic 161, 3) := dk_184 0 161 (dk_at dksX2_addTurbine_2 12 rfl rfl)
theorem dX2_addTurbine_61 : decode cX2_addTurbine 61 = .ok (.aload_n 0, 1) := dk_42 (dk_at dksX2_addTurbine_2 15 rfl rfl)
theorem dX2_addTurbine_62 : decode cX2_addTurbine 62 = .ok (.iload_n 1, 1) := dk_27 (dk_at dksX2_addTurbine_2 16 rfl rfl)
theorem dX2_addTurbine_63 : decode cX2_addTurbine 63 = .ok (.iload_n 2, 1) := dk_28 (dk_at dksX2_addTurbine_2 17 rfl rfl)
theorem dX2_addTurbine_64 : decode cX2_addTurbine 64 = .ok (.iload_n 3, 1) := dk_29 (dk_at dksX2_addTurbine_2 18 rfl rfl)
theorem dX2_addTurbine_65 : decode cX2_addTurbine 65 = .ok (.invokevirtual 63, 3) := dk_182 0 63 (dk_at dksX2_addTurbine_2 19 rfl rfl)
theorem dX2_addTurbine_68 : decode cX2_addTurbine 68 = .ok (.getfield 165, 3) := dk_180 0 165 (dk_at dksX2_addTurbine_3 0 rfl rfl)
theorem dX2_addTurbine_71 : decode cX2_addTurbine 71 = .ok (.ireturn, 1) := dk_172 (dk_at dksX2_addTurbine_3 3 rfl rfl)
abbrev cX2_fail : ByteArray := prog_11_method_21_code
def yX2_fail : MethodName := ⟨RX2, "fail", "(I)I"⟩
def dkwX2_fail_0 : List UInt8 := [42, 27, 182, 0, 175, 187, 0, 179, 89, 183, 0, 181, 181, 0, 67, 42, 182, 0, 182, 172]
abbrev dktX2_fail_0 : List UInt8 := dkwX2_fail_0 ++ []
theorem dksX2_fail_0 : cX2_fail.data.toList.drop 0 = dktX2_fail_0 := by decide +kernel
theorem dX2_fail_0 : decode cX2_fail 0 = .ok (.aload_n 0, 1) := dk_42 (dk_at dksX2_fail_0 0 rfl rfl)
theorem dX2_fail_1 : decode cX2_fail 1 = .ok (.iload_n 1, 1) := dk_27 (dk_at dksX2_fail_0 1 rfl rfl)
theorem dX2_fail_2 : decode cX2_fail 2 = .ok (.invokevirtual 175, 3) := dk_182 0 175 (dk_at dksX2_fail_0 2 rfl rfl)
theorem dX2_fail_5 : decode cX2_fail 5 = .ok (.new 179, 3) := dk_187 0 179 (dk_at dksX2_fail_0 5 rfl rfl)
theorem dX2_fail_8 : decode cX2_fail 8 = .ok (.dup, 1) := dk_89 (dk_at dksX2_fail_0 8 rfl rfl)
theorem dX2_fail_9 : decode cX2_fail 9 = .ok (.invokespecial 181, 3) := dk_183 0 181 (dk_at dksX2_fail_0 9 rfl rfl)
theorem dX2_fail_12 : decode cX2_fail 12 = .ok (.putfield 67, 3) := dk_181 0 67 (dk_at dksX2_fail_0 12 rfl rfl)
theorem dX2_fail_15 : decode cX2_fail 15 = .ok (.aload_n 0, 1) := dk_42 (dk_at dksX2_fail_0 15 rfl rfl)
theorem dX2_fail_16 : decode cX2_fail 16 = .ok (.invokevirtual 182, 3) := dk_182 0 182 (dk_at dksX2_fail_0 16 rfl rfl)
theorem dX2_fail_19 : decode cX2_fail 19 = .ok (.ireturn, 1) := dk_172 (dk_at dksX2_fail_0 19 rfl rfl)
abbrev cX2_requireRunning : ByteArray := prog_11_method_17_code
def yX2_requireRunning : MethodName := ⟨RX2, "requireRunning", "(I)LWindFarmDispatcher$Turbine;"⟩
def dkwX2_requireRunning_1 : List UInt8 := [6, 44, 182, 0, 168, 184, 0, 161, 44, 176]
abbrev dktX2_requireRunning_1 : List UInt8 := dkwX2_requireRunning_1 ++ []
def dkwX2_requireRunning_0 : List UInt8 := [42, 180, 0, 12, 27, 182, 0, 48, 192, 0, 52, 77, 44, 182, 0, 105, 154, 0, 7, 4, 167, 0, 4, 3]
abbrev dktX2_requireRunning_0 : List UInt8 := dkwX2_requireRunning_0 ++ dktX2_requireRunning_1
theorem dksX2_requireRunning_0 : cX2_requireRunning.data.toList.drop 0 = dktX2_requireRunning_0 := by decide +kernel
theorem dksX2_requireRunning_1 : cX2_requireRunning.data.toList.drop 24 = dktX2_requireRunning_1 := dk_seg dksX2_requireRunning_0 24 rfl rfl
theorem dX2_requireRunning_0 : decode cX2_requireRunning 0 = .ok (.aload_n 0, 1) := dk_42 (dk_at dksX2_requireRunning_0 0 rfl rfl)
theorem dX2_requireRunning_1 : decode cX2_requireRunning 1 = .ok (.getfield 12, 3) := dk_180 0 12 (dk_at dksX2_requireRunning_0 1 rfl rfl)
theorem dX2_requireRunning_4 : decode cX2_requireRunning 4 = .ok (.iload_n 1, 1) := dk_27 (dk_at dksX2_requireRunning_0 4 rfl rfl)
theorem dX2_requireRunning_5 : decode cX2_requireRunning 5 = .ok (.invokevirtual 48, 3) := dk_182 0 48 (dk_at dksX2_requireRunning_0 5 rfl rfl)
theorem dX2_requireRunning_8 : decode cX2_requireRunning 8 = .ok (.checkcast 52, 3) := dk_192 0 52 (dk_at dksX2_requireRunning_0 8 rfl rfl)
theorem dX2_requireRunning_11 : decode cX2_requireRunning 11 = .ok (.astore_n 2, 1) := dk_77 (dk_at dksX2_requireRunning_0 11 rfl rfl)
theorem dX2_requireRunning_12 : decode cX2_requireRunning 12 = .ok (.aload_n 2, 1) := dk_44 (dk_at dksX2_requireRunning_0 12 rfl rfl)
theorem dX2_requireRunning_13 : decode cX2_requireRunning 13 = .ok (.invokevirtual 105, 3) := dk_182 0 105 (dk_at dksX2_requireRunning_0 13 rfl rfl)
theorem dX2_requireRunning_16 : decode cX2_requireRunning 16 = .ok (.ifCond .ne 7, 3) := dk_154 0 7 (dk_at dksX2_requireRunning_0 16 rfl rfl)
theorem dX2_requireRunning_19 : decode cX2_requireRunning 19 = .ok (.iconst 1, 1) := dk_4 (dk_at dksX2_requireRunning_0 19 rfl rfl)
theorem dX2_requireRunning_20 : decode cX2_requireRunning 20 = .ok (.goto 4, 3) := dk_167 0 4 (dk_at dksX2_requireRunning_0 20 rfl rfl)
theorem dX2_requireRunning_23 : decode cX2_requireRunning 23 = .ok (.iconst 0, 1) := dk_3 (dk_at dksX2_requireRunning_0 23 rfl rfl)
theorem dX2_requireRunning_24 : decode cX2_requireRunning 24 = .ok (.iconst 3, 1) := dk_6 (dk_at dksX2_requireRunning_1 0 rfl rfl)
theorem dX2_requireRunning_25 : decode cX2_requireRunning 25 = .ok (.aload_n 2, 1) := dk_44 (dk_at dksX2_requireRunning_1 1 rfl rfl)
theorem dX2_requireRunning_26 : decode cX2_requireRunning 26 = .ok (.invokevirtual 168, 3) := dk_182 0 168 (dk_at dksX2_requireRunning_1 2 rfl rfl)
theorem dX2_requireRunning_29 : decode cX2_requireRunning 29 = .ok (.invokestatic 161, 3) := dk_184 0 161 (dk_at dksX2_requireRunning_1 5 rfl rfl)
theorem dX2_requireRunning_32 : decode cX2_requireRunning 32 = .ok (.aload_n 2, 1) := dk_44 (dk_at dksX2_requireRunning_1 8 rfl rfl)
theorem dX2_requireRunning_33 : decode cX2_requireRunning 33 = .ok (.areturn, 1) := dk_176 (dk_at dksX2_requireRunning_1 9 rfl rfl)
abbrev cX2_idleTurbines : ByteArray := prog_11_method_18_code
def yX2_idleTurbines : MethodName := ⟨RX2, "idleTurbines", "()I"⟩
def dkwX2_idleTurbines_2 : List UInt8 := [167, 255, 214, 27, 172]
abbrev dktX2_idleTurbines_2 : List UInt8 := dkwX2_idleTurbines_2 ++ []
def dkwX2_idleTurbines_1 : List UInt8 := [192, 0, 52, 182, 0, 105, 154, 0, 7, 4, 167, 0, 4, 3, 184, 0, 171, 96, 60, 132, 2, 1]
abbrev dktX2_idleTurbines_1 : List UInt8 := dkwX2_idleTurbines_1 ++ dktX2_idleTurbines_2
def dkwX2_idleTurbines_0 : List UInt8 := [3, 60, 3, 61, 28, 42, 180, 0, 12, 182, 0, 44, 162, 0, 37, 27, 42, 180, 0, 12, 28, 182, 0, 48]
abbrev dktX2_idleTurbines_0 : List UInt8 := dkwX2_idleTurbines_0 ++ dktX2_idleTurbines_1
theorem dksX2_idleTurbines_0 : cX2_idleTurbines.data.toList.drop 0 = dktX2_idleTurbines_0 := by decide +kernel
theorem dksX2_idleTurbines_1 : cX2_idleTurbines.data.toList.drop 24 = dktX2_idleTurbines_1 := dk_seg dksX2_idleTurbines_0 24 rfl rfl
theorem dksX2_idleTurbines_2 : cX2_idleTurbines.data.toList.drop 46 = dktX2_idleTurbines_2 := dk_seg dksX2_idleTurbines_1 22 rfl rfl
theorem dX2_idleTurbines_0 : decode cX2_idleTurbines 0 = .ok (.iconst 0, 1) := dk_3 (dk_at dksX2_idleTurbines_0 0 rfl rfl)
theorem dX2_idleTurbines_1 : decode cX2_idleTurbines 1 = .ok (.istore_n 1, 1) := dk_60 (dk_at dksX2_idleTurbines_0 1 rfl rfl)
theorem dX2_idleTurbines_2 : decode cX2_idleTurbines 2 = .ok (.iconst 0, 1) := dk_3 (dk_at dksX2_idleTurbines_0 2 rfl rfl)
theorem dX2_idleTurbines_3 : decode cX2_idleTurbines 3 = .ok (.istore_n 2, 1) := dk_61 (dk_at dksX2_idleTurbines_0 3 rfl rfl)
theorem dX2_idleTurbines_4 : decode cX2_idleTurbines 4 = .ok (.iload_n 2, 1) := dk_28 (dk_at dksX2_idleTurbines_0 4 rfl rfl)
theorem dX2_idleTurbines_5 : decode cX2_idleTurbines 5 = .ok (.aload_n 0, 1) := dk_42 (dk_at dksX2_idleTurbines_0 5 rfl rfl)
theorem dX2_idleTurbines_6 : decode cX2_idleTurbines 6 = .ok (.getfield 12, 3) := dk_180 0 12 (dk_at dksX2_idleTurbines_0 6 rfl rfl)
theorem dX2_idleTurbines_9 : decode cX2_idleTurbines 9 = .ok (.invokevirtual 44, 3) := dk_182 0 44 (dk_at dksX2_idleTurbines_0 9 rfl rfl)
theorem dX2_idleTurbines_12 : decode cX2_idleTurbines 12 = .ok (.if_icmp .ge 37, 3) := dk_162 0 37 (dk_at dksX2_idleTurbines_0 12 rfl rfl)
theorem dX2_idleTurbines_15 : decode cX2_idleTurbines 15 = .ok (.iload_n 1, 1) := dk_27 (dk_at dksX2_idleTurbines_0 15 rfl rfl)
theorem dX2_idleTurbines_16 : decode cX2_idleTurbines 16 = .ok (.aload_n 0, 1) := dk_42 (dk_at dksX2_idleTurbines_0 16 rfl rfl)
theorem dX2_idleTurbines_17 : decode cX2_idleTurbines 17 = .ok (.getfield 12, 3) := dk_180 0 12 (dk_at dksX2_idleTurbines_0 17 rfl rfl)
theorem dX2_idleTurbines_20 : decode cX2_idleTurbines 20 = .ok (.iload_n 2, 1) := dk_28 (dk_at dksX2_idleTurbines_0 20 rfl rfl)
theorem dX2_idleTurbines_21 : decode cX2_idleTurbines 21 = .ok (.invokevirtual 48, 3) := dk_182 0 48 (dk_at dksX2_idleTurbines_0 21 rfl rfl)
theorem dX2_idleTurbines_24 : decode cX2_idleTurbines 24 = .ok (.checkcast 52, 3) := dk_192 0 52 (dk_at dksX2_idleTurbines_1 0 rfl rfl)
theorem dX2_idleTurbines_27 : decode cX2_idleTurbines 27 = .ok (.invokevirtual 105, 3) := dk_182 0 105 (dk_at dksX2_idleTurbines_1 3 rfl rfl)
theorem dX2_idleTurbines_30 : decode cX2_idleTurbines 30 = .ok (.ifCond .ne 7, 3) := dk_154 0 7 (dk_at dksX2_idleTurbines_1 6 rfl rfl)
theorem dX2_idleTurbines_33 : decode cX2_idleTurbines 33 = .ok (.iconst 1, 1) := dk_4 (dk_at dksX2_idleTurbines_1 9 rfl rfl)
theorem dX2_idleTurbines_34 : decode cX2_idleTurbines 34 = .ok (.goto 4, 3) := dk_167 0 4 (dk_at dksX2_idleTurbines_1 10 rfl rfl)
theorem dX2_idleTurbines_37 : decode cX2_idleTurbines 37 = .ok (.iconst 0, 1) := dk_3 (dk_at dksX2_idleTurbines_1 13 rfl rfl)
theorem dX2_idleTurbines_38 : decode cX2_idleTurbines 38 = .ok (.invokestatic 171, 3) := dk_184 0 171 (dk_at dksX2_idleTurbines_1 14 rfl rfl)
theorem dX2_idleTurbines_41 : decode cX2_idleTurbines 41 = .ok (.iadd, 1) := dk_96 (dk_at dksX2_idleTurbines_1 17 rfl rfl)
theorem dX2_idleTurbines_42 : decode cX2_idleTurbines 42 = .ok (.istore_n 1, 1) := dk_60 (dk_at dksX2_idleTurbines_1 18 rfl rfl)
theorem dX2_idleTurbines_43 : decode cX2_idleTurbines 43 = .ok (.iinc 2 1, 3) := dk_132 2 1 (dk_at dksX2_idleTurbines_1 19 rfl rfl)
theorem dX2_idleTurbines_46 : decode cX2_idleTurbines 46 = .ok (.goto (-42), 3) := dk_167 255 214 (dk_at dksX2_idleTurbines_2 0 rfl rfl)
theorem dX2_idleTurbines_49 : decode cX2_idleTurbines 49 = .ok (.iload_n 1, 1) := dk_27 (dk_at dksX2_idleTurbines_2 3 rfl rfl)
theorem dX2_idleTurbines_50 : decode cX2_idleTurbines 50 = .ok (.ireturn, 1) := dk_172 (dk_at dksX2_idleTurbines_2 4 rfl rfl)
abbrev cX2_sendCrew : ByteArray := prog_11_method_22_code
def yX2_sendCrew : MethodName := ⟨RX2, "sendCrew", "(II)I"⟩
def dkwX2_sendCrew_3 : List UInt8 := [172]
abbrev dktX2_sendCrew_3 : List UInt8 := dkwX2_sendCrew_3 ++ []
def dkwX2_sendCrew_2 : List UInt8 := [182, 0, 193, 184, 0, 161, 45, 187, 0, 196, 89, 28, 183, 0, 198, 181, 0, 67, 5, 42, 182, 0, 190, 100]
abbrev dktX2_sendCrew_2 : List UInt8 := dkwX2_sendCrew_2 ++ dktX2_sendCrew_3
def dkwX2_sendCrew_1 : List UInt8 := [7, 42, 45, 182, 0, 188, 184, 0, 161, 42, 182, 0, 190, 5, 160, 0, 7, 4, 167, 0, 4, 3, 8, 42]
abbrev dktX2_sendCrew_1 : List UInt8 := dkwX2_sendCrew_1 ++ dktX2_sendCrew_2
def dkwX2_sendCrew_0 : List UInt8 := [42, 180, 0, 12, 27, 182, 0, 48, 192, 0, 52, 78, 45, 182, 0, 185, 154, 0, 7, 4, 167, 0, 4, 3]
abbrev dktX2_sendCrew_0 : List UInt8 := dkwX2_sendCrew_0 ++ dktX2_sendCrew_1
theorem dksX2_sendCrew_0 : cX2_sendCrew.data.toList.drop 0 = dktX2_sendCrew_0 := by decide +kernel
theorem dksX2_sendCrew_1 : cX2_sendCrew.data.toList.drop 24 = dktX2_sendCrew_1 := dk_seg dksX2_sendCrew_0 24 rfl rfl
theorem dksX2_sendCrew_2 : cX2_sendCrew.data.toList.drop 48 = dktX2_sendCrew_2 := dk_seg dksX2_sendCrew_1 24 rfl rfl
theorem dksX2_sendCrew_3 : cX2_sendCrew.data.toList.drop 72 = dktX2_sendCrew_3 := dk_seg dksX2_sendCrew_2 24 rfl rfl
theorem dX2_sendCrew_0 : decode cX2_sendCrew 0 = .ok (.aload_n 0, 1) := dk_42 (dk_at dksX2_sendCrew_0 0 rfl rfl)
theorem dX2_sendCrew_1 : decode cX2_sendCrew 1 = .ok (.getfield 12, 3) := dk_180 0 12 (dk_at dksX2_sendCrew_0 1 rfl rfl)
theorem dX2_sendCrew_4 : decode cX2_sendCrew 4 = .ok (.iload_n 1, 1) := dk_27 (dk_at dksX2_sendCrew_0 4 rfl rfl)
theorem dX2_sendCrew_5 : decode cX2_sendCrew 5 = .ok (.invokevirtual 48, 3) := dk_182 0 48 (dk_at dksX2_sendCrew_0 5 rfl rfl)
theorem dX2_sendCrew_8 : decode cX2_sendCrew 8 = .ok (.checkcast 52, 3) := dk_192 0 52 (dk_at dksX2_sendCrew_0 8 rfl rfl)
theorem dX2_sendCrew_11 : decode cX2_sendCrew 11 = .ok (.astore_n 3, 1) := dk_78 (dk_at dksX2_sendCrew_0 11 rfl rfl)
theorem dX2_sendCrew_12 : decode cX2_sendCrew 12 = .ok (.aload_n 3, 1) := dk_45 (dk_at dksX2_sendCrew_0 12 rfl rfl)
theorem dX2_sendCrew_13 : decode cX2_sendCrew 13 = .ok (.invokevirtual 185, 3) := dk_182 0 185 (dk_at dksX2_sendCrew_0 13 rfl rfl)
theorem dX2_sendCrew_16 : decode cX2_sendCrew 16 = .ok (.ifCond .ne 7, 3) := dk_154 0 7 (dk_at dksX2_sendCrew_0 16 rfl rfl)
theorem dX2_sendCrew_19 : decode cX2_sendCrew 19 = .ok (.iconst 1, 1) := dk_4 (dk_at dksX2_sendCrew_0 19 rfl rfl)
theorem dX2_sendCrew_20 : decode cX2_sendCrew 20 = .ok (.goto 4, 3) := dk_167 0 4 (dk_at dksX2_sendCrew_0 20 rfl rfl)
theorem dX2_sendCrew_23 : decode cX2_sendCrew 23 = .ok (.iconst 0, 1) := dk_3 (dk_at dksX2_sendCrew_0 23 rfl rfl)
theorem dX2_sendCrew_24 : decode cX2_sendCrew 24 = .ok (.iconst 4, 1) := dk_7 (dk_at dksX2_sendCrew_1 0 rfl rfl)
theorem dX2_sendCrew_25 : decode cX2_sendCrew 25 = .ok (.aload_n 0, 1) := dk_42 (dk_at dksX2_sendCrew_1 1 rfl rfl)
theorem dX2_sendCrew_26 : decode cX2_sendCrew 26 = .ok (.aload_n 3, 1) := dk_45 (dk_at dksX2_sendCrew_1 2 rfl rfl)
theorem dX2_sendCrew_27 : decode cX2_sendCrew 27 = .ok (.invokevirtual 188, 3) := dk_182 0 188 (dk_at dksX2_sendCrew_1 3 rfl rfl)
theorem dX2_sendCrew_30 : decode cX2_sendCrew 30 = .ok (.invokestatic 161, 3) := dk_184 0 161 (dk_at dksX2_sendCrew_1 6 rfl rfl)
theorem dX2_sendCrew_33 : decode cX2_sendCrew 33 = .ok (.aload_n 0, 1) := dk_42 (dk_at dksX2_sendCrew_1 9 rfl rfl)
theorem dX2_sendCrew_34 : decode cX2_sendCrew 34 = .ok (.invokevirtual 190, 3) := dk_182 0 190 (dk_at dksX2_sendCrew_1 10 rfl rfl)
theorem dX2_sendCrew_37 : decode cX2_sendCrew 37 = .ok (.iconst 2, 1) := dk_5 (dk_at dksX2_sendCrew_1 13 rfl rfl)
theorem dX2_sendCrew_38 : decode cX2_sendCrew 38 = .ok (.if_icmp .ne 7, 3) := dk_160 0 7 (dk_at dksX2_sendCrew_1 14 rfl rfl)
theorem dX2_sendCrew_41 : decode cX2_sendCrew 41 = .ok (.iconst 1, 1) := dk_4 (dk_at dksX2_sendCrew_1 17 rfl rfl)
theorem dX2_sendCrew_42 : decode cX2_sendCrew 42 = .ok (.goto 4, 3) := dk_167 0 4 (dk_at dksX2_sendCrew_1 18 rfl rfl)
theorem dX2_sendCrew_45 : decode cX2_sendCrew 45 = .ok (.iconst 0, 1) := dk_3 (dk_at dksX2_sendCrew_1 21 rfl rfl)
theorem dX2_sendCrew_46 : decode cX2_sendCrew 46 = .ok (.iconst 5, 1) := dk_8 (dk_at dksX2_sendCrew_1 22 rfl rfl)
theorem dX2_sendCrew_47 : decode cX2_sendCrew 47 = .ok (.aload_n 0, 1) := dk_42 (dk_at dksX2_sendCrew_1 23 rfl rfl)
theorem dX2_sendCrew_48 : decode cX2_sendCrew 48 = .ok (.invokevirtual 193, 3) := dk_182 0 193 (dk_at dksX2_sendCrew_2 0 rfl rfl)
theorem dX2_sendCrew_51 : decode cX2_sendCrew 51 = .ok (.invokestatic 161, 3) := dk_184 0 161 (dk_at dksX2_sendCrew_2 3 rfl rfl)
theorem dX2_sendCrew_54 : decode cX2_sendCrew 54 = .ok (.aload_n 3, 1) := dk_45 (dk_at dksX2_sendCrew_2 6 rfl rfl)
theorem dX2_sendCrew_55 : decode cX2_sendCrew 55 = .ok (.new 196, 3) := dk_187 0 196 (dk_at dksX2_sendCrew_2 7 rfl rfl)
theorem dX2_sendCrew_58 : decode cX2_sendCrew 58 = .ok (.dup, 1) := dk_89 (dk_at dksX2_sendCrew_2 10 rfl rfl)
theorem dX2_sendCrew_59 : decode cX2_sendCrew 59 = .ok (.iload_n 2, 1) := dk_28 (dk_at dksX2_sendCrew_2 11 rfl rfl)
theorem dX2_sendCrew_60 : decode cX2_sendCrew 60 = .ok (.invokespecial 198, 3) := dk_183 0 198 (dk_at dksX2_sendCrew_2 12 rfl rfl)
theorem dX2_sendCrew_63 : decode cX2_sendCrew 63 = .ok (.putfield 67, 3) := dk_181 0 67 (dk_at dksX2_sendCrew_2 15 rfl rfl)
theorem dX2_sendCrew_66 : decode cX2_sendCrew 66 = .ok (.iconst 2, 1) := dk_5 (dk_at dksX2_sendCrew_2 18 rfl rfl)
theorem dX2_sendCrew_67 : decode cX2_sendCrew 67 = .ok (.aload_n 0, 1) := dk_42 (dk_at dksX2_sendCrew_2 19 rfl rfl)
theorem dX2_sendCrew_68 : decode cX2_sendCrew 68 = .ok (.invokevirtual 190, 3) := dk_182 0 190 (dk_at dksX2_sendCrew_2 20 rfl rfl)
theorem dX2_sendCrew_71 : decode cX2_sendCrew 71 = .ok (.isub, 1) := dk_100 (dk_at dksX2_sendCrew_2 23 rfl rfl)
theorem dX2_sendCrew_72 : decode cX2_sendCrew 72 = .ok (.ireturn, 1) := dk_172 (dk_at dksX2_sendCrew_3 0 rfl rfl)
abbrev cX2_output_2 : ByteArray := prog_11_method_10_code
def yX2_output_2 : MethodName := ⟨RX2, "output", "(LWindFarmDispatcher$Turbine;)I"⟩
def dkwX2_output_2_0 : List UInt8 := [42, 43, 42, 180, 0, 36, 42, 180, 0, 71, 184, 0, 122, 182, 0, 138, 172]
abbrev dktX2_output_2_0 : List UInt8 := dkwX2_output_2_0 ++ []
theorem dksX2_output_2_0 : cX2_output_2.data.toList.drop 0 = dktX2_output_2_0 := by decide +kernel
theorem dX2_output_2_0 : decode cX2_output_2 0 = .ok (.aload_n 0, 1) := dk_42 (dk_at dksX2_output_2_0 0 rfl rfl)
theorem dX2_output_2_1 : decode cX2_output_2 1 = .ok (.aload_n 1, 1) := dk_43 (dk_at dksX2_output_2_0 1 rfl rfl)
theorem dX2_output_2_2 : decode cX2_output_2 2 = .ok (.aload_n 0, 1) := dk_42 (dk_at dksX2_output_2_0 2 rfl rfl)
theorem dX2_output_2_3 : decode cX2_output_2 3 = .ok (.getfield 36, 3) := dk_180 0 36 (dk_at dksX2_output_2_0 3 rfl rfl)
theorem dX2_output_2_6 : decode cX2_output_2 6 = .ok (.aload_n 0, 1) := dk_42 (dk_at dksX2_output_2_0 6 rfl rfl)
theorem dX2_output_2_7 : decode cX2_output_2 7 = .ok (.getfield 71, 3) := dk_180 0 71 (dk_at dksX2_output_2_0 7 rfl rfl)
theorem dX2_output_2_10 : decode cX2_output_2 10 = .ok (.invokestatic 122, 3) := dk_184 0 122 (dk_at dksX2_output_2_0 10 rfl rfl)
theorem dX2_output_2_13 : decode cX2_output_2 13 = .ok (.invokevirtual 138, 3) := dk_182 0 138 (dk_at dksX2_output_2_0 13 rfl rfl)
theorem dX2_output_2_16 : decode cX2_output_2 16 = .ok (.ireturn, 1) := dk_172 (dk_at dksX2_output_2_0 16 rfl rfl)
abbrev cX2_firstInService : ByteArray := prog_11_method_20_code
def yX2_firstInService : MethodName := ⟨RX2, "firstInService", "()I"⟩
def dkwX2_firstInService_1 : List UInt8 := [182, 0, 168, 158, 0, 5, 27, 172, 132, 1, 1, 167, 255, 223, 2, 172]
abbrev dktX2_firstInService_1 : List UInt8 := dkwX2_firstInService_1 ++ []
def dkwX2_firstInService_0 : List UInt8 := [3, 60, 27, 42, 180, 0, 12, 182, 0, 44, 162, 0, 28, 42, 180, 0, 12, 27, 182, 0, 48, 192, 0, 52]
abbrev dktX2_firstInService_0 : List UInt8 := dkwX2_firstInService_0 ++ dktX2_firstInService_1
theorem dksX2_firstInService_0 : cX2_firstInService.data.toList.drop 0 = dktX2_firstInService_0 := by decide +kernel
theorem dksX2_firstInService_1 : cX2_firstInService.data.toList.drop 24 = dktX2_firstInService_1 := dk_seg dksX2_firstInService_0 24 rfl rfl
theorem dX2_firstInService_0 : decode cX2_firstInService 0 = .ok (.iconst 0, 1) := dk_3 (dk_at dksX2_firstInService_0 0 rfl rfl)
theorem dX2_firstInService_1 : decode cX2_firstInService 1 = .ok (.istore_n 1, 1) := dk_60 (dk_at dksX2_firstInService_0 1 rfl rfl)
theorem dX2_firstInService_2 : decode cX2_firstInService 2 = .ok (.iload_n 1, 1) := dk_27 (dk_at dksX2_firstInService_0 2 rfl rfl)
theorem dX2_firstInService_3 : decode cX2_firstInService 3 = .ok (.aload_n 0, 1) := dk_42 (dk_at dksX2_firstInService_0 3 rfl rfl)
theorem dX2_firstInService_4 : decode cX2_firstInService 4 = .ok (.getfield 12, 3) := dk_180 0 12 (dk_at dksX2_firstInService_0 4 rfl rfl)
theorem dX2_firstInService_7 : decode cX2_firstInService 7 = .ok (.invokevirtual 44, 3) := dk_182 0 44 (dk_at dksX2_firstInService_0 7 rfl rfl)
theorem dX2_firstInService_10 : decode cX2_firstInService 10 = .ok (.if_icmp .ge 28, 3) := dk_162 0 28 (dk_at dksX2_firstInService_0 10 rfl rfl)
theorem dX2_firstInService_13 : decode cX2_firstInService 13 = .ok (.aload_n 0, 1) := dk_42 (dk_at dksX2_firstInService_0 13 rfl rfl)
theorem dX2_firstInService_14 : decode cX2_firstInService 14 = .ok (.getfield 12, 3) := dk_180 0 12 (dk_at dksX2_firstInService_0 14 rfl rfl)
theorem dX2_firstInService_17 : decode cX2_firstInService 17 = .ok (.iload_n 1, 1) := dk_27 (dk_at dksX2_firstInService_0 17 rfl rfl)
theorem dX2_firstInService_18 : decode cX2_firstInService 18 = .ok (.invokevirtual 48, 3) := dk_182 0 48 (dk_at dksX2_firstInService_0 18 rfl rfl)
theorem dX2_firstInService_21 : decode cX2_firstInService 21 = .ok (.checkcast 52, 3) := dk_192 0 52 (dk_at dksX2_firstInService_0 21 rfl rfl)
theorem dX2_firstInService_24 : decode cX2_firstInService 24 = .ok (.invokevirtual 168, 3) := dk_182 0 168 (dk_at dksX2_firstInService_1 0 rfl rfl)
theorem dX2_firstInService_27 : decode cX2_firstInService 27 = .ok (.ifCond .le 5, 3) := dk_158 0 5 (dk_at dksX2_firstInService_1 3 rfl rfl)
theorem dX2_firstInService_30 : decode cX2_firstInService 30 = .ok (.iload_n 1, 1) := dk_27 (dk_at dksX2_firstInService_1 6 rfl rfl)
theorem dX2_firstInService_31 : decode cX2_firstInService 31 = .ok (.ireturn, 1) := dk_172 (dk_at dksX2_firstInService_1 7 rfl rfl)
theorem dX2_firstInService_32 : decode cX2_firstInService 32 = .ok (.iinc 1 1, 3) := dk_132 1 1 (dk_at dksX2_firstInService_1 8 rfl rfl)
theorem dX2_firstInService_35 : decode cX2_firstInService 35 = .ok (.goto (-33), 3) := dk_167 255 223 (dk_at dksX2_firstInService_1 11 rfl rfl)
theorem dX2_firstInService_38 : decode cX2_firstInService 38 = .ok (.iconst (-1), 1) := dk_2 (dk_at dksX2_firstInService_1 14 rfl rfl)
theorem dX2_firstInService_39 : decode cX2_firstInService 39 = .ok (.ireturn, 1) := dk_172 (dk_at dksX2_firstInService_1 15 rfl rfl)
abbrev cX2_recallCrew : ByteArray := prog_11_method_23_code
def yX2_recallCrew : MethodName := ⟨RX2, "recallCrew", "(I)I"⟩
def dkwX2_recallCrew_2 : List UInt8 := [181, 0, 67, 29, 172]
abbrev dktX2_recallCrew_2 : List UInt8 := dkwX2_recallCrew_2 ++ []
def dkwX2_recallCrew_1 : List UInt8 := [167, 0, 4, 3, 16, 6, 42, 44, 182, 0, 188, 184, 0, 161, 44, 187, 0, 179, 89, 183, 0, 181]
abbrev dktX2_recallCrew_1 : List UInt8 := dkwX2_recallCrew_1 ++ dktX2_recallCrew_2
def dkwX2_recallCrew_0 : List UInt8 := [42, 180, 0, 12, 27, 182, 0, 48, 192, 0, 52, 77, 44, 182, 0, 168, 62, 29, 154, 0, 7, 4]
abbrev dktX2_recallCrew_0 : List UInt8 := dkwX2_recallCrew_0 ++ dktX2_recallCrew_1
theorem dksX2_recallCrew_0 : cX2_recallCrew.data.toList.drop 0 = dktX2_recallCrew_0 := by decide +kernel
theorem dksX2_recallCrew_1 : cX2_recallCrew.data.toList.drop 22 = dktX2_recallCrew_1 := dk_seg dksX2_recallCrew_0 22 rfl rfl
theorem dksX2_recallCrew_2 : cX2_recallCrew.data.toList.drop 44 = dktX2_recallCrew_2 := dk_seg dksX2_recallCrew_1 22 rfl rfl
theorem dX2_recallCrew_0 : decode cX2_recallCrew 0 = .ok (.aload_n 0, 1) := dk_42 (dk_at dksX2_recallCrew_0 0 rfl rfl)
theorem dX2_recallCrew_1 : decode cX2_recallCrew 1 = .ok (.getfield 12, 3) := dk_180 0 12 (dk_at dksX2_recallCrew_0 1 rfl rfl)
theorem dX2_recallCrew_4 : decode cX2_recallCrew 4 = .ok (.iload_n 1, 1) := dk_27 (dk_at dksX2_recallCrew_0 4 rfl rfl)
theorem dX2_recallCrew_5 : decode cX2_recallCrew 5 = .ok (.invokevirtual 48, 3) := dk_182 0 48 (dk_at dksX2_recallCrew_0 5 rfl rfl)
theorem dX2_recallCrew_8 : decode cX2_recallCrew 8 = .ok (.checkcast 52, 3) := dk_192 0 52 (dk_at dksX2_recallCrew_0 8 rfl rfl)
theorem dX2_recallCrew_11 : decode cX2_recallCrew 11 = .ok (.astore_n 2, 1) := dk_77 (dk_at dksX2_recallCrew_0 11 rfl rfl)
theorem dX2_recallCrew_12 : decode cX2_recallCrew 12 = .ok (.aload_n 2, 1) := dk_44 (dk_at dksX2_recallCrew_0 12 rfl rfl)
theorem dX2_recallCrew_13 : decode cX2_recallCrew 13 = .ok (.invokevirtual 168, 3) := dk_182 0 168 (dk_at dksX2_recallCrew_0 13 rfl rfl)
theorem dX2_recallCrew_16 : decode cX2_recallCrew 16 = .ok (.istore_n 3, 1) := dk_62 (dk_at dksX2_recallCrew_0 16 rfl rfl)
theorem dX2_recallCrew_17 : decode cX2_recallCrew 17 = .ok (.iload_n 3, 1) := dk_29 (dk_at dksX2_recallCrew_0 17 rfl rfl)
theorem dX2_recallCrew_18 : decode cX2_recallCrew 18 = .ok (.ifCond .ne 7, 3) := dk_154 0 7 (dk_at dksX2_recallCrew_0 18 rfl rfl)
theorem dX2_recallCrew_21 : decode cX2_recallCrew 21 = .ok (.iconst 1, 1) := dk_4 (dk_at dksX2_recallCrew_0 21 rfl rfl)
theorem dX2_recallCrew_22 : decode cX2_recallCrew 22 = .ok (.goto 4, 3) := dk_167 0 4 (dk_at dksX2_recallCrew_1 0 rfl rfl)
theorem dX2_recallCrew_25 : decode cX2_recallCrew 25 = .ok (.iconst 0, 1) := dk_3 (dk_at dksX2_recallCrew_1 3 rfl rfl)
theorem dX2_recallCrew_26 : decode cX2_recallCrew 26 = .ok (.bipush 6, 2) := dk_16 6 (dk_at dksX2_recallCrew_1 4 rfl rfl)
theorem dX2_recallCrew_28 : decode cX2_recallCrew 28 = .ok (.aload_n 0, 1) := dk_42 (dk_at dksX2_recallCrew_1 6 rfl rfl)
theorem dX2_recallCrew_29 : decode cX2_recallCrew 29 = .ok (.aload_n 2, 1) := dk_44 (dk_at dksX2_recallCrew_1 7 rfl rfl)
theorem dX2_recallCrew_30 : decode cX2_recallCrew 30 = .ok (.invokevirtual 188, 3) := dk_182 0 188 (dk_at dksX2_recallCrew_1 8 rfl rfl)
theorem dX2_recallCrew_33 : decode cX2_recallCrew 33 = .ok (.invokestatic 161, 3) := dk_184 0 161 (dk_at dksX2_recallCrew_1 11 rfl rfl)
theorem dX2_recallCrew_36 : decode cX2_recallCrew 36 = .ok (.aload_n 2, 1) := dk_44 (dk_at dksX2_recallCrew_1 14 rfl rfl)
theorem dX2_recallCrew_37 : decode cX2_recallCrew 37 = .ok (.new 179, 3) := dk_187 0 179 (dk_at dksX2_recallCrew_1 15 rfl rfl)
theorem dX2_recallCrew_40 : decode cX2_recallCrew 40 = .ok (.dup, 1) := dk_89 (dk_at dksX2_recallCrew_1 18 rfl rfl)
theorem dX2_recallCrew_41 : decode cX2_recallCrew 41 = .ok (.invokespecial 181, 3) := dk_183 0 181 (dk_at dksX2_recallCrew_1 19 rfl rfl)
theorem dX2_recallCrew_44 : decode cX2_recallCrew 44 = .ok (.putfield 67, 3) := dk_181 0 67 (dk_at dksX2_recallCrew_2 0 rfl rfl)
theorem dX2_recallCrew_47 : decode cX2_recallCrew 47 = .ok (.iload_n 3, 1) := dk_29 (dk_at dksX2_recallCrew_2 3 rfl rfl)
theorem dX2_recallCrew_48 : decode cX2_recallCrew 48 = .ok (.ireturn, 1) := dk_172 (dk_at dksX2_recallCrew_2 4 rfl rfl)
abbrev cX2_curtail : ByteArray := prog_11_method_24_code
def yX2_curtail : MethodName := ⟨RX2, "curtail", "(II)I"⟩
def dkwX2_curtail_0 : List UInt8 := [42, 27, 182, 0, 175, 78, 45, 187, 0, 201, 89, 28, 183, 0, 203, 181, 0, 67, 42, 45, 182, 0, 188, 172]
abbrev dktX2_curtail_0 : List UInt8 := dkwX2_curtail_0 ++ []
theorem dksX2_curtail_0 : cX2_curtail.data.toList.drop 0 = dktX2_curtail_0 := by decide +kernel
theorem dX2_curtail_0 : decode cX2_curtail 0 = .ok (.aload_n 0, 1) := dk_42 (dk_at dksX2_curtail_0 0 rfl rfl)
theorem dX2_curtail_1 : decode cX2_curtail 1 = .ok (.iload_n 1, 1) := dk_27 (dk_at dksX2_curtail_0 1 rfl rfl)
theorem dX2_curtail_2 : decode cX2_curtail 2 = .ok (.invokevirtual 175, 3) := dk_182 0 175 (dk_at dksX2_curtail_0 2 rfl rfl)
theorem dX2_curtail_5 : decode cX2_curtail 5 = .ok (.astore_n 3, 1) := dk_78 (dk_at dksX2_curtail_0 5 rfl rfl)
theorem dX2_curtail_6 : decode cX2_curtail 6 = .ok (.aload_n 3, 1) := dk_45 (dk_at dksX2_curtail_0 6 rfl rfl)
theorem dX2_curtail_7 : decode cX2_curtail 7 = .ok (.new 201, 3) := dk_187 0 201 (dk_at dksX2_curtail_0 7 rfl rfl)
theorem dX2_curtail_10 : decode cX2_curtail 10 = .ok (.dup, 1) := dk_89 (dk_at dksX2_curtail_0 10 rfl rfl)
theorem dX2_curtail_11 : decode cX2_curtail 11 = .ok (.iload_n 2, 1) := dk_28 (dk_at dksX2_curtail_0 11 rfl rfl)
theorem dX2_curtail_12 : decode cX2_curtail 12 = .ok (.invokespecial 203, 3) := dk_183 0 203 (dk_at dksX2_curtail_0 12 rfl rfl)
theorem dX2_curtail_15 : decode cX2_curtail 15 = .ok (.putfield 67, 3) := dk_181 0 67 (dk_at dksX2_curtail_0 15 rfl rfl)
theorem dX2_curtail_18 : decode cX2_curtail 18 = .ok (.aload_n 0, 1) := dk_42 (dk_at dksX2_curtail_0 18 rfl rfl)
theorem dX2_curtail_19 : decode cX2_curtail 19 = .ok (.aload_n 3, 1) := dk_45 (dk_at dksX2_curtail_0 19 rfl rfl)
theorem dX2_curtail_20 : decode cX2_curtail 20 = .ok (.invokevirtual 188, 3) := dk_182 0 188 (dk_at dksX2_curtail_0 20 rfl rfl)
theorem dX2_curtail_23 : decode cX2_curtail 23 = .ok (.ireturn, 1) := dk_172 (dk_at dksX2_curtail_0 23 rfl rfl)
abbrev cX2_release : ByteArray := prog_11_method_25_code
def yX2_release : MethodName := ⟨RX2, "release", "(I)I"⟩
def dkwX2_release_1 : List UInt8 := [182, 0, 188, 184, 0, 161, 44, 187, 0, 207, 89, 183, 0, 209, 181, 0, 67, 42, 44, 182, 0, 188, 172]
abbrev dktX2_release_1 : List UInt8 := dkwX2_release_1 ++ []
def dkwX2_release_0 : List UInt8 := [42, 27, 182, 0, 175, 77, 44, 182, 0, 204, 2, 160, 0, 7, 4, 167, 0, 4, 3, 16, 7, 42, 44]
abbrev dktX2_release_0 : List UInt8 := dkwX2_release_0 ++ dktX2_release_1
theorem dksX2_release_0 : cX2_release.data.toList.drop 0 = dktX2_release_0 := by decide +kernel
theorem dksX2_release_1 : cX2_release.data.toList.drop 23 = dktX2_release_1 := dk_seg dksX2_release_0 23 rfl rfl
theorem dX2_release_0 : decode cX2_release 0 = .ok (.aload_n 0, 1) := dk_42 (dk_at dksX2_release_0 0 rfl rfl)
theorem dX2_release_1 : decode cX2_release 1 = .ok (.iload_n 1, 1) := dk_27 (dk_at dksX2_release_0 1 rfl rfl)
theorem dX2_release_2 : decode cX2_release 2 = .ok (.invokevirtual 175, 3) := dk_182 0 175 (dk_at dksX2_release_0 2 rfl rfl)
theorem dX2_release_5 : decode cX2_release 5 = .ok (.astore_n 2, 1) := dk_77 (dk_at dksX2_release_0 5 rfl rfl)
theorem dX2_release_6 : decode cX2_release 6 = .ok (.aload_n 2, 1) := dk_44 (dk_at dksX2_release_0 6 rfl rfl)
theorem dX2_release_7 : decode cX2_release 7 = .ok (.invokevirtual 204, 3) := dk_182 0 204 (dk_at dksX2_release_0 7 rfl rfl)
theorem dX2_release_10 : decode cX2_release 10 = .ok (.iconst (-1), 1) := dk_2 (dk_at dksX2_release_0 10 rfl rfl)
theorem dX2_release_11 : decode cX2_release 11 = .ok (.if_icmp .ne 7, 3) := dk_160 0 7 (dk_at dksX2_release_0 11 rfl rfl)
theorem dX2_release_14 : decode cX2_release 14 = .ok (.iconst 1, 1) := dk_4 (dk_at dksX2_release_0 14 rfl rfl)
theorem dX2_release_15 : decode cX2_release 15 = .ok (.goto 4, 3) := dk_167 0 4 (dk_at dksX2_release_0 15 rfl rfl)
theorem dX2_release_18 : decode cX2_release 18 = .ok (.iconst 0, 1) := dk_3 (dk_at dksX2_release_0 18 rfl rfl)
theorem dX2_release_19 : decode cX2_release 19 = .ok (.bipush 7, 2) := dk_16 7 (dk_at dksX2_release_0 19 rfl rfl)
theorem dX2_release_21 : decode cX2_release 21 = .ok (.aload_n 0, 1) := dk_42 (dk_at dksX2_release_0 21 rfl rfl)
theorem dX2_release_22 : decode cX2_release 22 = .ok (.aload_n 2, 1) := dk_44 (dk_at dksX2_release_0 22 rfl rfl)
theorem dX2_release_23 : decode cX2_release 23 = .ok (.invokevirtual 188, 3) := dk_182 0 188 (dk_at dksX2_release_1 0 rfl rfl)
theorem dX2_release_26 : decode cX2_release 26 = .ok (.invokestatic 161, 3) := dk_184 0 161 (dk_at dksX2_release_1 3 rfl rfl)
theorem dX2_release_29 : decode cX2_release 29 = .ok (.aload_n 2, 1) := dk_44 (dk_at dksX2_release_1 6 rfl rfl)
theorem dX2_release_30 : decode cX2_release 30 = .ok (.new 207, 3) := dk_187 0 207 (dk_at dksX2_release_1 7 rfl rfl)
theorem dX2_release_33 : decode cX2_release 33 = .ok (.dup, 1) := dk_89 (dk_at dksX2_release_1 10 rfl rfl)
theorem dX2_release_34 : decode cX2_release 34 = .ok (.invokespecial 209, 3) := dk_183 0 209 (dk_at dksX2_release_1 11 rfl rfl)
theorem dX2_release_37 : decode cX2_release 37 = .ok (.putfield 67, 3) := dk_181 0 67 (dk_at dksX2_release_1 14 rfl rfl)
theorem dX2_release_40 : decode cX2_release 40 = .ok (.aload_n 0, 1) := dk_42 (dk_at dksX2_release_1 17 rfl rfl)
theorem dX2_release_41 : decode cX2_release 41 = .ok (.aload_n 2, 1) := dk_44 (dk_at dksX2_release_1 18 rfl rfl)
theorem dX2_release_42 : decode cX2_release 42 = .ok (.invokevirtual 188, 3) := dk_182 0 188 (dk_at dksX2_release_1 19 rfl rfl)
theorem dX2_release_45 : decode cX2_release 45 = .ok (.ireturn, 1) := dk_172 (dk_at dksX2_release_1 22 rfl rfl)
abbrev cX2_setWind : ByteArray := prog_11_method_27_code
def yX2_setWind : MethodName := ⟨RX2, "setWind", "(LWindFarmDispatcher$Direction;I)I"⟩
def dkwX2_setWind_0 : List UInt8 := [42, 43, 181, 0, 36, 42, 28, 181, 0, 71, 42, 182, 0, 210, 172]
abbrev dktX2_setWind_0 : List UInt8 := dkwX2_setWind_0 ++ []
theorem dksX2_setWind_0 : cX2_setWind.data.toList.drop 0 = dktX2_setWind_0 := by decide +kernel
theorem dX2_setWind_0 : decode cX2_setWind 0 = .ok (.aload_n 0, 1) := dk_42 (dk_at dksX2_setWind_0 0 rfl rfl)
theorem dX2_setWind_1 : decode cX2_setWind 1 = .ok (.aload_n 1, 1) := dk_43 (dk_at dksX2_setWind_0 1 rfl rfl)
theorem dX2_setWind_2 : decode cX2_setWind 2 = .ok (.putfield 36, 3) := dk_181 0 36 (dk_at dksX2_setWind_0 2 rfl rfl)
theorem dX2_setWind_5 : decode cX2_setWind 5 = .ok (.aload_n 0, 1) := dk_42 (dk_at dksX2_setWind_0 5 rfl rfl)
theorem dX2_setWind_6 : decode cX2_setWind 6 = .ok (.iload_n 2, 1) := dk_28 (dk_at dksX2_setWind_0 6 rfl rfl)
theorem dX2_setWind_7 : decode cX2_setWind 7 = .ok (.putfield 71, 3) := dk_181 0 71 (dk_at dksX2_setWind_0 7 rfl rfl)
theorem dX2_setWind_10 : decode cX2_setWind 10 = .ok (.aload_n 0, 1) := dk_42 (dk_at dksX2_setWind_0 10 rfl rfl)
theorem dX2_setWind_11 : decode cX2_setWind 11 = .ok (.invokevirtual 210, 3) := dk_182 0 210 (dk_at dksX2_setWind_0 11 rfl rfl)
theorem dX2_setWind_14 : decode cX2_setWind 14 = .ok (.ireturn, 1) := dk_172 (dk_at dksX2_setWind_0 14 rfl rfl)
abbrev cX2_setGridLimit : ByteArray := prog_11_method_28_code
def yX2_setGridLimit : MethodName := ⟨RX2, "setGridLimit", "(I)I"⟩
def dkwX2_setGridLimit_0 : List UInt8 := [42, 180, 0, 39, 61, 42, 27, 181, 0, 39, 28, 172]
abbrev dktX2_setGridLimit_0 : List UInt8 := dkwX2_setGridLimit_0 ++ []
theorem dksX2_setGridLimit_0 : cX2_setGridLimit.data.toList.drop 0 = dktX2_setGridLimit_0 := by decide +kernel
theorem dX2_setGridLimit_0 : decode cX2_setGridLimit 0 = .ok (.aload_n 0, 1) := dk_42 (dk_at dksX2_setGridLimit_0 0 rfl rfl)
theorem dX2_setGridLimit_1 : decode cX2_setGridLimit 1 = .ok (.getfield 39, 3) := dk_180 0 39 (dk_at dksX2_setGridLimit_0 1 rfl rfl)
theorem dX2_setGridLimit_4 : decode cX2_setGridLimit 4 = .ok (.istore_n 2, 1) := dk_61 (dk_at dksX2_setGridLimit_0 4 rfl rfl)
theorem dX2_setGridLimit_5 : decode cX2_setGridLimit 5 = .ok (.aload_n 0, 1) := dk_42 (dk_at dksX2_setGridLimit_0 5 rfl rfl)
theorem dX2_setGridLimit_6 : decode cX2_setGridLimit 6 = .ok (.iload_n 1, 1) := dk_27 (dk_at dksX2_setGridLimit_0 6 rfl rfl)
theorem dX2_setGridLimit_7 : decode cX2_setGridLimit 7 = .ok (.putfield 39, 3) := dk_181 0 39 (dk_at dksX2_setGridLimit_0 7 rfl rfl)
theorem dX2_setGridLimit_10 : decode cX2_setGridLimit 10 = .ok (.iload_n 2, 1) := dk_28 (dk_at dksX2_setGridLimit_0 10 rfl rfl)
theorem dX2_setGridLimit_11 : decode cX2_setGridLimit 11 = .ok (.ireturn, 1) := dk_172 (dk_at dksX2_setGridLimit_0 11 rfl rfl)
abbrev cX2_dispatch : ByteArray := prog_11_method_29_code
def yX2_dispatch : MethodName := ⟨RX2, "dispatch", "()I"⟩
def dkwX2_dispatch_3 : List UInt8 := [167, 255, 200, 27, 172]
abbrev dktX2_dispatch_3 : List UInt8 := dkwX2_dispatch_3 ++ []
def dkwX2_dispatch_2 : List UInt8 := [184, 0, 152, 183, 0, 203, 181, 0, 67, 42, 182, 0, 210, 42, 180, 0, 39, 100, 61, 132, 1, 1]
abbrev dktX2_dispatch_2 : List UInt8 := dkwX2_dispatch_2 ++ dktX2_dispatch_3
def dkwX2_dispatch_1 : List UInt8 := [182, 0, 213, 182, 0, 48, 192, 0, 52, 78, 45, 187, 0, 201, 89, 3, 42, 45, 182, 0, 188, 28, 100]
abbrev dktX2_dispatch_1 : List UInt8 := dkwX2_dispatch_1 ++ dktX2_dispatch_2
def dkwX2_dispatch_0 : List UInt8 := [3, 60, 42, 182, 0, 210, 42, 180, 0, 39, 100, 61, 28, 158, 0, 58, 42, 180, 0, 12, 42, 3, 3]
abbrev dktX2_dispatch_0 : List UInt8 := dkwX2_dispatch_0 ++ dktX2_dispatch_1
theorem dksX2_dispatch_0 : cX2_dispatch.data.toList.drop 0 = dktX2_dispatch_0 := by decide +kernel
theorem dksX2_dispatch_1 : cX2_dispatch.data.toList.drop 23 = dktX2_dispatch_1 := dk_seg dksX2_dispatch_0 23 rfl rfl
theorem dksX2_dispatch_2 : cX2_dispatch.data.toList.drop 46 = dktX2_dispatch_2 := dk_seg dksX2_dispatch_1 23 rfl rfl
theorem dksX2_dispatch_3 : cX2_dispatch.data.toList.drop 68 = dktX2_dispatch_3 := dk_seg dksX2_dispatch_2 22 rfl rfl
theorem dX2_dispatch_0 : decode cX2_dispatch 0 = .ok (.iconst 0, 1) := dk_3 (dk_at dksX2_dispatch_0 0 rfl rfl)
theorem dX2_dispatch_1 : decode cX2_dispatch 1 = .ok (.istore_n 1, 1) := dk_60 (dk_at dksX2_dispatch_0 1 rfl rfl)
theorem dX2_dispatch_2 : decode cX2_dispatch 2 = .ok (.aload_n 0, 1) := dk_42 (dk_at dksX2_dispatch_0 2 rfl rfl)
theorem dX2_dispatch_3 : decode cX2_dispatch 3 = .ok (.invokevirtual 210, 3) := dk_182 0 210 (dk_at dksX2_dispatch_0 3 rfl rfl)
theorem dX2_dispatch_6 : decode cX2_dispatch 6 = .ok (.aload_n 0, 1) := dk_42 (dk_at dksX2_dispatch_0 6 rfl rfl)
theorem dX2_dispatch_7 : decode cX2_dispatch 7 = .ok (.getfield 39, 3) := dk_180 0 39 (dk_at dksX2_dispatch_0 7 rfl rfl)
theorem dX2_dispatch_10 : decode cX2_dispatch 10 = .ok (.isub, 1) := dk_100 (dk_at dksX2_dispatch_0 10 rfl rfl)
theorem dX2_dispatch_11 : decode cX2_dispatch 11 = .ok (.istore_n 2, 1) := dk_61 (dk_at dksX2_dispatch_0 11 rfl rfl)
theorem dX2_dispatch_12 : decode cX2_dispatch 12 = .ok (.iload_n 2, 1) := dk_28 (dk_at dksX2_dispatch_0 12 rfl rfl)
theorem dX2_dispatch_13 : decode cX2_dispatch 13 = .ok (.ifCond .le 58, 3) := dk_158 0 58 (dk_at dksX2_dispatch_0 13 rfl rfl)
theorem dX2_dispatch_16 : decode cX2_dispatch 16 = .ok (.aload_n 0, 1) := dk_42 (dk_at dksX2_dispatch_0 16 rfl rfl)
theorem dX2_dispatch_17 : decode cX2_dispatch 17 = .ok (.getfield 12, 3) := dk_180 0 12 (dk_at dksX2_dispatch_0 17 rfl rfl)
theorem dX2_dispatch_20 : decode cX2_dispatch 20 = .ok (.aload_n 0, 1) := dk_42 (dk_at dksX2_dispatch_0 20 rfl rfl)
theorem dX2_dispatch_21 : decode cX2_dispatch 21 = .ok (.iconst 0, 1) := dk_3 (dk_at dksX2_dispatch_0 21 rfl rfl)
theorem dX2_dispatch_22 : decode cX2_dispatch 22 = .ok (.iconst 0, 1) := dk_3 (dk_at dksX2_dispatch_0 22 rfl rfl)
theorem dX2_dispatch_23 : decode cX2_dispatch 23 = .ok (.invokevirtual 213, 3) := dk_182 0 213 (dk_at dksX2_dispatch_1 0 rfl rfl)
theorem dX2_dispatch_26 : decode cX2_dispatch 26 = .ok (.invokevirtual 48, 3) := dk_182 0 48 (dk_at dksX2_dispatch_1 3 rfl rfl)
theorem dX2_dispatch_29 : decode cX2_dispatch 29 = .ok (.checkcast 52, 3) := dk_192 0 52 (dk_at dksX2_dispatch_1 6 rfl rfl)
theorem dX2_dispatch_32 : decode cX2_dispatch 32 = .ok (.astore_n 3, 1) := dk_78 (dk_at dksX2_dispatch_1 9 rfl rfl)
theorem dX2_dispatch_33 : decode cX2_dispatch 33 = .ok (.aload_n 3, 1) := dk_45 (dk_at dksX2_dispatch_1 10 rfl rfl)
theorem dX2_dispatch_34 : decode cX2_dispatch 34 = .ok (.new 201, 3) := dk_187 0 201 (dk_at dksX2_dispatch_1 11 rfl rfl)
theorem dX2_dispatch_37 : decode cX2_dispatch 37 = .ok (.dup, 1) := dk_89 (dk_at dksX2_dispatch_1 14 rfl rfl)
theorem dX2_dispatch_38 : decode cX2_dispatch 38 = .ok (.iconst 0, 1) := dk_3 (dk_at dksX2_dispatch_1 15 rfl rfl)
theorem dX2_dispatch_39 : decode cX2_dispatch 39 = .ok (.aload_n 0, 1) := dk_42 (dk_at dksX2_dispatch_1 16 rfl rfl)
theorem dX2_dispatch_40 : decode cX2_dispatch 40 = .ok (.aload_n 3, 1) := dk_45 (dk_at dksX2_dispatch_1 17 rfl rfl)
theorem dX2_dispatch_41 : decode cX2_dispatch 41 = .ok (.invokevirtual 188, 3) := dk_182 0 188 (dk_at dksX2_dispatch_1 18 rfl rfl)
theorem dX2_dispatch_44 : decode cX2_dispatch 44 = .ok (.iload_n 2, 1) := dk_28 (dk_at dksX2_dispatch_1 21 rfl rfl)
theorem dX2_dispatch_45 : decode cX2_dispatch 45 = .ok (.isub, 1) := dk_100 (dk_at dksX2_dispatch_1 22 rfl rfl)
theorem dX2_dispatch_46 : decode cX2_dispatch 46 = .ok (.invokestatic 152, 3) := dk_184 0 152 (dk_at dksX2_dispatch_2 0 rfl rfl)
theorem dX2_dispatch_49 : decode cX2_dispatch 49 = .ok (.invokespecial 203, 3) := dk_183 0 203 (dk_at dksX2_dispatch_2 3 rfl rfl)
theorem dX2_dispatch_52 : decode cX2_dispatch 52 = .ok (.putfield 67, 3) := dk_181 0 67 (dk_at dksX2_dispatch_2 6 rfl rfl)
theorem dX2_dispatch_55 : decode cX2_dispatch 55 = .ok (.aload_n 0, 1) := dk_42 (dk_at dksX2_dispatch_2 9 rfl rfl)
theorem dX2_dispatch_56 : decode cX2_dispatch 56 = .ok (.invokevirtual 210, 3) := dk_182 0 210 (dk_at dksX2_dispatch_2 10 rfl rfl)
theorem dX2_dispatch_59 : decode cX2_dispatch 59 = .ok (.aload_n 0, 1) := dk_42 (dk_at dksX2_dispatch_2 13 rfl rfl)
theorem dX2_dispatch_60 : decode cX2_dispatch 60 = .ok (.getfield 39, 3) := dk_180 0 39 (dk_at dksX2_dispatch_2 14 rfl rfl)
theorem dX2_dispatch_63 : decode cX2_dispatch 63 = .ok (.isub, 1) := dk_100 (dk_at dksX2_dispatch_2 17 rfl rfl)
theorem dX2_dispatch_64 : decode cX2_dispatch 64 = .ok (.istore_n 2, 1) := dk_61 (dk_at dksX2_dispatch_2 18 rfl rfl)
theorem dX2_dispatch_65 : decode cX2_dispatch 65 = .ok (.iinc 1 1, 3) := dk_132 1 1 (dk_at dksX2_dispatch_2 19 rfl rfl)
theorem dX2_dispatch_68 : decode cX2_dispatch 68 = .ok (.goto (-56), 3) := dk_167 255 200 (dk_at dksX2_dispatch_3 0 rfl rfl)
theorem dX2_dispatch_71 : decode cX2_dispatch 71 = .ok (.iload_n 1, 1) := dk_27 (dk_at dksX2_dispatch_3 3 rfl rfl)
theorem dX2_dispatch_72 : decode cX2_dispatch 72 = .ok (.ireturn, 1) := dk_172 (dk_at dksX2_dispatch_3 4 rfl rfl)
abbrev cX2_turbineByOutput : ByteArray := prog_11_method_40_code
def yX2_turbineByOutput : MethodName := ⟨RX2, "turbineByOutput", "(IZ)I"⟩
def dkwX2_turbineByOutput_3 : List UInt8 := [167, 255, 205, 21, 4, 27, 160, 0, 5, 29, 172, 132, 3, 1, 167, 255, 174, 2, 172]
abbrev dktX2_turbineByOutput_3 : List UInt8 := dkwX2_turbineByOutput_3 ++ []
def dkwX2_turbineByOutput_2 : List UInt8 := [42, 180, 0, 12, 29, 182, 0, 48, 192, 0, 52, 28, 182, 0, 241, 184, 0, 171, 96, 54, 4, 132, 5, 1]
abbrev dktX2_turbineByOutput_2 : List UInt8 := dkwX2_turbineByOutput_2 ++ dktX2_turbineByOutput_3
def dkwX2_turbineByOutput_1 : List UInt8 := [180, 0, 12, 182, 0, 44, 162, 0, 45, 21, 4, 42, 42, 180, 0, 12, 21, 5, 182, 0, 48, 192, 0, 52]
abbrev dktX2_turbineByOutput_1 : List UInt8 := dkwX2_turbineByOutput_1 ++ dktX2_turbineByOutput_2
def dkwX2_turbineByOutput_0 : List UInt8 := [3, 62, 29, 42, 180, 0, 12, 182, 0, 44, 162, 0, 77, 3, 54, 4, 3, 54, 5, 21, 5, 42]
abbrev dktX2_turbineByOutput_0 : List UInt8 := dkwX2_turbineByOutput_0 ++ dktX2_turbineByOutput_1
theorem dksX2_turbineByOutput_0 : cX2_turbineByOutput.data.toList.drop 0 = dktX2_turbineByOutput_0 := by decide +kernel
theorem dksX2_turbineByOutput_1 : cX2_turbineByOutput.data.toList.drop 22 = dktX2_turbineByOutput_1 := dk_seg dksX2_turbineByOutput_0 22 rfl rfl
theorem dksX2_turbineByOutput_2 : cX2_turbineByOutput.data.toList.drop 46 = dktX2_turbineByOutput_2 := dk_seg dksX2_turbineByOutput_1 24 rfl rfl
theorem dksX2_turbineByOutput_3 : cX2_turbineByOutput.data.toList.drop 70 = dktX2_turbineByOutput_3 := dk_seg dksX2_turbineByOutput_2 24 rfl rfl
theorem dX2_turbineByOutput_0 : decode cX2_turbineByOutput 0 = .ok (.iconst 0, 1) := dk_3 (dk_at dksX2_turbineByOutput_0 0 rfl rfl)
theorem dX2_turbineByOutput_1 : decode cX2_turbineByOutput 1 = .ok (.istore_n 3, 1) := dk_62 (dk_at dksX2_turbineByOutput_0 1 rfl rfl)
theorem dX2_turbineByOutput_2 : decode cX2_turbineByOutput 2 = .ok (.iload_n 3, 1) := dk_29 (dk_at dksX2_turbineByOutput_0 2 rfl rfl)
theorem dX2_turbineByOutput_3 : decode cX2_turbineByOutput 3 = .ok (.aload_n 0, 1) := dk_42 (dk_at dksX2_turbineByOutput_0 3 rfl rfl)
theorem dX2_turbineByOutput_4 : decode cX2_turbineByOutput 4 = .ok (.getfield 12, 3) := dk_180 0 12 (dk_at dksX2_turbineByOutput_0 4 rfl rfl)
theorem dX2_turbineByOutput_7 : decode cX2_turbineByOutput 7 = .ok (.invokevirtual 44, 3) := dk_182 0 44 (dk_at dksX2_turbineByOutput_0 7 rfl rfl)
theorem dX2_turbineByOutput_10 : decode cX2_turbineByOutput 10 = .ok (.if_icmp .ge 77, 3) := dk_162 0 77 (dk_at dksX2_turbineByOutput_0 10 rfl rfl)
theorem dX2_turbineByOutput_13 : decode cX2_turbineByOutput 13 = .ok (.iconst 0, 1) := dk_3 (dk_at dksX2_turbineByOutput_0 13 rfl rfl)
theorem dX2_turbineByOutput_14 : decode cX2_turbineByOutput 14 = .ok (.istore 4, 2) := dk_54 4 (dk_at dksX2_turbineByOutput_0 14 rfl rfl)
theorem dX2_turbineByOutput_16 : decode cX2_turbineByOutput 16 = .ok (.iconst 0, 1) := dk_3 (dk_at dksX2_turbineByOutput_0 16 rfl rfl)
theorem dX2_turbineByOutput_17 : decode cX2_turbineByOutput 17 = .ok (.istore 5, 2) := dk_54 5 (dk_at dksX2_turbineByOutput_0 17 rfl rfl)
theorem dX2_turbineByOutput_19 : decode cX2_turbineByOutput 19 = .ok (.iload 5, 2) := dk_21 5 (dk_at dksX2_turbineByOutput_0 19 rfl rfl)
theorem dX2_turbineByOutput_21 : decode cX2_turbineByOutput 21 = .ok (.aload_n 0, 1) := dk_42 (dk_at dksX2_turbineByOutput_0 21 rfl rfl)
theorem dX2_turbineByOutput_22 : decode cX2_turbineByOutput 22 = .ok (.getfield 12, 3) := dk_180 0 12 (dk_at dksX2_turbineByOutput_1 0 rfl rfl)
theorem dX2_turbineByOutput_25 : decode cX2_turbineByOutput 25 = .ok (.invokevirtual 44, 3) := dk_182 0 44 (dk_at dksX2_turbineByOutput_1 3 rfl rfl)
theorem dX2_turbineByOutput_28 : decode cX2_turbineByOutput 28 = .ok (.if_icmp .ge 45, 3) := dk_162 0 45 (dk_at dksX2_turbineByOutput_1 6 rfl rfl)
theorem dX2_turbineByOutput_31 : decode cX2_turbineByOutput 31 = .ok (.iload 4, 2) := dk_21 4 (dk_at dksX2_turbineByOutput_1 9 rfl rfl)
theorem dX2_turbineByOutput_33 : decode cX2_turbineByOutput 33 = .ok (.aload_n 0, 1) := dk_42 (dk_at dksX2_turbineByOutput_1 11 rfl rfl)
theorem dX2_turbineByOutput_34 : decode cX2_turbineByOutput 34 = .ok (.aload_n 0, 1) := dk_42 (dk_at dksX2_turbineByOutput_1 12 rfl rfl)
theorem dX2_turbineByOutput_35 : decode cX2_turbineByOutput 35 = .ok (.getfield 12, 3) := dk_180 0 12 (dk_at dksX2_turbineByOutput_1 13 rfl rfl)
theorem dX2_turbineByOutput_38 : decode cX2_turbineByOutput 38 = .ok (.iload 5, 2) := dk_21 5 (dk_at dksX2_turbineByOutput_1 16 rfl rfl)
theorem dX2_turbineByOutput_40 : decode cX2_turbineByOutput 40 = .ok (.invokevirtual 48, 3) := dk_182 0 48 (dk_at dksX2_turbineByOutput_1 18 rfl rfl)
theorem dX2_turbineByOutput_43 : decode cX2_turbineByOutput 43 = .ok (.checkcast 52, 3) := dk_192 0 52 (dk_at dksX2_turbineByOutput_1 21 rfl rfl)
theorem dX2_turbineByOutput_46 : decode cX2_turbineByOutput 46 = .ok (.aload_n 0, 1) := dk_42 (dk_at dksX2_turbineByOutput_2 0 rfl rfl)
theorem dX2_turbineByOutput_47 : decode cX2_turbineByOutput 47 = .ok (.getfield 12, 3) := dk_180 0 12 (dk_at dksX2_turbineByOutput_2 1 rfl rfl)
theorem dX2_turbineByOutput_50 : decode cX2_turbineByOutput 50 = .ok (.iload_n 3, 1) := dk_29 (dk_at dksX2_turbineByOutput_2 4 rfl rfl)
theorem dX2_turbineByOutput_51 : decode cX2_turbineByOutput 51 = .ok (.invokevirtual 48, 3) := dk_182 0 48 (dk_at dksX2_turbineByOutput_2 5 rfl rfl)
theorem dX2_turbineByOutput_54 : decode cX2_turbineByOutput 54 = .ok (.checkcast 52, 3) := dk_192 0 52 (dk_at dksX2_turbineByOutput_2 8 rfl rfl)
theorem dX2_turbineByOutput_57 : decode cX2_turbineByOutput 57 = .ok (.iload_n 2, 1) := dk_28 (dk_at dksX2_turbineByOutput_2 11 rfl rfl)
theorem dX2_turbineByOutput_58 : decode cX2_turbineByOutput 58 = .ok (.invokevirtual 241, 3) := dk_182 0 241 (dk_at dksX2_turbineByOutput_2 12 rfl rfl)
theorem dX2_turbineByOutput_61 : decode cX2_turbineByOutput 61 = .ok (.invokestatic 171, 3) := dk_184 0 171 (dk_at dksX2_turbineByOutput_2 15 rfl rfl)
theorem dX2_turbineByOutput_64 : decode cX2_turbineByOutput 64 = .ok (.iadd, 1) := dk_96 (dk_at dksX2_turbineByOutput_2 18 rfl rfl)
theorem dX2_turbineByOutput_65 : decode cX2_turbineByOutput 65 = .ok (.istore 4, 2) := dk_54 4 (dk_at dksX2_turbineByOutput_2 19 rfl rfl)
theorem dX2_turbineByOutput_67 : decode cX2_turbineByOutput 67 = .ok (.iinc 5 1, 3) := dk_132 5 1 (dk_at dksX2_turbineByOutput_2 21 rfl rfl)
theorem dX2_turbineByOutput_70 : decode cX2_turbineByOutput 70 = .ok (.goto (-51), 3) := dk_167 255 205 (dk_at dksX2_turbineByOutput_3 0 rfl rfl)
theorem dX2_turbineByOutput_73 : decode cX2_turbineByOutput 73 = .ok (.iload 4, 2) := dk_21 4 (dk_at dksX2_turbineByOutput_3 3 rfl rfl)
theorem dX2_turbineByOutput_75 : decode cX2_turbineByOutput 75 = .ok (.iload_n 1, 1) := dk_27 (dk_at dksX2_turbineByOutput_3 5 rfl rfl)
theorem dX2_turbineByOutput_76 : decode cX2_turbineByOutput 76 = .ok (.if_icmp .ne 5, 3) := dk_160 0 5 (dk_at dksX2_turbineByOutput_3 6 rfl rfl)
theorem dX2_turbineByOutput_79 : decode cX2_turbineByOutput 79 = .ok (.iload_n 3, 1) := dk_29 (dk_at dksX2_turbineByOutput_3 9 rfl rfl)
theorem dX2_turbineByOutput_80 : decode cX2_turbineByOutput 80 = .ok (.ireturn, 1) := dk_172 (dk_at dksX2_turbineByOutput_3 10 rfl rfl)
theorem dX2_turbineByOutput_81 : decode cX2_turbineByOutput 81 = .ok (.iinc 3 1, 3) := dk_132 3 1 (dk_at dksX2_turbineByOutput_3 11 rfl rfl)
theorem dX2_turbineByOutput_84 : decode cX2_turbineByOutput 84 = .ok (.goto (-82), 3) := dk_167 255 174 (dk_at dksX2_turbineByOutput_3 14 rfl rfl)
theorem dX2_turbineByOutput_87 : decode cX2_turbineByOutput 87 = .ok (.iconst (-1), 1) := dk_2 (dk_at dksX2_turbineByOutput_3 17 rfl rfl)
theorem dX2_turbineByOutput_88 : decode cX2_turbineByOutput 88 = .ok (.ireturn, 1) := dk_172 (dk_at dksX2_turbineByOutput_3 18 rfl rfl)
abbrev cX2_isStronger : ByteArray := prog_11_method_41_code
def yX2_isStronger : MethodName := ⟨RX2, "isStronger", "(LWindFarmDispatcher$Turbine;LWindFarmDispatcher$Turbine;Z)Z"⟩
def dkwX2_isStronger_3 : List UInt8 := [172]
abbrev dktX2_isStronger_3 : List UInt8 := dkwX2_isStronger_3 ++ []
def dkwX2_isStronger_2 : List UInt8 := [157, 0, 19, 21, 5, 154, 0, 18, 43, 180, 0, 165, 44, 180, 0, 165, 162, 0, 7, 4, 167, 0, 4, 3]
abbrev dktX2_isStronger_2 : List UInt8 := dkwX2_isStronger_2 ++ dktX2_isStronger_3
def dkwX2_isStronger_1 : List UInt8 := [180, 0, 60, 100, 167, 0, 4, 3, 54, 5, 21, 4, 157, 0, 29, 21, 4, 154, 0, 28, 21, 5]
abbrev dktX2_isStronger_1 : List UInt8 := dkwX2_isStronger_1 ++ dktX2_isStronger_2
def dkwX2_isStronger_0 : List UInt8 := [42, 43, 182, 0, 188, 42, 44, 182, 0, 188, 100, 54, 4, 29, 153, 0, 15, 43, 180, 0, 60, 44]
abbrev dktX2_isStronger_0 : List UInt8 := dkwX2_isStronger_0 ++ dktX2_isStronger_1
theorem dksX2_isStronger_0 : cX2_isStronger.data.toList.drop 0 = dktX2_isStronger_0 := by decide +kernel
theorem dksX2_isStronger_1 : cX2_isStronger.data.toList.drop 22 = dktX2_isStronger_1 := dk_seg dksX2_isStronger_0 22 rfl rfl
theorem dksX2_isStronger_2 : cX2_isStronger.data.toList.drop 44 = dktX2_isStronger_2 := dk_seg dksX2_isStronger_1 22 rfl rfl
theorem dksX2_isStronger_3 : cX2_isStronger.data.toList.drop 68 = dktX2_isStronger_3 := dk_seg dksX2_isStronger_2 24 rfl rfl
theorem dX2_isStronger_0 : decode cX2_isStronger 0 = .ok (.aload_n 0, 1) := dk_42 (dk_at dksX2_isStronger_0 0 rfl rfl)
theorem dX2_isStronger_1 : decode cX2_isStronger 1 = .ok (.aload_n 1, 1) := dk_43 (dk_at dksX2_isStronger_0 1 rfl rfl)
theorem dX2_isStronger_2 : decode cX2_isStronger 2 = .ok (.invokevirtual 188, 3) := dk_182 0 188 (dk_at dksX2_isStronger_0 2 rfl rfl)
theorem dX2_isStronger_5 : decode cX2_isStronger 5 = .ok (.aload_n 0, 1) := dk_42 (dk_at dksX2_isStronger_0 5 rfl rfl)
theorem dX2_isStronger_6 : decode cX2_isStronger 6 = .ok (.aload_n 2, 1) := dk_44 (dk_at dksX2_isStronger_0 6 rfl rfl)
theorem dX2_isStronger_7 : decode cX2_isStronger 7 = .ok (.invokevirtual 188, 3) := dk_182 0 188 (dk_at dksX2_isStronger_0 7 rfl rfl)
theorem dX2_isStronger_10 : decode cX2_isStronger 10 = .ok (.isub, 1) := dk_100 (dk_at dksX2_isStronger_0 10 rfl rfl)
theorem dX2_isStronger_11 : decode cX2_isStronger 11 = .ok (.istore 4, 2) := dk_54 4 (dk_at dksX2_isStronger_0 11 rfl rfl)
theorem dX2_isStronger_13 : decode cX2_isStronger 13 = .ok (.iload_n 3, 1) := dk_29 (dk_at dksX2_isStronger_0 13 rfl rfl)
theorem dX2_isStronger_14 : decode cX2_isStronger 14 = .ok (.ifCond .eq 15, 3) := dk_153 0 15 (dk_at dksX2_isStronger_0 14 rfl rfl)
theorem dX2_isStronger_17 : decode cX2_isStronger 17 = .ok (.aload_n 1, 1) := dk_43 (dk_at dksX2_isStronger_0 17 rfl rfl)
theorem dX2_isStronger_18 : decode cX2_isStronger 18 = .ok (.getfield 60, 3) := dk_180 0 60 (dk_at dksX2_isStronger_0 18 rfl rfl)
theorem dX2_isStronger_21 : decode cX2_isStronger 21 = .ok (.aload_n 2, 1) := dk_44 (dk_at dksX2_isStronger_0 21 rfl rfl)
theorem dX2_isStronger_22 : decode cX2_isStronger 22 = .ok (.getfield 60, 3) := dk_180 0 60 (dk_at dksX2_isStronger_1 0 rfl rfl)
theorem dX2_isStronger_25 : decode cX2_isStronger 25 = .ok (.isub, 1) := dk_100 (dk_at dksX2_isStronger_1 3 rfl rfl)
theorem dX2_isStronger_26 : decode cX2_isStronger 26 = .ok (.goto 4, 3) := dk_167 0 4 (dk_at dksX2_isStronger_1 4 rfl rfl)
theorem dX2_isStronger_29 : decode cX2_isStronger 29 = .ok (.iconst 0, 1) := dk_3 (dk_at dksX2_isStronger_1 7 rfl rfl)
theorem dX2_isStronger_30 : decode cX2_isStronger 30 = .ok (.istore 5, 2) := dk_54 5 (dk_at dksX2_isStronger_1 8 rfl rfl)
theorem dX2_isStronger_32 : decode cX2_isStronger 32 = .ok (.iload 4, 2) := dk_21 4 (dk_at dksX2_isStronger_1 10 rfl rfl)
theorem dX2_isStronger_34 : decode cX2_isStronger 34 = .ok (.ifCond .gt 29, 3) := dk_157 0 29 (dk_at dksX2_isStronger_1 12 rfl rfl)
theorem dX2_isStronger_37 : decode cX2_isStronger 37 = .ok (.iload 4, 2) := dk_21 4 (dk_at dksX2_isStronger_1 15 rfl rfl)
theorem dX2_isStronger_39 : decode cX2_isStronger 39 = .ok (.ifCond .ne 28, 3) := dk_154 0 28 (dk_at dksX2_isStronger_1 17 rfl rfl)
theorem dX2_isStronger_42 : decode cX2_isStronger 42 = .ok (.iload 5, 2) := dk_21 5 (dk_at dksX2_isStronger_1 20 rfl rfl)
theorem dX2_isStronger_44 : decode cX2_isStronger 44 = .ok (.ifCond .gt 19, 3) := dk_157 0 19 (dk_at dksX2_isStronger_2 0 rfl rfl)
theorem dX2_isStronger_47 : decode cX2_isStronger 47 = .ok (.iload 5, 2) := dk_21 5 (dk_at dksX2_isStronger_2 3 rfl rfl)
theorem dX2_isStronger_49 : decode cX2_isStronger 49 = .ok (.ifCond .ne 18, 3) := dk_154 0 18 (dk_at dksX2_isStronger_2 5 rfl rfl)
theorem dX2_isStronger_52 : decode cX2_isStronger 52 = .ok (.aload_n 1, 1) := dk_43 (dk_at dksX2_isStronger_2 8 rfl rfl)
theorem dX2_isStronger_53 : decode cX2_isStronger 53 = .ok (.getfield 165, 3) := dk_180 0 165 (dk_at dksX2_isStronger_2 9 rfl rfl)
theorem dX2_isStronger_56 : decode cX2_isStronger 56 = .ok (.aload_n 2, 1) := dk_44 (dk_at dksX2_isStronger_2 12 rfl rfl)
theorem dX2_isStronger_57 : decode cX2_isStronger 57 = .ok (.getfield 165, 3) := dk_180 0 165 (dk_at dksX2_isStronger_2 13 rfl rfl)
theorem dX2_isStronger_60 : decode cX2_isStronger 60 = .ok (.if_icmp .ge 7, 3) := dk_162 0 7 (dk_at dksX2_isStronger_2 16 rfl rfl)
theorem dX2_isStronger_63 : decode cX2_isStronger 63 = .ok (.iconst 1, 1) := dk_4 (dk_at dksX2_isStronger_2 19 rfl rfl)
theorem dX2_isStronger_64 : decode cX2_isStronger 64 = .ok (.goto 4, 3) := dk_167 0 4 (dk_at dksX2_isStronger_2 20 rfl rfl)
theorem dX2_isStronger_67 : decode cX2_isStronger 67 = .ok (.iconst 0, 1) := dk_3 (dk_at dksX2_isStronger_2 23 rfl rfl)
theorem dX2_isStronger_68 : decode cX2_isStronger 68 = .ok (.ireturn, 1) := dk_172 (dk_at dksX2_isStronger_3 0 rfl rfl)
abbrev cX2_releaseAll : ByteArray := prog_11_method_26_code
def yX2_releaseAll : MethodName := ⟨RX2, "releaseAll", "()I"⟩
def dkwX2_releaseAll_2 : List UInt8 := [132, 1, 1, 132, 2, 1, 167, 255, 208, 27, 172]
abbrev dktX2_releaseAll_2 : List UInt8 := dkwX2_releaseAll_2 ++ []
def dkwX2_releaseAll_1 : List UInt8 := [192, 0, 52, 78, 45, 182, 0, 204, 2, 159, 0, 17, 45, 187, 0, 207, 89, 183, 0, 209, 181, 0, 67]
abbrev dktX2_releaseAll_1 : List UInt8 := dkwX2_releaseAll_1 ++ dktX2_releaseAll_2
def dkwX2_releaseAll_0 : List UInt8 := [3, 60, 3, 61, 28, 42, 180, 0, 12, 182, 0, 44, 162, 0, 43, 42, 180, 0, 12, 28, 182, 0, 48]
abbrev dktX2_releaseAll_0 : List UInt8 := dkwX2_releaseAll_0 ++ dktX2_releaseAll_1
theorem dksX2_releaseAll_0 : cX2_releaseAll.data.toList.drop 0 = dktX2_releaseAll_0 := by decide +kernel
theorem dksX2_releaseAll_1 : cX2_releaseAll.data.toList.drop 23 = dktX2_releaseAll_1 := dk_seg dksX2_releaseAll_0 23 rfl rfl
theorem dksX2_releaseAll_2 : cX2_releaseAll.data.toList.drop 46 = dktX2_releaseAll_2 := dk_seg dksX2_releaseAll_1 23 rfl rfl
theorem dX2_releaseAll_0 : decode cX2_releaseAll 0 = .ok (.iconst 0, 1) := dk_3 (dk_at dksX2_releaseAll_0 0 rfl rfl)
theorem dX2_releaseAll_1 : decode cX2_releaseAll 1 = .ok (.istore_n 1, 1) := dk_60 (dk_at dksX2_releaseAll_0 1 rfl rfl)
theorem dX2_releaseAll_2 : decode cX2_releaseAll 2 = .ok (.iconst 0, 1) := dk_3 (dk_at dksX2_releaseAll_0 2 rfl rfl)
theorem dX2_releaseAll_3 : decode cX2_releaseAll 3 = .ok (.istore_n 2, 1) := dk_61 (dk_at dksX2_releaseAll_0 3 rfl rfl)
theorem dX2_releaseAll_4 : decode cX2_releaseAll 4 = .ok (.iload_n 2, 1) := dk_28 (dk_at dksX2_releaseAll_0 4 rfl rfl)
theorem dX2_releaseAll_5 : decode cX2_releaseAll 5 = .ok (.aload_n 0, 1) := dk_42 (dk_at dksX2_releaseAll_0 5 rfl rfl)
theorem dX2_releaseAll_6 : decode cX2_releaseAll 6 = .ok (.getfield 12, 3) := dk_180 0 12 (dk_at dksX2_releaseAll_0 6 rfl rfl)
theorem dX2_releaseAll_9 : decode cX2_releaseAll 9 = .ok (.invokevirtual 44, 3) := dk_182 0 44 (dk_at dksX2_releaseAll_0 9 rfl rfl)
theorem dX2_releaseAll_12 : decode cX2_releaseAll 12 = .ok (.if_icmp .ge 43, 3) := dk_162 0 43 (dk_at dksX2_releaseAll_0 12 rfl rfl)
theorem dX2_releaseAll_15 : decode cX2_releaseAll 15 = .ok (.aload_n 0, 1) := dk_42 (dk_at dksX2_releaseAll_0 15 rfl rfl)
theorem dX2_releaseAll_16 : decode cX2_releaseAll 16 = .ok (.getfield 12, 3) := dk_180 0 12 (dk_at dksX2_releaseAll_0 16 rfl rfl)
theorem dX2_releaseAll_19 : decode cX2_releaseAll 19 = .ok (.iload_n 2, 1) := dk_28 (dk_at dksX2_releaseAll_0 19 rfl rfl)
theorem dX2_releaseAll_20 : decode cX2_releaseAll 20 = .ok (.invokevirtual 48, 3) := dk_182 0 48 (dk_at dksX2_releaseAll_0 20 rfl rfl)
theorem dX2_releaseAll_23 : decode cX2_releaseAll 23 = .ok (.checkcast 52, 3) := dk_192 0 52 (dk_at dksX2_releaseAll_1 0 rfl rfl)
theorem dX2_releaseAll_26 : decode cX2_releaseAll 26 = .ok (.astore_n 3, 1) := dk_78 (dk_at dksX2_releaseAll_1 3 rfl rfl)
theorem dX2_releaseAll_27 : decode cX2_releaseAll 27 = .ok (.aload_n 3, 1) := dk_45 (dk_at dksX2_releaseAll_1 4 rfl rfl)
theorem dX2_releaseAll_28 : decode cX2_releaseAll 28 = .ok (.invokevirtual 204, 3) := dk_182 0 204 (dk_at dksX2_releaseAll_1 5 rfl rfl)
theorem dX2_releaseAll_31 : decode cX2_releaseAll 31 = .ok (.iconst (-1), 1) := dk_2 (dk_at dksX2_releaseAll_1 8 rfl rfl)
theorem dX2_releaseAll_32 : decode cX2_releaseAll 32 = .ok (.if_icmp .eq 17, 3) := dk_159 0 17 (dk_at dksX2_releaseAll_1 9 rfl rfl)
theorem dX2_releaseAll_35 : decode cX2_releaseAll 35 = .ok (.aload_n 3, 1) := dk_45 (dk_at dksX2_releaseAll_1 12 rfl rfl)
theorem dX2_releaseAll_36 : decode cX2_releaseAll 36 = .ok (.new 207, 3) := dk_187 0 207 (dk_at dksX2_releaseAll_1 13 rfl rfl)
theorem dX2_releaseAll_39 : decode cX2_releaseAll 39 = .ok (.dup, 1) := dk_89 (dk_at dksX2_releaseAll_1 16 rfl rfl)
theorem dX2_releaseAll_40 : decode cX2_releaseAll 40 = .ok (.invokespecial 209, 3) := dk_183 0 209 (dk_at dksX2_releaseAll_1 17 rfl rfl)
theorem dX2_releaseAll_43 : decode cX2_releaseAll 43 = .ok (.putfield 67, 3) := dk_181 0 67 (dk_at dksX2_releaseAll_1 20 rfl rfl)
theorem dX2_releaseAll_46 : decode cX2_releaseAll 46 = .ok (.iinc 1 1, 3) := dk_132 1 1 (dk_at dksX2_releaseAll_2 0 rfl rfl)
theorem dX2_releaseAll_49 : decode cX2_releaseAll 49 = .ok (.iinc 2 1, 3) := dk_132 2 1 (dk_at dksX2_releaseAll_2 3 rfl rfl)
theorem dX2_releaseAll_52 : decode cX2_releaseAll 52 = .ok (.goto (-48), 3) := dk_167 255 208 (dk_at dksX2_releaseAll_2 6 rfl rfl)
theorem dX2_releaseAll_55 : decode cX2_releaseAll 55 = .ok (.iload_n 1, 1) := dk_27 (dk_at dksX2_releaseAll_2 9 rfl rfl)
theorem dX2_releaseAll_56 : decode cX2_releaseAll 56 = .ok (.ireturn, 1) := dk_172 (dk_at dksX2_releaseAll_2 10 rfl rfl)
abbrev cX2_placeBid : ByteArray := prog_11_method_32_code
def yX2_placeBid : MethodName := ⟨RX2, "placeBid", "(III)I"⟩
def dkwX2_placeBid_1 : List UInt8 := [180, 0, 27, 27, 29, 79, 42, 182, 0, 221, 172]
abbrev dktX2_placeBid_1 : List UInt8 := dkwX2_placeBid_1 ++ []
def dkwX2_placeBid_0 : List UInt8 := [42, 27, 182, 0, 217, 16, 8, 42, 180, 0, 23, 27, 46, 184, 0, 161, 42, 180, 0, 23, 27, 28, 79, 42]
abbrev dktX2_placeBid_0 : List UInt8 := dkwX2_placeBid_0 ++ dktX2_placeBid_1
theorem dksX2_placeBid_0 : cX2_placeBid.data.toList.drop 0 = dktX2_placeBid_0 := by decide +kernel
theorem dksX2_placeBid_1 : cX2_placeBid.data.toList.drop 24 = dktX2_placeBid_1 := dk_seg dksX2_placeBid_0 24 rfl rfl
theorem dX2_placeBid_0 : decode cX2_placeBid 0 = .ok (.aload_n 0, 1) := dk_42 (dk_at dksX2_placeBid_0 0 rfl rfl)
theorem dX2_placeBid_1 : decode cX2_placeBid 1 = .ok (.iload_n 1, 1) := dk_27 (dk_at dksX2_placeBid_0 1 rfl rfl)
theorem dX2_placeBid_2 : decode cX2_placeBid 2 = .ok (.invokevirtual 217, 3) := dk_182 0 217 (dk_at dksX2_placeBid_0 2 rfl rfl)
theorem dX2_placeBid_5 : decode cX2_placeBid 5 = .ok (.bipush 8, 2) := dk_16 8 (dk_at dksX2_placeBid_0 5 rfl rfl)
theorem dX2_placeBid_7 : decode cX2_placeBid 7 = .ok (.aload_n 0, 1) := dk_42 (dk_at dksX2_placeBid_0 7 rfl rfl)
theorem dX2_placeBid_8 : decode cX2_placeBid 8 = .ok (.getfield 23, 3) := dk_180 0 23 (dk_at dksX2_placeBid_0 8 rfl rfl)
theorem dX2_placeBid_11 : decode cX2_placeBid 11 = .ok (.iload_n 1, 1) := dk_27 (dk_at dksX2_placeBid_0 11 rfl rfl)
theorem dX2_placeBid_12 : decode cX2_placeBid 12 = .ok (.iaload, 1) := dk_46 (dk_at dksX2_placeBid_0 12 rfl rfl)
theorem dX2_placeBid_13 : decode cX2_placeBid 13 = .ok (.invokestatic 161, 3) := dk_184 0 161 (dk_at dksX2_placeBid_0 13 rfl rfl)
theorem dX2_placeBid_16 : decode cX2_placeBid 16 = .ok (.aload_n 0, 1) := dk_42 (dk_at dksX2_placeBid_0 16 rfl rfl)
theorem dX2_placeBid_17 : decode cX2_placeBid 17 = .ok (.getfield 23, 3) := dk_180 0 23 (dk_at dksX2_placeBid_0 17 rfl rfl)
theorem dX2_placeBid_20 : decode cX2_placeBid 20 = .ok (.iload_n 1, 1) := dk_27 (dk_at dksX2_placeBid_0 20 rfl rfl)
theorem dX2_placeBid_21 : decode cX2_placeBid 21 = .ok (.iload_n 2, 1) := dk_28 (dk_at dksX2_placeBid_0 21 rfl rfl)
theorem dX2_placeBid_22 : decode cX2_placeBid 22 = .ok (.iastore, 1) := dk_79 (dk_at dksX2_placeBid_0 22 rfl rfl)
theorem dX2_placeBid_23 : decode cX2_placeBid 23 = .ok (.aload_n 0, 1) := dk_42 (dk_at dksX2_placeBid_0 23 rfl rfl)
theorem dX2_placeBid_24 : decode cX2_placeBid 24 = .ok (.getfield 27, 3) := dk_180 0 27 (dk_at dksX2_placeBid_1 0 rfl rfl)
theorem dX2_placeBid_27 : decode cX2_placeBid 27 = .ok (.iload_n 1, 1) := dk_27 (dk_at dksX2_placeBid_1 3 rfl rfl)
theorem dX2_placeBid_28 : decode cX2_placeBid 28 = .ok (.iload_n 3, 1) := dk_29 (dk_at dksX2_placeBid_1 4 rfl rfl)
theorem dX2_placeBid_29 : decode cX2_placeBid 29 = .ok (.iastore, 1) := dk_79 (dk_at dksX2_placeBid_1 5 rfl rfl)
theorem dX2_placeBid_30 : decode cX2_placeBid 30 = .ok (.aload_n 0, 1) := dk_42 (dk_at dksX2_placeBid_1 6 rfl rfl)
theorem dX2_placeBid_31 : decode cX2_placeBid 31 = .ok (.invokevirtual 221, 3) := dk_182 0 221 (dk_at dksX2_placeBid_1 7 rfl rfl)
theorem dX2_placeBid_34 : decode cX2_placeBid 34 = .ok (.ireturn, 1) := dk_172 (dk_at dksX2_placeBid_1 10 rfl rfl)
abbrev cX2_hasBid : ByteArray := prog_11_method_31_code
def yX2_hasBid : MethodName := ⟨RX2, "hasBid", "(I)Z"⟩
def dkwX2_hasBid_0 : List UInt8 := [42, 180, 0, 27, 27, 46, 158, 0, 7, 4, 167, 0, 4, 3, 172]
abbrev dktX2_hasBid_0 : List UInt8 := dkwX2_hasBid_0 ++ []
theorem dksX2_hasBid_0 : cX2_hasBid.data.toList.drop 0 = dktX2_hasBid_0 := by decide +kernel
theorem dX2_hasBid_0 : decode cX2_hasBid 0 = .ok (.aload_n 0, 1) := dk_42 (dk_at dksX2_hasBid_0 0 rfl rfl)
theorem dX2_hasBid_1 : decode cX2_hasBid 1 = .ok (.getfield 27, 3) := dk_180 0 27 (dk_at dksX2_hasBid_0 1 rfl rfl)
theorem dX2_hasBid_4 : decode cX2_hasBid 4 = .ok (.iload_n 1, 1) := dk_27 (dk_at dksX2_hasBid_0 4 rfl rfl)
theorem dX2_hasBid_5 : decode cX2_hasBid 5 = .ok (.iaload, 1) := dk_46 (dk_at dksX2_hasBid_0 5 rfl rfl)
theorem dX2_hasBid_6 : decode cX2_hasBid 6 = .ok (.ifCond .le 7, 3) := dk_158 0 7 (dk_at dksX2_hasBid_0 6 rfl rfl)
theorem dX2_hasBid_9 : decode cX2_hasBid 9 = .ok (.iconst 1, 1) := dk_4 (dk_at dksX2_hasBid_0 9 rfl rfl)
theorem dX2_hasBid_10 : decode cX2_hasBid 10 = .ok (.goto 4, 3) := dk_167 0 4 (dk_at dksX2_hasBid_0 10 rfl rfl)
theorem dX2_hasBid_13 : decode cX2_hasBid 13 = .ok (.iconst 0, 1) := dk_3 (dk_at dksX2_hasBid_0 13 rfl rfl)
theorem dX2_hasBid_14 : decode cX2_hasBid 14 = .ok (.ireturn, 1) := dk_172 (dk_at dksX2_hasBid_0 14 rfl rfl)
abbrev cX2_bidCount : ByteArray := prog_11_method_30_code
def yX2_bidCount : MethodName := ⟨RX2, "bidCount", "()I"⟩
def dkwX2_bidCount_1 : List UInt8 := [167, 255, 236, 27, 172]
abbrev dktX2_bidCount_1 : List UInt8 := dkwX2_bidCount_1 ++ []
def dkwX2_bidCount_0 : List UInt8 := [3, 60, 3, 61, 28, 16, 24, 162, 0, 20, 27, 42, 28, 182, 0, 217, 184, 0, 171, 96, 60, 132, 2, 1]
abbrev dktX2_bidCount_0 : List UInt8 := dkwX2_bidCount_0 ++ dktX2_bidCount_1
theorem dksX2_bidCount_0 : cX2_bidCount.data.toList.drop 0 = dktX2_bidCount_0 := by decide +kernel
theorem dksX2_bidCount_1 : cX2_bidCount.data.toList.drop 24 = dktX2_bidCount_1 := dk_seg dksX2_bidCount_0 24 rfl rfl
theorem dX2_bidCount_0 : decode cX2_bidCount 0 = .ok (.iconst 0, 1) := dk_3 (dk_at dksX2_bidCount_0 0 rfl rfl)
theorem dX2_bidCount_1 : decode cX2_bidCount 1 = .ok (.istore_n 1, 1) := dk_60 (dk_at dksX2_bidCount_0 1 rfl rfl)
theorem dX2_bidCount_2 : decode cX2_bidCount 2 = .ok (.iconst 0, 1) := dk_3 (dk_at dksX2_bidCount_0 2 rfl rfl)
theorem dX2_bidCount_3 : decode cX2_bidCount 3 = .ok (.istore_n 2, 1) := dk_61 (dk_at dksX2_bidCount_0 3 rfl rfl)
theorem dX2_bidCount_4 : decode cX2_bidCount 4 = .ok (.iload_n 2, 1) := dk_28 (dk_at dksX2_bidCount_0 4 rfl rfl)
theorem dX2_bidCount_5 : decode cX2_bidCount 5 = .ok (.bipush 24, 2) := dk_16 24 (dk_at dksX2_bidCount_0 5 rfl rfl)
theorem dX2_bidCount_7 : decode cX2_bidCount 7 = .ok (.if_icmp .ge 20, 3) := dk_162 0 20 (dk_at dksX2_bidCount_0 7 rfl rfl)
theorem dX2_bidCount_10 : decode cX2_bidCount 10 = .ok (.iload_n 1, 1) := dk_27 (dk_at dksX2_bidCount_0 10 rfl rfl)
theorem dX2_bidCount_11 : decode cX2_bidCount 11 = .ok (.aload_n 0, 1) := dk_42 (dk_at dksX2_bidCount_0 11 rfl rfl)
theorem dX2_bidCount_12 : decode cX2_bidCount 12 = .ok (.iload_n 2, 1) := dk_28 (dk_at dksX2_bidCount_0 12 rfl rfl)
theorem dX2_bidCount_13 : decode cX2_bidCount 13 = .ok (.invokevirtual 217, 3) := dk_182 0 217 (dk_at dksX2_bidCount_0 13 rfl rfl)
theorem dX2_bidCount_16 : decode cX2_bidCount 16 = .ok (.invokestatic 171, 3) := dk_184 0 171 (dk_at dksX2_bidCount_0 16 rfl rfl)
theorem dX2_bidCount_19 : decode cX2_bidCount 19 = .ok (.iadd, 1) := dk_96 (dk_at dksX2_bidCount_0 19 rfl rfl)
theorem dX2_bidCount_20 : decode cX2_bidCount 20 = .ok (.istore_n 1, 1) := dk_60 (dk_at dksX2_bidCount_0 20 rfl rfl)
theorem dX2_bidCount_21 : decode cX2_bidCount 21 = .ok (.iinc 2 1, 3) := dk_132 2 1 (dk_at dksX2_bidCount_0 21 rfl rfl)
theorem dX2_bidCount_24 : decode cX2_bidCount 24 = .ok (.goto (-20), 3) := dk_167 255 236 (dk_at dksX2_bidCount_1 0 rfl rfl)
theorem dX2_bidCount_27 : decode cX2_bidCount 27 = .ok (.iload_n 1, 1) := dk_27 (dk_at dksX2_bidCount_1 3 rfl rfl)
theorem dX2_bidCount_28 : decode cX2_bidCount 28 = .ok (.ireturn, 1) := dk_172 (dk_at dksX2_bidCount_1 4 rfl rfl)
abbrev cX2_withdrawBid : ByteArray := prog_11_method_33_code
def yX2_withdrawBid : MethodName := ⟨RX2, "withdrawBid", "(I)I"⟩
def dkwX2_withdrawBid_1 : List UInt8 := [180, 0, 27, 27, 46, 61, 42, 180, 0, 23, 27, 3, 79, 42, 180, 0, 27, 27, 3, 79, 28, 172]
abbrev dktX2_withdrawBid_1 : List UInt8 := dkwX2_withdrawBid_1 ++ []
def dkwX2_withdrawBid_0 : List UInt8 := [42, 27, 182, 0, 217, 154, 0, 7, 4, 167, 0, 4, 3, 16, 9, 42, 182, 0, 221, 184, 0, 161, 42]
abbrev dktX2_withdrawBid_0 : List UInt8 := dkwX2_withdrawBid_0 ++ dktX2_withdrawBid_1
theorem dksX2_withdrawBid_0 : cX2_withdrawBid.data.toList.drop 0 = dktX2_withdrawBid_0 := by decide +kernel
theorem dksX2_withdrawBid_1 : cX2_withdrawBid.data.toList.drop 23 = dktX2_withdrawBid_1 := dk_seg dksX2_withdrawBid_0 23 rfl rfl
theorem dX2_withdrawBid_0 : decode cX2_withdrawBid 0 = .ok (.aload_n 0, 1) := dk_42 (dk_at dksX2_withdrawBid_0 0 rfl rfl)
theorem dX2_withdrawBid_1 : decode cX2_withdrawBid 1 = .ok (.iload_n 1, 1) := dk_27 (dk_at dksX2_withdrawBid_0 1 rfl rfl)
theorem dX2_withdrawBid_2 : decode cX2_withdrawBid 2 = .ok (.invokevirtual 217, 3) := dk_182 0 217 (dk_at dksX2_withdrawBid_0 2 rfl rfl)
theorem dX2_withdrawBid_5 : decode cX2_withdrawBid 5 = .ok (.ifCond .ne 7, 3) := dk_154 0 7 (dk_at dksX2_withdrawBid_0 5 rfl rfl)
theorem dX2_withdrawBid_8 : decode cX2_withdrawBid 8 = .ok (.iconst 1, 1) := dk_4 (dk_at dksX2_withdrawBid_0 8 rfl rfl)
theorem dX2_withdrawBid_9 : decode cX2_withdrawBid 9 = .ok (.goto 4, 3) := dk_167 0 4 (dk_at dksX2_withdrawBid_0 9 rfl rfl)
theorem dX2_withdrawBid_12 : decode cX2_withdrawBid 12 = .ok (.iconst 0, 1) := dk_3 (dk_at dksX2_withdrawBid_0 12 rfl rfl)
theorem dX2_withdrawBid_13 : decode cX2_withdrawBid 13 = .ok (.bipush 9, 2) := dk_16 9 (dk_at dksX2_withdrawBid_0 13 rfl rfl)
theorem dX2_withdrawBid_15 : decode cX2_withdrawBid 15 = .ok (.aload_n 0, 1) := dk_42 (dk_at dksX2_withdrawBid_0 15 rfl rfl)
theorem dX2_withdrawBid_16 : decode cX2_withdrawBid 16 = .ok (.invokevirtual 221, 3) := dk_182 0 221 (dk_at dksX2_withdrawBid_0 16 rfl rfl)
theorem dX2_withdrawBid_19 : decode cX2_withdrawBid 19 = .ok (.invokestatic 161, 3) := dk_184 0 161 (dk_at dksX2_withdrawBid_0 19 rfl rfl)
theorem dX2_withdrawBid_22 : decode cX2_withdrawBid 22 = .ok (.aload_n 0, 1) := dk_42 (dk_at dksX2_withdrawBid_0 22 rfl rfl)
theorem dX2_withdrawBid_23 : decode cX2_withdrawBid 23 = .ok (.getfield 27, 3) := dk_180 0 27 (dk_at dksX2_withdrawBid_1 0 rfl rfl)
theorem dX2_withdrawBid_26 : decode cX2_withdrawBid 26 = .ok (.iload_n 1, 1) := dk_27 (dk_at dksX2_withdrawBid_1 3 rfl rfl)
theorem dX2_withdrawBid_27 : decode cX2_withdrawBid 27 = .ok (.iaload, 1) := dk_46 (dk_at dksX2_withdrawBid_1 4 rfl rfl)
theorem dX2_withdrawBid_28 : decode cX2_withdrawBid 28 = .ok (.istore_n 2, 1) := dk_61 (dk_at dksX2_withdrawBid_1 5 rfl rfl)
theorem dX2_withdrawBid_29 : decode cX2_withdrawBid 29 = .ok (.aload_n 0, 1) := dk_42 (dk_at dksX2_withdrawBid_1 6 rfl rfl)
theorem dX2_withdrawBid_30 : decode cX2_withdrawBid 30 = .ok (.getfield 23, 3) := dk_180 0 23 (dk_at dksX2_withdrawBid_1 7 rfl rfl)
theorem dX2_withdrawBid_33 : decode cX2_withdrawBid 33 = .ok (.iload_n 1, 1) := dk_27 (dk_at dksX2_withdrawBid_1 10 rfl rfl)
theorem dX2_withdrawBid_34 : decode cX2_withdrawBid 34 = .ok (.iconst 0, 1) := dk_3 (dk_at dksX2_withdrawBid_1 11 rfl rfl)
theorem dX2_withdrawBid_35 : decode cX2_withdrawBid 35 = .ok (.iastore, 1) := dk_79 (dk_at dksX2_withdrawBid_1 12 rfl rfl)
theorem dX2_withdrawBid_36 : decode cX2_withdrawBid 36 = .ok (.aload_n 0, 1) := dk_42 (dk_at dksX2_withdrawBid_1 13 rfl rfl)
theorem dX2_withdrawBid_37 : decode cX2_withdrawBid 37 = .ok (.getfield 27, 3) := dk_180 0 27 (dk_at dksX2_withdrawBid_1 14 rfl rfl)
theorem dX2_withdrawBid_40 : decode cX2_withdrawBid 40 = .ok (.iload_n 1, 1) := dk_27 (dk_at dksX2_withdrawBid_1 17 rfl rfl)
theorem dX2_withdrawBid_41 : decode cX2_withdrawBid 41 = .ok (.iconst 0, 1) := dk_3 (dk_at dksX2_withdrawBid_1 18 rfl rfl)
theorem dX2_withdrawBid_42 : decode cX2_withdrawBid 42 = .ok (.iastore, 1) := dk_79 (dk_at dksX2_withdrawBid_1 19 rfl rfl)
theorem dX2_withdrawBid_43 : decode cX2_withdrawBid 43 = .ok (.iload_n 2, 1) := dk_28 (dk_at dksX2_withdrawBid_1 20 rfl rfl)
theorem dX2_withdrawBid_44 : decode cX2_withdrawBid 44 = .ok (.ireturn, 1) := dk_172 (dk_at dksX2_withdrawBid_1 21 rfl rfl)
abbrev cX2_passHours : ByteArray := prog_11_method_36_code
def yX2_passHours : MethodName := ⟨RX2, "passHours", "(I)I"⟩
def dkwX2_passHours_1 : List UInt8 := [42, 180, 0, 84, 32, 101, 136, 172]
abbrev dktX2_passHours_1 : List UInt8 := dkwX2_passHours_1 ++ []
def dkwX2_passHours_0 : List UInt8 := [42, 180, 0, 84, 65, 3, 54, 4, 21, 4, 27, 162, 0, 13, 42, 182, 0, 227, 132, 4, 1, 167, 255, 243]
abbrev dktX2_passHours_0 : List UInt8 := dkwX2_passHours_0 ++ dktX2_passHours_1
theorem dksX2_passHours_0 : cX2_passHours.data.toList.drop 0 = dktX2_passHours_0 := by decide +kernel
theorem dksX2_passHours_1 : cX2_passHours.data.toList.drop 24 = dktX2_passHours_1 := dk_seg dksX2_passHours_0 24 rfl rfl
theorem dX2_passHours_0 : decode cX2_passHours 0 = .ok (.aload_n 0, 1) := dk_42 (dk_at dksX2_passHours_0 0 rfl rfl)
theorem dX2_passHours_1 : decode cX2_passHours 1 = .ok (.getfield 84, 3) := dk_180 0 84 (dk_at dksX2_passHours_0 1 rfl rfl)
theorem dX2_passHours_4 : decode cX2_passHours 4 = .ok (.lstore_n 2, 1) := dk_65 (dk_at dksX2_passHours_0 4 rfl rfl)
theorem dX2_passHours_5 : decode cX2_passHours 5 = .ok (.iconst 0, 1) := dk_3 (dk_at dksX2_passHours_0 5 rfl rfl)
theorem dX2_passHours_6 : decode cX2_passHours 6 = .ok (.istore 4, 2) := dk_54 4 (dk_at dksX2_passHours_0 6 rfl rfl)
theorem dX2_passHours_8 : decode cX2_passHours 8 = .ok (.iload 4, 2) := dk_21 4 (dk_at dksX2_passHours_0 8 rfl rfl)
theorem dX2_passHours_10 : decode cX2_passHours 10 = .ok (.iload_n 1, 1) := dk_27 (dk_at dksX2_passHours_0 10 rfl rfl)
theorem dX2_passHours_11 : decode cX2_passHours 11 = .ok (.if_icmp .ge 13, 3) := dk_162 0 13 (dk_at dksX2_passHours_0 11 rfl rfl)
theorem dX2_passHours_14 : decode cX2_passHours 14 = .ok (.aload_n 0, 1) := dk_42 (dk_at dksX2_passHours_0 14 rfl rfl)
theorem dX2_passHours_15 : decode cX2_passHours 15 = .ok (.invokevirtual 227, 3) := dk_182 0 227 (dk_at dksX2_passHours_0 15 rfl rfl)
theorem dX2_passHours_18 : decode cX2_passHours 18 = .ok (.iinc 4 1, 3) := dk_132 4 1 (dk_at dksX2_passHours_0 18 rfl rfl)
theorem dX2_passHours_21 : decode cX2_passHours 21 = .ok (.goto (-13), 3) := dk_167 255 243 (dk_at dksX2_passHours_0 21 rfl rfl)
theorem dX2_passHours_24 : decode cX2_passHours 24 = .ok (.aload_n 0, 1) := dk_42 (dk_at dksX2_passHours_1 0 rfl rfl)
theorem dX2_passHours_25 : decode cX2_passHours 25 = .ok (.getfield 84, 3) := dk_180 0 84 (dk_at dksX2_passHours_1 1 rfl rfl)
theorem dX2_passHours_28 : decode cX2_passHours 28 = .ok (.lload_n 2, 1) := dk_32 (dk_at dksX2_passHours_1 4 rfl rfl)
theorem dX2_passHours_29 : decode cX2_passHours 29 = .ok (.lsub, 1) := dk_101 (dk_at dksX2_passHours_1 5 rfl rfl)
theorem dX2_passHours_30 : decode cX2_passHours 30 = .ok (.l2i, 1) := dk_136 (dk_at dksX2_passHours_1 6 rfl rfl)
theorem dX2_passHours_31 : decode cX2_passHours 31 = .ok (.ireturn, 1) := dk_172 (dk_at dksX2_passHours_1 7 rfl rfl)
abbrev cX2_passHour : ByteArray := prog_11_method_37_code
def yX2_passHour : MethodName := ⟨RX2, "passHour", "()V"⟩
def dkwX2_passHour_6 : List UInt8 := [181, 0, 74, 177]
abbrev dktX2_passHour_6 : List UInt8 := dkwX2_passHour_6 ++ []
def dkwX2_passHour_5 : List UInt8 := [21, 5, 182, 0, 48, 192, 0, 52, 182, 0, 233, 132, 5, 1, 167, 255, 226, 42, 89, 180, 0, 74, 4, 96]
abbrev dktX2_passHour_5 : List UInt8 := dkwX2_passHour_5 ++ dktX2_passHour_6
def dkwX2_passHour_4 : List UInt8 := [97, 181, 0, 87, 3, 54, 5, 21, 5, 42, 180, 0, 12, 182, 0, 44, 162, 0, 24, 42, 180, 0, 12]
abbrev dktX2_passHour_4 : List UInt8 := dkwX2_passHour_4 ++ dktX2_passHour_5
def dkwX2_passHour_3 : List UInt8 := [42, 89, 180, 0, 87, 42, 180, 0, 23, 27, 46, 5, 21, 4, 104, 42, 180, 0, 27, 27, 46, 100, 104, 133]
abbrev dktX2_passHour_3 : List UInt8 := dkwX2_passHour_3 ++ dktX2_passHour_4
def dkwX2_passHour_2 : List UInt8 := [180, 0, 81, 28, 16, 20, 108, 133, 97, 181, 0, 81, 42, 89, 180, 0, 84, 21, 4, 133, 97, 181, 0, 84]
abbrev dktX2_passHour_2 : List UInt8 := dkwX2_passHour_2 ++ dktX2_passHour_3
def dkwX2_passHour_1 : List UInt8 := [180, 0, 27, 27, 46, 184, 0, 230, 54, 4, 42, 89, 180, 0, 77, 28, 133, 97, 181, 0, 77, 42, 89]
abbrev dktX2_passHour_1 : List UInt8 := dkwX2_passHour_1 ++ dktX2_passHour_2
def dkwX2_passHour_0 : List UInt8 := [42, 180, 0, 74, 16, 24, 112, 60, 42, 182, 0, 210, 61, 28, 28, 16, 20, 108, 100, 62, 29, 42]
abbrev dktX2_passHour_0 : List UInt8 := dkwX2_passHour_0 ++ dktX2_passHour_1
theorem dksX2_passHour_0 : cX2_passHour.data.toList.drop 0 = dktX2_passHour_0 := by decide +kernel
theorem dksX2_passHour_1 : cX2_passHour.data.toList.drop 22 = dktX2_passHour_1 := dk_seg dksX2_passHour_0 22 rfl rfl
theorem dksX2_passHour_2 : cX2_passHour.data.toList.drop 45 = dktX2_passHour_2 := dk_seg dksX2_passHour_1 23 rfl rfl
theorem dksX2_passHour_3 : cX2_passHour.data.toList.drop 69 = dktX2_passHour_3 := dk_seg dksX2_passHour_2 24 rfl rfl
theorem dksX2_passHour_4 : cX2_passHour.data.toList.drop 93 = dktX2_passHour_4 := dk_seg dksX2_passHour_3 24 rfl rfl
theorem dksX2_passHour_5 : cX2_passHour.data.toList.drop 116 = dktX2_passHour_5 := dk_seg dksX2_passHour_4 23 rfl rfl
theorem dksX2_passHour_6 : cX2_passHour.data.toList.drop 140 = dktX2_passHour_6 := dk_seg dksX2_passHour_5 24 rfl rfl
theorem dX2_passHour_0 : decode cX2_passHour 0 = .ok (.aload_n 0, 1) := dk_42 (dk_at dksX2_passHour_0 0 rfl rfl)
theorem dX2_passHour_1 : decode cX2_passHour 1 = .ok (.getfield 74, 3) := dk_180 0 74 (dk_at dksX2_passHour_0 1 rfl rfl)
theorem dX2_passHour_4 : decode cX2_passHour 4 = .ok (.bipush 24, 2) := dk_16 24 (dk_at dksX2_passHour_0 4 rfl rfl)
theorem dX2_passHour_6 : decode cX2_passHour 6 = .ok (.irem, 1) := dk_112 (dk_at dksX2_passHour_0 6 rfl rfl)
theorem dX2_passHour_7 : decode cX2_passHour 7 = .ok (.istore_n 1, 1) := dk_60 (dk_at dksX2_passHour_0 7 rfl rfl)
theorem dX2_passHour_8 : decode cX2_passHour 8 = .ok (.aload_n 0, 1) := dk_42 (dk_at dksX2_passHour_0 8 rfl rfl)
theorem dX2_passHour_9 : decode cX2_passHour 9 = .ok (.invokevirtual 210, 3) := dk_182 0 210 (dk_at dksX2_passHour_0 9 rfl rfl)
theorem dX2_passHour_12 : decode cX2_passHour 12 = .ok (.istore_n 2, 1) := dk_61 (dk_at dksX2_passHour_0 12 rfl rfl)
theorem dX2_passHour_13 : decode cX2_passHour 13 = .ok (.iload_n 2, 1) := dk_28 (dk_at dksX2_passHour_0 13 rfl rfl)
theorem dX2_passHour_14 : decode cX2_passHour 14 = .ok (.iload_n 2, 1) := dk_28 (dk_at dksX2_passHour_0 14 rfl rfl)
theorem dX2_passHour_15 : decode cX2_passHour 15 = .ok (.bipush 20, 2) := dk_16 20 (dk_at dksX2_passHour_0 15 rfl rfl)
theorem dX2_passHour_17 : decode cX2_passHour 17 = .ok (.idiv, 1) := dk_108 (dk_at dksX2_passHour_0 17 rfl rfl)
theorem dX2_passHour_18 : decode cX2_passHour 18 = .ok (.isub, 1) := dk_100 (dk_at dksX2_passHour_0 18 rfl rfl)
theorem dX2_passHour_19 : decode cX2_passHour 19 = .ok (.istore_n 3, 1) := dk_62 (dk_at dksX2_passHour_0 19 rfl rfl)
theorem dX2_passHour_20 : decode cX2_passHour 20 = .ok (.iload_n 3, 1) := dk_29 (dk_at dksX2_passHour_0 20 rfl rfl)
theorem dX2_passHour_21 : decode cX2_passHour 21 = .ok (.aload_n 0, 1) := dk_42 (dk_at dksX2_passHour_0 21 rfl rfl)
theorem dX2_passHour_22 : decode cX2_passHour 22 = .ok (.getfield 27, 3) := dk_180 0 27 (dk_at dksX2_passHour_1 0 rfl rfl)
theorem dX2_passHour_25 : decode cX2_passHour 25 = .ok (.iload_n 1, 1) := dk_27 (dk_at dksX2_passHour_1 3 rfl rfl)
theorem dX2_passHour_26 : decode cX2_passHour 26 = .ok (.iaload, 1) := dk_46 (dk_at dksX2_passHour_1 4 rfl rfl)
theorem dX2_passHour_27 : decode cX2_passHour 27 = .ok (.invokestatic 230, 3) := dk_184 0 230 (dk_at dksX2_passHour_1 5 rfl rfl)
theorem dX2_passHour_30 : decode cX2_passHour 30 = .ok (.istore 4, 2) := dk_54 4 (dk_at dksX2_passHour_1 8 rfl rfl)
theorem dX2_passHour_32 : decode cX2_passHour 32 = .ok (.aload_n 0, 1) := dk_42 (dk_at dksX2_passHour_1 10 rfl rfl)
theorem dX2_passHour_33 : decode cX2_passHour 33 = .ok (.dup, 1) := dk_89 (dk_at dksX2_passHour_1 11 rfl rfl)
theorem dX2_passHour_34 : decode cX2_passHour 34 = .ok (.getfield 77, 3) := dk_180 0 77 (dk_at dksX2_passHour_1 12 rfl rfl)
theorem dX2_passHour_37 : decode cX2_passHour 37 = .ok (.iload_n 2, 1) := dk_28 (dk_at dksX2_passHour_1 15 rfl rfl)
theorem dX2_passHour_38 : decode cX2_passHour 38 = .ok (.i2l, 1) := dk_133 (dk_at dksX2_passHour_1 16 rfl rfl)
theorem dX2_passHour_39 : decode cX2_passHour 39 = .ok (.ladd, 1) := dk_97 (dk_at dksX2_passHour_1 17 rfl rfl)
theorem dX2_passHour_40 : decode cX2_passHour 40 = .ok (.putfield 77, 3) := dk_181 0 77 (dk_at dksX2_passHour_1 18 rfl rfl)
theorem dX2_passHour_43 : decode cX2_passHour 43 = .ok (.aload_n 0, 1) := dk_42 (dk_at dksX2_passHour_1 21 rfl rfl)
theorem dX2_passHour_44 : decode cX2_passHour 44 = .ok (.dup, 1) := dk_89 (dk_at dksX2_passHour_1 22 rfl rfl)
theorem dX2_passHour_45 : decode cX2_passHour 45 = .ok (.getfield 81, 3) := dk_180 0 81 (dk_at dksX2_passHour_2 0 rfl rfl)
theorem dX2_passHour_48 : decode cX2_passHour 48 = .ok (.iload_n 2, 1) := dk_28 (dk_at dksX2_passHour_2 3 rfl rfl)
theorem dX2_passHour_49 : decode cX2_passHour 49 = .ok (.bipush 20, 2) := dk_16 20 (dk_at dksX2_passHour_2 4 rfl rfl)
theorem dX2_passHour_51 : decode cX2_passHour 51 = .ok (.idiv, 1) := dk_108 (dk_at dksX2_passHour_2 6 rfl rfl)
theorem dX2_passHour_52 : decode cX2_passHour 52 = .ok (.i2l, 1) := dk_133 (dk_at dksX2_passHour_2 7 rfl rfl)
theorem dX2_passHour_53 : decode cX2_passHour 53 = .ok (.ladd, 1) := dk_97 (dk_at dksX2_passHour_2 8 rfl rfl)
theorem dX2_passHour_54 : decode cX2_passHour 54 = .ok (.putfield 81, 3) := dk_181 0 81 (dk_at dksX2_passHour_2 9 rfl rfl)
theorem dX2_passHour_57 : decode cX2_passHour 57 = .ok (.aload_n 0, 1) := dk_42 (dk_at dksX2_passHour_2 12 rfl rfl)
theorem dX2_passHour_58 : decode cX2_passHour 58 = .ok (.dup, 1) := dk_89 (dk_at dksX2_passHour_2 13 rfl rfl)
theorem dX2_passHour_59 : decode cX2_passHour 59 = .ok (.getfield 84, 3) := dk_180 0 84 (dk_at dksX2_passHour_2 14 rfl rfl)
theorem dX2_passHour_62 : decode cX2_passHour 62 = .ok (.iload 4, 2) := dk_21 4 (dk_at dksX2_passHour_2 17 rfl rfl)
theorem dX2_passHour_64 : decode cX2_passHour 64 = .ok (.i2l, 1) := dk_133 (dk_at dksX2_passHour_2 19 rfl rfl)
theorem dX2_passHour_65 : decode cX2_passHour 65 = .ok (.ladd, 1) := dk_97 (dk_at dksX2_passHour_2 20 rfl rfl)
theorem dX2_passHour_66 : decode cX2_passHour 66 = .ok (.putfield 84, 3) := dk_181 0 84 (dk_at dksX2_passHour_2 21 rfl rfl)
theorem dX2_passHour_69 : decode cX2_passHour 69 = .ok (.aload_n 0, 1) := dk_42 (dk_at dksX2_passHour_3 0 rfl rfl)
theorem dX2_passHour_70 : decode cX2_passHour 70 = .ok (.dup, 1) := dk_89 (dk_at dksX2_passHour_3 1 rfl rfl)
theorem dX2_passHour_71 : decode cX2_passHour 71 = .ok (.getfield 87, 3) := dk_180 0 87 (dk_at dksX2_passHour_3 2 rfl rfl)
theorem dX2_passHour_74 : decode cX2_passHour 74 = .ok (.aload_n 0, 1) := dk_42 (dk_at dksX2_passHour_3 5 rfl rfl)
theorem dX2_passHour_75 : decode cX2_passHour 75 = .ok (.getfield 23, 3) := dk_180 0 23 (dk_at dksX2_passHour_3 6 rfl rfl)
theorem dX2_passHour_78 : decode cX2_passHour 78 = .ok (.iload_n 1, 1) := dk_27 (dk_at dksX2_passHour_3 9 rfl rfl)
theorem dX2_passHour_79 : decode cX2_passHour 79 = .ok (.iaload, 1) := dk_46 (dk_at dksX2_passHour_3 10 rfl rfl)
theorem dX2_passHour_80 : decode cX2_passHour 80 = .ok (.iconst 2, 1) := dk_5 (dk_at dksX2_passHour_3 11 rfl rfl)
theorem dX2_passHour_81 : decode cX2_passHour 81 = .ok (.iload 4, 2) := dk_21 4 (dk_at dksX2_passHour_3 12 rfl rfl)
theorem dX2_passHour_83 : decode cX2_passHour 83 = .ok (.imul, 1) := dk_104 (dk_at dksX2_passHour_3 14 rfl rfl)
theorem dX2_passHour_84 : decode cX2_passHour 84 = .ok (.aload_n 0, 1) := dk_42 (dk_at dksX2_passHour_3 15 rfl rfl)
theorem dX2_passHour_85 : decode cX2_passHour 85 = .ok (.getfield 27, 3) := dk_180 0 27 (dk_at dksX2_passHour_3 16 rfl rfl)
theorem dX2_passHour_88 : decode cX2_passHour 88 = .ok (.iload_n 1, 1) := dk_27 (dk_at dksX2_passHour_3 19 rfl rfl)
theorem dX2_passHour_89 : decode cX2_passHour 89 = .ok (.iaload, 1) := dk_46 (dk_at dksX2_passHour_3 20 rfl rfl)
theorem dX2_passHour_90 : decode cX2_passHour 90 = .ok (.isub, 1) := dk_100 (dk_at dksX2_passHour_3 21 rfl rfl)
theorem dX2_passHour_91 : decode cX2_passHour 91 = .ok (.imul, 1) := dk_104 (dk_at dksX2_passHour_3 22 rfl rfl)
theorem dX2_passHour_92 : decode cX2_passHour 92 = .ok (.i2l, 1) := dk_133 (dk_at dksX2_passHour_3 23 rfl rfl)
theorem dX2_passHour_93 : decode cX2_passHour 93 = .ok (.ladd, 1) := dk_97 (dk_at dksX2_passHour_4 0 rfl rfl)
theorem dX2_passHour_94 : decode cX2_passHour 94 = .ok (.putfield 87, 3) := dk_181 0 87 (dk_at dksX2_passHour_4 1 rfl rfl)
theorem dX2_passHour_97 : decode cX2_passHour 97 = .ok (.iconst 0, 1) := dk_3 (dk_at dksX2_passHour_4 4 rfl rfl)
theorem dX2_passHour_98 : decode cX2_passHour 98 = .ok (.istore 5, 2) := dk_54 5 (dk_at dksX2_passHour_4 5 rfl rfl)
theorem dX2_passHour_100 : decode cX2_passHour 100 = .ok (.iload 5, 2) := dk_21 5 (dk_at dksX2_passHour_4 7 rfl rfl)
theorem dX2_passHour_102 : decode cX2_passHour 102 = .ok (.aload_n 0, 1) := dk_42 (dk_at dksX2_passHour_4 9 rfl rfl)
theorem dX2_passHour_103 : decode cX2_passHour 103 = .ok (.getfield 12, 3) := dk_180 0 12 (dk_at dksX2_passHour_4 10 rfl rfl)
theorem dX2_passHour_106 : decode cX2_passHour 106 = .ok (.invokevirtual 44, 3) := dk_182 0 44 (dk_at dksX2_passHour_4 13 rfl rfl)
theorem dX2_passHour_109 : decode cX2_passHour 109 = .ok (.if_icmp .ge 24, 3) := dk_162 0 24 (dk_at dksX2_passHour_4 16 rfl rfl)
theorem dX2_passHour_112 : decode cX2_passHour 112 = .ok (.aload_n 0, 1) := dk_42 (dk_at dksX2_passHour_4 19 rfl rfl)
theorem dX2_passHour_113 : decode cX2_passHour 113 = .ok (.getfield 12, 3) := dk_180 0 12 (dk_at dksX2_passHour_4 20 rfl rfl)
theorem dX2_passHour_116 : decode cX2_passHour 116 = .ok (.iload 5, 2) := dk_21 5 (dk_at dksX2_passHour_5 0 rfl rfl)
theorem dX2_passHour_118 : decode cX2_passHour 118 = .ok (.invokevirtual 48, 3) := dk_182 0 48 (dk_at dksX2_passHour_5 2 rfl rfl)
theorem dX2_passHour_121 : decode cX2_passHour 121 = .ok (.checkcast 52, 3) := dk_192 0 52 (dk_at dksX2_passHour_5 5 rfl rfl)
theorem dX2_passHour_124 : decode cX2_passHour 124 = .ok (.invokevirtual 233, 3) := dk_182 0 233 (dk_at dksX2_passHour_5 8 rfl rfl)
theorem dX2_passHour_127 : decode cX2_passHour 127 = .ok (.iinc 5 1, 3) := dk_132 5 1 (dk_at dksX2_passHour_5 11 rfl rfl)
theorem dX2_passHour_130 : decode cX2_passHour 130 = .ok (.goto (-30), 3) := dk_167 255 226 (dk_at dksX2_passHour_5 14 rfl rfl)
theorem dX2_passHour_133 : decode cX2_passHour 133 = .ok (.aload_n 0, 1) := dk_42 (dk_at dksX2_passHour_5 17 rfl rfl)
theorem dX2_passHour_134 : decode cX2_passHour 134 = .ok (.dup, 1) := dk_89 (dk_at dksX2_passHour_5 18 rfl rfl)
theorem dX2_passHour_135 : decode cX2_passHour 135 = .ok (.getfield 74, 3) := dk_180 0 74 (dk_at dksX2_passHour_5 19 rfl rfl)
theorem dX2_passHour_138 : decode cX2_passHour 138 = .ok (.iconst 1, 1) := dk_4 (dk_at dksX2_passHour_5 22 rfl rfl)
theorem dX2_passHour_139 : decode cX2_passHour 139 = .ok (.iadd, 1) := dk_96 (dk_at dksX2_passHour_5 23 rfl rfl)
theorem dX2_passHour_140 : decode cX2_passHour 140 = .ok (.putfield 74, 3) := dk_181 0 74 (dk_at dksX2_passHour_6 0 rfl rfl)
theorem dX2_passHour_143 : decode cX2_passHour 143 = .ok (.return_, 1) := dk_177 (dk_at dksX2_passHour_6 3 rfl rfl)
abbrev cX2_isConsistent : ByteArray := prog_11_method_42_code
def yX2_isConsistent : MethodName := ⟨RX2, "isConsistent", "()Z"⟩
def dkwX2_isConsistent_1 : List UInt8 := [148, 155, 0, 15, 42, 182, 0, 190, 5, 163, 0, 7, 4, 167, 0, 4, 3, 172]
abbrev dktX2_isConsistent_1 : List UInt8 := dkwX2_isConsistent_1 ++ []
def dkwX2_isConsistent_0 : List UInt8 := [42, 182, 0, 210, 42, 182, 0, 245, 160, 0, 32, 42, 180, 0, 77, 42, 180, 0, 81, 42, 180, 0, 84, 97]
abbrev dktX2_isConsistent_0 : List UInt8 := dkwX2_isConsistent_0 ++ dktX2_isConsistent_1
theorem dksX2_isConsistent_0 : cX2_isConsistent.data.toList.drop 0 = dktX2_isConsistent_0 := by decide +kernel
theorem dksX2_isConsistent_1 : cX2_isConsistent.data.toList.drop 24 = dktX2_isConsistent_1 := dk_seg dksX2_isConsistent_0 24 rfl rfl
theorem dX2_isConsistent_0 : decode cX2_isConsistent 0 = .ok (.aload_n 0, 1) := dk_42 (dk_at dksX2_isConsistent_0 0 rfl rfl)
theorem dX2_isConsistent_1 : decode cX2_isConsistent 1 = .ok (.invokevirtual 210, 3) := dk_182 0 210 (dk_at dksX2_isConsistent_0 1 rfl rfl)
theorem dX2_isConsistent_4 : decode cX2_isConsistent 4 = .ok (.aload_n 0, 1) := dk_42 (dk_at dksX2_isConsistent_0 4 rfl rfl)
theorem dX2_isConsistent_5 : decode cX2_isConsistent 5 = .ok (.invokevirtual 245, 3) := dk_182 0 245 (dk_at dksX2_isConsistent_0 5 rfl rfl)
theorem dX2_isConsistent_8 : decode cX2_isConsistent 8 = .ok (.if_icmp .ne 32, 3) := dk_160 0 32 (dk_at dksX2_isConsistent_0 8 rfl rfl)
theorem dX2_isConsistent_11 : decode cX2_isConsistent 11 = .ok (.aload_n 0, 1) := dk_42 (dk_at dksX2_isConsistent_0 11 rfl rfl)
theorem dX2_isConsistent_12 : decode cX2_isConsistent 12 = .ok (.getfield 77, 3) := dk_180 0 77 (dk_at dksX2_isConsistent_0 12 rfl rfl)
theorem dX2_isConsistent_15 : decode cX2_isConsistent 15 = .ok (.aload_n 0, 1) := dk_42 (dk_at dksX2_isConsistent_0 15 rfl rfl)
theorem dX2_isConsistent_16 : decode cX2_isConsistent 16 = .ok (.getfield 81, 3) := dk_180 0 81 (dk_at dksX2_isConsistent_0 16 rfl rfl)
theorem dX2_isConsistent_19 : decode cX2_isConsistent 19 = .ok (.aload_n 0, 1) := dk_42 (dk_at dksX2_isConsistent_0 19 rfl rfl)
theorem dX2_isConsistent_20 : decode cX2_isConsistent 20 = .ok (.getfield 84, 3) := dk_180 0 84 (dk_at dksX2_isConsistent_0 20 rfl rfl)
theorem dX2_isConsistent_23 : decode cX2_isConsistent 23 = .ok (.ladd, 1) := dk_97 (dk_at dksX2_isConsistent_0 23 rfl rfl)
theorem dX2_isConsistent_24 : decode cX2_isConsistent 24 = .ok (.lcmp, 1) := dk_148 (dk_at dksX2_isConsistent_1 0 rfl rfl)
theorem dX2_isConsistent_25 : decode cX2_isConsistent 25 = .ok (.ifCond .lt 15, 3) := dk_155 0 15 (dk_at dksX2_isConsistent_1 1 rfl rfl)
theorem dX2_isConsistent_28 : decode cX2_isConsistent 28 = .ok (.aload_n 0, 1) := dk_42 (dk_at dksX2_isConsistent_1 4 rfl rfl)
theorem dX2_isConsistent_29 : decode cX2_isConsistent 29 = .ok (.invokevirtual 190, 3) := dk_182 0 190 (dk_at dksX2_isConsistent_1 5 rfl rfl)
theorem dX2_isConsistent_32 : decode cX2_isConsistent 32 = .ok (.iconst 2, 1) := dk_5 (dk_at dksX2_isConsistent_1 8 rfl rfl)
theorem dX2_isConsistent_33 : decode cX2_isConsistent 33 = .ok (.if_icmp .gt 7, 3) := dk_163 0 7 (dk_at dksX2_isConsistent_1 9 rfl rfl)
theorem dX2_isConsistent_36 : decode cX2_isConsistent 36 = .ok (.iconst 1, 1) := dk_4 (dk_at dksX2_isConsistent_1 12 rfl rfl)
theorem dX2_isConsistent_37 : decode cX2_isConsistent 37 = .ok (.goto 4, 3) := dk_167 0 4 (dk_at dksX2_isConsistent_1 13 rfl rfl)
theorem dX2_isConsistent_40 : decode cX2_isConsistent 40 = .ok (.iconst 0, 1) := dk_3 (dk_at dksX2_isConsistent_1 16 rfl rfl)
theorem dX2_isConsistent_41 : decode cX2_isConsistent 41 = .ok (.ireturn, 1) := dk_172 (dk_at dksX2_isConsistent_1 17 rfl rfl)
abbrev cX2_has : ByteArray := prog_11_method_4_code
def yX2_has : MethodName := ⟨RX2, "has", "(I)Z"⟩
def dkwX2_has_0 : List UInt8 := [27, 3, 42, 180, 0, 12, 182, 0, 44, 4, 100, 184, 0, 97, 172]
abbrev dktX2_has_0 : List UInt8 := dkwX2_has_0 ++ []
theorem dksX2_has_0 : cX2_has.data.toList.drop 0 = dktX2_has_0 := by decide +kernel
theorem dX2_has_0 : decode cX2_has 0 = .ok (.iload_n 1, 1) := dk_27 (dk_at dksX2_has_0 0 rfl rfl)
theorem dX2_has_1 : decode cX2_has 1 = .ok (.iconst 0, 1) := dk_3 (dk_at dksX2_has_0 1 rfl rfl)
theorem dX2_has_2 : decode cX2_has 2 = .ok (.aload_n 0, 1) := dk_42 (dk_at dksX2_has_0 2 rfl rfl)
theorem dX2_has_3 : decode cX2_has 3 = .ok (.getfield 12, 3) := dk_180 0 12 (dk_at dksX2_has_0 3 rfl rfl)
theorem dX2_has_6 : decode cX2_has 6 = .ok (.invokevirtual 44, 3) := dk_182 0 44 (dk_at dksX2_has_0 6 rfl rfl)
theorem dX2_has_9 : decode cX2_has 9 = .ok (.iconst 1, 1) := dk_4 (dk_at dksX2_has_0 9 rfl rfl)
theorem dX2_has_10 : decode cX2_has 10 = .ok (.isub, 1) := dk_100 (dk_at dksX2_has_0 10 rfl rfl)
theorem dX2_has_11 : decode cX2_has 11 = .ok (.invokestatic 97, 3) := dk_184 0 97 (dk_at dksX2_has_0 11 rfl rfl)
theorem dX2_has_14 : decode cX2_has 14 = .ok (.ireturn, 1) := dk_172 (dk_at dksX2_has_0 14 rfl rfl)
abbrev cX2_wakeLoss_2 : ByteArray := prog_11_method_7_code
def yX2_wakeLoss_2 : MethodName := ⟨RX2, "wakeLoss", "(LWindFarmDispatcher$Turbine;)I"⟩
def dkwX2_wakeLoss_2_0 : List UInt8 := [42, 43, 42, 180, 0, 36, 182, 0, 118, 172]
abbrev dktX2_wakeLoss_2_0 : List UInt8 := dkwX2_wakeLoss_2_0 ++ []
theorem dksX2_wakeLoss_2_0 : cX2_wakeLoss_2.data.toList.drop 0 = dktX2_wakeLoss_2_0 := by decide +kernel
theorem dX2_wakeLoss_2_0 : decode cX2_wakeLoss_2 0 = .ok (.aload_n 0, 1) := dk_42 (dk_at dksX2_wakeLoss_2_0 0 rfl rfl)
theorem dX2_wakeLoss_2_1 : decode cX2_wakeLoss_2 1 = .ok (.aload_n 1, 1) := dk_43 (dk_at dksX2_wakeLoss_2_0 1 rfl rfl)
theorem dX2_wakeLoss_2_2 : decode cX2_wakeLoss_2 2 = .ok (.aload_n 0, 1) := dk_42 (dk_at dksX2_wakeLoss_2_0 2 rfl rfl)
theorem dX2_wakeLoss_2_3 : decode cX2_wakeLoss_2 3 = .ok (.getfield 36, 3) := dk_180 0 36 (dk_at dksX2_wakeLoss_2_0 3 rfl rfl)
theorem dX2_wakeLoss_2_6 : decode cX2_wakeLoss_2 6 = .ok (.invokevirtual 118, 3) := dk_182 0 118 (dk_at dksX2_wakeLoss_2_0 6 rfl rfl)
theorem dX2_wakeLoss_2_9 : decode cX2_wakeLoss_2 9 = .ok (.ireturn, 1) := dk_172 (dk_at dksX2_wakeLoss_2_0 9 rfl rfl)
abbrev cX2_available : ByteArray := prog_11_method_8_code
def yX2_available : MethodName := ⟨RX2, "available", "(LWindFarmDispatcher$Turbine;)I"⟩
def dkwX2_available_0 : List UInt8 := [43, 42, 180, 0, 71, 184, 0, 122, 42, 43, 182, 0, 126, 182, 0, 129, 172]
abbrev dktX2_available_0 : List UInt8 := dkwX2_available_0 ++ []
theorem dksX2_available_0 : cX2_available.data.toList.drop 0 = dktX2_available_0 := by decide +kernel
theorem dX2_available_0 : decode cX2_available 0 = .ok (.aload_n 1, 1) := dk_43 (dk_at dksX2_available_0 0 rfl rfl)
theorem dX2_available_1 : decode cX2_available 1 = .ok (.aload_n 0, 1) := dk_42 (dk_at dksX2_available_0 1 rfl rfl)
theorem dX2_available_2 : decode cX2_available 2 = .ok (.getfield 71, 3) := dk_180 0 71 (dk_at dksX2_available_0 2 rfl rfl)
theorem dX2_available_5 : decode cX2_available 5 = .ok (.invokestatic 122, 3) := dk_184 0 122 (dk_at dksX2_available_0 5 rfl rfl)
theorem dX2_available_8 : decode cX2_available 8 = .ok (.aload_n 0, 1) := dk_42 (dk_at dksX2_available_0 8 rfl rfl)
theorem dX2_available_9 : decode cX2_available 9 = .ok (.aload_n 1, 1) := dk_43 (dk_at dksX2_available_0 9 rfl rfl)
theorem dX2_available_10 : decode cX2_available 10 = .ok (.invokevirtual 126, 3) := dk_182 0 126 (dk_at dksX2_available_0 10 rfl rfl)
theorem dX2_available_13 : decode cX2_available 13 = .ok (.invokevirtual 129, 3) := dk_182 0 129 (dk_at dksX2_available_0 13 rfl rfl)
theorem dX2_available_16 : decode cX2_available 16 = .ok (.ireturn, 1) := dk_172 (dk_at dksX2_available_0 16 rfl rfl)
abbrev cX2_bidByPrice : ByteArray := prog_11_method_35_code
def yX2_bidByPrice : MethodName := ⟨RX2, "bidByPrice", "(I)I"⟩
def dkwX2_bidByPrice_3 : List UInt8 := [21, 4, 27, 160, 0, 8, 29, 61, 167, 0, 9, 132, 3, 1, 167, 255, 174, 28, 172]
abbrev dktX2_bidByPrice_3 : List UInt8 := dkwX2_bidByPrice_3 ++ []
def dkwX2_bidByPrice_2 : List UInt8 := [29, 182, 0, 224, 153, 0, 7, 4, 167, 0, 4, 3, 184, 0, 171, 96, 54, 4, 132, 5, 1, 167, 255, 214]
abbrev dktX2_bidByPrice_2 : List UInt8 := dkwX2_bidByPrice_2 ++ dktX2_bidByPrice_3
def dkwX2_bidByPrice_1 : List UInt8 := [3, 54, 5, 21, 5, 16, 24, 162, 0, 41, 21, 4, 42, 21, 5, 182, 0, 217, 153, 0, 17, 42, 21, 5]
abbrev dktX2_bidByPrice_1 : List UInt8 := dkwX2_bidByPrice_1 ++ dktX2_bidByPrice_2
def dkwX2_bidByPrice_0 : List UInt8 := [2, 61, 3, 62, 29, 16, 24, 162, 0, 82, 42, 29, 182, 0, 217, 154, 0, 6, 167, 0, 65, 3, 54, 4]
abbrev dktX2_bidByPrice_0 : List UInt8 := dkwX2_bidByPrice_0 ++ dktX2_bidByPrice_1
theorem dksX2_bidByPrice_0 : cX2_bidByPrice.data.toList.drop 0 = dktX2_bidByPrice_0 := by decide +kernel
theorem dksX2_bidByPrice_1 : cX2_bidByPrice.data.toList.drop 24 = dktX2_bidByPrice_1 := dk_seg dksX2_bidByPrice_0 24 rfl rfl
theorem dksX2_bidByPrice_2 : cX2_bidByPrice.data.toList.drop 48 = dktX2_bidByPrice_2 := dk_seg dksX2_bidByPrice_1 24 rfl rfl
theorem dksX2_bidByPrice_3 : cX2_bidByPrice.data.toList.drop 72 = dktX2_bidByPrice_3 := dk_seg dksX2_bidByPrice_2 24 rfl rfl
theorem dX2_bidByPrice_0 : decode cX2_bidByPrice 0 = .ok (.iconst (-1), 1) := dk_2 (dk_at dksX2_bidByPrice_0 0 rfl rfl)
theorem dX2_bidByPrice_1 : decode cX2_bidByPrice 1 = .ok (.istore_n 2, 1) := dk_61 (dk_at dksX2_bidByPrice_0 1 rfl rfl)
theorem dX2_bidByPrice_2 : decode cX2_bidByPrice 2 = .ok (.iconst 0, 1) := dk_3 (dk_at dksX2_bidByPrice_0 2 rfl rfl)
theorem dX2_bidByPrice_3 : decode cX2_bidByPrice 3 = .ok (.istore_n 3, 1) := dk_62 (dk_at dksX2_bidByPrice_0 3 rfl rfl)
theorem dX2_bidByPrice_4 : decode cX2_bidByPrice 4 = .ok (.iload_n 3, 1) := dk_29 (dk_at dksX2_bidByPrice_0 4 rfl rfl)
theorem dX2_bidByPrice_5 : decode cX2_bidByPrice 5 = .ok (.bipush 24, 2) := dk_16 24 (dk_at dksX2_bidByPrice_0 5 rfl rfl)
theorem dX2_bidByPrice_7 : decode cX2_bidByPrice 7 = .ok (.if_icmp .ge 82, 3) := dk_162 0 82 (dk_at dksX2_bidByPrice_0 7 rfl rfl)
theorem dX2_bidByPrice_10 : decode cX2_bidByPrice 10 = .ok (.aload_n 0, 1) := dk_42 (dk_at dksX2_bidByPrice_0 10 rfl rfl)
theorem dX2_bidByPrice_11 : decode cX2_bidByPrice 11 = .ok (.iload_n 3, 1) := dk_29 (dk_at dksX2_bidByPrice_0 11 rfl rfl)
theorem dX2_bidByPrice_12 : decode cX2_bidByPrice 12 = .ok (.invokevirtual 217, 3) := dk_182 0 217 (dk_at dksX2_bidByPrice_0 12 rfl rfl)
theorem dX2_bidByPrice_15 : decode cX2_bidByPrice 15 = .ok (.ifCond .ne 6, 3) := dk_154 0 6 (dk_at dksX2_bidByPrice_0 15 rfl rfl)
theorem dX2_bidByPrice_18 : decode cX2_bidByPrice 18 = .ok (.goto 65, 3) := dk_167 0 65 (dk_at dksX2_bidByPrice_0 18 rfl rfl)
theorem dX2_bidByPrice_21 : decode cX2_bidByPrice 21 = .ok (.iconst 0, 1) := dk_3 (dk_at dksX2_bidByPrice_0 21 rfl rfl)
theorem dX2_bidByPrice_22 : decode cX2_bidByPrice 22 = .ok (.istore 4, 2) := dk_54 4 (dk_at dksX2_bidByPrice_0 22 rfl rfl)
theorem dX2_bidByPrice_24 : decode cX2_bidByPrice 24 = .ok (.iconst 0, 1) := dk_3 (dk_at dksX2_bidByPrice_1 0 rfl rfl)
theorem dX2_bidByPrice_25 : decode cX2_bidByPrice 25 = .ok (.istore 5, 2) := dk_54 5 (dk_at dksX2_bidByPrice_1 1 rfl rfl)
theorem dX2_bidByPrice_27 : decode cX2_bidByPrice 27 = .ok (.iload 5, 2) := dk_21 5 (dk_at dksX2_bidByPrice_1 3 rfl rfl)
theorem dX2_bidByPrice_29 : decode cX2_bidByPrice 29 = .ok (.bipush 24, 2) := dk_16 24 (dk_at dksX2_bidByPrice_1 5 rfl rfl)
theorem dX2_bidByPrice_31 : decode cX2_bidByPrice 31 = .ok (.if_icmp .ge 41, 3) := dk_162 0 41 (dk_at dksX2_bidByPrice_1 7 rfl rfl)
theorem dX2_bidByPrice_34 : decode cX2_bidByPrice 34 = .ok (.iload 4, 2) := dk_21 4 (dk_at dksX2_bidByPrice_1 10 rfl rfl)
theorem dX2_bidByPrice_36 : decode cX2_bidByPrice 36 = .ok (.aload_n 0, 1) := dk_42 (dk_at dksX2_bidByPrice_1 12 rfl rfl)
theorem dX2_bidByPrice_37 : decode cX2_bidByPrice 37 = .ok (.iload 5, 2) := dk_21 5 (dk_at dksX2_bidByPrice_1 13 rfl rfl)
theorem dX2_bidByPrice_39 : decode cX2_bidByPrice 39 = .ok (.invokevirtual 217, 3) := dk_182 0 217 (dk_at dksX2_bidByPrice_1 15 rfl rfl)
theorem dX2_bidByPrice_42 : decode cX2_bidByPrice 42 = .ok (.ifCond .eq 17, 3) := dk_153 0 17 (dk_at dksX2_bidByPrice_1 18 rfl rfl)
theorem dX2_bidByPrice_45 : decode cX2_bidByPrice 45 = .ok (.aload_n 0, 1) := dk_42 (dk_at dksX2_bidByPrice_1 21 rfl rfl)
theorem dX2_bidByPrice_46 : decode cX2_bidByPrice 46 = .ok (.iload 5, 2) := dk_21 5 (dk_at dksX2_bidByPrice_1 22 rfl rfl)
theorem dX2_bidByPrice_48 : decode cX2_bidByPrice 48 = .ok (.iload_n 3, 1) := dk_29 (dk_at dksX2_bidByPrice_2 0 rfl rfl)
theorem dX2_bidByPrice_49 : decode cX2_bidByPrice 49 = .ok (.invokevirtual 224, 3) := dk_182 0 224 (dk_at dksX2_bidByPrice_2 1 rfl rfl)
theorem dX2_bidByPrice_52 : decode cX2_bidByPrice 52 = .ok (.ifCond .eq 7, 3) := dk_153 0 7 (dk_at dksX2_bidByPrice_2 4 rfl rfl)
theorem dX2_bidByPrice_55 : decode cX2_bidByPrice 55 = .ok (.iconst 1, 1) := dk_4 (dk_at dksX2_bidByPrice_2 7 rfl rfl)
theorem dX2_bidByPrice_56 : decode cX2_bidByPrice 56 = .ok (.goto 4, 3) := dk_167 0 4 (dk_at dksX2_bidByPrice_2 8 rfl rfl)
theorem dX2_bidByPrice_59 : decode cX2_bidByPrice 59 = .ok (.iconst 0, 1) := dk_3 (dk_at dksX2_bidByPrice_2 11 rfl rfl)
theorem dX2_bidByPrice_60 : decode cX2_bidByPrice 60 = .ok (.invokestatic 171, 3) := dk_184 0 171 (dk_at dksX2_bidByPrice_2 12 rfl rfl)
theorem dX2_bidByPrice_63 : decode cX2_bidByPrice 63 = .ok (.iadd, 1) := dk_96 (dk_at dksX2_bidByPrice_2 15 rfl rfl)
theorem dX2_bidByPrice_64 : decode cX2_bidByPrice 64 = .ok (.istore 4, 2) := dk_54 4 (dk_at dksX2_bidByPrice_2 16 rfl rfl)
theorem dX2_bidByPrice_66 : decode cX2_bidByPrice 66 = .ok (.iinc 5 1, 3) := dk_132 5 1 (dk_at dksX2_bidByPrice_2 18 rfl rfl)
theorem dX2_bidByPrice_69 : decode cX2_bidByPrice 69 = .ok (.goto (-42), 3) := dk_167 255 214 (dk_at dksX2_bidByPrice_2 21 rfl rfl)
theorem dX2_bidByPrice_72 : decode cX2_bidByPrice 72 = .ok (.iload 4, 2) := dk_21 4 (dk_at dksX2_bidByPrice_3 0 rfl rfl)
theorem dX2_bidByPrice_74 : decode cX2_bidByPrice 74 = .ok (.iload_n 1, 1) := dk_27 (dk_at dksX2_bidByPrice_3 2 rfl rfl)
theorem dX2_bidByPrice_75 : decode cX2_bidByPrice 75 = .ok (.if_icmp .ne 8, 3) := dk_160 0 8 (dk_at dksX2_bidByPrice_3 3 rfl rfl)
theorem dX2_bidByPrice_78 : decode cX2_bidByPrice 78 = .ok (.iload_n 3, 1) := dk_29 (dk_at dksX2_bidByPrice_3 6 rfl rfl)
theorem dX2_bidByPrice_79 : decode cX2_bidByPrice 79 = .ok (.istore_n 2, 1) := dk_61 (dk_at dksX2_bidByPrice_3 7 rfl rfl)
theorem dX2_bidByPrice_80 : decode cX2_bidByPrice 80 = .ok (.goto 9, 3) := dk_167 0 9 (dk_at dksX2_bidByPrice_3 8 rfl rfl)
theorem dX2_bidByPrice_83 : decode cX2_bidByPrice 83 = .ok (.iinc 3 1, 3) := dk_132 3 1 (dk_at dksX2_bidByPrice_3 11 rfl rfl)
theorem dX2_bidByPrice_86 : decode cX2_bidByPrice 86 = .ok (.goto (-82), 3) := dk_167 255 174 (dk_at dksX2_bidByPrice_3 14 rfl rfl)
theorem dX2_bidByPrice_89 : decode cX2_bidByPrice 89 = .ok (.iload_n 2, 1) := dk_28 (dk_at dksX2_bidByPrice_3 17 rfl rfl)
theorem dX2_bidByPrice_90 : decode cX2_bidByPrice 90 = .ok (.ireturn, 1) := dk_172 (dk_at dksX2_bidByPrice_3 18 rfl rfl)
abbrev cX2_isBetter : ByteArray := prog_11_method_34_code
def yX2_isBetter : MethodName := ⟨RX2, "isBetter", "(II)Z"⟩
def dkwX2_isBetter_2 : List UInt8 := [28, 162, 0, 7, 4, 167, 0, 4, 3, 172]
abbrev dktX2_isBetter_2 : List UInt8 := dkwX2_isBetter_2 ++ []
def dkwX2_isBetter_1 : List UInt8 := [28, 46, 100, 54, 4, 29, 157, 0, 22, 29, 154, 0, 22, 21, 4, 157, 0, 13, 21, 4, 154, 0, 12, 27]
abbrev dktX2_isBetter_1 : List UInt8 := dkwX2_isBetter_1 ++ dktX2_isBetter_2
def dkwX2_isBetter_0 : List UInt8 := [42, 180, 0, 23, 27, 46, 42, 180, 0, 23, 28, 46, 100, 62, 42, 180, 0, 27, 27, 46, 42, 180, 0, 27]
abbrev dktX2_isBetter_0 : List UInt8 := dkwX2_isBetter_0 ++ dktX2_isBetter_1
theorem dksX2_isBetter_0 : cX2_isBetter.data.toList.drop 0 = dktX2_isBetter_0 := by decide +kernel
theorem dksX2_isBetter_1 : cX2_isBetter.data.toList.drop 24 = dktX2_isBetter_1 := dk_seg dksX2_isBetter_0 24 rfl rfl
theorem dksX2_isBetter_2 : cX2_isBetter.data.toList.drop 48 = dktX2_isBetter_2 := dk_seg dksX2_isBetter_1 24 rfl rfl
theorem dX2_isBetter_0 : decode cX2_isBetter 0 = .ok (.aload_n 0, 1) := dk_42 (dk_at dksX2_isBetter_0 0 rfl rfl)
theorem dX2_isBetter_1 : decode cX2_isBetter 1 = .ok (.getfield 23, 3) := dk_180 0 23 (dk_at dksX2_isBetter_0 1 rfl rfl)
theorem dX2_isBetter_4 : decode cX2_isBetter 4 = .ok (.iload_n 1, 1) := dk_27 (dk_at dksX2_isBetter_0 4 rfl rfl)
theorem dX2_isBetter_5 : decode cX2_isBetter 5 = .ok (.iaload, 1) := dk_46 (dk_at dksX2_isBetter_0 5 rfl rfl)
theorem dX2_isBetter_6 : decode cX2_isBetter 6 = .ok (.aload_n 0, 1) := dk_42 (dk_at dksX2_isBetter_0 6 rfl rfl)
theorem dX2_isBetter_7 : decode cX2_isBetter 7 = .ok (.getfield 23, 3) := dk_180 0 23 (dk_at dksX2_isBetter_0 7 rfl rfl)
theorem dX2_isBetter_10 : decode cX2_isBetter 10 = .ok (.iload_n 2, 1) := dk_28 (dk_at dksX2_isBetter_0 10 rfl rfl)
theorem dX2_isBetter_11 : decode cX2_isBetter 11 = .ok (.iaload, 1) := dk_46 (dk_at dksX2_isBetter_0 11 rfl rfl)
theorem dX2_isBetter_12 : decode cX2_isBetter 12 = .ok (.isub, 1) := dk_100 (dk_at dksX2_isBetter_0 12 rfl rfl)
theorem dX2_isBetter_13 : decode cX2_isBetter 13 = .ok (.istore_n 3, 1) := dk_62 (dk_at dksX2_isBetter_0 13 rfl rfl)
theorem dX2_isBetter_14 : decode cX2_isBetter 14 = .ok (.aload_n 0, 1) := dk_42 (dk_at dksX2_isBetter_0 14 rfl rfl)
theorem dX2_isBetter_15 : decode cX2_isBetter 15 = .ok (.getfield 27, 3) := dk_180 0 27 (dk_at dksX2_isBetter_0 15 rfl rfl)
theorem dX2_isBetter_18 : decode cX2_isBetter 18 = .ok (.iload_n 1, 1) := dk_27 (dk_at dksX2_isBetter_0 18 rfl rfl)
theorem dX2_isBetter_19 : decode cX2_isBetter 19 = .ok (.iaload, 1) := dk_46 (dk_at dksX2_isBetter_0 19 rfl rfl)
theorem dX2_isBetter_20 : decode cX2_isBetter 20 = .ok (.aload_n 0, 1) := dk_42 (dk_at dksX2_isBetter_0 20 rfl rfl)
theorem dX2_isBetter_21 : decode cX2_isBetter 21 = .ok (.getfield 27, 3) := dk_180 0 27 (dk_at dksX2_isBetter_0 21 rfl rfl)
theorem dX2_isBetter_24 : decode cX2_isBetter 24 = .ok (.iload_n 2, 1) := dk_28 (dk_at dksX2_isBetter_1 0 rfl rfl)
theorem dX2_isBetter_25 : decode cX2_isBetter 25 = .ok (.iaload, 1) := dk_46 (dk_at dksX2_isBetter_1 1 rfl rfl)
theorem dX2_isBetter_26 : decode cX2_isBetter 26 = .ok (.isub, 1) := dk_100 (dk_at dksX2_isBetter_1 2 rfl rfl)
theorem dX2_isBetter_27 : decode cX2_isBetter 27 = .ok (.istore 4, 2) := dk_54 4 (dk_at dksX2_isBetter_1 3 rfl rfl)
theorem dX2_isBetter_29 : decode cX2_isBetter 29 = .ok (.iload_n 3, 1) := dk_29 (dk_at dksX2_isBetter_1 5 rfl rfl)
theorem dX2_isBetter_30 : decode cX2_isBetter 30 = .ok (.ifCond .gt 22, 3) := dk_157 0 22 (dk_at dksX2_isBetter_1 6 rfl rfl)
theorem dX2_isBetter_33 : decode cX2_isBetter 33 = .ok (.iload_n 3, 1) := dk_29 (dk_at dksX2_isBetter_1 9 rfl rfl)
theorem dX2_isBetter_34 : decode cX2_isBetter 34 = .ok (.ifCond .ne 22, 3) := dk_154 0 22 (dk_at dksX2_isBetter_1 10 rfl rfl)
theorem dX2_isBetter_37 : decode cX2_isBetter 37 = .ok (.iload 4, 2) := dk_21 4 (dk_at dksX2_isBetter_1 13 rfl rfl)
theorem dX2_isBetter_39 : decode cX2_isBetter 39 = .ok (.ifCond .gt 13, 3) := dk_157 0 13 (dk_at dksX2_isBetter_1 15 rfl rfl)
theorem dX2_isBetter_42 : decode cX2_isBetter 42 = .ok (.iload 4, 2) := dk_21 4 (dk_at dksX2_isBetter_1 18 rfl rfl)
theorem dX2_isBetter_44 : decode cX2_isBetter 44 = .ok (.ifCond .ne 12, 3) := dk_154 0 12 (dk_at dksX2_isBetter_1 20 rfl rfl)
theorem dX2_isBetter_47 : decode cX2_isBetter 47 = .ok (.iload_n 1, 1) := dk_27 (dk_at dksX2_isBetter_1 23 rfl rfl)
theorem dX2_isBetter_48 : decode cX2_isBetter 48 = .ok (.iload_n 2, 1) := dk_28 (dk_at dksX2_isBetter_2 0 rfl rfl)
theorem dX2_isBetter_49 : decode cX2_isBetter 49 = .ok (.if_icmp .ge 7, 3) := dk_162 0 7 (dk_at dksX2_isBetter_2 1 rfl rfl)
theorem dX2_isBetter_52 : decode cX2_isBetter 52 = .ok (.iconst 1, 1) := dk_4 (dk_at dksX2_isBetter_2 4 rfl rfl)
theorem dX2_isBetter_53 : decode cX2_isBetter 53 = .ok (.goto 4, 3) := dk_167 0 4 (dk_at dksX2_isBetter_2 5 rfl rfl)
theorem dX2_isBetter_56 : decode cX2_isBetter 56 = .ok (.iconst 0, 1) := dk_3 (dk_at dksX2_isBetter_2 8 rfl rfl)
theorem dX2_isBetter_57 : decode cX2_isBetter 57 = .ok (.ireturn, 1) := dk_172 (dk_at dksX2_isBetter_2 9 rfl rfl)
abbrev cX2_incomeWithin : ByteArray := prog_11_method_38_code
def yX2_incomeWithin : MethodName := ⟨RX2, "incomeWithin", "(I)I"⟩
def dkwX2_incomeWithin_0 : List UInt8 := [42, 182, 0, 234, 77, 44, 27, 182, 0, 238, 62, 44, 180, 0, 87, 42, 180, 0, 87, 101, 136, 172]
abbrev dktX2_incomeWithin_0 : List UInt8 := dkwX2_incomeWithin_0 ++ []
theorem dksX2_incomeWithin_0 : cX2_incomeWithin.data.toList.drop 0 = dktX2_incomeWithin_0 := by decide +kernel
theorem dX2_incomeWithin_0 : decode cX2_incomeWithin 0 = .ok (.aload_n 0, 1) := dk_42 (dk_at dksX2_incomeWithin_0 0 rfl rfl)
theorem dX2_incomeWithin_1 : decode cX2_incomeWithin 1 = .ok (.invokevirtual 234, 3) := dk_182 0 234 (dk_at dksX2_incomeWithin_0 1 rfl rfl)
theorem dX2_incomeWithin_4 : decode cX2_incomeWithin 4 = .ok (.astore_n 2, 1) := dk_77 (dk_at dksX2_incomeWithin_0 4 rfl rfl)
theorem dX2_incomeWithin_5 : decode cX2_incomeWithin 5 = .ok (.aload_n 2, 1) := dk_44 (dk_at dksX2_incomeWithin_0 5 rfl rfl)
theorem dX2_incomeWithin_6 : decode cX2_incomeWithin 6 = .ok (.iload_n 1, 1) := dk_27 (dk_at dksX2_incomeWithin_0 6 rfl rfl)
theorem dX2_incomeWithin_7 : decode cX2_incomeWithin 7 = .ok (.invokevirtual 238, 3) := dk_182 0 238 (dk_at dksX2_incomeWithin_0 7 rfl rfl)
theorem dX2_incomeWithin_10 : decode cX2_incomeWithin 10 = .ok (.istore_n 3, 1) := dk_62 (dk_at dksX2_incomeWithin_0 10 rfl rfl)
theorem dX2_incomeWithin_11 : decode cX2_incomeWithin 11 = .ok (.aload_n 2, 1) := dk_44 (dk_at dksX2_incomeWithin_0 11 rfl rfl)
theorem dX2_incomeWithin_12 : decode cX2_incomeWithin 12 = .ok (.getfield 87, 3) := dk_180 0 87 (dk_at dksX2_incomeWithin_0 12 rfl rfl)
theorem dX2_incomeWithin_15 : decode cX2_incomeWithin 15 = .ok (.aload_n 0, 1) := dk_42 (dk_at dksX2_incomeWithin_0 15 rfl rfl)
theorem dX2_incomeWithin_16 : decode cX2_incomeWithin 16 = .ok (.getfield 87, 3) := dk_180 0 87 (dk_at dksX2_incomeWithin_0 16 rfl rfl)
theorem dX2_incomeWithin_19 : decode cX2_incomeWithin 19 = .ok (.lsub, 1) := dk_101 (dk_at dksX2_incomeWithin_0 19 rfl rfl)
theorem dX2_incomeWithin_20 : decode cX2_incomeWithin 20 = .ok (.l2i, 1) := dk_136 (dk_at dksX2_incomeWithin_0 20 rfl rfl)
theorem dX2_incomeWithin_21 : decode cX2_incomeWithin 21 = .ok (.ireturn, 1) := dk_172 (dk_at dksX2_incomeWithin_0 21 rfl rfl)
abbrev cX2_hoursToBid : ByteArray := prog_11_method_39_code
def yX2_hoursToBid : MethodName := ⟨RX2, "hoursToBid", "()I"⟩
def dkwX2_hoursToBid_1 : List UInt8 := [27, 172, 132, 1, 1, 167, 255, 229, 2, 172]
abbrev dktX2_hoursToBid_1 : List UInt8 := dkwX2_hoursToBid_1 ++ []
def dkwX2_hoursToBid_0 : List UInt8 := [3, 60, 27, 16, 24, 162, 0, 27, 42, 42, 180, 0, 74, 27, 96, 16, 24, 112, 182, 0, 217, 153, 0, 5]
abbrev dktX2_hoursToBid_0 : List UInt8 := dkwX2_hoursToBid_0 ++ dktX2_hoursToBid_1
theorem dksX2_hoursToBid_0 : cX2_hoursToBid.data.toList.drop 0 = dktX2_hoursToBid_0 := by decide +kernel
theorem dksX2_hoursToBid_1 : cX2_hoursToBid.data.toList.drop 24 = dktX2_hoursToBid_1 := dk_seg dksX2_hoursToBid_0 24 rfl rfl
theorem dX2_hoursToBid_0 : decode cX2_hoursToBid 0 = .ok (.iconst 0, 1) := dk_3 (dk_at dksX2_hoursToBid_0 0 rfl rfl)
theorem dX2_hoursToBid_1 : decode cX2_hoursToBid 1 = .ok (.istore_n 1, 1) := dk_60 (dk_at dksX2_hoursToBid_0 1 rfl rfl)
theorem dX2_hoursToBid_2 : decode cX2_hoursToBid 2 = .ok (.iload_n 1, 1) := dk_27 (dk_at dksX2_hoursToBid_0 2 rfl rfl)
theorem dX2_hoursToBid_3 : decode cX2_hoursToBid 3 = .ok (.bipush 24, 2) := dk_16 24 (dk_at dksX2_hoursToBid_0 3 rfl rfl)
theorem dX2_hoursToBid_5 : decode cX2_hoursToBid 5 = .ok (.if_icmp .ge 27, 3) := dk_162 0 27 (dk_at dksX2_hoursToBid_0 5 rfl rfl)
theorem dX2_hoursToBid_8 : decode cX2_hoursToBid 8 = .ok (.aload_n 0, 1) := dk_42 (dk_at dksX2_hoursToBid_0 8 rfl rfl)
theorem dX2_hoursToBid_9 : decode cX2_hoursToBid 9 = .ok (.aload_n 0, 1) := dk_42 (dk_at dksX2_hoursToBid_0 9 rfl rfl)
theorem dX2_hoursToBid_10 : decode cX2_hoursToBid 10 = .ok (.getfield 74, 3) := dk_180 0 74 (dk_at dksX2_hoursToBid_0 10 rfl rfl)
theorem dX2_hoursToBid_13 : decode cX2_hoursToBid 13 = .ok (.iload_n 1, 1) := dk_27 (dk_at dksX2_hoursToBid_0 13 rfl rfl)
theorem dX2_hoursToBid_14 : decode cX2_hoursToBid 14 = .ok (.iadd, 1) := dk_96 (dk_at dksX2_hoursToBid_0 14 rfl rfl)
theorem dX2_hoursToBid_15 : decode cX2_hoursToBid 15 = .ok (.bipush 24, 2) := dk_16 24 (dk_at dksX2_hoursToBid_0 15 rfl rfl)
theorem dX2_hoursToBid_17 : decode cX2_hoursToBid 17 = .ok (.irem, 1) := dk_112 (dk_at dksX2_hoursToBid_0 17 rfl rfl)
theorem dX2_hoursToBid_18 : decode cX2_hoursToBid 18 = .ok (.invokevirtual 217, 3) := dk_182 0 217 (dk_at dksX2_hoursToBid_0 18 rfl rfl)
theorem dX2_hoursToBid_21 : decode cX2_hoursToBid 21 = .ok (.ifCond .eq 5, 3) := dk_153 0 5 (dk_at dksX2_hoursToBid_0 21 rfl rfl)
theorem dX2_hoursToBid_24 : decode cX2_hoursToBid 24 = .ok (.iload_n 1, 1) := dk_27 (dk_at dksX2_hoursToBid_1 0 rfl rfl)
theorem dX2_hoursToBid_25 : decode cX2_hoursToBid 25 = .ok (.ireturn, 1) := dk_172 (dk_at dksX2_hoursToBid_1 1 rfl rfl)
theorem dX2_hoursToBid_26 : decode cX2_hoursToBid 26 = .ok (.iinc 1 1, 3) := dk_132 1 1 (dk_at dksX2_hoursToBid_1 2 rfl rfl)
theorem dX2_hoursToBid_29 : decode cX2_hoursToBid 29 = .ok (.goto (-27), 3) := dk_167 255 229 (dk_at dksX2_hoursToBid_1 5 rfl rfl)
theorem dX2_hoursToBid_32 : decode cX2_hoursToBid 32 = .ok (.iconst (-1), 1) := dk_2 (dk_at dksX2_hoursToBid_1 8 rfl rfl)
theorem dX2_hoursToBid_33 : decode cX2_hoursToBid 33 = .ok (.ireturn, 1) := dk_172 (dk_at dksX2_hoursToBid_1 9 rfl rfl)
theorem q77 : (Jvm.Cond.initialized "WindFarmDispatcher$Farm") ∈ lw_all := lw_g (lw_at lw_m1 2 rfl) rfl
theorem q128 : (Jvm.Cond.instantiable "WindFarmDispatcher$Farm" (12 : Nat)) ∈ lw_all := lw_g (lw_at lw_m1 53 rfl) rfl
theorem q130 : (Jvm.Cond.instanceMethod ({ cls := "WindFarmDispatcher$Farm", name := "<init>", desc := "()V" } : Jvm.MethodName)) ∈ lw_all := lw_g (lw_at lw_m1 55 rfl) rfl
theorem q131 : (Jvm.Cond.code ({ cls := "WindFarmDispatcher$Farm", name := "<init>", desc := "()V" } : Jvm.MethodName) prog_11_method_1_code (1 : Nat) (Option.none : Option Jvm.ClassFile.FieldType)) ∈ lw_all := lw_g (lw_at lw_m1 56 rfl) rfl
theorem q132 : (Jvm.Cond.methodLink "WindFarmDispatcher$Farm" (3 : Nat) ({ cls := "java/lang/Object", name := "<init>", desc := "()V" } : Jvm.MethodName)) ∈ lw_all := lw_g (lw_at lw_m1 57 rfl) rfl
theorem q133 : (Jvm.Cond.classLink "WindFarmDispatcher$Farm" (9 : Nat) "java/util/ArrayList") ∈ lw_all := lw_g (lw_at lw_m1 58 rfl) rfl
theorem q135 : (Jvm.Cond.methodLink "WindFarmDispatcher$Farm" (11 : Nat) ({ cls := "java/util/ArrayList", name := "<init>", desc := "()V" } : Jvm.MethodName)) ∈ lw_all := lw_g (lw_at lw_m1 60 rfl) rfl
theorem q159 : (Jvm.Cond.classLink "WindFarmDispatcher$Farm" (18 : Nat) "[[LWindFarmDispatcher$Turbine;") ∈ lw_all := lw_g (lw_at lw_m1 84 rfl) rfl
theorem q163 : (Jvm.Cond.fieldLink "WindFarmDispatcher$Farm" (30 : Nat) "WindFarmDispatcher$Direction" "NORTH" "LWindFarmDispatcher$Direction;") ∈ lw_all := lw_g (lw_at lw_m1 88 rfl) rfl
theorem q165 : (Jvm.Cond.fieldLink "WindFarmDispatcher$Farm" (12 : Nat) "WindFarmDispatcher$Farm" "turbines" "Ljava/util/ArrayList;") ∈ lw_all := lw_g (lw_at lw_m1 90 rfl) rfl
theorem q167 : (Jvm.Cond.fieldLink "WindFarmDispatcher$Farm" (20 : Nat) "WindFarmDispatcher$Farm" "grid" "[[LWindFarmDispatcher$Turbine;") ∈ lw_all := lw_g (lw_at lw_m1 92 rfl) rfl
theorem q169 : (Jvm.Cond.fieldLink "WindFarmDispatcher$Farm" (23 : Nat) "WindFarmDispatcher$Farm" "prices" "[I") ∈ lw_all := lw_g (lw_at lw_m1 94 rfl) rfl
theorem q171 : (Jvm.Cond.fieldLink "WindFarmDispatcher$Farm" (27 : Nat) "WindFarmDispatcher$Farm" "quantities" "[I") ∈ lw_all := lw_g (lw_at lw_m1 96 rfl) rfl
theorem q173 : (Jvm.Cond.fieldLink "WindFarmDispatcher$Farm" (36 : Nat) "WindFarmDispatcher$Farm" "direction" "LWindFarmDispatcher$Direction;") ∈ lw_all := lw_g (lw_at lw_m1 98 rfl) rfl
theorem q175 : (Jvm.Cond.fieldLink "WindFarmDispatcher$Farm" (71 : Nat) "WindFarmDispatcher$Farm" "speed" "I") ∈ lw_all := lw_g (lw_at lw_m1 100 rfl) rfl
theorem q177 : (Jvm.Cond.fieldLink "WindFarmDispatcher$Farm" (39 : Nat) "WindFarmDispatcher$Farm" "gridLimit" "I") ∈ lw_all := lw_g (lw_at lw_m1 102 rfl) rfl
theorem q179 : (Jvm.Cond.fieldLink "WindFarmDispatcher$Farm" (74 : Nat) "WindFarmDispatcher$Farm" "time" "I") ∈ lw_all := lw_g (lw_at lw_m1 104 rfl) rfl
theorem q181 : (Jvm.Cond.fieldLink "WindFarmDispatcher$Farm" (77 : Nat) "WindFarmDispatcher$Farm" "made" "J") ∈ lw_all := lw_g (lw_at lw_m1 106 rfl) rfl
theorem q183 : (Jvm.Cond.fieldLink "WindFarmDispatcher$Farm" (81 : Nat) "WindFarmDispatcher$Farm" "lost" "J") ∈ lw_all := lw_g (lw_at lw_m1 108 rfl) rfl
theorem q185 : (Jvm.Cond.fieldLink "WindFarmDispatcher$Farm" (84 : Nat) "WindFarmDispatcher$Farm" "sold" "J") ∈ lw_all := lw_g (lw_at lw_m1 110 rfl) rfl
theorem q187 : (Jvm.Cond.fieldLink "WindFarmDispatcher$Farm" (87 : Nat) "WindFarmDispatcher$Farm" "coins" "J") ∈ lw_all := lw_g (lw_at lw_m1 112 rfl) rfl
theorem q189 : (Jvm.Cond.laysFinal "WindFarmDispatcher$Farm" "WindFarmDispatcher$Farm" "turbines" "Ljava/util/ArrayList;") ∈ lw_all := lw_g (lw_at lw_m1 114 rfl) rfl
theorem q190 : (Jvm.Cond.soleField "WindFarmDispatcher$Farm" "turbines") ∈ lw_all := lw_g (lw_at lw_m1 115 rfl) rfl
theorem q191 : (Jvm.Cond.laysFinal "WindFarmDispatcher$Farm" "WindFarmDispatcher$Farm" "grid" "[[LWindFarmDispatcher$Turbine;") ∈ lw_all := lw_g (lw_at lw_m1 116 rfl) rfl
theorem q192 : (Jvm.Cond.soleField "WindFarmDispatcher$Farm" "grid") ∈ lw_all := lw_g (lw_at lw_m1 117 rfl) rfl
theorem q193 : (Jvm.Cond.laysFinal "WindFarmDispatcher$Farm" "WindFarmDispatcher$Farm" "prices" "[I") ∈ lw_all := lw_g (lw_at lw_m1 118 rfl) rfl
theorem q194 : (Jvm.Cond.soleField "WindFarmDispatcher$Farm" "prices") ∈ lw_all := lw_g (lw_at lw_m1 119 rfl) rfl
theorem q195 : (Jvm.Cond.laysFinal "WindFarmDispatcher$Farm" "WindFarmDispatcher$Farm" "quantities" "[I") ∈ lw_all := lw_g (lw_at lw_m1 120 rfl) rfl
theorem q196 : (Jvm.Cond.soleField "WindFarmDispatcher$Farm" "quantities") ∈ lw_all := lw_g (lw_at lw_m1 121 rfl) rfl
theorem q197 : (Jvm.Cond.lays "WindFarmDispatcher$Farm" "WindFarmDispatcher$Farm" "direction" "LWindFarmDispatcher$Direction;") ∈ lw_all := lw_g (lw_at lw_m1 122 rfl) rfl
theorem q198 : (Jvm.Cond.soleField "WindFarmDispatcher$Farm" "direction") ∈ lw_all := lw_g (lw_at lw_m1 123 rfl) rfl
theorem q199 : (Jvm.Cond.lays "WindFarmDispatcher$Farm" "WindFarmDispatcher$Farm" "speed" "I") ∈ lw_all := lw_g (lw_at lw_m1 124 rfl) rfl
theorem q200 : (Jvm.Cond.soleField "WindFarmDispatcher$Farm" "speed") ∈ lw_all := lw_g (lw_at lw_m1 125 rfl) rfl
theorem q201 : (Jvm.Cond.lays "WindFarmDispatcher$Farm" "WindFarmDispatcher$Farm" "gridLimit" "I") ∈ lw_all := lw_g (lw_at lw_m1 126 rfl) rfl
theorem q202 : (Jvm.Cond.soleField "WindFarmDispatcher$Farm" "gridLimit") ∈ lw_all := lw_g (lw_at lw_m1 127 rfl) rfl
theorem q203 : (Jvm.Cond.lays "WindFarmDispatcher$Farm" "WindFarmDispatcher$Farm" "time" "I") ∈ lw_all := lw_g (lw_at lw_m1 128 rfl) rfl
theorem q204 : (Jvm.Cond.soleField "WindFarmDispatcher$Farm" "time") ∈ lw_all := lw_g (lw_at lw_m1 129 rfl) rfl
theorem q205 : (Jvm.Cond.lays "WindFarmDispatcher$Farm" "WindFarmDispatcher$Farm" "made" "J") ∈ lw_all := lw_g (lw_at lw_m1 130 rfl) rfl
theorem q206 : (Jvm.Cond.soleField "WindFarmDispatcher$Farm" "made") ∈ lw_all := lw_g (lw_at lw_m1 131 rfl) rfl
theorem q207 : (Jvm.Cond.lays "WindFarmDispatcher$Farm" "WindFarmDispatcher$Farm" "lost" "J") ∈ lw_all := lw_g (lw_at lw_m1 132 rfl) rfl
theorem q208 : (Jvm.Cond.soleField "WindFarmDispatcher$Farm" "lost") ∈ lw_all := lw_g (lw_at lw_m1 133 rfl) rfl
theorem q209 : (Jvm.Cond.lays "WindFarmDispatcher$Farm" "WindFarmDispatcher$Farm" "sold" "J") ∈ lw_all := lw_g (lw_at lw_m1 134 rfl) rfl
theorem q210 : (Jvm.Cond.soleField "WindFarmDispatcher$Farm" "sold") ∈ lw_all := lw_g (lw_at lw_m1 135 rfl) rfl
theorem q211 : (Jvm.Cond.lays "WindFarmDispatcher$Farm" "WindFarmDispatcher$Farm" "coins" "J") ∈ lw_all := lw_g (lw_at lw_m1 136 rfl) rfl
theorem q212 : (Jvm.Cond.soleField "WindFarmDispatcher$Farm" "coins") ∈ lw_all := lw_g (lw_at lw_m1 137 rfl) rfl
theorem q213 : (Jvm.Cond.superclass "WindFarmDispatcher$Farm" "java/lang/Object") ∈ lw_all := lw_g (lw_at lw_m1 138 rfl) rfl
theorem q286 : (Jvm.Cond.instanceMethod ({ cls := "WindFarmDispatcher$Farm", name := "inService", desc := "()I" } : Jvm.MethodName)) ∈ lw_all := lw_g (lw_at lw_m1 211 rfl) rfl
theorem q287 : (Jvm.Cond.selects "WindFarmDispatcher$Farm" ({ cls := "WindFarmDispatcher$Farm", name := "inService", desc := "()I" } : Jvm.MethodName) ({ cls := "WindFarmDispatcher$Farm", name := "inService", desc := "()I" } : Jvm.MethodName)) ∈ lw_all := lw_g (lw_at lw_m1 212 rfl) rfl
theorem q288 : (Jvm.Cond.code ({ cls := "WindFarmDispatcher$Farm", name := "inService", desc := "()I" } : Jvm.MethodName) prog_11_method_19_code (3 : Nat) (Option.some Jvm.ClassFile.FieldType.int)) ∈ lw_all := lw_g (lw_at lw_m1 213 rfl) rfl
theorem q289 : (Jvm.Cond.methodLink "WindFarmDispatcher$Farm" (44 : Nat) ({ cls := "java/util/ArrayList", name := "size", desc := "()I" } : Jvm.MethodName)) ∈ lw_all := lw_g (lw_at lw_m1 214 rfl) rfl
theorem q290 : (Jvm.Cond.methodLink "WindFarmDispatcher$Farm" (48 : Nat) ({ cls := "java/util/ArrayList", name := "get", desc := "(I)Ljava/lang/Object;" } : Jvm.MethodName)) ∈ lw_all := lw_g (lw_at lw_m1 215 rfl) rfl
theorem q304 : (Jvm.Cond.classLink "WindFarmDispatcher$Farm" (52 : Nat) "WindFarmDispatcher$Turbine") ∈ lw_all := lw_g (lw_at lw_m1 229 rfl) rfl
theorem q305 : (Jvm.Cond.methodLink "WindFarmDispatcher$Farm" (168 : Nat) ({ cls := "WindFarmDispatcher$Turbine", name := "serviceHours", desc := "()I" } : Jvm.MethodName)) ∈ lw_all := lw_g (lw_at lw_m1 230 rfl) rfl
theorem q310 : (Jvm.Cond.methodLinkNest "WindFarmDispatcher$Farm" (171 : Nat) ({ cls := "WindFarmDispatcher", name := "asInt", desc := "(Z)I" } : Jvm.MethodName) "WindFarmDispatcher") ∈ lw_tbl := lw_at lw_m1 235 rfl
theorem q341 : (Jvm.Cond.instanceMethod ({ cls := "WindFarmDispatcher$Farm", name := "total", desc := "()I" } : Jvm.MethodName)) ∈ lw_all := lw_g (lw_at lw_m2 26 rfl) rfl
theorem q342 : (Jvm.Cond.selects "WindFarmDispatcher$Farm" ({ cls := "WindFarmDispatcher$Farm", name := "total", desc := "()I" } : Jvm.MethodName) ({ cls := "WindFarmDispatcher$Farm", name := "total", desc := "()I" } : Jvm.MethodName)) ∈ lw_all := lw_g (lw_at lw_m2 27 rfl) rfl
theorem q343 : (Jvm.Cond.code ({ cls := "WindFarmDispatcher$Farm", name := "total", desc := "()I" } : Jvm.MethodName) prog_11_method_12_code (1 : Nat) (Option.some Jvm.ClassFile.FieldType.int)) ∈ lw_all := lw_g (lw_at lw_m2 28 rfl) rfl
theorem q344 : (Jvm.Cond.methodLink "WindFarmDispatcher$Farm" (142 : Nat) ({ cls := "WindFarmDispatcher$Farm", name := "totalWith", desc := "(LWindFarmDispatcher$Direction;I)I" } : Jvm.MethodName)) ∈ lw_all := lw_g (lw_at lw_m2 29 rfl) rfl
theorem q345 : (Jvm.Cond.instanceMethod ({ cls := "WindFarmDispatcher$Farm", name := "totalWith", desc := "(LWindFarmDispatcher$Direction;I)I" } : Jvm.MethodName)) ∈ lw_all := lw_g (lw_at lw_m2 30 rfl) rfl
theorem q346 : (Jvm.Cond.selects "WindFarmDispatcher$Farm" ({ cls := "WindFarmDispatcher$Farm", name := "totalWith", desc := "(LWindFarmDispatcher$Direction;I)I" } : Jvm.MethodName) ({ cls := "WindFarmDispatcher$Farm", name := "totalWith", desc := "(LWindFarmDispatcher$Direction;I)I" } : Jvm.MethodName)) ∈ lw_all := lw_g (lw_at lw_m2 31 rfl) rfl
theorem q347 : (Jvm.Cond.code ({ cls := "WindFarmDispatcher$Farm", name := "totalWith", desc := "(LWindFarmDispatcher$Direction;I)I" } : Jvm.MethodName) prog_11_method_11_code (5 : Nat) (Option.some Jvm.ClassFile.FieldType.int)) ∈ lw_all := lw_g (lw_at lw_m2 32 rfl) rfl
theorem q348 : (Jvm.Cond.methodLinkNest "WindFarmDispatcher$Farm" (122 : Nat) ({ cls := "WindFarmDispatcher", name := "factorFor", desc := "(I)I" } : Jvm.MethodName) "WindFarmDispatcher") ∈ lw_tbl := lw_at lw_m2 33 rfl
theorem q349 : (Jvm.Cond.methodLink "WindFarmDispatcher$Farm" (138 : Nat) ({ cls := "WindFarmDispatcher$Farm", name := "output", desc := "(LWindFarmDispatcher$Turbine;LWindFarmDispatcher$Direction;I)I" } : Jvm.MethodName)) ∈ lw_all := lw_g (lw_at lw_m2 34 rfl) rfl
theorem q350 : (Jvm.Cond.privateMethod ({ cls := "WindFarmDispatcher$Farm", name := "output", desc := "(LWindFarmDispatcher$Turbine;LWindFarmDispatcher$Direction;I)I" } : Jvm.MethodName)) ∈ lw_tbl := lw_at lw_m2 35 rfl
theorem q351 : (Jvm.Cond.instanceMethod ({ cls := "WindFarmDispatcher$Farm", name := "output", desc := "(LWindFarmDispatcher$Turbine;LWindFarmDispatcher$Direction;I)I" } : Jvm.MethodName)) ∈ lw_all := lw_g (lw_at lw_m2 36 rfl) rfl
theorem q352 : (Jvm.Cond.code ({ cls := "WindFarmDispatcher$Farm", name := "output", desc := "(LWindFarmDispatcher$Turbine;LWindFarmDispatcher$Direction;I)I" } : Jvm.MethodName) prog_11_method_9_code (4 : Nat) (Option.some Jvm.ClassFile.FieldType.int)) ∈ lw_all := lw_g (lw_at lw_m2 37 rfl) rfl
theorem q353 : (Jvm.Cond.methodLink "WindFarmDispatcher$Farm" (118 : Nat) ({ cls := "WindFarmDispatcher$Farm", name := "wakeLoss", desc := "(LWindFarmDispatcher$Turbine;LWindFarmDispatcher$Direction;)I" } : Jvm.MethodName)) ∈ lw_all := lw_g (lw_at lw_m2 38 rfl) rfl
theorem q354 : (Jvm.Cond.privateMethod ({ cls := "WindFarmDispatcher$Farm", name := "wakeLoss", desc := "(LWindFarmDispatcher$Turbine;LWindFarmDispatcher$Direction;)I" } : Jvm.MethodName)) ∈ lw_tbl := lw_at lw_m2 39 rfl
theorem q355 : (Jvm.Cond.instanceMethod ({ cls := "WindFarmDispatcher$Farm", name := "wakeLoss", desc := "(LWindFarmDispatcher$Turbine;LWindFarmDispatcher$Direction;)I" } : Jvm.MethodName)) ∈ lw_all := lw_g (lw_at lw_m2 40 rfl) rfl
theorem q356 : (Jvm.Cond.code ({ cls := "WindFarmDispatcher$Farm", name := "wakeLoss", desc := "(LWindFarmDispatcher$Turbine;LWindFarmDispatcher$Direction;)I" } : Jvm.MethodName) prog_11_method_6_code (6 : Nat) (Option.some Jvm.ClassFile.FieldType.int)) ∈ lw_all := lw_g (lw_at lw_m2 41 rfl) rfl
theorem q357 : (Jvm.Cond.methodLink "WindFarmDispatcher$Farm" (109 : Nat) ({ cls := "WindFarmDispatcher$Direction", name := "rowStep", desc := "()I" } : Jvm.MethodName)) ∈ lw_all := lw_g (lw_at lw_m2 42 rfl) rfl
theorem q372 : (Jvm.Cond.methodLink "WindFarmDispatcher$Farm" (112 : Nat) ({ cls := "WindFarmDispatcher$Direction", name := "columnStep", desc := "()I" } : Jvm.MethodName)) ∈ lw_all := lw_g (lw_at lw_m2 57 rfl) rfl
theorem q387 : (Jvm.Cond.methodLink "WindFarmDispatcher$Farm" (115 : Nat) ({ cls := "WindFarmDispatcher$Farm", name := "isRunningAt", desc := "(II)Z" } : Jvm.MethodName)) ∈ lw_all := lw_g (lw_at lw_m2 72 rfl) rfl
theorem q388 : (Jvm.Cond.privateMethod ({ cls := "WindFarmDispatcher$Farm", name := "isRunningAt", desc := "(II)Z" } : Jvm.MethodName)) ∈ lw_tbl := lw_at lw_m2 73 rfl
theorem q389 : (Jvm.Cond.instanceMethod ({ cls := "WindFarmDispatcher$Farm", name := "isRunningAt", desc := "(II)Z" } : Jvm.MethodName)) ∈ lw_all := lw_g (lw_at lw_m2 74 rfl) rfl
theorem q390 : (Jvm.Cond.code ({ cls := "WindFarmDispatcher$Farm", name := "isRunningAt", desc := "(II)Z" } : Jvm.MethodName) prog_11_method_5_code (3 : Nat) (Option.some Jvm.ClassFile.FieldType.boolean)) ∈ lw_all := lw_g (lw_at lw_m2 75 rfl) rfl
theorem q391 : (Jvm.Cond.methodLinkNest "WindFarmDispatcher$Farm" (101 : Nat) ({ cls := "WindFarmDispatcher", name := "isCell", desc := "(II)Z" } : Jvm.MethodName) "WindFarmDispatcher") ∈ lw_tbl := lw_at lw_m2 76 rfl
theorem q397 : (Jvm.Cond.methodLink "WindFarmDispatcher$Farm" (105 : Nat) ({ cls := "WindFarmDispatcher$Turbine", name := "isRunning", desc := "()Z" } : Jvm.MethodName)) ∈ lw_all := lw_g (lw_at lw_m2 82 rfl) rfl
theorem q403 : (Jvm.Cond.methodLink "WindFarmDispatcher$Farm" (129 : Nat) ({ cls := "WindFarmDispatcher$Turbine", name := "available", desc := "(II)I" } : Jvm.MethodName)) ∈ lw_all := lw_g (lw_at lw_m2 88 rfl) rfl
theorem q411 : (Jvm.Cond.interfaceEntry "WindFarmDispatcher$Farm" (133 : Nat)) ∈ lw_tbl := lw_at lw_m2 96 rfl
theorem q412 : (Jvm.Cond.methodLink "WindFarmDispatcher$Farm" (133 : Nat) ({ cls := "WindFarmDispatcher$State", name := "outputFor", desc := "(I)I" } : Jvm.MethodName)) ∈ lw_all := lw_g (lw_at lw_m2 97 rfl) rfl
theorem q447 : (Jvm.Cond.instanceMethod ({ cls := "WindFarmDispatcher$Farm", name := "totalByLines", desc := "()I" } : Jvm.MethodName)) ∈ lw_all := lw_g (lw_at lw_m2 132 rfl) rfl
theorem q448 : (Jvm.Cond.selects "WindFarmDispatcher$Farm" ({ cls := "WindFarmDispatcher$Farm", name := "totalByLines", desc := "()I" } : Jvm.MethodName) ({ cls := "WindFarmDispatcher$Farm", name := "totalByLines", desc := "()I" } : Jvm.MethodName)) ∈ lw_all := lw_g (lw_at lw_m2 133 rfl) rfl
theorem q449 : (Jvm.Cond.code ({ cls := "WindFarmDispatcher$Farm", name := "totalByLines", desc := "()I" } : Jvm.MethodName) prog_11_method_13_code (4 : Nat) (Option.some Jvm.ClassFile.FieldType.int)) ∈ lw_all := lw_g (lw_at lw_m2 134 rfl) rfl
theorem q450 : (Jvm.Cond.methodLink "WindFarmDispatcher$Farm" (146 : Nat) ({ cls := "WindFarmDispatcher$Direction", name := "isVertical", desc := "()Z" } : Jvm.MethodName)) ∈ lw_all := lw_g (lw_at lw_m2 135 rfl) rfl
theorem q459 : (Jvm.Cond.methodLink "WindFarmDispatcher$Farm" (149 : Nat) ({ cls := "WindFarmDispatcher$Farm", name := "outputOfLine", desc := "(I)I" } : Jvm.MethodName)) ∈ lw_all := lw_g (lw_at lw_m2 144 rfl) rfl
theorem q460 : (Jvm.Cond.privateMethod ({ cls := "WindFarmDispatcher$Farm", name := "outputOfLine", desc := "(I)I" } : Jvm.MethodName)) ∈ lw_tbl := lw_at lw_m2 145 rfl
theorem q461 : (Jvm.Cond.instanceMethod ({ cls := "WindFarmDispatcher$Farm", name := "outputOfLine", desc := "(I)I" } : Jvm.MethodName)) ∈ lw_all := lw_g (lw_at lw_m2 146 rfl) rfl
theorem q462 : (Jvm.Cond.code ({ cls := "WindFarmDispatcher$Farm", name := "outputOfLine", desc := "(I)I" } : Jvm.MethodName) prog_11_method_14_code (14 : Nat) (Option.some Jvm.ClassFile.FieldType.int)) ∈ lw_all := lw_g (lw_at lw_m2 147 rfl) rfl
theorem q463 : (Jvm.Cond.methodLink "WindFarmDispatcher$Farm" (152 : Nat) ({ cls := "java/lang/Math", name := "max", desc := "(II)I" } : Jvm.MethodName)) ∈ lw_all := lw_g (lw_at lw_m2 148 rfl) rfl
theorem q469 : (Jvm.Cond.instanceMethod ({ cls := "WindFarmDispatcher$Farm", name := "bestDirection", desc := "()LWindFarmDispatcher$Direction;" } : Jvm.MethodName)) ∈ lw_all := lw_g (lw_at lw_m2 154 rfl) rfl
theorem q470 : (Jvm.Cond.selects "WindFarmDispatcher$Farm" ({ cls := "WindFarmDispatcher$Farm", name := "bestDirection", desc := "()LWindFarmDispatcher$Direction;" } : Jvm.MethodName) ({ cls := "WindFarmDispatcher$Farm", name := "bestDirection", desc := "()LWindFarmDispatcher$Direction;" } : Jvm.MethodName)) ∈ lw_all := lw_g (lw_at lw_m2 155 rfl) rfl
theorem q471 : (Jvm.Cond.code ({ cls := "WindFarmDispatcher$Farm", name := "bestDirection", desc := "()LWindFarmDispatcher$Direction;" } : Jvm.MethodName) prog_11_method_15_code (8 : Nat) (Option.some (Jvm.ClassFile.FieldType.object "WindFarmDispatcher$Direction"))) ∈ lw_all := lw_g (lw_at lw_m2 156 rfl) rfl
theorem q472 : (Jvm.Cond.methodLink "WindFarmDispatcher$Farm" (157 : Nat) ({ cls := "WindFarmDispatcher$Direction", name := "values", desc := "()[LWindFarmDispatcher$Direction;" } : Jvm.MethodName)) ∈ lw_all := lw_g (lw_at lw_m2 157 rfl) rfl
theorem q524 : (Jvm.Cond.instanceMethod ({ cls := "WindFarmDispatcher$Farm", name := "copy", desc := "()LWindFarmDispatcher$Farm;" } : Jvm.MethodName)) ∈ lw_all := lw_g (lw_at lw_m2 209 rfl) rfl
theorem q525 : (Jvm.Cond.selects "WindFarmDispatcher$Farm" ({ cls := "WindFarmDispatcher$Farm", name := "copy", desc := "()LWindFarmDispatcher$Farm;" } : Jvm.MethodName) ({ cls := "WindFarmDispatcher$Farm", name := "copy", desc := "()LWindFarmDispatcher$Farm;" } : Jvm.MethodName)) ∈ lw_all := lw_g (lw_at lw_m2 210 rfl) rfl
theorem q526 : (Jvm.Cond.code ({ cls := "WindFarmDispatcher$Farm", name := "copy", desc := "()LWindFarmDispatcher$Farm;" } : Jvm.MethodName) prog_11_method_2_code (4 : Nat) (Option.some (Jvm.ClassFile.FieldType.object "WindFarmDispatcher$Farm"))) ∈ lw_all := lw_g (lw_at lw_m2 211 rfl) rfl
theorem q527 : (Jvm.Cond.classLink "WindFarmDispatcher$Farm" (13 : Nat) "WindFarmDispatcher$Farm") ∈ lw_all := lw_g (lw_at lw_m2 212 rfl) rfl
theorem q528 : (Jvm.Cond.methodLink "WindFarmDispatcher$Farm" (43 : Nat) ({ cls := "WindFarmDispatcher$Farm", name := "<init>", desc := "()V" } : Jvm.MethodName)) ∈ lw_all := lw_g (lw_at lw_m2 213 rfl) rfl
theorem q529 : (Jvm.Cond.methodLink "WindFarmDispatcher$Farm" (63 : Nat) ({ cls := "WindFarmDispatcher$Farm", name := "put", desc := "(III)LWindFarmDispatcher$Turbine;" } : Jvm.MethodName)) ∈ lw_all := lw_g (lw_at lw_m2 214 rfl) rfl
theorem q530 : (Jvm.Cond.privateMethod ({ cls := "WindFarmDispatcher$Farm", name := "put", desc := "(III)LWindFarmDispatcher$Turbine;" } : Jvm.MethodName)) ∈ lw_tbl := lw_at lw_m2 215 rfl
theorem q531 : (Jvm.Cond.instanceMethod ({ cls := "WindFarmDispatcher$Farm", name := "put", desc := "(III)LWindFarmDispatcher$Turbine;" } : Jvm.MethodName)) ∈ lw_all := lw_g (lw_at lw_m2 216 rfl) rfl
theorem q532 : (Jvm.Cond.code ({ cls := "WindFarmDispatcher$Farm", name := "put", desc := "(III)LWindFarmDispatcher$Turbine;" } : Jvm.MethodName) prog_11_method_3_code (5 : Nat) (Option.some (Jvm.ClassFile.FieldType.object "WindFarmDispatcher$Turbine"))) ∈ lw_all := lw_g (lw_at lw_m2 217 rfl) rfl
theorem q534 : (Jvm.Cond.methodLink "WindFarmDispatcher$Farm" (90 : Nat) ({ cls := "WindFarmDispatcher$Turbine", name := "<init>", desc := "(IIII)V" } : Jvm.MethodName)) ∈ lw_all := lw_g (lw_at lw_m2 219 rfl) rfl
theorem q545 : (Jvm.Cond.fieldLinkNest "WindFarmDispatcher$Farm" (165 : Nat) "WindFarmDispatcher$Turbine" "index" "I" "WindFarmDispatcher") ∈ lw_tbl := lw_at lw_m2 230 rfl
theorem q548 : (Jvm.Cond.fieldLinkNest "WindFarmDispatcher$Farm" (54 : Nat) "WindFarmDispatcher$Turbine" "row" "I" "WindFarmDispatcher") ∈ lw_tbl := lw_at lw_m2 233 rfl
theorem q551 : (Jvm.Cond.fieldLinkNest "WindFarmDispatcher$Farm" (57 : Nat) "WindFarmDispatcher$Turbine" "column" "I" "WindFarmDispatcher") ∈ lw_tbl := lw_at lw_m2 236 rfl
theorem q554 : (Jvm.Cond.fieldLinkNest "WindFarmDispatcher$Farm" (60 : Nat) "WindFarmDispatcher$Turbine" "rated" "I" "WindFarmDispatcher") ∈ lw_tbl := lw_at lw_m2 239 rfl
theorem q557 : (Jvm.Cond.fieldLinkNest "WindFarmDispatcher$Farm" (67 : Nat) "WindFarmDispatcher$Turbine" "state" "LWindFarmDispatcher$State;" "WindFarmDispatcher") ∈ lw_tbl := lw_at lw_m3 2 rfl
theorem q570 : (Jvm.Cond.methodLink "WindFarmDispatcher$Farm" (93 : Nat) ({ cls := "java/util/ArrayList", name := "add", desc := "(Ljava/lang/Object;)Z" } : Jvm.MethodName)) ∈ lw_all := lw_g (lw_at lw_m3 15 rfl) rfl
theorem q609 : (Jvm.Cond.selects "WindFarmDispatcher$Farm" ({ cls := "java/lang/Object", name := "getClass", desc := "()Ljava/lang/Class;" } : Jvm.MethodName) ({ cls := "java/lang/Object", name := "getClass", desc := "()Ljava/lang/Class;" } : Jvm.MethodName)) ∈ lw_all := lw_g (lw_at lw_m3 54 rfl) rfl
theorem q646 : (Jvm.Cond.instanceMethod ({ cls := "WindFarmDispatcher$Farm", name := "addTurbine", desc := "(III)I" } : Jvm.MethodName)) ∈ lw_all := lw_g (lw_at lw_m3 91 rfl) rfl
theorem q647 : (Jvm.Cond.selects "WindFarmDispatcher$Farm" ({ cls := "WindFarmDispatcher$Farm", name := "addTurbine", desc := "(III)I" } : Jvm.MethodName) ({ cls := "WindFarmDispatcher$Farm", name := "addTurbine", desc := "(III)I" } : Jvm.MethodName)) ∈ lw_all := lw_g (lw_at lw_m3 92 rfl) rfl
theorem q648 : (Jvm.Cond.code ({ cls := "WindFarmDispatcher$Farm", name := "addTurbine", desc := "(III)I" } : Jvm.MethodName) prog_11_method_16_code (5 : Nat) (Option.some Jvm.ClassFile.FieldType.int)) ∈ lw_all := lw_g (lw_at lw_m3 93 rfl) rfl
theorem q649 : (Jvm.Cond.methodLinkNest "WindFarmDispatcher$Farm" (161 : Nat) ({ cls := "WindFarmDispatcher", name := "rejectIf", desc := "(ZII)V" } : Jvm.MethodName) "WindFarmDispatcher") ∈ lw_tbl := lw_at lw_m3 94 rfl
theorem q734 : (Jvm.Cond.instanceMethod ({ cls := "WindFarmDispatcher$Farm", name := "fail", desc := "(I)I" } : Jvm.MethodName)) ∈ lw_all := lw_g (lw_at lw_m3 179 rfl) rfl
theorem q735 : (Jvm.Cond.selects "WindFarmDispatcher$Farm" ({ cls := "WindFarmDispatcher$Farm", name := "fail", desc := "(I)I" } : Jvm.MethodName) ({ cls := "WindFarmDispatcher$Farm", name := "fail", desc := "(I)I" } : Jvm.MethodName)) ∈ lw_all := lw_g (lw_at lw_m3 180 rfl) rfl
theorem q736 : (Jvm.Cond.code ({ cls := "WindFarmDispatcher$Farm", name := "fail", desc := "(I)I" } : Jvm.MethodName) prog_11_method_21_code (2 : Nat) (Option.some Jvm.ClassFile.FieldType.int)) ∈ lw_all := lw_g (lw_at lw_m3 181 rfl) rfl
theorem q737 : (Jvm.Cond.methodLink "WindFarmDispatcher$Farm" (175 : Nat) ({ cls := "WindFarmDispatcher$Farm", name := "requireRunning", desc := "(I)LWindFarmDispatcher$Turbine;" } : Jvm.MethodName)) ∈ lw_all := lw_g (lw_at lw_m3 182 rfl) rfl
theorem q738 : (Jvm.Cond.privateMethod ({ cls := "WindFarmDispatcher$Farm", name := "requireRunning", desc := "(I)LWindFarmDispatcher$Turbine;" } : Jvm.MethodName)) ∈ lw_tbl := lw_at lw_m3 183 rfl
theorem q739 : (Jvm.Cond.instanceMethod ({ cls := "WindFarmDispatcher$Farm", name := "requireRunning", desc := "(I)LWindFarmDispatcher$Turbine;" } : Jvm.MethodName)) ∈ lw_all := lw_g (lw_at lw_m3 184 rfl) rfl
theorem q740 : (Jvm.Cond.code ({ cls := "WindFarmDispatcher$Farm", name := "requireRunning", desc := "(I)LWindFarmDispatcher$Turbine;" } : Jvm.MethodName) prog_11_method_17_code (3 : Nat) (Option.some (Jvm.ClassFile.FieldType.object "WindFarmDispatcher$Turbine"))) ∈ lw_all := lw_g (lw_at lw_m3 185 rfl) rfl
theorem q741 : (Jvm.Cond.classLink "WindFarmDispatcher$Farm" (179 : Nat) "WindFarmDispatcher$Failed") ∈ lw_all := lw_g (lw_at lw_m3 186 rfl) rfl
theorem q743 : (Jvm.Cond.methodLinkNest "WindFarmDispatcher$Farm" (181 : Nat) ({ cls := "WindFarmDispatcher$Failed", name := "<init>", desc := "()V" } : Jvm.MethodName) "WindFarmDispatcher") ∈ lw_tbl := lw_at lw_m3 188 rfl
theorem q748 : (Jvm.Cond.methodLink "WindFarmDispatcher$Farm" (182 : Nat) ({ cls := "WindFarmDispatcher$Farm", name := "idleTurbines", desc := "()I" } : Jvm.MethodName)) ∈ lw_all := lw_g (lw_at lw_m3 193 rfl) rfl
theorem q749 : (Jvm.Cond.instanceMethod ({ cls := "WindFarmDispatcher$Farm", name := "idleTurbines", desc := "()I" } : Jvm.MethodName)) ∈ lw_all := lw_g (lw_at lw_m3 194 rfl) rfl
theorem q750 : (Jvm.Cond.selects "WindFarmDispatcher$Farm" ({ cls := "WindFarmDispatcher$Farm", name := "idleTurbines", desc := "()I" } : Jvm.MethodName) ({ cls := "WindFarmDispatcher$Farm", name := "idleTurbines", desc := "()I" } : Jvm.MethodName)) ∈ lw_all := lw_g (lw_at lw_m3 195 rfl) rfl
theorem q751 : (Jvm.Cond.code ({ cls := "WindFarmDispatcher$Farm", name := "idleTurbines", desc := "()I" } : Jvm.MethodName) prog_11_method_18_code (3 : Nat) (Option.some Jvm.ClassFile.FieldType.int)) ∈ lw_all := lw_g (lw_at lw_m3 196 rfl) rfl
theorem q753 : (Jvm.Cond.instanceMethod ({ cls := "WindFarmDispatcher$Farm", name := "sendCrew", desc := "(II)I" } : Jvm.MethodName)) ∈ lw_all := lw_g (lw_at lw_m3 198 rfl) rfl
theorem q754 : (Jvm.Cond.selects "WindFarmDispatcher$Farm" ({ cls := "WindFarmDispatcher$Farm", name := "sendCrew", desc := "(II)I" } : Jvm.MethodName) ({ cls := "WindFarmDispatcher$Farm", name := "sendCrew", desc := "(II)I" } : Jvm.MethodName)) ∈ lw_all := lw_g (lw_at lw_m3 199 rfl) rfl
theorem q755 : (Jvm.Cond.code ({ cls := "WindFarmDispatcher$Farm", name := "sendCrew", desc := "(II)I" } : Jvm.MethodName) prog_11_method_22_code (4 : Nat) (Option.some Jvm.ClassFile.FieldType.int)) ∈ lw_all := lw_g (lw_at lw_m3 200 rfl) rfl
theorem q756 : (Jvm.Cond.methodLink "WindFarmDispatcher$Farm" (185 : Nat) ({ cls := "WindFarmDispatcher$Turbine", name := "isFailed", desc := "()Z" } : Jvm.MethodName)) ∈ lw_all := lw_g (lw_at lw_m3 201 rfl) rfl
theorem q761 : (Jvm.Cond.methodLink "WindFarmDispatcher$Farm" (188 : Nat) ({ cls := "WindFarmDispatcher$Farm", name := "output", desc := "(LWindFarmDispatcher$Turbine;)I" } : Jvm.MethodName)) ∈ lw_all := lw_g (lw_at lw_m3 206 rfl) rfl
theorem q762 : (Jvm.Cond.instanceMethod ({ cls := "WindFarmDispatcher$Farm", name := "output", desc := "(LWindFarmDispatcher$Turbine;)I" } : Jvm.MethodName)) ∈ lw_all := lw_g (lw_at lw_m3 207 rfl) rfl
theorem q763 : (Jvm.Cond.selects "WindFarmDispatcher$Farm" ({ cls := "WindFarmDispatcher$Farm", name := "output", desc := "(LWindFarmDispatcher$Turbine;)I" } : Jvm.MethodName) ({ cls := "WindFarmDispatcher$Farm", name := "output", desc := "(LWindFarmDispatcher$Turbine;)I" } : Jvm.MethodName)) ∈ lw_all := lw_g (lw_at lw_m3 208 rfl) rfl
theorem q764 : (Jvm.Cond.code ({ cls := "WindFarmDispatcher$Farm", name := "output", desc := "(LWindFarmDispatcher$Turbine;)I" } : Jvm.MethodName) prog_11_method_10_code (2 : Nat) (Option.some Jvm.ClassFile.FieldType.int)) ∈ lw_all := lw_g (lw_at lw_m3 209 rfl) rfl
theorem q765 : (Jvm.Cond.methodLink "WindFarmDispatcher$Farm" (190 : Nat) ({ cls := "WindFarmDispatcher$Farm", name := "inService", desc := "()I" } : Jvm.MethodName)) ∈ lw_all := lw_g (lw_at lw_m3 210 rfl) rfl
theorem q766 : (Jvm.Cond.methodLink "WindFarmDispatcher$Farm" (193 : Nat) ({ cls := "WindFarmDispatcher$Farm", name := "firstInService", desc := "()I" } : Jvm.MethodName)) ∈ lw_all := lw_g (lw_at lw_m3 211 rfl) rfl
theorem q767 : (Jvm.Cond.privateMethod ({ cls := "WindFarmDispatcher$Farm", name := "firstInService", desc := "()I" } : Jvm.MethodName)) ∈ lw_tbl := lw_at lw_m3 212 rfl
theorem q768 : (Jvm.Cond.instanceMethod ({ cls := "WindFarmDispatcher$Farm", name := "firstInService", desc := "()I" } : Jvm.MethodName)) ∈ lw_all := lw_g (lw_at lw_m3 213 rfl) rfl
theorem q769 : (Jvm.Cond.code ({ cls := "WindFarmDispatcher$Farm", name := "firstInService", desc := "()I" } : Jvm.MethodName) prog_11_method_20_code (2 : Nat) (Option.some Jvm.ClassFile.FieldType.int)) ∈ lw_all := lw_g (lw_at lw_m3 214 rfl) rfl
theorem q770 : (Jvm.Cond.classLink "WindFarmDispatcher$Farm" (196 : Nat) "WindFarmDispatcher$InService") ∈ lw_all := lw_g (lw_at lw_m3 215 rfl) rfl
theorem q772 : (Jvm.Cond.methodLink "WindFarmDispatcher$Farm" (198 : Nat) ({ cls := "WindFarmDispatcher$InService", name := "<init>", desc := "(I)V" } : Jvm.MethodName)) ∈ lw_all := lw_g (lw_at lw_m3 217 rfl) rfl
theorem q782 : (Jvm.Cond.instanceMethod ({ cls := "WindFarmDispatcher$Farm", name := "recallCrew", desc := "(I)I" } : Jvm.MethodName)) ∈ lw_all := lw_g (lw_at lw_m3 227 rfl) rfl
theorem q783 : (Jvm.Cond.selects "WindFarmDispatcher$Farm" ({ cls := "WindFarmDispatcher$Farm", name := "recallCrew", desc := "(I)I" } : Jvm.MethodName) ({ cls := "WindFarmDispatcher$Farm", name := "recallCrew", desc := "(I)I" } : Jvm.MethodName)) ∈ lw_all := lw_g (lw_at lw_m3 228 rfl) rfl
theorem q784 : (Jvm.Cond.code ({ cls := "WindFarmDispatcher$Farm", name := "recallCrew", desc := "(I)I" } : Jvm.MethodName) prog_11_method_23_code (4 : Nat) (Option.some Jvm.ClassFile.FieldType.int)) ∈ lw_all := lw_g (lw_at lw_m3 229 rfl) rfl
theorem q786 : (Jvm.Cond.instanceMethod ({ cls := "WindFarmDispatcher$Farm", name := "curtail", desc := "(II)I" } : Jvm.MethodName)) ∈ lw_all := lw_g (lw_at lw_m3 231 rfl) rfl
theorem q787 : (Jvm.Cond.selects "WindFarmDispatcher$Farm" ({ cls := "WindFarmDispatcher$Farm", name := "curtail", desc := "(II)I" } : Jvm.MethodName) ({ cls := "WindFarmDispatcher$Farm", name := "curtail", desc := "(II)I" } : Jvm.MethodName)) ∈ lw_all := lw_g (lw_at lw_m3 232 rfl) rfl
theorem q788 : (Jvm.Cond.code ({ cls := "WindFarmDispatcher$Farm", name := "curtail", desc := "(II)I" } : Jvm.MethodName) prog_11_method_24_code (4 : Nat) (Option.some Jvm.ClassFile.FieldType.int)) ∈ lw_all := lw_g (lw_at lw_m3 233 rfl) rfl
theorem q789 : (Jvm.Cond.classLink "WindFarmDispatcher$Farm" (201 : Nat) "WindFarmDispatcher$Curtailed") ∈ lw_all := lw_g (lw_at lw_m3 234 rfl) rfl
theorem q791 : (Jvm.Cond.methodLink "WindFarmDispatcher$Farm" (203 : Nat) ({ cls := "WindFarmDispatcher$Curtailed", name := "<init>", desc := "(I)V" } : Jvm.MethodName)) ∈ lw_all := lw_g (lw_at lw_m3 236 rfl) rfl
theorem q801 : (Jvm.Cond.instanceMethod ({ cls := "WindFarmDispatcher$Farm", name := "release", desc := "(I)I" } : Jvm.MethodName)) ∈ lw_all := lw_g (lw_at lw_m4 6 rfl) rfl
theorem q802 : (Jvm.Cond.selects "WindFarmDispatcher$Farm" ({ cls := "WindFarmDispatcher$Farm", name := "release", desc := "(I)I" } : Jvm.MethodName) ({ cls := "WindFarmDispatcher$Farm", name := "release", desc := "(I)I" } : Jvm.MethodName)) ∈ lw_all := lw_g (lw_at lw_m4 7 rfl) rfl
theorem q803 : (Jvm.Cond.code ({ cls := "WindFarmDispatcher$Farm", name := "release", desc := "(I)I" } : Jvm.MethodName) prog_11_method_25_code (3 : Nat) (Option.some Jvm.ClassFile.FieldType.int)) ∈ lw_all := lw_g (lw_at lw_m4 8 rfl) rfl
theorem q804 : (Jvm.Cond.methodLink "WindFarmDispatcher$Farm" (204 : Nat) ({ cls := "WindFarmDispatcher$Turbine", name := "limit", desc := "()I" } : Jvm.MethodName)) ∈ lw_all := lw_g (lw_at lw_m4 9 rfl) rfl
theorem q808 : (Jvm.Cond.classLink "WindFarmDispatcher$Farm" (207 : Nat) "WindFarmDispatcher$Running") ∈ lw_all := lw_g (lw_at lw_m4 13 rfl) rfl
theorem q809 : (Jvm.Cond.methodLinkNest "WindFarmDispatcher$Farm" (209 : Nat) ({ cls := "WindFarmDispatcher$Running", name := "<init>", desc := "()V" } : Jvm.MethodName) "WindFarmDispatcher") ∈ lw_tbl := lw_at lw_m4 14 rfl
theorem q815 : (Jvm.Cond.instanceMethod ({ cls := "WindFarmDispatcher$Farm", name := "setWind", desc := "(LWindFarmDispatcher$Direction;I)I" } : Jvm.MethodName)) ∈ lw_all := lw_g (lw_at lw_m4 20 rfl) rfl
theorem q816 : (Jvm.Cond.selects "WindFarmDispatcher$Farm" ({ cls := "WindFarmDispatcher$Farm", name := "setWind", desc := "(LWindFarmDispatcher$Direction;I)I" } : Jvm.MethodName) ({ cls := "WindFarmDispatcher$Farm", name := "setWind", desc := "(LWindFarmDispatcher$Direction;I)I" } : Jvm.MethodName)) ∈ lw_all := lw_g (lw_at lw_m4 21 rfl) rfl
theorem q817 : (Jvm.Cond.code ({ cls := "WindFarmDispatcher$Farm", name := "setWind", desc := "(LWindFarmDispatcher$Direction;I)I" } : Jvm.MethodName) prog_11_method_27_code (3 : Nat) (Option.some Jvm.ClassFile.FieldType.int)) ∈ lw_all := lw_g (lw_at lw_m4 22 rfl) rfl
theorem q818 : (Jvm.Cond.methodLink "WindFarmDispatcher$Farm" (210 : Nat) ({ cls := "WindFarmDispatcher$Farm", name := "total", desc := "()I" } : Jvm.MethodName)) ∈ lw_all := lw_g (lw_at lw_m4 23 rfl) rfl
theorem q820 : (Jvm.Cond.instanceMethod ({ cls := "WindFarmDispatcher$Farm", name := "setGridLimit", desc := "(I)I" } : Jvm.MethodName)) ∈ lw_all := lw_g (lw_at lw_m4 25 rfl) rfl
theorem q821 : (Jvm.Cond.selects "WindFarmDispatcher$Farm" ({ cls := "WindFarmDispatcher$Farm", name := "setGridLimit", desc := "(I)I" } : Jvm.MethodName) ({ cls := "WindFarmDispatcher$Farm", name := "setGridLimit", desc := "(I)I" } : Jvm.MethodName)) ∈ lw_all := lw_g (lw_at lw_m4 26 rfl) rfl
theorem q822 : (Jvm.Cond.code ({ cls := "WindFarmDispatcher$Farm", name := "setGridLimit", desc := "(I)I" } : Jvm.MethodName) prog_11_method_28_code (3 : Nat) (Option.some Jvm.ClassFile.FieldType.int)) ∈ lw_all := lw_g (lw_at lw_m4 27 rfl) rfl
theorem q824 : (Jvm.Cond.instanceMethod ({ cls := "WindFarmDispatcher$Farm", name := "dispatch", desc := "()I" } : Jvm.MethodName)) ∈ lw_all := lw_g (lw_at lw_m4 29 rfl) rfl
theorem q825 : (Jvm.Cond.selects "WindFarmDispatcher$Farm" ({ cls := "WindFarmDispatcher$Farm", name := "dispatch", desc := "()I" } : Jvm.MethodName) ({ cls := "WindFarmDispatcher$Farm", name := "dispatch", desc := "()I" } : Jvm.MethodName)) ∈ lw_all := lw_g (lw_at lw_m4 30 rfl) rfl
theorem q826 : (Jvm.Cond.code ({ cls := "WindFarmDispatcher$Farm", name := "dispatch", desc := "()I" } : Jvm.MethodName) prog_11_method_29_code (4 : Nat) (Option.some Jvm.ClassFile.FieldType.int)) ∈ lw_all := lw_g (lw_at lw_m4 31 rfl) rfl
theorem q827 : (Jvm.Cond.methodLink "WindFarmDispatcher$Farm" (213 : Nat) ({ cls := "WindFarmDispatcher$Farm", name := "turbineByOutput", desc := "(IZ)I" } : Jvm.MethodName)) ∈ lw_all := lw_g (lw_at lw_m4 32 rfl) rfl
theorem q828 : (Jvm.Cond.instanceMethod ({ cls := "WindFarmDispatcher$Farm", name := "turbineByOutput", desc := "(IZ)I" } : Jvm.MethodName)) ∈ lw_all := lw_g (lw_at lw_m4 33 rfl) rfl
theorem q829 : (Jvm.Cond.selects "WindFarmDispatcher$Farm" ({ cls := "WindFarmDispatcher$Farm", name := "turbineByOutput", desc := "(IZ)I" } : Jvm.MethodName) ({ cls := "WindFarmDispatcher$Farm", name := "turbineByOutput", desc := "(IZ)I" } : Jvm.MethodName)) ∈ lw_all := lw_g (lw_at lw_m4 34 rfl) rfl
theorem q830 : (Jvm.Cond.code ({ cls := "WindFarmDispatcher$Farm", name := "turbineByOutput", desc := "(IZ)I" } : Jvm.MethodName) prog_11_method_40_code (6 : Nat) (Option.some Jvm.ClassFile.FieldType.int)) ∈ lw_all := lw_g (lw_at lw_m4 35 rfl) rfl
theorem q831 : (Jvm.Cond.methodLink "WindFarmDispatcher$Farm" (241 : Nat) ({ cls := "WindFarmDispatcher$Farm", name := "isStronger", desc := "(LWindFarmDispatcher$Turbine;LWindFarmDispatcher$Turbine;Z)Z" } : Jvm.MethodName)) ∈ lw_all := lw_g (lw_at lw_m4 36 rfl) rfl
theorem q832 : (Jvm.Cond.privateMethod ({ cls := "WindFarmDispatcher$Farm", name := "isStronger", desc := "(LWindFarmDispatcher$Turbine;LWindFarmDispatcher$Turbine;Z)Z" } : Jvm.MethodName)) ∈ lw_tbl := lw_at lw_m4 37 rfl
theorem q833 : (Jvm.Cond.instanceMethod ({ cls := "WindFarmDispatcher$Farm", name := "isStronger", desc := "(LWindFarmDispatcher$Turbine;LWindFarmDispatcher$Turbine;Z)Z" } : Jvm.MethodName)) ∈ lw_all := lw_g (lw_at lw_m4 38 rfl) rfl
theorem q834 : (Jvm.Cond.code ({ cls := "WindFarmDispatcher$Farm", name := "isStronger", desc := "(LWindFarmDispatcher$Turbine;LWindFarmDispatcher$Turbine;Z)Z" } : Jvm.MethodName) prog_11_method_41_code (6 : Nat) (Option.some Jvm.ClassFile.FieldType.boolean)) ∈ lw_all := lw_g (lw_at lw_m4 39 rfl) rfl
theorem q836 : (Jvm.Cond.instanceMethod ({ cls := "WindFarmDispatcher$Farm", name := "releaseAll", desc := "()I" } : Jvm.MethodName)) ∈ lw_all := lw_g (lw_at lw_m4 41 rfl) rfl
theorem q837 : (Jvm.Cond.selects "WindFarmDispatcher$Farm" ({ cls := "WindFarmDispatcher$Farm", name := "releaseAll", desc := "()I" } : Jvm.MethodName) ({ cls := "WindFarmDispatcher$Farm", name := "releaseAll", desc := "()I" } : Jvm.MethodName)) ∈ lw_all := lw_g (lw_at lw_m4 42 rfl) rfl
theorem q838 : (Jvm.Cond.code ({ cls := "WindFarmDispatcher$Farm", name := "releaseAll", desc := "()I" } : Jvm.MethodName) prog_11_method_26_code (4 : Nat) (Option.some Jvm.ClassFile.FieldType.int)) ∈ lw_all := lw_g (lw_at lw_m4 43 rfl) rfl
theorem q840 : (Jvm.Cond.instanceMethod ({ cls := "WindFarmDispatcher$Farm", name := "placeBid", desc := "(III)I" } : Jvm.MethodName)) ∈ lw_all := lw_g (lw_at lw_m4 45 rfl) rfl
theorem q841 : (Jvm.Cond.selects "WindFarmDispatcher$Farm" ({ cls := "WindFarmDispatcher$Farm", name := "placeBid", desc := "(III)I" } : Jvm.MethodName) ({ cls := "WindFarmDispatcher$Farm", name := "placeBid", desc := "(III)I" } : Jvm.MethodName)) ∈ lw_all := lw_g (lw_at lw_m4 46 rfl) rfl
theorem q842 : (Jvm.Cond.code ({ cls := "WindFarmDispatcher$Farm", name := "placeBid", desc := "(III)I" } : Jvm.MethodName) prog_11_method_32_code (4 : Nat) (Option.some Jvm.ClassFile.FieldType.int)) ∈ lw_all := lw_g (lw_at lw_m4 47 rfl) rfl
theorem q843 : (Jvm.Cond.methodLink "WindFarmDispatcher$Farm" (217 : Nat) ({ cls := "WindFarmDispatcher$Farm", name := "hasBid", desc := "(I)Z" } : Jvm.MethodName)) ∈ lw_all := lw_g (lw_at lw_m4 48 rfl) rfl
theorem q844 : (Jvm.Cond.instanceMethod ({ cls := "WindFarmDispatcher$Farm", name := "hasBid", desc := "(I)Z" } : Jvm.MethodName)) ∈ lw_all := lw_g (lw_at lw_m4 49 rfl) rfl
theorem q845 : (Jvm.Cond.selects "WindFarmDispatcher$Farm" ({ cls := "WindFarmDispatcher$Farm", name := "hasBid", desc := "(I)Z" } : Jvm.MethodName) ({ cls := "WindFarmDispatcher$Farm", name := "hasBid", desc := "(I)Z" } : Jvm.MethodName)) ∈ lw_all := lw_g (lw_at lw_m4 50 rfl) rfl
theorem q846 : (Jvm.Cond.code ({ cls := "WindFarmDispatcher$Farm", name := "hasBid", desc := "(I)Z" } : Jvm.MethodName) prog_11_method_31_code (2 : Nat) (Option.some Jvm.ClassFile.FieldType.boolean)) ∈ lw_all := lw_g (lw_at lw_m4 51 rfl) rfl
theorem q847 : (Jvm.Cond.methodLink "WindFarmDispatcher$Farm" (221 : Nat) ({ cls := "WindFarmDispatcher$Farm", name := "bidCount", desc := "()I" } : Jvm.MethodName)) ∈ lw_all := lw_g (lw_at lw_m4 52 rfl) rfl
theorem q848 : (Jvm.Cond.instanceMethod ({ cls := "WindFarmDispatcher$Farm", name := "bidCount", desc := "()I" } : Jvm.MethodName)) ∈ lw_all := lw_g (lw_at lw_m4 53 rfl) rfl
theorem q849 : (Jvm.Cond.selects "WindFarmDispatcher$Farm" ({ cls := "WindFarmDispatcher$Farm", name := "bidCount", desc := "()I" } : Jvm.MethodName) ({ cls := "WindFarmDispatcher$Farm", name := "bidCount", desc := "()I" } : Jvm.MethodName)) ∈ lw_all := lw_g (lw_at lw_m4 54 rfl) rfl
theorem q850 : (Jvm.Cond.code ({ cls := "WindFarmDispatcher$Farm", name := "bidCount", desc := "()I" } : Jvm.MethodName) prog_11_method_30_code (3 : Nat) (Option.some Jvm.ClassFile.FieldType.int)) ∈ lw_all := lw_g (lw_at lw_m4 55 rfl) rfl
theorem q852 : (Jvm.Cond.instanceMethod ({ cls := "WindFarmDispatcher$Farm", name := "withdrawBid", desc := "(I)I" } : Jvm.MethodName)) ∈ lw_all := lw_g (lw_at lw_m4 57 rfl) rfl
theorem q853 : (Jvm.Cond.selects "WindFarmDispatcher$Farm" ({ cls := "WindFarmDispatcher$Farm", name := "withdrawBid", desc := "(I)I" } : Jvm.MethodName) ({ cls := "WindFarmDispatcher$Farm", name := "withdrawBid", desc := "(I)I" } : Jvm.MethodName)) ∈ lw_all := lw_g (lw_at lw_m4 58 rfl) rfl
theorem q854 : (Jvm.Cond.code ({ cls := "WindFarmDispatcher$Farm", name := "withdrawBid", desc := "(I)I" } : Jvm.MethodName) prog_11_method_33_code (3 : Nat) (Option.some Jvm.ClassFile.FieldType.int)) ∈ lw_all := lw_g (lw_at lw_m4 59 rfl) rfl
theorem q856 : (Jvm.Cond.instanceMethod ({ cls := "WindFarmDispatcher$Farm", name := "passHours", desc := "(I)I" } : Jvm.MethodName)) ∈ lw_all := lw_g (lw_at lw_m4 61 rfl) rfl
theorem q857 : (Jvm.Cond.selects "WindFarmDispatcher$Farm" ({ cls := "WindFarmDispatcher$Farm", name := "passHours", desc := "(I)I" } : Jvm.MethodName) ({ cls := "WindFarmDispatcher$Farm", name := "passHours", desc := "(I)I" } : Jvm.MethodName)) ∈ lw_all := lw_g (lw_at lw_m4 62 rfl) rfl
theorem q858 : (Jvm.Cond.code ({ cls := "WindFarmDispatcher$Farm", name := "passHours", desc := "(I)I" } : Jvm.MethodName) prog_11_method_36_code (5 : Nat) (Option.some Jvm.ClassFile.FieldType.int)) ∈ lw_all := lw_g (lw_at lw_m4 63 rfl) rfl
theorem q859 : (Jvm.Cond.methodLink "WindFarmDispatcher$Farm" (227 : Nat) ({ cls := "WindFarmDispatcher$Farm", name := "passHour", desc := "()V" } : Jvm.MethodName)) ∈ lw_all := lw_g (lw_at lw_m4 64 rfl) rfl
theorem q860 : (Jvm.Cond.privateMethod ({ cls := "WindFarmDispatcher$Farm", name := "passHour", desc := "()V" } : Jvm.MethodName)) ∈ lw_tbl := lw_at lw_m4 65 rfl
theorem q861 : (Jvm.Cond.instanceMethod ({ cls := "WindFarmDispatcher$Farm", name := "passHour", desc := "()V" } : Jvm.MethodName)) ∈ lw_all := lw_g (lw_at lw_m4 66 rfl) rfl
theorem q862 : (Jvm.Cond.code ({ cls := "WindFarmDispatcher$Farm", name := "passHour", desc := "()V" } : Jvm.MethodName) prog_11_method_37_code (6 : Nat) (Option.none : Option Jvm.ClassFile.FieldType)) ∈ lw_all := lw_g (lw_at lw_m4 67 rfl) rfl
theorem q863 : (Jvm.Cond.methodLink "WindFarmDispatcher$Farm" (230 : Nat) ({ cls := "java/lang/Math", name := "min", desc := "(II)I" } : Jvm.MethodName)) ∈ lw_all := lw_g (lw_at lw_m4 68 rfl) rfl
theorem q864 : (Jvm.Cond.methodLink "WindFarmDispatcher$Farm" (233 : Nat) ({ cls := "WindFarmDispatcher$Turbine", name := "passHour", desc := "()V" } : Jvm.MethodName)) ∈ lw_all := lw_g (lw_at lw_m4 69 rfl) rfl
theorem q943 : (Jvm.Cond.instanceMethod ({ cls := "WindFarmDispatcher$Farm", name := "isConsistent", desc := "()Z" } : Jvm.MethodName)) ∈ lw_all := lw_g (lw_at lw_m4 148 rfl) rfl
theorem q944 : (Jvm.Cond.selects "WindFarmDispatcher$Farm" ({ cls := "WindFarmDispatcher$Farm", name := "isConsistent", desc := "()Z" } : Jvm.MethodName) ({ cls := "WindFarmDispatcher$Farm", name := "isConsistent", desc := "()Z" } : Jvm.MethodName)) ∈ lw_all := lw_g (lw_at lw_m4 149 rfl) rfl
theorem q945 : (Jvm.Cond.code ({ cls := "WindFarmDispatcher$Farm", name := "isConsistent", desc := "()Z" } : Jvm.MethodName) prog_11_method_42_code (1 : Nat) (Option.some Jvm.ClassFile.FieldType.boolean)) ∈ lw_all := lw_g (lw_at lw_m4 150 rfl) rfl
theorem q946 : (Jvm.Cond.methodLink "WindFarmDispatcher$Farm" (245 : Nat) ({ cls := "WindFarmDispatcher$Farm", name := "totalByLines", desc := "()I" } : Jvm.MethodName)) ∈ lw_all := lw_g (lw_at lw_m4 151 rfl) rfl
theorem q1047 : (Jvm.Cond.instanceMethod ({ cls := "WindFarmDispatcher$Farm", name := "has", desc := "(I)Z" } : Jvm.MethodName)) ∈ lw_all := lw_g (lw_at lw_m5 12 rfl) rfl
theorem q1048 : (Jvm.Cond.selects "WindFarmDispatcher$Farm" ({ cls := "WindFarmDispatcher$Farm", name := "has", desc := "(I)Z" } : Jvm.MethodName) ({ cls := "WindFarmDispatcher$Farm", name := "has", desc := "(I)Z" } : Jvm.MethodName)) ∈ lw_all := lw_g (lw_at lw_m5 13 rfl) rfl
theorem q1049 : (Jvm.Cond.code ({ cls := "WindFarmDispatcher$Farm", name := "has", desc := "(I)Z" } : Jvm.MethodName) prog_11_method_4_code (2 : Nat) (Option.some Jvm.ClassFile.FieldType.boolean)) ∈ lw_all := lw_g (lw_at lw_m5 14 rfl) rfl
theorem q1050 : (Jvm.Cond.methodLinkNest "WindFarmDispatcher$Farm" (97 : Nat) ({ cls := "WindFarmDispatcher", name := "isBetween", desc := "(III)Z" } : Jvm.MethodName) "WindFarmDispatcher") ∈ lw_tbl := lw_at lw_m5 15 rfl
theorem q1203 : (Jvm.Cond.instanceMethod ({ cls := "WindFarmDispatcher$Farm", name := "wakeLoss", desc := "(LWindFarmDispatcher$Turbine;)I" } : Jvm.MethodName)) ∈ lw_all := lw_g (lw_at lw_m5 168 rfl) rfl
theorem q1204 : (Jvm.Cond.selects "WindFarmDispatcher$Farm" ({ cls := "WindFarmDispatcher$Farm", name := "wakeLoss", desc := "(LWindFarmDispatcher$Turbine;)I" } : Jvm.MethodName) ({ cls := "WindFarmDispatcher$Farm", name := "wakeLoss", desc := "(LWindFarmDispatcher$Turbine;)I" } : Jvm.MethodName)) ∈ lw_all := lw_g (lw_at lw_m5 169 rfl) rfl
theorem q1205 : (Jvm.Cond.code ({ cls := "WindFarmDispatcher$Farm", name := "wakeLoss", desc := "(LWindFarmDispatcher$Turbine;)I" } : Jvm.MethodName) prog_11_method_7_code (2 : Nat) (Option.some Jvm.ClassFile.FieldType.int)) ∈ lw_all := lw_g (lw_at lw_m5 170 rfl) rfl
theorem q1214 : (Jvm.Cond.instanceMethod ({ cls := "WindFarmDispatcher$Farm", name := "available", desc := "(LWindFarmDispatcher$Turbine;)I" } : Jvm.MethodName)) ∈ lw_all := lw_g (lw_at lw_m5 179 rfl) rfl
theorem q1215 : (Jvm.Cond.selects "WindFarmDispatcher$Farm" ({ cls := "WindFarmDispatcher$Farm", name := "available", desc := "(LWindFarmDispatcher$Turbine;)I" } : Jvm.MethodName) ({ cls := "WindFarmDispatcher$Farm", name := "available", desc := "(LWindFarmDispatcher$Turbine;)I" } : Jvm.MethodName)) ∈ lw_all := lw_g (lw_at lw_m5 180 rfl) rfl
theorem q1216 : (Jvm.Cond.code ({ cls := "WindFarmDispatcher$Farm", name := "available", desc := "(LWindFarmDispatcher$Turbine;)I" } : Jvm.MethodName) prog_11_method_8_code (2 : Nat) (Option.some Jvm.ClassFile.FieldType.int)) ∈ lw_all := lw_g (lw_at lw_m5 181 rfl) rfl
theorem q1217 : (Jvm.Cond.methodLink "WindFarmDispatcher$Farm" (126 : Nat) ({ cls := "WindFarmDispatcher$Farm", name := "wakeLoss", desc := "(LWindFarmDispatcher$Turbine;)I" } : Jvm.MethodName)) ∈ lw_all := lw_g (lw_at lw_m5 182 rfl) rfl
theorem q1298 : (Jvm.Cond.instanceMethod ({ cls := "WindFarmDispatcher$Farm", name := "bidByPrice", desc := "(I)I" } : Jvm.MethodName)) ∈ lw_all := lw_g (lw_at lw_m6 23 rfl) rfl
theorem q1299 : (Jvm.Cond.selects "WindFarmDispatcher$Farm" ({ cls := "WindFarmDispatcher$Farm", name := "bidByPrice", desc := "(I)I" } : Jvm.MethodName) ({ cls := "WindFarmDispatcher$Farm", name := "bidByPrice", desc := "(I)I" } : Jvm.MethodName)) ∈ lw_all := lw_g (lw_at lw_m6 24 rfl) rfl
theorem q1300 : (Jvm.Cond.code ({ cls := "WindFarmDispatcher$Farm", name := "bidByPrice", desc := "(I)I" } : Jvm.MethodName) prog_11_method_35_code (6 : Nat) (Option.some Jvm.ClassFile.FieldType.int)) ∈ lw_all := lw_g (lw_at lw_m6 25 rfl) rfl
theorem q1301 : (Jvm.Cond.methodLink "WindFarmDispatcher$Farm" (224 : Nat) ({ cls := "WindFarmDispatcher$Farm", name := "isBetter", desc := "(II)Z" } : Jvm.MethodName)) ∈ lw_all := lw_g (lw_at lw_m6 26 rfl) rfl
theorem q1302 : (Jvm.Cond.privateMethod ({ cls := "WindFarmDispatcher$Farm", name := "isBetter", desc := "(II)Z" } : Jvm.MethodName)) ∈ lw_tbl := lw_at lw_m6 27 rfl
theorem q1303 : (Jvm.Cond.instanceMethod ({ cls := "WindFarmDispatcher$Farm", name := "isBetter", desc := "(II)Z" } : Jvm.MethodName)) ∈ lw_all := lw_g (lw_at lw_m6 28 rfl) rfl
theorem q1304 : (Jvm.Cond.code ({ cls := "WindFarmDispatcher$Farm", name := "isBetter", desc := "(II)Z" } : Jvm.MethodName) prog_11_method_34_code (5 : Nat) (Option.some Jvm.ClassFile.FieldType.boolean)) ∈ lw_all := lw_g (lw_at lw_m6 29 rfl) rfl
theorem q1323 : (Jvm.Cond.instanceMethod ({ cls := "WindFarmDispatcher$Farm", name := "incomeWithin", desc := "(I)I" } : Jvm.MethodName)) ∈ lw_all := lw_g (lw_at lw_m6 48 rfl) rfl
theorem q1324 : (Jvm.Cond.selects "WindFarmDispatcher$Farm" ({ cls := "WindFarmDispatcher$Farm", name := "incomeWithin", desc := "(I)I" } : Jvm.MethodName) ({ cls := "WindFarmDispatcher$Farm", name := "incomeWithin", desc := "(I)I" } : Jvm.MethodName)) ∈ lw_all := lw_g (lw_at lw_m6 49 rfl) rfl
theorem q1325 : (Jvm.Cond.code ({ cls := "WindFarmDispatcher$Farm", name := "incomeWithin", desc := "(I)I" } : Jvm.MethodName) prog_11_method_38_code (4 : Nat) (Option.some Jvm.ClassFile.FieldType.int)) ∈ lw_all := lw_g (lw_at lw_m6 50 rfl) rfl
theorem q1326 : (Jvm.Cond.methodLink "WindFarmDispatcher$Farm" (234 : Nat) ({ cls := "WindFarmDispatcher$Farm", name := "copy", desc := "()LWindFarmDispatcher$Farm;" } : Jvm.MethodName)) ∈ lw_all := lw_g (lw_at lw_m6 51 rfl) rfl
theorem q1327 : (Jvm.Cond.methodLink "WindFarmDispatcher$Farm" (238 : Nat) ({ cls := "WindFarmDispatcher$Farm", name := "passHours", desc := "(I)I" } : Jvm.MethodName)) ∈ lw_all := lw_g (lw_at lw_m6 52 rfl) rfl
theorem q1336 : (Jvm.Cond.instanceMethod ({ cls := "WindFarmDispatcher$Farm", name := "hoursToBid", desc := "()I" } : Jvm.MethodName)) ∈ lw_all := lw_g (lw_at lw_m6 61 rfl) rfl
theorem q1337 : (Jvm.Cond.selects "WindFarmDispatcher$Farm" ({ cls := "WindFarmDispatcher$Farm", name := "hoursToBid", desc := "()I" } : Jvm.MethodName) ({ cls := "WindFarmDispatcher$Farm", name := "hoursToBid", desc := "()I" } : Jvm.MethodName)) ∈ lw_all := lw_g (lw_at lw_m6 62 rfl) rfl
theorem q1338 : (Jvm.Cond.code ({ cls := "WindFarmDispatcher$Farm", name := "hoursToBid", desc := "()I" } : Jvm.MethodName) prog_11_method_39_code (2 : Nat) (Option.some Jvm.ClassFile.FieldType.int)) ∈ lw_all := lw_g (lw_at lw_m6 63 rfl) rfl
theorem q2511 : (Jvm.Cond.castable "WindFarmDispatcher$Farm" "java/lang/Object") ∈ lw_tbl := lw_at lw_m11 36 rfl
theorem in_X2 : ∀ w ∈ wsX20, w ∈ lw_all := lw_in wsX20 [189, 191, 193, 195, 197, 199, 201, 203, 205, 207, 209, 211] (by decide +kernel) (by decide +kernel)
/-! WindFarmDispatcher$Direction -/
def RX3 : String := "WindFarmDispatcher$Direction"
abbrev cX3_letter : ByteArray := prog_5_method_6_code
def yX3_letter : MethodName := ⟨RX3, "letter", "()C"⟩
theorem dX3_letter_0 : decode cX3_letter 0 = .ok (.aload_n 0, 1) := by decide +kernel
theorem dX3_letter_1 : decode cX3_letter 1 = .ok (.getfield 35, 3) := by decide +kernel
theorem dX3_letter_4 : decode cX3_letter 4 = .ok (.ireturn, 1) := by decide +kernel
abbrev cX3_isVertical : ByteArray := prog_5_method_7_code
def yX3_isVertical : MethodName := ⟨RX3, "isVertical", "()Z"⟩
def dkwX3_isVertical_0 : List UInt8 := [42, 182, 0, 39, 153, 0, 7, 4, 167, 0, 4, 3, 172]
abbrev dktX3_isVertical_0 : List UInt8 := dkwX3_isVertical_0 ++ []
theorem dksX3_isVertical_0 : cX3_isVertical.data.toList.drop 0 = dktX3_isVertical_0 := by decide +kernel
theorem dX3_isVertical_0 : decode cX3_isVertical 0 = .ok (.aload_n 0, 1) := dk_42 (dk_at dksX3_isVertical_0 0 rfl rfl)
theorem dX3_isVertical_1 : decode cX3_isVertical 1 = .ok (.invokevirtual 39, 3) := dk_182 0 39 (dk_at dksX3_isVertical_0 1 rfl rfl)
theorem dX3_isVertical_4 : decode cX3_isVertical 4 = .ok (.ifCond .eq 7, 3) := dk_153 0 7 (dk_at dksX3_isVertical_0 4 rfl rfl)
theorem dX3_isVertical_7 : decode cX3_isVertical 7 = .ok (.iconst 1, 1) := dk_4 (dk_at dksX3_isVertical_0 7 rfl rfl)
theorem dX3_isVertical_8 : decode cX3_isVertical 8 = .ok (.goto 4, 3) := dk_167 0 4 (dk_at dksX3_isVertical_0 8 rfl rfl)
theorem dX3_isVertical_11 : decode cX3_isVertical 11 = .ok (.iconst 0, 1) := dk_3 (dk_at dksX3_isVertical_0 11 rfl rfl)
theorem dX3_isVertical_12 : decode cX3_isVertical 12 = .ok (.ireturn, 1) := dk_172 (dk_at dksX3_isVertical_0 12 rfl rfl)
abbrev cX3_values : ByteArray := prog_5_method_1_code
def yX3_values : MethodName := ⟨RX3, "values", "()[LWindFarmDispatcher$Direction;"⟩
def dkwX3_values_0 : List UInt8 := [178, 0, 16, 182, 0, 20, 192, 0, 21, 176]
abbrev dktX3_values_0 : List UInt8 := dkwX3_values_0 ++ []
theorem dksX3_values_0 : cX3_values.data.toList.drop 0 = dktX3_values_0 := by decide +kernel
theorem dX3_values_0 : decode cX3_values 0 = .ok (.getstatic 16, 3) := dk_178 0 16 (dk_at dksX3_values_0 0 rfl rfl)
theorem dX3_values_3 : decode cX3_values 3 = .ok (.invokevirtual 20, 3) := dk_182 0 20 (dk_at dksX3_values_0 3 rfl rfl)
theorem dX3_values_6 : decode cX3_values 6 = .ok (.checkcast 21, 3) := dk_192 0 21 (dk_at dksX3_values_0 6 rfl rfl)
theorem dX3_values_9 : decode cX3_values 9 = .ok (.areturn, 1) := dk_176 (dk_at dksX3_values_0 9 rfl rfl)
theorem q82 : (Jvm.Cond.initialized "WindFarmDispatcher$Direction") ∈ lw_all := lw_g (lw_at lw_m1 7 rfl) rfl
theorem q164 : (Jvm.Cond.laysStatic "WindFarmDispatcher$Direction" "NORTH" "LWindFarmDispatcher$Direction;") ∈ lw_tbl := lw_at lw_m1 89 rfl
theorem q318 : (Jvm.Cond.instanceMethod ({ cls := "WindFarmDispatcher$Direction", name := "letter", desc := "()C" } : Jvm.MethodName)) ∈ lw_all := lw_g (lw_at lw_m2 3 rfl) rfl
theorem q319 : (Jvm.Cond.sameMethod "WindFarmDispatcher$Direction" "WindFarmDispatcher$Direction" "letter" "()C") ∈ lw_all := lw_g (lw_at lw_m2 4 rfl) rfl
theorem q324 : (Jvm.Cond.code ({ cls := "WindFarmDispatcher$Direction", name := "letter", desc := "()C" } : Jvm.MethodName) prog_5_method_6_code (1 : Nat) (Option.some Jvm.ClassFile.FieldType.char)) ∈ lw_all := lw_g (lw_at lw_m2 9 rfl) rfl
theorem q358 : (Jvm.Cond.declares ({ cls := "WindFarmDispatcher$Direction", name := "rowStep", desc := "()I" } : Jvm.MethodName)) ∈ lw_tbl := lw_at lw_m2 43 rfl
theorem q359 : (Jvm.Cond.sameMethod "WindFarmDispatcher$Direction" "WindFarmDispatcher$Direction" "rowStep" "()I") ∈ lw_all := lw_g (lw_at lw_m2 44 rfl) rfl
theorem q373 : (Jvm.Cond.declares ({ cls := "WindFarmDispatcher$Direction", name := "columnStep", desc := "()I" } : Jvm.MethodName)) ∈ lw_tbl := lw_at lw_m2 58 rfl
theorem q374 : (Jvm.Cond.sameMethod "WindFarmDispatcher$Direction" "WindFarmDispatcher$Direction" "columnStep" "()I") ∈ lw_all := lw_g (lw_at lw_m2 59 rfl) rfl
theorem q451 : (Jvm.Cond.instanceMethod ({ cls := "WindFarmDispatcher$Direction", name := "isVertical", desc := "()Z" } : Jvm.MethodName)) ∈ lw_all := lw_g (lw_at lw_m2 136 rfl) rfl
theorem q452 : (Jvm.Cond.sameMethod "WindFarmDispatcher$Direction" "WindFarmDispatcher$Direction" "isVertical" "()Z") ∈ lw_all := lw_g (lw_at lw_m2 137 rfl) rfl
theorem q457 : (Jvm.Cond.code ({ cls := "WindFarmDispatcher$Direction", name := "isVertical", desc := "()Z" } : Jvm.MethodName) prog_5_method_7_code (1 : Nat) (Option.some Jvm.ClassFile.FieldType.boolean)) ∈ lw_all := lw_g (lw_at lw_m2 142 rfl) rfl
theorem q458 : (Jvm.Cond.methodLink "WindFarmDispatcher$Direction" (39 : Nat) ({ cls := "WindFarmDispatcher$Direction", name := "rowStep", desc := "()I" } : Jvm.MethodName)) ∈ lw_all := lw_g (lw_at lw_m2 143 rfl) rfl
theorem q473 : (Jvm.Cond.static ({ cls := "WindFarmDispatcher$Direction", name := "values", desc := "()[LWindFarmDispatcher$Direction;" } : Jvm.MethodName)) ∈ lw_all := lw_g (lw_at lw_m2 158 rfl) rfl
theorem q474 : (Jvm.Cond.code ({ cls := "WindFarmDispatcher$Direction", name := "values", desc := "()[LWindFarmDispatcher$Direction;" } : Jvm.MethodName) prog_5_method_1_code (0 : Nat) (Option.some (Jvm.ClassFile.FieldType.array (Jvm.ClassFile.FieldType.object "WindFarmDispatcher$Direction")))) ∈ lw_all := lw_g (lw_at lw_m2 159 rfl) rfl
theorem q475 : (Jvm.Cond.fieldLink "WindFarmDispatcher$Direction" (16 : Nat) "WindFarmDispatcher$Direction" "$VALUES" "[LWindFarmDispatcher$Direction;") ∈ lw_all := lw_g (lw_at lw_m2 160 rfl) rfl
theorem q476 : (Jvm.Cond.laysStatic "WindFarmDispatcher$Direction" "$VALUES" "[LWindFarmDispatcher$Direction;") ∈ lw_tbl := lw_at lw_m2 161 rfl
theorem q477 : (Jvm.Cond.methodLink "WindFarmDispatcher$Direction" (20 : Nat) ({ cls := "[LWindFarmDispatcher$Direction;", name := "clone", desc := "()Ljava/lang/Object;" } : Jvm.MethodName)) ∈ lw_all := lw_g (lw_at lw_m2 162 rfl) rfl
theorem q484 : (Jvm.Cond.classLink "WindFarmDispatcher$Direction" (21 : Nat) "[LWindFarmDispatcher$Direction;") ∈ lw_all := lw_g (lw_at lw_m2 169 rfl) rfl
theorem q2509 : (Jvm.Cond.castable "WindFarmDispatcher$Direction" "java/lang/Object") ∈ lw_tbl := lw_at lw_m11 34 rfl
theorem q2554 : (Jvm.Cond.fieldLink "WindFarmDispatcher$Direction" (35 : Nat) "WindFarmDispatcher$Direction" "letter" "C") ∈ lw_all := lw_g (lw_at lw_m11 79 rfl) rfl
theorem q2555 : (Jvm.Cond.laysStatic "WindFarmDispatcher$Direction" "EAST" "LWindFarmDispatcher$Direction;") ∈ lw_tbl := lw_at lw_m11 80 rfl
theorem q2556 : (Jvm.Cond.laysStatic "WindFarmDispatcher$Direction" "SOUTH" "LWindFarmDispatcher$Direction;") ∈ lw_tbl := lw_at lw_m11 81 rfl
theorem q2557 : (Jvm.Cond.laysStatic "WindFarmDispatcher$Direction" "WEST" "LWindFarmDispatcher$Direction;") ∈ lw_tbl := lw_at lw_m11 82 rfl
/-! WindFarmDispatcher$Command -/
def RX5 : String := "WindFarmDispatcher$Command"
def TX5 : u_T := fun k => match k with
  | 0 => ("WindFarmDispatcher$Command", "kind", "C", true)
  | 1 => ("WindFarmDispatcher$Command", "letter", "C", true)
  | 2 => ("WindFarmDispatcher$Command", "first", "I", true)
  | 3 => ("WindFarmDispatcher$Command", "second", "I", true)
  | _ => ("WindFarmDispatcher$Command", "third", "I", true)
def tyX5 : Nat → FieldType := fun k => match k with
  | 0 => .char
  | 1 => .char
  | 2 => .int
  | 3 => .int
  | _ => .int
abbrev wsX50 : List Cond := u_ws RX5 TX5 5
theorem nmX5 : ∀ a, a < 5 → ∀ b, b < 5 → a ≠ b → (TX5 a).2.1 ≠ (TX5 b).2.1 := by decide +kernel
theorem tyX5_ok : ∀ k, k < 5 → parseFieldDescriptor (TX5 k).2.2.1 = some (tyX5 k) := by decide +kernel
abbrev cX5_init : ByteArray := prog_3_method_1_code
def yX5_init : MethodName := ⟨RX5, "<init>", "(CI)V"⟩
def dkwX5_init_0 : List UInt8 := [42, 27, 27, 28, 2, 2, 183, 0, 3, 177]
abbrev dktX5_init_0 : List UInt8 := dkwX5_init_0 ++ []
theorem dksX5_init_0 : cX5_init.data.toList.drop 0 = dktX5_init_0 := by decide +kernel
theorem dX5_init_0 : decode cX5_init 0 = .ok (.aload_n 0, 1) := dk_42 (dk_at dksX5_init_0 0 rfl rfl)
theorem dX5_init_1 : decode cX5_init 1 = .ok (.iload_n 1, 1) := dk_27 (dk_at dksX5_init_0 1 rfl rfl)
theorem dX5_init_2 : decode cX5_init 2 = .ok (.iload_n 1, 1) := dk_27 (dk_at dksX5_init_0 2 rfl rfl)
theorem dX5_init_3 : decode cX5_init 3 = .ok (.iload_n 2, 1) := dk_28 (dk_at dksX5_init_0 3 rfl rfl)
theorem dX5_init_4 : decode cX5_init 4 = .ok (.iconst (-1), 1) := dk_2 (dk_at dksX5_init_0 4 rfl rfl)
theorem dX5_init_5 : decode cX5_init 5 = .ok (.iconst (-1), 1) := dk_2 (dk_at dksX5_init_0 5 rfl rfl)
theorem dX5_init_6 : decode cX5_init 6 = .ok (.invokespecial 3, 3) := dk_183 0 3 (dk_at dksX5_init_0 6 rfl rfl)
theorem dX5_init_9 : decode cX5_init 9 = .ok (.return_, 1) := dk_177 (dk_at dksX5_init_0 9 rfl rfl)
abbrev cX5_init_2 : ByteArray := prog_3_method_3_code
def yX5_init_2 : MethodName := ⟨RX5, "<init>", "(CCIII)V"⟩
def dkwX5_init_2_1 : List UInt8 := [181, 0, 25, 42, 21, 5, 181, 0, 28, 177]
abbrev dktX5_init_2_1 : List UInt8 := dkwX5_init_2_1 ++ []
def dkwX5_init_2_0 : List UInt8 := [42, 183, 0, 9, 42, 27, 181, 0, 14, 42, 28, 181, 0, 18, 42, 29, 181, 0, 21, 42, 21, 4]
abbrev dktX5_init_2_0 : List UInt8 := dkwX5_init_2_0 ++ dktX5_init_2_1
theorem dksX5_init_2_0 : cX5_init_2.data.toList.drop 0 = dktX5_init_2_0 := by decide +kernel
theorem dksX5_init_2_1 : cX5_init_2.data.toList.drop 22 = dktX5_init_2_1 := dk_seg dksX5_init_2_0 22 rfl rfl
theorem dX5_init_2_0 : decode cX5_init_2 0 = .ok (.aload_n 0, 1) := dk_42 (dk_at dksX5_init_2_0 0 rfl rfl)
theorem dX5_init_2_1 : decode cX5_init_2 1 = .ok (.invokespecial 9, 3) := dk_183 0 9 (dk_at dksX5_init_2_0 1 rfl rfl)
theorem dX5_init_2_4 : decode cX5_init_2 4 = .ok (.aload_n 0, 1) := dk_42 (dk_at dksX5_init_2_0 4 rfl rfl)
theorem dX5_init_2_5 : decode cX5_init_2 5 = .ok (.iload_n 1, 1) := dk_27 (dk_at dksX5_init_2_0 5 rfl rfl)
theorem dX5_init_2_6 : decode cX5_init_2 6 = .ok (.putfield 14, 3) := dk_181 0 14 (dk_at dksX5_init_2_0 6 rfl rfl)
theorem dX5_init_2_9 : decode cX5_init_2 9 = .ok (.aload_n 0, 1) := dk_42 (dk_at dksX5_init_2_0 9 rfl rfl)
theorem dX5_init_2_10 : decode cX5_init_2 10 = .ok (.iload_n 2, 1) := dk_28 (dk_at dksX5_init_2_0 10 rfl rfl)
theorem dX5_init_2_11 : decode cX5_init_2 11 = .ok (.putfield 18, 3) := dk_181 0 18 (dk_at dksX5_init_2_0 11 rfl rfl)
theorem dX5_init_2_14 : decode cX5_init_2 14 = .ok (.aload_n 0, 1) := dk_42 (dk_at dksX5_init_2_0 14 rfl rfl)
theorem dX5_init_2_15 : decode cX5_init_2 15 = .ok (.iload_n 3, 1) := dk_29 (dk_at dksX5_init_2_0 15 rfl rfl)
theorem dX5_init_2_16 : decode cX5_init_2 16 = .ok (.putfield 21, 3) := dk_181 0 21 (dk_at dksX5_init_2_0 16 rfl rfl)
theorem dX5_init_2_19 : decode cX5_init_2 19 = .ok (.aload_n 0, 1) := dk_42 (dk_at dksX5_init_2_0 19 rfl rfl)
theorem dX5_init_2_20 : decode cX5_init_2 20 = .ok (.iload 4, 2) := dk_21 4 (dk_at dksX5_init_2_0 20 rfl rfl)
theorem dX5_init_2_22 : decode cX5_init_2 22 = .ok (.putfield 25, 3) := dk_181 0 25 (dk_at dksX5_init_2_1 0 rfl rfl)
theorem dX5_init_2_25 : decode cX5_init_2 25 = .ok (.aload_n 0, 1) := dk_42 (dk_at dksX5_init_2_1 3 rfl rfl)
theorem dX5_init_2_26 : decode cX5_init_2 26 = .ok (.iload 5, 2) := dk_21 5 (dk_at dksX5_init_2_1 4 rfl rfl)
theorem dX5_init_2_28 : decode cX5_init_2 28 = .ok (.putfield 28, 3) := dk_181 0 28 (dk_at dksX5_init_2_1 6 rfl rfl)
theorem dX5_init_2_31 : decode cX5_init_2 31 = .ok (.return_, 1) := dk_177 (dk_at dksX5_init_2_1 9 rfl rfl)
abbrev cX5_run : ByteArray := prog_3_method_5_code
def yX5_run : MethodName := ⟨RX5, "run", "(LWindFarmDispatcher$Farm;)I"⟩
def dkwX5_run_8 : List UInt8 := [167, 0, 22, 43, 42, 180, 0, 21, 182, 0, 107, 167, 0, 11, 43, 42, 180, 0, 21, 182, 0, 110, 172]
abbrev dktX5_run_8 : List UInt8 := dkwX5_run_8 ++ []
def dkwX5_run_7 : List UInt8 := [43, 182, 0, 101, 167, 0, 41, 43, 42, 180, 0, 21, 42, 180, 0, 25, 42, 180, 0, 28, 182, 0, 104]
abbrev dktX5_run_7 : List UInt8 := dkwX5_run_7 ++ dktX5_run_8
def dkwX5_run_6 : List UInt8 := [182, 0, 90, 167, 0, 66, 43, 42, 180, 0, 21, 182, 0, 94, 167, 0, 55, 43, 182, 0, 97, 167, 0, 48]
abbrev dktX5_run_6 : List UInt8 := dkwX5_run_6 ++ dktX5_run_7
def dkwX5_run_5 : List UInt8 := [43, 42, 180, 0, 21, 182, 0, 83, 167, 0, 84, 43, 42, 180, 0, 18, 184, 0, 86, 42, 180, 0, 21]
abbrev dktX5_run_5 : List UInt8 := dkwX5_run_5 ++ dktX5_run_6
def dkwX5_run_4 : List UInt8 := [180, 0, 21, 182, 0, 77, 167, 0, 110, 43, 42, 180, 0, 21, 42, 180, 0, 25, 182, 0, 80, 167, 0, 95]
abbrev dktX5_run_4 : List UInt8 := dkwX5_run_4 ++ dktX5_run_5
def dkwX5_run_3 : List UInt8 := [182, 0, 69, 167, 0, 136, 43, 42, 180, 0, 21, 42, 180, 0, 25, 182, 0, 73, 167, 0, 121, 43, 42]
abbrev dktX5_run_3 : List UInt8 := dkwX5_run_3 ++ dktX5_run_4
def dkwX5_run_2 : List UInt8 := [43, 42, 180, 0, 21, 42, 180, 0, 25, 42, 180, 0, 28, 182, 0, 65, 167, 0, 147, 43, 42, 180, 0, 21]
abbrev dktX5_run_2 : List UInt8 := dkwX5_run_2 ++ dktX5_run_3
def dkwX5_run_1 : List UInt8 := [170, 0, 0, 0, 0, 0, 1, 7, 0, 0, 0, 97, 0, 0, 0, 119, 0, 0, 0, 108, 0, 0, 0, 233, 0, 0, 0, 164, 0, 0, 0, 219, 0, 0, 1, 7, 0, 0, 0, 127, 0, 0, 0, 208, 0, 0, 1, 7, 0, 0, 1, 7, 0, 0, 1, 7, 0, 0, 1, 7, 0, 0, 1, 7, 0, 0, 1, 7, 0, 0, 1, 7, 0, 0, 1, 7, 0, 0, 1, 7, 0, 0, 0, 252, 0, 0, 0, 153, 0, 0, 0, 138, 0, 0, 1, 7, 0, 0, 0, 179, 0, 0, 0, 226, 0, 0, 0, 190]
abbrev dktX5_run_1 : List UInt8 := dkwX5_run_1 ++ dktX5_run_2
def dkwX5_run_0 : List UInt8 := [42, 180, 0, 14]
abbrev dktX5_run_0 : List UInt8 := dkwX5_run_0 ++ dktX5_run_1
theorem dksX5_run_0 : cX5_run.data.toList.drop 0 = dktX5_run_0 := by decide +kernel
theorem dksX5_run_1 : cX5_run.data.toList.drop 4 = dktX5_run_1 := dk_seg dksX5_run_0 4 rfl rfl
theorem dksX5_run_2 : cX5_run.data.toList.drop 112 = dktX5_run_2 := dk_seg dksX5_run_1 108 rfl rfl
theorem dksX5_run_3 : cX5_run.data.toList.drop 136 = dktX5_run_3 := dk_seg dksX5_run_2 24 rfl rfl
theorem dksX5_run_4 : cX5_run.data.toList.drop 159 = dktX5_run_4 := dk_seg dksX5_run_3 23 rfl rfl
theorem dksX5_run_5 : cX5_run.data.toList.drop 183 = dktX5_run_5 := dk_seg dksX5_run_4 24 rfl rfl
theorem dksX5_run_6 : cX5_run.data.toList.drop 206 = dktX5_run_6 := dk_seg dksX5_run_5 23 rfl rfl
theorem dksX5_run_7 : cX5_run.data.toList.drop 230 = dktX5_run_7 := dk_seg dksX5_run_6 24 rfl rfl
theorem dksX5_run_8 : cX5_run.data.toList.drop 253 = dktX5_run_8 := dk_seg dksX5_run_7 23 rfl rfl
theorem dX5_run_0 : decode cX5_run 0 = .ok (.aload_n 0, 1) := dk_42 (dk_at dksX5_run_0 0 rfl rfl)
theorem dX5_run_1 : decode cX5_run 1 = .ok (.getfield 14, 3) := dk_180 0 14 (dk_at dksX5_run_0 1 rfl rfl)
theorem dX5_run_4 : decode cX5_run 4 = .ok (.tableswitch 263 97 119 #[108, 233, 164, 219, 263, 127, 208, 263, 263, 263, 263, 263, 263, 263, 263, 263, 252, 153, 138, 263, 179, 226, 190], 108) := by decide +kernel
theorem dX5_run_112 : decode cX5_run 112 = .ok (.aload_n 1, 1) := dk_43 (dk_at dksX5_run_2 0 rfl rfl)
theorem dX5_run_113 : decode cX5_run 113 = .ok (.aload_n 0, 1) := dk_42 (dk_at dksX5_run_2 1 rfl rfl)
theorem dX5_run_114 : decode cX5_run 114 = .ok (.getfield 21, 3) := dk_180 0 21 (dk_at dksX5_run_2 2 rfl rfl)
theorem dX5_run_117 : decode cX5_run 117 = .ok (.aload_n 0, 1) := dk_42 (dk_at dksX5_run_2 5 rfl rfl)
theorem dX5_run_118 : decode cX5_run 118 = .ok (.getfield 25, 3) := dk_180 0 25 (dk_at dksX5_run_2 6 rfl rfl)
theorem dX5_run_121 : decode cX5_run 121 = .ok (.aload_n 0, 1) := dk_42 (dk_at dksX5_run_2 9 rfl rfl)
theorem dX5_run_122 : decode cX5_run 122 = .ok (.getfield 28, 3) := dk_180 0 28 (dk_at dksX5_run_2 10 rfl rfl)
theorem dX5_run_125 : decode cX5_run 125 = .ok (.invokevirtual 65, 3) := dk_182 0 65 (dk_at dksX5_run_2 13 rfl rfl)
theorem dX5_run_128 : decode cX5_run 128 = .ok (.goto 147, 3) := dk_167 0 147 (dk_at dksX5_run_2 16 rfl rfl)
theorem dX5_run_131 : decode cX5_run 131 = .ok (.aload_n 1, 1) := dk_43 (dk_at dksX5_run_2 19 rfl rfl)
theorem dX5_run_132 : decode cX5_run 132 = .ok (.aload_n 0, 1) := dk_42 (dk_at dksX5_run_2 20 rfl rfl)
theorem dX5_run_133 : decode cX5_run 133 = .ok (.getfield 21, 3) := dk_180 0 21 (dk_at dksX5_run_2 21 rfl rfl)
theorem dX5_run_136 : decode cX5_run 136 = .ok (.invokevirtual 69, 3) := dk_182 0 69 (dk_at dksX5_run_3 0 rfl rfl)
theorem dX5_run_139 : decode cX5_run 139 = .ok (.goto 136, 3) := dk_167 0 136 (dk_at dksX5_run_3 3 rfl rfl)
theorem dX5_run_142 : decode cX5_run 142 = .ok (.aload_n 1, 1) := dk_43 (dk_at dksX5_run_3 6 rfl rfl)
theorem dX5_run_143 : decode cX5_run 143 = .ok (.aload_n 0, 1) := dk_42 (dk_at dksX5_run_3 7 rfl rfl)
theorem dX5_run_144 : decode cX5_run 144 = .ok (.getfield 21, 3) := dk_180 0 21 (dk_at dksX5_run_3 8 rfl rfl)
theorem dX5_run_147 : decode cX5_run 147 = .ok (.aload_n 0, 1) := dk_42 (dk_at dksX5_run_3 11 rfl rfl)
theorem dX5_run_148 : decode cX5_run 148 = .ok (.getfield 25, 3) := dk_180 0 25 (dk_at dksX5_run_3 12 rfl rfl)
theorem dX5_run_151 : decode cX5_run 151 = .ok (.invokevirtual 73, 3) := dk_182 0 73 (dk_at dksX5_run_3 15 rfl rfl)
theorem dX5_run_154 : decode cX5_run 154 = .ok (.goto 121, 3) := dk_167 0 121 (dk_at dksX5_run_3 18 rfl rfl)
theorem dX5_run_157 : decode cX5_run 157 = .ok (.aload_n 1, 1) := dk_43 (dk_at dksX5_run_3 21 rfl rfl)
theorem dX5_run_158 : decode cX5_run 158 = .ok (.aload_n 0, 1) := dk_42 (dk_at dksX5_run_3 22 rfl rfl)
theorem dX5_run_159 : decode cX5_run 159 = .ok (.getfield 21, 3) := dk_180 0 21 (dk_at dksX5_run_4 0 rfl rfl)
theorem dX5_run_162 : decode cX5_run 162 = .ok (.invokevirtual 77, 3) := dk_182 0 77 (dk_at dksX5_run_4 3 rfl rfl)
theorem dX5_run_165 : decode cX5_run 165 = .ok (.goto 110, 3) := dk_167 0 110 (dk_at dksX5_run_4 6 rfl rfl)
theorem dX5_run_168 : decode cX5_run 168 = .ok (.aload_n 1, 1) := dk_43 (dk_at dksX5_run_4 9 rfl rfl)
theorem dX5_run_169 : decode cX5_run 169 = .ok (.aload_n 0, 1) := dk_42 (dk_at dksX5_run_4 10 rfl rfl)
theorem dX5_run_170 : decode cX5_run 170 = .ok (.getfield 21, 3) := dk_180 0 21 (dk_at dksX5_run_4 11 rfl rfl)
theorem dX5_run_173 : decode cX5_run 173 = .ok (.aload_n 0, 1) := dk_42 (dk_at dksX5_run_4 14 rfl rfl)
theorem dX5_run_174 : decode cX5_run 174 = .ok (.getfield 25, 3) := dk_180 0 25 (dk_at dksX5_run_4 15 rfl rfl)
theorem dX5_run_177 : decode cX5_run 177 = .ok (.invokevirtual 80, 3) := dk_182 0 80 (dk_at dksX5_run_4 18 rfl rfl)
theorem dX5_run_180 : decode cX5_run 180 = .ok (.goto 95, 3) := dk_167 0 95 (dk_at dksX5_run_4 21 rfl rfl)
theorem dX5_run_183 : decode cX5_run 183 = .ok (.aload_n 1, 1) := dk_43 (dk_at dksX5_run_5 0 rfl rfl)
theorem dX5_run_184 : decode cX5_run 184 = .ok (.aload_n 0, 1) := dk_42 (dk_at dksX5_run_5 1 rfl rfl)
theorem dX5_run_185 : decode cX5_run 185 = .ok (.getfield 21, 3) := dk_180 0 21 (dk_at dksX5_run_5 2 rfl rfl)
theorem dX5_run_188 : decode cX5_run 188 = .ok (.invokevirtual 83, 3) := dk_182 0 83 (dk_at dksX5_run_5 5 rfl rfl)
theorem dX5_run_191 : decode cX5_run 191 = .ok (.goto 84, 3) := dk_167 0 84 (dk_at dksX5_run_5 8 rfl rfl)
theorem dX5_run_194 : decode cX5_run 194 = .ok (.aload_n 1, 1) := dk_43 (dk_at dksX5_run_5 11 rfl rfl)
theorem dX5_run_195 : decode cX5_run 195 = .ok (.aload_n 0, 1) := dk_42 (dk_at dksX5_run_5 12 rfl rfl)
theorem dX5_run_196 : decode cX5_run 196 = .ok (.getfield 18, 3) := dk_180 0 18 (dk_at dksX5_run_5 13 rfl rfl)
theorem dX5_run_199 : decode cX5_run 199 = .ok (.invokestatic 86, 3) := dk_184 0 86 (dk_at dksX5_run_5 16 rfl rfl)
theorem dX5_run_202 : decode cX5_run 202 = .ok (.aload_n 0, 1) := dk_42 (dk_at dksX5_run_5 19 rfl rfl)
theorem dX5_run_203 : decode cX5_run 203 = .ok (.getfield 21, 3) := dk_180 0 21 (dk_at dksX5_run_5 20 rfl rfl)
theorem dX5_run_206 : decode cX5_run 206 = .ok (.invokevirtual 90, 3) := dk_182 0 90 (dk_at dksX5_run_6 0 rfl rfl)
theorem dX5_run_209 : decode cX5_run 209 = .ok (.goto 66, 3) := dk_167 0 66 (dk_at dksX5_run_6 3 rfl rfl)
theorem dX5_run_212 : decode cX5_run 212 = .ok (.aload_n 1, 1) := dk_43 (dk_at dksX5_run_6 6 rfl rfl)
theorem dX5_run_213 : decode cX5_run 213 = .ok (.aload_n 0, 1) := dk_42 (dk_at dksX5_run_6 7 rfl rfl)
theorem dX5_run_214 : decode cX5_run 214 = .ok (.getfield 21, 3) := dk_180 0 21 (dk_at dksX5_run_6 8 rfl rfl)
theorem dX5_run_217 : decode cX5_run 217 = .ok (.invokevirtual 94, 3) := dk_182 0 94 (dk_at dksX5_run_6 11 rfl rfl)
theorem dX5_run_220 : decode cX5_run 220 = .ok (.goto 55, 3) := dk_167 0 55 (dk_at dksX5_run_6 14 rfl rfl)
theorem dX5_run_223 : decode cX5_run 223 = .ok (.aload_n 1, 1) := dk_43 (dk_at dksX5_run_6 17 rfl rfl)
theorem dX5_run_224 : decode cX5_run 224 = .ok (.invokevirtual 97, 3) := dk_182 0 97 (dk_at dksX5_run_6 18 rfl rfl)
theorem dX5_run_227 : decode cX5_run 227 = .ok (.goto 48, 3) := dk_167 0 48 (dk_at dksX5_run_6 21 rfl rfl)
theorem dX5_run_230 : decode cX5_run 230 = .ok (.aload_n 1, 1) := dk_43 (dk_at dksX5_run_7 0 rfl rfl)
theorem dX5_run_231 : decode cX5_run 231 = .ok (.invokevirtual 101, 3) := dk_182 0 101 (dk_at dksX5_run_7 1 rfl rfl)
theorem dX5_run_234 : decode cX5_run 234 = .ok (.goto 41, 3) := dk_167 0 41 (dk_at dksX5_run_7 4 rfl rfl)
theorem dX5_run_237 : decode cX5_run 237 = .ok (.aload_n 1, 1) := dk_43 (dk_at dksX5_run_7 7 rfl rfl)
theorem dX5_run_238 : decode cX5_run 238 = .ok (.aload_n 0, 1) := dk_42 (dk_at dksX5_run_7 8 rfl rfl)
theorem dX5_run_239 : decode cX5_run 239 = .ok (.getfield 21, 3) := dk_180 0 21 (dk_at dksX5_run_7 9 rfl rfl)
theorem dX5_run_242 : decode cX5_run 242 = .ok (.aload_n 0, 1) := dk_42 (dk_at dksX5_run_7 12 rfl rfl)
theorem dX5_run_243 : decode cX5_run 243 = .ok (.getfield 25, 3) := dk_180 0 25 (dk_at dksX5_run_7 13 rfl rfl)
theorem dX5_run_246 : decode cX5_run 246 = .ok (.aload_n 0, 1) := dk_42 (dk_at dksX5_run_7 16 rfl rfl)
theorem dX5_run_247 : decode cX5_run 247 = .ok (.getfield 28, 3) := dk_180 0 28 (dk_at dksX5_run_7 17 rfl rfl)
theorem dX5_run_250 : decode cX5_run 250 = .ok (.invokevirtual 104, 3) := dk_182 0 104 (dk_at dksX5_run_7 20 rfl rfl)
theorem dX5_run_253 : decode cX5_run 253 = .ok (.goto 22, 3) := dk_167 0 22 (dk_at dksX5_run_8 0 rfl rfl)
theorem dX5_run_256 : decode cX5_run 256 = .ok (.aload_n 1, 1) := dk_43 (dk_at dksX5_run_8 3 rfl rfl)
theorem dX5_run_257 : decode cX5_run 257 = .ok (.aload_n 0, 1) := dk_42 (dk_at dksX5_run_8 4 rfl rfl)
theorem dX5_run_258 : decode cX5_run 258 = .ok (.getfield 21, 3) := dk_180 0 21 (dk_at dksX5_run_8 5 rfl rfl)
theorem dX5_run_261 : decode cX5_run 261 = .ok (.invokevirtual 107, 3) := dk_182 0 107 (dk_at dksX5_run_8 8 rfl rfl)
theorem dX5_run_264 : decode cX5_run 264 = .ok (.goto 11, 3) := dk_167 0 11 (dk_at dksX5_run_8 11 rfl rfl)
theorem dX5_run_267 : decode cX5_run 267 = .ok (.aload_n 1, 1) := dk_43 (dk_at dksX5_run_8 14 rfl rfl)
theorem dX5_run_268 : decode cX5_run 268 = .ok (.aload_n 0, 1) := dk_42 (dk_at dksX5_run_8 15 rfl rfl)
theorem dX5_run_269 : decode cX5_run 269 = .ok (.getfield 21, 3) := dk_180 0 21 (dk_at dksX5_run_8 16 rfl rfl)
theorem dX5_run_272 : decode cX5_run 272 = .ok (.invokevirtual 110, 3) := dk_182 0 110 (dk_at dksX5_run_8 19 rfl rfl)
theorem dX5_run_275 : decode cX5_run 275 = .ok (.ireturn, 1) := dk_172 (dk_at dksX5_run_8 22 rfl rfl)
abbrev cX5_init_3 : ByteArray := prog_3_method_2_code
def yX5_init_3 : MethodName := ⟨RX5, "<init>", "(CIII)V"⟩
def dkwX5_init_3_0 : List UInt8 := [42, 27, 27, 28, 29, 21, 4, 183, 0, 3, 177]
abbrev dktX5_init_3_0 : List UInt8 := dkwX5_init_3_0 ++ []
theorem dksX5_init_3_0 : cX5_init_3.data.toList.drop 0 = dktX5_init_3_0 := by decide +kernel
theorem dX5_init_3_0 : decode cX5_init_3 0 = .ok (.aload_n 0, 1) := dk_42 (dk_at dksX5_init_3_0 0 rfl rfl)
theorem dX5_init_3_1 : decode cX5_init_3 1 = .ok (.iload_n 1, 1) := dk_27 (dk_at dksX5_init_3_0 1 rfl rfl)
theorem dX5_init_3_2 : decode cX5_init_3 2 = .ok (.iload_n 1, 1) := dk_27 (dk_at dksX5_init_3_0 2 rfl rfl)
theorem dX5_init_3_3 : decode cX5_init_3 3 = .ok (.iload_n 2, 1) := dk_28 (dk_at dksX5_init_3_0 3 rfl rfl)
theorem dX5_init_3_4 : decode cX5_init_3 4 = .ok (.iload_n 3, 1) := dk_29 (dk_at dksX5_init_3_0 4 rfl rfl)
theorem dX5_init_3_5 : decode cX5_init_3 5 = .ok (.iload 4, 2) := dk_21 4 (dk_at dksX5_init_3_0 5 rfl rfl)
theorem dX5_init_3_7 : decode cX5_init_3 7 = .ok (.invokespecial 3, 3) := dk_183 0 3 (dk_at dksX5_init_3_0 7 rfl rfl)
theorem dX5_init_3_10 : decode cX5_init_3 10 = .ok (.return_, 1) := dk_177 (dk_at dksX5_init_3_0 10 rfl rfl)
abbrev cX5_checkedRun : ByteArray := prog_3_method_6_code
def yX5_checkedRun : MethodName := ⟨RX5, "checkedRun", "(LWindFarmDispatcher$Farm;)I"⟩
def dkwX5_checkedRun_0 : List UInt8 := [42, 43, 182, 0, 113, 154, 0, 11, 187, 0, 117, 89, 183, 0, 119, 191, 42, 43, 182, 0, 120, 172]
abbrev dktX5_checkedRun_0 : List UInt8 := dkwX5_checkedRun_0 ++ []
theorem dksX5_checkedRun_0 : cX5_checkedRun.data.toList.drop 0 = dktX5_checkedRun_0 := by decide +kernel
theorem dX5_checkedRun_0 : decode cX5_checkedRun 0 = .ok (.aload_n 0, 1) := dk_42 (dk_at dksX5_checkedRun_0 0 rfl rfl)
theorem dX5_checkedRun_1 : decode cX5_checkedRun 1 = .ok (.aload_n 1, 1) := dk_43 (dk_at dksX5_checkedRun_0 1 rfl rfl)
theorem dX5_checkedRun_2 : decode cX5_checkedRun 2 = .ok (.invokevirtual 113, 3) := dk_182 0 113 (dk_at dksX5_checkedRun_0 2 rfl rfl)
theorem dX5_checkedRun_5 : decode cX5_checkedRun 5 = .ok (.ifCond .ne 11, 3) := dk_154 0 11 (dk_at dksX5_checkedRun_0 5 rfl rfl)
theorem dX5_checkedRun_8 : decode cX5_checkedRun 8 = .ok (.new 117, 3) := dk_187 0 117 (dk_at dksX5_checkedRun_0 8 rfl rfl)
theorem dX5_checkedRun_11 : decode cX5_checkedRun 11 = .ok (.dup, 1) := dk_89 (dk_at dksX5_checkedRun_0 11 rfl rfl)
theorem dX5_checkedRun_12 : decode cX5_checkedRun 12 = .ok (.invokespecial 119, 3) := dk_183 0 119 (dk_at dksX5_checkedRun_0 12 rfl rfl)
theorem dX5_checkedRun_15 : decode cX5_checkedRun 15 = .ok (.athrow, 1) := dk_191 (dk_at dksX5_checkedRun_0 15 rfl rfl)
theorem dX5_checkedRun_16 : decode cX5_checkedRun 16 = .ok (.aload_n 0, 1) := dk_42 (dk_at dksX5_checkedRun_0 16 rfl rfl)
theorem dX5_checkedRun_17 : decode cX5_checkedRun 17 = .ok (.aload_n 1, 1) := dk_43 (dk_at dksX5_checkedRun_0 17 rfl rfl)
theorem dX5_checkedRun_18 : decode cX5_checkedRun 18 = .ok (.invokevirtual 120, 3) := dk_182 0 120 (dk_at dksX5_checkedRun_0 18 rfl rfl)
theorem dX5_checkedRun_21 : decode cX5_checkedRun 21 = .ok (.ireturn, 1) := dk_172 (dk_at dksX5_checkedRun_0 21 rfl rfl)
abbrev cX5_isAccepted : ByteArray := prog_3_method_4_code
def yX5_isAccepted : MethodName := ⟨RX5, "isAccepted", "(LWindFarmDispatcher$Farm;)Z"⟩
def dkwX5_isAccepted_9 : List UInt8 := [180, 0, 21, 184, 0, 62, 167, 0, 4, 4, 172]
abbrev dktX5_isAccepted_9 : List UInt8 := dkwX5_isAccepted_9 ++ []
def dkwX5_isAccepted_8 : List UInt8 := [153, 0, 7, 4, 167, 0, 28, 3, 167, 0, 24, 42, 180, 0, 21, 184, 0, 56, 167, 0, 14, 42]
abbrev dktX5_isAccepted_8 : List UInt8 := dkwX5_isAccepted_8 ++ dktX5_isAccepted_9
def dkwX5_isAccepted_7 : List UInt8 := [167, 0, 56, 42, 180, 0, 21, 184, 0, 56, 153, 0, 21, 42, 180, 0, 25, 42, 180, 0, 28, 184, 0, 59]
abbrev dktX5_isAccepted_7 : List UInt8 := dkwX5_isAccepted_7 ++ dktX5_isAccepted_8
def dkwX5_isAccepted_6 : List UInt8 := [167, 0, 80, 3, 167, 0, 76, 42, 180, 0, 21, 184, 0, 50, 167, 0, 66, 42, 180, 0, 21, 184, 0, 53]
abbrev dktX5_isAccepted_6 : List UInt8 := dkwX5_isAccepted_6 ++ dktX5_isAccepted_7
def dkwX5_isAccepted_5 : List UInt8 := [43, 42, 180, 0, 21, 182, 0, 39, 153, 0, 17, 42, 180, 0, 25, 184, 0, 47, 153, 0, 7, 4]
abbrev dktX5_isAccepted_5 : List UInt8 := dkwX5_isAccepted_5 ++ dktX5_isAccepted_6
def dkwX5_isAccepted_4 : List UInt8 := [182, 0, 39, 153, 0, 17, 42, 180, 0, 25, 184, 0, 44, 153, 0, 7, 4, 167, 0, 109, 3, 167, 0, 105]
abbrev dktX5_isAccepted_4 : List UInt8 := dkwX5_isAccepted_4 ++ dktX5_isAccepted_5
def dkwX5_isAccepted_3 : List UInt8 := [4, 167, 0, 149, 3, 167, 0, 145, 43, 42, 180, 0, 21, 182, 0, 39, 167, 0, 134, 43, 42, 180, 0, 21]
abbrev dktX5_isAccepted_3 : List UInt8 := dkwX5_isAccepted_3 ++ dktX5_isAccepted_4
def dkwX5_isAccepted_2 : List UInt8 := [42, 180, 0, 21, 42, 180, 0, 25, 184, 0, 31, 153, 0, 17, 42, 180, 0, 28, 184, 0, 35, 153, 0, 7]
abbrev dktX5_isAccepted_2 : List UInt8 := dkwX5_isAccepted_2 ++ dktX5_isAccepted_3
def dkwX5_isAccepted_1 : List UInt8 := [170, 0, 0, 0, 0, 0, 1, 25, 0, 0, 0, 97, 0, 0, 0, 119, 0, 0, 0, 108, 0, 0, 0, 229, 0, 0, 0, 180, 0, 0, 1, 25, 0, 0, 1, 25, 0, 0, 0, 140, 0, 0, 0, 219, 0, 0, 1, 25, 0, 0, 1, 25, 0, 0, 1, 25, 0, 0, 1, 25, 0, 0, 1, 25, 0, 0, 1, 25, 0, 0, 1, 25, 0, 0, 1, 25, 0, 0, 1, 25, 0, 0, 1, 5, 0, 0, 0, 140, 0, 0, 0, 151, 0, 0, 1, 15, 0, 0, 0, 140, 0, 0, 1, 25, 0, 0, 0, 209]
abbrev dktX5_isAccepted_1 : List UInt8 := dkwX5_isAccepted_1 ++ dktX5_isAccepted_2
def dkwX5_isAccepted_0 : List UInt8 := [42, 180, 0, 14]
abbrev dktX5_isAccepted_0 : List UInt8 := dkwX5_isAccepted_0 ++ dktX5_isAccepted_1
theorem dksX5_isAccepted_0 : cX5_isAccepted.data.toList.drop 0 = dktX5_isAccepted_0 := by decide +kernel
theorem dksX5_isAccepted_1 : cX5_isAccepted.data.toList.drop 4 = dktX5_isAccepted_1 := dk_seg dksX5_isAccepted_0 4 rfl rfl
theorem dksX5_isAccepted_2 : cX5_isAccepted.data.toList.drop 112 = dktX5_isAccepted_2 := dk_seg dksX5_isAccepted_1 108 rfl rfl
theorem dksX5_isAccepted_3 : cX5_isAccepted.data.toList.drop 136 = dktX5_isAccepted_3 := dk_seg dksX5_isAccepted_2 24 rfl rfl
theorem dksX5_isAccepted_4 : cX5_isAccepted.data.toList.drop 160 = dktX5_isAccepted_4 := dk_seg dksX5_isAccepted_3 24 rfl rfl
theorem dksX5_isAccepted_5 : cX5_isAccepted.data.toList.drop 184 = dktX5_isAccepted_5 := dk_seg dksX5_isAccepted_4 24 rfl rfl
theorem dksX5_isAccepted_6 : cX5_isAccepted.data.toList.drop 206 = dktX5_isAccepted_6 := dk_seg dksX5_isAccepted_5 22 rfl rfl
theorem dksX5_isAccepted_7 : cX5_isAccepted.data.toList.drop 230 = dktX5_isAccepted_7 := dk_seg dksX5_isAccepted_6 24 rfl rfl
theorem dksX5_isAccepted_8 : cX5_isAccepted.data.toList.drop 254 = dktX5_isAccepted_8 := dk_seg dksX5_isAccepted_7 24 rfl rfl
theorem dksX5_isAccepted_9 : cX5_isAccepted.data.toList.drop 276 = dktX5_isAccepted_9 := dk_seg dksX5_isAccepted_8 22 rfl rfl
theorem dX5_isAccepted_0 : decode cX5_isAccepted 0 = .ok (.aload_n 0, 1) := dk_42 (dk_at dksX5_isAccepted_0 0 rfl rfl)
theorem dX5_isAccepted_1 : decode cX5_isAccepted 1 = .ok (.getfield 14, 3) := dk_180 0 14 (dk_at dksX5_isAccepted_0 1 rfl rfl)
theorem dX5_isAccepted_4 : decode cX5_isAccepted 4 = .ok (.tableswitch 281 97 119 #[108, 229, 180, 281, 281, 140, 219, 281, 281, 281, 281, 281, 281, 281, 281, 281, 261, 140, 151, 271, 140, 281, 209], 108) := by decide +kernel
theorem dX5_isAccepted_112 : decode cX5_isAccepted 112 = .ok (.aload_n 0, 1) := dk_42 (dk_at dksX5_isAccepted_2 0 rfl rfl)
theorem dX5_isAccepted_113 : decode cX5_isAccepted 113 = .ok (.getfield 21, 3) := dk_180 0 21 (dk_at dksX5_isAccepted_2 1 rfl rfl)
theorem dX5_isAccepted_116 : decode cX5_isAccepted 116 = .ok (.aload_n 0, 1) := dk_42 (dk_at dksX5_isAccepted_2 4 rfl rfl)
theorem dX5_isAccepted_117 : decode cX5_isAccepted 117 = .ok (.getfield 25, 3) := dk_180 0 25 (dk_at dksX5_isAccepted_2 5 rfl rfl)
theorem dX5_isAccepted_120 : decode cX5_isAccepted 120 = .ok (.invokestatic 31, 3) := dk_184 0 31 (dk_at dksX5_isAccepted_2 8 rfl rfl)
theorem dX5_isAccepted_123 : decode cX5_isAccepted 123 = .ok (.ifCond .eq 17, 3) := dk_153 0 17 (dk_at dksX5_isAccepted_2 11 rfl rfl)
theorem dX5_isAccepted_126 : decode cX5_isAccepted 126 = .ok (.aload_n 0, 1) := dk_42 (dk_at dksX5_isAccepted_2 14 rfl rfl)
theorem dX5_isAccepted_127 : decode cX5_isAccepted 127 = .ok (.getfield 28, 3) := dk_180 0 28 (dk_at dksX5_isAccepted_2 15 rfl rfl)
theorem dX5_isAccepted_130 : decode cX5_isAccepted 130 = .ok (.invokestatic 35, 3) := dk_184 0 35 (dk_at dksX5_isAccepted_2 18 rfl rfl)
theorem dX5_isAccepted_133 : decode cX5_isAccepted 133 = .ok (.ifCond .eq 7, 3) := dk_153 0 7 (dk_at dksX5_isAccepted_2 21 rfl rfl)
theorem dX5_isAccepted_136 : decode cX5_isAccepted 136 = .ok (.iconst 1, 1) := dk_4 (dk_at dksX5_isAccepted_3 0 rfl rfl)
theorem dX5_isAccepted_137 : decode cX5_isAccepted 137 = .ok (.goto 149, 3) := dk_167 0 149 (dk_at dksX5_isAccepted_3 1 rfl rfl)
theorem dX5_isAccepted_140 : decode cX5_isAccepted 140 = .ok (.iconst 0, 1) := dk_3 (dk_at dksX5_isAccepted_3 4 rfl rfl)
theorem dX5_isAccepted_141 : decode cX5_isAccepted 141 = .ok (.goto 145, 3) := dk_167 0 145 (dk_at dksX5_isAccepted_3 5 rfl rfl)
theorem dX5_isAccepted_144 : decode cX5_isAccepted 144 = .ok (.aload_n 1, 1) := dk_43 (dk_at dksX5_isAccepted_3 8 rfl rfl)
theorem dX5_isAccepted_145 : decode cX5_isAccepted 145 = .ok (.aload_n 0, 1) := dk_42 (dk_at dksX5_isAccepted_3 9 rfl rfl)
theorem dX5_isAccepted_146 : decode cX5_isAccepted 146 = .ok (.getfield 21, 3) := dk_180 0 21 (dk_at dksX5_isAccepted_3 10 rfl rfl)
theorem dX5_isAccepted_149 : decode cX5_isAccepted 149 = .ok (.invokevirtual 39, 3) := dk_182 0 39 (dk_at dksX5_isAccepted_3 13 rfl rfl)
theorem dX5_isAccepted_152 : decode cX5_isAccepted 152 = .ok (.goto 134, 3) := dk_167 0 134 (dk_at dksX5_isAccepted_3 16 rfl rfl)
theorem dX5_isAccepted_155 : decode cX5_isAccepted 155 = .ok (.aload_n 1, 1) := dk_43 (dk_at dksX5_isAccepted_3 19 rfl rfl)
theorem dX5_isAccepted_156 : decode cX5_isAccepted 156 = .ok (.aload_n 0, 1) := dk_42 (dk_at dksX5_isAccepted_3 20 rfl rfl)
theorem dX5_isAccepted_157 : decode cX5_isAccepted 157 = .ok (.getfield 21, 3) := dk_180 0 21 (dk_at dksX5_isAccepted_3 21 rfl rfl)
theorem dX5_isAccepted_160 : decode cX5_isAccepted 160 = .ok (.invokevirtual 39, 3) := dk_182 0 39 (dk_at dksX5_isAccepted_4 0 rfl rfl)
theorem dX5_isAccepted_163 : decode cX5_isAccepted 163 = .ok (.ifCond .eq 17, 3) := dk_153 0 17 (dk_at dksX5_isAccepted_4 3 rfl rfl)
theorem dX5_isAccepted_166 : decode cX5_isAccepted 166 = .ok (.aload_n 0, 1) := dk_42 (dk_at dksX5_isAccepted_4 6 rfl rfl)
theorem dX5_isAccepted_167 : decode cX5_isAccepted 167 = .ok (.getfield 25, 3) := dk_180 0 25 (dk_at dksX5_isAccepted_4 7 rfl rfl)
theorem dX5_isAccepted_170 : decode cX5_isAccepted 170 = .ok (.invokestatic 44, 3) := dk_184 0 44 (dk_at dksX5_isAccepted_4 10 rfl rfl)
theorem dX5_isAccepted_173 : decode cX5_isAccepted 173 = .ok (.ifCond .eq 7, 3) := dk_153 0 7 (dk_at dksX5_isAccepted_4 13 rfl rfl)
theorem dX5_isAccepted_176 : decode cX5_isAccepted 176 = .ok (.iconst 1, 1) := dk_4 (dk_at dksX5_isAccepted_4 16 rfl rfl)
theorem dX5_isAccepted_177 : decode cX5_isAccepted 177 = .ok (.goto 109, 3) := dk_167 0 109 (dk_at dksX5_isAccepted_4 17 rfl rfl)
theorem dX5_isAccepted_180 : decode cX5_isAccepted 180 = .ok (.iconst 0, 1) := dk_3 (dk_at dksX5_isAccepted_4 20 rfl rfl)
theorem dX5_isAccepted_181 : decode cX5_isAccepted 181 = .ok (.goto 105, 3) := dk_167 0 105 (dk_at dksX5_isAccepted_4 21 rfl rfl)
theorem dX5_isAccepted_184 : decode cX5_isAccepted 184 = .ok (.aload_n 1, 1) := dk_43 (dk_at dksX5_isAccepted_5 0 rfl rfl)
theorem dX5_isAccepted_185 : decode cX5_isAccepted 185 = .ok (.aload_n 0, 1) := dk_42 (dk_at dksX5_isAccepted_5 1 rfl rfl)
theorem dX5_isAccepted_186 : decode cX5_isAccepted 186 = .ok (.getfield 21, 3) := dk_180 0 21 (dk_at dksX5_isAccepted_5 2 rfl rfl)
theorem dX5_isAccepted_189 : decode cX5_isAccepted 189 = .ok (.invokevirtual 39, 3) := dk_182 0 39 (dk_at dksX5_isAccepted_5 5 rfl rfl)
theorem dX5_isAccepted_192 : decode cX5_isAccepted 192 = .ok (.ifCond .eq 17, 3) := dk_153 0 17 (dk_at dksX5_isAccepted_5 8 rfl rfl)
theorem dX5_isAccepted_195 : decode cX5_isAccepted 195 = .ok (.aload_n 0, 1) := dk_42 (dk_at dksX5_isAccepted_5 11 rfl rfl)
theorem dX5_isAccepted_196 : decode cX5_isAccepted 196 = .ok (.getfield 25, 3) := dk_180 0 25 (dk_at dksX5_isAccepted_5 12 rfl rfl)
theorem dX5_isAccepted_199 : decode cX5_isAccepted 199 = .ok (.invokestatic 47, 3) := dk_184 0 47 (dk_at dksX5_isAccepted_5 15 rfl rfl)
theorem dX5_isAccepted_202 : decode cX5_isAccepted 202 = .ok (.ifCond .eq 7, 3) := dk_153 0 7 (dk_at dksX5_isAccepted_5 18 rfl rfl)
theorem dX5_isAccepted_205 : decode cX5_isAccepted 205 = .ok (.iconst 1, 1) := dk_4 (dk_at dksX5_isAccepted_5 21 rfl rfl)
theorem dX5_isAccepted_206 : decode cX5_isAccepted 206 = .ok (.goto 80, 3) := dk_167 0 80 (dk_at dksX5_isAccepted_6 0 rfl rfl)
theorem dX5_isAccepted_209 : decode cX5_isAccepted 209 = .ok (.iconst 0, 1) := dk_3 (dk_at dksX5_isAccepted_6 3 rfl rfl)
theorem dX5_isAccepted_210 : decode cX5_isAccepted 210 = .ok (.goto 76, 3) := dk_167 0 76 (dk_at dksX5_isAccepted_6 4 rfl rfl)
theorem dX5_isAccepted_213 : decode cX5_isAccepted 213 = .ok (.aload_n 0, 1) := dk_42 (dk_at dksX5_isAccepted_6 7 rfl rfl)
theorem dX5_isAccepted_214 : decode cX5_isAccepted 214 = .ok (.getfield 21, 3) := dk_180 0 21 (dk_at dksX5_isAccepted_6 8 rfl rfl)
theorem dX5_isAccepted_217 : decode cX5_isAccepted 217 = .ok (.invokestatic 50, 3) := dk_184 0 50 (dk_at dksX5_isAccepted_6 11 rfl rfl)
theorem dX5_isAccepted_220 : decode cX5_isAccepted 220 = .ok (.goto 66, 3) := dk_167 0 66 (dk_at dksX5_isAccepted_6 14 rfl rfl)
theorem dX5_isAccepted_223 : decode cX5_isAccepted 223 = .ok (.aload_n 0, 1) := dk_42 (dk_at dksX5_isAccepted_6 17 rfl rfl)
theorem dX5_isAccepted_224 : decode cX5_isAccepted 224 = .ok (.getfield 21, 3) := dk_180 0 21 (dk_at dksX5_isAccepted_6 18 rfl rfl)
theorem dX5_isAccepted_227 : decode cX5_isAccepted 227 = .ok (.invokestatic 53, 3) := dk_184 0 53 (dk_at dksX5_isAccepted_6 21 rfl rfl)
theorem dX5_isAccepted_230 : decode cX5_isAccepted 230 = .ok (.goto 56, 3) := dk_167 0 56 (dk_at dksX5_isAccepted_7 0 rfl rfl)
theorem dX5_isAccepted_233 : decode cX5_isAccepted 233 = .ok (.aload_n 0, 1) := dk_42 (dk_at dksX5_isAccepted_7 3 rfl rfl)
theorem dX5_isAccepted_234 : decode cX5_isAccepted 234 = .ok (.getfield 21, 3) := dk_180 0 21 (dk_at dksX5_isAccepted_7 4 rfl rfl)
theorem dX5_isAccepted_237 : decode cX5_isAccepted 237 = .ok (.invokestatic 56, 3) := dk_184 0 56 (dk_at dksX5_isAccepted_7 7 rfl rfl)
theorem dX5_isAccepted_240 : decode cX5_isAccepted 240 = .ok (.ifCond .eq 21, 3) := dk_153 0 21 (dk_at dksX5_isAccepted_7 10 rfl rfl)
theorem dX5_isAccepted_243 : decode cX5_isAccepted 243 = .ok (.aload_n 0, 1) := dk_42 (dk_at dksX5_isAccepted_7 13 rfl rfl)
theorem dX5_isAccepted_244 : decode cX5_isAccepted 244 = .ok (.getfield 25, 3) := dk_180 0 25 (dk_at dksX5_isAccepted_7 14 rfl rfl)
theorem dX5_isAccepted_247 : decode cX5_isAccepted 247 = .ok (.aload_n 0, 1) := dk_42 (dk_at dksX5_isAccepted_7 17 rfl rfl)
theorem dX5_isAccepted_248 : decode cX5_isAccepted 248 = .ok (.getfield 28, 3) := dk_180 0 28 (dk_at dksX5_isAccepted_7 18 rfl rfl)
theorem dX5_isAccepted_251 : decode cX5_isAccepted 251 = .ok (.invokestatic 59, 3) := dk_184 0 59 (dk_at dksX5_isAccepted_7 21 rfl rfl)
theorem dX5_isAccepted_254 : decode cX5_isAccepted 254 = .ok (.ifCond .eq 7, 3) := dk_153 0 7 (dk_at dksX5_isAccepted_8 0 rfl rfl)
theorem dX5_isAccepted_257 : decode cX5_isAccepted 257 = .ok (.iconst 1, 1) := dk_4 (dk_at dksX5_isAccepted_8 3 rfl rfl)
theorem dX5_isAccepted_258 : decode cX5_isAccepted 258 = .ok (.goto 28, 3) := dk_167 0 28 (dk_at dksX5_isAccepted_8 4 rfl rfl)
theorem dX5_isAccepted_261 : decode cX5_isAccepted 261 = .ok (.iconst 0, 1) := dk_3 (dk_at dksX5_isAccepted_8 7 rfl rfl)
theorem dX5_isAccepted_262 : decode cX5_isAccepted 262 = .ok (.goto 24, 3) := dk_167 0 24 (dk_at dksX5_isAccepted_8 8 rfl rfl)
theorem dX5_isAccepted_265 : decode cX5_isAccepted 265 = .ok (.aload_n 0, 1) := dk_42 (dk_at dksX5_isAccepted_8 11 rfl rfl)
theorem dX5_isAccepted_266 : decode cX5_isAccepted 266 = .ok (.getfield 21, 3) := dk_180 0 21 (dk_at dksX5_isAccepted_8 12 rfl rfl)
theorem dX5_isAccepted_269 : decode cX5_isAccepted 269 = .ok (.invokestatic 56, 3) := dk_184 0 56 (dk_at dksX5_isAccepted_8 15 rfl rfl)
theorem dX5_isAccepted_272 : decode cX5_isAccepted 272 = .ok (.goto 14, 3) := dk_167 0 14 (dk_at dksX5_isAccepted_8 18 rfl rfl)
theorem dX5_isAccepted_275 : decode cX5_isAccepted 275 = .ok (.aload_n 0, 1) := dk_42 (dk_at dksX5_isAccepted_8 21 rfl rfl)
theorem dX5_isAccepted_276 : decode cX5_isAccepted 276 = .ok (.getfield 21, 3) := dk_180 0 21 (dk_at dksX5_isAccepted_9 0 rfl rfl)
theorem dX5_isAccepted_279 : decode cX5_isAccepted 279 = .ok (.invokestatic 62, 3) := dk_184 0 62 (dk_at dksX5_isAccepted_9 3 rfl rfl)
theorem dX5_isAccepted_282 : decode cX5_isAccepted 282 = .ok (.goto 4, 3) := dk_167 0 4 (dk_at dksX5_isAccepted_9 6 rfl rfl)
theorem dX5_isAccepted_285 : decode cX5_isAccepted 285 = .ok (.iconst 1, 1) := dk_4 (dk_at dksX5_isAccepted_9 9 rfl rfl)
theorem dX5_isAccepted_286 : decode cX5_isAccepted 286 = .ok (.ireturn, 1) := dk_172 (dk_at dksX5_isAccepted_9 10 rfl rfl)
theorem q94 : (Jvm.Cond.initialized "WindFarmDispatcher$Command") ∈ lw_all := lw_g (lw_at lw_m1 19 rfl) rfl
theorem q494 : (Jvm.Cond.instantiable "WindFarmDispatcher$Command" (5 : Nat)) ∈ lw_all := lw_g (lw_at lw_m2 179 rfl) rfl
theorem q496 : (Jvm.Cond.instanceMethod ({ cls := "WindFarmDispatcher$Command", name := "<init>", desc := "(CI)V" } : Jvm.MethodName)) ∈ lw_all := lw_g (lw_at lw_m2 181 rfl) rfl
theorem q497 : (Jvm.Cond.code ({ cls := "WindFarmDispatcher$Command", name := "<init>", desc := "(CI)V" } : Jvm.MethodName) prog_3_method_1_code (3 : Nat) (Option.none : Option Jvm.ClassFile.FieldType)) ∈ lw_all := lw_g (lw_at lw_m2 182 rfl) rfl
theorem q498 : (Jvm.Cond.methodLink "WindFarmDispatcher$Command" (3 : Nat) ({ cls := "WindFarmDispatcher$Command", name := "<init>", desc := "(CCIII)V" } : Jvm.MethodName)) ∈ lw_all := lw_g (lw_at lw_m2 183 rfl) rfl
theorem q499 : (Jvm.Cond.instanceMethod ({ cls := "WindFarmDispatcher$Command", name := "<init>", desc := "(CCIII)V" } : Jvm.MethodName)) ∈ lw_all := lw_g (lw_at lw_m2 184 rfl) rfl
theorem q500 : (Jvm.Cond.code ({ cls := "WindFarmDispatcher$Command", name := "<init>", desc := "(CCIII)V" } : Jvm.MethodName) prog_3_method_3_code (6 : Nat) (Option.none : Option Jvm.ClassFile.FieldType)) ∈ lw_all := lw_g (lw_at lw_m2 185 rfl) rfl
theorem q501 : (Jvm.Cond.methodLink "WindFarmDispatcher$Command" (9 : Nat) ({ cls := "java/lang/Object", name := "<init>", desc := "()V" } : Jvm.MethodName)) ∈ lw_all := lw_g (lw_at lw_m2 186 rfl) rfl
theorem q502 : (Jvm.Cond.fieldLink "WindFarmDispatcher$Command" (14 : Nat) "WindFarmDispatcher$Command" "kind" "C") ∈ lw_all := lw_g (lw_at lw_m2 187 rfl) rfl
theorem q503 : (Jvm.Cond.fieldLink "WindFarmDispatcher$Command" (18 : Nat) "WindFarmDispatcher$Command" "letter" "C") ∈ lw_all := lw_g (lw_at lw_m2 188 rfl) rfl
theorem q504 : (Jvm.Cond.fieldLink "WindFarmDispatcher$Command" (21 : Nat) "WindFarmDispatcher$Command" "first" "I") ∈ lw_all := lw_g (lw_at lw_m2 189 rfl) rfl
theorem q505 : (Jvm.Cond.fieldLink "WindFarmDispatcher$Command" (25 : Nat) "WindFarmDispatcher$Command" "second" "I") ∈ lw_all := lw_g (lw_at lw_m2 190 rfl) rfl
theorem q506 : (Jvm.Cond.fieldLink "WindFarmDispatcher$Command" (28 : Nat) "WindFarmDispatcher$Command" "third" "I") ∈ lw_all := lw_g (lw_at lw_m2 191 rfl) rfl
theorem q507 : (Jvm.Cond.laysFinal "WindFarmDispatcher$Command" "WindFarmDispatcher$Command" "kind" "C") ∈ lw_all := lw_g (lw_at lw_m2 192 rfl) rfl
theorem q508 : (Jvm.Cond.soleField "WindFarmDispatcher$Command" "kind") ∈ lw_all := lw_g (lw_at lw_m2 193 rfl) rfl
theorem q509 : (Jvm.Cond.laysFinal "WindFarmDispatcher$Command" "WindFarmDispatcher$Command" "letter" "C") ∈ lw_all := lw_g (lw_at lw_m2 194 rfl) rfl
theorem q510 : (Jvm.Cond.soleField "WindFarmDispatcher$Command" "letter") ∈ lw_all := lw_g (lw_at lw_m2 195 rfl) rfl
theorem q511 : (Jvm.Cond.laysFinal "WindFarmDispatcher$Command" "WindFarmDispatcher$Command" "first" "I") ∈ lw_all := lw_g (lw_at lw_m2 196 rfl) rfl
theorem q512 : (Jvm.Cond.soleField "WindFarmDispatcher$Command" "first") ∈ lw_all := lw_g (lw_at lw_m2 197 rfl) rfl
theorem q513 : (Jvm.Cond.laysFinal "WindFarmDispatcher$Command" "WindFarmDispatcher$Command" "second" "I") ∈ lw_all := lw_g (lw_at lw_m2 198 rfl) rfl
theorem q514 : (Jvm.Cond.soleField "WindFarmDispatcher$Command" "second") ∈ lw_all := lw_g (lw_at lw_m2 199 rfl) rfl
theorem q515 : (Jvm.Cond.laysFinal "WindFarmDispatcher$Command" "WindFarmDispatcher$Command" "third" "I") ∈ lw_all := lw_g (lw_at lw_m2 200 rfl) rfl
theorem q516 : (Jvm.Cond.soleField "WindFarmDispatcher$Command" "third") ∈ lw_all := lw_g (lw_at lw_m2 201 rfl) rfl
theorem q517 : (Jvm.Cond.superclass "WindFarmDispatcher$Command" "java/lang/Object") ∈ lw_all := lw_g (lw_at lw_m2 202 rfl) rfl
theorem q602 : (Jvm.Cond.selects "WindFarmDispatcher$Command" ({ cls := "java/lang/Object", name := "getClass", desc := "()Ljava/lang/Class;" } : Jvm.MethodName) ({ cls := "java/lang/Object", name := "getClass", desc := "()Ljava/lang/Class;" } : Jvm.MethodName)) ∈ lw_all := lw_g (lw_at lw_m3 47 rfl) rfl
theorem q642 : (Jvm.Cond.instanceMethod ({ cls := "WindFarmDispatcher$Command", name := "run", desc := "(LWindFarmDispatcher$Farm;)I" } : Jvm.MethodName)) ∈ lw_all := lw_g (lw_at lw_m3 87 rfl) rfl
theorem q643 : (Jvm.Cond.selects "WindFarmDispatcher$Command" ({ cls := "WindFarmDispatcher$Command", name := "run", desc := "(LWindFarmDispatcher$Farm;)I" } : Jvm.MethodName) ({ cls := "WindFarmDispatcher$Command", name := "run", desc := "(LWindFarmDispatcher$Farm;)I" } : Jvm.MethodName)) ∈ lw_all := lw_g (lw_at lw_m3 88 rfl) rfl
theorem q644 : (Jvm.Cond.code ({ cls := "WindFarmDispatcher$Command", name := "run", desc := "(LWindFarmDispatcher$Farm;)I" } : Jvm.MethodName) prog_3_method_5_code (2 : Nat) (Option.some Jvm.ClassFile.FieldType.int)) ∈ lw_all := lw_g (lw_at lw_m3 89 rfl) rfl
theorem q645 : (Jvm.Cond.methodLink "WindFarmDispatcher$Command" (65 : Nat) ({ cls := "WindFarmDispatcher$Farm", name := "addTurbine", desc := "(III)I" } : Jvm.MethodName)) ∈ lw_all := lw_g (lw_at lw_m3 90 rfl) rfl
theorem q733 : (Jvm.Cond.methodLink "WindFarmDispatcher$Command" (69 : Nat) ({ cls := "WindFarmDispatcher$Farm", name := "fail", desc := "(I)I" } : Jvm.MethodName)) ∈ lw_all := lw_g (lw_at lw_m3 178 rfl) rfl
theorem q752 : (Jvm.Cond.methodLink "WindFarmDispatcher$Command" (73 : Nat) ({ cls := "WindFarmDispatcher$Farm", name := "sendCrew", desc := "(II)I" } : Jvm.MethodName)) ∈ lw_all := lw_g (lw_at lw_m3 197 rfl) rfl
theorem q781 : (Jvm.Cond.methodLink "WindFarmDispatcher$Command" (77 : Nat) ({ cls := "WindFarmDispatcher$Farm", name := "recallCrew", desc := "(I)I" } : Jvm.MethodName)) ∈ lw_all := lw_g (lw_at lw_m3 226 rfl) rfl
theorem q785 : (Jvm.Cond.methodLink "WindFarmDispatcher$Command" (80 : Nat) ({ cls := "WindFarmDispatcher$Farm", name := "curtail", desc := "(II)I" } : Jvm.MethodName)) ∈ lw_all := lw_g (lw_at lw_m3 230 rfl) rfl
theorem q800 : (Jvm.Cond.methodLink "WindFarmDispatcher$Command" (83 : Nat) ({ cls := "WindFarmDispatcher$Farm", name := "release", desc := "(I)I" } : Jvm.MethodName)) ∈ lw_all := lw_g (lw_at lw_m4 5 rfl) rfl
theorem q810 : (Jvm.Cond.methodLinkNest "WindFarmDispatcher$Command" (86 : Nat) ({ cls := "WindFarmDispatcher", name := "directionFor", desc := "(C)LWindFarmDispatcher$Direction;" } : Jvm.MethodName) "WindFarmDispatcher") ∈ lw_tbl := lw_at lw_m4 15 rfl
theorem q814 : (Jvm.Cond.methodLink "WindFarmDispatcher$Command" (90 : Nat) ({ cls := "WindFarmDispatcher$Farm", name := "setWind", desc := "(LWindFarmDispatcher$Direction;I)I" } : Jvm.MethodName)) ∈ lw_all := lw_g (lw_at lw_m4 19 rfl) rfl
theorem q819 : (Jvm.Cond.methodLink "WindFarmDispatcher$Command" (94 : Nat) ({ cls := "WindFarmDispatcher$Farm", name := "setGridLimit", desc := "(I)I" } : Jvm.MethodName)) ∈ lw_all := lw_g (lw_at lw_m4 24 rfl) rfl
theorem q823 : (Jvm.Cond.methodLink "WindFarmDispatcher$Command" (97 : Nat) ({ cls := "WindFarmDispatcher$Farm", name := "dispatch", desc := "()I" } : Jvm.MethodName)) ∈ lw_all := lw_g (lw_at lw_m4 28 rfl) rfl
theorem q835 : (Jvm.Cond.methodLink "WindFarmDispatcher$Command" (101 : Nat) ({ cls := "WindFarmDispatcher$Farm", name := "releaseAll", desc := "()I" } : Jvm.MethodName)) ∈ lw_all := lw_g (lw_at lw_m4 40 rfl) rfl
theorem q839 : (Jvm.Cond.methodLink "WindFarmDispatcher$Command" (104 : Nat) ({ cls := "WindFarmDispatcher$Farm", name := "placeBid", desc := "(III)I" } : Jvm.MethodName)) ∈ lw_all := lw_g (lw_at lw_m4 44 rfl) rfl
theorem q851 : (Jvm.Cond.methodLink "WindFarmDispatcher$Command" (107 : Nat) ({ cls := "WindFarmDispatcher$Farm", name := "withdrawBid", desc := "(I)I" } : Jvm.MethodName)) ∈ lw_all := lw_g (lw_at lw_m4 56 rfl) rfl
theorem q855 : (Jvm.Cond.methodLink "WindFarmDispatcher$Command" (110 : Nat) ({ cls := "WindFarmDispatcher$Farm", name := "passHours", desc := "(I)I" } : Jvm.MethodName)) ∈ lw_all := lw_g (lw_at lw_m4 60 rfl) rfl
theorem q1033 : (Jvm.Cond.instanceMethod ({ cls := "WindFarmDispatcher$Command", name := "<init>", desc := "(CIII)V" } : Jvm.MethodName)) ∈ lw_all := lw_g (lw_at lw_m4 238 rfl) rfl
theorem q1034 : (Jvm.Cond.code ({ cls := "WindFarmDispatcher$Command", name := "<init>", desc := "(CIII)V" } : Jvm.MethodName) prog_3_method_2_code (5 : Nat) (Option.none : Option Jvm.ClassFile.FieldType)) ∈ lw_all := lw_g (lw_at lw_m4 239 rfl) rfl
theorem q1890 : (Jvm.Cond.instanceMethod ({ cls := "WindFarmDispatcher$Command", name := "checkedRun", desc := "(LWindFarmDispatcher$Farm;)I" } : Jvm.MethodName)) ∈ lw_all := lw_g (lw_at lw_m8 135 rfl) rfl
theorem q1891 : (Jvm.Cond.selects "WindFarmDispatcher$Command" ({ cls := "WindFarmDispatcher$Command", name := "checkedRun", desc := "(LWindFarmDispatcher$Farm;)I" } : Jvm.MethodName) ({ cls := "WindFarmDispatcher$Command", name := "checkedRun", desc := "(LWindFarmDispatcher$Farm;)I" } : Jvm.MethodName)) ∈ lw_all := lw_g (lw_at lw_m8 136 rfl) rfl
theorem q1892 : (Jvm.Cond.code ({ cls := "WindFarmDispatcher$Command", name := "checkedRun", desc := "(LWindFarmDispatcher$Farm;)I" } : Jvm.MethodName) prog_3_method_6_code (2 : Nat) (Option.some Jvm.ClassFile.FieldType.int)) ∈ lw_all := lw_g (lw_at lw_m8 137 rfl) rfl
theorem q1893 : (Jvm.Cond.methodLink "WindFarmDispatcher$Command" (113 : Nat) ({ cls := "WindFarmDispatcher$Command", name := "isAccepted", desc := "(LWindFarmDispatcher$Farm;)Z" } : Jvm.MethodName)) ∈ lw_all := lw_g (lw_at lw_m8 138 rfl) rfl
theorem q1894 : (Jvm.Cond.privateMethod ({ cls := "WindFarmDispatcher$Command", name := "isAccepted", desc := "(LWindFarmDispatcher$Farm;)Z" } : Jvm.MethodName)) ∈ lw_tbl := lw_at lw_m8 139 rfl
theorem q1895 : (Jvm.Cond.instanceMethod ({ cls := "WindFarmDispatcher$Command", name := "isAccepted", desc := "(LWindFarmDispatcher$Farm;)Z" } : Jvm.MethodName)) ∈ lw_all := lw_g (lw_at lw_m8 140 rfl) rfl
theorem q1896 : (Jvm.Cond.code ({ cls := "WindFarmDispatcher$Command", name := "isAccepted", desc := "(LWindFarmDispatcher$Farm;)Z" } : Jvm.MethodName) prog_3_method_4_code (2 : Nat) (Option.some Jvm.ClassFile.FieldType.boolean)) ∈ lw_all := lw_g (lw_at lw_m8 141 rfl) rfl
theorem q1897 : (Jvm.Cond.methodLinkNest "WindFarmDispatcher$Command" (31 : Nat) ({ cls := "WindFarmDispatcher", name := "isCell", desc := "(II)Z" } : Jvm.MethodName) "WindFarmDispatcher") ∈ lw_tbl := lw_at lw_m8 142 rfl
theorem q1898 : (Jvm.Cond.methodLinkNest "WindFarmDispatcher$Command" (35 : Nat) ({ cls := "WindFarmDispatcher", name := "isRated", desc := "(I)Z" } : Jvm.MethodName) "WindFarmDispatcher") ∈ lw_tbl := lw_at lw_m8 143 rfl
theorem q1899 : (Jvm.Cond.methodLink "WindFarmDispatcher$Command" (39 : Nat) ({ cls := "WindFarmDispatcher$Farm", name := "has", desc := "(I)Z" } : Jvm.MethodName)) ∈ lw_all := lw_g (lw_at lw_m8 144 rfl) rfl
theorem q1900 : (Jvm.Cond.methodLinkNest "WindFarmDispatcher$Command" (44 : Nat) ({ cls := "WindFarmDispatcher", name := "isService", desc := "(I)Z" } : Jvm.MethodName) "WindFarmDispatcher") ∈ lw_tbl := lw_at lw_m8 145 rfl
theorem q1901 : (Jvm.Cond.methodLinkNest "WindFarmDispatcher$Command" (47 : Nat) ({ cls := "WindFarmDispatcher", name := "isLimit", desc := "(I)Z" } : Jvm.MethodName) "WindFarmDispatcher") ∈ lw_tbl := lw_at lw_m8 146 rfl
theorem q1902 : (Jvm.Cond.methodLinkNest "WindFarmDispatcher$Command" (50 : Nat) ({ cls := "WindFarmDispatcher", name := "isSpeed", desc := "(I)Z" } : Jvm.MethodName) "WindFarmDispatcher") ∈ lw_tbl := lw_at lw_m8 147 rfl
theorem q1903 : (Jvm.Cond.methodLinkNest "WindFarmDispatcher$Command" (53 : Nat) ({ cls := "WindFarmDispatcher", name := "isGridLimit", desc := "(I)Z" } : Jvm.MethodName) "WindFarmDispatcher") ∈ lw_tbl := lw_at lw_m8 148 rfl
theorem q1904 : (Jvm.Cond.methodLinkNest "WindFarmDispatcher$Command" (56 : Nat) ({ cls := "WindFarmDispatcher", name := "isHour", desc := "(I)Z" } : Jvm.MethodName) "WindFarmDispatcher") ∈ lw_tbl := lw_at lw_m8 149 rfl
theorem q1905 : (Jvm.Cond.methodLinkNest "WindFarmDispatcher$Command" (59 : Nat) ({ cls := "WindFarmDispatcher", name := "isOffer", desc := "(II)Z" } : Jvm.MethodName) "WindFarmDispatcher") ∈ lw_tbl := lw_at lw_m8 150 rfl
theorem q1906 : (Jvm.Cond.methodLinkNest "WindFarmDispatcher$Command" (62 : Nat) ({ cls := "WindFarmDispatcher", name := "areHours", desc := "(I)Z" } : Jvm.MethodName) "WindFarmDispatcher") ∈ lw_tbl := lw_at lw_m8 151 rfl
theorem q1907 : (Jvm.Cond.classLink "WindFarmDispatcher$Command" (117 : Nat) "WindFarmDispatcher$BadCommand") ∈ lw_all := lw_g (lw_at lw_m8 152 rfl) rfl
theorem q1916 : (Jvm.Cond.methodLink "WindFarmDispatcher$Command" (119 : Nat) ({ cls := "WindFarmDispatcher$BadCommand", name := "<init>", desc := "()V" } : Jvm.MethodName)) ∈ lw_all := lw_g (lw_at lw_m8 161 rfl) rfl
theorem q1922 : (Jvm.Cond.methodLink "WindFarmDispatcher$Command" (120 : Nat) ({ cls := "WindFarmDispatcher$Command", name := "run", desc := "(LWindFarmDispatcher$Farm;)I" } : Jvm.MethodName)) ∈ lw_all := lw_g (lw_at lw_m8 167 rfl) rfl
theorem q2519 : (Jvm.Cond.castable "WindFarmDispatcher$Command" "java/lang/Object") ∈ lw_tbl := lw_at lw_m11 44 rfl
theorem in_X5 : ∀ w ∈ wsX50, w ∈ lw_all := lw_in wsX50 [507, 509, 511, 513, 515] (by decide +kernel) (by decide +kernel)
/-! WindFarmDispatcher$Turbine -/
def RX6 : String := "WindFarmDispatcher$Turbine"
def TX6 : u_T := fun k => match k with
  | 0 => ("WindFarmDispatcher$Turbine", "index", "I", true)
  | 1 => ("WindFarmDispatcher$Turbine", "row", "I", true)
  | 2 => ("WindFarmDispatcher$Turbine", "column", "I", true)
  | 3 => ("WindFarmDispatcher$Turbine", "rated", "I", true)
  | _ => ("WindFarmDispatcher$Turbine", "state", "LWindFarmDispatcher$State;", false)
def tyX6 : Nat → FieldType := fun k => match k with
  | 0 => .int
  | 1 => .int
  | 2 => .int
  | 3 => .int
  | _ => .object "WindFarmDispatcher$State"
abbrev wsX60 : List Cond := u_ws RX6 TX6 5
theorem nmX6 : ∀ a, a < 5 → ∀ b, b < 5 → a ≠ b → (TX6 a).2.1 ≠ (TX6 b).2.1 := by decide +kernel
theorem tyX6_ok : ∀ k, k < 5 → parseFieldDescriptor (TX6 k).2.2.1 = some (tyX6 k) := by decide +kernel
abbrev cX6_serviceHours : ByteArray := prog_18_method_5_code
def yX6_serviceHours : MethodName := ⟨RX6, "serviceHours", "()I"⟩
def dkwX6_serviceHours_1 : List UInt8 := [3, 172]
abbrev dktX6_serviceHours_1 : List UInt8 := dkwX6_serviceHours_1 ++ []
def dkwX6_serviceHours_0 : List UInt8 := [42, 180, 0, 12, 77, 44, 193, 0, 38, 153, 0, 15, 44, 192, 0, 38, 76, 43, 180, 0, 40, 167, 0, 4]
abbrev dktX6_serviceHours_0 : List UInt8 := dkwX6_serviceHours_0 ++ dktX6_serviceHours_1
theorem dksX6_serviceHours_0 : cX6_serviceHours.data.toList.drop 0 = dktX6_serviceHours_0 := by decide +kernel
theorem dksX6_serviceHours_1 : cX6_serviceHours.data.toList.drop 24 = dktX6_serviceHours_1 := dk_seg dksX6_serviceHours_0 24 rfl rfl
theorem dX6_serviceHours_0 : decode cX6_serviceHours 0 = .ok (.aload_n 0, 1) := dk_42 (dk_at dksX6_serviceHours_0 0 rfl rfl)
theorem dX6_serviceHours_1 : decode cX6_serviceHours 1 = .ok (.getfield 12, 3) := dk_180 0 12 (dk_at dksX6_serviceHours_0 1 rfl rfl)
theorem dX6_serviceHours_4 : decode cX6_serviceHours 4 = .ok (.astore_n 2, 1) := dk_77 (dk_at dksX6_serviceHours_0 4 rfl rfl)
theorem dX6_serviceHours_5 : decode cX6_serviceHours 5 = .ok (.aload_n 2, 1) := dk_44 (dk_at dksX6_serviceHours_0 5 rfl rfl)
theorem dX6_serviceHours_6 : decode cX6_serviceHours 6 = .ok (.instanceof 38, 3) := dk_193 0 38 (dk_at dksX6_serviceHours_0 6 rfl rfl)
theorem dX6_serviceHours_9 : decode cX6_serviceHours 9 = .ok (.ifCond .eq 15, 3) := dk_153 0 15 (dk_at dksX6_serviceHours_0 9 rfl rfl)
theorem dX6_serviceHours_12 : decode cX6_serviceHours 12 = .ok (.aload_n 2, 1) := dk_44 (dk_at dksX6_serviceHours_0 12 rfl rfl)
theorem dX6_serviceHours_13 : decode cX6_serviceHours 13 = .ok (.checkcast 38, 3) := dk_192 0 38 (dk_at dksX6_serviceHours_0 13 rfl rfl)
theorem dX6_serviceHours_16 : decode cX6_serviceHours 16 = .ok (.astore_n 1, 1) := dk_76 (dk_at dksX6_serviceHours_0 16 rfl rfl)
theorem dX6_serviceHours_17 : decode cX6_serviceHours 17 = .ok (.aload_n 1, 1) := dk_43 (dk_at dksX6_serviceHours_0 17 rfl rfl)
theorem dX6_serviceHours_18 : decode cX6_serviceHours 18 = .ok (.getfield 40, 3) := dk_180 0 40 (dk_at dksX6_serviceHours_0 18 rfl rfl)
theorem dX6_serviceHours_21 : decode cX6_serviceHours 21 = .ok (.goto 4, 3) := dk_167 0 4 (dk_at dksX6_serviceHours_0 21 rfl rfl)
theorem dX6_serviceHours_24 : decode cX6_serviceHours 24 = .ok (.iconst 0, 1) := dk_3 (dk_at dksX6_serviceHours_1 0 rfl rfl)
theorem dX6_serviceHours_25 : decode cX6_serviceHours 25 = .ok (.ireturn, 1) := dk_172 (dk_at dksX6_serviceHours_1 1 rfl rfl)
abbrev cX6_isRunning : ByteArray := prog_18_method_2_code
def yX6_isRunning : MethodName := ⟨RX6, "isRunning", "()Z"⟩
def dkwX6_isRunning_1 : List UInt8 := [3, 172]
abbrev dktX6_isRunning_1 : List UInt8 := dkwX6_isRunning_1 ++ []
def dkwX6_isRunning_0 : List UInt8 := [42, 180, 0, 12, 193, 0, 9, 154, 0, 13, 42, 180, 0, 12, 193, 0, 31, 153, 0, 7, 4, 167, 0, 4]
abbrev dktX6_isRunning_0 : List UInt8 := dkwX6_isRunning_0 ++ dktX6_isRunning_1
theorem dksX6_isRunning_0 : cX6_isRunning.data.toList.drop 0 = dktX6_isRunning_0 := by decide +kernel
theorem dksX6_isRunning_1 : cX6_isRunning.data.toList.drop 24 = dktX6_isRunning_1 := dk_seg dksX6_isRunning_0 24 rfl rfl
theorem dX6_isRunning_0 : decode cX6_isRunning 0 = .ok (.aload_n 0, 1) := dk_42 (dk_at dksX6_isRunning_0 0 rfl rfl)
theorem dX6_isRunning_1 : decode cX6_isRunning 1 = .ok (.getfield 12, 3) := dk_180 0 12 (dk_at dksX6_isRunning_0 1 rfl rfl)
theorem dX6_isRunning_4 : decode cX6_isRunning 4 = .ok (.instanceof 9, 3) := dk_193 0 9 (dk_at dksX6_isRunning_0 4 rfl rfl)
theorem dX6_isRunning_7 : decode cX6_isRunning 7 = .ok (.ifCond .ne 13, 3) := dk_154 0 13 (dk_at dksX6_isRunning_0 7 rfl rfl)
theorem dX6_isRunning_10 : decode cX6_isRunning 10 = .ok (.aload_n 0, 1) := dk_42 (dk_at dksX6_isRunning_0 10 rfl rfl)
theorem dX6_isRunning_11 : decode cX6_isRunning 11 = .ok (.getfield 12, 3) := dk_180 0 12 (dk_at dksX6_isRunning_0 11 rfl rfl)
theorem dX6_isRunning_14 : decode cX6_isRunning 14 = .ok (.instanceof 31, 3) := dk_193 0 31 (dk_at dksX6_isRunning_0 14 rfl rfl)
theorem dX6_isRunning_17 : decode cX6_isRunning 17 = .ok (.ifCond .eq 7, 3) := dk_153 0 7 (dk_at dksX6_isRunning_0 17 rfl rfl)
theorem dX6_isRunning_20 : decode cX6_isRunning 20 = .ok (.iconst 1, 1) := dk_4 (dk_at dksX6_isRunning_0 20 rfl rfl)
theorem dX6_isRunning_21 : decode cX6_isRunning 21 = .ok (.goto 4, 3) := dk_167 0 4 (dk_at dksX6_isRunning_0 21 rfl rfl)
theorem dX6_isRunning_24 : decode cX6_isRunning 24 = .ok (.iconst 0, 1) := dk_3 (dk_at dksX6_isRunning_1 0 rfl rfl)
theorem dX6_isRunning_25 : decode cX6_isRunning 25 = .ok (.ireturn, 1) := dk_172 (dk_at dksX6_isRunning_1 1 rfl rfl)
abbrev cX6_available : ByteArray := prog_18_method_7_code
def yX6_available : MethodName := ⟨RX6, "available", "(II)I"⟩
def dkwX6_available_0 : List UInt8 := [42, 182, 0, 47, 153, 0, 18, 42, 180, 0, 28, 3, 27, 28, 100, 184, 0, 51, 104, 167, 0, 4, 3, 172]
abbrev dktX6_available_0 : List UInt8 := dkwX6_available_0 ++ []
theorem dksX6_available_0 : cX6_available.data.toList.drop 0 = dktX6_available_0 := by decide +kernel
theorem dX6_available_0 : decode cX6_available 0 = .ok (.aload_n 0, 1) := dk_42 (dk_at dksX6_available_0 0 rfl rfl)
theorem dX6_available_1 : decode cX6_available 1 = .ok (.invokevirtual 47, 3) := dk_182 0 47 (dk_at dksX6_available_0 1 rfl rfl)
theorem dX6_available_4 : decode cX6_available 4 = .ok (.ifCond .eq 18, 3) := dk_153 0 18 (dk_at dksX6_available_0 4 rfl rfl)
theorem dX6_available_7 : decode cX6_available 7 = .ok (.aload_n 0, 1) := dk_42 (dk_at dksX6_available_0 7 rfl rfl)
theorem dX6_available_8 : decode cX6_available 8 = .ok (.getfield 28, 3) := dk_180 0 28 (dk_at dksX6_available_0 8 rfl rfl)
theorem dX6_available_11 : decode cX6_available 11 = .ok (.iconst 0, 1) := dk_3 (dk_at dksX6_available_0 11 rfl rfl)
theorem dX6_available_12 : decode cX6_available 12 = .ok (.iload_n 1, 1) := dk_27 (dk_at dksX6_available_0 12 rfl rfl)
theorem dX6_available_13 : decode cX6_available 13 = .ok (.iload_n 2, 1) := dk_28 (dk_at dksX6_available_0 13 rfl rfl)
theorem dX6_available_14 : decode cX6_available 14 = .ok (.isub, 1) := dk_100 (dk_at dksX6_available_0 14 rfl rfl)
theorem dX6_available_15 : decode cX6_available 15 = .ok (.invokestatic 51, 3) := dk_184 0 51 (dk_at dksX6_available_0 15 rfl rfl)
theorem dX6_available_18 : decode cX6_available 18 = .ok (.imul, 1) := dk_104 (dk_at dksX6_available_0 18 rfl rfl)
theorem dX6_available_19 : decode cX6_available 19 = .ok (.goto 4, 3) := dk_167 0 4 (dk_at dksX6_available_0 19 rfl rfl)
theorem dX6_available_22 : decode cX6_available 22 = .ok (.iconst 0, 1) := dk_3 (dk_at dksX6_available_0 22 rfl rfl)
theorem dX6_available_23 : decode cX6_available 23 = .ok (.ireturn, 1) := dk_172 (dk_at dksX6_available_0 23 rfl rfl)
abbrev cX6_init : ByteArray := prog_18_method_1_code
def yX6_init : MethodName := ⟨RX6, "<init>", "(IIII)V"⟩
def dkwX6_init_1 : List UInt8 := [181, 0, 22, 42, 29, 181, 0, 25, 42, 21, 4, 181, 0, 28, 177]
abbrev dktX6_init_1 : List UInt8 := dkwX6_init_1 ++ []
def dkwX6_init_0 : List UInt8 := [42, 183, 0, 3, 42, 187, 0, 9, 89, 183, 0, 11, 181, 0, 12, 42, 27, 181, 0, 18, 42, 28]
abbrev dktX6_init_0 : List UInt8 := dkwX6_init_0 ++ dktX6_init_1
theorem dksX6_init_0 : cX6_init.data.toList.drop 0 = dktX6_init_0 := by decide +kernel
theorem dksX6_init_1 : cX6_init.data.toList.drop 22 = dktX6_init_1 := dk_seg dksX6_init_0 22 rfl rfl
theorem dX6_init_0 : decode cX6_init 0 = .ok (.aload_n 0, 1) := dk_42 (dk_at dksX6_init_0 0 rfl rfl)
theorem dX6_init_1 : decode cX6_init 1 = .ok (.invokespecial 3, 3) := dk_183 0 3 (dk_at dksX6_init_0 1 rfl rfl)
theorem dX6_init_4 : decode cX6_init 4 = .ok (.aload_n 0, 1) := dk_42 (dk_at dksX6_init_0 4 rfl rfl)
theorem dX6_init_5 : decode cX6_init 5 = .ok (.new 9, 3) := dk_187 0 9 (dk_at dksX6_init_0 5 rfl rfl)
theorem dX6_init_8 : decode cX6_init 8 = .ok (.dup, 1) := dk_89 (dk_at dksX6_init_0 8 rfl rfl)
theorem dX6_init_9 : decode cX6_init 9 = .ok (.invokespecial 11, 3) := dk_183 0 11 (dk_at dksX6_init_0 9 rfl rfl)
theorem dX6_init_12 : decode cX6_init 12 = .ok (.putfield 12, 3) := dk_181 0 12 (dk_at dksX6_init_0 12 rfl rfl)
theorem dX6_init_15 : decode cX6_init 15 = .ok (.aload_n 0, 1) := dk_42 (dk_at dksX6_init_0 15 rfl rfl)
theorem dX6_init_16 : decode cX6_init 16 = .ok (.iload_n 1, 1) := dk_27 (dk_at dksX6_init_0 16 rfl rfl)
theorem dX6_init_17 : decode cX6_init 17 = .ok (.putfield 18, 3) := dk_181 0 18 (dk_at dksX6_init_0 17 rfl rfl)
theorem dX6_init_20 : decode cX6_init 20 = .ok (.aload_n 0, 1) := dk_42 (dk_at dksX6_init_0 20 rfl rfl)
theorem dX6_init_21 : decode cX6_init 21 = .ok (.iload_n 2, 1) := dk_28 (dk_at dksX6_init_0 21 rfl rfl)
theorem dX6_init_22 : decode cX6_init 22 = .ok (.putfield 22, 3) := dk_181 0 22 (dk_at dksX6_init_1 0 rfl rfl)
theorem dX6_init_25 : decode cX6_init 25 = .ok (.aload_n 0, 1) := dk_42 (dk_at dksX6_init_1 3 rfl rfl)
theorem dX6_init_26 : decode cX6_init 26 = .ok (.iload_n 3, 1) := dk_29 (dk_at dksX6_init_1 4 rfl rfl)
theorem dX6_init_27 : decode cX6_init 27 = .ok (.putfield 25, 3) := dk_181 0 25 (dk_at dksX6_init_1 5 rfl rfl)
theorem dX6_init_30 : decode cX6_init 30 = .ok (.aload_n 0, 1) := dk_42 (dk_at dksX6_init_1 8 rfl rfl)
theorem dX6_init_31 : decode cX6_init 31 = .ok (.iload 4, 2) := dk_21 4 (dk_at dksX6_init_1 9 rfl rfl)
theorem dX6_init_33 : decode cX6_init 33 = .ok (.putfield 28, 3) := dk_181 0 28 (dk_at dksX6_init_1 11 rfl rfl)
theorem dX6_init_36 : decode cX6_init 36 = .ok (.return_, 1) := dk_177 (dk_at dksX6_init_1 14 rfl rfl)
abbrev cX6_isFailed : ByteArray := prog_18_method_3_code
def yX6_isFailed : MethodName := ⟨RX6, "isFailed", "()Z"⟩
def dkwX6_isFailed_0 : List UInt8 := [42, 180, 0, 12, 193, 0, 33, 172]
abbrev dktX6_isFailed_0 : List UInt8 := dkwX6_isFailed_0 ++ []
theorem dksX6_isFailed_0 : cX6_isFailed.data.toList.drop 0 = dktX6_isFailed_0 := by decide +kernel
theorem dX6_isFailed_0 : decode cX6_isFailed 0 = .ok (.aload_n 0, 1) := dk_42 (dk_at dksX6_isFailed_0 0 rfl rfl)
theorem dX6_isFailed_1 : decode cX6_isFailed 1 = .ok (.getfield 12, 3) := dk_180 0 12 (dk_at dksX6_isFailed_0 1 rfl rfl)
theorem dX6_isFailed_4 : decode cX6_isFailed 4 = .ok (.instanceof 33, 3) := dk_193 0 33 (dk_at dksX6_isFailed_0 4 rfl rfl)
theorem dX6_isFailed_7 : decode cX6_isFailed 7 = .ok (.ireturn, 1) := dk_172 (dk_at dksX6_isFailed_0 7 rfl rfl)
abbrev cX6_limit : ByteArray := prog_18_method_4_code
def yX6_limit : MethodName := ⟨RX6, "limit", "()I"⟩
def dkwX6_limit_1 : List UInt8 := [2, 172]
abbrev dktX6_limit_1 : List UInt8 := dkwX6_limit_1 ++ []
def dkwX6_limit_0 : List UInt8 := [42, 180, 0, 12, 77, 44, 193, 0, 31, 153, 0, 15, 44, 192, 0, 31, 76, 43, 180, 0, 35, 167, 0, 4]
abbrev dktX6_limit_0 : List UInt8 := dkwX6_limit_0 ++ dktX6_limit_1
theorem dksX6_limit_0 : cX6_limit.data.toList.drop 0 = dktX6_limit_0 := by decide +kernel
theorem dksX6_limit_1 : cX6_limit.data.toList.drop 24 = dktX6_limit_1 := dk_seg dksX6_limit_0 24 rfl rfl
theorem dX6_limit_0 : decode cX6_limit 0 = .ok (.aload_n 0, 1) := dk_42 (dk_at dksX6_limit_0 0 rfl rfl)
theorem dX6_limit_1 : decode cX6_limit 1 = .ok (.getfield 12, 3) := dk_180 0 12 (dk_at dksX6_limit_0 1 rfl rfl)
theorem dX6_limit_4 : decode cX6_limit 4 = .ok (.astore_n 2, 1) := dk_77 (dk_at dksX6_limit_0 4 rfl rfl)
theorem dX6_limit_5 : decode cX6_limit 5 = .ok (.aload_n 2, 1) := dk_44 (dk_at dksX6_limit_0 5 rfl rfl)
theorem dX6_limit_6 : decode cX6_limit 6 = .ok (.instanceof 31, 3) := dk_193 0 31 (dk_at dksX6_limit_0 6 rfl rfl)
theorem dX6_limit_9 : decode cX6_limit 9 = .ok (.ifCond .eq 15, 3) := dk_153 0 15 (dk_at dksX6_limit_0 9 rfl rfl)
theorem dX6_limit_12 : decode cX6_limit 12 = .ok (.aload_n 2, 1) := dk_44 (dk_at dksX6_limit_0 12 rfl rfl)
theorem dX6_limit_13 : decode cX6_limit 13 = .ok (.checkcast 31, 3) := dk_192 0 31 (dk_at dksX6_limit_0 13 rfl rfl)
theorem dX6_limit_16 : decode cX6_limit 16 = .ok (.astore_n 1, 1) := dk_76 (dk_at dksX6_limit_0 16 rfl rfl)
theorem dX6_limit_17 : decode cX6_limit 17 = .ok (.aload_n 1, 1) := dk_43 (dk_at dksX6_limit_0 17 rfl rfl)
theorem dX6_limit_18 : decode cX6_limit 18 = .ok (.getfield 35, 3) := dk_180 0 35 (dk_at dksX6_limit_0 18 rfl rfl)
theorem dX6_limit_21 : decode cX6_limit 21 = .ok (.goto 4, 3) := dk_167 0 4 (dk_at dksX6_limit_0 21 rfl rfl)
theorem dX6_limit_24 : decode cX6_limit 24 = .ok (.iconst (-1), 1) := dk_2 (dk_at dksX6_limit_1 0 rfl rfl)
theorem dX6_limit_25 : decode cX6_limit 25 = .ok (.ireturn, 1) := dk_172 (dk_at dksX6_limit_1 1 rfl rfl)
abbrev cX6_passHour : ByteArray := prog_18_method_6_code
def yX6_passHour : MethodName := ⟨RX6, "passHour", "()V"⟩
def dkwX6_passHour_1 : List UInt8 := [181, 0, 12, 177]
abbrev dktX6_passHour_1 : List UInt8 := dkwX6_passHour_1 ++ []
def dkwX6_passHour_0 : List UInt8 := [42, 180, 0, 12, 77, 44, 193, 0, 38, 153, 0, 16, 44, 192, 0, 38, 76, 42, 43, 182, 0, 43]
abbrev dktX6_passHour_0 : List UInt8 := dkwX6_passHour_0 ++ dktX6_passHour_1
theorem dksX6_passHour_0 : cX6_passHour.data.toList.drop 0 = dktX6_passHour_0 := by decide +kernel
theorem dksX6_passHour_1 : cX6_passHour.data.toList.drop 22 = dktX6_passHour_1 := dk_seg dksX6_passHour_0 22 rfl rfl
theorem dX6_passHour_0 : decode cX6_passHour 0 = .ok (.aload_n 0, 1) := dk_42 (dk_at dksX6_passHour_0 0 rfl rfl)
theorem dX6_passHour_1 : decode cX6_passHour 1 = .ok (.getfield 12, 3) := dk_180 0 12 (dk_at dksX6_passHour_0 1 rfl rfl)
theorem dX6_passHour_4 : decode cX6_passHour 4 = .ok (.astore_n 2, 1) := dk_77 (dk_at dksX6_passHour_0 4 rfl rfl)
theorem dX6_passHour_5 : decode cX6_passHour 5 = .ok (.aload_n 2, 1) := dk_44 (dk_at dksX6_passHour_0 5 rfl rfl)
theorem dX6_passHour_6 : decode cX6_passHour 6 = .ok (.instanceof 38, 3) := dk_193 0 38 (dk_at dksX6_passHour_0 6 rfl rfl)
theorem dX6_passHour_9 : decode cX6_passHour 9 = .ok (.ifCond .eq 16, 3) := dk_153 0 16 (dk_at dksX6_passHour_0 9 rfl rfl)
theorem dX6_passHour_12 : decode cX6_passHour 12 = .ok (.aload_n 2, 1) := dk_44 (dk_at dksX6_passHour_0 12 rfl rfl)
theorem dX6_passHour_13 : decode cX6_passHour 13 = .ok (.checkcast 38, 3) := dk_192 0 38 (dk_at dksX6_passHour_0 13 rfl rfl)
theorem dX6_passHour_16 : decode cX6_passHour 16 = .ok (.astore_n 1, 1) := dk_76 (dk_at dksX6_passHour_0 16 rfl rfl)
theorem dX6_passHour_17 : decode cX6_passHour 17 = .ok (.aload_n 0, 1) := dk_42 (dk_at dksX6_passHour_0 17 rfl rfl)
theorem dX6_passHour_18 : decode cX6_passHour 18 = .ok (.aload_n 1, 1) := dk_43 (dk_at dksX6_passHour_0 18 rfl rfl)
theorem dX6_passHour_19 : decode cX6_passHour 19 = .ok (.invokevirtual 43, 3) := dk_182 0 43 (dk_at dksX6_passHour_0 19 rfl rfl)
theorem dX6_passHour_22 : decode cX6_passHour 22 = .ok (.putfield 12, 3) := dk_181 0 12 (dk_at dksX6_passHour_1 0 rfl rfl)
theorem dX6_passHour_25 : decode cX6_passHour 25 = .ok (.return_, 1) := dk_177 (dk_at dksX6_passHour_1 3 rfl rfl)
theorem q97 : (Jvm.Cond.initialized "WindFarmDispatcher$Turbine") ∈ lw_all := lw_g (lw_at lw_m1 22 rfl) rfl
theorem q306 : (Jvm.Cond.instanceMethod ({ cls := "WindFarmDispatcher$Turbine", name := "serviceHours", desc := "()I" } : Jvm.MethodName)) ∈ lw_all := lw_g (lw_at lw_m1 231 rfl) rfl
theorem q307 : (Jvm.Cond.selects "WindFarmDispatcher$Turbine" ({ cls := "WindFarmDispatcher$Turbine", name := "serviceHours", desc := "()I" } : Jvm.MethodName) ({ cls := "WindFarmDispatcher$Turbine", name := "serviceHours", desc := "()I" } : Jvm.MethodName)) ∈ lw_all := lw_g (lw_at lw_m1 232 rfl) rfl
theorem q308 : (Jvm.Cond.code ({ cls := "WindFarmDispatcher$Turbine", name := "serviceHours", desc := "()I" } : Jvm.MethodName) prog_18_method_5_code (3 : Nat) (Option.some Jvm.ClassFile.FieldType.int)) ∈ lw_all := lw_g (lw_at lw_m1 233 rfl) rfl
theorem q309 : (Jvm.Cond.classLink "WindFarmDispatcher$Turbine" (38 : Nat) "WindFarmDispatcher$InService") ∈ lw_all := lw_g (lw_at lw_m1 234 rfl) rfl
theorem q398 : (Jvm.Cond.instanceMethod ({ cls := "WindFarmDispatcher$Turbine", name := "isRunning", desc := "()Z" } : Jvm.MethodName)) ∈ lw_all := lw_g (lw_at lw_m2 83 rfl) rfl
theorem q399 : (Jvm.Cond.selects "WindFarmDispatcher$Turbine" ({ cls := "WindFarmDispatcher$Turbine", name := "isRunning", desc := "()Z" } : Jvm.MethodName) ({ cls := "WindFarmDispatcher$Turbine", name := "isRunning", desc := "()Z" } : Jvm.MethodName)) ∈ lw_all := lw_g (lw_at lw_m2 84 rfl) rfl
theorem q400 : (Jvm.Cond.code ({ cls := "WindFarmDispatcher$Turbine", name := "isRunning", desc := "()Z" } : Jvm.MethodName) prog_18_method_2_code (1 : Nat) (Option.some Jvm.ClassFile.FieldType.boolean)) ∈ lw_all := lw_g (lw_at lw_m2 85 rfl) rfl
theorem q401 : (Jvm.Cond.classLink "WindFarmDispatcher$Turbine" (9 : Nat) "WindFarmDispatcher$Running") ∈ lw_all := lw_g (lw_at lw_m2 86 rfl) rfl
theorem q402 : (Jvm.Cond.classLink "WindFarmDispatcher$Turbine" (31 : Nat) "WindFarmDispatcher$Curtailed") ∈ lw_all := lw_g (lw_at lw_m2 87 rfl) rfl
theorem q404 : (Jvm.Cond.instanceMethod ({ cls := "WindFarmDispatcher$Turbine", name := "available", desc := "(II)I" } : Jvm.MethodName)) ∈ lw_all := lw_g (lw_at lw_m2 89 rfl) rfl
theorem q405 : (Jvm.Cond.selects "WindFarmDispatcher$Turbine" ({ cls := "WindFarmDispatcher$Turbine", name := "available", desc := "(II)I" } : Jvm.MethodName) ({ cls := "WindFarmDispatcher$Turbine", name := "available", desc := "(II)I" } : Jvm.MethodName)) ∈ lw_all := lw_g (lw_at lw_m2 90 rfl) rfl
theorem q406 : (Jvm.Cond.code ({ cls := "WindFarmDispatcher$Turbine", name := "available", desc := "(II)I" } : Jvm.MethodName) prog_18_method_7_code (3 : Nat) (Option.some Jvm.ClassFile.FieldType.int)) ∈ lw_all := lw_g (lw_at lw_m2 91 rfl) rfl
theorem q407 : (Jvm.Cond.methodLink "WindFarmDispatcher$Turbine" (47 : Nat) ({ cls := "WindFarmDispatcher$Turbine", name := "isRunning", desc := "()Z" } : Jvm.MethodName)) ∈ lw_all := lw_g (lw_at lw_m2 92 rfl) rfl
theorem q408 : (Jvm.Cond.methodLink "WindFarmDispatcher$Turbine" (51 : Nat) ({ cls := "java/lang/Math", name := "max", desc := "(II)I" } : Jvm.MethodName)) ∈ lw_all := lw_g (lw_at lw_m2 93 rfl) rfl
theorem q533 : (Jvm.Cond.instantiable "WindFarmDispatcher$Turbine" (5 : Nat)) ∈ lw_all := lw_g (lw_at lw_m2 218 rfl) rfl
theorem q535 : (Jvm.Cond.instanceMethod ({ cls := "WindFarmDispatcher$Turbine", name := "<init>", desc := "(IIII)V" } : Jvm.MethodName)) ∈ lw_all := lw_g (lw_at lw_m2 220 rfl) rfl
theorem q536 : (Jvm.Cond.code ({ cls := "WindFarmDispatcher$Turbine", name := "<init>", desc := "(IIII)V" } : Jvm.MethodName) prog_18_method_1_code (5 : Nat) (Option.none : Option Jvm.ClassFile.FieldType)) ∈ lw_all := lw_g (lw_at lw_m2 221 rfl) rfl
theorem q537 : (Jvm.Cond.methodLink "WindFarmDispatcher$Turbine" (3 : Nat) ({ cls := "java/lang/Object", name := "<init>", desc := "()V" } : Jvm.MethodName)) ∈ lw_all := lw_g (lw_at lw_m2 222 rfl) rfl
theorem q539 : (Jvm.Cond.methodLinkNest "WindFarmDispatcher$Turbine" (11 : Nat) ({ cls := "WindFarmDispatcher$Running", name := "<init>", desc := "()V" } : Jvm.MethodName) "WindFarmDispatcher") ∈ lw_tbl := lw_at lw_m2 224 rfl
theorem q544 : (Jvm.Cond.fieldLink "WindFarmDispatcher$Turbine" (18 : Nat) "WindFarmDispatcher$Turbine" "index" "I") ∈ lw_all := lw_g (lw_at lw_m2 229 rfl) rfl
theorem q547 : (Jvm.Cond.fieldLink "WindFarmDispatcher$Turbine" (22 : Nat) "WindFarmDispatcher$Turbine" "row" "I") ∈ lw_all := lw_g (lw_at lw_m2 232 rfl) rfl
theorem q550 : (Jvm.Cond.fieldLink "WindFarmDispatcher$Turbine" (25 : Nat) "WindFarmDispatcher$Turbine" "column" "I") ∈ lw_all := lw_g (lw_at lw_m2 235 rfl) rfl
theorem q553 : (Jvm.Cond.fieldLink "WindFarmDispatcher$Turbine" (28 : Nat) "WindFarmDispatcher$Turbine" "rated" "I") ∈ lw_all := lw_g (lw_at lw_m2 238 rfl) rfl
theorem q556 : (Jvm.Cond.fieldLink "WindFarmDispatcher$Turbine" (12 : Nat) "WindFarmDispatcher$Turbine" "state" "LWindFarmDispatcher$State;") ∈ lw_all := lw_g (lw_at lw_m3 1 rfl) rfl
theorem q559 : (Jvm.Cond.laysFinal "WindFarmDispatcher$Turbine" "WindFarmDispatcher$Turbine" "index" "I") ∈ lw_all := lw_g (lw_at lw_m3 4 rfl) rfl
theorem q560 : (Jvm.Cond.soleField "WindFarmDispatcher$Turbine" "index") ∈ lw_all := lw_g (lw_at lw_m3 5 rfl) rfl
theorem q561 : (Jvm.Cond.laysFinal "WindFarmDispatcher$Turbine" "WindFarmDispatcher$Turbine" "row" "I") ∈ lw_all := lw_g (lw_at lw_m3 6 rfl) rfl
theorem q562 : (Jvm.Cond.soleField "WindFarmDispatcher$Turbine" "row") ∈ lw_all := lw_g (lw_at lw_m3 7 rfl) rfl
theorem q563 : (Jvm.Cond.laysFinal "WindFarmDispatcher$Turbine" "WindFarmDispatcher$Turbine" "column" "I") ∈ lw_all := lw_g (lw_at lw_m3 8 rfl) rfl
theorem q564 : (Jvm.Cond.soleField "WindFarmDispatcher$Turbine" "column") ∈ lw_all := lw_g (lw_at lw_m3 9 rfl) rfl
theorem q565 : (Jvm.Cond.laysFinal "WindFarmDispatcher$Turbine" "WindFarmDispatcher$Turbine" "rated" "I") ∈ lw_all := lw_g (lw_at lw_m3 10 rfl) rfl
theorem q566 : (Jvm.Cond.soleField "WindFarmDispatcher$Turbine" "rated") ∈ lw_all := lw_g (lw_at lw_m3 11 rfl) rfl
theorem q567 : (Jvm.Cond.lays "WindFarmDispatcher$Turbine" "WindFarmDispatcher$Turbine" "state" "LWindFarmDispatcher$State;") ∈ lw_all := lw_g (lw_at lw_m3 12 rfl) rfl
theorem q568 : (Jvm.Cond.soleField "WindFarmDispatcher$Turbine" "state") ∈ lw_all := lw_g (lw_at lw_m3 13 rfl) rfl
theorem q569 : (Jvm.Cond.superclass "WindFarmDispatcher$Turbine" "java/lang/Object") ∈ lw_all := lw_g (lw_at lw_m3 14 rfl) rfl
theorem q615 : (Jvm.Cond.selects "WindFarmDispatcher$Turbine" ({ cls := "java/lang/Object", name := "getClass", desc := "()Ljava/lang/Class;" } : Jvm.MethodName) ({ cls := "java/lang/Object", name := "getClass", desc := "()Ljava/lang/Class;" } : Jvm.MethodName)) ∈ lw_all := lw_g (lw_at lw_m3 60 rfl) rfl
theorem q757 : (Jvm.Cond.instanceMethod ({ cls := "WindFarmDispatcher$Turbine", name := "isFailed", desc := "()Z" } : Jvm.MethodName)) ∈ lw_all := lw_g (lw_at lw_m3 202 rfl) rfl
theorem q758 : (Jvm.Cond.selects "WindFarmDispatcher$Turbine" ({ cls := "WindFarmDispatcher$Turbine", name := "isFailed", desc := "()Z" } : Jvm.MethodName) ({ cls := "WindFarmDispatcher$Turbine", name := "isFailed", desc := "()Z" } : Jvm.MethodName)) ∈ lw_all := lw_g (lw_at lw_m3 203 rfl) rfl
theorem q759 : (Jvm.Cond.code ({ cls := "WindFarmDispatcher$Turbine", name := "isFailed", desc := "()Z" } : Jvm.MethodName) prog_18_method_3_code (1 : Nat) (Option.some Jvm.ClassFile.FieldType.boolean)) ∈ lw_all := lw_g (lw_at lw_m3 204 rfl) rfl
theorem q760 : (Jvm.Cond.classLink "WindFarmDispatcher$Turbine" (33 : Nat) "WindFarmDispatcher$Failed") ∈ lw_all := lw_g (lw_at lw_m3 205 rfl) rfl
theorem q777 : (Jvm.Cond.fieldLinkNest "WindFarmDispatcher$Turbine" (40 : Nat) "WindFarmDispatcher$InService" "hoursLeft" "I" "WindFarmDispatcher") ∈ lw_tbl := lw_at lw_m3 222 rfl
theorem q796 : (Jvm.Cond.fieldLinkNest "WindFarmDispatcher$Turbine" (35 : Nat) "WindFarmDispatcher$Curtailed" "limit" "I" "WindFarmDispatcher") ∈ lw_tbl := lw_at lw_m4 1 rfl
theorem q805 : (Jvm.Cond.instanceMethod ({ cls := "WindFarmDispatcher$Turbine", name := "limit", desc := "()I" } : Jvm.MethodName)) ∈ lw_all := lw_g (lw_at lw_m4 10 rfl) rfl
theorem q806 : (Jvm.Cond.selects "WindFarmDispatcher$Turbine" ({ cls := "WindFarmDispatcher$Turbine", name := "limit", desc := "()I" } : Jvm.MethodName) ({ cls := "WindFarmDispatcher$Turbine", name := "limit", desc := "()I" } : Jvm.MethodName)) ∈ lw_all := lw_g (lw_at lw_m4 11 rfl) rfl
theorem q807 : (Jvm.Cond.code ({ cls := "WindFarmDispatcher$Turbine", name := "limit", desc := "()I" } : Jvm.MethodName) prog_18_method_4_code (3 : Nat) (Option.some Jvm.ClassFile.FieldType.int)) ∈ lw_all := lw_g (lw_at lw_m4 12 rfl) rfl
theorem q865 : (Jvm.Cond.instanceMethod ({ cls := "WindFarmDispatcher$Turbine", name := "passHour", desc := "()V" } : Jvm.MethodName)) ∈ lw_all := lw_g (lw_at lw_m4 70 rfl) rfl
theorem q866 : (Jvm.Cond.selects "WindFarmDispatcher$Turbine" ({ cls := "WindFarmDispatcher$Turbine", name := "passHour", desc := "()V" } : Jvm.MethodName) ({ cls := "WindFarmDispatcher$Turbine", name := "passHour", desc := "()V" } : Jvm.MethodName)) ∈ lw_all := lw_g (lw_at lw_m4 71 rfl) rfl
theorem q867 : (Jvm.Cond.code ({ cls := "WindFarmDispatcher$Turbine", name := "passHour", desc := "()V" } : Jvm.MethodName) prog_18_method_6_code (3 : Nat) (Option.none : Option Jvm.ClassFile.FieldType)) ∈ lw_all := lw_g (lw_at lw_m4 72 rfl) rfl
theorem q868 : (Jvm.Cond.methodLink "WindFarmDispatcher$Turbine" (43 : Nat) ({ cls := "WindFarmDispatcher$InService", name := "next", desc := "()LWindFarmDispatcher$State;" } : Jvm.MethodName)) ∈ lw_all := lw_g (lw_at lw_m4 73 rfl) rfl
theorem q2508 : (Jvm.Cond.castable "WindFarmDispatcher$Turbine" "java/lang/Object") ∈ lw_tbl := lw_at lw_m11 33 rfl
theorem in_X6 : ∀ w ∈ wsX60, w ∈ lw_all := lw_in wsX60 [559, 561, 563, 565, 567] (by decide +kernel) (by decide +kernel)
/-! WindFarmDispatcher$Running -/
def RX7 : String := "WindFarmDispatcher$Running"
abbrev cX7_outputFor : ByteArray := prog_15_method_2_code
def yX7_outputFor : MethodName := ⟨RX7, "outputFor", "(I)I"⟩
theorem dX7_outputFor_0 : decode cX7_outputFor 0 = .ok (.iload_n 1, 1) := by decide +kernel
theorem dX7_outputFor_1 : decode cX7_outputFor 1 = .ok (.ireturn, 1) := by decide +kernel
abbrev cX7_init : ByteArray := prog_15_method_1_code
def yX7_init : MethodName := ⟨RX7, "<init>", "()V"⟩
theorem dX7_init_0 : decode cX7_init 0 = .ok (.aload_n 0, 1) := by decide +kernel
theorem dX7_init_1 : decode cX7_init 1 = .ok (.invokespecial 1, 3) := by decide +kernel
theorem dX7_init_4 : decode cX7_init 4 = .ok (.return_, 1) := by decide +kernel
abbrev cX7_sign : ByteArray := prog_15_method_3_code
def yX7_sign : MethodName := ⟨RX7, "sign", "()Ljava/lang/String;"⟩
theorem dX7_sign_0 : decode cX7_sign 0 = .ok (.ldc 7, 2) := by decide +kernel
theorem dX7_sign_2 : decode cX7_sign 2 = .ok (.areturn, 1) := by decide +kernel
theorem q98 : (Jvm.Cond.initialized "WindFarmDispatcher$Running") ∈ lw_all := lw_g (lw_at lw_m1 23 rfl) rfl
theorem q436 : (Jvm.Cond.castable "WindFarmDispatcher$Running" "WindFarmDispatcher$State") ∈ lw_tbl := lw_at lw_m2 121 rfl
theorem q437 : (Jvm.Cond.selects "WindFarmDispatcher$Running" ({ cls := "WindFarmDispatcher$State", name := "outputFor", desc := "(I)I" } : Jvm.MethodName) ({ cls := "WindFarmDispatcher$Running", name := "outputFor", desc := "(I)I" } : Jvm.MethodName)) ∈ lw_all := lw_g (lw_at lw_m2 122 rfl) rfl
theorem q438 : (Jvm.Cond.unhidden "WindFarmDispatcher$Running" "outputFor" "(I)I") ∈ lw_tbl := lw_at lw_m2 123 rfl
theorem q439 : (Jvm.Cond.instanceMethod ({ cls := "WindFarmDispatcher$Running", name := "outputFor", desc := "(I)I" } : Jvm.MethodName)) ∈ lw_all := lw_g (lw_at lw_m2 124 rfl) rfl
theorem q440 : (Jvm.Cond.publicMethod ({ cls := "WindFarmDispatcher$Running", name := "outputFor", desc := "(I)I" } : Jvm.MethodName)) ∈ lw_tbl := lw_at lw_m2 125 rfl
theorem q441 : (Jvm.Cond.code ({ cls := "WindFarmDispatcher$Running", name := "outputFor", desc := "(I)I" } : Jvm.MethodName) prog_15_method_2_code (2 : Nat) (Option.some Jvm.ClassFile.FieldType.int)) ∈ lw_all := lw_g (lw_at lw_m2 126 rfl) rfl
theorem q538 : (Jvm.Cond.instantiable "WindFarmDispatcher$Running" (0 : Nat)) ∈ lw_all := lw_g (lw_at lw_m2 223 rfl) rfl
theorem q540 : (Jvm.Cond.instanceMethod ({ cls := "WindFarmDispatcher$Running", name := "<init>", desc := "()V" } : Jvm.MethodName)) ∈ lw_all := lw_g (lw_at lw_m2 225 rfl) rfl
theorem q541 : (Jvm.Cond.code ({ cls := "WindFarmDispatcher$Running", name := "<init>", desc := "()V" } : Jvm.MethodName) prog_15_method_1_code (1 : Nat) (Option.none : Option Jvm.ClassFile.FieldType)) ∈ lw_all := lw_g (lw_at lw_m2 226 rfl) rfl
theorem q542 : (Jvm.Cond.methodLink "WindFarmDispatcher$Running" (1 : Nat) ({ cls := "java/lang/Object", name := "<init>", desc := "()V" } : Jvm.MethodName)) ∈ lw_all := lw_g (lw_at lw_m2 227 rfl) rfl
theorem q543 : (Jvm.Cond.superclass "WindFarmDispatcher$Running" "java/lang/Object") ∈ lw_all := lw_g (lw_at lw_m2 228 rfl) rfl
theorem q613 : (Jvm.Cond.selects "WindFarmDispatcher$Running" ({ cls := "java/lang/Object", name := "getClass", desc := "()Ljava/lang/Class;" } : Jvm.MethodName) ({ cls := "java/lang/Object", name := "getClass", desc := "()Ljava/lang/Class;" } : Jvm.MethodName)) ∈ lw_all := lw_g (lw_at lw_m3 58 rfl) rfl
theorem q1622 : (Jvm.Cond.selects "WindFarmDispatcher$Running" ({ cls := "WindFarmDispatcher$State", name := "sign", desc := "()Ljava/lang/String;" } : Jvm.MethodName) ({ cls := "WindFarmDispatcher$Running", name := "sign", desc := "()Ljava/lang/String;" } : Jvm.MethodName)) ∈ lw_all := lw_g (lw_at lw_m7 107 rfl) rfl
theorem q1623 : (Jvm.Cond.unhidden "WindFarmDispatcher$Running" "sign" "()Ljava/lang/String;") ∈ lw_tbl := lw_at lw_m7 108 rfl
theorem q1624 : (Jvm.Cond.instanceMethod ({ cls := "WindFarmDispatcher$Running", name := "sign", desc := "()Ljava/lang/String;" } : Jvm.MethodName)) ∈ lw_all := lw_g (lw_at lw_m7 109 rfl) rfl
theorem q1625 : (Jvm.Cond.publicMethod ({ cls := "WindFarmDispatcher$Running", name := "sign", desc := "()Ljava/lang/String;" } : Jvm.MethodName)) ∈ lw_tbl := lw_at lw_m7 110 rfl
theorem q1626 : (Jvm.Cond.code ({ cls := "WindFarmDispatcher$Running", name := "sign", desc := "()Ljava/lang/String;" } : Jvm.MethodName) prog_15_method_3_code (1 : Nat) (Option.some (Jvm.ClassFile.FieldType.object "java/lang/String"))) ∈ lw_all := lw_g (lw_at lw_m7 111 rfl) rfl
theorem q1627 : (Jvm.Cond.stringRef "WindFarmDispatcher$Running" (7 : Nat) "") ∈ lw_tbl := lw_at lw_m7 112 rfl
theorem q2520 : (Jvm.Cond.castable "WindFarmDispatcher$Running" "java/lang/Object") ∈ lw_tbl := lw_at lw_m11 45 rfl
/-! WindFarmDispatcher$Rejection -/
def RX8 : String := "WindFarmDispatcher$Rejection"
def TX8 : u_T := fun k => match k with
  | 0 => ("java/lang/Throwable", "cause", "Ljava/lang/Throwable;", false)
  | 1 => ("java/lang/Throwable", "stackTrace", "[Ljava/lang/StackTraceElement;", false)
  | 2 => ("java/lang/Throwable", "suppressedExceptions", "Ljava/util/List;", false)
  | 3 => ("java/lang/Throwable", "detailMessage", "Ljava/lang/String;", false)
  | 4 => ("java/lang/Throwable", "backtrace", "Ljava/lang/Object;", false)
  | 5 => ("java/lang/Throwable", "depth", "I", false)
  | 6 => ("WindFarmDispatcher$Rejection", "reason", "I", true)
  | 7 => ("WindFarmDispatcher$Rejection", "detail", "I", true)
  | _ => ("WindFarmDispatcher$Rejection", "causeReason", "I", true)
def tyX8 : Nat → FieldType := fun k => match k with
  | 0 => .object "java/lang/Throwable"
  | 1 => .array (.object "java/lang/StackTraceElement")
  | 2 => .object "java/util/List"
  | 3 => .object "java/lang/String"
  | 4 => .object "java/lang/Object"
  | 5 => .int
  | 6 => .int
  | 7 => .int
  | _ => .int
abbrev wsX80 : List Cond := u_ws RX8 TX8 9
theorem nmX8 : ∀ a, a < 9 → ∀ b, b < 9 → a ≠ b → (TX8 a).2.1 ≠ (TX8 b).2.1 := by decide +kernel
theorem tyX8_ok : ∀ k, k < 9 → parseFieldDescriptor (TX8 k).2.2.1 = some (tyX8 k) := by decide +kernel
abbrev cX8_init : ByteArray := prog_14_method_1_code
def yX8_init : MethodName := ⟨RX8, "<init>", "(II)V"⟩
def dkwX8_init_0 : List UInt8 := [42, 27, 28, 3, 183, 0, 1, 177]
abbrev dktX8_init_0 : List UInt8 := dkwX8_init_0 ++ []
theorem dksX8_init_0 : cX8_init.data.toList.drop 0 = dktX8_init_0 := by decide +kernel
theorem dX8_init_0 : decode cX8_init 0 = .ok (.aload_n 0, 1) := dk_42 (dk_at dksX8_init_0 0 rfl rfl)
theorem dX8_init_1 : decode cX8_init 1 = .ok (.iload_n 1, 1) := dk_27 (dk_at dksX8_init_0 1 rfl rfl)
theorem dX8_init_2 : decode cX8_init 2 = .ok (.iload_n 2, 1) := dk_28 (dk_at dksX8_init_0 2 rfl rfl)
theorem dX8_init_3 : decode cX8_init 3 = .ok (.iconst 0, 1) := dk_3 (dk_at dksX8_init_0 3 rfl rfl)
theorem dX8_init_4 : decode cX8_init 4 = .ok (.invokespecial 1, 3) := dk_183 0 1 (dk_at dksX8_init_0 4 rfl rfl)
theorem dX8_init_7 : decode cX8_init 7 = .ok (.return_, 1) := dk_177 (dk_at dksX8_init_0 7 rfl rfl)
abbrev cX8_init_2 : ByteArray := prog_14_method_2_code
def yX8_init_2 : MethodName := ⟨RX8, "<init>", "(III)V"⟩
def dkwX8_init_2_0 : List UInt8 := [42, 183, 0, 7, 42, 27, 181, 0, 12, 42, 28, 181, 0, 16, 42, 29, 181, 0, 19, 177]
abbrev dktX8_init_2_0 : List UInt8 := dkwX8_init_2_0 ++ []
theorem dksX8_init_2_0 : cX8_init_2.data.toList.drop 0 = dktX8_init_2_0 := by decide +kernel
theorem dX8_init_2_0 : decode cX8_init_2 0 = .ok (.aload_n 0, 1) := dk_42 (dk_at dksX8_init_2_0 0 rfl rfl)
theorem dX8_init_2_1 : decode cX8_init_2 1 = .ok (.invokespecial 7, 3) := dk_183 0 7 (dk_at dksX8_init_2_0 1 rfl rfl)
theorem dX8_init_2_4 : decode cX8_init_2 4 = .ok (.aload_n 0, 1) := dk_42 (dk_at dksX8_init_2_0 4 rfl rfl)
theorem dX8_init_2_5 : decode cX8_init_2 5 = .ok (.iload_n 1, 1) := dk_27 (dk_at dksX8_init_2_0 5 rfl rfl)
theorem dX8_init_2_6 : decode cX8_init_2 6 = .ok (.putfield 12, 3) := dk_181 0 12 (dk_at dksX8_init_2_0 6 rfl rfl)
theorem dX8_init_2_9 : decode cX8_init_2 9 = .ok (.aload_n 0, 1) := dk_42 (dk_at dksX8_init_2_0 9 rfl rfl)
theorem dX8_init_2_10 : decode cX8_init_2 10 = .ok (.iload_n 2, 1) := dk_28 (dk_at dksX8_init_2_0 10 rfl rfl)
theorem dX8_init_2_11 : decode cX8_init_2 11 = .ok (.putfield 16, 3) := dk_181 0 16 (dk_at dksX8_init_2_0 11 rfl rfl)
theorem dX8_init_2_14 : decode cX8_init_2 14 = .ok (.aload_n 0, 1) := dk_42 (dk_at dksX8_init_2_0 14 rfl rfl)
theorem dX8_init_2_15 : decode cX8_init_2 15 = .ok (.iload_n 3, 1) := dk_29 (dk_at dksX8_init_2_0 15 rfl rfl)
theorem dX8_init_2_16 : decode cX8_init_2 16 = .ok (.putfield 19, 3) := dk_181 0 19 (dk_at dksX8_init_2_0 16 rfl rfl)
theorem dX8_init_2_19 : decode cX8_init_2 19 = .ok (.return_, 1) := dk_177 (dk_at dksX8_init_2_0 19 rfl rfl)
theorem q103 : (Jvm.Cond.initialized "WindFarmDispatcher$Rejection") ∈ lw_all := lw_g (lw_at lw_m1 28 rfl) rfl
theorem q612 : (Jvm.Cond.selects "WindFarmDispatcher$Rejection" ({ cls := "java/lang/Object", name := "getClass", desc := "()Ljava/lang/Class;" } : Jvm.MethodName) ({ cls := "java/lang/Object", name := "getClass", desc := "()Ljava/lang/Class;" } : Jvm.MethodName)) ∈ lw_all := lw_g (lw_at lw_m3 57 rfl) rfl
theorem q652 : (Jvm.Cond.instantiable "WindFarmDispatcher$Rejection" (9 : Nat)) ∈ lw_all := lw_g (lw_at lw_m3 97 rfl) rfl
theorem q653 : (Jvm.Cond.castable "WindFarmDispatcher$Rejection" "WindFarmDispatcher$Rejection") ∈ lw_tbl := lw_at lw_m3 98 rfl
theorem q658 : (Jvm.Cond.selects "WindFarmDispatcher$Rejection" ({ cls := "java/lang/Throwable", name := "fillInStackTrace", desc := "(I)Ljava/lang/Throwable;" } : Jvm.MethodName) ({ cls := "java/lang/Throwable", name := "fillInStackTrace", desc := "(I)Ljava/lang/Throwable;" } : Jvm.MethodName)) ∈ lw_all := lw_g (lw_at lw_m3 103 rfl) rfl
theorem q659 : (Jvm.Cond.selects "WindFarmDispatcher$Rejection" ({ cls := "java/lang/Throwable", name := "fillInStackTrace", desc := "()Ljava/lang/Throwable;" } : Jvm.MethodName) ({ cls := "java/lang/Throwable", name := "fillInStackTrace", desc := "()Ljava/lang/Throwable;" } : Jvm.MethodName)) ∈ lw_all := lw_g (lw_at lw_m3 104 rfl) rfl
theorem q660 : (Jvm.Cond.lays "WindFarmDispatcher$Rejection" "java/lang/Throwable" "cause" "Ljava/lang/Throwable;") ∈ lw_all := lw_g (lw_at lw_m3 105 rfl) rfl
theorem q662 : (Jvm.Cond.lays "WindFarmDispatcher$Rejection" "java/lang/Throwable" "stackTrace" "[Ljava/lang/StackTraceElement;") ∈ lw_all := lw_g (lw_at lw_m3 107 rfl) rfl
theorem q664 : (Jvm.Cond.lays "WindFarmDispatcher$Rejection" "java/lang/Throwable" "suppressedExceptions" "Ljava/util/List;") ∈ lw_all := lw_g (lw_at lw_m3 109 rfl) rfl
theorem q666 : (Jvm.Cond.lays "WindFarmDispatcher$Rejection" "java/lang/Throwable" "detailMessage" "Ljava/lang/String;") ∈ lw_all := lw_g (lw_at lw_m3 111 rfl) rfl
theorem q668 : (Jvm.Cond.lays "WindFarmDispatcher$Rejection" "java/lang/Throwable" "backtrace" "Ljava/lang/Object;") ∈ lw_all := lw_g (lw_at lw_m3 113 rfl) rfl
theorem q699 : (Jvm.Cond.instanceMethod ({ cls := "WindFarmDispatcher$Rejection", name := "<init>", desc := "(II)V" } : Jvm.MethodName)) ∈ lw_all := lw_g (lw_at lw_m3 144 rfl) rfl
theorem q700 : (Jvm.Cond.code ({ cls := "WindFarmDispatcher$Rejection", name := "<init>", desc := "(II)V" } : Jvm.MethodName) prog_14_method_1_code (3 : Nat) (Option.none : Option Jvm.ClassFile.FieldType)) ∈ lw_all := lw_g (lw_at lw_m3 145 rfl) rfl
theorem q701 : (Jvm.Cond.methodLink "WindFarmDispatcher$Rejection" (1 : Nat) ({ cls := "WindFarmDispatcher$Rejection", name := "<init>", desc := "(III)V" } : Jvm.MethodName)) ∈ lw_all := lw_g (lw_at lw_m3 146 rfl) rfl
theorem q702 : (Jvm.Cond.instanceMethod ({ cls := "WindFarmDispatcher$Rejection", name := "<init>", desc := "(III)V" } : Jvm.MethodName)) ∈ lw_all := lw_g (lw_at lw_m3 147 rfl) rfl
theorem q703 : (Jvm.Cond.code ({ cls := "WindFarmDispatcher$Rejection", name := "<init>", desc := "(III)V" } : Jvm.MethodName) prog_14_method_2_code (4 : Nat) (Option.none : Option Jvm.ClassFile.FieldType)) ∈ lw_all := lw_g (lw_at lw_m3 148 rfl) rfl
theorem q704 : (Jvm.Cond.methodLink "WindFarmDispatcher$Rejection" (7 : Nat) ({ cls := "java/lang/Exception", name := "<init>", desc := "()V" } : Jvm.MethodName)) ∈ lw_all := lw_g (lw_at lw_m3 149 rfl) rfl
theorem q708 : (Jvm.Cond.fieldLink "WindFarmDispatcher$Rejection" (12 : Nat) "WindFarmDispatcher$Rejection" "reason" "I") ∈ lw_all := lw_g (lw_at lw_m3 153 rfl) rfl
theorem q710 : (Jvm.Cond.fieldLink "WindFarmDispatcher$Rejection" (16 : Nat) "WindFarmDispatcher$Rejection" "detail" "I") ∈ lw_all := lw_g (lw_at lw_m3 155 rfl) rfl
theorem q712 : (Jvm.Cond.fieldLink "WindFarmDispatcher$Rejection" (19 : Nat) "WindFarmDispatcher$Rejection" "causeReason" "I") ∈ lw_all := lw_g (lw_at lw_m3 157 rfl) rfl
theorem q719 : (Jvm.Cond.laysFinal "WindFarmDispatcher$Rejection" "WindFarmDispatcher$Rejection" "reason" "I") ∈ lw_all := lw_g (lw_at lw_m3 164 rfl) rfl
theorem q720 : (Jvm.Cond.soleField "WindFarmDispatcher$Rejection" "reason") ∈ lw_all := lw_g (lw_at lw_m3 165 rfl) rfl
theorem q721 : (Jvm.Cond.laysFinal "WindFarmDispatcher$Rejection" "WindFarmDispatcher$Rejection" "detail" "I") ∈ lw_all := lw_g (lw_at lw_m3 166 rfl) rfl
theorem q722 : (Jvm.Cond.soleField "WindFarmDispatcher$Rejection" "detail") ∈ lw_all := lw_g (lw_at lw_m3 167 rfl) rfl
theorem q723 : (Jvm.Cond.laysFinal "WindFarmDispatcher$Rejection" "WindFarmDispatcher$Rejection" "causeReason" "I") ∈ lw_all := lw_g (lw_at lw_m3 168 rfl) rfl
theorem q724 : (Jvm.Cond.soleField "WindFarmDispatcher$Rejection" "causeReason") ∈ lw_all := lw_g (lw_at lw_m3 169 rfl) rfl
theorem q729 : (Jvm.Cond.lays "WindFarmDispatcher$Rejection" "java/lang/Throwable" "depth" "I") ∈ lw_all := lw_g (lw_at lw_m3 174 rfl) rfl
theorem q732 : (Jvm.Cond.superclass "WindFarmDispatcher$Rejection" "java/lang/Exception") ∈ lw_all := lw_g (lw_at lw_m3 177 rfl) rfl
theorem q2521 : (Jvm.Cond.castable "WindFarmDispatcher$Rejection" "java/lang/Object") ∈ lw_tbl := lw_at lw_m11 46 rfl
theorem in_X8 : ∀ w ∈ wsX80, w ∈ lw_all := lw_in wsX80 [660, 662, 664, 666, 668, 729, 719, 721, 723] (by decide +kernel) (by decide +kernel)
/-! WindFarmDispatcher$Failed -/
def RX9 : String := "WindFarmDispatcher$Failed"
abbrev cX9_outputFor : ByteArray := prog_10_method_2_code
def yX9_outputFor : MethodName := ⟨RX9, "outputFor", "(I)I"⟩
theorem dX9_outputFor_0 : decode cX9_outputFor 0 = .ok (.iconst 0, 1) := by decide +kernel
theorem dX9_outputFor_1 : decode cX9_outputFor 1 = .ok (.ireturn, 1) := by decide +kernel
abbrev cX9_init : ByteArray := prog_10_method_1_code
def yX9_init : MethodName := ⟨RX9, "<init>", "()V"⟩
theorem dX9_init_0 : decode cX9_init 0 = .ok (.aload_n 0, 1) := by decide +kernel
theorem dX9_init_1 : decode cX9_init 1 = .ok (.invokespecial 1, 3) := by decide +kernel
theorem dX9_init_4 : decode cX9_init 4 = .ok (.return_, 1) := by decide +kernel
abbrev cX9_sign : ByteArray := prog_10_method_3_code
def yX9_sign : MethodName := ⟨RX9, "sign", "()Ljava/lang/String;"⟩
theorem dX9_sign_0 : decode cX9_sign 0 = .ok (.ldc 7, 2) := by decide +kernel
theorem dX9_sign_2 : decode cX9_sign 2 = .ok (.areturn, 1) := by decide +kernel
theorem q104 : (Jvm.Cond.initialized "WindFarmDispatcher$Failed") ∈ lw_all := lw_g (lw_at lw_m1 29 rfl) rfl
theorem q424 : (Jvm.Cond.castable "WindFarmDispatcher$Failed" "WindFarmDispatcher$State") ∈ lw_tbl := lw_at lw_m2 109 rfl
theorem q425 : (Jvm.Cond.selects "WindFarmDispatcher$Failed" ({ cls := "WindFarmDispatcher$State", name := "outputFor", desc := "(I)I" } : Jvm.MethodName) ({ cls := "WindFarmDispatcher$Failed", name := "outputFor", desc := "(I)I" } : Jvm.MethodName)) ∈ lw_all := lw_g (lw_at lw_m2 110 rfl) rfl
theorem q426 : (Jvm.Cond.unhidden "WindFarmDispatcher$Failed" "outputFor" "(I)I") ∈ lw_tbl := lw_at lw_m2 111 rfl
theorem q427 : (Jvm.Cond.instanceMethod ({ cls := "WindFarmDispatcher$Failed", name := "outputFor", desc := "(I)I" } : Jvm.MethodName)) ∈ lw_all := lw_g (lw_at lw_m2 112 rfl) rfl
theorem q428 : (Jvm.Cond.publicMethod ({ cls := "WindFarmDispatcher$Failed", name := "outputFor", desc := "(I)I" } : Jvm.MethodName)) ∈ lw_tbl := lw_at lw_m2 113 rfl
theorem q429 : (Jvm.Cond.code ({ cls := "WindFarmDispatcher$Failed", name := "outputFor", desc := "(I)I" } : Jvm.MethodName) prog_10_method_2_code (2 : Nat) (Option.some Jvm.ClassFile.FieldType.int)) ∈ lw_all := lw_g (lw_at lw_m2 114 rfl) rfl
theorem q608 : (Jvm.Cond.selects "WindFarmDispatcher$Failed" ({ cls := "java/lang/Object", name := "getClass", desc := "()Ljava/lang/Class;" } : Jvm.MethodName) ({ cls := "java/lang/Object", name := "getClass", desc := "()Ljava/lang/Class;" } : Jvm.MethodName)) ∈ lw_all := lw_g (lw_at lw_m3 53 rfl) rfl
theorem q742 : (Jvm.Cond.instantiable "WindFarmDispatcher$Failed" (0 : Nat)) ∈ lw_all := lw_g (lw_at lw_m3 187 rfl) rfl
theorem q744 : (Jvm.Cond.instanceMethod ({ cls := "WindFarmDispatcher$Failed", name := "<init>", desc := "()V" } : Jvm.MethodName)) ∈ lw_all := lw_g (lw_at lw_m3 189 rfl) rfl
theorem q745 : (Jvm.Cond.code ({ cls := "WindFarmDispatcher$Failed", name := "<init>", desc := "()V" } : Jvm.MethodName) prog_10_method_1_code (1 : Nat) (Option.none : Option Jvm.ClassFile.FieldType)) ∈ lw_all := lw_g (lw_at lw_m3 190 rfl) rfl
theorem q746 : (Jvm.Cond.methodLink "WindFarmDispatcher$Failed" (1 : Nat) ({ cls := "java/lang/Object", name := "<init>", desc := "()V" } : Jvm.MethodName)) ∈ lw_all := lw_g (lw_at lw_m3 191 rfl) rfl
theorem q747 : (Jvm.Cond.superclass "WindFarmDispatcher$Failed" "java/lang/Object") ∈ lw_all := lw_g (lw_at lw_m3 192 rfl) rfl
theorem q1605 : (Jvm.Cond.selects "WindFarmDispatcher$Failed" ({ cls := "WindFarmDispatcher$State", name := "sign", desc := "()Ljava/lang/String;" } : Jvm.MethodName) ({ cls := "WindFarmDispatcher$Failed", name := "sign", desc := "()Ljava/lang/String;" } : Jvm.MethodName)) ∈ lw_all := lw_g (lw_at lw_m7 90 rfl) rfl
theorem q1606 : (Jvm.Cond.unhidden "WindFarmDispatcher$Failed" "sign" "()Ljava/lang/String;") ∈ lw_tbl := lw_at lw_m7 91 rfl
theorem q1607 : (Jvm.Cond.instanceMethod ({ cls := "WindFarmDispatcher$Failed", name := "sign", desc := "()Ljava/lang/String;" } : Jvm.MethodName)) ∈ lw_all := lw_g (lw_at lw_m7 92 rfl) rfl
theorem q1608 : (Jvm.Cond.publicMethod ({ cls := "WindFarmDispatcher$Failed", name := "sign", desc := "()Ljava/lang/String;" } : Jvm.MethodName)) ∈ lw_tbl := lw_at lw_m7 93 rfl
theorem q1609 : (Jvm.Cond.code ({ cls := "WindFarmDispatcher$Failed", name := "sign", desc := "()Ljava/lang/String;" } : Jvm.MethodName) prog_10_method_3_code (1 : Nat) (Option.some (Jvm.ClassFile.FieldType.object "java/lang/String"))) ∈ lw_all := lw_g (lw_at lw_m7 94 rfl) rfl
theorem q1610 : (Jvm.Cond.stringRef "WindFarmDispatcher$Failed" (7 : Nat) "x") ∈ lw_tbl := lw_at lw_m7 95 rfl
theorem q2522 : (Jvm.Cond.castable "WindFarmDispatcher$Failed" "java/lang/Object") ∈ lw_tbl := lw_at lw_m11 47 rfl
/-! WindFarmDispatcher$InService -/
def RX10 : String := "WindFarmDispatcher$InService"
def TX10 : u_T := fun k => match k with
  | _ => ("WindFarmDispatcher$InService", "hoursLeft", "I", true)
def tyX10 : Nat → FieldType := fun k => match k with
  | _ => .int
abbrev wsX100 : List Cond := u_ws RX10 TX10 1
theorem nmX10 : ∀ a, a < 1 → ∀ b, b < 1 → a ≠ b → (TX10 a).2.1 ≠ (TX10 b).2.1 := by decide +kernel
theorem tyX10_ok : ∀ k, k < 1 → parseFieldDescriptor (TX10 k).2.2.1 = some (tyX10 k) := by decide +kernel
abbrev cX10_outputFor : ByteArray := prog_12_method_2_code
def yX10_outputFor : MethodName := ⟨RX10, "outputFor", "(I)I"⟩
theorem dX10_outputFor_0 : decode cX10_outputFor 0 = .ok (.iconst 0, 1) := by decide +kernel
theorem dX10_outputFor_1 : decode cX10_outputFor 1 = .ok (.ireturn, 1) := by decide +kernel
abbrev cX10_init : ByteArray := prog_12_method_1_code
def yX10_init : MethodName := ⟨RX10, "<init>", "(I)V"⟩
def dkwX10_init_0 : List UInt8 := [42, 183, 0, 1, 42, 27, 181, 0, 7, 177]
abbrev dktX10_init_0 : List UInt8 := dkwX10_init_0 ++ []
theorem dksX10_init_0 : cX10_init.data.toList.drop 0 = dktX10_init_0 := by decide +kernel
theorem dX10_init_0 : decode cX10_init 0 = .ok (.aload_n 0, 1) := dk_42 (dk_at dksX10_init_0 0 rfl rfl)
theorem dX10_init_1 : decode cX10_init 1 = .ok (.invokespecial 1, 3) := dk_183 0 1 (dk_at dksX10_init_0 1 rfl rfl)
theorem dX10_init_4 : decode cX10_init 4 = .ok (.aload_n 0, 1) := dk_42 (dk_at dksX10_init_0 4 rfl rfl)
theorem dX10_init_5 : decode cX10_init 5 = .ok (.iload_n 1, 1) := dk_27 (dk_at dksX10_init_0 5 rfl rfl)
theorem dX10_init_6 : decode cX10_init 6 = .ok (.putfield 7, 3) := dk_181 0 7 (dk_at dksX10_init_0 6 rfl rfl)
theorem dX10_init_9 : decode cX10_init 9 = .ok (.return_, 1) := dk_177 (dk_at dksX10_init_0 9 rfl rfl)
abbrev cX10_next : ByteArray := prog_12_method_4_code
def yX10_next : MethodName := ⟨RX10, "next", "()LWindFarmDispatcher$State;"⟩
def dkwX10_next_1 : List UInt8 := [180, 0, 7, 4, 100, 183, 0, 32, 176]
abbrev dktX10_next_1 : List UInt8 := dkwX10_next_1 ++ []
def dkwX10_next_0 : List UInt8 := [42, 180, 0, 7, 4, 160, 0, 13, 187, 0, 29, 89, 183, 0, 31, 167, 0, 16, 187, 0, 8, 89, 42]
abbrev dktX10_next_0 : List UInt8 := dkwX10_next_0 ++ dktX10_next_1
theorem dksX10_next_0 : cX10_next.data.toList.drop 0 = dktX10_next_0 := by decide +kernel
theorem dksX10_next_1 : cX10_next.data.toList.drop 23 = dktX10_next_1 := dk_seg dksX10_next_0 23 rfl rfl
theorem dX10_next_0 : decode cX10_next 0 = .ok (.aload_n 0, 1) := dk_42 (dk_at dksX10_next_0 0 rfl rfl)
theorem dX10_next_1 : decode cX10_next 1 = .ok (.getfield 7, 3) := dk_180 0 7 (dk_at dksX10_next_0 1 rfl rfl)
theorem dX10_next_4 : decode cX10_next 4 = .ok (.iconst 1, 1) := dk_4 (dk_at dksX10_next_0 4 rfl rfl)
theorem dX10_next_5 : decode cX10_next 5 = .ok (.if_icmp .ne 13, 3) := dk_160 0 13 (dk_at dksX10_next_0 5 rfl rfl)
theorem dX10_next_8 : decode cX10_next 8 = .ok (.new 29, 3) := dk_187 0 29 (dk_at dksX10_next_0 8 rfl rfl)
theorem dX10_next_11 : decode cX10_next 11 = .ok (.dup, 1) := dk_89 (dk_at dksX10_next_0 11 rfl rfl)
theorem dX10_next_12 : decode cX10_next 12 = .ok (.invokespecial 31, 3) := dk_183 0 31 (dk_at dksX10_next_0 12 rfl rfl)
theorem dX10_next_15 : decode cX10_next 15 = .ok (.goto 16, 3) := dk_167 0 16 (dk_at dksX10_next_0 15 rfl rfl)
theorem dX10_next_18 : decode cX10_next 18 = .ok (.new 8, 3) := dk_187 0 8 (dk_at dksX10_next_0 18 rfl rfl)
theorem dX10_next_21 : decode cX10_next 21 = .ok (.dup, 1) := dk_89 (dk_at dksX10_next_0 21 rfl rfl)
theorem dX10_next_22 : decode cX10_next 22 = .ok (.aload_n 0, 1) := dk_42 (dk_at dksX10_next_0 22 rfl rfl)
theorem dX10_next_23 : decode cX10_next 23 = .ok (.getfield 7, 3) := dk_180 0 7 (dk_at dksX10_next_1 0 rfl rfl)
theorem dX10_next_26 : decode cX10_next 26 = .ok (.iconst 1, 1) := dk_4 (dk_at dksX10_next_1 3 rfl rfl)
theorem dX10_next_27 : decode cX10_next 27 = .ok (.isub, 1) := dk_100 (dk_at dksX10_next_1 4 rfl rfl)
theorem dX10_next_28 : decode cX10_next 28 = .ok (.invokespecial 32, 3) := dk_183 0 32 (dk_at dksX10_next_1 5 rfl rfl)
theorem dX10_next_31 : decode cX10_next 31 = .ok (.areturn, 1) := dk_176 (dk_at dksX10_next_1 8 rfl rfl)
abbrev cX10_sign : ByteArray := prog_12_method_3_code
def yX10_sign : MethodName := ⟨RX10, "sign", "()Ljava/lang/String;"⟩
def dkwX10_sign_0 : List UInt8 := [187, 0, 13, 89, 183, 0, 15, 18, 16, 182, 0, 18, 42, 180, 0, 7, 182, 0, 22, 182, 0, 25, 176]
abbrev dktX10_sign_0 : List UInt8 := dkwX10_sign_0 ++ []
theorem dksX10_sign_0 : cX10_sign.data.toList.drop 0 = dktX10_sign_0 := by decide +kernel
theorem dX10_sign_0 : decode cX10_sign 0 = .ok (.new 13, 3) := dk_187 0 13 (dk_at dksX10_sign_0 0 rfl rfl)
theorem dX10_sign_3 : decode cX10_sign 3 = .ok (.dup, 1) := dk_89 (dk_at dksX10_sign_0 3 rfl rfl)
theorem dX10_sign_4 : decode cX10_sign 4 = .ok (.invokespecial 15, 3) := dk_183 0 15 (dk_at dksX10_sign_0 4 rfl rfl)
theorem dX10_sign_7 : decode cX10_sign 7 = .ok (.ldc 16, 2) := dk_18 16 (dk_at dksX10_sign_0 7 rfl rfl)
theorem dX10_sign_9 : decode cX10_sign 9 = .ok (.invokevirtual 18, 3) := dk_182 0 18 (dk_at dksX10_sign_0 9 rfl rfl)
theorem dX10_sign_12 : decode cX10_sign 12 = .ok (.aload_n 0, 1) := dk_42 (dk_at dksX10_sign_0 12 rfl rfl)
theorem dX10_sign_13 : decode cX10_sign 13 = .ok (.getfield 7, 3) := dk_180 0 7 (dk_at dksX10_sign_0 13 rfl rfl)
theorem dX10_sign_16 : decode cX10_sign 16 = .ok (.invokevirtual 22, 3) := dk_182 0 22 (dk_at dksX10_sign_0 16 rfl rfl)
theorem dX10_sign_19 : decode cX10_sign 19 = .ok (.invokevirtual 25, 3) := dk_182 0 25 (dk_at dksX10_sign_0 19 rfl rfl)
theorem dX10_sign_22 : decode cX10_sign 22 = .ok (.areturn, 1) := dk_176 (dk_at dksX10_sign_0 22 rfl rfl)
theorem q105 : (Jvm.Cond.initialized "WindFarmDispatcher$InService") ∈ lw_all := lw_g (lw_at lw_m1 30 rfl) rfl
theorem q430 : (Jvm.Cond.castable "WindFarmDispatcher$InService" "WindFarmDispatcher$State") ∈ lw_tbl := lw_at lw_m2 115 rfl
theorem q431 : (Jvm.Cond.selects "WindFarmDispatcher$InService" ({ cls := "WindFarmDispatcher$State", name := "outputFor", desc := "(I)I" } : Jvm.MethodName) ({ cls := "WindFarmDispatcher$InService", name := "outputFor", desc := "(I)I" } : Jvm.MethodName)) ∈ lw_all := lw_g (lw_at lw_m2 116 rfl) rfl
theorem q432 : (Jvm.Cond.unhidden "WindFarmDispatcher$InService" "outputFor" "(I)I") ∈ lw_tbl := lw_at lw_m2 117 rfl
theorem q433 : (Jvm.Cond.instanceMethod ({ cls := "WindFarmDispatcher$InService", name := "outputFor", desc := "(I)I" } : Jvm.MethodName)) ∈ lw_all := lw_g (lw_at lw_m2 118 rfl) rfl
theorem q434 : (Jvm.Cond.publicMethod ({ cls := "WindFarmDispatcher$InService", name := "outputFor", desc := "(I)I" } : Jvm.MethodName)) ∈ lw_tbl := lw_at lw_m2 119 rfl
theorem q435 : (Jvm.Cond.code ({ cls := "WindFarmDispatcher$InService", name := "outputFor", desc := "(I)I" } : Jvm.MethodName) prog_12_method_2_code (2 : Nat) (Option.some Jvm.ClassFile.FieldType.int)) ∈ lw_all := lw_g (lw_at lw_m2 120 rfl) rfl
theorem q610 : (Jvm.Cond.selects "WindFarmDispatcher$InService" ({ cls := "java/lang/Object", name := "getClass", desc := "()Ljava/lang/Class;" } : Jvm.MethodName) ({ cls := "java/lang/Object", name := "getClass", desc := "()Ljava/lang/Class;" } : Jvm.MethodName)) ∈ lw_all := lw_g (lw_at lw_m3 55 rfl) rfl
theorem q771 : (Jvm.Cond.instantiable "WindFarmDispatcher$InService" (1 : Nat)) ∈ lw_all := lw_g (lw_at lw_m3 216 rfl) rfl
theorem q773 : (Jvm.Cond.instanceMethod ({ cls := "WindFarmDispatcher$InService", name := "<init>", desc := "(I)V" } : Jvm.MethodName)) ∈ lw_all := lw_g (lw_at lw_m3 218 rfl) rfl
theorem q774 : (Jvm.Cond.code ({ cls := "WindFarmDispatcher$InService", name := "<init>", desc := "(I)V" } : Jvm.MethodName) prog_12_method_1_code (2 : Nat) (Option.none : Option Jvm.ClassFile.FieldType)) ∈ lw_all := lw_g (lw_at lw_m3 219 rfl) rfl
theorem q775 : (Jvm.Cond.methodLink "WindFarmDispatcher$InService" (1 : Nat) ({ cls := "java/lang/Object", name := "<init>", desc := "()V" } : Jvm.MethodName)) ∈ lw_all := lw_g (lw_at lw_m3 220 rfl) rfl
theorem q776 : (Jvm.Cond.fieldLink "WindFarmDispatcher$InService" (7 : Nat) "WindFarmDispatcher$InService" "hoursLeft" "I") ∈ lw_all := lw_g (lw_at lw_m3 221 rfl) rfl
theorem q778 : (Jvm.Cond.laysFinal "WindFarmDispatcher$InService" "WindFarmDispatcher$InService" "hoursLeft" "I") ∈ lw_all := lw_g (lw_at lw_m3 223 rfl) rfl
theorem q779 : (Jvm.Cond.soleField "WindFarmDispatcher$InService" "hoursLeft") ∈ lw_all := lw_g (lw_at lw_m3 224 rfl) rfl
theorem q780 : (Jvm.Cond.superclass "WindFarmDispatcher$InService" "java/lang/Object") ∈ lw_all := lw_g (lw_at lw_m3 225 rfl) rfl
theorem q869 : (Jvm.Cond.instanceMethod ({ cls := "WindFarmDispatcher$InService", name := "next", desc := "()LWindFarmDispatcher$State;" } : Jvm.MethodName)) ∈ lw_all := lw_g (lw_at lw_m4 74 rfl) rfl
theorem q870 : (Jvm.Cond.selects "WindFarmDispatcher$InService" ({ cls := "WindFarmDispatcher$InService", name := "next", desc := "()LWindFarmDispatcher$State;" } : Jvm.MethodName) ({ cls := "WindFarmDispatcher$InService", name := "next", desc := "()LWindFarmDispatcher$State;" } : Jvm.MethodName)) ∈ lw_all := lw_g (lw_at lw_m4 75 rfl) rfl
theorem q871 : (Jvm.Cond.code ({ cls := "WindFarmDispatcher$InService", name := "next", desc := "()LWindFarmDispatcher$State;" } : Jvm.MethodName) prog_12_method_4_code (1 : Nat) (Option.some (Jvm.ClassFile.FieldType.object "WindFarmDispatcher$State"))) ∈ lw_all := lw_g (lw_at lw_m4 76 rfl) rfl
theorem q872 : (Jvm.Cond.classLink "WindFarmDispatcher$InService" (29 : Nat) "WindFarmDispatcher$Running") ∈ lw_all := lw_g (lw_at lw_m4 77 rfl) rfl
theorem q873 : (Jvm.Cond.methodLinkNest "WindFarmDispatcher$InService" (31 : Nat) ({ cls := "WindFarmDispatcher$Running", name := "<init>", desc := "()V" } : Jvm.MethodName) "WindFarmDispatcher") ∈ lw_tbl := lw_at lw_m4 78 rfl
theorem q874 : (Jvm.Cond.classLink "WindFarmDispatcher$InService" (8 : Nat) "WindFarmDispatcher$InService") ∈ lw_all := lw_g (lw_at lw_m4 79 rfl) rfl
theorem q875 : (Jvm.Cond.methodLink "WindFarmDispatcher$InService" (32 : Nat) ({ cls := "WindFarmDispatcher$InService", name := "<init>", desc := "(I)V" } : Jvm.MethodName)) ∈ lw_all := lw_g (lw_at lw_m4 80 rfl) rfl
theorem q1611 : (Jvm.Cond.selects "WindFarmDispatcher$InService" ({ cls := "WindFarmDispatcher$State", name := "sign", desc := "()Ljava/lang/String;" } : Jvm.MethodName) ({ cls := "WindFarmDispatcher$InService", name := "sign", desc := "()Ljava/lang/String;" } : Jvm.MethodName)) ∈ lw_all := lw_g (lw_at lw_m7 96 rfl) rfl
theorem q1612 : (Jvm.Cond.unhidden "WindFarmDispatcher$InService" "sign" "()Ljava/lang/String;") ∈ lw_tbl := lw_at lw_m7 97 rfl
theorem q1613 : (Jvm.Cond.instanceMethod ({ cls := "WindFarmDispatcher$InService", name := "sign", desc := "()Ljava/lang/String;" } : Jvm.MethodName)) ∈ lw_all := lw_g (lw_at lw_m7 98 rfl) rfl
theorem q1614 : (Jvm.Cond.publicMethod ({ cls := "WindFarmDispatcher$InService", name := "sign", desc := "()Ljava/lang/String;" } : Jvm.MethodName)) ∈ lw_tbl := lw_at lw_m7 99 rfl
theorem q1615 : (Jvm.Cond.code ({ cls := "WindFarmDispatcher$InService", name := "sign", desc := "()Ljava/lang/String;" } : Jvm.MethodName) prog_12_method_3_code (1 : Nat) (Option.some (Jvm.ClassFile.FieldType.object "java/lang/String"))) ∈ lw_all := lw_g (lw_at lw_m7 100 rfl) rfl
theorem q1616 : (Jvm.Cond.classLink "WindFarmDispatcher$InService" (13 : Nat) "java/lang/StringBuilder") ∈ lw_all := lw_g (lw_at lw_m7 101 rfl) rfl
theorem q1617 : (Jvm.Cond.methodLink "WindFarmDispatcher$InService" (15 : Nat) ({ cls := "java/lang/StringBuilder", name := "<init>", desc := "()V" } : Jvm.MethodName)) ∈ lw_all := lw_g (lw_at lw_m7 102 rfl) rfl
theorem q1618 : (Jvm.Cond.stringRef "WindFarmDispatcher$InService" (16 : Nat) "s") ∈ lw_tbl := lw_at lw_m7 103 rfl
theorem q1619 : (Jvm.Cond.methodLink "WindFarmDispatcher$InService" (18 : Nat) ({ cls := "java/lang/StringBuilder", name := "append", desc := "(Ljava/lang/String;)Ljava/lang/StringBuilder;" } : Jvm.MethodName)) ∈ lw_all := lw_g (lw_at lw_m7 104 rfl) rfl
theorem q1620 : (Jvm.Cond.methodLink "WindFarmDispatcher$InService" (22 : Nat) ({ cls := "java/lang/StringBuilder", name := "append", desc := "(I)Ljava/lang/StringBuilder;" } : Jvm.MethodName)) ∈ lw_all := lw_g (lw_at lw_m7 105 rfl) rfl
theorem q1621 : (Jvm.Cond.methodLink "WindFarmDispatcher$InService" (25 : Nat) ({ cls := "java/lang/StringBuilder", name := "toString", desc := "()Ljava/lang/String;" } : Jvm.MethodName)) ∈ lw_all := lw_g (lw_at lw_m7 106 rfl) rfl
theorem q2523 : (Jvm.Cond.castable "WindFarmDispatcher$InService" "java/lang/Object") ∈ lw_tbl := lw_at lw_m11 48 rfl
theorem in_X10 : ∀ w ∈ wsX100, w ∈ lw_all := lw_in wsX100 [778] (by decide +kernel) (by decide +kernel)
/-! WindFarmDispatcher$Curtailed -/
def RX11 : String := "WindFarmDispatcher$Curtailed"
def TX11 : u_T := fun k => match k with
  | _ => ("WindFarmDispatcher$Curtailed", "limit", "I", true)
def tyX11 : Nat → FieldType := fun k => match k with
  | _ => .int
abbrev wsX110 : List Cond := u_ws RX11 TX11 1
theorem nmX11 : ∀ a, a < 1 → ∀ b, b < 1 → a ≠ b → (TX11 a).2.1 ≠ (TX11 b).2.1 := by decide +kernel
theorem tyX11_ok : ∀ k, k < 1 → parseFieldDescriptor (TX11 k).2.2.1 = some (tyX11 k) := by decide +kernel
abbrev cX11_outputFor : ByteArray := prog_4_method_2_code
def yX11_outputFor : MethodName := ⟨RX11, "outputFor", "(I)I"⟩
def dkwX11_outputFor_0 : List UInt8 := [27, 42, 180, 0, 7, 184, 0, 13, 172]
abbrev dktX11_outputFor_0 : List UInt8 := dkwX11_outputFor_0 ++ []
theorem dksX11_outputFor_0 : cX11_outputFor.data.toList.drop 0 = dktX11_outputFor_0 := by decide +kernel
theorem dX11_outputFor_0 : decode cX11_outputFor 0 = .ok (.iload_n 1, 1) := dk_27 (dk_at dksX11_outputFor_0 0 rfl rfl)
theorem dX11_outputFor_1 : decode cX11_outputFor 1 = .ok (.aload_n 0, 1) := dk_42 (dk_at dksX11_outputFor_0 1 rfl rfl)
theorem dX11_outputFor_2 : decode cX11_outputFor 2 = .ok (.getfield 7, 3) := dk_180 0 7 (dk_at dksX11_outputFor_0 2 rfl rfl)
theorem dX11_outputFor_5 : decode cX11_outputFor 5 = .ok (.invokestatic 13, 3) := dk_184 0 13 (dk_at dksX11_outputFor_0 5 rfl rfl)
theorem dX11_outputFor_8 : decode cX11_outputFor 8 = .ok (.ireturn, 1) := dk_172 (dk_at dksX11_outputFor_0 8 rfl rfl)
abbrev cX11_init : ByteArray := prog_4_method_1_code
def yX11_init : MethodName := ⟨RX11, "<init>", "(I)V"⟩
def dkwX11_init_0 : List UInt8 := [42, 183, 0, 1, 42, 27, 181, 0, 7, 177]
abbrev dktX11_init_0 : List UInt8 := dkwX11_init_0 ++ []
theorem dksX11_init_0 : cX11_init.data.toList.drop 0 = dktX11_init_0 := by decide +kernel
theorem dX11_init_0 : decode cX11_init 0 = .ok (.aload_n 0, 1) := dk_42 (dk_at dksX11_init_0 0 rfl rfl)
theorem dX11_init_1 : decode cX11_init 1 = .ok (.invokespecial 1, 3) := dk_183 0 1 (dk_at dksX11_init_0 1 rfl rfl)
theorem dX11_init_4 : decode cX11_init 4 = .ok (.aload_n 0, 1) := dk_42 (dk_at dksX11_init_0 4 rfl rfl)
theorem dX11_init_5 : decode cX11_init 5 = .ok (.iload_n 1, 1) := dk_27 (dk_at dksX11_init_0 5 rfl rfl)
theorem dX11_init_6 : decode cX11_init 6 = .ok (.putfield 7, 3) := dk_181 0 7 (dk_at dksX11_init_0 6 rfl rfl)
theorem dX11_init_9 : decode cX11_init 9 = .ok (.return_, 1) := dk_177 (dk_at dksX11_init_0 9 rfl rfl)
abbrev cX11_sign : ByteArray := prog_4_method_3_code
def yX11_sign : MethodName := ⟨RX11, "sign", "()Ljava/lang/String;"⟩
def dkwX11_sign_0 : List UInt8 := [187, 0, 19, 89, 183, 0, 21, 18, 22, 182, 0, 24, 42, 180, 0, 7, 182, 0, 28, 182, 0, 31, 176]
abbrev dktX11_sign_0 : List UInt8 := dkwX11_sign_0 ++ []
theorem dksX11_sign_0 : cX11_sign.data.toList.drop 0 = dktX11_sign_0 := by decide +kernel
theorem dX11_sign_0 : decode cX11_sign 0 = .ok (.new 19, 3) := dk_187 0 19 (dk_at dksX11_sign_0 0 rfl rfl)
theorem dX11_sign_3 : decode cX11_sign 3 = .ok (.dup, 1) := dk_89 (dk_at dksX11_sign_0 3 rfl rfl)
theorem dX11_sign_4 : decode cX11_sign 4 = .ok (.invokespecial 21, 3) := dk_183 0 21 (dk_at dksX11_sign_0 4 rfl rfl)
theorem dX11_sign_7 : decode cX11_sign 7 = .ok (.ldc 22, 2) := dk_18 22 (dk_at dksX11_sign_0 7 rfl rfl)
theorem dX11_sign_9 : decode cX11_sign 9 = .ok (.invokevirtual 24, 3) := dk_182 0 24 (dk_at dksX11_sign_0 9 rfl rfl)
theorem dX11_sign_12 : decode cX11_sign 12 = .ok (.aload_n 0, 1) := dk_42 (dk_at dksX11_sign_0 12 rfl rfl)
theorem dX11_sign_13 : decode cX11_sign 13 = .ok (.getfield 7, 3) := dk_180 0 7 (dk_at dksX11_sign_0 13 rfl rfl)
theorem dX11_sign_16 : decode cX11_sign 16 = .ok (.invokevirtual 28, 3) := dk_182 0 28 (dk_at dksX11_sign_0 16 rfl rfl)
theorem dX11_sign_19 : decode cX11_sign 19 = .ok (.invokevirtual 31, 3) := dk_182 0 31 (dk_at dksX11_sign_0 19 rfl rfl)
theorem dX11_sign_22 : decode cX11_sign 22 = .ok (.areturn, 1) := dk_176 (dk_at dksX11_sign_0 22 rfl rfl)
theorem q106 : (Jvm.Cond.initialized "WindFarmDispatcher$Curtailed") ∈ lw_all := lw_g (lw_at lw_m1 31 rfl) rfl
theorem q415 : (Jvm.Cond.castable "WindFarmDispatcher$Curtailed" "WindFarmDispatcher$State") ∈ lw_tbl := lw_at lw_m2 100 rfl
theorem q416 : (Jvm.Cond.selects "WindFarmDispatcher$Curtailed" ({ cls := "WindFarmDispatcher$State", name := "outputFor", desc := "(I)I" } : Jvm.MethodName) ({ cls := "WindFarmDispatcher$Curtailed", name := "outputFor", desc := "(I)I" } : Jvm.MethodName)) ∈ lw_all := lw_g (lw_at lw_m2 101 rfl) rfl
theorem q417 : (Jvm.Cond.unhidden "WindFarmDispatcher$Curtailed" "outputFor" "(I)I") ∈ lw_tbl := lw_at lw_m2 102 rfl
theorem q418 : (Jvm.Cond.instanceMethod ({ cls := "WindFarmDispatcher$Curtailed", name := "outputFor", desc := "(I)I" } : Jvm.MethodName)) ∈ lw_all := lw_g (lw_at lw_m2 103 rfl) rfl
theorem q419 : (Jvm.Cond.publicMethod ({ cls := "WindFarmDispatcher$Curtailed", name := "outputFor", desc := "(I)I" } : Jvm.MethodName)) ∈ lw_tbl := lw_at lw_m2 104 rfl
theorem q420 : (Jvm.Cond.code ({ cls := "WindFarmDispatcher$Curtailed", name := "outputFor", desc := "(I)I" } : Jvm.MethodName) prog_4_method_2_code (2 : Nat) (Option.some Jvm.ClassFile.FieldType.int)) ∈ lw_all := lw_g (lw_at lw_m2 105 rfl) rfl
theorem q421 : (Jvm.Cond.methodLink "WindFarmDispatcher$Curtailed" (13 : Nat) ({ cls := "java/lang/Math", name := "min", desc := "(II)I" } : Jvm.MethodName)) ∈ lw_all := lw_g (lw_at lw_m2 106 rfl) rfl
theorem q603 : (Jvm.Cond.selects "WindFarmDispatcher$Curtailed" ({ cls := "java/lang/Object", name := "getClass", desc := "()Ljava/lang/Class;" } : Jvm.MethodName) ({ cls := "java/lang/Object", name := "getClass", desc := "()Ljava/lang/Class;" } : Jvm.MethodName)) ∈ lw_all := lw_g (lw_at lw_m3 48 rfl) rfl
theorem q790 : (Jvm.Cond.instantiable "WindFarmDispatcher$Curtailed" (1 : Nat)) ∈ lw_all := lw_g (lw_at lw_m3 235 rfl) rfl
theorem q792 : (Jvm.Cond.instanceMethod ({ cls := "WindFarmDispatcher$Curtailed", name := "<init>", desc := "(I)V" } : Jvm.MethodName)) ∈ lw_all := lw_g (lw_at lw_m3 237 rfl) rfl
theorem q793 : (Jvm.Cond.code ({ cls := "WindFarmDispatcher$Curtailed", name := "<init>", desc := "(I)V" } : Jvm.MethodName) prog_4_method_1_code (2 : Nat) (Option.none : Option Jvm.ClassFile.FieldType)) ∈ lw_all := lw_g (lw_at lw_m3 238 rfl) rfl
theorem q794 : (Jvm.Cond.methodLink "WindFarmDispatcher$Curtailed" (1 : Nat) ({ cls := "java/lang/Object", name := "<init>", desc := "()V" } : Jvm.MethodName)) ∈ lw_all := lw_g (lw_at lw_m3 239 rfl) rfl
theorem q795 : (Jvm.Cond.fieldLink "WindFarmDispatcher$Curtailed" (7 : Nat) "WindFarmDispatcher$Curtailed" "limit" "I") ∈ lw_all := lw_g (lw_at lw_m4 0 rfl) rfl
theorem q797 : (Jvm.Cond.laysFinal "WindFarmDispatcher$Curtailed" "WindFarmDispatcher$Curtailed" "limit" "I") ∈ lw_all := lw_g (lw_at lw_m4 2 rfl) rfl
theorem q798 : (Jvm.Cond.soleField "WindFarmDispatcher$Curtailed" "limit") ∈ lw_all := lw_g (lw_at lw_m4 3 rfl) rfl
theorem q799 : (Jvm.Cond.superclass "WindFarmDispatcher$Curtailed" "java/lang/Object") ∈ lw_all := lw_g (lw_at lw_m4 4 rfl) rfl
theorem q1529 : (Jvm.Cond.selects "WindFarmDispatcher$Curtailed" ({ cls := "WindFarmDispatcher$State", name := "sign", desc := "()Ljava/lang/String;" } : Jvm.MethodName) ({ cls := "WindFarmDispatcher$Curtailed", name := "sign", desc := "()Ljava/lang/String;" } : Jvm.MethodName)) ∈ lw_all := lw_g (lw_at lw_m7 14 rfl) rfl
theorem q1530 : (Jvm.Cond.unhidden "WindFarmDispatcher$Curtailed" "sign" "()Ljava/lang/String;") ∈ lw_tbl := lw_at lw_m7 15 rfl
theorem q1531 : (Jvm.Cond.instanceMethod ({ cls := "WindFarmDispatcher$Curtailed", name := "sign", desc := "()Ljava/lang/String;" } : Jvm.MethodName)) ∈ lw_all := lw_g (lw_at lw_m7 16 rfl) rfl
theorem q1532 : (Jvm.Cond.publicMethod ({ cls := "WindFarmDispatcher$Curtailed", name := "sign", desc := "()Ljava/lang/String;" } : Jvm.MethodName)) ∈ lw_tbl := lw_at lw_m7 17 rfl
theorem q1533 : (Jvm.Cond.code ({ cls := "WindFarmDispatcher$Curtailed", name := "sign", desc := "()Ljava/lang/String;" } : Jvm.MethodName) prog_4_method_3_code (1 : Nat) (Option.some (Jvm.ClassFile.FieldType.object "java/lang/String"))) ∈ lw_all := lw_g (lw_at lw_m7 18 rfl) rfl
theorem q1534 : (Jvm.Cond.classLink "WindFarmDispatcher$Curtailed" (19 : Nat) "java/lang/StringBuilder") ∈ lw_all := lw_g (lw_at lw_m7 19 rfl) rfl
theorem q1535 : (Jvm.Cond.methodLink "WindFarmDispatcher$Curtailed" (21 : Nat) ({ cls := "java/lang/StringBuilder", name := "<init>", desc := "()V" } : Jvm.MethodName)) ∈ lw_all := lw_g (lw_at lw_m7 20 rfl) rfl
theorem q1536 : (Jvm.Cond.stringRef "WindFarmDispatcher$Curtailed" (22 : Nat) "<") ∈ lw_tbl := lw_at lw_m7 21 rfl
theorem q1537 : (Jvm.Cond.methodLink "WindFarmDispatcher$Curtailed" (24 : Nat) ({ cls := "java/lang/StringBuilder", name := "append", desc := "(Ljava/lang/String;)Ljava/lang/StringBuilder;" } : Jvm.MethodName)) ∈ lw_all := lw_g (lw_at lw_m7 22 rfl) rfl
theorem q1538 : (Jvm.Cond.methodLink "WindFarmDispatcher$Curtailed" (28 : Nat) ({ cls := "java/lang/StringBuilder", name := "append", desc := "(I)Ljava/lang/StringBuilder;" } : Jvm.MethodName)) ∈ lw_all := lw_g (lw_at lw_m7 23 rfl) rfl
theorem q1539 : (Jvm.Cond.methodLink "WindFarmDispatcher$Curtailed" (31 : Nat) ({ cls := "java/lang/StringBuilder", name := "toString", desc := "()Ljava/lang/String;" } : Jvm.MethodName)) ∈ lw_all := lw_g (lw_at lw_m7 24 rfl) rfl
theorem q2524 : (Jvm.Cond.castable "WindFarmDispatcher$Curtailed" "java/lang/Object") ∈ lw_tbl := lw_at lw_m11 49 rfl
theorem in_X11 : ∀ w ∈ wsX110, w ∈ lw_all := lw_in wsX110 [797] (by decide +kernel) (by decide +kernel)
/-! WindFarmDispatcher$Parser -/
def RX12 : String := "WindFarmDispatcher$Parser"
def TX12 : u_T := fun k => match k with
  | 0 => ("WindFarmDispatcher$Parser", "text", "Ljava/lang/String;", true)
  | 1 => ("WindFarmDispatcher$Parser", "commands", "Ljava/util/ArrayList;", true)
  | _ => ("WindFarmDispatcher$Parser", "offset", "I", false)
def tyX12 : Nat → FieldType := fun k => match k with
  | 0 => .object "java/lang/String"
  | 1 => .object "java/util/ArrayList"
  | _ => .int
abbrev wsX120 : List Cond := u_ws RX12 TX12 3
theorem nmX12 : ∀ a, a < 3 → ∀ b, b < 3 → a ≠ b → (TX12 a).2.1 ≠ (TX12 b).2.1 := by decide +kernel
theorem tyX12_ok : ∀ k, k < 3 → parseFieldDescriptor (TX12 k).2.2.1 = some (tyX12 k) := by decide +kernel
abbrev cX12_init : ByteArray := prog_13_method_1_code
def yX12_init : MethodName := ⟨RX12, "<init>", "(Ljava/lang/String;)V"⟩
def dkwX12_init_0 : List UInt8 := [42, 183, 0, 3, 42, 187, 0, 9, 89, 183, 0, 11, 181, 0, 12, 42, 43, 181, 0, 18, 177]
abbrev dktX12_init_0 : List UInt8 := dkwX12_init_0 ++ []
theorem dksX12_init_0 : cX12_init.data.toList.drop 0 = dktX12_init_0 := by decide +kernel
theorem dX12_init_0 : decode cX12_init 0 = .ok (.aload_n 0, 1) := dk_42 (dk_at dksX12_init_0 0 rfl rfl)
theorem dX12_init_1 : decode cX12_init 1 = .ok (.invokespecial 3, 3) := dk_183 0 3 (dk_at dksX12_init_0 1 rfl rfl)
theorem dX12_init_4 : decode cX12_init 4 = .ok (.aload_n 0, 1) := dk_42 (dk_at dksX12_init_0 4 rfl rfl)
theorem dX12_init_5 : decode cX12_init 5 = .ok (.new 9, 3) := dk_187 0 9 (dk_at dksX12_init_0 5 rfl rfl)
theorem dX12_init_8 : decode cX12_init 8 = .ok (.dup, 1) := dk_89 (dk_at dksX12_init_0 8 rfl rfl)
theorem dX12_init_9 : decode cX12_init 9 = .ok (.invokespecial 11, 3) := dk_183 0 11 (dk_at dksX12_init_0 9 rfl rfl)
theorem dX12_init_12 : decode cX12_init 12 = .ok (.putfield 12, 3) := dk_181 0 12 (dk_at dksX12_init_0 12 rfl rfl)
theorem dX12_init_15 : decode cX12_init 15 = .ok (.aload_n 0, 1) := dk_42 (dk_at dksX12_init_0 15 rfl rfl)
theorem dX12_init_16 : decode cX12_init 16 = .ok (.aload_n 1, 1) := dk_43 (dk_at dksX12_init_0 16 rfl rfl)
theorem dX12_init_17 : decode cX12_init 17 = .ok (.putfield 18, 3) := dk_181 0 18 (dk_at dksX12_init_0 17 rfl rfl)
theorem dX12_init_20 : decode cX12_init 20 = .ok (.return_, 1) := dk_177 (dk_at dksX12_init_0 20 rfl rfl)
abbrev cX12_parse : ByteArray := prog_13_method_8_code
def yX12_parse : MethodName := ⟨RX12, "parse", "()Ljava/util/ArrayList;"⟩
def dkwX12_parse_2 : List UInt8 := [42, 180, 0, 12, 176]
abbrev dktX12_parse_2 : List UInt8 := dkwX12_parse_2 ++ []
def dkwX12_parse_1 : List UInt8 := [162, 0, 24, 42, 16, 59, 182, 0, 75, 42, 180, 0, 12, 42, 182, 0, 84, 182, 0, 88, 87, 167, 255, 224]
abbrev dktX12_parse_1 : List UInt8 := dkwX12_parse_1 ++ dktX12_parse_2
def dkwX12_parse_0 : List UInt8 := [42, 180, 0, 12, 42, 182, 0, 84, 182, 0, 88, 87, 42, 180, 0, 22, 42, 180, 0, 18, 182, 0, 26]
abbrev dktX12_parse_0 : List UInt8 := dkwX12_parse_0 ++ dktX12_parse_1
theorem dksX12_parse_0 : cX12_parse.data.toList.drop 0 = dktX12_parse_0 := by decide +kernel
theorem dksX12_parse_1 : cX12_parse.data.toList.drop 23 = dktX12_parse_1 := dk_seg dksX12_parse_0 23 rfl rfl
theorem dksX12_parse_2 : cX12_parse.data.toList.drop 47 = dktX12_parse_2 := dk_seg dksX12_parse_1 24 rfl rfl
theorem dX12_parse_0 : decode cX12_parse 0 = .ok (.aload_n 0, 1) := dk_42 (dk_at dksX12_parse_0 0 rfl rfl)
theorem dX12_parse_1 : decode cX12_parse 1 = .ok (.getfield 12, 3) := dk_180 0 12 (dk_at dksX12_parse_0 1 rfl rfl)
theorem dX12_parse_4 : decode cX12_parse 4 = .ok (.aload_n 0, 1) := dk_42 (dk_at dksX12_parse_0 4 rfl rfl)
theorem dX12_parse_5 : decode cX12_parse 5 = .ok (.invokevirtual 84, 3) := dk_182 0 84 (dk_at dksX12_parse_0 5 rfl rfl)
theorem dX12_parse_8 : decode cX12_parse 8 = .ok (.invokevirtual 88, 3) := dk_182 0 88 (dk_at dksX12_parse_0 8 rfl rfl)
theorem dX12_parse_11 : decode cX12_parse 11 = .ok (.pop, 1) := dk_87 (dk_at dksX12_parse_0 11 rfl rfl)
theorem dX12_parse_12 : decode cX12_parse 12 = .ok (.aload_n 0, 1) := dk_42 (dk_at dksX12_parse_0 12 rfl rfl)
theorem dX12_parse_13 : decode cX12_parse 13 = .ok (.getfield 22, 3) := dk_180 0 22 (dk_at dksX12_parse_0 13 rfl rfl)
theorem dX12_parse_16 : decode cX12_parse 16 = .ok (.aload_n 0, 1) := dk_42 (dk_at dksX12_parse_0 16 rfl rfl)
theorem dX12_parse_17 : decode cX12_parse 17 = .ok (.getfield 18, 3) := dk_180 0 18 (dk_at dksX12_parse_0 17 rfl rfl)
theorem dX12_parse_20 : decode cX12_parse 20 = .ok (.invokevirtual 26, 3) := dk_182 0 26 (dk_at dksX12_parse_0 20 rfl rfl)
theorem dX12_parse_23 : decode cX12_parse 23 = .ok (.if_icmp .ge 24, 3) := dk_162 0 24 (dk_at dksX12_parse_1 0 rfl rfl)
theorem dX12_parse_26 : decode cX12_parse 26 = .ok (.aload_n 0, 1) := dk_42 (dk_at dksX12_parse_1 3 rfl rfl)
theorem dX12_parse_27 : decode cX12_parse 27 = .ok (.bipush 59, 2) := dk_16 59 (dk_at dksX12_parse_1 4 rfl rfl)
theorem dX12_parse_29 : decode cX12_parse 29 = .ok (.invokevirtual 75, 3) := dk_182 0 75 (dk_at dksX12_parse_1 6 rfl rfl)
theorem dX12_parse_32 : decode cX12_parse 32 = .ok (.aload_n 0, 1) := dk_42 (dk_at dksX12_parse_1 9 rfl rfl)
theorem dX12_parse_33 : decode cX12_parse 33 = .ok (.getfield 12, 3) := dk_180 0 12 (dk_at dksX12_parse_1 10 rfl rfl)
theorem dX12_parse_36 : decode cX12_parse 36 = .ok (.aload_n 0, 1) := dk_42 (dk_at dksX12_parse_1 13 rfl rfl)
theorem dX12_parse_37 : decode cX12_parse 37 = .ok (.invokevirtual 84, 3) := dk_182 0 84 (dk_at dksX12_parse_1 14 rfl rfl)
theorem dX12_parse_40 : decode cX12_parse 40 = .ok (.invokevirtual 88, 3) := dk_182 0 88 (dk_at dksX12_parse_1 17 rfl rfl)
theorem dX12_parse_43 : decode cX12_parse 43 = .ok (.pop, 1) := dk_87 (dk_at dksX12_parse_1 20 rfl rfl)
theorem dX12_parse_44 : decode cX12_parse 44 = .ok (.goto (-32), 3) := dk_167 255 224 (dk_at dksX12_parse_1 21 rfl rfl)
theorem dX12_parse_47 : decode cX12_parse 47 = .ok (.aload_n 0, 1) := dk_42 (dk_at dksX12_parse_2 0 rfl rfl)
theorem dX12_parse_48 : decode cX12_parse 48 = .ok (.getfield 12, 3) := dk_180 0 12 (dk_at dksX12_parse_2 1 rfl rfl)
theorem dX12_parse_51 : decode cX12_parse 51 = .ok (.areturn, 1) := dk_176 (dk_at dksX12_parse_2 4 rfl rfl)
abbrev cX12_command : ByteArray := prog_13_method_7_code
def yX12_command : MethodName := ⟨RX12, "command", "()LWindFarmDispatcher$Command;"⟩
def dkwX12_command_7 : List UInt8 := [182, 0, 72, 183, 0, 69, 176, 187, 0, 64, 89, 27, 42, 182, 0, 72, 183, 0, 66, 176]
abbrev dktX12_command_7 : List UInt8 := dkwX12_command_7 ++ []
def dkwX12_command_6 : List UInt8 := [182, 0, 75, 42, 182, 0, 72, 62, 42, 16, 42, 182, 0, 75, 187, 0, 64, 89, 27, 28, 29, 42]
abbrev dktX12_command_6 : List UInt8 := dkwX12_command_6 ++ dktX12_command_7
def dkwX12_command_5 : List UInt8 := [187, 0, 64, 89, 27, 28, 42, 182, 0, 72, 2, 2, 183, 0, 81, 176, 42, 182, 0, 72, 61, 42, 16, 58]
abbrev dktX12_command_5 : List UInt8 := dkwX12_command_5 ++ dktX12_command_6
def dkwX12_command_4 : List UInt8 := [187, 0, 64, 89, 27, 28, 42, 182, 0, 72, 2, 183, 0, 69, 176, 42, 18, 79, 182, 0, 51, 61]
abbrev dktX12_command_4 : List UInt8 := dkwX12_command_4 ++ dktX12_command_5
def dkwX12_command_3 : List UInt8 := [27, 28, 29, 42, 182, 0, 55, 183, 0, 69, 176, 42, 182, 0, 72, 61, 42, 16, 58, 182, 0, 75]
abbrev dktX12_command_3 : List UInt8 := dkwX12_command_3 ++ dktX12_command_4
def dkwX12_command_2 : List UInt8 := [187, 0, 64, 89, 27, 2, 183, 0, 66, 176, 42, 182, 0, 55, 61, 42, 182, 0, 55, 62, 187, 0, 64, 89]
abbrev dktX12_command_2 : List UInt8 := dkwX12_command_2 ++ dktX12_command_3
def dkwX12_command_1 : List UInt8 := [170, 0, 0, 0, 0, 0, 0, 229, 0, 0, 0, 97, 0, 0, 0, 119, 0, 0, 0, 118, 0, 0, 0, 192, 0, 0, 0, 143, 0, 0, 0, 108, 0, 0, 0, 229, 0, 0, 0, 229, 0, 0, 0, 229, 0, 0, 0, 229, 0, 0, 0, 229, 0, 0, 0, 229, 0, 0, 0, 229, 0, 0, 0, 229, 0, 0, 0, 229, 0, 0, 0, 229, 0, 0, 0, 229, 0, 0, 0, 229, 0, 0, 0, 229, 0, 0, 0, 229, 0, 0, 0, 143, 0, 0, 0, 229, 0, 0, 0, 229, 0, 0, 0, 108, 0, 0, 0, 169]
abbrev dktX12_command_1 : List UInt8 := dkwX12_command_1 ++ dktX12_command_2
def dkwX12_command_0 : List UInt8 := [42, 18, 62, 182, 0, 51, 60, 27]
abbrev dktX12_command_0 : List UInt8 := dkwX12_command_0 ++ dktX12_command_1
theorem dksX12_command_0 : cX12_command.data.toList.drop 0 = dktX12_command_0 := by decide +kernel
theorem dksX12_command_1 : cX12_command.data.toList.drop 8 = dktX12_command_1 := dk_seg dksX12_command_0 8 rfl rfl
theorem dksX12_command_2 : cX12_command.data.toList.drop 116 = dktX12_command_2 := dk_seg dksX12_command_1 108 rfl rfl
theorem dksX12_command_3 : cX12_command.data.toList.drop 140 = dktX12_command_3 := dk_seg dksX12_command_2 24 rfl rfl
theorem dksX12_command_4 : cX12_command.data.toList.drop 162 = dktX12_command_4 := dk_seg dksX12_command_3 22 rfl rfl
theorem dksX12_command_5 : cX12_command.data.toList.drop 184 = dktX12_command_5 := dk_seg dksX12_command_4 22 rfl rfl
theorem dksX12_command_6 : cX12_command.data.toList.drop 208 = dktX12_command_6 := dk_seg dksX12_command_5 24 rfl rfl
theorem dksX12_command_7 : cX12_command.data.toList.drop 230 = dktX12_command_7 := dk_seg dksX12_command_6 22 rfl rfl
theorem dX12_command_0 : decode cX12_command 0 = .ok (.aload_n 0, 1) := dk_42 (dk_at dksX12_command_0 0 rfl rfl)
theorem dX12_command_1 : decode cX12_command 1 = .ok (.ldc 62, 2) := dk_18 62 (dk_at dksX12_command_0 1 rfl rfl)
theorem dX12_command_3 : decode cX12_command 3 = .ok (.invokevirtual 51, 3) := dk_182 0 51 (dk_at dksX12_command_0 3 rfl rfl)
theorem dX12_command_6 : decode cX12_command 6 = .ok (.istore_n 1, 1) := dk_60 (dk_at dksX12_command_0 6 rfl rfl)
theorem dX12_command_7 : decode cX12_command 7 = .ok (.iload_n 1, 1) := dk_27 (dk_at dksX12_command_0 7 rfl rfl)
theorem dX12_command_8 : decode cX12_command 8 = .ok (.tableswitch 229 97 119 #[118, 192, 143, 108, 229, 229, 229, 229, 229, 229, 229, 229, 229, 229, 229, 229, 229, 229, 143, 229, 229, 108, 169], 108) := by decide +kernel
theorem dX12_command_116 : decode cX12_command 116 = .ok (.new 64, 3) := dk_187 0 64 (dk_at dksX12_command_2 0 rfl rfl)
theorem dX12_command_119 : decode cX12_command 119 = .ok (.dup, 1) := dk_89 (dk_at dksX12_command_2 3 rfl rfl)
theorem dX12_command_120 : decode cX12_command 120 = .ok (.iload_n 1, 1) := dk_27 (dk_at dksX12_command_2 4 rfl rfl)
theorem dX12_command_121 : decode cX12_command 121 = .ok (.iconst (-1), 1) := dk_2 (dk_at dksX12_command_2 5 rfl rfl)
theorem dX12_command_122 : decode cX12_command 122 = .ok (.invokespecial 66, 3) := dk_183 0 66 (dk_at dksX12_command_2 6 rfl rfl)
theorem dX12_command_125 : decode cX12_command 125 = .ok (.areturn, 1) := dk_176 (dk_at dksX12_command_2 9 rfl rfl)
theorem dX12_command_126 : decode cX12_command 126 = .ok (.aload_n 0, 1) := dk_42 (dk_at dksX12_command_2 10 rfl rfl)
theorem dX12_command_127 : decode cX12_command 127 = .ok (.invokevirtual 55, 3) := dk_182 0 55 (dk_at dksX12_command_2 11 rfl rfl)
theorem dX12_command_130 : decode cX12_command 130 = .ok (.istore_n 2, 1) := dk_61 (dk_at dksX12_command_2 14 rfl rfl)
theorem dX12_command_131 : decode cX12_command 131 = .ok (.aload_n 0, 1) := dk_42 (dk_at dksX12_command_2 15 rfl rfl)
theorem dX12_command_132 : decode cX12_command 132 = .ok (.invokevirtual 55, 3) := dk_182 0 55 (dk_at dksX12_command_2 16 rfl rfl)
theorem dX12_command_135 : decode cX12_command 135 = .ok (.istore_n 3, 1) := dk_62 (dk_at dksX12_command_2 19 rfl rfl)
theorem dX12_command_136 : decode cX12_command 136 = .ok (.new 64, 3) := dk_187 0 64 (dk_at dksX12_command_2 20 rfl rfl)
theorem dX12_command_139 : decode cX12_command 139 = .ok (.dup, 1) := dk_89 (dk_at dksX12_command_2 23 rfl rfl)
theorem dX12_command_140 : decode cX12_command 140 = .ok (.iload_n 1, 1) := dk_27 (dk_at dksX12_command_3 0 rfl rfl)
theorem dX12_command_141 : decode cX12_command 141 = .ok (.iload_n 2, 1) := dk_28 (dk_at dksX12_command_3 1 rfl rfl)
theorem dX12_command_142 : decode cX12_command 142 = .ok (.iload_n 3, 1) := dk_29 (dk_at dksX12_command_3 2 rfl rfl)
theorem dX12_command_143 : decode cX12_command 143 = .ok (.aload_n 0, 1) := dk_42 (dk_at dksX12_command_3 3 rfl rfl)
theorem dX12_command_144 : decode cX12_command 144 = .ok (.invokevirtual 55, 3) := dk_182 0 55 (dk_at dksX12_command_3 4 rfl rfl)
theorem dX12_command_147 : decode cX12_command 147 = .ok (.invokespecial 69, 3) := dk_183 0 69 (dk_at dksX12_command_3 7 rfl rfl)
theorem dX12_command_150 : decode cX12_command 150 = .ok (.areturn, 1) := dk_176 (dk_at dksX12_command_3 10 rfl rfl)
theorem dX12_command_151 : decode cX12_command 151 = .ok (.aload_n 0, 1) := dk_42 (dk_at dksX12_command_3 11 rfl rfl)
theorem dX12_command_152 : decode cX12_command 152 = .ok (.invokevirtual 72, 3) := dk_182 0 72 (dk_at dksX12_command_3 12 rfl rfl)
theorem dX12_command_155 : decode cX12_command 155 = .ok (.istore_n 2, 1) := dk_61 (dk_at dksX12_command_3 15 rfl rfl)
theorem dX12_command_156 : decode cX12_command 156 = .ok (.aload_n 0, 1) := dk_42 (dk_at dksX12_command_3 16 rfl rfl)
theorem dX12_command_157 : decode cX12_command 157 = .ok (.bipush 58, 2) := dk_16 58 (dk_at dksX12_command_3 17 rfl rfl)
theorem dX12_command_159 : decode cX12_command 159 = .ok (.invokevirtual 75, 3) := dk_182 0 75 (dk_at dksX12_command_3 19 rfl rfl)
theorem dX12_command_162 : decode cX12_command 162 = .ok (.new 64, 3) := dk_187 0 64 (dk_at dksX12_command_4 0 rfl rfl)
theorem dX12_command_165 : decode cX12_command 165 = .ok (.dup, 1) := dk_89 (dk_at dksX12_command_4 3 rfl rfl)
theorem dX12_command_166 : decode cX12_command 166 = .ok (.iload_n 1, 1) := dk_27 (dk_at dksX12_command_4 4 rfl rfl)
theorem dX12_command_167 : decode cX12_command 167 = .ok (.iload_n 2, 1) := dk_28 (dk_at dksX12_command_4 5 rfl rfl)
theorem dX12_command_168 : decode cX12_command 168 = .ok (.aload_n 0, 1) := dk_42 (dk_at dksX12_command_4 6 rfl rfl)
theorem dX12_command_169 : decode cX12_command 169 = .ok (.invokevirtual 72, 3) := dk_182 0 72 (dk_at dksX12_command_4 7 rfl rfl)
theorem dX12_command_172 : decode cX12_command 172 = .ok (.iconst (-1), 1) := dk_2 (dk_at dksX12_command_4 10 rfl rfl)
theorem dX12_command_173 : decode cX12_command 173 = .ok (.invokespecial 69, 3) := dk_183 0 69 (dk_at dksX12_command_4 11 rfl rfl)
theorem dX12_command_176 : decode cX12_command 176 = .ok (.areturn, 1) := dk_176 (dk_at dksX12_command_4 14 rfl rfl)
theorem dX12_command_177 : decode cX12_command 177 = .ok (.aload_n 0, 1) := dk_42 (dk_at dksX12_command_4 15 rfl rfl)
theorem dX12_command_178 : decode cX12_command 178 = .ok (.ldc 79, 2) := dk_18 79 (dk_at dksX12_command_4 16 rfl rfl)
theorem dX12_command_180 : decode cX12_command 180 = .ok (.invokevirtual 51, 3) := dk_182 0 51 (dk_at dksX12_command_4 18 rfl rfl)
theorem dX12_command_183 : decode cX12_command 183 = .ok (.istore_n 2, 1) := dk_61 (dk_at dksX12_command_4 21 rfl rfl)
theorem dX12_command_184 : decode cX12_command 184 = .ok (.new 64, 3) := dk_187 0 64 (dk_at dksX12_command_5 0 rfl rfl)
theorem dX12_command_187 : decode cX12_command 187 = .ok (.dup, 1) := dk_89 (dk_at dksX12_command_5 3 rfl rfl)
theorem dX12_command_188 : decode cX12_command 188 = .ok (.iload_n 1, 1) := dk_27 (dk_at dksX12_command_5 4 rfl rfl)
theorem dX12_command_189 : decode cX12_command 189 = .ok (.iload_n 2, 1) := dk_28 (dk_at dksX12_command_5 5 rfl rfl)
theorem dX12_command_190 : decode cX12_command 190 = .ok (.aload_n 0, 1) := dk_42 (dk_at dksX12_command_5 6 rfl rfl)
theorem dX12_command_191 : decode cX12_command 191 = .ok (.invokevirtual 72, 3) := dk_182 0 72 (dk_at dksX12_command_5 7 rfl rfl)
theorem dX12_command_194 : decode cX12_command 194 = .ok (.iconst (-1), 1) := dk_2 (dk_at dksX12_command_5 10 rfl rfl)
theorem dX12_command_195 : decode cX12_command 195 = .ok (.iconst (-1), 1) := dk_2 (dk_at dksX12_command_5 11 rfl rfl)
theorem dX12_command_196 : decode cX12_command 196 = .ok (.invokespecial 81, 3) := dk_183 0 81 (dk_at dksX12_command_5 12 rfl rfl)
theorem dX12_command_199 : decode cX12_command 199 = .ok (.areturn, 1) := dk_176 (dk_at dksX12_command_5 15 rfl rfl)
theorem dX12_command_200 : decode cX12_command 200 = .ok (.aload_n 0, 1) := dk_42 (dk_at dksX12_command_5 16 rfl rfl)
theorem dX12_command_201 : decode cX12_command 201 = .ok (.invokevirtual 72, 3) := dk_182 0 72 (dk_at dksX12_command_5 17 rfl rfl)
theorem dX12_command_204 : decode cX12_command 204 = .ok (.istore_n 2, 1) := dk_61 (dk_at dksX12_command_5 20 rfl rfl)
theorem dX12_command_205 : decode cX12_command 205 = .ok (.aload_n 0, 1) := dk_42 (dk_at dksX12_command_5 21 rfl rfl)
theorem dX12_command_206 : decode cX12_command 206 = .ok (.bipush 58, 2) := dk_16 58 (dk_at dksX12_command_5 22 rfl rfl)
theorem dX12_command_208 : decode cX12_command 208 = .ok (.invokevirtual 75, 3) := dk_182 0 75 (dk_at dksX12_command_6 0 rfl rfl)
theorem dX12_command_211 : decode cX12_command 211 = .ok (.aload_n 0, 1) := dk_42 (dk_at dksX12_command_6 3 rfl rfl)
theorem dX12_command_212 : decode cX12_command 212 = .ok (.invokevirtual 72, 3) := dk_182 0 72 (dk_at dksX12_command_6 4 rfl rfl)
theorem dX12_command_215 : decode cX12_command 215 = .ok (.istore_n 3, 1) := dk_62 (dk_at dksX12_command_6 7 rfl rfl)
theorem dX12_command_216 : decode cX12_command 216 = .ok (.aload_n 0, 1) := dk_42 (dk_at dksX12_command_6 8 rfl rfl)
theorem dX12_command_217 : decode cX12_command 217 = .ok (.bipush 42, 2) := dk_16 42 (dk_at dksX12_command_6 9 rfl rfl)
theorem dX12_command_219 : decode cX12_command 219 = .ok (.invokevirtual 75, 3) := dk_182 0 75 (dk_at dksX12_command_6 11 rfl rfl)
theorem dX12_command_222 : decode cX12_command 222 = .ok (.new 64, 3) := dk_187 0 64 (dk_at dksX12_command_6 14 rfl rfl)
theorem dX12_command_225 : decode cX12_command 225 = .ok (.dup, 1) := dk_89 (dk_at dksX12_command_6 17 rfl rfl)
theorem dX12_command_226 : decode cX12_command 226 = .ok (.iload_n 1, 1) := dk_27 (dk_at dksX12_command_6 18 rfl rfl)
theorem dX12_command_227 : decode cX12_command 227 = .ok (.iload_n 2, 1) := dk_28 (dk_at dksX12_command_6 19 rfl rfl)
theorem dX12_command_228 : decode cX12_command 228 = .ok (.iload_n 3, 1) := dk_29 (dk_at dksX12_command_6 20 rfl rfl)
theorem dX12_command_229 : decode cX12_command 229 = .ok (.aload_n 0, 1) := dk_42 (dk_at dksX12_command_6 21 rfl rfl)
theorem dX12_command_230 : decode cX12_command 230 = .ok (.invokevirtual 72, 3) := dk_182 0 72 (dk_at dksX12_command_7 0 rfl rfl)
theorem dX12_command_233 : decode cX12_command 233 = .ok (.invokespecial 69, 3) := dk_183 0 69 (dk_at dksX12_command_7 3 rfl rfl)
theorem dX12_command_236 : decode cX12_command 236 = .ok (.areturn, 1) := dk_176 (dk_at dksX12_command_7 6 rfl rfl)
theorem dX12_command_237 : decode cX12_command 237 = .ok (.new 64, 3) := dk_187 0 64 (dk_at dksX12_command_7 7 rfl rfl)
theorem dX12_command_240 : decode cX12_command 240 = .ok (.dup, 1) := dk_89 (dk_at dksX12_command_7 10 rfl rfl)
theorem dX12_command_241 : decode cX12_command 241 = .ok (.iload_n 1, 1) := dk_27 (dk_at dksX12_command_7 11 rfl rfl)
theorem dX12_command_242 : decode cX12_command 242 = .ok (.aload_n 0, 1) := dk_42 (dk_at dksX12_command_7 12 rfl rfl)
theorem dX12_command_243 : decode cX12_command 243 = .ok (.invokevirtual 72, 3) := dk_182 0 72 (dk_at dksX12_command_7 13 rfl rfl)
theorem dX12_command_246 : decode cX12_command 246 = .ok (.invokespecial 66, 3) := dk_183 0 66 (dk_at dksX12_command_7 16 rfl rfl)
theorem dX12_command_249 : decode cX12_command 249 = .ok (.areturn, 1) := dk_176 (dk_at dksX12_command_7 19 rfl rfl)
abbrev cX12_letter : ByteArray := prog_13_method_4_code
def yX12_letter : MethodName := ⟨RX12, "letter", "(Ljava/lang/String;)C"⟩
def dkwX12_letter_2 : List UInt8 := [181, 0, 22, 28, 172]
abbrev dktX12_letter_2 : List UInt8 := dkwX12_letter_2 ++ []
def dkwX12_letter_1 : List UInt8 := [156, 0, 15, 187, 0, 40, 89, 42, 180, 0, 22, 183, 0, 42, 191, 42, 89, 180, 0, 22, 4, 96]
abbrev dktX12_letter_1 : List UInt8 := dkwX12_letter_1 ++ dktX12_letter_2
def dkwX12_letter_0 : List UInt8 := [42, 182, 0, 36, 61, 42, 180, 0, 22, 42, 180, 0, 18, 182, 0, 26, 159, 0, 11, 43, 28, 182, 0, 45]
abbrev dktX12_letter_0 : List UInt8 := dkwX12_letter_0 ++ dktX12_letter_1
theorem dksX12_letter_0 : cX12_letter.data.toList.drop 0 = dktX12_letter_0 := by decide +kernel
theorem dksX12_letter_1 : cX12_letter.data.toList.drop 24 = dktX12_letter_1 := dk_seg dksX12_letter_0 24 rfl rfl
theorem dksX12_letter_2 : cX12_letter.data.toList.drop 46 = dktX12_letter_2 := dk_seg dksX12_letter_1 22 rfl rfl
theorem dX12_letter_0 : decode cX12_letter 0 = .ok (.aload_n 0, 1) := dk_42 (dk_at dksX12_letter_0 0 rfl rfl)
theorem dX12_letter_1 : decode cX12_letter 1 = .ok (.invokevirtual 36, 3) := dk_182 0 36 (dk_at dksX12_letter_0 1 rfl rfl)
theorem dX12_letter_4 : decode cX12_letter 4 = .ok (.istore_n 2, 1) := dk_61 (dk_at dksX12_letter_0 4 rfl rfl)
theorem dX12_letter_5 : decode cX12_letter 5 = .ok (.aload_n 0, 1) := dk_42 (dk_at dksX12_letter_0 5 rfl rfl)
theorem dX12_letter_6 : decode cX12_letter 6 = .ok (.getfield 22, 3) := dk_180 0 22 (dk_at dksX12_letter_0 6 rfl rfl)
theorem dX12_letter_9 : decode cX12_letter 9 = .ok (.aload_n 0, 1) := dk_42 (dk_at dksX12_letter_0 9 rfl rfl)
theorem dX12_letter_10 : decode cX12_letter 10 = .ok (.getfield 18, 3) := dk_180 0 18 (dk_at dksX12_letter_0 10 rfl rfl)
theorem dX12_letter_13 : decode cX12_letter 13 = .ok (.invokevirtual 26, 3) := dk_182 0 26 (dk_at dksX12_letter_0 13 rfl rfl)
theorem dX12_letter_16 : decode cX12_letter 16 = .ok (.if_icmp .eq 11, 3) := dk_159 0 11 (dk_at dksX12_letter_0 16 rfl rfl)
theorem dX12_letter_19 : decode cX12_letter 19 = .ok (.aload_n 1, 1) := dk_43 (dk_at dksX12_letter_0 19 rfl rfl)
theorem dX12_letter_20 : decode cX12_letter 20 = .ok (.iload_n 2, 1) := dk_28 (dk_at dksX12_letter_0 20 rfl rfl)
theorem dX12_letter_21 : decode cX12_letter 21 = .ok (.invokevirtual 45, 3) := dk_182 0 45 (dk_at dksX12_letter_0 21 rfl rfl)
theorem dX12_letter_24 : decode cX12_letter 24 = .ok (.ifCond .ge 15, 3) := dk_156 0 15 (dk_at dksX12_letter_1 0 rfl rfl)
theorem dX12_letter_27 : decode cX12_letter 27 = .ok (.new 40, 3) := dk_187 0 40 (dk_at dksX12_letter_1 3 rfl rfl)
theorem dX12_letter_30 : decode cX12_letter 30 = .ok (.dup, 1) := dk_89 (dk_at dksX12_letter_1 6 rfl rfl)
theorem dX12_letter_31 : decode cX12_letter 31 = .ok (.aload_n 0, 1) := dk_42 (dk_at dksX12_letter_1 7 rfl rfl)
theorem dX12_letter_32 : decode cX12_letter 32 = .ok (.getfield 22, 3) := dk_180 0 22 (dk_at dksX12_letter_1 8 rfl rfl)
theorem dX12_letter_35 : decode cX12_letter 35 = .ok (.invokespecial 42, 3) := dk_183 0 42 (dk_at dksX12_letter_1 11 rfl rfl)
theorem dX12_letter_38 : decode cX12_letter 38 = .ok (.athrow, 1) := dk_191 (dk_at dksX12_letter_1 14 rfl rfl)
theorem dX12_letter_39 : decode cX12_letter 39 = .ok (.aload_n 0, 1) := dk_42 (dk_at dksX12_letter_1 15 rfl rfl)
theorem dX12_letter_40 : decode cX12_letter 40 = .ok (.dup, 1) := dk_89 (dk_at dksX12_letter_1 16 rfl rfl)
theorem dX12_letter_41 : decode cX12_letter 41 = .ok (.getfield 22, 3) := dk_180 0 22 (dk_at dksX12_letter_1 17 rfl rfl)
theorem dX12_letter_44 : decode cX12_letter 44 = .ok (.iconst 1, 1) := dk_4 (dk_at dksX12_letter_1 20 rfl rfl)
theorem dX12_letter_45 : decode cX12_letter 45 = .ok (.iadd, 1) := dk_96 (dk_at dksX12_letter_1 21 rfl rfl)
theorem dX12_letter_46 : decode cX12_letter 46 = .ok (.putfield 22, 3) := dk_181 0 22 (dk_at dksX12_letter_2 0 rfl rfl)
theorem dX12_letter_49 : decode cX12_letter 49 = .ok (.iload_n 2, 1) := dk_28 (dk_at dksX12_letter_2 3 rfl rfl)
theorem dX12_letter_50 : decode cX12_letter 50 = .ok (.ireturn, 1) := dk_172 (dk_at dksX12_letter_2 4 rfl rfl)
abbrev cX12_current : ByteArray := prog_13_method_2_code
def yX12_current : MethodName := ⟨RX12, "current", "()C"⟩
def dkwX12_current_1 : List UInt8 := [182, 0, 32, 167, 0, 4, 3, 172]
abbrev dktX12_current_1 : List UInt8 := dkwX12_current_1 ++ []
def dkwX12_current_0 : List UInt8 := [42, 180, 0, 22, 42, 180, 0, 18, 182, 0, 26, 162, 0, 17, 42, 180, 0, 18, 42, 180, 0, 22]
abbrev dktX12_current_0 : List UInt8 := dkwX12_current_0 ++ dktX12_current_1
theorem dksX12_current_0 : cX12_current.data.toList.drop 0 = dktX12_current_0 := by decide +kernel
theorem dksX12_current_1 : cX12_current.data.toList.drop 22 = dktX12_current_1 := dk_seg dksX12_current_0 22 rfl rfl
theorem dX12_current_0 : decode cX12_current 0 = .ok (.aload_n 0, 1) := dk_42 (dk_at dksX12_current_0 0 rfl rfl)
theorem dX12_current_1 : decode cX12_current 1 = .ok (.getfield 22, 3) := dk_180 0 22 (dk_at dksX12_current_0 1 rfl rfl)
theorem dX12_current_4 : decode cX12_current 4 = .ok (.aload_n 0, 1) := dk_42 (dk_at dksX12_current_0 4 rfl rfl)
theorem dX12_current_5 : decode cX12_current 5 = .ok (.getfield 18, 3) := dk_180 0 18 (dk_at dksX12_current_0 5 rfl rfl)
theorem dX12_current_8 : decode cX12_current 8 = .ok (.invokevirtual 26, 3) := dk_182 0 26 (dk_at dksX12_current_0 8 rfl rfl)
theorem dX12_current_11 : decode cX12_current 11 = .ok (.if_icmp .ge 17, 3) := dk_162 0 17 (dk_at dksX12_current_0 11 rfl rfl)
theorem dX12_current_14 : decode cX12_current 14 = .ok (.aload_n 0, 1) := dk_42 (dk_at dksX12_current_0 14 rfl rfl)
theorem dX12_current_15 : decode cX12_current 15 = .ok (.getfield 18, 3) := dk_180 0 18 (dk_at dksX12_current_0 15 rfl rfl)
theorem dX12_current_18 : decode cX12_current 18 = .ok (.aload_n 0, 1) := dk_42 (dk_at dksX12_current_0 18 rfl rfl)
theorem dX12_current_19 : decode cX12_current 19 = .ok (.getfield 22, 3) := dk_180 0 22 (dk_at dksX12_current_0 19 rfl rfl)
theorem dX12_current_22 : decode cX12_current 22 = .ok (.invokevirtual 32, 3) := dk_182 0 32 (dk_at dksX12_current_1 0 rfl rfl)
theorem dX12_current_25 : decode cX12_current 25 = .ok (.goto 4, 3) := dk_167 0 4 (dk_at dksX12_current_1 3 rfl rfl)
theorem dX12_current_28 : decode cX12_current 28 = .ok (.iconst 0, 1) := dk_3 (dk_at dksX12_current_1 6 rfl rfl)
theorem dX12_current_29 : decode cX12_current 29 = .ok (.ireturn, 1) := dk_172 (dk_at dksX12_current_1 7 rfl rfl)
abbrev cX12_digit : ByteArray := prog_13_method_5_code
def yX12_digit : MethodName := ⟨RX12, "digit", "()I"⟩
def dkwX12_digit_0 : List UInt8 := [42, 18, 49, 182, 0, 51, 16, 48, 100, 172]
abbrev dktX12_digit_0 : List UInt8 := dkwX12_digit_0 ++ []
theorem dksX12_digit_0 : cX12_digit.data.toList.drop 0 = dktX12_digit_0 := by decide +kernel
theorem dX12_digit_0 : decode cX12_digit 0 = .ok (.aload_n 0, 1) := dk_42 (dk_at dksX12_digit_0 0 rfl rfl)
theorem dX12_digit_1 : decode cX12_digit 1 = .ok (.ldc 49, 2) := dk_18 49 (dk_at dksX12_digit_0 1 rfl rfl)
theorem dX12_digit_3 : decode cX12_digit 3 = .ok (.invokevirtual 51, 3) := dk_182 0 51 (dk_at dksX12_digit_0 3 rfl rfl)
theorem dX12_digit_6 : decode cX12_digit 6 = .ok (.bipush 48, 2) := dk_16 48 (dk_at dksX12_digit_0 6 rfl rfl)
theorem dX12_digit_8 : decode cX12_digit 8 = .ok (.isub, 1) := dk_100 (dk_at dksX12_digit_0 8 rfl rfl)
theorem dX12_digit_9 : decode cX12_digit 9 = .ok (.ireturn, 1) := dk_172 (dk_at dksX12_digit_0 9 rfl rfl)
abbrev cX12_number : ByteArray := prog_13_method_6_code
def yX12_number : MethodName := ⟨RX12, "number", "()I"⟩
def dkwX12_number_1 : List UInt8 := [153, 0, 19, 16, 10, 27, 104, 42, 182, 0, 55, 96, 60, 132, 2, 1, 167, 255, 224, 27, 172]
abbrev dktX12_number_1 : List UInt8 := dkwX12_number_1 ++ []
def dkwX12_number_0 : List UInt8 := [42, 182, 0, 55, 60, 4, 61, 28, 6, 162, 0, 33, 42, 182, 0, 36, 16, 48, 16, 57, 184, 0, 58]
abbrev dktX12_number_0 : List UInt8 := dkwX12_number_0 ++ dktX12_number_1
theorem dksX12_number_0 : cX12_number.data.toList.drop 0 = dktX12_number_0 := by decide +kernel
theorem dksX12_number_1 : cX12_number.data.toList.drop 23 = dktX12_number_1 := dk_seg dksX12_number_0 23 rfl rfl
theorem dX12_number_0 : decode cX12_number 0 = .ok (.aload_n 0, 1) := dk_42 (dk_at dksX12_number_0 0 rfl rfl)
theorem dX12_number_1 : decode cX12_number 1 = .ok (.invokevirtual 55, 3) := dk_182 0 55 (dk_at dksX12_number_0 1 rfl rfl)
theorem dX12_number_4 : decode cX12_number 4 = .ok (.istore_n 1, 1) := dk_60 (dk_at dksX12_number_0 4 rfl rfl)
theorem dX12_number_5 : decode cX12_number 5 = .ok (.iconst 1, 1) := dk_4 (dk_at dksX12_number_0 5 rfl rfl)
theorem dX12_number_6 : decode cX12_number 6 = .ok (.istore_n 2, 1) := dk_61 (dk_at dksX12_number_0 6 rfl rfl)
theorem dX12_number_7 : decode cX12_number 7 = .ok (.iload_n 2, 1) := dk_28 (dk_at dksX12_number_0 7 rfl rfl)
theorem dX12_number_8 : decode cX12_number 8 = .ok (.iconst 3, 1) := dk_6 (dk_at dksX12_number_0 8 rfl rfl)
theorem dX12_number_9 : decode cX12_number 9 = .ok (.if_icmp .ge 33, 3) := dk_162 0 33 (dk_at dksX12_number_0 9 rfl rfl)
theorem dX12_number_12 : decode cX12_number 12 = .ok (.aload_n 0, 1) := dk_42 (dk_at dksX12_number_0 12 rfl rfl)
theorem dX12_number_13 : decode cX12_number 13 = .ok (.invokevirtual 36, 3) := dk_182 0 36 (dk_at dksX12_number_0 13 rfl rfl)
theorem dX12_number_16 : decode cX12_number 16 = .ok (.bipush 48, 2) := dk_16 48 (dk_at dksX12_number_0 16 rfl rfl)
theorem dX12_number_18 : decode cX12_number 18 = .ok (.bipush 57, 2) := dk_16 57 (dk_at dksX12_number_0 18 rfl rfl)
theorem dX12_number_20 : decode cX12_number 20 = .ok (.invokestatic 58, 3) := dk_184 0 58 (dk_at dksX12_number_0 20 rfl rfl)
theorem dX12_number_23 : decode cX12_number 23 = .ok (.ifCond .eq 19, 3) := dk_153 0 19 (dk_at dksX12_number_1 0 rfl rfl)
theorem dX12_number_26 : decode cX12_number 26 = .ok (.bipush 10, 2) := dk_16 10 (dk_at dksX12_number_1 3 rfl rfl)
theorem dX12_number_28 : decode cX12_number 28 = .ok (.iload_n 1, 1) := dk_27 (dk_at dksX12_number_1 5 rfl rfl)
theorem dX12_number_29 : decode cX12_number 29 = .ok (.imul, 1) := dk_104 (dk_at dksX12_number_1 6 rfl rfl)
theorem dX12_number_30 : decode cX12_number 30 = .ok (.aload_n 0, 1) := dk_42 (dk_at dksX12_number_1 7 rfl rfl)
theorem dX12_number_31 : decode cX12_number 31 = .ok (.invokevirtual 55, 3) := dk_182 0 55 (dk_at dksX12_number_1 8 rfl rfl)
theorem dX12_number_34 : decode cX12_number 34 = .ok (.iadd, 1) := dk_96 (dk_at dksX12_number_1 11 rfl rfl)
theorem dX12_number_35 : decode cX12_number 35 = .ok (.istore_n 1, 1) := dk_60 (dk_at dksX12_number_1 12 rfl rfl)
theorem dX12_number_36 : decode cX12_number 36 = .ok (.iinc 2 1, 3) := dk_132 2 1 (dk_at dksX12_number_1 13 rfl rfl)
theorem dX12_number_39 : decode cX12_number 39 = .ok (.goto (-32), 3) := dk_167 255 224 (dk_at dksX12_number_1 16 rfl rfl)
theorem dX12_number_42 : decode cX12_number 42 = .ok (.iload_n 1, 1) := dk_27 (dk_at dksX12_number_1 19 rfl rfl)
theorem dX12_number_43 : decode cX12_number 43 = .ok (.ireturn, 1) := dk_172 (dk_at dksX12_number_1 20 rfl rfl)
abbrev cX12_expect : ByteArray := prog_13_method_3_code
def yX12_expect : MethodName := ⟨RX12, "expect", "(C)V"⟩
def dkwX12_expect_1 : List UInt8 := [180, 0, 22, 4, 96, 181, 0, 22, 177]
abbrev dktX12_expect_1 : List UInt8 := dkwX12_expect_1 ++ []
def dkwX12_expect_0 : List UInt8 := [42, 182, 0, 36, 27, 159, 0, 15, 187, 0, 40, 89, 42, 180, 0, 22, 183, 0, 42, 191, 42, 89]
abbrev dktX12_expect_0 : List UInt8 := dkwX12_expect_0 ++ dktX12_expect_1
theorem dksX12_expect_0 : cX12_expect.data.toList.drop 0 = dktX12_expect_0 := by decide +kernel
theorem dksX12_expect_1 : cX12_expect.data.toList.drop 22 = dktX12_expect_1 := dk_seg dksX12_expect_0 22 rfl rfl
theorem dX12_expect_0 : decode cX12_expect 0 = .ok (.aload_n 0, 1) := dk_42 (dk_at dksX12_expect_0 0 rfl rfl)
theorem dX12_expect_1 : decode cX12_expect 1 = .ok (.invokevirtual 36, 3) := dk_182 0 36 (dk_at dksX12_expect_0 1 rfl rfl)
theorem dX12_expect_4 : decode cX12_expect 4 = .ok (.iload_n 1, 1) := dk_27 (dk_at dksX12_expect_0 4 rfl rfl)
theorem dX12_expect_5 : decode cX12_expect 5 = .ok (.if_icmp .eq 15, 3) := dk_159 0 15 (dk_at dksX12_expect_0 5 rfl rfl)
theorem dX12_expect_8 : decode cX12_expect 8 = .ok (.new 40, 3) := dk_187 0 40 (dk_at dksX12_expect_0 8 rfl rfl)
theorem dX12_expect_11 : decode cX12_expect 11 = .ok (.dup, 1) := dk_89 (dk_at dksX12_expect_0 11 rfl rfl)
theorem dX12_expect_12 : decode cX12_expect 12 = .ok (.aload_n 0, 1) := dk_42 (dk_at dksX12_expect_0 12 rfl rfl)
theorem dX12_expect_13 : decode cX12_expect 13 = .ok (.getfield 22, 3) := dk_180 0 22 (dk_at dksX12_expect_0 13 rfl rfl)
theorem dX12_expect_16 : decode cX12_expect 16 = .ok (.invokespecial 42, 3) := dk_183 0 42 (dk_at dksX12_expect_0 16 rfl rfl)
theorem dX12_expect_19 : decode cX12_expect 19 = .ok (.athrow, 1) := dk_191 (dk_at dksX12_expect_0 19 rfl rfl)
theorem dX12_expect_20 : decode cX12_expect 20 = .ok (.aload_n 0, 1) := dk_42 (dk_at dksX12_expect_0 20 rfl rfl)
theorem dX12_expect_21 : decode cX12_expect 21 = .ok (.dup, 1) := dk_89 (dk_at dksX12_expect_0 21 rfl rfl)
theorem dX12_expect_22 : decode cX12_expect 22 = .ok (.getfield 22, 3) := dk_180 0 22 (dk_at dksX12_expect_1 0 rfl rfl)
theorem dX12_expect_25 : decode cX12_expect 25 = .ok (.iconst 1, 1) := dk_4 (dk_at dksX12_expect_1 3 rfl rfl)
theorem dX12_expect_26 : decode cX12_expect 26 = .ok (.iadd, 1) := dk_96 (dk_at dksX12_expect_1 4 rfl rfl)
theorem dX12_expect_27 : decode cX12_expect 27 = .ok (.putfield 22, 3) := dk_181 0 22 (dk_at dksX12_expect_1 5 rfl rfl)
theorem dX12_expect_30 : decode cX12_expect 30 = .ok (.return_, 1) := dk_177 (dk_at dksX12_expect_1 8 rfl rfl)
theorem q114 : (Jvm.Cond.initialized "WindFarmDispatcher$Parser") ∈ lw_all := lw_g (lw_at lw_m1 39 rfl) rfl
theorem q611 : (Jvm.Cond.selects "WindFarmDispatcher$Parser" ({ cls := "java/lang/Object", name := "getClass", desc := "()Ljava/lang/Class;" } : Jvm.MethodName) ({ cls := "java/lang/Object", name := "getClass", desc := "()Ljava/lang/Class;" } : Jvm.MethodName)) ∈ lw_all := lw_g (lw_at lw_m3 56 rfl) rfl
theorem q1713 : (Jvm.Cond.instantiable "WindFarmDispatcher$Parser" (3 : Nat)) ∈ lw_all := lw_g (lw_at lw_m7 198 rfl) rfl
theorem q1715 : (Jvm.Cond.instanceMethod ({ cls := "WindFarmDispatcher$Parser", name := "<init>", desc := "(Ljava/lang/String;)V" } : Jvm.MethodName)) ∈ lw_all := lw_g (lw_at lw_m7 200 rfl) rfl
theorem q1716 : (Jvm.Cond.code ({ cls := "WindFarmDispatcher$Parser", name := "<init>", desc := "(Ljava/lang/String;)V" } : Jvm.MethodName) prog_13_method_1_code (2 : Nat) (Option.none : Option Jvm.ClassFile.FieldType)) ∈ lw_all := lw_g (lw_at lw_m7 201 rfl) rfl
theorem q1717 : (Jvm.Cond.methodLink "WindFarmDispatcher$Parser" (3 : Nat) ({ cls := "java/lang/Object", name := "<init>", desc := "()V" } : Jvm.MethodName)) ∈ lw_all := lw_g (lw_at lw_m7 202 rfl) rfl
theorem q1718 : (Jvm.Cond.classLink "WindFarmDispatcher$Parser" (9 : Nat) "java/util/ArrayList") ∈ lw_all := lw_g (lw_at lw_m7 203 rfl) rfl
theorem q1719 : (Jvm.Cond.methodLink "WindFarmDispatcher$Parser" (11 : Nat) ({ cls := "java/util/ArrayList", name := "<init>", desc := "()V" } : Jvm.MethodName)) ∈ lw_all := lw_g (lw_at lw_m7 204 rfl) rfl
theorem q1720 : (Jvm.Cond.fieldLink "WindFarmDispatcher$Parser" (18 : Nat) "WindFarmDispatcher$Parser" "text" "Ljava/lang/String;") ∈ lw_all := lw_g (lw_at lw_m7 205 rfl) rfl
theorem q1721 : (Jvm.Cond.fieldLink "WindFarmDispatcher$Parser" (12 : Nat) "WindFarmDispatcher$Parser" "commands" "Ljava/util/ArrayList;") ∈ lw_all := lw_g (lw_at lw_m7 206 rfl) rfl
theorem q1722 : (Jvm.Cond.fieldLink "WindFarmDispatcher$Parser" (22 : Nat) "WindFarmDispatcher$Parser" "offset" "I") ∈ lw_all := lw_g (lw_at lw_m7 207 rfl) rfl
theorem q1723 : (Jvm.Cond.laysFinal "WindFarmDispatcher$Parser" "WindFarmDispatcher$Parser" "text" "Ljava/lang/String;") ∈ lw_all := lw_g (lw_at lw_m7 208 rfl) rfl
theorem q1724 : (Jvm.Cond.soleField "WindFarmDispatcher$Parser" "text") ∈ lw_all := lw_g (lw_at lw_m7 209 rfl) rfl
theorem q1725 : (Jvm.Cond.laysFinal "WindFarmDispatcher$Parser" "WindFarmDispatcher$Parser" "commands" "Ljava/util/ArrayList;") ∈ lw_all := lw_g (lw_at lw_m7 210 rfl) rfl
theorem q1726 : (Jvm.Cond.soleField "WindFarmDispatcher$Parser" "commands") ∈ lw_all := lw_g (lw_at lw_m7 211 rfl) rfl
theorem q1727 : (Jvm.Cond.lays "WindFarmDispatcher$Parser" "WindFarmDispatcher$Parser" "offset" "I") ∈ lw_all := lw_g (lw_at lw_m7 212 rfl) rfl
theorem q1728 : (Jvm.Cond.soleField "WindFarmDispatcher$Parser" "offset") ∈ lw_all := lw_g (lw_at lw_m7 213 rfl) rfl
theorem q1729 : (Jvm.Cond.superclass "WindFarmDispatcher$Parser" "java/lang/Object") ∈ lw_all := lw_g (lw_at lw_m7 214 rfl) rfl
theorem q1783 : (Jvm.Cond.instanceMethod ({ cls := "WindFarmDispatcher$Parser", name := "parse", desc := "()Ljava/util/ArrayList;" } : Jvm.MethodName)) ∈ lw_all := lw_g (lw_at lw_m8 28 rfl) rfl
theorem q1784 : (Jvm.Cond.selects "WindFarmDispatcher$Parser" ({ cls := "WindFarmDispatcher$Parser", name := "parse", desc := "()Ljava/util/ArrayList;" } : Jvm.MethodName) ({ cls := "WindFarmDispatcher$Parser", name := "parse", desc := "()Ljava/util/ArrayList;" } : Jvm.MethodName)) ∈ lw_all := lw_g (lw_at lw_m8 29 rfl) rfl
theorem q1785 : (Jvm.Cond.code ({ cls := "WindFarmDispatcher$Parser", name := "parse", desc := "()Ljava/util/ArrayList;" } : Jvm.MethodName) prog_13_method_8_code (1 : Nat) (Option.some (Jvm.ClassFile.FieldType.object "java/util/ArrayList"))) ∈ lw_all := lw_g (lw_at lw_m8 30 rfl) rfl
theorem q1786 : (Jvm.Cond.methodLink "WindFarmDispatcher$Parser" (84 : Nat) ({ cls := "WindFarmDispatcher$Parser", name := "command", desc := "()LWindFarmDispatcher$Command;" } : Jvm.MethodName)) ∈ lw_all := lw_g (lw_at lw_m8 31 rfl) rfl
theorem q1787 : (Jvm.Cond.privateMethod ({ cls := "WindFarmDispatcher$Parser", name := "command", desc := "()LWindFarmDispatcher$Command;" } : Jvm.MethodName)) ∈ lw_tbl := lw_at lw_m8 32 rfl
theorem q1788 : (Jvm.Cond.instanceMethod ({ cls := "WindFarmDispatcher$Parser", name := "command", desc := "()LWindFarmDispatcher$Command;" } : Jvm.MethodName)) ∈ lw_all := lw_g (lw_at lw_m8 33 rfl) rfl
theorem q1789 : (Jvm.Cond.code ({ cls := "WindFarmDispatcher$Parser", name := "command", desc := "()LWindFarmDispatcher$Command;" } : Jvm.MethodName) prog_13_method_7_code (4 : Nat) (Option.some (Jvm.ClassFile.FieldType.object "WindFarmDispatcher$Command"))) ∈ lw_all := lw_g (lw_at lw_m8 34 rfl) rfl
theorem q1790 : (Jvm.Cond.stringRef "WindFarmDispatcher$Parser" (62 : Nat) "afsrcuwgdvbqt") ∈ lw_tbl := lw_at lw_m8 35 rfl
theorem q1791 : (Jvm.Cond.methodLink "WindFarmDispatcher$Parser" (51 : Nat) ({ cls := "WindFarmDispatcher$Parser", name := "letter", desc := "(Ljava/lang/String;)C" } : Jvm.MethodName)) ∈ lw_all := lw_g (lw_at lw_m8 36 rfl) rfl
theorem q1792 : (Jvm.Cond.privateMethod ({ cls := "WindFarmDispatcher$Parser", name := "letter", desc := "(Ljava/lang/String;)C" } : Jvm.MethodName)) ∈ lw_tbl := lw_at lw_m8 37 rfl
theorem q1793 : (Jvm.Cond.instanceMethod ({ cls := "WindFarmDispatcher$Parser", name := "letter", desc := "(Ljava/lang/String;)C" } : Jvm.MethodName)) ∈ lw_all := lw_g (lw_at lw_m8 38 rfl) rfl
theorem q1794 : (Jvm.Cond.code ({ cls := "WindFarmDispatcher$Parser", name := "letter", desc := "(Ljava/lang/String;)C" } : Jvm.MethodName) prog_13_method_4_code (3 : Nat) (Option.some Jvm.ClassFile.FieldType.char)) ∈ lw_all := lw_g (lw_at lw_m8 39 rfl) rfl
theorem q1795 : (Jvm.Cond.methodLink "WindFarmDispatcher$Parser" (36 : Nat) ({ cls := "WindFarmDispatcher$Parser", name := "current", desc := "()C" } : Jvm.MethodName)) ∈ lw_all := lw_g (lw_at lw_m8 40 rfl) rfl
theorem q1796 : (Jvm.Cond.privateMethod ({ cls := "WindFarmDispatcher$Parser", name := "current", desc := "()C" } : Jvm.MethodName)) ∈ lw_tbl := lw_at lw_m8 41 rfl
theorem q1797 : (Jvm.Cond.instanceMethod ({ cls := "WindFarmDispatcher$Parser", name := "current", desc := "()C" } : Jvm.MethodName)) ∈ lw_all := lw_g (lw_at lw_m8 42 rfl) rfl
theorem q1798 : (Jvm.Cond.code ({ cls := "WindFarmDispatcher$Parser", name := "current", desc := "()C" } : Jvm.MethodName) prog_13_method_2_code (1 : Nat) (Option.some Jvm.ClassFile.FieldType.char)) ∈ lw_all := lw_g (lw_at lw_m8 43 rfl) rfl
theorem q1799 : (Jvm.Cond.methodLink "WindFarmDispatcher$Parser" (26 : Nat) ({ cls := "java/lang/String", name := "length", desc := "()I" } : Jvm.MethodName)) ∈ lw_all := lw_g (lw_at lw_m8 44 rfl) rfl
theorem q1800 : (Jvm.Cond.methodLink "WindFarmDispatcher$Parser" (32 : Nat) ({ cls := "java/lang/String", name := "charAt", desc := "(I)C" } : Jvm.MethodName)) ∈ lw_all := lw_g (lw_at lw_m8 45 rfl) rfl
theorem q1801 : (Jvm.Cond.methodLink "WindFarmDispatcher$Parser" (45 : Nat) ({ cls := "java/lang/String", name := "indexOf", desc := "(I)I" } : Jvm.MethodName)) ∈ lw_all := lw_g (lw_at lw_m8 46 rfl) rfl
theorem q1847 : (Jvm.Cond.classLink "WindFarmDispatcher$Parser" (40 : Nat) "WindFarmDispatcher$SyntaxError") ∈ lw_all := lw_g (lw_at lw_m8 92 rfl) rfl
theorem q1856 : (Jvm.Cond.methodLink "WindFarmDispatcher$Parser" (42 : Nat) ({ cls := "WindFarmDispatcher$SyntaxError", name := "<init>", desc := "(I)V" } : Jvm.MethodName)) ∈ lw_all := lw_g (lw_at lw_m8 101 rfl) rfl
theorem q1866 : (Jvm.Cond.classLink "WindFarmDispatcher$Parser" (64 : Nat) "WindFarmDispatcher$Command") ∈ lw_all := lw_g (lw_at lw_m8 111 rfl) rfl
theorem q1867 : (Jvm.Cond.methodLink "WindFarmDispatcher$Parser" (66 : Nat) ({ cls := "WindFarmDispatcher$Command", name := "<init>", desc := "(CI)V" } : Jvm.MethodName)) ∈ lw_all := lw_g (lw_at lw_m8 112 rfl) rfl
theorem q1868 : (Jvm.Cond.methodLink "WindFarmDispatcher$Parser" (55 : Nat) ({ cls := "WindFarmDispatcher$Parser", name := "digit", desc := "()I" } : Jvm.MethodName)) ∈ lw_all := lw_g (lw_at lw_m8 113 rfl) rfl
theorem q1869 : (Jvm.Cond.privateMethod ({ cls := "WindFarmDispatcher$Parser", name := "digit", desc := "()I" } : Jvm.MethodName)) ∈ lw_tbl := lw_at lw_m8 114 rfl
theorem q1870 : (Jvm.Cond.instanceMethod ({ cls := "WindFarmDispatcher$Parser", name := "digit", desc := "()I" } : Jvm.MethodName)) ∈ lw_all := lw_g (lw_at lw_m8 115 rfl) rfl
theorem q1871 : (Jvm.Cond.code ({ cls := "WindFarmDispatcher$Parser", name := "digit", desc := "()I" } : Jvm.MethodName) prog_13_method_5_code (1 : Nat) (Option.some Jvm.ClassFile.FieldType.int)) ∈ lw_all := lw_g (lw_at lw_m8 116 rfl) rfl
theorem q1872 : (Jvm.Cond.stringRef "WindFarmDispatcher$Parser" (49 : Nat) "0123456789") ∈ lw_tbl := lw_at lw_m8 117 rfl
theorem q1873 : (Jvm.Cond.methodLink "WindFarmDispatcher$Parser" (69 : Nat) ({ cls := "WindFarmDispatcher$Command", name := "<init>", desc := "(CIII)V" } : Jvm.MethodName)) ∈ lw_all := lw_g (lw_at lw_m8 118 rfl) rfl
theorem q1874 : (Jvm.Cond.methodLink "WindFarmDispatcher$Parser" (72 : Nat) ({ cls := "WindFarmDispatcher$Parser", name := "number", desc := "()I" } : Jvm.MethodName)) ∈ lw_all := lw_g (lw_at lw_m8 119 rfl) rfl
theorem q1875 : (Jvm.Cond.privateMethod ({ cls := "WindFarmDispatcher$Parser", name := "number", desc := "()I" } : Jvm.MethodName)) ∈ lw_tbl := lw_at lw_m8 120 rfl
theorem q1876 : (Jvm.Cond.instanceMethod ({ cls := "WindFarmDispatcher$Parser", name := "number", desc := "()I" } : Jvm.MethodName)) ∈ lw_all := lw_g (lw_at lw_m8 121 rfl) rfl
theorem q1877 : (Jvm.Cond.code ({ cls := "WindFarmDispatcher$Parser", name := "number", desc := "()I" } : Jvm.MethodName) prog_13_method_6_code (3 : Nat) (Option.some Jvm.ClassFile.FieldType.int)) ∈ lw_all := lw_g (lw_at lw_m8 122 rfl) rfl
theorem q1878 : (Jvm.Cond.methodLinkNest "WindFarmDispatcher$Parser" (58 : Nat) ({ cls := "WindFarmDispatcher", name := "isBetween", desc := "(III)Z" } : Jvm.MethodName) "WindFarmDispatcher") ∈ lw_tbl := lw_at lw_m8 123 rfl
theorem q1879 : (Jvm.Cond.methodLink "WindFarmDispatcher$Parser" (75 : Nat) ({ cls := "WindFarmDispatcher$Parser", name := "expect", desc := "(C)V" } : Jvm.MethodName)) ∈ lw_all := lw_g (lw_at lw_m8 124 rfl) rfl
theorem q1880 : (Jvm.Cond.privateMethod ({ cls := "WindFarmDispatcher$Parser", name := "expect", desc := "(C)V" } : Jvm.MethodName)) ∈ lw_tbl := lw_at lw_m8 125 rfl
theorem q1881 : (Jvm.Cond.instanceMethod ({ cls := "WindFarmDispatcher$Parser", name := "expect", desc := "(C)V" } : Jvm.MethodName)) ∈ lw_all := lw_g (lw_at lw_m8 126 rfl) rfl
theorem q1882 : (Jvm.Cond.code ({ cls := "WindFarmDispatcher$Parser", name := "expect", desc := "(C)V" } : Jvm.MethodName) prog_13_method_3_code (2 : Nat) (Option.none : Option Jvm.ClassFile.FieldType)) ∈ lw_all := lw_g (lw_at lw_m8 127 rfl) rfl
theorem q1883 : (Jvm.Cond.stringRef "WindFarmDispatcher$Parser" (79 : Nat) "NESW") ∈ lw_tbl := lw_at lw_m8 128 rfl
theorem q1884 : (Jvm.Cond.methodLink "WindFarmDispatcher$Parser" (81 : Nat) ({ cls := "WindFarmDispatcher$Command", name := "<init>", desc := "(CCIII)V" } : Jvm.MethodName)) ∈ lw_all := lw_g (lw_at lw_m8 129 rfl) rfl
theorem q1885 : (Jvm.Cond.methodLink "WindFarmDispatcher$Parser" (88 : Nat) ({ cls := "java/util/ArrayList", name := "add", desc := "(Ljava/lang/Object;)Z" } : Jvm.MethodName)) ∈ lw_all := lw_g (lw_at lw_m8 130 rfl) rfl
theorem q2533 : (Jvm.Cond.castable "WindFarmDispatcher$Parser" "java/lang/Object") ∈ lw_tbl := lw_at lw_m11 58 rfl
theorem in_X12 : ∀ w ∈ wsX120, w ∈ lw_all := lw_in wsX120 [1723, 1725, 1727] (by decide +kernel) (by decide +kernel)
/-! WindFarmDispatcher$SyntaxError -/
def RX13 : String := "WindFarmDispatcher$SyntaxError"
def TX13 : u_T := fun k => match k with
  | 0 => ("java/lang/Throwable", "cause", "Ljava/lang/Throwable;", false)
  | 1 => ("java/lang/Throwable", "stackTrace", "[Ljava/lang/StackTraceElement;", false)
  | 2 => ("java/lang/Throwable", "suppressedExceptions", "Ljava/util/List;", false)
  | 3 => ("java/lang/Throwable", "detailMessage", "Ljava/lang/String;", false)
  | 4 => ("java/lang/Throwable", "backtrace", "Ljava/lang/Object;", false)
  | 5 => ("java/lang/Throwable", "depth", "I", false)
  | _ => ("WindFarmDispatcher$SyntaxError", "offset", "I", true)
def tyX13 : Nat → FieldType := fun k => match k with
  | 0 => .object "java/lang/Throwable"
  | 1 => .array (.object "java/lang/StackTraceElement")
  | 2 => .object "java/util/List"
  | 3 => .object "java/lang/String"
  | 4 => .object "java/lang/Object"
  | 5 => .int
  | _ => .int
abbrev wsX130 : List Cond := u_ws RX13 TX13 7
theorem nmX13 : ∀ a, a < 7 → ∀ b, b < 7 → a ≠ b → (TX13 a).2.1 ≠ (TX13 b).2.1 := by decide +kernel
theorem tyX13_ok : ∀ k, k < 7 → parseFieldDescriptor (TX13 k).2.2.1 = some (tyX13 k) := by decide +kernel
abbrev cX13_init : ByteArray := prog_17_method_1_code
def yX13_init : MethodName := ⟨RX13, "<init>", "(I)V"⟩
def dkwX13_init_0 : List UInt8 := [42, 183, 0, 1, 42, 27, 181, 0, 7, 177]
abbrev dktX13_init_0 : List UInt8 := dkwX13_init_0 ++ []
theorem dksX13_init_0 : cX13_init.data.toList.drop 0 = dktX13_init_0 := by decide +kernel
theorem dX13_init_0 : decode cX13_init 0 = .ok (.aload_n 0, 1) := dk_42 (dk_at dksX13_init_0 0 rfl rfl)
theorem dX13_init_1 : decode cX13_init 1 = .ok (.invokespecial 1, 3) := dk_183 0 1 (dk_at dksX13_init_0 1 rfl rfl)
theorem dX13_init_4 : decode cX13_init 4 = .ok (.aload_n 0, 1) := dk_42 (dk_at dksX13_init_0 4 rfl rfl)
theorem dX13_init_5 : decode cX13_init 5 = .ok (.iload_n 1, 1) := dk_27 (dk_at dksX13_init_0 5 rfl rfl)
theorem dX13_init_6 : decode cX13_init 6 = .ok (.putfield 7, 3) := dk_181 0 7 (dk_at dksX13_init_0 6 rfl rfl)
theorem dX13_init_9 : decode cX13_init 9 = .ok (.return_, 1) := dk_177 (dk_at dksX13_init_0 9 rfl rfl)
theorem q117 : (Jvm.Cond.initialized "WindFarmDispatcher$SyntaxError") ∈ lw_all := lw_g (lw_at lw_m1 42 rfl) rfl
theorem q614 : (Jvm.Cond.selects "WindFarmDispatcher$SyntaxError" ({ cls := "java/lang/Object", name := "getClass", desc := "()Ljava/lang/Class;" } : Jvm.MethodName) ({ cls := "java/lang/Object", name := "getClass", desc := "()Ljava/lang/Class;" } : Jvm.MethodName)) ∈ lw_all := lw_g (lw_at lw_m3 59 rfl) rfl
theorem q683 : (Jvm.Cond.selects "WindFarmDispatcher$SyntaxError" ({ cls := "java/lang/Throwable", name := "fillInStackTrace", desc := "()Ljava/lang/Throwable;" } : Jvm.MethodName) ({ cls := "java/lang/Throwable", name := "fillInStackTrace", desc := "()Ljava/lang/Throwable;" } : Jvm.MethodName)) ∈ lw_all := lw_g (lw_at lw_m3 128 rfl) rfl
theorem q1848 : (Jvm.Cond.instantiable "WindFarmDispatcher$SyntaxError" (7 : Nat)) ∈ lw_all := lw_g (lw_at lw_m8 93 rfl) rfl
theorem q1849 : (Jvm.Cond.castable "WindFarmDispatcher$SyntaxError" "WindFarmDispatcher$SyntaxError") ∈ lw_tbl := lw_at lw_m8 94 rfl
theorem q1850 : (Jvm.Cond.selects "WindFarmDispatcher$SyntaxError" ({ cls := "java/lang/Throwable", name := "fillInStackTrace", desc := "(I)Ljava/lang/Throwable;" } : Jvm.MethodName) ({ cls := "java/lang/Throwable", name := "fillInStackTrace", desc := "(I)Ljava/lang/Throwable;" } : Jvm.MethodName)) ∈ lw_all := lw_g (lw_at lw_m8 95 rfl) rfl
theorem q1851 : (Jvm.Cond.lays "WindFarmDispatcher$SyntaxError" "java/lang/Throwable" "cause" "Ljava/lang/Throwable;") ∈ lw_all := lw_g (lw_at lw_m8 96 rfl) rfl
theorem q1852 : (Jvm.Cond.lays "WindFarmDispatcher$SyntaxError" "java/lang/Throwable" "stackTrace" "[Ljava/lang/StackTraceElement;") ∈ lw_all := lw_g (lw_at lw_m8 97 rfl) rfl
theorem q1853 : (Jvm.Cond.lays "WindFarmDispatcher$SyntaxError" "java/lang/Throwable" "suppressedExceptions" "Ljava/util/List;") ∈ lw_all := lw_g (lw_at lw_m8 98 rfl) rfl
theorem q1854 : (Jvm.Cond.lays "WindFarmDispatcher$SyntaxError" "java/lang/Throwable" "detailMessage" "Ljava/lang/String;") ∈ lw_all := lw_g (lw_at lw_m8 99 rfl) rfl
theorem q1855 : (Jvm.Cond.lays "WindFarmDispatcher$SyntaxError" "java/lang/Throwable" "backtrace" "Ljava/lang/Object;") ∈ lw_all := lw_g (lw_at lw_m8 100 rfl) rfl
theorem q1857 : (Jvm.Cond.instanceMethod ({ cls := "WindFarmDispatcher$SyntaxError", name := "<init>", desc := "(I)V" } : Jvm.MethodName)) ∈ lw_all := lw_g (lw_at lw_m8 102 rfl) rfl
theorem q1858 : (Jvm.Cond.code ({ cls := "WindFarmDispatcher$SyntaxError", name := "<init>", desc := "(I)V" } : Jvm.MethodName) prog_17_method_1_code (2 : Nat) (Option.none : Option Jvm.ClassFile.FieldType)) ∈ lw_all := lw_g (lw_at lw_m8 103 rfl) rfl
theorem q1859 : (Jvm.Cond.methodLink "WindFarmDispatcher$SyntaxError" (1 : Nat) ({ cls := "java/lang/Exception", name := "<init>", desc := "()V" } : Jvm.MethodName)) ∈ lw_all := lw_g (lw_at lw_m8 104 rfl) rfl
theorem q1860 : (Jvm.Cond.fieldLink "WindFarmDispatcher$SyntaxError" (7 : Nat) "WindFarmDispatcher$SyntaxError" "offset" "I") ∈ lw_all := lw_g (lw_at lw_m8 105 rfl) rfl
theorem q1862 : (Jvm.Cond.laysFinal "WindFarmDispatcher$SyntaxError" "WindFarmDispatcher$SyntaxError" "offset" "I") ∈ lw_all := lw_g (lw_at lw_m8 107 rfl) rfl
theorem q1863 : (Jvm.Cond.soleField "WindFarmDispatcher$SyntaxError" "offset") ∈ lw_all := lw_g (lw_at lw_m8 108 rfl) rfl
theorem q1864 : (Jvm.Cond.lays "WindFarmDispatcher$SyntaxError" "java/lang/Throwable" "depth" "I") ∈ lw_all := lw_g (lw_at lw_m8 109 rfl) rfl
theorem q1865 : (Jvm.Cond.superclass "WindFarmDispatcher$SyntaxError" "java/lang/Exception") ∈ lw_all := lw_g (lw_at lw_m8 110 rfl) rfl
theorem q2535 : (Jvm.Cond.castable "WindFarmDispatcher$SyntaxError" "java/lang/Object") ∈ lw_tbl := lw_at lw_m11 60 rfl
theorem in_X13 : ∀ w ∈ wsX130, w ∈ lw_all := lw_in wsX130 [1851, 1852, 1853, 1854, 1855, 1864, 1862] (by decide +kernel) (by decide +kernel)
/-! WindFarmDispatcher$BadCommand -/
def RX14 : String := "WindFarmDispatcher$BadCommand"
def TX14 : u_T := fun k => match k with
  | 0 => ("java/lang/Throwable", "cause", "Ljava/lang/Throwable;", false)
  | 1 => ("java/lang/Throwable", "stackTrace", "[Ljava/lang/StackTraceElement;", false)
  | 2 => ("java/lang/Throwable", "suppressedExceptions", "Ljava/util/List;", false)
  | 3 => ("java/lang/Throwable", "detailMessage", "Ljava/lang/String;", false)
  | 4 => ("java/lang/Throwable", "backtrace", "Ljava/lang/Object;", false)
  | _ => ("java/lang/Throwable", "depth", "I", false)
def tyX14 : Nat → FieldType := fun k => match k with
  | 0 => .object "java/lang/Throwable"
  | 1 => .array (.object "java/lang/StackTraceElement")
  | 2 => .object "java/util/List"
  | 3 => .object "java/lang/String"
  | 4 => .object "java/lang/Object"
  | _ => .int
abbrev wsX140 : List Cond := u_ws RX14 TX14 6
theorem nmX14 : ∀ a, a < 6 → ∀ b, b < 6 → a ≠ b → (TX14 a).2.1 ≠ (TX14 b).2.1 := by decide +kernel
theorem tyX14_ok : ∀ k, k < 6 → parseFieldDescriptor (TX14 k).2.2.1 = some (tyX14 k) := by decide +kernel
abbrev cX14_init : ByteArray := prog_2_method_1_code
def yX14_init : MethodName := ⟨RX14, "<init>", "()V"⟩
theorem dX14_init_0 : decode cX14_init 0 = .ok (.aload_n 0, 1) := by decide +kernel
theorem dX14_init_1 : decode cX14_init 1 = .ok (.invokespecial 1, 3) := by decide +kernel
theorem dX14_init_4 : decode cX14_init 4 = .ok (.return_, 1) := by decide +kernel
theorem q118 : (Jvm.Cond.initialized "WindFarmDispatcher$BadCommand") ∈ lw_all := lw_g (lw_at lw_m1 43 rfl) rfl
theorem q601 : (Jvm.Cond.selects "WindFarmDispatcher$BadCommand" ({ cls := "java/lang/Object", name := "getClass", desc := "()Ljava/lang/Class;" } : Jvm.MethodName) ({ cls := "java/lang/Object", name := "getClass", desc := "()Ljava/lang/Class;" } : Jvm.MethodName)) ∈ lw_all := lw_g (lw_at lw_m3 46 rfl) rfl
theorem q682 : (Jvm.Cond.selects "WindFarmDispatcher$BadCommand" ({ cls := "java/lang/Throwable", name := "fillInStackTrace", desc := "()Ljava/lang/Throwable;" } : Jvm.MethodName) ({ cls := "java/lang/Throwable", name := "fillInStackTrace", desc := "()Ljava/lang/Throwable;" } : Jvm.MethodName)) ∈ lw_all := lw_g (lw_at lw_m3 127 rfl) rfl
theorem q1908 : (Jvm.Cond.instantiable "WindFarmDispatcher$BadCommand" (6 : Nat)) ∈ lw_all := lw_g (lw_at lw_m8 153 rfl) rfl
theorem q1909 : (Jvm.Cond.castable "WindFarmDispatcher$BadCommand" "WindFarmDispatcher$BadCommand") ∈ lw_tbl := lw_at lw_m8 154 rfl
theorem q1910 : (Jvm.Cond.selects "WindFarmDispatcher$BadCommand" ({ cls := "java/lang/Throwable", name := "fillInStackTrace", desc := "(I)Ljava/lang/Throwable;" } : Jvm.MethodName) ({ cls := "java/lang/Throwable", name := "fillInStackTrace", desc := "(I)Ljava/lang/Throwable;" } : Jvm.MethodName)) ∈ lw_all := lw_g (lw_at lw_m8 155 rfl) rfl
theorem q1911 : (Jvm.Cond.lays "WindFarmDispatcher$BadCommand" "java/lang/Throwable" "cause" "Ljava/lang/Throwable;") ∈ lw_all := lw_g (lw_at lw_m8 156 rfl) rfl
theorem q1912 : (Jvm.Cond.lays "WindFarmDispatcher$BadCommand" "java/lang/Throwable" "stackTrace" "[Ljava/lang/StackTraceElement;") ∈ lw_all := lw_g (lw_at lw_m8 157 rfl) rfl
theorem q1913 : (Jvm.Cond.lays "WindFarmDispatcher$BadCommand" "java/lang/Throwable" "suppressedExceptions" "Ljava/util/List;") ∈ lw_all := lw_g (lw_at lw_m8 158 rfl) rfl
theorem q1914 : (Jvm.Cond.lays "WindFarmDispatcher$BadCommand" "java/lang/Throwable" "detailMessage" "Ljava/lang/String;") ∈ lw_all := lw_g (lw_at lw_m8 159 rfl) rfl
theorem q1915 : (Jvm.Cond.lays "WindFarmDispatcher$BadCommand" "java/lang/Throwable" "backtrace" "Ljava/lang/Object;") ∈ lw_all := lw_g (lw_at lw_m8 160 rfl) rfl
theorem q1917 : (Jvm.Cond.instanceMethod ({ cls := "WindFarmDispatcher$BadCommand", name := "<init>", desc := "()V" } : Jvm.MethodName)) ∈ lw_all := lw_g (lw_at lw_m8 162 rfl) rfl
theorem q1918 : (Jvm.Cond.code ({ cls := "WindFarmDispatcher$BadCommand", name := "<init>", desc := "()V" } : Jvm.MethodName) prog_2_method_1_code (1 : Nat) (Option.none : Option Jvm.ClassFile.FieldType)) ∈ lw_all := lw_g (lw_at lw_m8 163 rfl) rfl
theorem q1919 : (Jvm.Cond.methodLink "WindFarmDispatcher$BadCommand" (1 : Nat) ({ cls := "java/lang/Exception", name := "<init>", desc := "()V" } : Jvm.MethodName)) ∈ lw_all := lw_g (lw_at lw_m8 164 rfl) rfl
theorem q1920 : (Jvm.Cond.lays "WindFarmDispatcher$BadCommand" "java/lang/Throwable" "depth" "I") ∈ lw_all := lw_g (lw_at lw_m8 165 rfl) rfl
theorem q1921 : (Jvm.Cond.superclass "WindFarmDispatcher$BadCommand" "java/lang/Exception") ∈ lw_all := lw_g (lw_at lw_m8 166 rfl) rfl
theorem q2536 : (Jvm.Cond.castable "WindFarmDispatcher$BadCommand" "java/lang/Object") ∈ lw_tbl := lw_at lw_m11 61 rfl
theorem in_X14 : ∀ w ∈ wsX140, w ∈ lw_all := lw_in wsX140 [1911, 1912, 1913, 1914, 1915, 1920] (by decide +kernel) (by decide +kernel)
/-! WindFarmDispatcher$Direction$1 -/
def RX15 : String := "WindFarmDispatcher$Direction$1"
abbrev cX15_rowStep : ByteArray := prog_6_method_2_code
def yX15_rowStep : MethodName := ⟨RX15, "rowStep", "()I"⟩
theorem dX15_rowStep_0 : decode cX15_rowStep 0 = .ok (.iconst (-1), 1) := by decide +kernel
theorem dX15_rowStep_1 : decode cX15_rowStep 1 = .ok (.ireturn, 1) := by decide +kernel
abbrev cX15_columnStep : ByteArray := prog_6_method_3_code
def yX15_columnStep : MethodName := ⟨RX15, "columnStep", "()I"⟩
theorem dX15_columnStep_0 : decode cX15_columnStep 0 = .ok (.iconst 0, 1) := by decide +kernel
theorem dX15_columnStep_1 : decode cX15_columnStep 1 = .ok (.ireturn, 1) := by decide +kernel
theorem q320 : (Jvm.Cond.selects "WindFarmDispatcher$Direction$1" ({ cls := "WindFarmDispatcher$Direction", name := "letter", desc := "()C" } : Jvm.MethodName) ({ cls := "WindFarmDispatcher$Direction", name := "letter", desc := "()C" } : Jvm.MethodName)) ∈ lw_all := lw_g (lw_at lw_m2 5 rfl) rfl
theorem q360 : (Jvm.Cond.selects "WindFarmDispatcher$Direction$1" ({ cls := "WindFarmDispatcher$Direction", name := "rowStep", desc := "()I" } : Jvm.MethodName) ({ cls := "WindFarmDispatcher$Direction$1", name := "rowStep", desc := "()I" } : Jvm.MethodName)) ∈ lw_all := lw_g (lw_at lw_m2 45 rfl) rfl
theorem q361 : (Jvm.Cond.instanceMethod ({ cls := "WindFarmDispatcher$Direction$1", name := "rowStep", desc := "()I" } : Jvm.MethodName)) ∈ lw_all := lw_g (lw_at lw_m2 46 rfl) rfl
theorem q362 : (Jvm.Cond.code ({ cls := "WindFarmDispatcher$Direction$1", name := "rowStep", desc := "()I" } : Jvm.MethodName) prog_6_method_2_code (1 : Nat) (Option.some Jvm.ClassFile.FieldType.int)) ∈ lw_all := lw_g (lw_at lw_m2 47 rfl) rfl
theorem q375 : (Jvm.Cond.selects "WindFarmDispatcher$Direction$1" ({ cls := "WindFarmDispatcher$Direction", name := "columnStep", desc := "()I" } : Jvm.MethodName) ({ cls := "WindFarmDispatcher$Direction$1", name := "columnStep", desc := "()I" } : Jvm.MethodName)) ∈ lw_all := lw_g (lw_at lw_m2 60 rfl) rfl
theorem q376 : (Jvm.Cond.instanceMethod ({ cls := "WindFarmDispatcher$Direction$1", name := "columnStep", desc := "()I" } : Jvm.MethodName)) ∈ lw_all := lw_g (lw_at lw_m2 61 rfl) rfl
theorem q377 : (Jvm.Cond.code ({ cls := "WindFarmDispatcher$Direction$1", name := "columnStep", desc := "()I" } : Jvm.MethodName) prog_6_method_3_code (1 : Nat) (Option.some Jvm.ClassFile.FieldType.int)) ∈ lw_all := lw_g (lw_at lw_m2 62 rfl) rfl
theorem q453 : (Jvm.Cond.selects "WindFarmDispatcher$Direction$1" ({ cls := "WindFarmDispatcher$Direction", name := "isVertical", desc := "()Z" } : Jvm.MethodName) ({ cls := "WindFarmDispatcher$Direction", name := "isVertical", desc := "()Z" } : Jvm.MethodName)) ∈ lw_all := lw_g (lw_at lw_m2 138 rfl) rfl
theorem q604 : (Jvm.Cond.selects "WindFarmDispatcher$Direction$1" ({ cls := "java/lang/Object", name := "getClass", desc := "()Ljava/lang/Class;" } : Jvm.MethodName) ({ cls := "java/lang/Object", name := "getClass", desc := "()Ljava/lang/Class;" } : Jvm.MethodName)) ∈ lw_all := lw_g (lw_at lw_m3 49 rfl) rfl
theorem q2513 : (Jvm.Cond.castable "WindFarmDispatcher$Direction$1" "java/lang/Object") ∈ lw_tbl := lw_at lw_m11 38 rfl
theorem q2538 : (Jvm.Cond.castable "WindFarmDispatcher$Direction$1" "WindFarmDispatcher$Direction") ∈ lw_tbl := lw_at lw_m11 63 rfl
/-! WindFarmDispatcher$Direction$2 -/
def RX16 : String := "WindFarmDispatcher$Direction$2"
abbrev cX16_rowStep : ByteArray := prog_7_method_2_code
def yX16_rowStep : MethodName := ⟨RX16, "rowStep", "()I"⟩
theorem dX16_rowStep_0 : decode cX16_rowStep 0 = .ok (.iconst 0, 1) := by decide +kernel
theorem dX16_rowStep_1 : decode cX16_rowStep 1 = .ok (.ireturn, 1) := by decide +kernel
abbrev cX16_columnStep : ByteArray := prog_7_method_3_code
def yX16_columnStep : MethodName := ⟨RX16, "columnStep", "()I"⟩
theorem dX16_columnStep_0 : decode cX16_columnStep 0 = .ok (.iconst 1, 1) := by decide +kernel
theorem dX16_columnStep_1 : decode cX16_columnStep 1 = .ok (.ireturn, 1) := by decide +kernel
theorem q321 : (Jvm.Cond.selects "WindFarmDispatcher$Direction$2" ({ cls := "WindFarmDispatcher$Direction", name := "letter", desc := "()C" } : Jvm.MethodName) ({ cls := "WindFarmDispatcher$Direction", name := "letter", desc := "()C" } : Jvm.MethodName)) ∈ lw_all := lw_g (lw_at lw_m2 6 rfl) rfl
theorem q363 : (Jvm.Cond.selects "WindFarmDispatcher$Direction$2" ({ cls := "WindFarmDispatcher$Direction", name := "rowStep", desc := "()I" } : Jvm.MethodName) ({ cls := "WindFarmDispatcher$Direction$2", name := "rowStep", desc := "()I" } : Jvm.MethodName)) ∈ lw_all := lw_g (lw_at lw_m2 48 rfl) rfl
theorem q364 : (Jvm.Cond.instanceMethod ({ cls := "WindFarmDispatcher$Direction$2", name := "rowStep", desc := "()I" } : Jvm.MethodName)) ∈ lw_all := lw_g (lw_at lw_m2 49 rfl) rfl
theorem q365 : (Jvm.Cond.code ({ cls := "WindFarmDispatcher$Direction$2", name := "rowStep", desc := "()I" } : Jvm.MethodName) prog_7_method_2_code (1 : Nat) (Option.some Jvm.ClassFile.FieldType.int)) ∈ lw_all := lw_g (lw_at lw_m2 50 rfl) rfl
theorem q378 : (Jvm.Cond.selects "WindFarmDispatcher$Direction$2" ({ cls := "WindFarmDispatcher$Direction", name := "columnStep", desc := "()I" } : Jvm.MethodName) ({ cls := "WindFarmDispatcher$Direction$2", name := "columnStep", desc := "()I" } : Jvm.MethodName)) ∈ lw_all := lw_g (lw_at lw_m2 63 rfl) rfl
theorem q379 : (Jvm.Cond.instanceMethod ({ cls := "WindFarmDispatcher$Direction$2", name := "columnStep", desc := "()I" } : Jvm.MethodName)) ∈ lw_all := lw_g (lw_at lw_m2 64 rfl) rfl
theorem q380 : (Jvm.Cond.code ({ cls := "WindFarmDispatcher$Direction$2", name := "columnStep", desc := "()I" } : Jvm.MethodName) prog_7_method_3_code (1 : Nat) (Option.some Jvm.ClassFile.FieldType.int)) ∈ lw_all := lw_g (lw_at lw_m2 65 rfl) rfl
theorem q454 : (Jvm.Cond.selects "WindFarmDispatcher$Direction$2" ({ cls := "WindFarmDispatcher$Direction", name := "isVertical", desc := "()Z" } : Jvm.MethodName) ({ cls := "WindFarmDispatcher$Direction", name := "isVertical", desc := "()Z" } : Jvm.MethodName)) ∈ lw_all := lw_g (lw_at lw_m2 139 rfl) rfl
theorem q605 : (Jvm.Cond.selects "WindFarmDispatcher$Direction$2" ({ cls := "java/lang/Object", name := "getClass", desc := "()Ljava/lang/Class;" } : Jvm.MethodName) ({ cls := "java/lang/Object", name := "getClass", desc := "()Ljava/lang/Class;" } : Jvm.MethodName)) ∈ lw_all := lw_g (lw_at lw_m3 50 rfl) rfl
theorem q2525 : (Jvm.Cond.castable "WindFarmDispatcher$Direction$2" "java/lang/Object") ∈ lw_tbl := lw_at lw_m11 50 rfl
theorem q2539 : (Jvm.Cond.castable "WindFarmDispatcher$Direction$2" "WindFarmDispatcher$Direction") ∈ lw_tbl := lw_at lw_m11 64 rfl
/-! WindFarmDispatcher$Direction$3 -/
def RX17 : String := "WindFarmDispatcher$Direction$3"
abbrev cX17_rowStep : ByteArray := prog_8_method_2_code
def yX17_rowStep : MethodName := ⟨RX17, "rowStep", "()I"⟩
theorem dX17_rowStep_0 : decode cX17_rowStep 0 = .ok (.iconst 1, 1) := by decide +kernel
theorem dX17_rowStep_1 : decode cX17_rowStep 1 = .ok (.ireturn, 1) := by decide +kernel
abbrev cX17_columnStep : ByteArray := prog_8_method_3_code
def yX17_columnStep : MethodName := ⟨RX17, "columnStep", "()I"⟩
theorem dX17_columnStep_0 : decode cX17_columnStep 0 = .ok (.iconst 0, 1) := by decide +kernel
theorem dX17_columnStep_1 : decode cX17_columnStep 1 = .ok (.ireturn, 1) := by decide +kernel
theorem q322 : (Jvm.Cond.selects "WindFarmDispatcher$Direction$3" ({ cls := "WindFarmDispatcher$Direction", name := "letter", desc := "()C" } : Jvm.MethodName) ({ cls := "WindFarmDispatcher$Direction", name := "letter", desc := "()C" } : Jvm.MethodName)) ∈ lw_all := lw_g (lw_at lw_m2 7 rfl) rfl
theorem q366 : (Jvm.Cond.selects "WindFarmDispatcher$Direction$3" ({ cls := "WindFarmDispatcher$Direction", name := "rowStep", desc := "()I" } : Jvm.MethodName) ({ cls := "WindFarmDispatcher$Direction$3", name := "rowStep", desc := "()I" } : Jvm.MethodName)) ∈ lw_all := lw_g (lw_at lw_m2 51 rfl) rfl
theorem q367 : (Jvm.Cond.instanceMethod ({ cls := "WindFarmDispatcher$Direction$3", name := "rowStep", desc := "()I" } : Jvm.MethodName)) ∈ lw_all := lw_g (lw_at lw_m2 52 rfl) rfl
theorem q368 : (Jvm.Cond.code ({ cls := "WindFarmDispatcher$Direction$3", name := "rowStep", desc := "()I" } : Jvm.MethodName) prog_8_method_2_code (1 : Nat) (Option.some Jvm.ClassFile.FieldType.int)) ∈ lw_all := lw_g (lw_at lw_m2 53 rfl) rfl
theorem q381 : (Jvm.Cond.selects "WindFarmDispatcher$Direction$3" ({ cls := "WindFarmDispatcher$Direction", name := "columnStep", desc := "()I" } : Jvm.MethodName) ({ cls := "WindFarmDispatcher$Direction$3", name := "columnStep", desc := "()I" } : Jvm.MethodName)) ∈ lw_all := lw_g (lw_at lw_m2 66 rfl) rfl
theorem q382 : (Jvm.Cond.instanceMethod ({ cls := "WindFarmDispatcher$Direction$3", name := "columnStep", desc := "()I" } : Jvm.MethodName)) ∈ lw_all := lw_g (lw_at lw_m2 67 rfl) rfl
theorem q383 : (Jvm.Cond.code ({ cls := "WindFarmDispatcher$Direction$3", name := "columnStep", desc := "()I" } : Jvm.MethodName) prog_8_method_3_code (1 : Nat) (Option.some Jvm.ClassFile.FieldType.int)) ∈ lw_all := lw_g (lw_at lw_m2 68 rfl) rfl
theorem q455 : (Jvm.Cond.selects "WindFarmDispatcher$Direction$3" ({ cls := "WindFarmDispatcher$Direction", name := "isVertical", desc := "()Z" } : Jvm.MethodName) ({ cls := "WindFarmDispatcher$Direction", name := "isVertical", desc := "()Z" } : Jvm.MethodName)) ∈ lw_all := lw_g (lw_at lw_m2 140 rfl) rfl
theorem q606 : (Jvm.Cond.selects "WindFarmDispatcher$Direction$3" ({ cls := "java/lang/Object", name := "getClass", desc := "()Ljava/lang/Class;" } : Jvm.MethodName) ({ cls := "java/lang/Object", name := "getClass", desc := "()Ljava/lang/Class;" } : Jvm.MethodName)) ∈ lw_all := lw_g (lw_at lw_m3 51 rfl) rfl
theorem q2526 : (Jvm.Cond.castable "WindFarmDispatcher$Direction$3" "java/lang/Object") ∈ lw_tbl := lw_at lw_m11 51 rfl
theorem q2540 : (Jvm.Cond.castable "WindFarmDispatcher$Direction$3" "WindFarmDispatcher$Direction") ∈ lw_tbl := lw_at lw_m11 65 rfl
/-! WindFarmDispatcher$Direction$4 -/
def RX18 : String := "WindFarmDispatcher$Direction$4"
abbrev cX18_rowStep : ByteArray := prog_9_method_2_code
def yX18_rowStep : MethodName := ⟨RX18, "rowStep", "()I"⟩
theorem dX18_rowStep_0 : decode cX18_rowStep 0 = .ok (.iconst 0, 1) := by decide +kernel
theorem dX18_rowStep_1 : decode cX18_rowStep 1 = .ok (.ireturn, 1) := by decide +kernel
abbrev cX18_columnStep : ByteArray := prog_9_method_3_code
def yX18_columnStep : MethodName := ⟨RX18, "columnStep", "()I"⟩
theorem dX18_columnStep_0 : decode cX18_columnStep 0 = .ok (.iconst (-1), 1) := by decide +kernel
theorem dX18_columnStep_1 : decode cX18_columnStep 1 = .ok (.ireturn, 1) := by decide +kernel
theorem q323 : (Jvm.Cond.selects "WindFarmDispatcher$Direction$4" ({ cls := "WindFarmDispatcher$Direction", name := "letter", desc := "()C" } : Jvm.MethodName) ({ cls := "WindFarmDispatcher$Direction", name := "letter", desc := "()C" } : Jvm.MethodName)) ∈ lw_all := lw_g (lw_at lw_m2 8 rfl) rfl
theorem q369 : (Jvm.Cond.selects "WindFarmDispatcher$Direction$4" ({ cls := "WindFarmDispatcher$Direction", name := "rowStep", desc := "()I" } : Jvm.MethodName) ({ cls := "WindFarmDispatcher$Direction$4", name := "rowStep", desc := "()I" } : Jvm.MethodName)) ∈ lw_all := lw_g (lw_at lw_m2 54 rfl) rfl
theorem q370 : (Jvm.Cond.instanceMethod ({ cls := "WindFarmDispatcher$Direction$4", name := "rowStep", desc := "()I" } : Jvm.MethodName)) ∈ lw_all := lw_g (lw_at lw_m2 55 rfl) rfl
theorem q371 : (Jvm.Cond.code ({ cls := "WindFarmDispatcher$Direction$4", name := "rowStep", desc := "()I" } : Jvm.MethodName) prog_9_method_2_code (1 : Nat) (Option.some Jvm.ClassFile.FieldType.int)) ∈ lw_all := lw_g (lw_at lw_m2 56 rfl) rfl
theorem q384 : (Jvm.Cond.selects "WindFarmDispatcher$Direction$4" ({ cls := "WindFarmDispatcher$Direction", name := "columnStep", desc := "()I" } : Jvm.MethodName) ({ cls := "WindFarmDispatcher$Direction$4", name := "columnStep", desc := "()I" } : Jvm.MethodName)) ∈ lw_all := lw_g (lw_at lw_m2 69 rfl) rfl
theorem q385 : (Jvm.Cond.instanceMethod ({ cls := "WindFarmDispatcher$Direction$4", name := "columnStep", desc := "()I" } : Jvm.MethodName)) ∈ lw_all := lw_g (lw_at lw_m2 70 rfl) rfl
theorem q386 : (Jvm.Cond.code ({ cls := "WindFarmDispatcher$Direction$4", name := "columnStep", desc := "()I" } : Jvm.MethodName) prog_9_method_3_code (1 : Nat) (Option.some Jvm.ClassFile.FieldType.int)) ∈ lw_all := lw_g (lw_at lw_m2 71 rfl) rfl
theorem q456 : (Jvm.Cond.selects "WindFarmDispatcher$Direction$4" ({ cls := "WindFarmDispatcher$Direction", name := "isVertical", desc := "()Z" } : Jvm.MethodName) ({ cls := "WindFarmDispatcher$Direction", name := "isVertical", desc := "()Z" } : Jvm.MethodName)) ∈ lw_all := lw_g (lw_at lw_m2 141 rfl) rfl
theorem q607 : (Jvm.Cond.selects "WindFarmDispatcher$Direction$4" ({ cls := "java/lang/Object", name := "getClass", desc := "()Ljava/lang/Class;" } : Jvm.MethodName) ({ cls := "java/lang/Object", name := "getClass", desc := "()Ljava/lang/Class;" } : Jvm.MethodName)) ∈ lw_all := lw_g (lw_at lw_m3 52 rfl) rfl
theorem q2527 : (Jvm.Cond.castable "WindFarmDispatcher$Direction$4" "java/lang/Object") ∈ lw_tbl := lw_at lw_m11 52 rfl
theorem q2541 : (Jvm.Cond.castable "WindFarmDispatcher$Direction$4" "WindFarmDispatcher$Direction") ∈ lw_tbl := lw_at lw_m11 66 rfl
