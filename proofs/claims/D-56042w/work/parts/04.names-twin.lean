set_option maxRecDepth 100000
/-! WindFarmDispatcherModel -/
def RX4 : String := "WindFarmDispatcherModel"
def TX4 : u_T := fun k => match k with
  | 0 => ("WindFarmDispatcherModel", "thrown", "I", false)
  | 1 => ("WindFarmDispatcherModel", "all", "[I", true)
  | 2 => ("WindFarmDispatcherModel", "changes", "I", false)
  | 3 => ("WindFarmDispatcherModel", "isSaved", "Z", false)
  | 4 => ("WindFarmDispatcherModel", "result", "I", false)
  | 5 => ("WindFarmDispatcherModel", "why", "I", false)
  | 6 => ("WindFarmDispatcherModel", "detail", "I", false)
  | 7 => ("WindFarmDispatcherModel", "cause", "I", false)
  | 8 => ("WindFarmDispatcherModel", "line", "[C", true)
  | 9 => ("WindFarmDispatcherModel", "lineSize", "I", false)
  | 10 => ("WindFarmDispatcherModel", "input", "[C", true)
  | 11 => ("WindFarmDispatcherModel", "typed", "I", false)
  | 12 => ("WindFarmDispatcherModel", "here", "I", false)
  | 13 => ("WindFarmDispatcherModel", "error", "I", false)
  | 14 => ("WindFarmDispatcherModel", "errorAt", "I", false)
  | 15 => ("WindFarmDispatcherModel", "commands", "[I", true)
  | _ => ("WindFarmDispatcherModel", "commandMany", "I", false)
def tyX4 : Nat → FieldType := fun k => match k with
  | 0 => .int
  | 1 => .array .int
  | 2 => .int
  | 3 => .boolean
  | 4 => .int
  | 5 => .int
  | 6 => .int
  | 7 => .int
  | 8 => .array .char
  | 9 => .int
  | 10 => .array .char
  | 11 => .int
  | 12 => .int
  | 13 => .int
  | 14 => .int
  | 15 => .array .int
  | _ => .int
abbrev wsX40 : List Cond := u_ws RX4 TX4 17
set_option maxRecDepth 100000 in
theorem nmX4 : ∀ a, a < 17 → ∀ b, b < 17 → a ≠ b → (TX4 a).2.1 ≠ (TX4 b).2.1 := by decide +kernel
set_option maxRecDepth 100000 in
theorem tyX4_ok : ∀ k, k < 17 → parseFieldDescriptor (TX4 k).2.2.1 = some (tyX4 k) := by decide +kernel
abbrev cX4_init : ByteArray := prog_20_method_1_code
def yX4_init : MethodName := ⟨RX4, "<init>", "()V"⟩
def dkwX4_init_2 : List UInt8 := [17, 3, 231, 79, 177]
abbrev dktX4_init_2 : List UInt8 := dkwX4_init_2 ++ []
def dkwX4_init_1 : List UInt8 := [188, 5, 181, 0, 17, 42, 2, 181, 0, 20, 42, 17, 0, 244, 188, 10, 181, 0, 24, 42, 180, 0, 9, 6]
abbrev dktX4_init_1 : List UInt8 := dkwX4_init_1 ++ dktX4_init_2
def dkwX4_init_0 : List UInt8 := [42, 183, 0, 1, 42, 17, 6, 12, 188, 10, 181, 0, 9, 42, 16, 40, 188, 5, 181, 0, 13, 42, 16, 60]
abbrev dktX4_init_0 : List UInt8 := dkwX4_init_0 ++ dktX4_init_1
theorem dksX4_init_0 : cX4_init.data.toList.drop 0 = dktX4_init_0 := by decide +kernel
theorem dksX4_init_1 : cX4_init.data.toList.drop 24 = dktX4_init_1 := dk_seg dksX4_init_0 24 rfl rfl
theorem dksX4_init_2 : cX4_init.data.toList.drop 48 = dktX4_init_2 := dk_seg dksX4_init_1 24 rfl rfl
theorem dX4_init_0 : decode cX4_init 0 = .ok (.aload_n 0, 1) := dk_42 (dk_at dksX4_init_0 0 rfl rfl)
theorem dX4_init_1 : decode cX4_init 1 = .ok (.invokespecial 1, 3) := dk_183 0 1 (dk_at dksX4_init_0 1 rfl rfl)
theorem dX4_init_4 : decode cX4_init 4 = .ok (.aload_n 0, 1) := dk_42 (dk_at dksX4_init_0 4 rfl rfl)
theorem dX4_init_5 : decode cX4_init 5 = .ok (.sipush 1548, 3) := dk_17 6 12 (dk_at dksX4_init_0 5 rfl rfl)
theorem dX4_init_8 : decode cX4_init 8 = .ok (.newarray .int, 2) := dk_188_10 (dk_at dksX4_init_0 8 rfl rfl)
theorem dX4_init_10 : decode cX4_init 10 = .ok (.putfield 9, 3) := dk_181 0 9 (dk_at dksX4_init_0 10 rfl rfl)
theorem dX4_init_13 : decode cX4_init 13 = .ok (.aload_n 0, 1) := dk_42 (dk_at dksX4_init_0 13 rfl rfl)
theorem dX4_init_14 : decode cX4_init 14 = .ok (.bipush 40, 2) := dk_16 40 (dk_at dksX4_init_0 14 rfl rfl)
theorem dX4_init_16 : decode cX4_init 16 = .ok (.newarray .char, 2) := dk_188_5 (dk_at dksX4_init_0 16 rfl rfl)
theorem dX4_init_18 : decode cX4_init 18 = .ok (.putfield 13, 3) := dk_181 0 13 (dk_at dksX4_init_0 18 rfl rfl)
theorem dX4_init_21 : decode cX4_init 21 = .ok (.aload_n 0, 1) := dk_42 (dk_at dksX4_init_0 21 rfl rfl)
theorem dX4_init_22 : decode cX4_init 22 = .ok (.bipush 60, 2) := dk_16 60 (dk_at dksX4_init_0 22 rfl rfl)
theorem dX4_init_24 : decode cX4_init 24 = .ok (.newarray .char, 2) := dk_188_5 (dk_at dksX4_init_1 0 rfl rfl)
theorem dX4_init_26 : decode cX4_init 26 = .ok (.putfield 17, 3) := dk_181 0 17 (dk_at dksX4_init_1 2 rfl rfl)
theorem dX4_init_29 : decode cX4_init 29 = .ok (.aload_n 0, 1) := dk_42 (dk_at dksX4_init_1 5 rfl rfl)
theorem dX4_init_30 : decode cX4_init 30 = .ok (.iconst (-1), 1) := dk_2 (dk_at dksX4_init_1 6 rfl rfl)
theorem dX4_init_31 : decode cX4_init 31 = .ok (.putfield 20, 3) := dk_181 0 20 (dk_at dksX4_init_1 7 rfl rfl)
theorem dX4_init_34 : decode cX4_init 34 = .ok (.aload_n 0, 1) := dk_42 (dk_at dksX4_init_1 10 rfl rfl)
theorem dX4_init_35 : decode cX4_init 35 = .ok (.sipush 244, 3) := dk_17 0 244 (dk_at dksX4_init_1 11 rfl rfl)
theorem dX4_init_38 : decode cX4_init 38 = .ok (.newarray .int, 2) := dk_188_10 (dk_at dksX4_init_1 14 rfl rfl)
theorem dX4_init_40 : decode cX4_init 40 = .ok (.putfield 24, 3) := dk_181 0 24 (dk_at dksX4_init_1 16 rfl rfl)
theorem dX4_init_43 : decode cX4_init 43 = .ok (.aload_n 0, 1) := dk_42 (dk_at dksX4_init_1 19 rfl rfl)
theorem dX4_init_44 : decode cX4_init 44 = .ok (.getfield 9, 3) := dk_180 0 9 (dk_at dksX4_init_1 20 rfl rfl)
theorem dX4_init_47 : decode cX4_init 47 = .ok (.iconst 3, 1) := dk_6 (dk_at dksX4_init_1 23 rfl rfl)
theorem dX4_init_48 : decode cX4_init 48 = .ok (.sipush 999, 3) := dk_17 3 231 (dk_at dksX4_init_2 0 rfl rfl)
theorem dX4_init_51 : decode cX4_init 51 = .ok (.iastore, 1) := dk_79 (dk_at dksX4_init_2 3 rfl rfl)
theorem dX4_init_52 : decode cX4_init 52 = .ok (.return_, 1) := dk_177 (dk_at dksX4_init_2 4 rfl rfl)
abbrev cX4_thrown : ByteArray := prog_20_method_2_code
def yX4_thrown : MethodName := ⟨RX4, "thrown", "()I"⟩
theorem dX4_thrown_0 : decode cX4_thrown 0 = .ok (.aload_n 0, 1) := by decide +kernel
theorem dX4_thrown_1 : decode cX4_thrown 1 = .ok (.getfield 27, 3) := by decide +kernel
theorem dX4_thrown_4 : decode cX4_thrown 4 = .ok (.ireturn, 1) := by decide +kernel
abbrev cX4_rejectionReason : ByteArray := prog_20_method_9_code
def yX4_rejectionReason : MethodName := ⟨RX4, "rejectionReason", "()I"⟩
def dkwX4_rejectionReason_1 : List UInt8 := [167, 0, 4, 3, 172]
abbrev dktX4_rejectionReason_1 : List UInt8 := dkwX4_rejectionReason_1 ++ []
def dkwX4_rejectionReason_0 : List UInt8 := [42, 42, 180, 0, 40, 153, 0, 7, 4, 167, 0, 4, 3, 182, 0, 49, 153, 0, 10, 42, 180, 0, 40]
abbrev dktX4_rejectionReason_0 : List UInt8 := dkwX4_rejectionReason_0 ++ dktX4_rejectionReason_1
theorem dksX4_rejectionReason_0 : cX4_rejectionReason.data.toList.drop 0 = dktX4_rejectionReason_0 := by decide +kernel
theorem dksX4_rejectionReason_1 : cX4_rejectionReason.data.toList.drop 23 = dktX4_rejectionReason_1 := dk_seg dksX4_rejectionReason_0 23 rfl rfl
theorem dX4_rejectionReason_0 : decode cX4_rejectionReason 0 = .ok (.aload_n 0, 1) := dk_42 (dk_at dksX4_rejectionReason_0 0 rfl rfl)
theorem dX4_rejectionReason_1 : decode cX4_rejectionReason 1 = .ok (.aload_n 0, 1) := dk_42 (dk_at dksX4_rejectionReason_0 1 rfl rfl)
theorem dX4_rejectionReason_2 : decode cX4_rejectionReason 2 = .ok (.getfield 40, 3) := dk_180 0 40 (dk_at dksX4_rejectionReason_0 2 rfl rfl)
theorem dX4_rejectionReason_5 : decode cX4_rejectionReason 5 = .ok (.ifCond .eq 7, 3) := dk_153 0 7 (dk_at dksX4_rejectionReason_0 5 rfl rfl)
theorem dX4_rejectionReason_8 : decode cX4_rejectionReason 8 = .ok (.iconst 1, 1) := dk_4 (dk_at dksX4_rejectionReason_0 8 rfl rfl)
theorem dX4_rejectionReason_9 : decode cX4_rejectionReason 9 = .ok (.goto 4, 3) := dk_167 0 4 (dk_at dksX4_rejectionReason_0 9 rfl rfl)
theorem dX4_rejectionReason_12 : decode cX4_rejectionReason 12 = .ok (.iconst 0, 1) := dk_3 (dk_at dksX4_rejectionReason_0 12 rfl rfl)
theorem dX4_rejectionReason_13 : decode cX4_rejectionReason 13 = .ok (.invokevirtual 49, 3) := dk_182 0 49 (dk_at dksX4_rejectionReason_0 13 rfl rfl)
theorem dX4_rejectionReason_16 : decode cX4_rejectionReason 16 = .ok (.ifCond .eq 10, 3) := dk_153 0 10 (dk_at dksX4_rejectionReason_0 16 rfl rfl)
theorem dX4_rejectionReason_19 : decode cX4_rejectionReason 19 = .ok (.aload_n 0, 1) := dk_42 (dk_at dksX4_rejectionReason_0 19 rfl rfl)
theorem dX4_rejectionReason_20 : decode cX4_rejectionReason 20 = .ok (.getfield 40, 3) := dk_180 0 40 (dk_at dksX4_rejectionReason_0 20 rfl rfl)
theorem dX4_rejectionReason_23 : decode cX4_rejectionReason 23 = .ok (.goto 4, 3) := dk_167 0 4 (dk_at dksX4_rejectionReason_1 0 rfl rfl)
theorem dX4_rejectionReason_26 : decode cX4_rejectionReason 26 = .ok (.iconst 0, 1) := dk_3 (dk_at dksX4_rejectionReason_1 3 rfl rfl)
theorem dX4_rejectionReason_27 : decode cX4_rejectionReason 27 = .ok (.ireturn, 1) := dk_172 (dk_at dksX4_rejectionReason_1 4 rfl rfl)
abbrev cX4_isFine : ByteArray := prog_20_method_7_code
def yX4_isFine : MethodName := ⟨RX4, "isFine", "(Z)Z"⟩
def dkwX4_isFine_0 : List UInt8 := [42, 27, 153, 0, 7, 3, 167, 0, 4, 4, 181, 0, 27, 27, 172]
abbrev dktX4_isFine_0 : List UInt8 := dkwX4_isFine_0 ++ []
theorem dksX4_isFine_0 : cX4_isFine.data.toList.drop 0 = dktX4_isFine_0 := by decide +kernel
theorem dX4_isFine_0 : decode cX4_isFine 0 = .ok (.aload_n 0, 1) := dk_42 (dk_at dksX4_isFine_0 0 rfl rfl)
theorem dX4_isFine_1 : decode cX4_isFine 1 = .ok (.iload_n 1, 1) := dk_27 (dk_at dksX4_isFine_0 1 rfl rfl)
theorem dX4_isFine_2 : decode cX4_isFine 2 = .ok (.ifCond .eq 7, 3) := dk_153 0 7 (dk_at dksX4_isFine_0 2 rfl rfl)
theorem dX4_isFine_5 : decode cX4_isFine 5 = .ok (.iconst 0, 1) := dk_3 (dk_at dksX4_isFine_0 5 rfl rfl)
theorem dX4_isFine_6 : decode cX4_isFine 6 = .ok (.goto 4, 3) := dk_167 0 4 (dk_at dksX4_isFine_0 6 rfl rfl)
theorem dX4_isFine_9 : decode cX4_isFine 9 = .ok (.iconst 1, 1) := dk_4 (dk_at dksX4_isFine_0 9 rfl rfl)
theorem dX4_isFine_10 : decode cX4_isFine 10 = .ok (.putfield 27, 3) := dk_181 0 27 (dk_at dksX4_isFine_0 10 rfl rfl)
theorem dX4_isFine_13 : decode cX4_isFine 13 = .ok (.iload_n 1, 1) := dk_27 (dk_at dksX4_isFine_0 13 rfl rfl)
theorem dX4_isFine_14 : decode cX4_isFine 14 = .ok (.ireturn, 1) := dk_172 (dk_at dksX4_isFine_0 14 rfl rfl)
abbrev cX4_rejectionDetail : ByteArray := prog_20_method_10_code
def yX4_rejectionDetail : MethodName := ⟨RX4, "rejectionDetail", "()I"⟩
def dkwX4_rejectionDetail_1 : List UInt8 := [167, 0, 4, 3, 172]
abbrev dktX4_rejectionDetail_1 : List UInt8 := dkwX4_rejectionDetail_1 ++ []
def dkwX4_rejectionDetail_0 : List UInt8 := [42, 42, 180, 0, 40, 153, 0, 7, 4, 167, 0, 4, 3, 182, 0, 49, 153, 0, 10, 42, 180, 0, 43]
abbrev dktX4_rejectionDetail_0 : List UInt8 := dkwX4_rejectionDetail_0 ++ dktX4_rejectionDetail_1
theorem dksX4_rejectionDetail_0 : cX4_rejectionDetail.data.toList.drop 0 = dktX4_rejectionDetail_0 := by decide +kernel
theorem dksX4_rejectionDetail_1 : cX4_rejectionDetail.data.toList.drop 23 = dktX4_rejectionDetail_1 := dk_seg dksX4_rejectionDetail_0 23 rfl rfl
theorem dX4_rejectionDetail_0 : decode cX4_rejectionDetail 0 = .ok (.aload_n 0, 1) := dk_42 (dk_at dksX4_rejectionDetail_0 0 rfl rfl)
theorem dX4_rejectionDetail_1 : decode cX4_rejectionDetail 1 = .ok (.aload_n 0, 1) := dk_42 (dk_at dksX4_rejectionDetail_0 1 rfl rfl)
theorem dX4_rejectionDetail_2 : decode cX4_rejectionDetail 2 = .ok (.getfield 40, 3) := dk_180 0 40 (dk_at dksX4_rejectionDetail_0 2 rfl rfl)
theorem dX4_rejectionDetail_5 : decode cX4_rejectionDetail 5 = .ok (.ifCond .eq 7, 3) := dk_153 0 7 (dk_at dksX4_rejectionDetail_0 5 rfl rfl)
theorem dX4_rejectionDetail_8 : decode cX4_rejectionDetail 8 = .ok (.iconst 1, 1) := dk_4 (dk_at dksX4_rejectionDetail_0 8 rfl rfl)
theorem dX4_rejectionDetail_9 : decode cX4_rejectionDetail 9 = .ok (.goto 4, 3) := dk_167 0 4 (dk_at dksX4_rejectionDetail_0 9 rfl rfl)
theorem dX4_rejectionDetail_12 : decode cX4_rejectionDetail 12 = .ok (.iconst 0, 1) := dk_3 (dk_at dksX4_rejectionDetail_0 12 rfl rfl)
theorem dX4_rejectionDetail_13 : decode cX4_rejectionDetail 13 = .ok (.invokevirtual 49, 3) := dk_182 0 49 (dk_at dksX4_rejectionDetail_0 13 rfl rfl)
theorem dX4_rejectionDetail_16 : decode cX4_rejectionDetail 16 = .ok (.ifCond .eq 10, 3) := dk_153 0 10 (dk_at dksX4_rejectionDetail_0 16 rfl rfl)
theorem dX4_rejectionDetail_19 : decode cX4_rejectionDetail 19 = .ok (.aload_n 0, 1) := dk_42 (dk_at dksX4_rejectionDetail_0 19 rfl rfl)
theorem dX4_rejectionDetail_20 : decode cX4_rejectionDetail 20 = .ok (.getfield 43, 3) := dk_180 0 43 (dk_at dksX4_rejectionDetail_0 20 rfl rfl)
theorem dX4_rejectionDetail_23 : decode cX4_rejectionDetail 23 = .ok (.goto 4, 3) := dk_167 0 4 (dk_at dksX4_rejectionDetail_1 0 rfl rfl)
theorem dX4_rejectionDetail_26 : decode cX4_rejectionDetail 26 = .ok (.iconst 0, 1) := dk_3 (dk_at dksX4_rejectionDetail_1 3 rfl rfl)
theorem dX4_rejectionDetail_27 : decode cX4_rejectionDetail 27 = .ok (.ireturn, 1) := dk_172 (dk_at dksX4_rejectionDetail_1 4 rfl rfl)
abbrev cX4_causeReason : ByteArray := prog_20_method_11_code
def yX4_causeReason : MethodName := ⟨RX4, "causeReason", "()I"⟩
def dkwX4_causeReason_1 : List UInt8 := [167, 0, 4, 3, 172]
abbrev dktX4_causeReason_1 : List UInt8 := dkwX4_causeReason_1 ++ []
def dkwX4_causeReason_0 : List UInt8 := [42, 42, 180, 0, 46, 153, 0, 7, 4, 167, 0, 4, 3, 182, 0, 49, 153, 0, 10, 42, 180, 0, 46]
abbrev dktX4_causeReason_0 : List UInt8 := dkwX4_causeReason_0 ++ dktX4_causeReason_1
theorem dksX4_causeReason_0 : cX4_causeReason.data.toList.drop 0 = dktX4_causeReason_0 := by decide +kernel
theorem dksX4_causeReason_1 : cX4_causeReason.data.toList.drop 23 = dktX4_causeReason_1 := dk_seg dksX4_causeReason_0 23 rfl rfl
theorem dX4_causeReason_0 : decode cX4_causeReason 0 = .ok (.aload_n 0, 1) := dk_42 (dk_at dksX4_causeReason_0 0 rfl rfl)
theorem dX4_causeReason_1 : decode cX4_causeReason 1 = .ok (.aload_n 0, 1) := dk_42 (dk_at dksX4_causeReason_0 1 rfl rfl)
theorem dX4_causeReason_2 : decode cX4_causeReason 2 = .ok (.getfield 46, 3) := dk_180 0 46 (dk_at dksX4_causeReason_0 2 rfl rfl)
theorem dX4_causeReason_5 : decode cX4_causeReason 5 = .ok (.ifCond .eq 7, 3) := dk_153 0 7 (dk_at dksX4_causeReason_0 5 rfl rfl)
theorem dX4_causeReason_8 : decode cX4_causeReason 8 = .ok (.iconst 1, 1) := dk_4 (dk_at dksX4_causeReason_0 8 rfl rfl)
theorem dX4_causeReason_9 : decode cX4_causeReason 9 = .ok (.goto 4, 3) := dk_167 0 4 (dk_at dksX4_causeReason_0 9 rfl rfl)
theorem dX4_causeReason_12 : decode cX4_causeReason 12 = .ok (.iconst 0, 1) := dk_3 (dk_at dksX4_causeReason_0 12 rfl rfl)
theorem dX4_causeReason_13 : decode cX4_causeReason 13 = .ok (.invokevirtual 49, 3) := dk_182 0 49 (dk_at dksX4_causeReason_0 13 rfl rfl)
theorem dX4_causeReason_16 : decode cX4_causeReason 16 = .ok (.ifCond .eq 10, 3) := dk_153 0 10 (dk_at dksX4_causeReason_0 16 rfl rfl)
theorem dX4_causeReason_19 : decode cX4_causeReason 19 = .ok (.aload_n 0, 1) := dk_42 (dk_at dksX4_causeReason_0 19 rfl rfl)
theorem dX4_causeReason_20 : decode cX4_causeReason 20 = .ok (.getfield 46, 3) := dk_180 0 46 (dk_at dksX4_causeReason_0 20 rfl rfl)
theorem dX4_causeReason_23 : decode cX4_causeReason 23 = .ok (.goto 4, 3) := dk_167 0 4 (dk_at dksX4_causeReason_1 0 rfl rfl)
theorem dX4_causeReason_26 : decode cX4_causeReason 26 = .ok (.iconst 0, 1) := dk_3 (dk_at dksX4_causeReason_1 3 rfl rfl)
theorem dX4_causeReason_27 : decode cX4_causeReason 27 = .ok (.ireturn, 1) := dk_172 (dk_at dksX4_causeReason_1 4 rfl rfl)
abbrev cX4_addTurbine : ByteArray := prog_20_method_28_code
def yX4_addTurbine : MethodName := ⟨RX4, "addTurbine", "(III)I"⟩
def dkwX4_addTurbine_0 : List UInt8 := [42, 182, 0, 92, 42, 42, 27, 28, 29, 182, 0, 95, 4, 5, 6, 182, 0, 99, 172]
abbrev dktX4_addTurbine_0 : List UInt8 := dkwX4_addTurbine_0 ++ []
theorem dksX4_addTurbine_0 : cX4_addTurbine.data.toList.drop 0 = dktX4_addTurbine_0 := by decide +kernel
theorem dX4_addTurbine_0 : decode cX4_addTurbine 0 = .ok (.aload_n 0, 1) := dk_42 (dk_at dksX4_addTurbine_0 0 rfl rfl)
theorem dX4_addTurbine_1 : decode cX4_addTurbine 1 = .ok (.invokevirtual 92, 3) := dk_182 0 92 (dk_at dksX4_addTurbine_0 1 rfl rfl)
theorem dX4_addTurbine_4 : decode cX4_addTurbine 4 = .ok (.aload_n 0, 1) := dk_42 (dk_at dksX4_addTurbine_0 4 rfl rfl)
theorem dX4_addTurbine_5 : decode cX4_addTurbine 5 = .ok (.aload_n 0, 1) := dk_42 (dk_at dksX4_addTurbine_0 5 rfl rfl)
theorem dX4_addTurbine_6 : decode cX4_addTurbine 6 = .ok (.iload_n 1, 1) := dk_27 (dk_at dksX4_addTurbine_0 6 rfl rfl)
theorem dX4_addTurbine_7 : decode cX4_addTurbine 7 = .ok (.iload_n 2, 1) := dk_28 (dk_at dksX4_addTurbine_0 7 rfl rfl)
theorem dX4_addTurbine_8 : decode cX4_addTurbine 8 = .ok (.iload_n 3, 1) := dk_29 (dk_at dksX4_addTurbine_0 8 rfl rfl)
theorem dX4_addTurbine_9 : decode cX4_addTurbine 9 = .ok (.invokevirtual 95, 3) := dk_182 0 95 (dk_at dksX4_addTurbine_0 9 rfl rfl)
theorem dX4_addTurbine_12 : decode cX4_addTurbine 12 = .ok (.iconst 1, 1) := dk_4 (dk_at dksX4_addTurbine_0 12 rfl rfl)
theorem dX4_addTurbine_13 : decode cX4_addTurbine 13 = .ok (.iconst 2, 1) := dk_5 (dk_at dksX4_addTurbine_0 13 rfl rfl)
theorem dX4_addTurbine_14 : decode cX4_addTurbine 14 = .ok (.iconst 3, 1) := dk_6 (dk_at dksX4_addTurbine_0 14 rfl rfl)
theorem dX4_addTurbine_15 : decode cX4_addTurbine 15 = .ok (.invokevirtual 99, 3) := dk_182 0 99 (dk_at dksX4_addTurbine_0 15 rfl rfl)
theorem dX4_addTurbine_18 : decode cX4_addTurbine 18 = .ok (.ireturn, 1) := dk_172 (dk_at dksX4_addTurbine_0 18 rfl rfl)
abbrev cX4_begins : ByteArray := prog_20_method_5_code
def yX4_begins : MethodName := ⟨RX4, "begins", "()V"⟩
def dkwX4_begins_0 : List UInt8 := [42, 3, 16, 10, 182, 0, 30, 177]
abbrev dktX4_begins_0 : List UInt8 := dkwX4_begins_0 ++ []
theorem dksX4_begins_0 : cX4_begins.data.toList.drop 0 = dktX4_begins_0 := by decide +kernel
theorem dX4_begins_0 : decode cX4_begins 0 = .ok (.aload_n 0, 1) := dk_42 (dk_at dksX4_begins_0 0 rfl rfl)
theorem dX4_begins_1 : decode cX4_begins 1 = .ok (.iconst 0, 1) := dk_3 (dk_at dksX4_begins_0 1 rfl rfl)
theorem dX4_begins_2 : decode cX4_begins 2 = .ok (.bipush 10, 2) := dk_16 10 (dk_at dksX4_begins_0 2 rfl rfl)
theorem dX4_begins_4 : decode cX4_begins 4 = .ok (.invokevirtual 30, 3) := dk_182 0 30 (dk_at dksX4_begins_0 4 rfl rfl)
theorem dX4_begins_7 : decode cX4_begins 7 = .ok (.return_, 1) := dk_177 (dk_at dksX4_begins_0 7 rfl rfl)
abbrev cX4_copies : ByteArray := prog_20_method_4_code
def yX4_copies : MethodName := ⟨RX4, "copies", "(II)V"⟩
def dkwX4_copies_1 : List UInt8 := [17, 0, 129, 27, 104, 29, 96, 46, 79, 132, 3, 1, 167, 255, 222, 177]
abbrev dktX4_copies_1 : List UInt8 := dkwX4_copies_1 ++ []
def dkwX4_copies_0 : List UInt8 := [3, 62, 29, 17, 0, 129, 162, 0, 33, 42, 180, 0, 9, 17, 0, 129, 28, 104, 29, 96, 42, 180, 0, 9]
abbrev dktX4_copies_0 : List UInt8 := dkwX4_copies_0 ++ dktX4_copies_1
theorem dksX4_copies_0 : cX4_copies.data.toList.drop 0 = dktX4_copies_0 := by decide +kernel
theorem dksX4_copies_1 : cX4_copies.data.toList.drop 24 = dktX4_copies_1 := dk_seg dksX4_copies_0 24 rfl rfl
theorem dX4_copies_0 : decode cX4_copies 0 = .ok (.iconst 0, 1) := dk_3 (dk_at dksX4_copies_0 0 rfl rfl)
theorem dX4_copies_1 : decode cX4_copies 1 = .ok (.istore_n 3, 1) := dk_62 (dk_at dksX4_copies_0 1 rfl rfl)
theorem dX4_copies_2 : decode cX4_copies 2 = .ok (.iload_n 3, 1) := dk_29 (dk_at dksX4_copies_0 2 rfl rfl)
theorem dX4_copies_3 : decode cX4_copies 3 = .ok (.sipush 129, 3) := dk_17 0 129 (dk_at dksX4_copies_0 3 rfl rfl)
theorem dX4_copies_6 : decode cX4_copies 6 = .ok (.if_icmp .ge 33, 3) := dk_162 0 33 (dk_at dksX4_copies_0 6 rfl rfl)
theorem dX4_copies_9 : decode cX4_copies 9 = .ok (.aload_n 0, 1) := dk_42 (dk_at dksX4_copies_0 9 rfl rfl)
theorem dX4_copies_10 : decode cX4_copies 10 = .ok (.getfield 9, 3) := dk_180 0 9 (dk_at dksX4_copies_0 10 rfl rfl)
theorem dX4_copies_13 : decode cX4_copies 13 = .ok (.sipush 129, 3) := dk_17 0 129 (dk_at dksX4_copies_0 13 rfl rfl)
theorem dX4_copies_16 : decode cX4_copies 16 = .ok (.iload_n 2, 1) := dk_28 (dk_at dksX4_copies_0 16 rfl rfl)
theorem dX4_copies_17 : decode cX4_copies 17 = .ok (.imul, 1) := dk_104 (dk_at dksX4_copies_0 17 rfl rfl)
theorem dX4_copies_18 : decode cX4_copies 18 = .ok (.iload_n 3, 1) := dk_29 (dk_at dksX4_copies_0 18 rfl rfl)
theorem dX4_copies_19 : decode cX4_copies 19 = .ok (.iadd, 1) := dk_96 (dk_at dksX4_copies_0 19 rfl rfl)
theorem dX4_copies_20 : decode cX4_copies 20 = .ok (.aload_n 0, 1) := dk_42 (dk_at dksX4_copies_0 20 rfl rfl)
theorem dX4_copies_21 : decode cX4_copies 21 = .ok (.getfield 9, 3) := dk_180 0 9 (dk_at dksX4_copies_0 21 rfl rfl)
theorem dX4_copies_24 : decode cX4_copies 24 = .ok (.sipush 129, 3) := dk_17 0 129 (dk_at dksX4_copies_1 0 rfl rfl)
theorem dX4_copies_27 : decode cX4_copies 27 = .ok (.iload_n 1, 1) := dk_27 (dk_at dksX4_copies_1 3 rfl rfl)
theorem dX4_copies_28 : decode cX4_copies 28 = .ok (.imul, 1) := dk_104 (dk_at dksX4_copies_1 4 rfl rfl)
theorem dX4_copies_29 : decode cX4_copies 29 = .ok (.iload_n 3, 1) := dk_29 (dk_at dksX4_copies_1 5 rfl rfl)
theorem dX4_copies_30 : decode cX4_copies 30 = .ok (.iadd, 1) := dk_96 (dk_at dksX4_copies_1 6 rfl rfl)
theorem dX4_copies_31 : decode cX4_copies 31 = .ok (.iaload, 1) := dk_46 (dk_at dksX4_copies_1 7 rfl rfl)
theorem dX4_copies_32 : decode cX4_copies 32 = .ok (.iastore, 1) := dk_79 (dk_at dksX4_copies_1 8 rfl rfl)
theorem dX4_copies_33 : decode cX4_copies 33 = .ok (.iinc 3 1, 3) := dk_132 3 1 (dk_at dksX4_copies_1 9 rfl rfl)
theorem dX4_copies_36 : decode cX4_copies 36 = .ok (.goto (-34), 3) := dk_167 255 222 (dk_at dksX4_copies_1 12 rfl rfl)
theorem dX4_copies_39 : decode cX4_copies 39 = .ok (.return_, 1) := dk_177 (dk_at dksX4_copies_1 15 rfl rfl)
abbrev cX4_adds : ByteArray := prog_20_method_27_code
def yX4_adds : MethodName := ⟨RX4, "adds", "(III)I"⟩
def dkwX4_adds_6 : List UInt8 := [21, 4, 181, 0, 37, 3, 172]
abbrev dktX4_adds_6 : List UInt8 := dkwX4_adds_6 ++ []
def dkwX4_adds_5 : List UInt8 := [21, 4, 3, 27, 182, 0, 88, 42, 21, 4, 4, 28, 182, 0, 88, 42, 21, 4, 5, 29, 182, 0, 88, 42]
abbrev dktX4_adds_5 : List UInt8 := dkwX4_adds_5 ++ dktX4_adds_6
def dkwX4_adds_4 : List UInt8 := [21, 6, 16, 6, 162, 0, 18, 42, 21, 4, 21, 6, 3, 182, 0, 88, 132, 6, 1, 167, 255, 237, 42]
abbrev dktX4_adds_4 : List UInt8 := dkwX4_adds_4 ++ dktX4_adds_5
def dkwX4_adds_3 : List UInt8 := [5, 21, 5, 182, 0, 84, 153, 0, 5, 6, 172, 42, 180, 0, 9, 3, 92, 46, 4, 96, 79, 3, 54, 6]
abbrev dktX4_adds_3 : List UInt8 := dkwX4_adds_3 ++ dktX4_adds_4
def dkwX4_adds_2 : List UInt8 := [167, 0, 4, 3, 4, 16, 12, 182, 0, 84, 154, 0, 23, 42, 21, 5, 155, 0, 7, 4, 167, 0, 4, 3]
abbrev dktX4_adds_2 : List UInt8 := dkwX4_adds_2 ++ dktX4_adds_3
def dkwX4_adds_1 : List UInt8 := [180, 0, 9, 3, 46, 54, 4, 42, 27, 28, 182, 0, 61, 54, 5, 42, 21, 4, 16, 12, 160, 0, 7, 4]
abbrev dktX4_adds_1 : List UInt8 := dkwX4_adds_1 ++ dktX4_adds_2
def dkwX4_adds_0 : List UInt8 := [27, 28, 184, 0, 80, 154, 0, 5, 4, 172, 29, 4, 16, 9, 184, 0, 53, 154, 0, 5, 5, 172, 42]
abbrev dktX4_adds_0 : List UInt8 := dkwX4_adds_0 ++ dktX4_adds_1
theorem dksX4_adds_0 : cX4_adds.data.toList.drop 0 = dktX4_adds_0 := by decide +kernel
theorem dksX4_adds_1 : cX4_adds.data.toList.drop 23 = dktX4_adds_1 := dk_seg dksX4_adds_0 23 rfl rfl
theorem dksX4_adds_2 : cX4_adds.data.toList.drop 47 = dktX4_adds_2 := dk_seg dksX4_adds_1 24 rfl rfl
theorem dksX4_adds_3 : cX4_adds.data.toList.drop 71 = dktX4_adds_3 := dk_seg dksX4_adds_2 24 rfl rfl
theorem dksX4_adds_4 : cX4_adds.data.toList.drop 95 = dktX4_adds_4 := dk_seg dksX4_adds_3 24 rfl rfl
theorem dksX4_adds_5 : cX4_adds.data.toList.drop 118 = dktX4_adds_5 := dk_seg dksX4_adds_4 23 rfl rfl
theorem dksX4_adds_6 : cX4_adds.data.toList.drop 142 = dktX4_adds_6 := dk_seg dksX4_adds_5 24 rfl rfl
theorem dX4_adds_0 : decode cX4_adds 0 = .ok (.iload_n 1, 1) := dk_27 (dk_at dksX4_adds_0 0 rfl rfl)
theorem dX4_adds_1 : decode cX4_adds 1 = .ok (.iload_n 2, 1) := dk_28 (dk_at dksX4_adds_0 1 rfl rfl)
theorem dX4_adds_2 : decode cX4_adds 2 = .ok (.invokestatic 80, 3) := dk_184 0 80 (dk_at dksX4_adds_0 2 rfl rfl)
theorem dX4_adds_5 : decode cX4_adds 5 = .ok (.ifCond .ne 5, 3) := dk_154 0 5 (dk_at dksX4_adds_0 5 rfl rfl)
theorem dX4_adds_8 : decode cX4_adds 8 = .ok (.iconst 1, 1) := dk_4 (dk_at dksX4_adds_0 8 rfl rfl)
theorem dX4_adds_9 : decode cX4_adds 9 = .ok (.ireturn, 1) := dk_172 (dk_at dksX4_adds_0 9 rfl rfl)
theorem dX4_adds_10 : decode cX4_adds 10 = .ok (.iload_n 3, 1) := dk_29 (dk_at dksX4_adds_0 10 rfl rfl)
theorem dX4_adds_11 : decode cX4_adds 11 = .ok (.iconst 1, 1) := dk_4 (dk_at dksX4_adds_0 11 rfl rfl)
theorem dX4_adds_12 : decode cX4_adds 12 = .ok (.bipush 9, 2) := dk_16 9 (dk_at dksX4_adds_0 12 rfl rfl)
theorem dX4_adds_14 : decode cX4_adds 14 = .ok (.invokestatic 53, 3) := dk_184 0 53 (dk_at dksX4_adds_0 14 rfl rfl)
theorem dX4_adds_17 : decode cX4_adds 17 = .ok (.ifCond .ne 5, 3) := dk_154 0 5 (dk_at dksX4_adds_0 17 rfl rfl)
theorem dX4_adds_20 : decode cX4_adds 20 = .ok (.iconst 2, 1) := dk_5 (dk_at dksX4_adds_0 20 rfl rfl)
theorem dX4_adds_21 : decode cX4_adds 21 = .ok (.ireturn, 1) := dk_172 (dk_at dksX4_adds_0 21 rfl rfl)
theorem dX4_adds_22 : decode cX4_adds 22 = .ok (.aload_n 0, 1) := dk_42 (dk_at dksX4_adds_0 22 rfl rfl)
theorem dX4_adds_23 : decode cX4_adds 23 = .ok (.getfield 9, 3) := dk_180 0 9 (dk_at dksX4_adds_1 0 rfl rfl)
theorem dX4_adds_26 : decode cX4_adds 26 = .ok (.iconst 0, 1) := dk_3 (dk_at dksX4_adds_1 3 rfl rfl)
theorem dX4_adds_27 : decode cX4_adds 27 = .ok (.iaload, 1) := dk_46 (dk_at dksX4_adds_1 4 rfl rfl)
theorem dX4_adds_28 : decode cX4_adds 28 = .ok (.istore 4, 2) := dk_54 4 (dk_at dksX4_adds_1 5 rfl rfl)
theorem dX4_adds_30 : decode cX4_adds 30 = .ok (.aload_n 0, 1) := dk_42 (dk_at dksX4_adds_1 7 rfl rfl)
theorem dX4_adds_31 : decode cX4_adds 31 = .ok (.iload_n 1, 1) := dk_27 (dk_at dksX4_adds_1 8 rfl rfl)
theorem dX4_adds_32 : decode cX4_adds 32 = .ok (.iload_n 2, 1) := dk_28 (dk_at dksX4_adds_1 9 rfl rfl)
theorem dX4_adds_33 : decode cX4_adds 33 = .ok (.invokevirtual 61, 3) := dk_182 0 61 (dk_at dksX4_adds_1 10 rfl rfl)
theorem dX4_adds_36 : decode cX4_adds 36 = .ok (.istore 5, 2) := dk_54 5 (dk_at dksX4_adds_1 13 rfl rfl)
theorem dX4_adds_38 : decode cX4_adds 38 = .ok (.aload_n 0, 1) := dk_42 (dk_at dksX4_adds_1 15 rfl rfl)
theorem dX4_adds_39 : decode cX4_adds 39 = .ok (.iload 4, 2) := dk_21 4 (dk_at dksX4_adds_1 16 rfl rfl)
theorem dX4_adds_41 : decode cX4_adds 41 = .ok (.bipush 12, 2) := dk_16 12 (dk_at dksX4_adds_1 18 rfl rfl)
theorem dX4_adds_43 : decode cX4_adds 43 = .ok (.if_icmp .ne 7, 3) := dk_160 0 7 (dk_at dksX4_adds_1 20 rfl rfl)
theorem dX4_adds_46 : decode cX4_adds 46 = .ok (.iconst 1, 1) := dk_4 (dk_at dksX4_adds_1 23 rfl rfl)
theorem dX4_adds_47 : decode cX4_adds 47 = .ok (.goto 4, 3) := dk_167 0 4 (dk_at dksX4_adds_2 0 rfl rfl)
theorem dX4_adds_50 : decode cX4_adds 50 = .ok (.iconst 0, 1) := dk_3 (dk_at dksX4_adds_2 3 rfl rfl)
theorem dX4_adds_51 : decode cX4_adds 51 = .ok (.iconst 1, 1) := dk_4 (dk_at dksX4_adds_2 4 rfl rfl)
theorem dX4_adds_52 : decode cX4_adds 52 = .ok (.bipush 12, 2) := dk_16 12 (dk_at dksX4_adds_2 5 rfl rfl)
theorem dX4_adds_54 : decode cX4_adds 54 = .ok (.invokevirtual 84, 3) := dk_182 0 84 (dk_at dksX4_adds_2 7 rfl rfl)
theorem dX4_adds_57 : decode cX4_adds 57 = .ok (.ifCond .ne 23, 3) := dk_154 0 23 (dk_at dksX4_adds_2 10 rfl rfl)
theorem dX4_adds_60 : decode cX4_adds 60 = .ok (.aload_n 0, 1) := dk_42 (dk_at dksX4_adds_2 13 rfl rfl)
theorem dX4_adds_61 : decode cX4_adds 61 = .ok (.iload 5, 2) := dk_21 5 (dk_at dksX4_adds_2 14 rfl rfl)
theorem dX4_adds_63 : decode cX4_adds 63 = .ok (.ifCond .lt 7, 3) := dk_155 0 7 (dk_at dksX4_adds_2 16 rfl rfl)
theorem dX4_adds_66 : decode cX4_adds 66 = .ok (.iconst 1, 1) := dk_4 (dk_at dksX4_adds_2 19 rfl rfl)
theorem dX4_adds_67 : decode cX4_adds 67 = .ok (.goto 4, 3) := dk_167 0 4 (dk_at dksX4_adds_2 20 rfl rfl)
theorem dX4_adds_70 : decode cX4_adds 70 = .ok (.iconst 0, 1) := dk_3 (dk_at dksX4_adds_2 23 rfl rfl)
theorem dX4_adds_71 : decode cX4_adds 71 = .ok (.iconst 2, 1) := dk_5 (dk_at dksX4_adds_3 0 rfl rfl)
theorem dX4_adds_72 : decode cX4_adds 72 = .ok (.iload 5, 2) := dk_21 5 (dk_at dksX4_adds_3 1 rfl rfl)
theorem dX4_adds_74 : decode cX4_adds 74 = .ok (.invokevirtual 84, 3) := dk_182 0 84 (dk_at dksX4_adds_3 3 rfl rfl)
theorem dX4_adds_77 : decode cX4_adds 77 = .ok (.ifCond .eq 5, 3) := dk_153 0 5 (dk_at dksX4_adds_3 6 rfl rfl)
theorem dX4_adds_80 : decode cX4_adds 80 = .ok (.iconst 3, 1) := dk_6 (dk_at dksX4_adds_3 9 rfl rfl)
theorem dX4_adds_81 : decode cX4_adds 81 = .ok (.ireturn, 1) := dk_172 (dk_at dksX4_adds_3 10 rfl rfl)
theorem dX4_adds_82 : decode cX4_adds 82 = .ok (.aload_n 0, 1) := dk_42 (dk_at dksX4_adds_3 11 rfl rfl)
theorem dX4_adds_83 : decode cX4_adds 83 = .ok (.getfield 9, 3) := dk_180 0 9 (dk_at dksX4_adds_3 12 rfl rfl)
theorem dX4_adds_86 : decode cX4_adds 86 = .ok (.iconst 0, 1) := dk_3 (dk_at dksX4_adds_3 15 rfl rfl)
theorem dX4_adds_87 : decode cX4_adds 87 = .ok (.dup2, 1) := dk_92 (dk_at dksX4_adds_3 16 rfl rfl)
theorem dX4_adds_88 : decode cX4_adds 88 = .ok (.iaload, 1) := dk_46 (dk_at dksX4_adds_3 17 rfl rfl)
theorem dX4_adds_89 : decode cX4_adds 89 = .ok (.iconst 1, 1) := dk_4 (dk_at dksX4_adds_3 18 rfl rfl)
theorem dX4_adds_90 : decode cX4_adds 90 = .ok (.iadd, 1) := dk_96 (dk_at dksX4_adds_3 19 rfl rfl)
theorem dX4_adds_91 : decode cX4_adds 91 = .ok (.iastore, 1) := dk_79 (dk_at dksX4_adds_3 20 rfl rfl)
theorem dX4_adds_92 : decode cX4_adds 92 = .ok (.iconst 0, 1) := dk_3 (dk_at dksX4_adds_3 21 rfl rfl)
theorem dX4_adds_93 : decode cX4_adds 93 = .ok (.istore 6, 2) := dk_54 6 (dk_at dksX4_adds_3 22 rfl rfl)
theorem dX4_adds_95 : decode cX4_adds 95 = .ok (.iload 6, 2) := dk_21 6 (dk_at dksX4_adds_4 0 rfl rfl)
theorem dX4_adds_97 : decode cX4_adds 97 = .ok (.bipush 6, 2) := dk_16 6 (dk_at dksX4_adds_4 2 rfl rfl)
theorem dX4_adds_99 : decode cX4_adds 99 = .ok (.if_icmp .ge 18, 3) := dk_162 0 18 (dk_at dksX4_adds_4 4 rfl rfl)
theorem dX4_adds_102 : decode cX4_adds 102 = .ok (.aload_n 0, 1) := dk_42 (dk_at dksX4_adds_4 7 rfl rfl)
theorem dX4_adds_103 : decode cX4_adds 103 = .ok (.iload 4, 2) := dk_21 4 (dk_at dksX4_adds_4 8 rfl rfl)
theorem dX4_adds_105 : decode cX4_adds 105 = .ok (.iload 6, 2) := dk_21 6 (dk_at dksX4_adds_4 10 rfl rfl)
theorem dX4_adds_107 : decode cX4_adds 107 = .ok (.iconst 0, 1) := dk_3 (dk_at dksX4_adds_4 12 rfl rfl)
theorem dX4_adds_108 : decode cX4_adds 108 = .ok (.invokevirtual 88, 3) := dk_182 0 88 (dk_at dksX4_adds_4 13 rfl rfl)
theorem dX4_adds_111 : decode cX4_adds 111 = .ok (.iinc 6 1, 3) := dk_132 6 1 (dk_at dksX4_adds_4 16 rfl rfl)
theorem dX4_adds_114 : decode cX4_adds 114 = .ok (.goto (-19), 3) := dk_167 255 237 (dk_at dksX4_adds_4 19 rfl rfl)
theorem dX4_adds_117 : decode cX4_adds 117 = .ok (.aload_n 0, 1) := dk_42 (dk_at dksX4_adds_4 22 rfl rfl)
theorem dX4_adds_118 : decode cX4_adds 118 = .ok (.iload 4, 2) := dk_21 4 (dk_at dksX4_adds_5 0 rfl rfl)
theorem dX4_adds_120 : decode cX4_adds 120 = .ok (.iconst 0, 1) := dk_3 (dk_at dksX4_adds_5 2 rfl rfl)
theorem dX4_adds_121 : decode cX4_adds 121 = .ok (.iload_n 1, 1) := dk_27 (dk_at dksX4_adds_5 3 rfl rfl)
theorem dX4_adds_122 : decode cX4_adds 122 = .ok (.invokevirtual 88, 3) := dk_182 0 88 (dk_at dksX4_adds_5 4 rfl rfl)
theorem dX4_adds_125 : decode cX4_adds 125 = .ok (.aload_n 0, 1) := dk_42 (dk_at dksX4_adds_5 7 rfl rfl)
theorem dX4_adds_126 : decode cX4_adds 126 = .ok (.iload 4, 2) := dk_21 4 (dk_at dksX4_adds_5 8 rfl rfl)
theorem dX4_adds_128 : decode cX4_adds 128 = .ok (.iconst 1, 1) := dk_4 (dk_at dksX4_adds_5 10 rfl rfl)
theorem dX4_adds_129 : decode cX4_adds 129 = .ok (.iload_n 2, 1) := dk_28 (dk_at dksX4_adds_5 11 rfl rfl)
theorem dX4_adds_130 : decode cX4_adds 130 = .ok (.invokevirtual 88, 3) := dk_182 0 88 (dk_at dksX4_adds_5 12 rfl rfl)
theorem dX4_adds_133 : decode cX4_adds 133 = .ok (.aload_n 0, 1) := dk_42 (dk_at dksX4_adds_5 15 rfl rfl)
theorem dX4_adds_134 : decode cX4_adds 134 = .ok (.iload 4, 2) := dk_21 4 (dk_at dksX4_adds_5 16 rfl rfl)
theorem dX4_adds_136 : decode cX4_adds 136 = .ok (.iconst 2, 1) := dk_5 (dk_at dksX4_adds_5 18 rfl rfl)
theorem dX4_adds_137 : decode cX4_adds 137 = .ok (.iload_n 3, 1) := dk_29 (dk_at dksX4_adds_5 19 rfl rfl)
theorem dX4_adds_138 : decode cX4_adds 138 = .ok (.invokevirtual 88, 3) := dk_182 0 88 (dk_at dksX4_adds_5 20 rfl rfl)
theorem dX4_adds_141 : decode cX4_adds 141 = .ok (.aload_n 0, 1) := dk_42 (dk_at dksX4_adds_5 23 rfl rfl)
theorem dX4_adds_142 : decode cX4_adds 142 = .ok (.iload 4, 2) := dk_21 4 (dk_at dksX4_adds_6 0 rfl rfl)
theorem dX4_adds_144 : decode cX4_adds 144 = .ok (.putfield 37, 3) := dk_181 0 37 (dk_at dksX4_adds_6 2 rfl rfl)
theorem dX4_adds_147 : decode cX4_adds 147 = .ok (.iconst 0, 1) := dk_3 (dk_at dksX4_adds_6 5 rfl rfl)
theorem dX4_adds_148 : decode cX4_adds 148 = .ok (.ireturn, 1) := dk_172 (dk_at dksX4_adds_6 6 rfl rfl)
abbrev cX4_isCell : ByteArray := prog_20_method_15_code
def yX4_isCell : MethodName := ⟨RX4, "isCell", "(II)Z"⟩
def dkwX4_isCell_0 : List UInt8 := [26, 3, 7, 184, 0, 53, 153, 0, 16, 27, 3, 8, 184, 0, 53, 153, 0, 7, 4, 167, 0, 4, 3, 172]
abbrev dktX4_isCell_0 : List UInt8 := dkwX4_isCell_0 ++ []
theorem dksX4_isCell_0 : cX4_isCell.data.toList.drop 0 = dktX4_isCell_0 := by decide +kernel
theorem dX4_isCell_0 : decode cX4_isCell 0 = .ok (.iload_n 0, 1) := dk_26 (dk_at dksX4_isCell_0 0 rfl rfl)
theorem dX4_isCell_1 : decode cX4_isCell 1 = .ok (.iconst 0, 1) := dk_3 (dk_at dksX4_isCell_0 1 rfl rfl)
theorem dX4_isCell_2 : decode cX4_isCell 2 = .ok (.iconst 4, 1) := dk_7 (dk_at dksX4_isCell_0 2 rfl rfl)
theorem dX4_isCell_3 : decode cX4_isCell 3 = .ok (.invokestatic 53, 3) := dk_184 0 53 (dk_at dksX4_isCell_0 3 rfl rfl)
theorem dX4_isCell_6 : decode cX4_isCell 6 = .ok (.ifCond .eq 16, 3) := dk_153 0 16 (dk_at dksX4_isCell_0 6 rfl rfl)
theorem dX4_isCell_9 : decode cX4_isCell 9 = .ok (.iload_n 1, 1) := dk_27 (dk_at dksX4_isCell_0 9 rfl rfl)
theorem dX4_isCell_10 : decode cX4_isCell 10 = .ok (.iconst 0, 1) := dk_3 (dk_at dksX4_isCell_0 10 rfl rfl)
theorem dX4_isCell_11 : decode cX4_isCell 11 = .ok (.iconst 5, 1) := dk_8 (dk_at dksX4_isCell_0 11 rfl rfl)
theorem dX4_isCell_12 : decode cX4_isCell 12 = .ok (.invokestatic 53, 3) := dk_184 0 53 (dk_at dksX4_isCell_0 12 rfl rfl)
theorem dX4_isCell_15 : decode cX4_isCell 15 = .ok (.ifCond .eq 7, 3) := dk_153 0 7 (dk_at dksX4_isCell_0 15 rfl rfl)
theorem dX4_isCell_18 : decode cX4_isCell 18 = .ok (.iconst 1, 1) := dk_4 (dk_at dksX4_isCell_0 18 rfl rfl)
theorem dX4_isCell_19 : decode cX4_isCell 19 = .ok (.goto 4, 3) := dk_167 0 4 (dk_at dksX4_isCell_0 19 rfl rfl)
theorem dX4_isCell_22 : decode cX4_isCell 22 = .ok (.iconst 0, 1) := dk_3 (dk_at dksX4_isCell_0 22 rfl rfl)
theorem dX4_isCell_23 : decode cX4_isCell 23 = .ok (.ireturn, 1) := dk_172 (dk_at dksX4_isCell_0 23 rfl rfl)
abbrev cX4_in : ByteArray := prog_20_method_3_code
def yX4_in : MethodName := ⟨RX4, "in", "(III)Z"⟩
def dkwX4_in_0 : List UInt8 := [26, 27, 161, 0, 12, 26, 28, 163, 0, 7, 4, 167, 0, 4, 3, 172]
abbrev dktX4_in_0 : List UInt8 := dkwX4_in_0 ++ []
theorem dksX4_in_0 : cX4_in.data.toList.drop 0 = dktX4_in_0 := by decide +kernel
theorem dX4_in_0 : decode cX4_in 0 = .ok (.iload_n 0, 1) := dk_26 (dk_at dksX4_in_0 0 rfl rfl)
theorem dX4_in_1 : decode cX4_in 1 = .ok (.iload_n 1, 1) := dk_27 (dk_at dksX4_in_0 1 rfl rfl)
theorem dX4_in_2 : decode cX4_in 2 = .ok (.if_icmp .lt 12, 3) := dk_161 0 12 (dk_at dksX4_in_0 2 rfl rfl)
theorem dX4_in_5 : decode cX4_in 5 = .ok (.iload_n 0, 1) := dk_26 (dk_at dksX4_in_0 5 rfl rfl)
theorem dX4_in_6 : decode cX4_in 6 = .ok (.iload_n 2, 1) := dk_28 (dk_at dksX4_in_0 6 rfl rfl)
theorem dX4_in_7 : decode cX4_in 7 = .ok (.if_icmp .gt 7, 3) := dk_163 0 7 (dk_at dksX4_in_0 7 rfl rfl)
theorem dX4_in_10 : decode cX4_in 10 = .ok (.iconst 1, 1) := dk_4 (dk_at dksX4_in_0 10 rfl rfl)
theorem dX4_in_11 : decode cX4_in 11 = .ok (.goto 4, 3) := dk_167 0 4 (dk_at dksX4_in_0 11 rfl rfl)
theorem dX4_in_14 : decode cX4_in 14 = .ok (.iconst 0, 1) := dk_3 (dk_at dksX4_in_0 14 rfl rfl)
theorem dX4_in_15 : decode cX4_in 15 = .ok (.ireturn, 1) := dk_172 (dk_at dksX4_in_0 15 rfl rfl)
abbrev cX4_inCell : ByteArray := prog_20_method_16_code
def yX4_inCell : MethodName := ⟨RX4, "inCell", "(II)I"⟩
def dkwX4_inCell_1 : List UInt8 := [4, 182, 0, 57, 28, 160, 0, 5, 29, 172, 132, 3, 1, 167, 255, 221, 2, 172]
abbrev dktX4_inCell_1 : List UInt8 := dkwX4_inCell_1 ++ []
def dkwX4_inCell_0 : List UInt8 := [3, 62, 29, 42, 180, 0, 9, 3, 46, 162, 0, 31, 42, 29, 3, 182, 0, 57, 27, 160, 0, 15, 42, 29]
abbrev dktX4_inCell_0 : List UInt8 := dkwX4_inCell_0 ++ dktX4_inCell_1
theorem dksX4_inCell_0 : cX4_inCell.data.toList.drop 0 = dktX4_inCell_0 := by decide +kernel
theorem dksX4_inCell_1 : cX4_inCell.data.toList.drop 24 = dktX4_inCell_1 := dk_seg dksX4_inCell_0 24 rfl rfl
theorem dX4_inCell_0 : decode cX4_inCell 0 = .ok (.iconst 0, 1) := dk_3 (dk_at dksX4_inCell_0 0 rfl rfl)
theorem dX4_inCell_1 : decode cX4_inCell 1 = .ok (.istore_n 3, 1) := dk_62 (dk_at dksX4_inCell_0 1 rfl rfl)
theorem dX4_inCell_2 : decode cX4_inCell 2 = .ok (.iload_n 3, 1) := dk_29 (dk_at dksX4_inCell_0 2 rfl rfl)
theorem dX4_inCell_3 : decode cX4_inCell 3 = .ok (.aload_n 0, 1) := dk_42 (dk_at dksX4_inCell_0 3 rfl rfl)
theorem dX4_inCell_4 : decode cX4_inCell 4 = .ok (.getfield 9, 3) := dk_180 0 9 (dk_at dksX4_inCell_0 4 rfl rfl)
theorem dX4_inCell_7 : decode cX4_inCell 7 = .ok (.iconst 0, 1) := dk_3 (dk_at dksX4_inCell_0 7 rfl rfl)
theorem dX4_inCell_8 : decode cX4_inCell 8 = .ok (.iaload, 1) := dk_46 (dk_at dksX4_inCell_0 8 rfl rfl)
theorem dX4_inCell_9 : decode cX4_inCell 9 = .ok (.if_icmp .ge 31, 3) := dk_162 0 31 (dk_at dksX4_inCell_0 9 rfl rfl)
theorem dX4_inCell_12 : decode cX4_inCell 12 = .ok (.aload_n 0, 1) := dk_42 (dk_at dksX4_inCell_0 12 rfl rfl)
theorem dX4_inCell_13 : decode cX4_inCell 13 = .ok (.iload_n 3, 1) := dk_29 (dk_at dksX4_inCell_0 13 rfl rfl)
theorem dX4_inCell_14 : decode cX4_inCell 14 = .ok (.iconst 0, 1) := dk_3 (dk_at dksX4_inCell_0 14 rfl rfl)
theorem dX4_inCell_15 : decode cX4_inCell 15 = .ok (.invokevirtual 57, 3) := dk_182 0 57 (dk_at dksX4_inCell_0 15 rfl rfl)
theorem dX4_inCell_18 : decode cX4_inCell 18 = .ok (.iload_n 1, 1) := dk_27 (dk_at dksX4_inCell_0 18 rfl rfl)
theorem dX4_inCell_19 : decode cX4_inCell 19 = .ok (.if_icmp .ne 15, 3) := dk_160 0 15 (dk_at dksX4_inCell_0 19 rfl rfl)
theorem dX4_inCell_22 : decode cX4_inCell 22 = .ok (.aload_n 0, 1) := dk_42 (dk_at dksX4_inCell_0 22 rfl rfl)
theorem dX4_inCell_23 : decode cX4_inCell 23 = .ok (.iload_n 3, 1) := dk_29 (dk_at dksX4_inCell_0 23 rfl rfl)
theorem dX4_inCell_24 : decode cX4_inCell 24 = .ok (.iconst 1, 1) := dk_4 (dk_at dksX4_inCell_1 0 rfl rfl)
theorem dX4_inCell_25 : decode cX4_inCell 25 = .ok (.invokevirtual 57, 3) := dk_182 0 57 (dk_at dksX4_inCell_1 1 rfl rfl)
theorem dX4_inCell_28 : decode cX4_inCell 28 = .ok (.iload_n 2, 1) := dk_28 (dk_at dksX4_inCell_1 4 rfl rfl)
theorem dX4_inCell_29 : decode cX4_inCell 29 = .ok (.if_icmp .ne 5, 3) := dk_160 0 5 (dk_at dksX4_inCell_1 5 rfl rfl)
theorem dX4_inCell_32 : decode cX4_inCell 32 = .ok (.iload_n 3, 1) := dk_29 (dk_at dksX4_inCell_1 8 rfl rfl)
theorem dX4_inCell_33 : decode cX4_inCell 33 = .ok (.ireturn, 1) := dk_172 (dk_at dksX4_inCell_1 9 rfl rfl)
theorem dX4_inCell_34 : decode cX4_inCell 34 = .ok (.iinc 3 1, 3) := dk_132 3 1 (dk_at dksX4_inCell_1 10 rfl rfl)
theorem dX4_inCell_37 : decode cX4_inCell 37 = .ok (.goto (-35), 3) := dk_167 255 221 (dk_at dksX4_inCell_1 13 rfl rfl)
theorem dX4_inCell_40 : decode cX4_inCell 40 = .ok (.iconst (-1), 1) := dk_2 (dk_at dksX4_inCell_1 16 rfl rfl)
theorem dX4_inCell_41 : decode cX4_inCell 41 = .ok (.ireturn, 1) := dk_172 (dk_at dksX4_inCell_1 17 rfl rfl)
abbrev cX4_t : ByteArray := prog_20_method_12_code
def yX4_t : MethodName := ⟨RX4, "t", "(II)I"⟩
def dkwX4_t_0 : List UInt8 := [42, 180, 0, 9, 16, 57, 16, 6, 27, 104, 96, 28, 96, 46, 172]
abbrev dktX4_t_0 : List UInt8 := dkwX4_t_0 ++ []
theorem dksX4_t_0 : cX4_t.data.toList.drop 0 = dktX4_t_0 := by decide +kernel
theorem dX4_t_0 : decode cX4_t 0 = .ok (.aload_n 0, 1) := dk_42 (dk_at dksX4_t_0 0 rfl rfl)
theorem dX4_t_1 : decode cX4_t 1 = .ok (.getfield 9, 3) := dk_180 0 9 (dk_at dksX4_t_0 1 rfl rfl)
theorem dX4_t_4 : decode cX4_t 4 = .ok (.bipush 57, 2) := dk_16 57 (dk_at dksX4_t_0 4 rfl rfl)
theorem dX4_t_6 : decode cX4_t 6 = .ok (.bipush 6, 2) := dk_16 6 (dk_at dksX4_t_0 6 rfl rfl)
theorem dX4_t_8 : decode cX4_t 8 = .ok (.iload_n 1, 1) := dk_27 (dk_at dksX4_t_0 8 rfl rfl)
theorem dX4_t_9 : decode cX4_t 9 = .ok (.imul, 1) := dk_104 (dk_at dksX4_t_0 9 rfl rfl)
theorem dX4_t_10 : decode cX4_t 10 = .ok (.iadd, 1) := dk_96 (dk_at dksX4_t_0 10 rfl rfl)
theorem dX4_t_11 : decode cX4_t 11 = .ok (.iload_n 2, 1) := dk_28 (dk_at dksX4_t_0 11 rfl rfl)
theorem dX4_t_12 : decode cX4_t 12 = .ok (.iadd, 1) := dk_96 (dk_at dksX4_t_0 12 rfl rfl)
theorem dX4_t_13 : decode cX4_t 13 = .ok (.iaload, 1) := dk_46 (dk_at dksX4_t_0 13 rfl rfl)
theorem dX4_t_14 : decode cX4_t 14 = .ok (.ireturn, 1) := dk_172 (dk_at dksX4_t_0 14 rfl rfl)
abbrev cX4_rejects : ByteArray := prog_20_method_8_code
def yX4_rejects : MethodName := ⟨RX4, "rejects", "(ZII)Z"⟩
def dkwX4_rejects_0 : List UInt8 := [27, 153, 0, 18, 42, 28, 181, 0, 40, 42, 29, 181, 0, 43, 42, 3, 181, 0, 46, 27, 172]
abbrev dktX4_rejects_0 : List UInt8 := dkwX4_rejects_0 ++ []
theorem dksX4_rejects_0 : cX4_rejects.data.toList.drop 0 = dktX4_rejects_0 := by decide +kernel
theorem dX4_rejects_0 : decode cX4_rejects 0 = .ok (.iload_n 1, 1) := dk_27 (dk_at dksX4_rejects_0 0 rfl rfl)
theorem dX4_rejects_1 : decode cX4_rejects 1 = .ok (.ifCond .eq 18, 3) := dk_153 0 18 (dk_at dksX4_rejects_0 1 rfl rfl)
theorem dX4_rejects_4 : decode cX4_rejects 4 = .ok (.aload_n 0, 1) := dk_42 (dk_at dksX4_rejects_0 4 rfl rfl)
theorem dX4_rejects_5 : decode cX4_rejects 5 = .ok (.iload_n 2, 1) := dk_28 (dk_at dksX4_rejects_0 5 rfl rfl)
theorem dX4_rejects_6 : decode cX4_rejects 6 = .ok (.putfield 40, 3) := dk_181 0 40 (dk_at dksX4_rejects_0 6 rfl rfl)
theorem dX4_rejects_9 : decode cX4_rejects 9 = .ok (.aload_n 0, 1) := dk_42 (dk_at dksX4_rejects_0 9 rfl rfl)
theorem dX4_rejects_10 : decode cX4_rejects 10 = .ok (.iload_n 3, 1) := dk_29 (dk_at dksX4_rejects_0 10 rfl rfl)
theorem dX4_rejects_11 : decode cX4_rejects 11 = .ok (.putfield 43, 3) := dk_181 0 43 (dk_at dksX4_rejects_0 11 rfl rfl)
theorem dX4_rejects_14 : decode cX4_rejects 14 = .ok (.aload_n 0, 1) := dk_42 (dk_at dksX4_rejects_0 14 rfl rfl)
theorem dX4_rejects_15 : decode cX4_rejects 15 = .ok (.iconst 0, 1) := dk_3 (dk_at dksX4_rejects_0 15 rfl rfl)
theorem dX4_rejects_16 : decode cX4_rejects 16 = .ok (.putfield 46, 3) := dk_181 0 46 (dk_at dksX4_rejects_0 16 rfl rfl)
theorem dX4_rejects_19 : decode cX4_rejects 19 = .ok (.iload_n 1, 1) := dk_27 (dk_at dksX4_rejects_0 19 rfl rfl)
theorem dX4_rejects_20 : decode cX4_rejects 20 = .ok (.ireturn, 1) := dk_172 (dk_at dksX4_rejects_0 20 rfl rfl)
abbrev cX4_set : ByteArray := prog_20_method_13_code
def yX4_set : MethodName := ⟨RX4, "set", "(III)V"⟩
def dkwX4_set_0 : List UInt8 := [42, 180, 0, 9, 16, 57, 16, 6, 27, 104, 96, 28, 96, 29, 79, 177]
abbrev dktX4_set_0 : List UInt8 := dkwX4_set_0 ++ []
theorem dksX4_set_0 : cX4_set.data.toList.drop 0 = dktX4_set_0 := by decide +kernel
theorem dX4_set_0 : decode cX4_set 0 = .ok (.aload_n 0, 1) := dk_42 (dk_at dksX4_set_0 0 rfl rfl)
theorem dX4_set_1 : decode cX4_set 1 = .ok (.getfield 9, 3) := dk_180 0 9 (dk_at dksX4_set_0 1 rfl rfl)
theorem dX4_set_4 : decode cX4_set 4 = .ok (.bipush 57, 2) := dk_16 57 (dk_at dksX4_set_0 4 rfl rfl)
theorem dX4_set_6 : decode cX4_set 6 = .ok (.bipush 6, 2) := dk_16 6 (dk_at dksX4_set_0 6 rfl rfl)
theorem dX4_set_8 : decode cX4_set 8 = .ok (.iload_n 1, 1) := dk_27 (dk_at dksX4_set_0 8 rfl rfl)
theorem dX4_set_9 : decode cX4_set 9 = .ok (.imul, 1) := dk_104 (dk_at dksX4_set_0 9 rfl rfl)
theorem dX4_set_10 : decode cX4_set 10 = .ok (.iadd, 1) := dk_96 (dk_at dksX4_set_0 10 rfl rfl)
theorem dX4_set_11 : decode cX4_set 11 = .ok (.iload_n 2, 1) := dk_28 (dk_at dksX4_set_0 11 rfl rfl)
theorem dX4_set_12 : decode cX4_set 12 = .ok (.iadd, 1) := dk_96 (dk_at dksX4_set_0 12 rfl rfl)
theorem dX4_set_13 : decode cX4_set 13 = .ok (.iload_n 3, 1) := dk_29 (dk_at dksX4_set_0 13 rfl rfl)
theorem dX4_set_14 : decode cX4_set 14 = .ok (.iastore, 1) := dk_79 (dk_at dksX4_set_0 14 rfl rfl)
theorem dX4_set_15 : decode cX4_set 15 = .ok (.return_, 1) := dk_177 (dk_at dksX4_set_0 15 rfl rfl)
abbrev cX4_ends : ByteArray := prog_20_method_6_code
def yX4_ends : MethodName := ⟨RX4, "ends", "(IIII)I"⟩
def dkwX4_ends_4 : List UInt8 := [180, 0, 34, 4, 96, 181, 0, 34, 42, 16, 10, 42, 180, 0, 34, 182, 0, 30, 42, 180, 0, 37, 172]
abbrev dktX4_ends_4 : List UInt8 := dkwX4_ends_4 ++ []
def dkwX4_ends_3 : List UInt8 := [96, 21, 5, 182, 0, 30, 132, 5, 1, 167, 255, 236, 42, 89, 180, 0, 34, 4, 100, 181, 0, 34, 42, 89]
abbrev dktX4_ends_3 : List UInt8 := dkwX4_ends_3 ++ dktX4_ends_4
def dkwX4_ends_2 : List UInt8 := [172, 42, 180, 0, 34, 16, 8, 160, 0, 39, 4, 54, 5, 21, 5, 16, 8, 162, 0, 19, 42, 21, 5, 4]
abbrev dktX4_ends_2 : List UInt8 := dkwX4_ends_2 ++ dktX4_ends_3
def dkwX4_ends_1 : List UInt8 := [21, 4, 167, 0, 4, 3, 181, 0, 27, 42, 180, 0, 27, 153, 0, 12, 42, 16, 10, 3, 182, 0, 30, 3]
abbrev dktX4_ends_1 : List UInt8 := dkwX4_ends_1 ++ dktX4_ends_2
def dkwX4_ends_0 : List UInt8 := [42, 27, 4, 160, 0, 7, 28, 167, 0, 23, 27, 5, 160, 0, 7, 29, 167, 0, 14, 27, 6, 160, 0, 8]
abbrev dktX4_ends_0 : List UInt8 := dkwX4_ends_0 ++ dktX4_ends_1
theorem dksX4_ends_0 : cX4_ends.data.toList.drop 0 = dktX4_ends_0 := by decide +kernel
theorem dksX4_ends_1 : cX4_ends.data.toList.drop 24 = dktX4_ends_1 := dk_seg dksX4_ends_0 24 rfl rfl
theorem dksX4_ends_2 : cX4_ends.data.toList.drop 48 = dktX4_ends_2 := dk_seg dksX4_ends_1 24 rfl rfl
theorem dksX4_ends_3 : cX4_ends.data.toList.drop 72 = dktX4_ends_3 := dk_seg dksX4_ends_2 24 rfl rfl
theorem dksX4_ends_4 : cX4_ends.data.toList.drop 96 = dktX4_ends_4 := dk_seg dksX4_ends_3 24 rfl rfl
theorem dX4_ends_0 : decode cX4_ends 0 = .ok (.aload_n 0, 1) := dk_42 (dk_at dksX4_ends_0 0 rfl rfl)
theorem dX4_ends_1 : decode cX4_ends 1 = .ok (.iload_n 1, 1) := dk_27 (dk_at dksX4_ends_0 1 rfl rfl)
theorem dX4_ends_2 : decode cX4_ends 2 = .ok (.iconst 1, 1) := dk_4 (dk_at dksX4_ends_0 2 rfl rfl)
theorem dX4_ends_3 : decode cX4_ends 3 = .ok (.if_icmp .ne 7, 3) := dk_160 0 7 (dk_at dksX4_ends_0 3 rfl rfl)
theorem dX4_ends_6 : decode cX4_ends 6 = .ok (.iload_n 2, 1) := dk_28 (dk_at dksX4_ends_0 6 rfl rfl)
theorem dX4_ends_7 : decode cX4_ends 7 = .ok (.goto 23, 3) := dk_167 0 23 (dk_at dksX4_ends_0 7 rfl rfl)
theorem dX4_ends_10 : decode cX4_ends 10 = .ok (.iload_n 1, 1) := dk_27 (dk_at dksX4_ends_0 10 rfl rfl)
theorem dX4_ends_11 : decode cX4_ends 11 = .ok (.iconst 2, 1) := dk_5 (dk_at dksX4_ends_0 11 rfl rfl)
theorem dX4_ends_12 : decode cX4_ends 12 = .ok (.if_icmp .ne 7, 3) := dk_160 0 7 (dk_at dksX4_ends_0 12 rfl rfl)
theorem dX4_ends_15 : decode cX4_ends 15 = .ok (.iload_n 3, 1) := dk_29 (dk_at dksX4_ends_0 15 rfl rfl)
theorem dX4_ends_16 : decode cX4_ends 16 = .ok (.goto 14, 3) := dk_167 0 14 (dk_at dksX4_ends_0 16 rfl rfl)
theorem dX4_ends_19 : decode cX4_ends 19 = .ok (.iload_n 1, 1) := dk_27 (dk_at dksX4_ends_0 19 rfl rfl)
theorem dX4_ends_20 : decode cX4_ends 20 = .ok (.iconst 3, 1) := dk_6 (dk_at dksX4_ends_0 20 rfl rfl)
theorem dX4_ends_21 : decode cX4_ends 21 = .ok (.if_icmp .ne 8, 3) := dk_160 0 8 (dk_at dksX4_ends_0 21 rfl rfl)
theorem dX4_ends_24 : decode cX4_ends 24 = .ok (.iload 4, 2) := dk_21 4 (dk_at dksX4_ends_1 0 rfl rfl)
theorem dX4_ends_26 : decode cX4_ends 26 = .ok (.goto 4, 3) := dk_167 0 4 (dk_at dksX4_ends_1 2 rfl rfl)
theorem dX4_ends_29 : decode cX4_ends 29 = .ok (.iconst 0, 1) := dk_3 (dk_at dksX4_ends_1 5 rfl rfl)
theorem dX4_ends_30 : decode cX4_ends 30 = .ok (.putfield 27, 3) := dk_181 0 27 (dk_at dksX4_ends_1 6 rfl rfl)
theorem dX4_ends_33 : decode cX4_ends 33 = .ok (.aload_n 0, 1) := dk_42 (dk_at dksX4_ends_1 9 rfl rfl)
theorem dX4_ends_34 : decode cX4_ends 34 = .ok (.getfield 27, 3) := dk_180 0 27 (dk_at dksX4_ends_1 10 rfl rfl)
theorem dX4_ends_37 : decode cX4_ends 37 = .ok (.ifCond .eq 12, 3) := dk_153 0 12 (dk_at dksX4_ends_1 13 rfl rfl)
theorem dX4_ends_40 : decode cX4_ends 40 = .ok (.aload_n 0, 1) := dk_42 (dk_at dksX4_ends_1 16 rfl rfl)
theorem dX4_ends_41 : decode cX4_ends 41 = .ok (.bipush 10, 2) := dk_16 10 (dk_at dksX4_ends_1 17 rfl rfl)
theorem dX4_ends_43 : decode cX4_ends 43 = .ok (.iconst 0, 1) := dk_3 (dk_at dksX4_ends_1 19 rfl rfl)
theorem dX4_ends_44 : decode cX4_ends 44 = .ok (.invokevirtual 30, 3) := dk_182 0 30 (dk_at dksX4_ends_1 20 rfl rfl)
theorem dX4_ends_47 : decode cX4_ends 47 = .ok (.iconst 0, 1) := dk_3 (dk_at dksX4_ends_1 23 rfl rfl)
theorem dX4_ends_48 : decode cX4_ends 48 = .ok (.ireturn, 1) := dk_172 (dk_at dksX4_ends_2 0 rfl rfl)
theorem dX4_ends_49 : decode cX4_ends 49 = .ok (.aload_n 0, 1) := dk_42 (dk_at dksX4_ends_2 1 rfl rfl)
theorem dX4_ends_50 : decode cX4_ends 50 = .ok (.getfield 34, 3) := dk_180 0 34 (dk_at dksX4_ends_2 2 rfl rfl)
theorem dX4_ends_53 : decode cX4_ends 53 = .ok (.bipush 8, 2) := dk_16 8 (dk_at dksX4_ends_2 5 rfl rfl)
theorem dX4_ends_55 : decode cX4_ends 55 = .ok (.if_icmp .ne 39, 3) := dk_160 0 39 (dk_at dksX4_ends_2 7 rfl rfl)
theorem dX4_ends_58 : decode cX4_ends 58 = .ok (.iconst 1, 1) := dk_4 (dk_at dksX4_ends_2 10 rfl rfl)
theorem dX4_ends_59 : decode cX4_ends 59 = .ok (.istore 5, 2) := dk_54 5 (dk_at dksX4_ends_2 11 rfl rfl)
theorem dX4_ends_61 : decode cX4_ends 61 = .ok (.iload 5, 2) := dk_21 5 (dk_at dksX4_ends_2 13 rfl rfl)
theorem dX4_ends_63 : decode cX4_ends 63 = .ok (.bipush 8, 2) := dk_16 8 (dk_at dksX4_ends_2 15 rfl rfl)
theorem dX4_ends_65 : decode cX4_ends 65 = .ok (.if_icmp .ge 19, 3) := dk_162 0 19 (dk_at dksX4_ends_2 17 rfl rfl)
theorem dX4_ends_68 : decode cX4_ends 68 = .ok (.aload_n 0, 1) := dk_42 (dk_at dksX4_ends_2 20 rfl rfl)
theorem dX4_ends_69 : decode cX4_ends 69 = .ok (.iload 5, 2) := dk_21 5 (dk_at dksX4_ends_2 21 rfl rfl)
theorem dX4_ends_71 : decode cX4_ends 71 = .ok (.iconst 1, 1) := dk_4 (dk_at dksX4_ends_2 23 rfl rfl)
theorem dX4_ends_72 : decode cX4_ends 72 = .ok (.iadd, 1) := dk_96 (dk_at dksX4_ends_3 0 rfl rfl)
theorem dX4_ends_73 : decode cX4_ends 73 = .ok (.iload 5, 2) := dk_21 5 (dk_at dksX4_ends_3 1 rfl rfl)
theorem dX4_ends_75 : decode cX4_ends 75 = .ok (.invokevirtual 30, 3) := dk_182 0 30 (dk_at dksX4_ends_3 3 rfl rfl)
theorem dX4_ends_78 : decode cX4_ends 78 = .ok (.iinc 5 1, 3) := dk_132 5 1 (dk_at dksX4_ends_3 6 rfl rfl)
theorem dX4_ends_81 : decode cX4_ends 81 = .ok (.goto (-20), 3) := dk_167 255 236 (dk_at dksX4_ends_3 9 rfl rfl)
theorem dX4_ends_84 : decode cX4_ends 84 = .ok (.aload_n 0, 1) := dk_42 (dk_at dksX4_ends_3 12 rfl rfl)
theorem dX4_ends_85 : decode cX4_ends 85 = .ok (.dup, 1) := dk_89 (dk_at dksX4_ends_3 13 rfl rfl)
theorem dX4_ends_86 : decode cX4_ends 86 = .ok (.getfield 34, 3) := dk_180 0 34 (dk_at dksX4_ends_3 14 rfl rfl)
theorem dX4_ends_89 : decode cX4_ends 89 = .ok (.iconst 1, 1) := dk_4 (dk_at dksX4_ends_3 17 rfl rfl)
theorem dX4_ends_90 : decode cX4_ends 90 = .ok (.isub, 1) := dk_100 (dk_at dksX4_ends_3 18 rfl rfl)
theorem dX4_ends_91 : decode cX4_ends 91 = .ok (.putfield 34, 3) := dk_181 0 34 (dk_at dksX4_ends_3 19 rfl rfl)
theorem dX4_ends_94 : decode cX4_ends 94 = .ok (.aload_n 0, 1) := dk_42 (dk_at dksX4_ends_3 22 rfl rfl)
theorem dX4_ends_95 : decode cX4_ends 95 = .ok (.dup, 1) := dk_89 (dk_at dksX4_ends_3 23 rfl rfl)
theorem dX4_ends_96 : decode cX4_ends 96 = .ok (.getfield 34, 3) := dk_180 0 34 (dk_at dksX4_ends_4 0 rfl rfl)
theorem dX4_ends_99 : decode cX4_ends 99 = .ok (.iconst 1, 1) := dk_4 (dk_at dksX4_ends_4 3 rfl rfl)
theorem dX4_ends_100 : decode cX4_ends 100 = .ok (.iadd, 1) := dk_96 (dk_at dksX4_ends_4 4 rfl rfl)
theorem dX4_ends_101 : decode cX4_ends 101 = .ok (.putfield 34, 3) := dk_181 0 34 (dk_at dksX4_ends_4 5 rfl rfl)
theorem dX4_ends_104 : decode cX4_ends 104 = .ok (.aload_n 0, 1) := dk_42 (dk_at dksX4_ends_4 8 rfl rfl)
theorem dX4_ends_105 : decode cX4_ends 105 = .ok (.bipush 10, 2) := dk_16 10 (dk_at dksX4_ends_4 9 rfl rfl)
theorem dX4_ends_107 : decode cX4_ends 107 = .ok (.aload_n 0, 1) := dk_42 (dk_at dksX4_ends_4 11 rfl rfl)
theorem dX4_ends_108 : decode cX4_ends 108 = .ok (.getfield 34, 3) := dk_180 0 34 (dk_at dksX4_ends_4 12 rfl rfl)
theorem dX4_ends_111 : decode cX4_ends 111 = .ok (.invokevirtual 30, 3) := dk_182 0 30 (dk_at dksX4_ends_4 15 rfl rfl)
theorem dX4_ends_114 : decode cX4_ends 114 = .ok (.aload_n 0, 1) := dk_42 (dk_at dksX4_ends_4 18 rfl rfl)
theorem dX4_ends_115 : decode cX4_ends 115 = .ok (.getfield 37, 3) := dk_180 0 37 (dk_at dksX4_ends_4 19 rfl rfl)
theorem dX4_ends_118 : decode cX4_ends 118 = .ok (.ireturn, 1) := dk_172 (dk_at dksX4_ends_4 22 rfl rfl)
abbrev cX4_fail : ByteArray := prog_20_method_30_code
def yX4_fail : MethodName := ⟨RX4, "fail", "(I)I"⟩
def dkwX4_fail_0 : List UInt8 := [42, 182, 0, 92, 42, 42, 27, 182, 0, 110, 4, 3, 5, 182, 0, 99, 172]
abbrev dktX4_fail_0 : List UInt8 := dkwX4_fail_0 ++ []
theorem dksX4_fail_0 : cX4_fail.data.toList.drop 0 = dktX4_fail_0 := by decide +kernel
theorem dX4_fail_0 : decode cX4_fail 0 = .ok (.aload_n 0, 1) := dk_42 (dk_at dksX4_fail_0 0 rfl rfl)
theorem dX4_fail_1 : decode cX4_fail 1 = .ok (.invokevirtual 92, 3) := dk_182 0 92 (dk_at dksX4_fail_0 1 rfl rfl)
theorem dX4_fail_4 : decode cX4_fail 4 = .ok (.aload_n 0, 1) := dk_42 (dk_at dksX4_fail_0 4 rfl rfl)
theorem dX4_fail_5 : decode cX4_fail 5 = .ok (.aload_n 0, 1) := dk_42 (dk_at dksX4_fail_0 5 rfl rfl)
theorem dX4_fail_6 : decode cX4_fail 6 = .ok (.iload_n 1, 1) := dk_27 (dk_at dksX4_fail_0 6 rfl rfl)
theorem dX4_fail_7 : decode cX4_fail 7 = .ok (.invokevirtual 110, 3) := dk_182 0 110 (dk_at dksX4_fail_0 7 rfl rfl)
theorem dX4_fail_10 : decode cX4_fail 10 = .ok (.iconst 1, 1) := dk_4 (dk_at dksX4_fail_0 10 rfl rfl)
theorem dX4_fail_11 : decode cX4_fail 11 = .ok (.iconst 0, 1) := dk_3 (dk_at dksX4_fail_0 11 rfl rfl)
theorem dX4_fail_12 : decode cX4_fail 12 = .ok (.iconst 2, 1) := dk_5 (dk_at dksX4_fail_0 12 rfl rfl)
theorem dX4_fail_13 : decode cX4_fail 13 = .ok (.invokevirtual 99, 3) := dk_182 0 99 (dk_at dksX4_fail_0 13 rfl rfl)
theorem dX4_fail_16 : decode cX4_fail 16 = .ok (.ireturn, 1) := dk_172 (dk_at dksX4_fail_0 16 rfl rfl)
abbrev cX4_fails : ByteArray := prog_20_method_29_code
def yX4_fails : MethodName := ⟨RX4, "fails", "(I)I"⟩
def dkwX4_fails_2 : List UInt8 := [27, 8, 3, 182, 0, 88, 42, 42, 4, 182, 0, 107, 42, 5, 182, 0, 107, 96, 181, 0, 37, 3, 172]
abbrev dktX4_fails_2 : List UInt8 := dkwX4_fails_2 ++ []
def dkwX4_fails_1 : List UInt8 := [3, 6, 42, 27, 7, 182, 0, 57, 182, 0, 84, 153, 0, 5, 6, 172, 42, 27, 6, 4, 182, 0, 88, 42]
abbrev dktX4_fails_1 : List UInt8 := dkwX4_fails_1 ++ dktX4_fails_2
def dkwX4_fails_0 : List UInt8 := [42, 27, 182, 0, 103, 154, 0, 5, 4, 172, 42, 42, 27, 6, 182, 0, 57, 153, 0, 7, 4, 167, 0, 4]
abbrev dktX4_fails_0 : List UInt8 := dkwX4_fails_0 ++ dktX4_fails_1
theorem dksX4_fails_0 : cX4_fails.data.toList.drop 0 = dktX4_fails_0 := by decide +kernel
theorem dksX4_fails_1 : cX4_fails.data.toList.drop 24 = dktX4_fails_1 := dk_seg dksX4_fails_0 24 rfl rfl
theorem dksX4_fails_2 : cX4_fails.data.toList.drop 48 = dktX4_fails_2 := dk_seg dksX4_fails_1 24 rfl rfl
theorem dX4_fails_0 : decode cX4_fails 0 = .ok (.aload_n 0, 1) := dk_42 (dk_at dksX4_fails_0 0 rfl rfl)
theorem dX4_fails_1 : decode cX4_fails 1 = .ok (.iload_n 1, 1) := dk_27 (dk_at dksX4_fails_0 1 rfl rfl)
theorem dX4_fails_2 : decode cX4_fails 2 = .ok (.invokevirtual 103, 3) := dk_182 0 103 (dk_at dksX4_fails_0 2 rfl rfl)
theorem dX4_fails_5 : decode cX4_fails 5 = .ok (.ifCond .ne 5, 3) := dk_154 0 5 (dk_at dksX4_fails_0 5 rfl rfl)
theorem dX4_fails_8 : decode cX4_fails 8 = .ok (.iconst 1, 1) := dk_4 (dk_at dksX4_fails_0 8 rfl rfl)
theorem dX4_fails_9 : decode cX4_fails 9 = .ok (.ireturn, 1) := dk_172 (dk_at dksX4_fails_0 9 rfl rfl)
theorem dX4_fails_10 : decode cX4_fails 10 = .ok (.aload_n 0, 1) := dk_42 (dk_at dksX4_fails_0 10 rfl rfl)
theorem dX4_fails_11 : decode cX4_fails 11 = .ok (.aload_n 0, 1) := dk_42 (dk_at dksX4_fails_0 11 rfl rfl)
theorem dX4_fails_12 : decode cX4_fails 12 = .ok (.iload_n 1, 1) := dk_27 (dk_at dksX4_fails_0 12 rfl rfl)
theorem dX4_fails_13 : decode cX4_fails 13 = .ok (.iconst 3, 1) := dk_6 (dk_at dksX4_fails_0 13 rfl rfl)
theorem dX4_fails_14 : decode cX4_fails 14 = .ok (.invokevirtual 57, 3) := dk_182 0 57 (dk_at dksX4_fails_0 14 rfl rfl)
theorem dX4_fails_17 : decode cX4_fails 17 = .ok (.ifCond .eq 7, 3) := dk_153 0 7 (dk_at dksX4_fails_0 17 rfl rfl)
theorem dX4_fails_20 : decode cX4_fails 20 = .ok (.iconst 1, 1) := dk_4 (dk_at dksX4_fails_0 20 rfl rfl)
theorem dX4_fails_21 : decode cX4_fails 21 = .ok (.goto 4, 3) := dk_167 0 4 (dk_at dksX4_fails_0 21 rfl rfl)
theorem dX4_fails_24 : decode cX4_fails 24 = .ok (.iconst 0, 1) := dk_3 (dk_at dksX4_fails_1 0 rfl rfl)
theorem dX4_fails_25 : decode cX4_fails 25 = .ok (.iconst 3, 1) := dk_6 (dk_at dksX4_fails_1 1 rfl rfl)
theorem dX4_fails_26 : decode cX4_fails 26 = .ok (.aload_n 0, 1) := dk_42 (dk_at dksX4_fails_1 2 rfl rfl)
theorem dX4_fails_27 : decode cX4_fails 27 = .ok (.iload_n 1, 1) := dk_27 (dk_at dksX4_fails_1 3 rfl rfl)
theorem dX4_fails_28 : decode cX4_fails 28 = .ok (.iconst 4, 1) := dk_7 (dk_at dksX4_fails_1 4 rfl rfl)
theorem dX4_fails_29 : decode cX4_fails 29 = .ok (.invokevirtual 57, 3) := dk_182 0 57 (dk_at dksX4_fails_1 5 rfl rfl)
theorem dX4_fails_32 : decode cX4_fails 32 = .ok (.invokevirtual 84, 3) := dk_182 0 84 (dk_at dksX4_fails_1 8 rfl rfl)
theorem dX4_fails_35 : decode cX4_fails 35 = .ok (.ifCond .eq 5, 3) := dk_153 0 5 (dk_at dksX4_fails_1 11 rfl rfl)
theorem dX4_fails_38 : decode cX4_fails 38 = .ok (.iconst 3, 1) := dk_6 (dk_at dksX4_fails_1 14 rfl rfl)
theorem dX4_fails_39 : decode cX4_fails 39 = .ok (.ireturn, 1) := dk_172 (dk_at dksX4_fails_1 15 rfl rfl)
theorem dX4_fails_40 : decode cX4_fails 40 = .ok (.aload_n 0, 1) := dk_42 (dk_at dksX4_fails_1 16 rfl rfl)
theorem dX4_fails_41 : decode cX4_fails 41 = .ok (.iload_n 1, 1) := dk_27 (dk_at dksX4_fails_1 17 rfl rfl)
theorem dX4_fails_42 : decode cX4_fails 42 = .ok (.iconst 3, 1) := dk_6 (dk_at dksX4_fails_1 18 rfl rfl)
theorem dX4_fails_43 : decode cX4_fails 43 = .ok (.iconst 1, 1) := dk_4 (dk_at dksX4_fails_1 19 rfl rfl)
theorem dX4_fails_44 : decode cX4_fails 44 = .ok (.invokevirtual 88, 3) := dk_182 0 88 (dk_at dksX4_fails_1 20 rfl rfl)
theorem dX4_fails_47 : decode cX4_fails 47 = .ok (.aload_n 0, 1) := dk_42 (dk_at dksX4_fails_1 23 rfl rfl)
theorem dX4_fails_48 : decode cX4_fails 48 = .ok (.iload_n 1, 1) := dk_27 (dk_at dksX4_fails_2 0 rfl rfl)
theorem dX4_fails_49 : decode cX4_fails 49 = .ok (.iconst 5, 1) := dk_8 (dk_at dksX4_fails_2 1 rfl rfl)
theorem dX4_fails_50 : decode cX4_fails 50 = .ok (.iconst 0, 1) := dk_3 (dk_at dksX4_fails_2 2 rfl rfl)
theorem dX4_fails_51 : decode cX4_fails 51 = .ok (.invokevirtual 88, 3) := dk_182 0 88 (dk_at dksX4_fails_2 3 rfl rfl)
theorem dX4_fails_54 : decode cX4_fails 54 = .ok (.aload_n 0, 1) := dk_42 (dk_at dksX4_fails_2 6 rfl rfl)
theorem dX4_fails_55 : decode cX4_fails 55 = .ok (.aload_n 0, 1) := dk_42 (dk_at dksX4_fails_2 7 rfl rfl)
theorem dX4_fails_56 : decode cX4_fails 56 = .ok (.iconst 1, 1) := dk_4 (dk_at dksX4_fails_2 8 rfl rfl)
theorem dX4_fails_57 : decode cX4_fails 57 = .ok (.invokevirtual 107, 3) := dk_182 0 107 (dk_at dksX4_fails_2 9 rfl rfl)
theorem dX4_fails_60 : decode cX4_fails 60 = .ok (.aload_n 0, 1) := dk_42 (dk_at dksX4_fails_2 12 rfl rfl)
theorem dX4_fails_61 : decode cX4_fails 61 = .ok (.iconst 2, 1) := dk_5 (dk_at dksX4_fails_2 13 rfl rfl)
theorem dX4_fails_62 : decode cX4_fails 62 = .ok (.invokevirtual 107, 3) := dk_182 0 107 (dk_at dksX4_fails_2 14 rfl rfl)
theorem dX4_fails_65 : decode cX4_fails 65 = .ok (.iadd, 1) := dk_96 (dk_at dksX4_fails_2 17 rfl rfl)
theorem dX4_fails_66 : decode cX4_fails 66 = .ok (.putfield 37, 3) := dk_181 0 37 (dk_at dksX4_fails_2 18 rfl rfl)
theorem dX4_fails_69 : decode cX4_fails 69 = .ok (.iconst 0, 1) := dk_3 (dk_at dksX4_fails_2 21 rfl rfl)
theorem dX4_fails_70 : decode cX4_fails 70 = .ok (.ireturn, 1) := dk_172 (dk_at dksX4_fails_2 22 rfl rfl)
abbrev cX4_isTurbine : ByteArray := prog_20_method_14_code
def yX4_isTurbine : MethodName := ⟨RX4, "isTurbine", "(I)Z"⟩
def dkwX4_isTurbine_0 : List UInt8 := [27, 3, 42, 180, 0, 9, 3, 46, 4, 100, 184, 0, 53, 172]
abbrev dktX4_isTurbine_0 : List UInt8 := dkwX4_isTurbine_0 ++ []
theorem dksX4_isTurbine_0 : cX4_isTurbine.data.toList.drop 0 = dktX4_isTurbine_0 := by decide +kernel
theorem dX4_isTurbine_0 : decode cX4_isTurbine 0 = .ok (.iload_n 1, 1) := dk_27 (dk_at dksX4_isTurbine_0 0 rfl rfl)
theorem dX4_isTurbine_1 : decode cX4_isTurbine 1 = .ok (.iconst 0, 1) := dk_3 (dk_at dksX4_isTurbine_0 1 rfl rfl)
theorem dX4_isTurbine_2 : decode cX4_isTurbine 2 = .ok (.aload_n 0, 1) := dk_42 (dk_at dksX4_isTurbine_0 2 rfl rfl)
theorem dX4_isTurbine_3 : decode cX4_isTurbine 3 = .ok (.getfield 9, 3) := dk_180 0 9 (dk_at dksX4_isTurbine_0 3 rfl rfl)
theorem dX4_isTurbine_6 : decode cX4_isTurbine 6 = .ok (.iconst 0, 1) := dk_3 (dk_at dksX4_isTurbine_0 6 rfl rfl)
theorem dX4_isTurbine_7 : decode cX4_isTurbine 7 = .ok (.iaload, 1) := dk_46 (dk_at dksX4_isTurbine_0 7 rfl rfl)
theorem dX4_isTurbine_8 : decode cX4_isTurbine 8 = .ok (.iconst 1, 1) := dk_4 (dk_at dksX4_isTurbine_0 8 rfl rfl)
theorem dX4_isTurbine_9 : decode cX4_isTurbine 9 = .ok (.isub, 1) := dk_100 (dk_at dksX4_isTurbine_0 9 rfl rfl)
theorem dX4_isTurbine_10 : decode cX4_isTurbine 10 = .ok (.invokestatic 53, 3) := dk_184 0 53 (dk_at dksX4_isTurbine_0 10 rfl rfl)
theorem dX4_isTurbine_13 : decode cX4_isTurbine 13 = .ok (.ireturn, 1) := dk_172 (dk_at dksX4_isTurbine_0 13 rfl rfl)
abbrev cX4_inState : ByteArray := prog_20_method_23_code
def yX4_inState : MethodName := ⟨RX4, "inState", "(I)I"⟩
def dkwX4_inState_1 : List UInt8 := [160, 0, 7, 4, 167, 0, 4, 3, 96, 61, 132, 3, 1, 167, 255, 225, 28, 172]
abbrev dktX4_inState_1 : List UInt8 := dkwX4_inState_1 ++ []
def dkwX4_inState_0 : List UInt8 := [3, 61, 3, 62, 29, 42, 180, 0, 9, 3, 46, 162, 0, 27, 28, 42, 29, 6, 182, 0, 57, 27]
abbrev dktX4_inState_0 : List UInt8 := dkwX4_inState_0 ++ dktX4_inState_1
theorem dksX4_inState_0 : cX4_inState.data.toList.drop 0 = dktX4_inState_0 := by decide +kernel
theorem dksX4_inState_1 : cX4_inState.data.toList.drop 22 = dktX4_inState_1 := dk_seg dksX4_inState_0 22 rfl rfl
theorem dX4_inState_0 : decode cX4_inState 0 = .ok (.iconst 0, 1) := dk_3 (dk_at dksX4_inState_0 0 rfl rfl)
theorem dX4_inState_1 : decode cX4_inState 1 = .ok (.istore_n 2, 1) := dk_61 (dk_at dksX4_inState_0 1 rfl rfl)
theorem dX4_inState_2 : decode cX4_inState 2 = .ok (.iconst 0, 1) := dk_3 (dk_at dksX4_inState_0 2 rfl rfl)
theorem dX4_inState_3 : decode cX4_inState 3 = .ok (.istore_n 3, 1) := dk_62 (dk_at dksX4_inState_0 3 rfl rfl)
theorem dX4_inState_4 : decode cX4_inState 4 = .ok (.iload_n 3, 1) := dk_29 (dk_at dksX4_inState_0 4 rfl rfl)
theorem dX4_inState_5 : decode cX4_inState 5 = .ok (.aload_n 0, 1) := dk_42 (dk_at dksX4_inState_0 5 rfl rfl)
theorem dX4_inState_6 : decode cX4_inState 6 = .ok (.getfield 9, 3) := dk_180 0 9 (dk_at dksX4_inState_0 6 rfl rfl)
theorem dX4_inState_9 : decode cX4_inState 9 = .ok (.iconst 0, 1) := dk_3 (dk_at dksX4_inState_0 9 rfl rfl)
theorem dX4_inState_10 : decode cX4_inState 10 = .ok (.iaload, 1) := dk_46 (dk_at dksX4_inState_0 10 rfl rfl)
theorem dX4_inState_11 : decode cX4_inState 11 = .ok (.if_icmp .ge 27, 3) := dk_162 0 27 (dk_at dksX4_inState_0 11 rfl rfl)
theorem dX4_inState_14 : decode cX4_inState 14 = .ok (.iload_n 2, 1) := dk_28 (dk_at dksX4_inState_0 14 rfl rfl)
theorem dX4_inState_15 : decode cX4_inState 15 = .ok (.aload_n 0, 1) := dk_42 (dk_at dksX4_inState_0 15 rfl rfl)
theorem dX4_inState_16 : decode cX4_inState 16 = .ok (.iload_n 3, 1) := dk_29 (dk_at dksX4_inState_0 16 rfl rfl)
theorem dX4_inState_17 : decode cX4_inState 17 = .ok (.iconst 3, 1) := dk_6 (dk_at dksX4_inState_0 17 rfl rfl)
theorem dX4_inState_18 : decode cX4_inState 18 = .ok (.invokevirtual 57, 3) := dk_182 0 57 (dk_at dksX4_inState_0 18 rfl rfl)
theorem dX4_inState_21 : decode cX4_inState 21 = .ok (.iload_n 1, 1) := dk_27 (dk_at dksX4_inState_0 21 rfl rfl)
theorem dX4_inState_22 : decode cX4_inState 22 = .ok (.if_icmp .ne 7, 3) := dk_160 0 7 (dk_at dksX4_inState_1 0 rfl rfl)
theorem dX4_inState_25 : decode cX4_inState 25 = .ok (.iconst 1, 1) := dk_4 (dk_at dksX4_inState_1 3 rfl rfl)
theorem dX4_inState_26 : decode cX4_inState 26 = .ok (.goto 4, 3) := dk_167 0 4 (dk_at dksX4_inState_1 4 rfl rfl)
theorem dX4_inState_29 : decode cX4_inState 29 = .ok (.iconst 0, 1) := dk_3 (dk_at dksX4_inState_1 7 rfl rfl)
theorem dX4_inState_30 : decode cX4_inState 30 = .ok (.iadd, 1) := dk_96 (dk_at dksX4_inState_1 8 rfl rfl)
theorem dX4_inState_31 : decode cX4_inState 31 = .ok (.istore_n 2, 1) := dk_61 (dk_at dksX4_inState_1 9 rfl rfl)
theorem dX4_inState_32 : decode cX4_inState 32 = .ok (.iinc 3 1, 3) := dk_132 3 1 (dk_at dksX4_inState_1 10 rfl rfl)
theorem dX4_inState_35 : decode cX4_inState 35 = .ok (.goto (-31), 3) := dk_167 255 225 (dk_at dksX4_inState_1 13 rfl rfl)
theorem dX4_inState_38 : decode cX4_inState 38 = .ok (.iload_n 2, 1) := dk_28 (dk_at dksX4_inState_1 16 rfl rfl)
theorem dX4_inState_39 : decode cX4_inState 39 = .ok (.ireturn, 1) := dk_172 (dk_at dksX4_inState_1 17 rfl rfl)
abbrev cX4_sendCrew : ByteArray := prog_20_method_32_code
def yX4_sendCrew : MethodName := ⟨RX4, "sendCrew", "(II)I"⟩
def dkwX4_sendCrew_0 : List UInt8 := [42, 182, 0, 92, 42, 42, 27, 28, 182, 0, 117, 4, 5, 6, 182, 0, 99, 172]
abbrev dktX4_sendCrew_0 : List UInt8 := dkwX4_sendCrew_0 ++ []
theorem dksX4_sendCrew_0 : cX4_sendCrew.data.toList.drop 0 = dktX4_sendCrew_0 := by decide +kernel
theorem dX4_sendCrew_0 : decode cX4_sendCrew 0 = .ok (.aload_n 0, 1) := dk_42 (dk_at dksX4_sendCrew_0 0 rfl rfl)
theorem dX4_sendCrew_1 : decode cX4_sendCrew 1 = .ok (.invokevirtual 92, 3) := dk_182 0 92 (dk_at dksX4_sendCrew_0 1 rfl rfl)
theorem dX4_sendCrew_4 : decode cX4_sendCrew 4 = .ok (.aload_n 0, 1) := dk_42 (dk_at dksX4_sendCrew_0 4 rfl rfl)
theorem dX4_sendCrew_5 : decode cX4_sendCrew 5 = .ok (.aload_n 0, 1) := dk_42 (dk_at dksX4_sendCrew_0 5 rfl rfl)
theorem dX4_sendCrew_6 : decode cX4_sendCrew 6 = .ok (.iload_n 1, 1) := dk_27 (dk_at dksX4_sendCrew_0 6 rfl rfl)
theorem dX4_sendCrew_7 : decode cX4_sendCrew 7 = .ok (.iload_n 2, 1) := dk_28 (dk_at dksX4_sendCrew_0 7 rfl rfl)
theorem dX4_sendCrew_8 : decode cX4_sendCrew 8 = .ok (.invokevirtual 117, 3) := dk_182 0 117 (dk_at dksX4_sendCrew_0 8 rfl rfl)
theorem dX4_sendCrew_11 : decode cX4_sendCrew 11 = .ok (.iconst 1, 1) := dk_4 (dk_at dksX4_sendCrew_0 11 rfl rfl)
theorem dX4_sendCrew_12 : decode cX4_sendCrew 12 = .ok (.iconst 2, 1) := dk_5 (dk_at dksX4_sendCrew_0 12 rfl rfl)
theorem dX4_sendCrew_13 : decode cX4_sendCrew 13 = .ok (.iconst 3, 1) := dk_6 (dk_at dksX4_sendCrew_0 13 rfl rfl)
theorem dX4_sendCrew_14 : decode cX4_sendCrew 14 = .ok (.invokevirtual 99, 3) := dk_182 0 99 (dk_at dksX4_sendCrew_0 14 rfl rfl)
theorem dX4_sendCrew_17 : decode cX4_sendCrew 17 = .ok (.ireturn, 1) := dk_172 (dk_at dksX4_sendCrew_0 17 rfl rfl)
abbrev cX4_sends : ByteArray := prog_20_method_31_code
def yX4_sends : MethodName := ⟨RX4, "sends", "(II)I"⟩
def dkwX4_sends_4 : List UInt8 := [42, 5, 182, 0, 107, 100, 181, 0, 37, 3, 172]
abbrev dktX4_sends_4 : List UInt8 := dkwX4_sends_4 ++ []
def dkwX4_sends_3 : List UInt8 := [182, 0, 84, 153, 0, 5, 6, 172, 42, 27, 6, 5, 182, 0, 88, 42, 27, 7, 28, 182, 0, 88, 42, 5]
abbrev dktX4_sends_3 : List UInt8 := dkwX4_sends_3 ++ dktX4_sends_4
def dkwX4_sends_2 : List UInt8 := [154, 0, 29, 42, 42, 5, 182, 0, 107, 5, 160, 0, 7, 4, 167, 0, 4, 3, 8, 42, 182, 0, 113]
abbrev dktX4_sends_2 : List UInt8 := dkwX4_sends_2 ++ dktX4_sends_3
def dkwX4_sends_1 : List UInt8 := [27, 6, 182, 0, 57, 4, 159, 0, 7, 4, 167, 0, 4, 3, 7, 42, 27, 182, 0, 77, 182, 0, 84]
abbrev dktX4_sends_1 : List UInt8 := dkwX4_sends_1 ++ dktX4_sends_2
def dkwX4_sends_0 : List UInt8 := [42, 27, 182, 0, 103, 154, 0, 5, 4, 172, 28, 4, 16, 12, 184, 0, 53, 154, 0, 5, 5, 172, 42, 42]
abbrev dktX4_sends_0 : List UInt8 := dkwX4_sends_0 ++ dktX4_sends_1
theorem dksX4_sends_0 : cX4_sends.data.toList.drop 0 = dktX4_sends_0 := by decide +kernel
theorem dksX4_sends_1 : cX4_sends.data.toList.drop 24 = dktX4_sends_1 := dk_seg dksX4_sends_0 24 rfl rfl
theorem dksX4_sends_2 : cX4_sends.data.toList.drop 47 = dktX4_sends_2 := dk_seg dksX4_sends_1 23 rfl rfl
theorem dksX4_sends_3 : cX4_sends.data.toList.drop 70 = dktX4_sends_3 := dk_seg dksX4_sends_2 23 rfl rfl
theorem dksX4_sends_4 : cX4_sends.data.toList.drop 94 = dktX4_sends_4 := dk_seg dksX4_sends_3 24 rfl rfl
theorem dX4_sends_0 : decode cX4_sends 0 = .ok (.aload_n 0, 1) := dk_42 (dk_at dksX4_sends_0 0 rfl rfl)
theorem dX4_sends_1 : decode cX4_sends 1 = .ok (.iload_n 1, 1) := dk_27 (dk_at dksX4_sends_0 1 rfl rfl)
theorem dX4_sends_2 : decode cX4_sends 2 = .ok (.invokevirtual 103, 3) := dk_182 0 103 (dk_at dksX4_sends_0 2 rfl rfl)
theorem dX4_sends_5 : decode cX4_sends 5 = .ok (.ifCond .ne 5, 3) := dk_154 0 5 (dk_at dksX4_sends_0 5 rfl rfl)
theorem dX4_sends_8 : decode cX4_sends 8 = .ok (.iconst 1, 1) := dk_4 (dk_at dksX4_sends_0 8 rfl rfl)
theorem dX4_sends_9 : decode cX4_sends 9 = .ok (.ireturn, 1) := dk_172 (dk_at dksX4_sends_0 9 rfl rfl)
theorem dX4_sends_10 : decode cX4_sends 10 = .ok (.iload_n 2, 1) := dk_28 (dk_at dksX4_sends_0 10 rfl rfl)
theorem dX4_sends_11 : decode cX4_sends 11 = .ok (.iconst 1, 1) := dk_4 (dk_at dksX4_sends_0 11 rfl rfl)
theorem dX4_sends_12 : decode cX4_sends 12 = .ok (.bipush 12, 2) := dk_16 12 (dk_at dksX4_sends_0 12 rfl rfl)
theorem dX4_sends_14 : decode cX4_sends 14 = .ok (.invokestatic 53, 3) := dk_184 0 53 (dk_at dksX4_sends_0 14 rfl rfl)
theorem dX4_sends_17 : decode cX4_sends 17 = .ok (.ifCond .ne 5, 3) := dk_154 0 5 (dk_at dksX4_sends_0 17 rfl rfl)
theorem dX4_sends_20 : decode cX4_sends 20 = .ok (.iconst 2, 1) := dk_5 (dk_at dksX4_sends_0 20 rfl rfl)
theorem dX4_sends_21 : decode cX4_sends 21 = .ok (.ireturn, 1) := dk_172 (dk_at dksX4_sends_0 21 rfl rfl)
theorem dX4_sends_22 : decode cX4_sends 22 = .ok (.aload_n 0, 1) := dk_42 (dk_at dksX4_sends_0 22 rfl rfl)
theorem dX4_sends_23 : decode cX4_sends 23 = .ok (.aload_n 0, 1) := dk_42 (dk_at dksX4_sends_0 23 rfl rfl)
theorem dX4_sends_24 : decode cX4_sends 24 = .ok (.iload_n 1, 1) := dk_27 (dk_at dksX4_sends_1 0 rfl rfl)
theorem dX4_sends_25 : decode cX4_sends 25 = .ok (.iconst 3, 1) := dk_6 (dk_at dksX4_sends_1 1 rfl rfl)
theorem dX4_sends_26 : decode cX4_sends 26 = .ok (.invokevirtual 57, 3) := dk_182 0 57 (dk_at dksX4_sends_1 2 rfl rfl)
theorem dX4_sends_29 : decode cX4_sends 29 = .ok (.iconst 1, 1) := dk_4 (dk_at dksX4_sends_1 5 rfl rfl)
theorem dX4_sends_30 : decode cX4_sends 30 = .ok (.if_icmp .eq 7, 3) := dk_159 0 7 (dk_at dksX4_sends_1 6 rfl rfl)
theorem dX4_sends_33 : decode cX4_sends 33 = .ok (.iconst 1, 1) := dk_4 (dk_at dksX4_sends_1 9 rfl rfl)
theorem dX4_sends_34 : decode cX4_sends 34 = .ok (.goto 4, 3) := dk_167 0 4 (dk_at dksX4_sends_1 10 rfl rfl)
theorem dX4_sends_37 : decode cX4_sends 37 = .ok (.iconst 0, 1) := dk_3 (dk_at dksX4_sends_1 13 rfl rfl)
theorem dX4_sends_38 : decode cX4_sends 38 = .ok (.iconst 4, 1) := dk_7 (dk_at dksX4_sends_1 14 rfl rfl)
theorem dX4_sends_39 : decode cX4_sends 39 = .ok (.aload_n 0, 1) := dk_42 (dk_at dksX4_sends_1 15 rfl rfl)
theorem dX4_sends_40 : decode cX4_sends 40 = .ok (.iload_n 1, 1) := dk_27 (dk_at dksX4_sends_1 16 rfl rfl)
theorem dX4_sends_41 : decode cX4_sends 41 = .ok (.invokevirtual 77, 3) := dk_182 0 77 (dk_at dksX4_sends_1 17 rfl rfl)
theorem dX4_sends_44 : decode cX4_sends 44 = .ok (.invokevirtual 84, 3) := dk_182 0 84 (dk_at dksX4_sends_1 20 rfl rfl)
theorem dX4_sends_47 : decode cX4_sends 47 = .ok (.ifCond .ne 29, 3) := dk_154 0 29 (dk_at dksX4_sends_2 0 rfl rfl)
theorem dX4_sends_50 : decode cX4_sends 50 = .ok (.aload_n 0, 1) := dk_42 (dk_at dksX4_sends_2 3 rfl rfl)
theorem dX4_sends_51 : decode cX4_sends 51 = .ok (.aload_n 0, 1) := dk_42 (dk_at dksX4_sends_2 4 rfl rfl)
theorem dX4_sends_52 : decode cX4_sends 52 = .ok (.iconst 2, 1) := dk_5 (dk_at dksX4_sends_2 5 rfl rfl)
theorem dX4_sends_53 : decode cX4_sends 53 = .ok (.invokevirtual 107, 3) := dk_182 0 107 (dk_at dksX4_sends_2 6 rfl rfl)
theorem dX4_sends_56 : decode cX4_sends 56 = .ok (.iconst 2, 1) := dk_5 (dk_at dksX4_sends_2 9 rfl rfl)
theorem dX4_sends_57 : decode cX4_sends 57 = .ok (.if_icmp .ne 7, 3) := dk_160 0 7 (dk_at dksX4_sends_2 10 rfl rfl)
theorem dX4_sends_60 : decode cX4_sends 60 = .ok (.iconst 1, 1) := dk_4 (dk_at dksX4_sends_2 13 rfl rfl)
theorem dX4_sends_61 : decode cX4_sends 61 = .ok (.goto 4, 3) := dk_167 0 4 (dk_at dksX4_sends_2 14 rfl rfl)
theorem dX4_sends_64 : decode cX4_sends 64 = .ok (.iconst 0, 1) := dk_3 (dk_at dksX4_sends_2 17 rfl rfl)
theorem dX4_sends_65 : decode cX4_sends 65 = .ok (.iconst 5, 1) := dk_8 (dk_at dksX4_sends_2 18 rfl rfl)
theorem dX4_sends_66 : decode cX4_sends 66 = .ok (.aload_n 0, 1) := dk_42 (dk_at dksX4_sends_2 19 rfl rfl)
theorem dX4_sends_67 : decode cX4_sends 67 = .ok (.invokevirtual 113, 3) := dk_182 0 113 (dk_at dksX4_sends_2 20 rfl rfl)
theorem dX4_sends_70 : decode cX4_sends 70 = .ok (.invokevirtual 84, 3) := dk_182 0 84 (dk_at dksX4_sends_3 0 rfl rfl)
theorem dX4_sends_73 : decode cX4_sends 73 = .ok (.ifCond .eq 5, 3) := dk_153 0 5 (dk_at dksX4_sends_3 3 rfl rfl)
theorem dX4_sends_76 : decode cX4_sends 76 = .ok (.iconst 3, 1) := dk_6 (dk_at dksX4_sends_3 6 rfl rfl)
theorem dX4_sends_77 : decode cX4_sends 77 = .ok (.ireturn, 1) := dk_172 (dk_at dksX4_sends_3 7 rfl rfl)
theorem dX4_sends_78 : decode cX4_sends 78 = .ok (.aload_n 0, 1) := dk_42 (dk_at dksX4_sends_3 8 rfl rfl)
theorem dX4_sends_79 : decode cX4_sends 79 = .ok (.iload_n 1, 1) := dk_27 (dk_at dksX4_sends_3 9 rfl rfl)
theorem dX4_sends_80 : decode cX4_sends 80 = .ok (.iconst 3, 1) := dk_6 (dk_at dksX4_sends_3 10 rfl rfl)
theorem dX4_sends_81 : decode cX4_sends 81 = .ok (.iconst 2, 1) := dk_5 (dk_at dksX4_sends_3 11 rfl rfl)
theorem dX4_sends_82 : decode cX4_sends 82 = .ok (.invokevirtual 88, 3) := dk_182 0 88 (dk_at dksX4_sends_3 12 rfl rfl)
theorem dX4_sends_85 : decode cX4_sends 85 = .ok (.aload_n 0, 1) := dk_42 (dk_at dksX4_sends_3 15 rfl rfl)
theorem dX4_sends_86 : decode cX4_sends 86 = .ok (.iload_n 1, 1) := dk_27 (dk_at dksX4_sends_3 16 rfl rfl)
theorem dX4_sends_87 : decode cX4_sends 87 = .ok (.iconst 4, 1) := dk_7 (dk_at dksX4_sends_3 17 rfl rfl)
theorem dX4_sends_88 : decode cX4_sends 88 = .ok (.iload_n 2, 1) := dk_28 (dk_at dksX4_sends_3 18 rfl rfl)
theorem dX4_sends_89 : decode cX4_sends 89 = .ok (.invokevirtual 88, 3) := dk_182 0 88 (dk_at dksX4_sends_3 19 rfl rfl)
theorem dX4_sends_92 : decode cX4_sends 92 = .ok (.aload_n 0, 1) := dk_42 (dk_at dksX4_sends_3 22 rfl rfl)
theorem dX4_sends_93 : decode cX4_sends 93 = .ok (.iconst 2, 1) := dk_5 (dk_at dksX4_sends_3 23 rfl rfl)
theorem dX4_sends_94 : decode cX4_sends 94 = .ok (.aload_n 0, 1) := dk_42 (dk_at dksX4_sends_4 0 rfl rfl)
theorem dX4_sends_95 : decode cX4_sends 95 = .ok (.iconst 2, 1) := dk_5 (dk_at dksX4_sends_4 1 rfl rfl)
theorem dX4_sends_96 : decode cX4_sends 96 = .ok (.invokevirtual 107, 3) := dk_182 0 107 (dk_at dksX4_sends_4 2 rfl rfl)
theorem dX4_sends_99 : decode cX4_sends 99 = .ok (.isub, 1) := dk_100 (dk_at dksX4_sends_4 5 rfl rfl)
theorem dX4_sends_100 : decode cX4_sends 100 = .ok (.putfield 37, 3) := dk_181 0 37 (dk_at dksX4_sends_4 6 rfl rfl)
theorem dX4_sends_103 : decode cX4_sends 103 = .ok (.iconst 0, 1) := dk_3 (dk_at dksX4_sends_4 9 rfl rfl)
theorem dX4_sends_104 : decode cX4_sends 104 = .ok (.ireturn, 1) := dk_172 (dk_at dksX4_sends_4 10 rfl rfl)
abbrev cX4_output : ByteArray := prog_20_method_21_code
def yX4_output : MethodName := ⟨RX4, "output", "(I)I"⟩
def dkwX4_output_1 : List UInt8 := [29, 167, 0, 4, 28, 172]
abbrev dktX4_output_1 : List UInt8 := dkwX4_output_1 ++ []
def dkwX4_output_0 : List UInt8 := [42, 27, 182, 0, 74, 61, 42, 27, 8, 182, 0, 57, 4, 100, 62, 29, 155, 0, 12, 29, 28, 162, 0, 7]
abbrev dktX4_output_0 : List UInt8 := dkwX4_output_0 ++ dktX4_output_1
theorem dksX4_output_0 : cX4_output.data.toList.drop 0 = dktX4_output_0 := by decide +kernel
theorem dksX4_output_1 : cX4_output.data.toList.drop 24 = dktX4_output_1 := dk_seg dksX4_output_0 24 rfl rfl
theorem dX4_output_0 : decode cX4_output 0 = .ok (.aload_n 0, 1) := dk_42 (dk_at dksX4_output_0 0 rfl rfl)
theorem dX4_output_1 : decode cX4_output 1 = .ok (.iload_n 1, 1) := dk_27 (dk_at dksX4_output_0 1 rfl rfl)
theorem dX4_output_2 : decode cX4_output 2 = .ok (.invokevirtual 74, 3) := dk_182 0 74 (dk_at dksX4_output_0 2 rfl rfl)
theorem dX4_output_5 : decode cX4_output 5 = .ok (.istore_n 2, 1) := dk_61 (dk_at dksX4_output_0 5 rfl rfl)
theorem dX4_output_6 : decode cX4_output 6 = .ok (.aload_n 0, 1) := dk_42 (dk_at dksX4_output_0 6 rfl rfl)
theorem dX4_output_7 : decode cX4_output 7 = .ok (.iload_n 1, 1) := dk_27 (dk_at dksX4_output_0 7 rfl rfl)
theorem dX4_output_8 : decode cX4_output 8 = .ok (.iconst 5, 1) := dk_8 (dk_at dksX4_output_0 8 rfl rfl)
theorem dX4_output_9 : decode cX4_output 9 = .ok (.invokevirtual 57, 3) := dk_182 0 57 (dk_at dksX4_output_0 9 rfl rfl)
theorem dX4_output_12 : decode cX4_output 12 = .ok (.iconst 1, 1) := dk_4 (dk_at dksX4_output_0 12 rfl rfl)
theorem dX4_output_13 : decode cX4_output 13 = .ok (.isub, 1) := dk_100 (dk_at dksX4_output_0 13 rfl rfl)
theorem dX4_output_14 : decode cX4_output 14 = .ok (.istore_n 3, 1) := dk_62 (dk_at dksX4_output_0 14 rfl rfl)
theorem dX4_output_15 : decode cX4_output 15 = .ok (.iload_n 3, 1) := dk_29 (dk_at dksX4_output_0 15 rfl rfl)
theorem dX4_output_16 : decode cX4_output 16 = .ok (.ifCond .lt 12, 3) := dk_155 0 12 (dk_at dksX4_output_0 16 rfl rfl)
theorem dX4_output_19 : decode cX4_output 19 = .ok (.iload_n 3, 1) := dk_29 (dk_at dksX4_output_0 19 rfl rfl)
theorem dX4_output_20 : decode cX4_output 20 = .ok (.iload_n 2, 1) := dk_28 (dk_at dksX4_output_0 20 rfl rfl)
theorem dX4_output_21 : decode cX4_output 21 = .ok (.if_icmp .ge 7, 3) := dk_162 0 7 (dk_at dksX4_output_0 21 rfl rfl)
theorem dX4_output_24 : decode cX4_output 24 = .ok (.iload_n 3, 1) := dk_29 (dk_at dksX4_output_1 0 rfl rfl)
theorem dX4_output_25 : decode cX4_output 25 = .ok (.goto 4, 3) := dk_167 0 4 (dk_at dksX4_output_1 1 rfl rfl)
theorem dX4_output_28 : decode cX4_output 28 = .ok (.iload_n 2, 1) := dk_28 (dk_at dksX4_output_1 4 rfl rfl)
theorem dX4_output_29 : decode cX4_output 29 = .ok (.ireturn, 1) := dk_172 (dk_at dksX4_output_1 5 rfl rfl)
abbrev cX4_available : ByteArray := prog_20_method_20_code
def yX4_available : MethodName := ⟨RX4, "available", "(I)I"⟩
def dkwX4_available_1 : List UInt8 := [154, 0, 7, 28, 156, 0, 7, 3, 167, 0, 11, 42, 27, 5, 182, 0, 57, 28, 104, 172]
abbrev dktX4_available_1 : List UInt8 := dkwX4_available_1 ++ []
def dkwX4_available_0 : List UInt8 := [42, 180, 0, 9, 5, 46, 184, 0, 67, 42, 27, 182, 0, 71, 100, 61, 42, 27, 6, 182, 0, 57]
abbrev dktX4_available_0 : List UInt8 := dkwX4_available_0 ++ dktX4_available_1
theorem dksX4_available_0 : cX4_available.data.toList.drop 0 = dktX4_available_0 := by decide +kernel
theorem dksX4_available_1 : cX4_available.data.toList.drop 22 = dktX4_available_1 := dk_seg dksX4_available_0 22 rfl rfl
theorem dX4_available_0 : decode cX4_available 0 = .ok (.aload_n 0, 1) := dk_42 (dk_at dksX4_available_0 0 rfl rfl)
theorem dX4_available_1 : decode cX4_available 1 = .ok (.getfield 9, 3) := dk_180 0 9 (dk_at dksX4_available_0 1 rfl rfl)
theorem dX4_available_4 : decode cX4_available 4 = .ok (.iconst 2, 1) := dk_5 (dk_at dksX4_available_0 4 rfl rfl)
theorem dX4_available_5 : decode cX4_available 5 = .ok (.iaload, 1) := dk_46 (dk_at dksX4_available_0 5 rfl rfl)
theorem dX4_available_6 : decode cX4_available 6 = .ok (.invokestatic 67, 3) := dk_184 0 67 (dk_at dksX4_available_0 6 rfl rfl)
theorem dX4_available_9 : decode cX4_available 9 = .ok (.aload_n 0, 1) := dk_42 (dk_at dksX4_available_0 9 rfl rfl)
theorem dX4_available_10 : decode cX4_available 10 = .ok (.iload_n 1, 1) := dk_27 (dk_at dksX4_available_0 10 rfl rfl)
theorem dX4_available_11 : decode cX4_available 11 = .ok (.invokevirtual 71, 3) := dk_182 0 71 (dk_at dksX4_available_0 11 rfl rfl)
theorem dX4_available_14 : decode cX4_available 14 = .ok (.isub, 1) := dk_100 (dk_at dksX4_available_0 14 rfl rfl)
theorem dX4_available_15 : decode cX4_available 15 = .ok (.istore_n 2, 1) := dk_61 (dk_at dksX4_available_0 15 rfl rfl)
theorem dX4_available_16 : decode cX4_available 16 = .ok (.aload_n 0, 1) := dk_42 (dk_at dksX4_available_0 16 rfl rfl)
theorem dX4_available_17 : decode cX4_available 17 = .ok (.iload_n 1, 1) := dk_27 (dk_at dksX4_available_0 17 rfl rfl)
theorem dX4_available_18 : decode cX4_available 18 = .ok (.iconst 3, 1) := dk_6 (dk_at dksX4_available_0 18 rfl rfl)
theorem dX4_available_19 : decode cX4_available 19 = .ok (.invokevirtual 57, 3) := dk_182 0 57 (dk_at dksX4_available_0 19 rfl rfl)
theorem dX4_available_22 : decode cX4_available 22 = .ok (.ifCond .ne 7, 3) := dk_154 0 7 (dk_at dksX4_available_1 0 rfl rfl)
theorem dX4_available_25 : decode cX4_available 25 = .ok (.iload_n 2, 1) := dk_28 (dk_at dksX4_available_1 3 rfl rfl)
theorem dX4_available_26 : decode cX4_available 26 = .ok (.ifCond .ge 7, 3) := dk_156 0 7 (dk_at dksX4_available_1 4 rfl rfl)
theorem dX4_available_29 : decode cX4_available 29 = .ok (.iconst 0, 1) := dk_3 (dk_at dksX4_available_1 7 rfl rfl)
theorem dX4_available_30 : decode cX4_available 30 = .ok (.goto 11, 3) := dk_167 0 11 (dk_at dksX4_available_1 8 rfl rfl)
theorem dX4_available_33 : decode cX4_available 33 = .ok (.aload_n 0, 1) := dk_42 (dk_at dksX4_available_1 11 rfl rfl)
theorem dX4_available_34 : decode cX4_available 34 = .ok (.iload_n 1, 1) := dk_27 (dk_at dksX4_available_1 12 rfl rfl)
theorem dX4_available_35 : decode cX4_available 35 = .ok (.iconst 2, 1) := dk_5 (dk_at dksX4_available_1 13 rfl rfl)
theorem dX4_available_36 : decode cX4_available 36 = .ok (.invokevirtual 57, 3) := dk_182 0 57 (dk_at dksX4_available_1 14 rfl rfl)
theorem dX4_available_39 : decode cX4_available 39 = .ok (.iload_n 2, 1) := dk_28 (dk_at dksX4_available_1 17 rfl rfl)
theorem dX4_available_40 : decode cX4_available 40 = .ok (.imul, 1) := dk_104 (dk_at dksX4_available_1 18 rfl rfl)
theorem dX4_available_41 : decode cX4_available 41 = .ok (.ireturn, 1) := dk_172 (dk_at dksX4_available_1 19 rfl rfl)
abbrev cX4_factorOf : ByteArray := prog_20_method_17_code
def yX4_factorOf : MethodName := ⟨RX4, "factorOf", "(I)I"⟩
def dkwX4_factorOf_1 : List UInt8 := [16, 8, 162, 0, 7, 8, 167, 0, 16, 26, 16, 12, 162, 0, 8, 16, 8, 167, 0, 5, 16, 10, 172]
abbrev dktX4_factorOf_1 : List UInt8 := dkwX4_factorOf_1 ++ []
def dkwX4_factorOf_0 : List UInt8 := [26, 6, 161, 0, 9, 26, 16, 22, 164, 0, 5, 3, 172, 26, 8, 162, 0, 7, 5, 167, 0, 26, 26]
abbrev dktX4_factorOf_0 : List UInt8 := dkwX4_factorOf_0 ++ dktX4_factorOf_1
theorem dksX4_factorOf_0 : cX4_factorOf.data.toList.drop 0 = dktX4_factorOf_0 := by decide +kernel
theorem dksX4_factorOf_1 : cX4_factorOf.data.toList.drop 23 = dktX4_factorOf_1 := dk_seg dksX4_factorOf_0 23 rfl rfl
theorem dX4_factorOf_0 : decode cX4_factorOf 0 = .ok (.iload_n 0, 1) := dk_26 (dk_at dksX4_factorOf_0 0 rfl rfl)
theorem dX4_factorOf_1 : decode cX4_factorOf 1 = .ok (.iconst 3, 1) := dk_6 (dk_at dksX4_factorOf_0 1 rfl rfl)
theorem dX4_factorOf_2 : decode cX4_factorOf 2 = .ok (.if_icmp .lt 9, 3) := dk_161 0 9 (dk_at dksX4_factorOf_0 2 rfl rfl)
theorem dX4_factorOf_5 : decode cX4_factorOf 5 = .ok (.iload_n 0, 1) := dk_26 (dk_at dksX4_factorOf_0 5 rfl rfl)
theorem dX4_factorOf_6 : decode cX4_factorOf 6 = .ok (.bipush 22, 2) := dk_16 22 (dk_at dksX4_factorOf_0 6 rfl rfl)
theorem dX4_factorOf_8 : decode cX4_factorOf 8 = .ok (.if_icmp .le 5, 3) := dk_164 0 5 (dk_at dksX4_factorOf_0 8 rfl rfl)
theorem dX4_factorOf_11 : decode cX4_factorOf 11 = .ok (.iconst 0, 1) := dk_3 (dk_at dksX4_factorOf_0 11 rfl rfl)
theorem dX4_factorOf_12 : decode cX4_factorOf 12 = .ok (.ireturn, 1) := dk_172 (dk_at dksX4_factorOf_0 12 rfl rfl)
theorem dX4_factorOf_13 : decode cX4_factorOf 13 = .ok (.iload_n 0, 1) := dk_26 (dk_at dksX4_factorOf_0 13 rfl rfl)
theorem dX4_factorOf_14 : decode cX4_factorOf 14 = .ok (.iconst 5, 1) := dk_8 (dk_at dksX4_factorOf_0 14 rfl rfl)
theorem dX4_factorOf_15 : decode cX4_factorOf 15 = .ok (.if_icmp .ge 7, 3) := dk_162 0 7 (dk_at dksX4_factorOf_0 15 rfl rfl)
theorem dX4_factorOf_18 : decode cX4_factorOf 18 = .ok (.iconst 2, 1) := dk_5 (dk_at dksX4_factorOf_0 18 rfl rfl)
theorem dX4_factorOf_19 : decode cX4_factorOf 19 = .ok (.goto 26, 3) := dk_167 0 26 (dk_at dksX4_factorOf_0 19 rfl rfl)
theorem dX4_factorOf_22 : decode cX4_factorOf 22 = .ok (.iload_n 0, 1) := dk_26 (dk_at dksX4_factorOf_0 22 rfl rfl)
theorem dX4_factorOf_23 : decode cX4_factorOf 23 = .ok (.bipush 8, 2) := dk_16 8 (dk_at dksX4_factorOf_1 0 rfl rfl)
theorem dX4_factorOf_25 : decode cX4_factorOf 25 = .ok (.if_icmp .ge 7, 3) := dk_162 0 7 (dk_at dksX4_factorOf_1 2 rfl rfl)
theorem dX4_factorOf_28 : decode cX4_factorOf 28 = .ok (.iconst 5, 1) := dk_8 (dk_at dksX4_factorOf_1 5 rfl rfl)
theorem dX4_factorOf_29 : decode cX4_factorOf 29 = .ok (.goto 16, 3) := dk_167 0 16 (dk_at dksX4_factorOf_1 6 rfl rfl)
theorem dX4_factorOf_32 : decode cX4_factorOf 32 = .ok (.iload_n 0, 1) := dk_26 (dk_at dksX4_factorOf_1 9 rfl rfl)
theorem dX4_factorOf_33 : decode cX4_factorOf 33 = .ok (.bipush 12, 2) := dk_16 12 (dk_at dksX4_factorOf_1 10 rfl rfl)
theorem dX4_factorOf_35 : decode cX4_factorOf 35 = .ok (.if_icmp .ge 8, 3) := dk_162 0 8 (dk_at dksX4_factorOf_1 12 rfl rfl)
theorem dX4_factorOf_38 : decode cX4_factorOf 38 = .ok (.bipush 8, 2) := dk_16 8 (dk_at dksX4_factorOf_1 15 rfl rfl)
theorem dX4_factorOf_40 : decode cX4_factorOf 40 = .ok (.goto 5, 3) := dk_167 0 5 (dk_at dksX4_factorOf_1 17 rfl rfl)
theorem dX4_factorOf_43 : decode cX4_factorOf 43 = .ok (.bipush 10, 2) := dk_16 10 (dk_at dksX4_factorOf_1 20 rfl rfl)
theorem dX4_factorOf_45 : decode cX4_factorOf 45 = .ok (.ireturn, 1) := dk_172 (dk_at dksX4_factorOf_1 22 rfl rfl)
abbrev cX4_lossOf : ByteArray := prog_20_method_19_code
def yX4_lossOf : MethodName := ⟨RX4, "lossOf", "(I)I"⟩
def dkwX4_lossOf_0 : List UInt8 := [6, 42, 27, 4, 182, 0, 64, 104, 42, 27, 5, 182, 0, 64, 96, 172]
abbrev dktX4_lossOf_0 : List UInt8 := dkwX4_lossOf_0 ++ []
theorem dksX4_lossOf_0 : cX4_lossOf.data.toList.drop 0 = dktX4_lossOf_0 := by decide +kernel
theorem dX4_lossOf_0 : decode cX4_lossOf 0 = .ok (.iconst 3, 1) := dk_6 (dk_at dksX4_lossOf_0 0 rfl rfl)
theorem dX4_lossOf_1 : decode cX4_lossOf 1 = .ok (.aload_n 0, 1) := dk_42 (dk_at dksX4_lossOf_0 1 rfl rfl)
theorem dX4_lossOf_2 : decode cX4_lossOf 2 = .ok (.iload_n 1, 1) := dk_27 (dk_at dksX4_lossOf_0 2 rfl rfl)
theorem dX4_lossOf_3 : decode cX4_lossOf 3 = .ok (.iconst 1, 1) := dk_4 (dk_at dksX4_lossOf_0 3 rfl rfl)
theorem dX4_lossOf_4 : decode cX4_lossOf 4 = .ok (.invokevirtual 64, 3) := dk_182 0 64 (dk_at dksX4_lossOf_0 4 rfl rfl)
theorem dX4_lossOf_7 : decode cX4_lossOf 7 = .ok (.imul, 1) := dk_104 (dk_at dksX4_lossOf_0 7 rfl rfl)
theorem dX4_lossOf_8 : decode cX4_lossOf 8 = .ok (.aload_n 0, 1) := dk_42 (dk_at dksX4_lossOf_0 8 rfl rfl)
theorem dX4_lossOf_9 : decode cX4_lossOf 9 = .ok (.iload_n 1, 1) := dk_27 (dk_at dksX4_lossOf_0 9 rfl rfl)
theorem dX4_lossOf_10 : decode cX4_lossOf 10 = .ok (.iconst 2, 1) := dk_5 (dk_at dksX4_lossOf_0 10 rfl rfl)
theorem dX4_lossOf_11 : decode cX4_lossOf 11 = .ok (.invokevirtual 64, 3) := dk_182 0 64 (dk_at dksX4_lossOf_0 11 rfl rfl)
theorem dX4_lossOf_14 : decode cX4_lossOf 14 = .ok (.iadd, 1) := dk_96 (dk_at dksX4_lossOf_0 14 rfl rfl)
theorem dX4_lossOf_15 : decode cX4_lossOf 15 = .ok (.ireturn, 1) := dk_172 (dk_at dksX4_lossOf_0 15 rfl rfl)
abbrev cX4_wakeOf : ByteArray := prog_20_method_18_code
def yX4_wakeOf : MethodName := ⟨RX4, "wakeOf", "(II)I"⟩
def dkwX4_wakeOf_4 : List UInt8 := [182, 0, 57, 154, 0, 7, 4, 167, 0, 4, 3, 172]
abbrev dktX4_wakeOf_4 : List UInt8 := dkwX4_wakeOf_4 ++ []
def dkwX4_wakeOf_3 : List UInt8 := [27, 4, 182, 0, 57, 21, 4, 96, 182, 0, 61, 54, 5, 21, 5, 155, 0, 17, 42, 21, 5, 6]
abbrev dktX4_wakeOf_3 : List UInt8 := dkwX4_wakeOf_3 ++ dktX4_wakeOf_4
def dkwX4_wakeOf_2 : List UInt8 := [4, 46, 6, 160, 0, 8, 28, 116, 167, 0, 4, 3, 54, 4, 42, 42, 27, 3, 182, 0, 57, 29, 96, 42]
abbrev dktX4_wakeOf_2 : List UInt8 := dkwX4_wakeOf_2 ++ dktX4_wakeOf_3
def dkwX4_wakeOf_1 : List UInt8 := [28, 167, 0, 4, 3, 62, 42, 180, 0, 9, 4, 46, 4, 160, 0, 7, 28, 167, 0, 19, 42, 180, 0, 9]
abbrev dktX4_wakeOf_1 : List UInt8 := dkwX4_wakeOf_1 ++ dktX4_wakeOf_2
def dkwX4_wakeOf_0 : List UInt8 := [42, 180, 0, 9, 4, 46, 154, 0, 8, 28, 116, 167, 0, 18, 42, 180, 0, 9, 4, 46, 5, 160, 0, 7]
abbrev dktX4_wakeOf_0 : List UInt8 := dkwX4_wakeOf_0 ++ dktX4_wakeOf_1
theorem dksX4_wakeOf_0 : cX4_wakeOf.data.toList.drop 0 = dktX4_wakeOf_0 := by decide +kernel
theorem dksX4_wakeOf_1 : cX4_wakeOf.data.toList.drop 24 = dktX4_wakeOf_1 := dk_seg dksX4_wakeOf_0 24 rfl rfl
theorem dksX4_wakeOf_2 : cX4_wakeOf.data.toList.drop 48 = dktX4_wakeOf_2 := dk_seg dksX4_wakeOf_1 24 rfl rfl
theorem dksX4_wakeOf_3 : cX4_wakeOf.data.toList.drop 72 = dktX4_wakeOf_3 := dk_seg dksX4_wakeOf_2 24 rfl rfl
theorem dksX4_wakeOf_4 : cX4_wakeOf.data.toList.drop 94 = dktX4_wakeOf_4 := dk_seg dksX4_wakeOf_3 22 rfl rfl
theorem dX4_wakeOf_0 : decode cX4_wakeOf 0 = .ok (.aload_n 0, 1) := dk_42 (dk_at dksX4_wakeOf_0 0 rfl rfl)
theorem dX4_wakeOf_1 : decode cX4_wakeOf 1 = .ok (.getfield 9, 3) := dk_180 0 9 (dk_at dksX4_wakeOf_0 1 rfl rfl)
theorem dX4_wakeOf_4 : decode cX4_wakeOf 4 = .ok (.iconst 1, 1) := dk_4 (dk_at dksX4_wakeOf_0 4 rfl rfl)
theorem dX4_wakeOf_5 : decode cX4_wakeOf 5 = .ok (.iaload, 1) := dk_46 (dk_at dksX4_wakeOf_0 5 rfl rfl)
theorem dX4_wakeOf_6 : decode cX4_wakeOf 6 = .ok (.ifCond .ne 8, 3) := dk_154 0 8 (dk_at dksX4_wakeOf_0 6 rfl rfl)
theorem dX4_wakeOf_9 : decode cX4_wakeOf 9 = .ok (.iload_n 2, 1) := dk_28 (dk_at dksX4_wakeOf_0 9 rfl rfl)
theorem dX4_wakeOf_10 : decode cX4_wakeOf 10 = .ok (.ineg, 1) := dk_116 (dk_at dksX4_wakeOf_0 10 rfl rfl)
theorem dX4_wakeOf_11 : decode cX4_wakeOf 11 = .ok (.goto 18, 3) := dk_167 0 18 (dk_at dksX4_wakeOf_0 11 rfl rfl)
theorem dX4_wakeOf_14 : decode cX4_wakeOf 14 = .ok (.aload_n 0, 1) := dk_42 (dk_at dksX4_wakeOf_0 14 rfl rfl)
theorem dX4_wakeOf_15 : decode cX4_wakeOf 15 = .ok (.getfield 9, 3) := dk_180 0 9 (dk_at dksX4_wakeOf_0 15 rfl rfl)
theorem dX4_wakeOf_18 : decode cX4_wakeOf 18 = .ok (.iconst 1, 1) := dk_4 (dk_at dksX4_wakeOf_0 18 rfl rfl)
theorem dX4_wakeOf_19 : decode cX4_wakeOf 19 = .ok (.iaload, 1) := dk_46 (dk_at dksX4_wakeOf_0 19 rfl rfl)
theorem dX4_wakeOf_20 : decode cX4_wakeOf 20 = .ok (.iconst 2, 1) := dk_5 (dk_at dksX4_wakeOf_0 20 rfl rfl)
theorem dX4_wakeOf_21 : decode cX4_wakeOf 21 = .ok (.if_icmp .ne 7, 3) := dk_160 0 7 (dk_at dksX4_wakeOf_0 21 rfl rfl)
theorem dX4_wakeOf_24 : decode cX4_wakeOf 24 = .ok (.iload_n 2, 1) := dk_28 (dk_at dksX4_wakeOf_1 0 rfl rfl)
theorem dX4_wakeOf_25 : decode cX4_wakeOf 25 = .ok (.goto 4, 3) := dk_167 0 4 (dk_at dksX4_wakeOf_1 1 rfl rfl)
theorem dX4_wakeOf_28 : decode cX4_wakeOf 28 = .ok (.iconst 0, 1) := dk_3 (dk_at dksX4_wakeOf_1 4 rfl rfl)
theorem dX4_wakeOf_29 : decode cX4_wakeOf 29 = .ok (.istore_n 3, 1) := dk_62 (dk_at dksX4_wakeOf_1 5 rfl rfl)
theorem dX4_wakeOf_30 : decode cX4_wakeOf 30 = .ok (.aload_n 0, 1) := dk_42 (dk_at dksX4_wakeOf_1 6 rfl rfl)
theorem dX4_wakeOf_31 : decode cX4_wakeOf 31 = .ok (.getfield 9, 3) := dk_180 0 9 (dk_at dksX4_wakeOf_1 7 rfl rfl)
theorem dX4_wakeOf_34 : decode cX4_wakeOf 34 = .ok (.iconst 1, 1) := dk_4 (dk_at dksX4_wakeOf_1 10 rfl rfl)
theorem dX4_wakeOf_35 : decode cX4_wakeOf 35 = .ok (.iaload, 1) := dk_46 (dk_at dksX4_wakeOf_1 11 rfl rfl)
theorem dX4_wakeOf_36 : decode cX4_wakeOf 36 = .ok (.iconst 1, 1) := dk_4 (dk_at dksX4_wakeOf_1 12 rfl rfl)
theorem dX4_wakeOf_37 : decode cX4_wakeOf 37 = .ok (.if_icmp .ne 7, 3) := dk_160 0 7 (dk_at dksX4_wakeOf_1 13 rfl rfl)
theorem dX4_wakeOf_40 : decode cX4_wakeOf 40 = .ok (.iload_n 2, 1) := dk_28 (dk_at dksX4_wakeOf_1 16 rfl rfl)
theorem dX4_wakeOf_41 : decode cX4_wakeOf 41 = .ok (.goto 19, 3) := dk_167 0 19 (dk_at dksX4_wakeOf_1 17 rfl rfl)
theorem dX4_wakeOf_44 : decode cX4_wakeOf 44 = .ok (.aload_n 0, 1) := dk_42 (dk_at dksX4_wakeOf_1 20 rfl rfl)
theorem dX4_wakeOf_45 : decode cX4_wakeOf 45 = .ok (.getfield 9, 3) := dk_180 0 9 (dk_at dksX4_wakeOf_1 21 rfl rfl)
theorem dX4_wakeOf_48 : decode cX4_wakeOf 48 = .ok (.iconst 1, 1) := dk_4 (dk_at dksX4_wakeOf_2 0 rfl rfl)
theorem dX4_wakeOf_49 : decode cX4_wakeOf 49 = .ok (.iaload, 1) := dk_46 (dk_at dksX4_wakeOf_2 1 rfl rfl)
theorem dX4_wakeOf_50 : decode cX4_wakeOf 50 = .ok (.iconst 3, 1) := dk_6 (dk_at dksX4_wakeOf_2 2 rfl rfl)
theorem dX4_wakeOf_51 : decode cX4_wakeOf 51 = .ok (.if_icmp .ne 8, 3) := dk_160 0 8 (dk_at dksX4_wakeOf_2 3 rfl rfl)
theorem dX4_wakeOf_54 : decode cX4_wakeOf 54 = .ok (.iload_n 2, 1) := dk_28 (dk_at dksX4_wakeOf_2 6 rfl rfl)
theorem dX4_wakeOf_55 : decode cX4_wakeOf 55 = .ok (.ineg, 1) := dk_116 (dk_at dksX4_wakeOf_2 7 rfl rfl)
theorem dX4_wakeOf_56 : decode cX4_wakeOf 56 = .ok (.goto 4, 3) := dk_167 0 4 (dk_at dksX4_wakeOf_2 8 rfl rfl)
theorem dX4_wakeOf_59 : decode cX4_wakeOf 59 = .ok (.iconst 0, 1) := dk_3 (dk_at dksX4_wakeOf_2 11 rfl rfl)
theorem dX4_wakeOf_60 : decode cX4_wakeOf 60 = .ok (.istore 4, 2) := dk_54 4 (dk_at dksX4_wakeOf_2 12 rfl rfl)
theorem dX4_wakeOf_62 : decode cX4_wakeOf 62 = .ok (.aload_n 0, 1) := dk_42 (dk_at dksX4_wakeOf_2 14 rfl rfl)
theorem dX4_wakeOf_63 : decode cX4_wakeOf 63 = .ok (.aload_n 0, 1) := dk_42 (dk_at dksX4_wakeOf_2 15 rfl rfl)
theorem dX4_wakeOf_64 : decode cX4_wakeOf 64 = .ok (.iload_n 1, 1) := dk_27 (dk_at dksX4_wakeOf_2 16 rfl rfl)
theorem dX4_wakeOf_65 : decode cX4_wakeOf 65 = .ok (.iconst 0, 1) := dk_3 (dk_at dksX4_wakeOf_2 17 rfl rfl)
theorem dX4_wakeOf_66 : decode cX4_wakeOf 66 = .ok (.invokevirtual 57, 3) := dk_182 0 57 (dk_at dksX4_wakeOf_2 18 rfl rfl)
theorem dX4_wakeOf_69 : decode cX4_wakeOf 69 = .ok (.iload_n 3, 1) := dk_29 (dk_at dksX4_wakeOf_2 21 rfl rfl)
theorem dX4_wakeOf_70 : decode cX4_wakeOf 70 = .ok (.iadd, 1) := dk_96 (dk_at dksX4_wakeOf_2 22 rfl rfl)
theorem dX4_wakeOf_71 : decode cX4_wakeOf 71 = .ok (.aload_n 0, 1) := dk_42 (dk_at dksX4_wakeOf_2 23 rfl rfl)
theorem dX4_wakeOf_72 : decode cX4_wakeOf 72 = .ok (.iload_n 1, 1) := dk_27 (dk_at dksX4_wakeOf_3 0 rfl rfl)
theorem dX4_wakeOf_73 : decode cX4_wakeOf 73 = .ok (.iconst 1, 1) := dk_4 (dk_at dksX4_wakeOf_3 1 rfl rfl)
theorem dX4_wakeOf_74 : decode cX4_wakeOf 74 = .ok (.invokevirtual 57, 3) := dk_182 0 57 (dk_at dksX4_wakeOf_3 2 rfl rfl)
theorem dX4_wakeOf_77 : decode cX4_wakeOf 77 = .ok (.iload 4, 2) := dk_21 4 (dk_at dksX4_wakeOf_3 5 rfl rfl)
theorem dX4_wakeOf_79 : decode cX4_wakeOf 79 = .ok (.iadd, 1) := dk_96 (dk_at dksX4_wakeOf_3 7 rfl rfl)
theorem dX4_wakeOf_80 : decode cX4_wakeOf 80 = .ok (.invokevirtual 61, 3) := dk_182 0 61 (dk_at dksX4_wakeOf_3 8 rfl rfl)
theorem dX4_wakeOf_83 : decode cX4_wakeOf 83 = .ok (.istore 5, 2) := dk_54 5 (dk_at dksX4_wakeOf_3 11 rfl rfl)
theorem dX4_wakeOf_85 : decode cX4_wakeOf 85 = .ok (.iload 5, 2) := dk_21 5 (dk_at dksX4_wakeOf_3 13 rfl rfl)
theorem dX4_wakeOf_87 : decode cX4_wakeOf 87 = .ok (.ifCond .lt 17, 3) := dk_155 0 17 (dk_at dksX4_wakeOf_3 15 rfl rfl)
theorem dX4_wakeOf_90 : decode cX4_wakeOf 90 = .ok (.aload_n 0, 1) := dk_42 (dk_at dksX4_wakeOf_3 18 rfl rfl)
theorem dX4_wakeOf_91 : decode cX4_wakeOf 91 = .ok (.iload 5, 2) := dk_21 5 (dk_at dksX4_wakeOf_3 19 rfl rfl)
theorem dX4_wakeOf_93 : decode cX4_wakeOf 93 = .ok (.iconst 3, 1) := dk_6 (dk_at dksX4_wakeOf_3 21 rfl rfl)
theorem dX4_wakeOf_94 : decode cX4_wakeOf 94 = .ok (.invokevirtual 57, 3) := dk_182 0 57 (dk_at dksX4_wakeOf_4 0 rfl rfl)
theorem dX4_wakeOf_97 : decode cX4_wakeOf 97 = .ok (.ifCond .ne 7, 3) := dk_154 0 7 (dk_at dksX4_wakeOf_4 3 rfl rfl)
theorem dX4_wakeOf_100 : decode cX4_wakeOf 100 = .ok (.iconst 1, 1) := dk_4 (dk_at dksX4_wakeOf_4 6 rfl rfl)
theorem dX4_wakeOf_101 : decode cX4_wakeOf 101 = .ok (.goto 4, 3) := dk_167 0 4 (dk_at dksX4_wakeOf_4 7 rfl rfl)
theorem dX4_wakeOf_104 : decode cX4_wakeOf 104 = .ok (.iconst 0, 1) := dk_3 (dk_at dksX4_wakeOf_4 10 rfl rfl)
theorem dX4_wakeOf_105 : decode cX4_wakeOf 105 = .ok (.ireturn, 1) := dk_172 (dk_at dksX4_wakeOf_4 11 rfl rfl)
abbrev cX4_firstInService : ByteArray := prog_20_method_24_code
def yX4_firstInService : MethodName := ⟨RX4, "firstInService", "()I"⟩
def dkwX4_firstInService_1 : List UInt8 := [132, 1, 1, 167, 255, 231, 3, 172]
abbrev dktX4_firstInService_1 : List UInt8 := dkwX4_firstInService_1 ++ []
def dkwX4_firstInService_0 : List UInt8 := [3, 60, 27, 42, 180, 0, 9, 3, 46, 162, 0, 21, 42, 27, 6, 182, 0, 57, 5, 160, 0, 5, 27, 172]
abbrev dktX4_firstInService_0 : List UInt8 := dkwX4_firstInService_0 ++ dktX4_firstInService_1
theorem dksX4_firstInService_0 : cX4_firstInService.data.toList.drop 0 = dktX4_firstInService_0 := by decide +kernel
theorem dksX4_firstInService_1 : cX4_firstInService.data.toList.drop 24 = dktX4_firstInService_1 := dk_seg dksX4_firstInService_0 24 rfl rfl
theorem dX4_firstInService_0 : decode cX4_firstInService 0 = .ok (.iconst 0, 1) := dk_3 (dk_at dksX4_firstInService_0 0 rfl rfl)
theorem dX4_firstInService_1 : decode cX4_firstInService 1 = .ok (.istore_n 1, 1) := dk_60 (dk_at dksX4_firstInService_0 1 rfl rfl)
theorem dX4_firstInService_2 : decode cX4_firstInService 2 = .ok (.iload_n 1, 1) := dk_27 (dk_at dksX4_firstInService_0 2 rfl rfl)
theorem dX4_firstInService_3 : decode cX4_firstInService 3 = .ok (.aload_n 0, 1) := dk_42 (dk_at dksX4_firstInService_0 3 rfl rfl)
theorem dX4_firstInService_4 : decode cX4_firstInService 4 = .ok (.getfield 9, 3) := dk_180 0 9 (dk_at dksX4_firstInService_0 4 rfl rfl)
theorem dX4_firstInService_7 : decode cX4_firstInService 7 = .ok (.iconst 0, 1) := dk_3 (dk_at dksX4_firstInService_0 7 rfl rfl)
theorem dX4_firstInService_8 : decode cX4_firstInService 8 = .ok (.iaload, 1) := dk_46 (dk_at dksX4_firstInService_0 8 rfl rfl)
theorem dX4_firstInService_9 : decode cX4_firstInService 9 = .ok (.if_icmp .ge 21, 3) := dk_162 0 21 (dk_at dksX4_firstInService_0 9 rfl rfl)
theorem dX4_firstInService_12 : decode cX4_firstInService 12 = .ok (.aload_n 0, 1) := dk_42 (dk_at dksX4_firstInService_0 12 rfl rfl)
theorem dX4_firstInService_13 : decode cX4_firstInService 13 = .ok (.iload_n 1, 1) := dk_27 (dk_at dksX4_firstInService_0 13 rfl rfl)
theorem dX4_firstInService_14 : decode cX4_firstInService 14 = .ok (.iconst 3, 1) := dk_6 (dk_at dksX4_firstInService_0 14 rfl rfl)
theorem dX4_firstInService_15 : decode cX4_firstInService 15 = .ok (.invokevirtual 57, 3) := dk_182 0 57 (dk_at dksX4_firstInService_0 15 rfl rfl)
theorem dX4_firstInService_18 : decode cX4_firstInService 18 = .ok (.iconst 2, 1) := dk_5 (dk_at dksX4_firstInService_0 18 rfl rfl)
theorem dX4_firstInService_19 : decode cX4_firstInService 19 = .ok (.if_icmp .ne 5, 3) := dk_160 0 5 (dk_at dksX4_firstInService_0 19 rfl rfl)
theorem dX4_firstInService_22 : decode cX4_firstInService 22 = .ok (.iload_n 1, 1) := dk_27 (dk_at dksX4_firstInService_0 22 rfl rfl)
theorem dX4_firstInService_23 : decode cX4_firstInService 23 = .ok (.ireturn, 1) := dk_172 (dk_at dksX4_firstInService_0 23 rfl rfl)
theorem dX4_firstInService_24 : decode cX4_firstInService 24 = .ok (.iinc 1 1, 3) := dk_132 1 1 (dk_at dksX4_firstInService_1 0 rfl rfl)
theorem dX4_firstInService_27 : decode cX4_firstInService 27 = .ok (.goto (-25), 3) := dk_167 255 231 (dk_at dksX4_firstInService_1 3 rfl rfl)
theorem dX4_firstInService_30 : decode cX4_firstInService 30 = .ok (.iconst 0, 1) := dk_3 (dk_at dksX4_firstInService_1 6 rfl rfl)
theorem dX4_firstInService_31 : decode cX4_firstInService 31 = .ok (.ireturn, 1) := dk_172 (dk_at dksX4_firstInService_1 7 rfl rfl)
abbrev cX4_recallCrew : ByteArray := prog_20_method_34_code
def yX4_recallCrew : MethodName := ⟨RX4, "recallCrew", "(I)I"⟩
def dkwX4_recallCrew_0 : List UInt8 := [42, 182, 0, 92, 42, 42, 27, 182, 0, 120, 4, 3, 5, 182, 0, 99, 172]
abbrev dktX4_recallCrew_0 : List UInt8 := dkwX4_recallCrew_0 ++ []
theorem dksX4_recallCrew_0 : cX4_recallCrew.data.toList.drop 0 = dktX4_recallCrew_0 := by decide +kernel
theorem dX4_recallCrew_0 : decode cX4_recallCrew 0 = .ok (.aload_n 0, 1) := dk_42 (dk_at dksX4_recallCrew_0 0 rfl rfl)
theorem dX4_recallCrew_1 : decode cX4_recallCrew 1 = .ok (.invokevirtual 92, 3) := dk_182 0 92 (dk_at dksX4_recallCrew_0 1 rfl rfl)
theorem dX4_recallCrew_4 : decode cX4_recallCrew 4 = .ok (.aload_n 0, 1) := dk_42 (dk_at dksX4_recallCrew_0 4 rfl rfl)
theorem dX4_recallCrew_5 : decode cX4_recallCrew 5 = .ok (.aload_n 0, 1) := dk_42 (dk_at dksX4_recallCrew_0 5 rfl rfl)
theorem dX4_recallCrew_6 : decode cX4_recallCrew 6 = .ok (.iload_n 1, 1) := dk_27 (dk_at dksX4_recallCrew_0 6 rfl rfl)
theorem dX4_recallCrew_7 : decode cX4_recallCrew 7 = .ok (.invokevirtual 120, 3) := dk_182 0 120 (dk_at dksX4_recallCrew_0 7 rfl rfl)
theorem dX4_recallCrew_10 : decode cX4_recallCrew 10 = .ok (.iconst 1, 1) := dk_4 (dk_at dksX4_recallCrew_0 10 rfl rfl)
theorem dX4_recallCrew_11 : decode cX4_recallCrew 11 = .ok (.iconst 0, 1) := dk_3 (dk_at dksX4_recallCrew_0 11 rfl rfl)
theorem dX4_recallCrew_12 : decode cX4_recallCrew 12 = .ok (.iconst 2, 1) := dk_5 (dk_at dksX4_recallCrew_0 12 rfl rfl)
theorem dX4_recallCrew_13 : decode cX4_recallCrew 13 = .ok (.invokevirtual 99, 3) := dk_182 0 99 (dk_at dksX4_recallCrew_0 13 rfl rfl)
theorem dX4_recallCrew_16 : decode cX4_recallCrew 16 = .ok (.ireturn, 1) := dk_172 (dk_at dksX4_recallCrew_0 16 rfl rfl)
abbrev cX4_recalls : ByteArray := prog_20_method_33_code
def yX4_recalls : MethodName := ⟨RX4, "recalls", "(I)I"⟩
def dkwX4_recalls_2 : List UInt8 := [182, 0, 57, 181, 0, 37, 42, 27, 6, 4, 182, 0, 88, 42, 27, 7, 3, 182, 0, 88, 3, 172]
abbrev dktX4_recalls_2 : List UInt8 := dkwX4_recalls_2 ++ []
def dkwX4_recalls_1 : List UInt8 := [167, 0, 4, 3, 16, 6, 42, 27, 182, 0, 77, 182, 0, 84, 153, 0, 5, 6, 172, 42, 42, 27, 7]
abbrev dktX4_recalls_1 : List UInt8 := dkwX4_recalls_1 ++ dktX4_recalls_2
def dkwX4_recalls_0 : List UInt8 := [42, 27, 182, 0, 103, 154, 0, 5, 4, 172, 42, 42, 27, 6, 182, 0, 57, 5, 159, 0, 7, 4]
abbrev dktX4_recalls_0 : List UInt8 := dkwX4_recalls_0 ++ dktX4_recalls_1
theorem dksX4_recalls_0 : cX4_recalls.data.toList.drop 0 = dktX4_recalls_0 := by decide +kernel
theorem dksX4_recalls_1 : cX4_recalls.data.toList.drop 22 = dktX4_recalls_1 := dk_seg dksX4_recalls_0 22 rfl rfl
theorem dksX4_recalls_2 : cX4_recalls.data.toList.drop 45 = dktX4_recalls_2 := dk_seg dksX4_recalls_1 23 rfl rfl
theorem dX4_recalls_0 : decode cX4_recalls 0 = .ok (.aload_n 0, 1) := dk_42 (dk_at dksX4_recalls_0 0 rfl rfl)
theorem dX4_recalls_1 : decode cX4_recalls 1 = .ok (.iload_n 1, 1) := dk_27 (dk_at dksX4_recalls_0 1 rfl rfl)
theorem dX4_recalls_2 : decode cX4_recalls 2 = .ok (.invokevirtual 103, 3) := dk_182 0 103 (dk_at dksX4_recalls_0 2 rfl rfl)
theorem dX4_recalls_5 : decode cX4_recalls 5 = .ok (.ifCond .ne 5, 3) := dk_154 0 5 (dk_at dksX4_recalls_0 5 rfl rfl)
theorem dX4_recalls_8 : decode cX4_recalls 8 = .ok (.iconst 1, 1) := dk_4 (dk_at dksX4_recalls_0 8 rfl rfl)
theorem dX4_recalls_9 : decode cX4_recalls 9 = .ok (.ireturn, 1) := dk_172 (dk_at dksX4_recalls_0 9 rfl rfl)
theorem dX4_recalls_10 : decode cX4_recalls 10 = .ok (.aload_n 0, 1) := dk_42 (dk_at dksX4_recalls_0 10 rfl rfl)
theorem dX4_recalls_11 : decode cX4_recalls 11 = .ok (.aload_n 0, 1) := dk_42 (dk_at dksX4_recalls_0 11 rfl rfl)
theorem dX4_recalls_12 : decode cX4_recalls 12 = .ok (.iload_n 1, 1) := dk_27 (dk_at dksX4_recalls_0 12 rfl rfl)
theorem dX4_recalls_13 : decode cX4_recalls 13 = .ok (.iconst 3, 1) := dk_6 (dk_at dksX4_recalls_0 13 rfl rfl)
theorem dX4_recalls_14 : decode cX4_recalls 14 = .ok (.invokevirtual 57, 3) := dk_182 0 57 (dk_at dksX4_recalls_0 14 rfl rfl)
theorem dX4_recalls_17 : decode cX4_recalls 17 = .ok (.iconst 2, 1) := dk_5 (dk_at dksX4_recalls_0 17 rfl rfl)
theorem dX4_recalls_18 : decode cX4_recalls 18 = .ok (.if_icmp .eq 7, 3) := dk_159 0 7 (dk_at dksX4_recalls_0 18 rfl rfl)
theorem dX4_recalls_21 : decode cX4_recalls 21 = .ok (.iconst 1, 1) := dk_4 (dk_at dksX4_recalls_0 21 rfl rfl)
theorem dX4_recalls_22 : decode cX4_recalls 22 = .ok (.goto 4, 3) := dk_167 0 4 (dk_at dksX4_recalls_1 0 rfl rfl)
theorem dX4_recalls_25 : decode cX4_recalls 25 = .ok (.iconst 0, 1) := dk_3 (dk_at dksX4_recalls_1 3 rfl rfl)
theorem dX4_recalls_26 : decode cX4_recalls 26 = .ok (.bipush 6, 2) := dk_16 6 (dk_at dksX4_recalls_1 4 rfl rfl)
theorem dX4_recalls_28 : decode cX4_recalls 28 = .ok (.aload_n 0, 1) := dk_42 (dk_at dksX4_recalls_1 6 rfl rfl)
theorem dX4_recalls_29 : decode cX4_recalls 29 = .ok (.iload_n 1, 1) := dk_27 (dk_at dksX4_recalls_1 7 rfl rfl)
theorem dX4_recalls_30 : decode cX4_recalls 30 = .ok (.invokevirtual 77, 3) := dk_182 0 77 (dk_at dksX4_recalls_1 8 rfl rfl)
theorem dX4_recalls_33 : decode cX4_recalls 33 = .ok (.invokevirtual 84, 3) := dk_182 0 84 (dk_at dksX4_recalls_1 11 rfl rfl)
theorem dX4_recalls_36 : decode cX4_recalls 36 = .ok (.ifCond .eq 5, 3) := dk_153 0 5 (dk_at dksX4_recalls_1 14 rfl rfl)
theorem dX4_recalls_39 : decode cX4_recalls 39 = .ok (.iconst 3, 1) := dk_6 (dk_at dksX4_recalls_1 17 rfl rfl)
theorem dX4_recalls_40 : decode cX4_recalls 40 = .ok (.ireturn, 1) := dk_172 (dk_at dksX4_recalls_1 18 rfl rfl)
theorem dX4_recalls_41 : decode cX4_recalls 41 = .ok (.aload_n 0, 1) := dk_42 (dk_at dksX4_recalls_1 19 rfl rfl)
theorem dX4_recalls_42 : decode cX4_recalls 42 = .ok (.aload_n 0, 1) := dk_42 (dk_at dksX4_recalls_1 20 rfl rfl)
theorem dX4_recalls_43 : decode cX4_recalls 43 = .ok (.iload_n 1, 1) := dk_27 (dk_at dksX4_recalls_1 21 rfl rfl)
theorem dX4_recalls_44 : decode cX4_recalls 44 = .ok (.iconst 4, 1) := dk_7 (dk_at dksX4_recalls_1 22 rfl rfl)
theorem dX4_recalls_45 : decode cX4_recalls 45 = .ok (.invokevirtual 57, 3) := dk_182 0 57 (dk_at dksX4_recalls_2 0 rfl rfl)
theorem dX4_recalls_48 : decode cX4_recalls 48 = .ok (.putfield 37, 3) := dk_181 0 37 (dk_at dksX4_recalls_2 3 rfl rfl)
theorem dX4_recalls_51 : decode cX4_recalls 51 = .ok (.aload_n 0, 1) := dk_42 (dk_at dksX4_recalls_2 6 rfl rfl)
theorem dX4_recalls_52 : decode cX4_recalls 52 = .ok (.iload_n 1, 1) := dk_27 (dk_at dksX4_recalls_2 7 rfl rfl)
theorem dX4_recalls_53 : decode cX4_recalls 53 = .ok (.iconst 3, 1) := dk_6 (dk_at dksX4_recalls_2 8 rfl rfl)
theorem dX4_recalls_54 : decode cX4_recalls 54 = .ok (.iconst 1, 1) := dk_4 (dk_at dksX4_recalls_2 9 rfl rfl)
theorem dX4_recalls_55 : decode cX4_recalls 55 = .ok (.invokevirtual 88, 3) := dk_182 0 88 (dk_at dksX4_recalls_2 10 rfl rfl)
theorem dX4_recalls_58 : decode cX4_recalls 58 = .ok (.aload_n 0, 1) := dk_42 (dk_at dksX4_recalls_2 13 rfl rfl)
theorem dX4_recalls_59 : decode cX4_recalls 59 = .ok (.iload_n 1, 1) := dk_27 (dk_at dksX4_recalls_2 14 rfl rfl)
theorem dX4_recalls_60 : decode cX4_recalls 60 = .ok (.iconst 4, 1) := dk_7 (dk_at dksX4_recalls_2 15 rfl rfl)
theorem dX4_recalls_61 : decode cX4_recalls 61 = .ok (.iconst 0, 1) := dk_3 (dk_at dksX4_recalls_2 16 rfl rfl)
theorem dX4_recalls_62 : decode cX4_recalls 62 = .ok (.invokevirtual 88, 3) := dk_182 0 88 (dk_at dksX4_recalls_2 17 rfl rfl)
theorem dX4_recalls_65 : decode cX4_recalls 65 = .ok (.iconst 0, 1) := dk_3 (dk_at dksX4_recalls_2 20 rfl rfl)
theorem dX4_recalls_66 : decode cX4_recalls 66 = .ok (.ireturn, 1) := dk_172 (dk_at dksX4_recalls_2 21 rfl rfl)
abbrev cX4_curtail : ByteArray := prog_20_method_36_code
def yX4_curtail : MethodName := ⟨RX4, "curtail", "(II)I"⟩
def dkwX4_curtail_0 : List UInt8 := [42, 182, 0, 92, 42, 42, 27, 28, 182, 0, 123, 4, 5, 6, 182, 0, 99, 172]
abbrev dktX4_curtail_0 : List UInt8 := dkwX4_curtail_0 ++ []
theorem dksX4_curtail_0 : cX4_curtail.data.toList.drop 0 = dktX4_curtail_0 := by decide +kernel
theorem dX4_curtail_0 : decode cX4_curtail 0 = .ok (.aload_n 0, 1) := dk_42 (dk_at dksX4_curtail_0 0 rfl rfl)
theorem dX4_curtail_1 : decode cX4_curtail 1 = .ok (.invokevirtual 92, 3) := dk_182 0 92 (dk_at dksX4_curtail_0 1 rfl rfl)
theorem dX4_curtail_4 : decode cX4_curtail 4 = .ok (.aload_n 0, 1) := dk_42 (dk_at dksX4_curtail_0 4 rfl rfl)
theorem dX4_curtail_5 : decode cX4_curtail 5 = .ok (.aload_n 0, 1) := dk_42 (dk_at dksX4_curtail_0 5 rfl rfl)
theorem dX4_curtail_6 : decode cX4_curtail 6 = .ok (.iload_n 1, 1) := dk_27 (dk_at dksX4_curtail_0 6 rfl rfl)
theorem dX4_curtail_7 : decode cX4_curtail 7 = .ok (.iload_n 2, 1) := dk_28 (dk_at dksX4_curtail_0 7 rfl rfl)
theorem dX4_curtail_8 : decode cX4_curtail 8 = .ok (.invokevirtual 123, 3) := dk_182 0 123 (dk_at dksX4_curtail_0 8 rfl rfl)
theorem dX4_curtail_11 : decode cX4_curtail 11 = .ok (.iconst 1, 1) := dk_4 (dk_at dksX4_curtail_0 11 rfl rfl)
theorem dX4_curtail_12 : decode cX4_curtail 12 = .ok (.iconst 2, 1) := dk_5 (dk_at dksX4_curtail_0 12 rfl rfl)
theorem dX4_curtail_13 : decode cX4_curtail 13 = .ok (.iconst 3, 1) := dk_6 (dk_at dksX4_curtail_0 13 rfl rfl)
theorem dX4_curtail_14 : decode cX4_curtail 14 = .ok (.invokevirtual 99, 3) := dk_182 0 99 (dk_at dksX4_curtail_0 14 rfl rfl)
theorem dX4_curtail_17 : decode cX4_curtail 17 = .ok (.ireturn, 1) := dk_172 (dk_at dksX4_curtail_0 17 rfl rfl)
abbrev cX4_curtails : ByteArray := prog_20_method_35_code
def yX4_curtails : MethodName := ⟨RX4, "curtails", "(II)I"⟩
def dkwX4_curtails_3 : List UInt8 := [172]
abbrev dktX4_curtails_3 : List UInt8 := dkwX4_curtails_3 ++ []
def dkwX4_curtails_2 : List UInt8 := [153, 0, 5, 6, 172, 42, 27, 8, 28, 4, 96, 182, 0, 88, 42, 42, 27, 182, 0, 77, 181, 0, 37, 3]
abbrev dktX4_curtails_2 : List UInt8 := dkwX4_curtails_2 ++ dktX4_curtails_3
def dkwX4_curtails_1 : List UInt8 := [27, 6, 182, 0, 57, 153, 0, 7, 4, 167, 0, 4, 3, 6, 42, 27, 7, 182, 0, 57, 182, 0, 84]
abbrev dktX4_curtails_1 : List UInt8 := dkwX4_curtails_1 ++ dktX4_curtails_2
def dkwX4_curtails_0 : List UInt8 := [42, 27, 182, 0, 103, 154, 0, 5, 4, 172, 28, 3, 16, 90, 184, 0, 53, 154, 0, 5, 5, 172, 42, 42]
abbrev dktX4_curtails_0 : List UInt8 := dkwX4_curtails_0 ++ dktX4_curtails_1
theorem dksX4_curtails_0 : cX4_curtails.data.toList.drop 0 = dktX4_curtails_0 := by decide +kernel
theorem dksX4_curtails_1 : cX4_curtails.data.toList.drop 24 = dktX4_curtails_1 := dk_seg dksX4_curtails_0 24 rfl rfl
theorem dksX4_curtails_2 : cX4_curtails.data.toList.drop 47 = dktX4_curtails_2 := dk_seg dksX4_curtails_1 23 rfl rfl
theorem dksX4_curtails_3 : cX4_curtails.data.toList.drop 71 = dktX4_curtails_3 := dk_seg dksX4_curtails_2 24 rfl rfl
theorem dX4_curtails_0 : decode cX4_curtails 0 = .ok (.aload_n 0, 1) := dk_42 (dk_at dksX4_curtails_0 0 rfl rfl)
theorem dX4_curtails_1 : decode cX4_curtails 1 = .ok (.iload_n 1, 1) := dk_27 (dk_at dksX4_curtails_0 1 rfl rfl)
theorem dX4_curtails_2 : decode cX4_curtails 2 = .ok (.invokevirtual 103, 3) := dk_182 0 103 (dk_at dksX4_curtails_0 2 rfl rfl)
theorem dX4_curtails_5 : decode cX4_curtails 5 = .ok (.ifCond .ne 5, 3) := dk_154 0 5 (dk_at dksX4_curtails_0 5 rfl rfl)
theorem dX4_curtails_8 : decode cX4_curtails 8 = .ok (.iconst 1, 1) := dk_4 (dk_at dksX4_curtails_0 8 rfl rfl)
theorem dX4_curtails_9 : decode cX4_curtails 9 = .ok (.ireturn, 1) := dk_172 (dk_at dksX4_curtails_0 9 rfl rfl)
theorem dX4_curtails_10 : decode cX4_curtails 10 = .ok (.iload_n 2, 1) := dk_28 (dk_at dksX4_curtails_0 10 rfl rfl)
theorem dX4_curtails_11 : decode cX4_curtails 11 = .ok (.iconst 0, 1) := dk_3 (dk_at dksX4_curtails_0 11 rfl rfl)
theorem dX4_curtails_12 : decode cX4_curtails 12 = .ok (.bipush 90, 2) := dk_16 90 (dk_at dksX4_curtails_0 12 rfl rfl)
theorem dX4_curtails_14 : decode cX4_curtails 14 = .ok (.invokestatic 53, 3) := dk_184 0 53 (dk_at dksX4_curtails_0 14 rfl rfl)
theorem dX4_curtails_17 : decode cX4_curtails 17 = .ok (.ifCond .ne 5, 3) := dk_154 0 5 (dk_at dksX4_curtails_0 17 rfl rfl)
theorem dX4_curtails_20 : decode cX4_curtails 20 = .ok (.iconst 2, 1) := dk_5 (dk_at dksX4_curtails_0 20 rfl rfl)
theorem dX4_curtails_21 : decode cX4_curtails 21 = .ok (.ireturn, 1) := dk_172 (dk_at dksX4_curtails_0 21 rfl rfl)
theorem dX4_curtails_22 : decode cX4_curtails 22 = .ok (.aload_n 0, 1) := dk_42 (dk_at dksX4_curtails_0 22 rfl rfl)
theorem dX4_curtails_23 : decode cX4_curtails 23 = .ok (.aload_n 0, 1) := dk_42 (dk_at dksX4_curtails_0 23 rfl rfl)
theorem dX4_curtails_24 : decode cX4_curtails 24 = .ok (.iload_n 1, 1) := dk_27 (dk_at dksX4_curtails_1 0 rfl rfl)
theorem dX4_curtails_25 : decode cX4_curtails 25 = .ok (.iconst 3, 1) := dk_6 (dk_at dksX4_curtails_1 1 rfl rfl)
theorem dX4_curtails_26 : decode cX4_curtails 26 = .ok (.invokevirtual 57, 3) := dk_182 0 57 (dk_at dksX4_curtails_1 2 rfl rfl)
theorem dX4_curtails_29 : decode cX4_curtails 29 = .ok (.ifCond .eq 7, 3) := dk_153 0 7 (dk_at dksX4_curtails_1 5 rfl rfl)
theorem dX4_curtails_32 : decode cX4_curtails 32 = .ok (.iconst 1, 1) := dk_4 (dk_at dksX4_curtails_1 8 rfl rfl)
theorem dX4_curtails_33 : decode cX4_curtails 33 = .ok (.goto 4, 3) := dk_167 0 4 (dk_at dksX4_curtails_1 9 rfl rfl)
theorem dX4_curtails_36 : decode cX4_curtails 36 = .ok (.iconst 0, 1) := dk_3 (dk_at dksX4_curtails_1 12 rfl rfl)
theorem dX4_curtails_37 : decode cX4_curtails 37 = .ok (.iconst 3, 1) := dk_6 (dk_at dksX4_curtails_1 13 rfl rfl)
theorem dX4_curtails_38 : decode cX4_curtails 38 = .ok (.aload_n 0, 1) := dk_42 (dk_at dksX4_curtails_1 14 rfl rfl)
theorem dX4_curtails_39 : decode cX4_curtails 39 = .ok (.iload_n 1, 1) := dk_27 (dk_at dksX4_curtails_1 15 rfl rfl)
theorem dX4_curtails_40 : decode cX4_curtails 40 = .ok (.iconst 4, 1) := dk_7 (dk_at dksX4_curtails_1 16 rfl rfl)
theorem dX4_curtails_41 : decode cX4_curtails 41 = .ok (.invokevirtual 57, 3) := dk_182 0 57 (dk_at dksX4_curtails_1 17 rfl rfl)
theorem dX4_curtails_44 : decode cX4_curtails 44 = .ok (.invokevirtual 84, 3) := dk_182 0 84 (dk_at dksX4_curtails_1 20 rfl rfl)
theorem dX4_curtails_47 : decode cX4_curtails 47 = .ok (.ifCond .eq 5, 3) := dk_153 0 5 (dk_at dksX4_curtails_2 0 rfl rfl)
theorem dX4_curtails_50 : decode cX4_curtails 50 = .ok (.iconst 3, 1) := dk_6 (dk_at dksX4_curtails_2 3 rfl rfl)
theorem dX4_curtails_51 : decode cX4_curtails 51 = .ok (.ireturn, 1) := dk_172 (dk_at dksX4_curtails_2 4 rfl rfl)
theorem dX4_curtails_52 : decode cX4_curtails 52 = .ok (.aload_n 0, 1) := dk_42 (dk_at dksX4_curtails_2 5 rfl rfl)
theorem dX4_curtails_53 : decode cX4_curtails 53 = .ok (.iload_n 1, 1) := dk_27 (dk_at dksX4_curtails_2 6 rfl rfl)
theorem dX4_curtails_54 : decode cX4_curtails 54 = .ok (.iconst 5, 1) := dk_8 (dk_at dksX4_curtails_2 7 rfl rfl)
theorem dX4_curtails_55 : decode cX4_curtails 55 = .ok (.iload_n 2, 1) := dk_28 (dk_at dksX4_curtails_2 8 rfl rfl)
theorem dX4_curtails_56 : decode cX4_curtails 56 = .ok (.iconst 1, 1) := dk_4 (dk_at dksX4_curtails_2 9 rfl rfl)
theorem dX4_curtails_57 : decode cX4_curtails 57 = .ok (.iadd, 1) := dk_96 (dk_at dksX4_curtails_2 10 rfl rfl)
theorem dX4_curtails_58 : decode cX4_curtails 58 = .ok (.invokevirtual 88, 3) := dk_182 0 88 (dk_at dksX4_curtails_2 11 rfl rfl)
theorem dX4_curtails_61 : decode cX4_curtails 61 = .ok (.aload_n 0, 1) := dk_42 (dk_at dksX4_curtails_2 14 rfl rfl)
theorem dX4_curtails_62 : decode cX4_curtails 62 = .ok (.aload_n 0, 1) := dk_42 (dk_at dksX4_curtails_2 15 rfl rfl)
theorem dX4_curtails_63 : decode cX4_curtails 63 = .ok (.iload_n 1, 1) := dk_27 (dk_at dksX4_curtails_2 16 rfl rfl)
theorem dX4_curtails_64 : decode cX4_curtails 64 = .ok (.invokevirtual 77, 3) := dk_182 0 77 (dk_at dksX4_curtails_2 17 rfl rfl)
theorem dX4_curtails_67 : decode cX4_curtails 67 = .ok (.putfield 37, 3) := dk_181 0 37 (dk_at dksX4_curtails_2 20 rfl rfl)
theorem dX4_curtails_70 : decode cX4_curtails 70 = .ok (.iconst 0, 1) := dk_3 (dk_at dksX4_curtails_2 23 rfl rfl)
theorem dX4_curtails_71 : decode cX4_curtails 71 = .ok (.ireturn, 1) := dk_172 (dk_at dksX4_curtails_3 0 rfl rfl)
abbrev cX4_release : ByteArray := prog_20_method_38_code
def yX4_release : MethodName := ⟨RX4, "release", "(I)I"⟩
def dkwX4_release_0 : List UInt8 := [42, 182, 0, 92, 42, 42, 27, 182, 0, 126, 4, 3, 5, 182, 0, 99, 172]
abbrev dktX4_release_0 : List UInt8 := dkwX4_release_0 ++ []
theorem dksX4_release_0 : cX4_release.data.toList.drop 0 = dktX4_release_0 := by decide +kernel
theorem dX4_release_0 : decode cX4_release 0 = .ok (.aload_n 0, 1) := dk_42 (dk_at dksX4_release_0 0 rfl rfl)
theorem dX4_release_1 : decode cX4_release 1 = .ok (.invokevirtual 92, 3) := dk_182 0 92 (dk_at dksX4_release_0 1 rfl rfl)
theorem dX4_release_4 : decode cX4_release 4 = .ok (.aload_n 0, 1) := dk_42 (dk_at dksX4_release_0 4 rfl rfl)
theorem dX4_release_5 : decode cX4_release 5 = .ok (.aload_n 0, 1) := dk_42 (dk_at dksX4_release_0 5 rfl rfl)
theorem dX4_release_6 : decode cX4_release 6 = .ok (.iload_n 1, 1) := dk_27 (dk_at dksX4_release_0 6 rfl rfl)
theorem dX4_release_7 : decode cX4_release 7 = .ok (.invokevirtual 126, 3) := dk_182 0 126 (dk_at dksX4_release_0 7 rfl rfl)
theorem dX4_release_10 : decode cX4_release 10 = .ok (.iconst 1, 1) := dk_4 (dk_at dksX4_release_0 10 rfl rfl)
theorem dX4_release_11 : decode cX4_release 11 = .ok (.iconst 0, 1) := dk_3 (dk_at dksX4_release_0 11 rfl rfl)
theorem dX4_release_12 : decode cX4_release 12 = .ok (.iconst 2, 1) := dk_5 (dk_at dksX4_release_0 12 rfl rfl)
theorem dX4_release_13 : decode cX4_release 13 = .ok (.invokevirtual 99, 3) := dk_182 0 99 (dk_at dksX4_release_0 13 rfl rfl)
theorem dX4_release_16 : decode cX4_release 16 = .ok (.ireturn, 1) := dk_172 (dk_at dksX4_release_0 16 rfl rfl)
abbrev cX4_releases : ByteArray := prog_20_method_37_code
def yX4_releases : MethodName := ⟨RX4, "releases", "(I)I"⟩
def dkwX4_releases_3 : List UInt8 := [182, 0, 88, 42, 42, 27, 182, 0, 77, 181, 0, 37, 3, 172]
abbrev dktX4_releases_3 : List UInt8 := dkwX4_releases_3 ++ []
def dkwX4_releases_2 : List UInt8 := [4, 167, 0, 4, 3, 16, 7, 42, 27, 182, 0, 77, 182, 0, 84, 153, 0, 5, 6, 172, 42, 27, 8, 3]
abbrev dktX4_releases_2 : List UInt8 := dkwX4_releases_2 ++ dktX4_releases_3
def dkwX4_releases_1 : List UInt8 := [3, 6, 42, 27, 7, 182, 0, 57, 182, 0, 84, 154, 0, 31, 42, 42, 27, 8, 182, 0, 57, 154, 0, 7]
abbrev dktX4_releases_1 : List UInt8 := dkwX4_releases_1 ++ dktX4_releases_2
def dkwX4_releases_0 : List UInt8 := [42, 27, 182, 0, 103, 154, 0, 5, 4, 172, 42, 42, 27, 6, 182, 0, 57, 153, 0, 7, 4, 167, 0, 4]
abbrev dktX4_releases_0 : List UInt8 := dkwX4_releases_0 ++ dktX4_releases_1
theorem dksX4_releases_0 : cX4_releases.data.toList.drop 0 = dktX4_releases_0 := by decide +kernel
theorem dksX4_releases_1 : cX4_releases.data.toList.drop 24 = dktX4_releases_1 := dk_seg dksX4_releases_0 24 rfl rfl
theorem dksX4_releases_2 : cX4_releases.data.toList.drop 48 = dktX4_releases_2 := dk_seg dksX4_releases_1 24 rfl rfl
theorem dksX4_releases_3 : cX4_releases.data.toList.drop 72 = dktX4_releases_3 := dk_seg dksX4_releases_2 24 rfl rfl
theorem dX4_releases_0 : decode cX4_releases 0 = .ok (.aload_n 0, 1) := dk_42 (dk_at dksX4_releases_0 0 rfl rfl)
theorem dX4_releases_1 : decode cX4_releases 1 = .ok (.iload_n 1, 1) := dk_27 (dk_at dksX4_releases_0 1 rfl rfl)
theorem dX4_releases_2 : decode cX4_releases 2 = .ok (.invokevirtual 103, 3) := dk_182 0 103 (dk_at dksX4_releases_0 2 rfl rfl)
theorem dX4_releases_5 : decode cX4_releases 5 = .ok (.ifCond .ne 5, 3) := dk_154 0 5 (dk_at dksX4_releases_0 5 rfl rfl)
theorem dX4_releases_8 : decode cX4_releases 8 = .ok (.iconst 1, 1) := dk_4 (dk_at dksX4_releases_0 8 rfl rfl)
theorem dX4_releases_9 : decode cX4_releases 9 = .ok (.ireturn, 1) := dk_172 (dk_at dksX4_releases_0 9 rfl rfl)
theorem dX4_releases_10 : decode cX4_releases 10 = .ok (.aload_n 0, 1) := dk_42 (dk_at dksX4_releases_0 10 rfl rfl)
theorem dX4_releases_11 : decode cX4_releases 11 = .ok (.aload_n 0, 1) := dk_42 (dk_at dksX4_releases_0 11 rfl rfl)
theorem dX4_releases_12 : decode cX4_releases 12 = .ok (.iload_n 1, 1) := dk_27 (dk_at dksX4_releases_0 12 rfl rfl)
theorem dX4_releases_13 : decode cX4_releases 13 = .ok (.iconst 3, 1) := dk_6 (dk_at dksX4_releases_0 13 rfl rfl)
theorem dX4_releases_14 : decode cX4_releases 14 = .ok (.invokevirtual 57, 3) := dk_182 0 57 (dk_at dksX4_releases_0 14 rfl rfl)
theorem dX4_releases_17 : decode cX4_releases 17 = .ok (.ifCond .eq 7, 3) := dk_153 0 7 (dk_at dksX4_releases_0 17 rfl rfl)
theorem dX4_releases_20 : decode cX4_releases 20 = .ok (.iconst 1, 1) := dk_4 (dk_at dksX4_releases_0 20 rfl rfl)
theorem dX4_releases_21 : decode cX4_releases 21 = .ok (.goto 4, 3) := dk_167 0 4 (dk_at dksX4_releases_0 21 rfl rfl)
theorem dX4_releases_24 : decode cX4_releases 24 = .ok (.iconst 0, 1) := dk_3 (dk_at dksX4_releases_1 0 rfl rfl)
theorem dX4_releases_25 : decode cX4_releases 25 = .ok (.iconst 3, 1) := dk_6 (dk_at dksX4_releases_1 1 rfl rfl)
theorem dX4_releases_26 : decode cX4_releases 26 = .ok (.aload_n 0, 1) := dk_42 (dk_at dksX4_releases_1 2 rfl rfl)
theorem dX4_releases_27 : decode cX4_releases 27 = .ok (.iload_n 1, 1) := dk_27 (dk_at dksX4_releases_1 3 rfl rfl)
theorem dX4_releases_28 : decode cX4_releases 28 = .ok (.iconst 4, 1) := dk_7 (dk_at dksX4_releases_1 4 rfl rfl)
theorem dX4_releases_29 : decode cX4_releases 29 = .ok (.invokevirtual 57, 3) := dk_182 0 57 (dk_at dksX4_releases_1 5 rfl rfl)
theorem dX4_releases_32 : decode cX4_releases 32 = .ok (.invokevirtual 84, 3) := dk_182 0 84 (dk_at dksX4_releases_1 8 rfl rfl)
theorem dX4_releases_35 : decode cX4_releases 35 = .ok (.ifCond .ne 31, 3) := dk_154 0 31 (dk_at dksX4_releases_1 11 rfl rfl)
theorem dX4_releases_38 : decode cX4_releases 38 = .ok (.aload_n 0, 1) := dk_42 (dk_at dksX4_releases_1 14 rfl rfl)
theorem dX4_releases_39 : decode cX4_releases 39 = .ok (.aload_n 0, 1) := dk_42 (dk_at dksX4_releases_1 15 rfl rfl)
theorem dX4_releases_40 : decode cX4_releases 40 = .ok (.iload_n 1, 1) := dk_27 (dk_at dksX4_releases_1 16 rfl rfl)
theorem dX4_releases_41 : decode cX4_releases 41 = .ok (.iconst 5, 1) := dk_8 (dk_at dksX4_releases_1 17 rfl rfl)
theorem dX4_releases_42 : decode cX4_releases 42 = .ok (.invokevirtual 57, 3) := dk_182 0 57 (dk_at dksX4_releases_1 18 rfl rfl)
theorem dX4_releases_45 : decode cX4_releases 45 = .ok (.ifCond .ne 7, 3) := dk_154 0 7 (dk_at dksX4_releases_1 21 rfl rfl)
theorem dX4_releases_48 : decode cX4_releases 48 = .ok (.iconst 1, 1) := dk_4 (dk_at dksX4_releases_2 0 rfl rfl)
theorem dX4_releases_49 : decode cX4_releases 49 = .ok (.goto 4, 3) := dk_167 0 4 (dk_at dksX4_releases_2 1 rfl rfl)
theorem dX4_releases_52 : decode cX4_releases 52 = .ok (.iconst 0, 1) := dk_3 (dk_at dksX4_releases_2 4 rfl rfl)
theorem dX4_releases_53 : decode cX4_releases 53 = .ok (.bipush 7, 2) := dk_16 7 (dk_at dksX4_releases_2 5 rfl rfl)
theorem dX4_releases_55 : decode cX4_releases 55 = .ok (.aload_n 0, 1) := dk_42 (dk_at dksX4_releases_2 7 rfl rfl)
theorem dX4_releases_56 : decode cX4_releases 56 = .ok (.iload_n 1, 1) := dk_27 (dk_at dksX4_releases_2 8 rfl rfl)
theorem dX4_releases_57 : decode cX4_releases 57 = .ok (.invokevirtual 77, 3) := dk_182 0 77 (dk_at dksX4_releases_2 9 rfl rfl)
theorem dX4_releases_60 : decode cX4_releases 60 = .ok (.invokevirtual 84, 3) := dk_182 0 84 (dk_at dksX4_releases_2 12 rfl rfl)
theorem dX4_releases_63 : decode cX4_releases 63 = .ok (.ifCond .eq 5, 3) := dk_153 0 5 (dk_at dksX4_releases_2 15 rfl rfl)
theorem dX4_releases_66 : decode cX4_releases 66 = .ok (.iconst 3, 1) := dk_6 (dk_at dksX4_releases_2 18 rfl rfl)
theorem dX4_releases_67 : decode cX4_releases 67 = .ok (.ireturn, 1) := dk_172 (dk_at dksX4_releases_2 19 rfl rfl)
theorem dX4_releases_68 : decode cX4_releases 68 = .ok (.aload_n 0, 1) := dk_42 (dk_at dksX4_releases_2 20 rfl rfl)
theorem dX4_releases_69 : decode cX4_releases 69 = .ok (.iload_n 1, 1) := dk_27 (dk_at dksX4_releases_2 21 rfl rfl)
theorem dX4_releases_70 : decode cX4_releases 70 = .ok (.iconst 5, 1) := dk_8 (dk_at dksX4_releases_2 22 rfl rfl)
theorem dX4_releases_71 : decode cX4_releases 71 = .ok (.iconst 0, 1) := dk_3 (dk_at dksX4_releases_2 23 rfl rfl)
theorem dX4_releases_72 : decode cX4_releases 72 = .ok (.invokevirtual 88, 3) := dk_182 0 88 (dk_at dksX4_releases_3 0 rfl rfl)
theorem dX4_releases_75 : decode cX4_releases 75 = .ok (.aload_n 0, 1) := dk_42 (dk_at dksX4_releases_3 3 rfl rfl)
theorem dX4_releases_76 : decode cX4_releases 76 = .ok (.aload_n 0, 1) := dk_42 (dk_at dksX4_releases_3 4 rfl rfl)
theorem dX4_releases_77 : decode cX4_releases 77 = .ok (.iload_n 1, 1) := dk_27 (dk_at dksX4_releases_3 5 rfl rfl)
theorem dX4_releases_78 : decode cX4_releases 78 = .ok (.invokevirtual 77, 3) := dk_182 0 77 (dk_at dksX4_releases_3 6 rfl rfl)
theorem dX4_releases_81 : decode cX4_releases 81 = .ok (.putfield 37, 3) := dk_181 0 37 (dk_at dksX4_releases_3 9 rfl rfl)
theorem dX4_releases_84 : decode cX4_releases 84 = .ok (.iconst 0, 1) := dk_3 (dk_at dksX4_releases_3 12 rfl rfl)
theorem dX4_releases_85 : decode cX4_releases 85 = .ok (.ireturn, 1) := dk_172 (dk_at dksX4_releases_3 13 rfl rfl)
abbrev cX4_setWind : ByteArray := prog_20_method_40_code
def yX4_setWind : MethodName := ⟨RX4, "setWind", "(CI)I"⟩
def dkwX4_setWind_0 : List UInt8 := [42, 182, 0, 92, 42, 42, 27, 184, 0, 132, 28, 182, 0, 135, 3, 4, 3, 182, 0, 99, 172]
abbrev dktX4_setWind_0 : List UInt8 := dkwX4_setWind_0 ++ []
theorem dksX4_setWind_0 : cX4_setWind.data.toList.drop 0 = dktX4_setWind_0 := by decide +kernel
theorem dX4_setWind_0 : decode cX4_setWind 0 = .ok (.aload_n 0, 1) := dk_42 (dk_at dksX4_setWind_0 0 rfl rfl)
theorem dX4_setWind_1 : decode cX4_setWind 1 = .ok (.invokevirtual 92, 3) := dk_182 0 92 (dk_at dksX4_setWind_0 1 rfl rfl)
theorem dX4_setWind_4 : decode cX4_setWind 4 = .ok (.aload_n 0, 1) := dk_42 (dk_at dksX4_setWind_0 4 rfl rfl)
theorem dX4_setWind_5 : decode cX4_setWind 5 = .ok (.aload_n 0, 1) := dk_42 (dk_at dksX4_setWind_0 5 rfl rfl)
theorem dX4_setWind_6 : decode cX4_setWind 6 = .ok (.iload_n 1, 1) := dk_27 (dk_at dksX4_setWind_0 6 rfl rfl)
theorem dX4_setWind_7 : decode cX4_setWind 7 = .ok (.invokestatic 132, 3) := dk_184 0 132 (dk_at dksX4_setWind_0 7 rfl rfl)
theorem dX4_setWind_10 : decode cX4_setWind 10 = .ok (.iload_n 2, 1) := dk_28 (dk_at dksX4_setWind_0 10 rfl rfl)
theorem dX4_setWind_11 : decode cX4_setWind 11 = .ok (.invokevirtual 135, 3) := dk_182 0 135 (dk_at dksX4_setWind_0 11 rfl rfl)
theorem dX4_setWind_14 : decode cX4_setWind 14 = .ok (.iconst 0, 1) := dk_3 (dk_at dksX4_setWind_0 14 rfl rfl)
theorem dX4_setWind_15 : decode cX4_setWind 15 = .ok (.iconst 1, 1) := dk_4 (dk_at dksX4_setWind_0 15 rfl rfl)
theorem dX4_setWind_16 : decode cX4_setWind 16 = .ok (.iconst 0, 1) := dk_3 (dk_at dksX4_setWind_0 16 rfl rfl)
theorem dX4_setWind_17 : decode cX4_setWind 17 = .ok (.invokevirtual 99, 3) := dk_182 0 99 (dk_at dksX4_setWind_0 17 rfl rfl)
theorem dX4_setWind_20 : decode cX4_setWind 20 = .ok (.ireturn, 1) := dk_172 (dk_at dksX4_setWind_0 20 rfl rfl)
abbrev cX4_wayOf : ByteArray := prog_20_method_25_code
def yX4_wayOf : MethodName := ⟨RX4, "wayOf", "(I)I"⟩
def dkwX4_wayOf_1 : List UInt8 := [160, 0, 7, 5, 167, 0, 14, 26, 16, 87, 160, 0, 7, 6, 167, 0, 4, 2, 172]
abbrev dktX4_wayOf_1 : List UInt8 := dkwX4_wayOf_1 ++ []
def dkwX4_wayOf_0 : List UInt8 := [26, 16, 78, 160, 0, 7, 3, 167, 0, 34, 26, 16, 69, 160, 0, 7, 4, 167, 0, 24, 26, 16, 83]
abbrev dktX4_wayOf_0 : List UInt8 := dkwX4_wayOf_0 ++ dktX4_wayOf_1
theorem dksX4_wayOf_0 : cX4_wayOf.data.toList.drop 0 = dktX4_wayOf_0 := by decide +kernel
theorem dksX4_wayOf_1 : cX4_wayOf.data.toList.drop 23 = dktX4_wayOf_1 := dk_seg dksX4_wayOf_0 23 rfl rfl
theorem dX4_wayOf_0 : decode cX4_wayOf 0 = .ok (.iload_n 0, 1) := dk_26 (dk_at dksX4_wayOf_0 0 rfl rfl)
theorem dX4_wayOf_1 : decode cX4_wayOf 1 = .ok (.bipush 78, 2) := dk_16 78 (dk_at dksX4_wayOf_0 1 rfl rfl)
theorem dX4_wayOf_3 : decode cX4_wayOf 3 = .ok (.if_icmp .ne 7, 3) := dk_160 0 7 (dk_at dksX4_wayOf_0 3 rfl rfl)
theorem dX4_wayOf_6 : decode cX4_wayOf 6 = .ok (.iconst 0, 1) := dk_3 (dk_at dksX4_wayOf_0 6 rfl rfl)
theorem dX4_wayOf_7 : decode cX4_wayOf 7 = .ok (.goto 34, 3) := dk_167 0 34 (dk_at dksX4_wayOf_0 7 rfl rfl)
theorem dX4_wayOf_10 : decode cX4_wayOf 10 = .ok (.iload_n 0, 1) := dk_26 (dk_at dksX4_wayOf_0 10 rfl rfl)
theorem dX4_wayOf_11 : decode cX4_wayOf 11 = .ok (.bipush 69, 2) := dk_16 69 (dk_at dksX4_wayOf_0 11 rfl rfl)
theorem dX4_wayOf_13 : decode cX4_wayOf 13 = .ok (.if_icmp .ne 7, 3) := dk_160 0 7 (dk_at dksX4_wayOf_0 13 rfl rfl)
theorem dX4_wayOf_16 : decode cX4_wayOf 16 = .ok (.iconst 1, 1) := dk_4 (dk_at dksX4_wayOf_0 16 rfl rfl)
theorem dX4_wayOf_17 : decode cX4_wayOf 17 = .ok (.goto 24, 3) := dk_167 0 24 (dk_at dksX4_wayOf_0 17 rfl rfl)
theorem dX4_wayOf_20 : decode cX4_wayOf 20 = .ok (.iload_n 0, 1) := dk_26 (dk_at dksX4_wayOf_0 20 rfl rfl)
theorem dX4_wayOf_21 : decode cX4_wayOf 21 = .ok (.bipush 83, 2) := dk_16 83 (dk_at dksX4_wayOf_0 21 rfl rfl)
theorem dX4_wayOf_23 : decode cX4_wayOf 23 = .ok (.if_icmp .ne 7, 3) := dk_160 0 7 (dk_at dksX4_wayOf_1 0 rfl rfl)
theorem dX4_wayOf_26 : decode cX4_wayOf 26 = .ok (.iconst 2, 1) := dk_5 (dk_at dksX4_wayOf_1 3 rfl rfl)
theorem dX4_wayOf_27 : decode cX4_wayOf 27 = .ok (.goto 14, 3) := dk_167 0 14 (dk_at dksX4_wayOf_1 4 rfl rfl)
theorem dX4_wayOf_30 : decode cX4_wayOf 30 = .ok (.iload_n 0, 1) := dk_26 (dk_at dksX4_wayOf_1 7 rfl rfl)
theorem dX4_wayOf_31 : decode cX4_wayOf 31 = .ok (.bipush 87, 2) := dk_16 87 (dk_at dksX4_wayOf_1 8 rfl rfl)
theorem dX4_wayOf_33 : decode cX4_wayOf 33 = .ok (.if_icmp .ne 7, 3) := dk_160 0 7 (dk_at dksX4_wayOf_1 10 rfl rfl)
theorem dX4_wayOf_36 : decode cX4_wayOf 36 = .ok (.iconst 3, 1) := dk_6 (dk_at dksX4_wayOf_1 13 rfl rfl)
theorem dX4_wayOf_37 : decode cX4_wayOf 37 = .ok (.goto 4, 3) := dk_167 0 4 (dk_at dksX4_wayOf_1 14 rfl rfl)
theorem dX4_wayOf_40 : decode cX4_wayOf 40 = .ok (.iconst (-1), 1) := dk_2 (dk_at dksX4_wayOf_1 17 rfl rfl)
theorem dX4_wayOf_41 : decode cX4_wayOf 41 = .ok (.ireturn, 1) := dk_172 (dk_at dksX4_wayOf_1 18 rfl rfl)
abbrev cX4_blows : ByteArray := prog_20_method_39_code
def yX4_blows : MethodName := ⟨RX4, "blows", "(II)I"⟩
def dkwX4_blows_1 : List UInt8 := [180, 0, 9, 5, 28, 79, 42, 42, 182, 0, 129, 181, 0, 37, 3, 172]
abbrev dktX4_blows_1 : List UInt8 := dkwX4_blows_1 ++ []
def dkwX4_blows_0 : List UInt8 := [27, 155, 0, 13, 28, 3, 16, 30, 184, 0, 53, 154, 0, 5, 5, 172, 42, 180, 0, 9, 4, 27, 79, 42]
abbrev dktX4_blows_0 : List UInt8 := dkwX4_blows_0 ++ dktX4_blows_1
theorem dksX4_blows_0 : cX4_blows.data.toList.drop 0 = dktX4_blows_0 := by decide +kernel
theorem dksX4_blows_1 : cX4_blows.data.toList.drop 24 = dktX4_blows_1 := dk_seg dksX4_blows_0 24 rfl rfl
theorem dX4_blows_0 : decode cX4_blows 0 = .ok (.iload_n 1, 1) := dk_27 (dk_at dksX4_blows_0 0 rfl rfl)
theorem dX4_blows_1 : decode cX4_blows 1 = .ok (.ifCond .lt 13, 3) := dk_155 0 13 (dk_at dksX4_blows_0 1 rfl rfl)
theorem dX4_blows_4 : decode cX4_blows 4 = .ok (.iload_n 2, 1) := dk_28 (dk_at dksX4_blows_0 4 rfl rfl)
theorem dX4_blows_5 : decode cX4_blows 5 = .ok (.iconst 0, 1) := dk_3 (dk_at dksX4_blows_0 5 rfl rfl)
theorem dX4_blows_6 : decode cX4_blows 6 = .ok (.bipush 30, 2) := dk_16 30 (dk_at dksX4_blows_0 6 rfl rfl)
theorem dX4_blows_8 : decode cX4_blows 8 = .ok (.invokestatic 53, 3) := dk_184 0 53 (dk_at dksX4_blows_0 8 rfl rfl)
theorem dX4_blows_11 : decode cX4_blows 11 = .ok (.ifCond .ne 5, 3) := dk_154 0 5 (dk_at dksX4_blows_0 11 rfl rfl)
theorem dX4_blows_14 : decode cX4_blows 14 = .ok (.iconst 2, 1) := dk_5 (dk_at dksX4_blows_0 14 rfl rfl)
theorem dX4_blows_15 : decode cX4_blows 15 = .ok (.ireturn, 1) := dk_172 (dk_at dksX4_blows_0 15 rfl rfl)
theorem dX4_blows_16 : decode cX4_blows 16 = .ok (.aload_n 0, 1) := dk_42 (dk_at dksX4_blows_0 16 rfl rfl)
theorem dX4_blows_17 : decode cX4_blows 17 = .ok (.getfield 9, 3) := dk_180 0 9 (dk_at dksX4_blows_0 17 rfl rfl)
theorem dX4_blows_20 : decode cX4_blows 20 = .ok (.iconst 1, 1) := dk_4 (dk_at dksX4_blows_0 20 rfl rfl)
theorem dX4_blows_21 : decode cX4_blows 21 = .ok (.iload_n 1, 1) := dk_27 (dk_at dksX4_blows_0 21 rfl rfl)
theorem dX4_blows_22 : decode cX4_blows 22 = .ok (.iastore, 1) := dk_79 (dk_at dksX4_blows_0 22 rfl rfl)
theorem dX4_blows_23 : decode cX4_blows 23 = .ok (.aload_n 0, 1) := dk_42 (dk_at dksX4_blows_0 23 rfl rfl)
theorem dX4_blows_24 : decode cX4_blows 24 = .ok (.getfield 9, 3) := dk_180 0 9 (dk_at dksX4_blows_1 0 rfl rfl)
theorem dX4_blows_27 : decode cX4_blows 27 = .ok (.iconst 2, 1) := dk_5 (dk_at dksX4_blows_1 3 rfl rfl)
theorem dX4_blows_28 : decode cX4_blows 28 = .ok (.iload_n 2, 1) := dk_28 (dk_at dksX4_blows_1 4 rfl rfl)
theorem dX4_blows_29 : decode cX4_blows 29 = .ok (.iastore, 1) := dk_79 (dk_at dksX4_blows_1 5 rfl rfl)
theorem dX4_blows_30 : decode cX4_blows 30 = .ok (.aload_n 0, 1) := dk_42 (dk_at dksX4_blows_1 6 rfl rfl)
theorem dX4_blows_31 : decode cX4_blows 31 = .ok (.aload_n 0, 1) := dk_42 (dk_at dksX4_blows_1 7 rfl rfl)
theorem dX4_blows_32 : decode cX4_blows 32 = .ok (.invokevirtual 129, 3) := dk_182 0 129 (dk_at dksX4_blows_1 8 rfl rfl)
theorem dX4_blows_35 : decode cX4_blows 35 = .ok (.putfield 37, 3) := dk_181 0 37 (dk_at dksX4_blows_1 11 rfl rfl)
theorem dX4_blows_38 : decode cX4_blows 38 = .ok (.iconst 0, 1) := dk_3 (dk_at dksX4_blows_1 14 rfl rfl)
theorem dX4_blows_39 : decode cX4_blows 39 = .ok (.ireturn, 1) := dk_172 (dk_at dksX4_blows_1 15 rfl rfl)
abbrev cX4_total : ByteArray := prog_20_method_22_code
def yX4_total : MethodName := ⟨RX4, "total", "()I"⟩
def dkwX4_total_1 : List UInt8 := [132, 2, 1, 167, 255, 235, 27, 172]
abbrev dktX4_total_1 : List UInt8 := dkwX4_total_1 ++ []
def dkwX4_total_0 : List UInt8 := [3, 60, 3, 61, 28, 42, 180, 0, 9, 3, 46, 162, 0, 17, 27, 42, 28, 182, 0, 77, 96, 60]
abbrev dktX4_total_0 : List UInt8 := dkwX4_total_0 ++ dktX4_total_1
theorem dksX4_total_0 : cX4_total.data.toList.drop 0 = dktX4_total_0 := by decide +kernel
theorem dksX4_total_1 : cX4_total.data.toList.drop 22 = dktX4_total_1 := dk_seg dksX4_total_0 22 rfl rfl
theorem dX4_total_0 : decode cX4_total 0 = .ok (.iconst 0, 1) := dk_3 (dk_at dksX4_total_0 0 rfl rfl)
theorem dX4_total_1 : decode cX4_total 1 = .ok (.istore_n 1, 1) := dk_60 (dk_at dksX4_total_0 1 rfl rfl)
theorem dX4_total_2 : decode cX4_total 2 = .ok (.iconst 0, 1) := dk_3 (dk_at dksX4_total_0 2 rfl rfl)
theorem dX4_total_3 : decode cX4_total 3 = .ok (.istore_n 2, 1) := dk_61 (dk_at dksX4_total_0 3 rfl rfl)
theorem dX4_total_4 : decode cX4_total 4 = .ok (.iload_n 2, 1) := dk_28 (dk_at dksX4_total_0 4 rfl rfl)
theorem dX4_total_5 : decode cX4_total 5 = .ok (.aload_n 0, 1) := dk_42 (dk_at dksX4_total_0 5 rfl rfl)
theorem dX4_total_6 : decode cX4_total 6 = .ok (.getfield 9, 3) := dk_180 0 9 (dk_at dksX4_total_0 6 rfl rfl)
theorem dX4_total_9 : decode cX4_total 9 = .ok (.iconst 0, 1) := dk_3 (dk_at dksX4_total_0 9 rfl rfl)
theorem dX4_total_10 : decode cX4_total 10 = .ok (.iaload, 1) := dk_46 (dk_at dksX4_total_0 10 rfl rfl)
theorem dX4_total_11 : decode cX4_total 11 = .ok (.if_icmp .ge 17, 3) := dk_162 0 17 (dk_at dksX4_total_0 11 rfl rfl)
theorem dX4_total_14 : decode cX4_total 14 = .ok (.iload_n 1, 1) := dk_27 (dk_at dksX4_total_0 14 rfl rfl)
theorem dX4_total_15 : decode cX4_total 15 = .ok (.aload_n 0, 1) := dk_42 (dk_at dksX4_total_0 15 rfl rfl)
theorem dX4_total_16 : decode cX4_total 16 = .ok (.iload_n 2, 1) := dk_28 (dk_at dksX4_total_0 16 rfl rfl)
theorem dX4_total_17 : decode cX4_total 17 = .ok (.invokevirtual 77, 3) := dk_182 0 77 (dk_at dksX4_total_0 17 rfl rfl)
theorem dX4_total_20 : decode cX4_total 20 = .ok (.iadd, 1) := dk_96 (dk_at dksX4_total_0 20 rfl rfl)
theorem dX4_total_21 : decode cX4_total 21 = .ok (.istore_n 1, 1) := dk_60 (dk_at dksX4_total_0 21 rfl rfl)
theorem dX4_total_22 : decode cX4_total 22 = .ok (.iinc 2 1, 3) := dk_132 2 1 (dk_at dksX4_total_1 0 rfl rfl)
theorem dX4_total_25 : decode cX4_total 25 = .ok (.goto (-21), 3) := dk_167 255 235 (dk_at dksX4_total_1 3 rfl rfl)
theorem dX4_total_28 : decode cX4_total 28 = .ok (.iload_n 1, 1) := dk_27 (dk_at dksX4_total_1 6 rfl rfl)
theorem dX4_total_29 : decode cX4_total 29 = .ok (.ireturn, 1) := dk_172 (dk_at dksX4_total_1 7 rfl rfl)
abbrev cX4_setGridLimit : ByteArray := prog_20_method_42_code
def yX4_setGridLimit : MethodName := ⟨RX4, "setGridLimit", "(I)I"⟩
def dkwX4_setGridLimit_0 : List UInt8 := [42, 182, 0, 92, 42, 42, 27, 182, 0, 138, 3, 4, 3, 182, 0, 99, 172]
abbrev dktX4_setGridLimit_0 : List UInt8 := dkwX4_setGridLimit_0 ++ []
theorem dksX4_setGridLimit_0 : cX4_setGridLimit.data.toList.drop 0 = dktX4_setGridLimit_0 := by decide +kernel
theorem dX4_setGridLimit_0 : decode cX4_setGridLimit 0 = .ok (.aload_n 0, 1) := dk_42 (dk_at dksX4_setGridLimit_0 0 rfl rfl)
theorem dX4_setGridLimit_1 : decode cX4_setGridLimit 1 = .ok (.invokevirtual 92, 3) := dk_182 0 92 (dk_at dksX4_setGridLimit_0 1 rfl rfl)
theorem dX4_setGridLimit_4 : decode cX4_setGridLimit 4 = .ok (.aload_n 0, 1) := dk_42 (dk_at dksX4_setGridLimit_0 4 rfl rfl)
theorem dX4_setGridLimit_5 : decode cX4_setGridLimit 5 = .ok (.aload_n 0, 1) := dk_42 (dk_at dksX4_setGridLimit_0 5 rfl rfl)
theorem dX4_setGridLimit_6 : decode cX4_setGridLimit 6 = .ok (.iload_n 1, 1) := dk_27 (dk_at dksX4_setGridLimit_0 6 rfl rfl)
theorem dX4_setGridLimit_7 : decode cX4_setGridLimit 7 = .ok (.invokevirtual 138, 3) := dk_182 0 138 (dk_at dksX4_setGridLimit_0 7 rfl rfl)
theorem dX4_setGridLimit_10 : decode cX4_setGridLimit 10 = .ok (.iconst 0, 1) := dk_3 (dk_at dksX4_setGridLimit_0 10 rfl rfl)
theorem dX4_setGridLimit_11 : decode cX4_setGridLimit 11 = .ok (.iconst 1, 1) := dk_4 (dk_at dksX4_setGridLimit_0 11 rfl rfl)
theorem dX4_setGridLimit_12 : decode cX4_setGridLimit 12 = .ok (.iconst 0, 1) := dk_3 (dk_at dksX4_setGridLimit_0 12 rfl rfl)
theorem dX4_setGridLimit_13 : decode cX4_setGridLimit 13 = .ok (.invokevirtual 99, 3) := dk_182 0 99 (dk_at dksX4_setGridLimit_0 13 rfl rfl)
theorem dX4_setGridLimit_16 : decode cX4_setGridLimit 16 = .ok (.ireturn, 1) := dk_172 (dk_at dksX4_setGridLimit_0 16 rfl rfl)
abbrev cX4_limits : ByteArray := prog_20_method_41_code
def yX4_limits : MethodName := ⟨RX4, "limits", "(I)I"⟩
def dkwX4_limits_1 : List UInt8 := [180, 0, 9, 6, 27, 79, 3, 172]
abbrev dktX4_limits_1 : List UInt8 := dkwX4_limits_1 ++ []
def dkwX4_limits_0 : List UInt8 := [27, 3, 17, 3, 231, 184, 0, 53, 154, 0, 5, 5, 172, 42, 42, 180, 0, 9, 6, 46, 181, 0, 37, 42]
abbrev dktX4_limits_0 : List UInt8 := dkwX4_limits_0 ++ dktX4_limits_1
theorem dksX4_limits_0 : cX4_limits.data.toList.drop 0 = dktX4_limits_0 := by decide +kernel
theorem dksX4_limits_1 : cX4_limits.data.toList.drop 24 = dktX4_limits_1 := dk_seg dksX4_limits_0 24 rfl rfl
theorem dX4_limits_0 : decode cX4_limits 0 = .ok (.iload_n 1, 1) := dk_27 (dk_at dksX4_limits_0 0 rfl rfl)
theorem dX4_limits_1 : decode cX4_limits 1 = .ok (.iconst 0, 1) := dk_3 (dk_at dksX4_limits_0 1 rfl rfl)
theorem dX4_limits_2 : decode cX4_limits 2 = .ok (.sipush 999, 3) := dk_17 3 231 (dk_at dksX4_limits_0 2 rfl rfl)
theorem dX4_limits_5 : decode cX4_limits 5 = .ok (.invokestatic 53, 3) := dk_184 0 53 (dk_at dksX4_limits_0 5 rfl rfl)
theorem dX4_limits_8 : decode cX4_limits 8 = .ok (.ifCond .ne 5, 3) := dk_154 0 5 (dk_at dksX4_limits_0 8 rfl rfl)
theorem dX4_limits_11 : decode cX4_limits 11 = .ok (.iconst 2, 1) := dk_5 (dk_at dksX4_limits_0 11 rfl rfl)
theorem dX4_limits_12 : decode cX4_limits 12 = .ok (.ireturn, 1) := dk_172 (dk_at dksX4_limits_0 12 rfl rfl)
theorem dX4_limits_13 : decode cX4_limits 13 = .ok (.aload_n 0, 1) := dk_42 (dk_at dksX4_limits_0 13 rfl rfl)
theorem dX4_limits_14 : decode cX4_limits 14 = .ok (.aload_n 0, 1) := dk_42 (dk_at dksX4_limits_0 14 rfl rfl)
theorem dX4_limits_15 : decode cX4_limits 15 = .ok (.getfield 9, 3) := dk_180 0 9 (dk_at dksX4_limits_0 15 rfl rfl)
theorem dX4_limits_18 : decode cX4_limits 18 = .ok (.iconst 3, 1) := dk_6 (dk_at dksX4_limits_0 18 rfl rfl)
theorem dX4_limits_19 : decode cX4_limits 19 = .ok (.iaload, 1) := dk_46 (dk_at dksX4_limits_0 19 rfl rfl)
theorem dX4_limits_20 : decode cX4_limits 20 = .ok (.putfield 37, 3) := dk_181 0 37 (dk_at dksX4_limits_0 20 rfl rfl)
theorem dX4_limits_23 : decode cX4_limits 23 = .ok (.aload_n 0, 1) := dk_42 (dk_at dksX4_limits_0 23 rfl rfl)
theorem dX4_limits_24 : decode cX4_limits 24 = .ok (.getfield 9, 3) := dk_180 0 9 (dk_at dksX4_limits_1 0 rfl rfl)
theorem dX4_limits_27 : decode cX4_limits 27 = .ok (.iconst 3, 1) := dk_6 (dk_at dksX4_limits_1 3 rfl rfl)
theorem dX4_limits_28 : decode cX4_limits 28 = .ok (.iload_n 1, 1) := dk_27 (dk_at dksX4_limits_1 4 rfl rfl)
theorem dX4_limits_29 : decode cX4_limits 29 = .ok (.iastore, 1) := dk_79 (dk_at dksX4_limits_1 5 rfl rfl)
theorem dX4_limits_30 : decode cX4_limits 30 = .ok (.iconst 0, 1) := dk_3 (dk_at dksX4_limits_1 6 rfl rfl)
theorem dX4_limits_31 : decode cX4_limits 31 = .ok (.ireturn, 1) := dk_172 (dk_at dksX4_limits_1 7 rfl rfl)
abbrev cX4_dispatch : ByteArray := prog_20_method_44_code
def yX4_dispatch : MethodName := ⟨RX4, "dispatch", "()I"⟩
def dkwX4_dispatch_0 : List UInt8 := [42, 182, 0, 92, 42, 42, 182, 0, 141, 3, 3, 3, 182, 0, 99, 172]
abbrev dktX4_dispatch_0 : List UInt8 := dkwX4_dispatch_0 ++ []
theorem dksX4_dispatch_0 : cX4_dispatch.data.toList.drop 0 = dktX4_dispatch_0 := by decide +kernel
theorem dX4_dispatch_0 : decode cX4_dispatch 0 = .ok (.aload_n 0, 1) := dk_42 (dk_at dksX4_dispatch_0 0 rfl rfl)
theorem dX4_dispatch_1 : decode cX4_dispatch 1 = .ok (.invokevirtual 92, 3) := dk_182 0 92 (dk_at dksX4_dispatch_0 1 rfl rfl)
theorem dX4_dispatch_4 : decode cX4_dispatch 4 = .ok (.aload_n 0, 1) := dk_42 (dk_at dksX4_dispatch_0 4 rfl rfl)
theorem dX4_dispatch_5 : decode cX4_dispatch 5 = .ok (.aload_n 0, 1) := dk_42 (dk_at dksX4_dispatch_0 5 rfl rfl)
theorem dX4_dispatch_6 : decode cX4_dispatch 6 = .ok (.invokevirtual 141, 3) := dk_182 0 141 (dk_at dksX4_dispatch_0 6 rfl rfl)
theorem dX4_dispatch_9 : decode cX4_dispatch 9 = .ok (.iconst 0, 1) := dk_3 (dk_at dksX4_dispatch_0 9 rfl rfl)
theorem dX4_dispatch_10 : decode cX4_dispatch 10 = .ok (.iconst 0, 1) := dk_3 (dk_at dksX4_dispatch_0 10 rfl rfl)
theorem dX4_dispatch_11 : decode cX4_dispatch 11 = .ok (.iconst 0, 1) := dk_3 (dk_at dksX4_dispatch_0 11 rfl rfl)
theorem dX4_dispatch_12 : decode cX4_dispatch 12 = .ok (.invokevirtual 99, 3) := dk_182 0 99 (dk_at dksX4_dispatch_0 12 rfl rfl)
theorem dX4_dispatch_15 : decode cX4_dispatch 15 = .ok (.ireturn, 1) := dk_172 (dk_at dksX4_dispatch_0 15 rfl rfl)
abbrev cX4_dispatches : ByteArray := prog_20_method_43_code
def yX4_dispatches : MethodName := ⟨RX4, "dispatches", "()I"⟩
def dkwX4_dispatches_4 : List UInt8 := [182, 0, 129, 42, 180, 0, 9, 6, 46, 100, 60, 167, 255, 166, 3, 172]
abbrev dktX4_dispatches_4 : List UInt8 := dkwX4_dispatches_4 ++ []
def dkwX4_dispatches_3 : List UInt8 := [156, 0, 7, 4, 167, 0, 6, 29, 4, 96, 182, 0, 88, 42, 89, 180, 0, 37, 4, 96, 181, 0, 37, 42]
abbrev dktX4_dispatches_3 : List UInt8 := dkwX4_dispatches_3 ++ dktX4_dispatches_4
def dkwX4_dispatches_2 : List UInt8 := [29, 167, 0, 4, 28, 61, 132, 3, 1, 167, 255, 224, 42, 28, 182, 0, 77, 27, 100, 62, 42, 28, 8, 29]
abbrev dktX4_dispatches_2 : List UInt8 := dkwX4_dispatches_2 ++ dktX4_dispatches_3
def dkwX4_dispatches_1 : List UInt8 := [62, 29, 42, 180, 0, 9, 3, 46, 162, 0, 28, 42, 29, 182, 0, 77, 42, 28, 182, 0, 77, 164, 0, 7]
abbrev dktX4_dispatches_1 : List UInt8 := dkwX4_dispatches_1 ++ dktX4_dispatches_2
def dkwX4_dispatches_0 : List UInt8 := [42, 3, 181, 0, 37, 42, 182, 0, 129, 42, 180, 0, 9, 6, 46, 100, 60, 27, 158, 0, 92, 3, 61, 4]
abbrev dktX4_dispatches_0 : List UInt8 := dkwX4_dispatches_0 ++ dktX4_dispatches_1
theorem dksX4_dispatches_0 : cX4_dispatches.data.toList.drop 0 = dktX4_dispatches_0 := by decide +kernel
theorem dksX4_dispatches_1 : cX4_dispatches.data.toList.drop 24 = dktX4_dispatches_1 := dk_seg dksX4_dispatches_0 24 rfl rfl
theorem dksX4_dispatches_2 : cX4_dispatches.data.toList.drop 48 = dktX4_dispatches_2 := dk_seg dksX4_dispatches_1 24 rfl rfl
theorem dksX4_dispatches_3 : cX4_dispatches.data.toList.drop 72 = dktX4_dispatches_3 := dk_seg dksX4_dispatches_2 24 rfl rfl
theorem dksX4_dispatches_4 : cX4_dispatches.data.toList.drop 96 = dktX4_dispatches_4 := dk_seg dksX4_dispatches_3 24 rfl rfl
theorem dX4_dispatches_0 : decode cX4_dispatches 0 = .ok (.aload_n 0, 1) := dk_42 (dk_at dksX4_dispatches_0 0 rfl rfl)
theorem dX4_dispatches_1 : decode cX4_dispatches 1 = .ok (.iconst 0, 1) := dk_3 (dk_at dksX4_dispatches_0 1 rfl rfl)
theorem dX4_dispatches_2 : decode cX4_dispatches 2 = .ok (.putfield 37, 3) := dk_181 0 37 (dk_at dksX4_dispatches_0 2 rfl rfl)
theorem dX4_dispatches_5 : decode cX4_dispatches 5 = .ok (.aload_n 0, 1) := dk_42 (dk_at dksX4_dispatches_0 5 rfl rfl)
theorem dX4_dispatches_6 : decode cX4_dispatches 6 = .ok (.invokevirtual 129, 3) := dk_182 0 129 (dk_at dksX4_dispatches_0 6 rfl rfl)
theorem dX4_dispatches_9 : decode cX4_dispatches 9 = .ok (.aload_n 0, 1) := dk_42 (dk_at dksX4_dispatches_0 9 rfl rfl)
theorem dX4_dispatches_10 : decode cX4_dispatches 10 = .ok (.getfield 9, 3) := dk_180 0 9 (dk_at dksX4_dispatches_0 10 rfl rfl)
theorem dX4_dispatches_13 : decode cX4_dispatches 13 = .ok (.iconst 3, 1) := dk_6 (dk_at dksX4_dispatches_0 13 rfl rfl)
theorem dX4_dispatches_14 : decode cX4_dispatches 14 = .ok (.iaload, 1) := dk_46 (dk_at dksX4_dispatches_0 14 rfl rfl)
theorem dX4_dispatches_15 : decode cX4_dispatches 15 = .ok (.isub, 1) := dk_100 (dk_at dksX4_dispatches_0 15 rfl rfl)
theorem dX4_dispatches_16 : decode cX4_dispatches 16 = .ok (.istore_n 1, 1) := dk_60 (dk_at dksX4_dispatches_0 16 rfl rfl)
theorem dX4_dispatches_17 : decode cX4_dispatches 17 = .ok (.iload_n 1, 1) := dk_27 (dk_at dksX4_dispatches_0 17 rfl rfl)
theorem dX4_dispatches_18 : decode cX4_dispatches 18 = .ok (.ifCond .le 92, 3) := dk_158 0 92 (dk_at dksX4_dispatches_0 18 rfl rfl)
theorem dX4_dispatches_21 : decode cX4_dispatches 21 = .ok (.iconst 0, 1) := dk_3 (dk_at dksX4_dispatches_0 21 rfl rfl)
theorem dX4_dispatches_22 : decode cX4_dispatches 22 = .ok (.istore_n 2, 1) := dk_61 (dk_at dksX4_dispatches_0 22 rfl rfl)
theorem dX4_dispatches_23 : decode cX4_dispatches 23 = .ok (.iconst 1, 1) := dk_4 (dk_at dksX4_dispatches_0 23 rfl rfl)
theorem dX4_dispatches_24 : decode cX4_dispatches 24 = .ok (.istore_n 3, 1) := dk_62 (dk_at dksX4_dispatches_1 0 rfl rfl)
theorem dX4_dispatches_25 : decode cX4_dispatches 25 = .ok (.iload_n 3, 1) := dk_29 (dk_at dksX4_dispatches_1 1 rfl rfl)
theorem dX4_dispatches_26 : decode cX4_dispatches 26 = .ok (.aload_n 0, 1) := dk_42 (dk_at dksX4_dispatches_1 2 rfl rfl)
theorem dX4_dispatches_27 : decode cX4_dispatches 27 = .ok (.getfield 9, 3) := dk_180 0 9 (dk_at dksX4_dispatches_1 3 rfl rfl)
theorem dX4_dispatches_30 : decode cX4_dispatches 30 = .ok (.iconst 0, 1) := dk_3 (dk_at dksX4_dispatches_1 6 rfl rfl)
theorem dX4_dispatches_31 : decode cX4_dispatches 31 = .ok (.iaload, 1) := dk_46 (dk_at dksX4_dispatches_1 7 rfl rfl)
theorem dX4_dispatches_32 : decode cX4_dispatches 32 = .ok (.if_icmp .ge 28, 3) := dk_162 0 28 (dk_at dksX4_dispatches_1 8 rfl rfl)
theorem dX4_dispatches_35 : decode cX4_dispatches 35 = .ok (.aload_n 0, 1) := dk_42 (dk_at dksX4_dispatches_1 11 rfl rfl)
theorem dX4_dispatches_36 : decode cX4_dispatches 36 = .ok (.iload_n 3, 1) := dk_29 (dk_at dksX4_dispatches_1 12 rfl rfl)
theorem dX4_dispatches_37 : decode cX4_dispatches 37 = .ok (.invokevirtual 77, 3) := dk_182 0 77 (dk_at dksX4_dispatches_1 13 rfl rfl)
theorem dX4_dispatches_40 : decode cX4_dispatches 40 = .ok (.aload_n 0, 1) := dk_42 (dk_at dksX4_dispatches_1 16 rfl rfl)
theorem dX4_dispatches_41 : decode cX4_dispatches 41 = .ok (.iload_n 2, 1) := dk_28 (dk_at dksX4_dispatches_1 17 rfl rfl)
theorem dX4_dispatches_42 : decode cX4_dispatches 42 = .ok (.invokevirtual 77, 3) := dk_182 0 77 (dk_at dksX4_dispatches_1 18 rfl rfl)
theorem dX4_dispatches_45 : decode cX4_dispatches 45 = .ok (.if_icmp .le 7, 3) := dk_164 0 7 (dk_at dksX4_dispatches_1 21 rfl rfl)
theorem dX4_dispatches_48 : decode cX4_dispatches 48 = .ok (.iload_n 3, 1) := dk_29 (dk_at dksX4_dispatches_2 0 rfl rfl)
theorem dX4_dispatches_49 : decode cX4_dispatches 49 = .ok (.goto 4, 3) := dk_167 0 4 (dk_at dksX4_dispatches_2 1 rfl rfl)
theorem dX4_dispatches_52 : decode cX4_dispatches 52 = .ok (.iload_n 2, 1) := dk_28 (dk_at dksX4_dispatches_2 4 rfl rfl)
theorem dX4_dispatches_53 : decode cX4_dispatches 53 = .ok (.istore_n 2, 1) := dk_61 (dk_at dksX4_dispatches_2 5 rfl rfl)
theorem dX4_dispatches_54 : decode cX4_dispatches 54 = .ok (.iinc 3 1, 3) := dk_132 3 1 (dk_at dksX4_dispatches_2 6 rfl rfl)
theorem dX4_dispatches_57 : decode cX4_dispatches 57 = .ok (.goto (-32), 3) := dk_167 255 224 (dk_at dksX4_dispatches_2 9 rfl rfl)
theorem dX4_dispatches_60 : decode cX4_dispatches 60 = .ok (.aload_n 0, 1) := dk_42 (dk_at dksX4_dispatches_2 12 rfl rfl)
theorem dX4_dispatches_61 : decode cX4_dispatches 61 = .ok (.iload_n 2, 1) := dk_28 (dk_at dksX4_dispatches_2 13 rfl rfl)
theorem dX4_dispatches_62 : decode cX4_dispatches 62 = .ok (.invokevirtual 77, 3) := dk_182 0 77 (dk_at dksX4_dispatches_2 14 rfl rfl)
theorem dX4_dispatches_65 : decode cX4_dispatches 65 = .ok (.iload_n 1, 1) := dk_27 (dk_at dksX4_dispatches_2 17 rfl rfl)
theorem dX4_dispatches_66 : decode cX4_dispatches 66 = .ok (.isub, 1) := dk_100 (dk_at dksX4_dispatches_2 18 rfl rfl)
theorem dX4_dispatches_67 : decode cX4_dispatches 67 = .ok (.istore_n 3, 1) := dk_62 (dk_at dksX4_dispatches_2 19 rfl rfl)
theorem dX4_dispatches_68 : decode cX4_dispatches 68 = .ok (.aload_n 0, 1) := dk_42 (dk_at dksX4_dispatches_2 20 rfl rfl)
theorem dX4_dispatches_69 : decode cX4_dispatches 69 = .ok (.iload_n 2, 1) := dk_28 (dk_at dksX4_dispatches_2 21 rfl rfl)
theorem dX4_dispatches_70 : decode cX4_dispatches 70 = .ok (.iconst 5, 1) := dk_8 (dk_at dksX4_dispatches_2 22 rfl rfl)
theorem dX4_dispatches_71 : decode cX4_dispatches 71 = .ok (.iload_n 3, 1) := dk_29 (dk_at dksX4_dispatches_2 23 rfl rfl)
theorem dX4_dispatches_72 : decode cX4_dispatches 72 = .ok (.ifCond .ge 7, 3) := dk_156 0 7 (dk_at dksX4_dispatches_3 0 rfl rfl)
theorem dX4_dispatches_75 : decode cX4_dispatches 75 = .ok (.iconst 1, 1) := dk_4 (dk_at dksX4_dispatches_3 3 rfl rfl)
theorem dX4_dispatches_76 : decode cX4_dispatches 76 = .ok (.goto 6, 3) := dk_167 0 6 (dk_at dksX4_dispatches_3 4 rfl rfl)
theorem dX4_dispatches_79 : decode cX4_dispatches 79 = .ok (.iload_n 3, 1) := dk_29 (dk_at dksX4_dispatches_3 7 rfl rfl)
theorem dX4_dispatches_80 : decode cX4_dispatches 80 = .ok (.iconst 1, 1) := dk_4 (dk_at dksX4_dispatches_3 8 rfl rfl)
theorem dX4_dispatches_81 : decode cX4_dispatches 81 = .ok (.iadd, 1) := dk_96 (dk_at dksX4_dispatches_3 9 rfl rfl)
theorem dX4_dispatches_82 : decode cX4_dispatches 82 = .ok (.invokevirtual 88, 3) := dk_182 0 88 (dk_at dksX4_dispatches_3 10 rfl rfl)
theorem dX4_dispatches_85 : decode cX4_dispatches 85 = .ok (.aload_n 0, 1) := dk_42 (dk_at dksX4_dispatches_3 13 rfl rfl)
theorem dX4_dispatches_86 : decode cX4_dispatches 86 = .ok (.dup, 1) := dk_89 (dk_at dksX4_dispatches_3 14 rfl rfl)
theorem dX4_dispatches_87 : decode cX4_dispatches 87 = .ok (.getfield 37, 3) := dk_180 0 37 (dk_at dksX4_dispatches_3 15 rfl rfl)
theorem dX4_dispatches_90 : decode cX4_dispatches 90 = .ok (.iconst 1, 1) := dk_4 (dk_at dksX4_dispatches_3 18 rfl rfl)
theorem dX4_dispatches_91 : decode cX4_dispatches 91 = .ok (.iadd, 1) := dk_96 (dk_at dksX4_dispatches_3 19 rfl rfl)
theorem dX4_dispatches_92 : decode cX4_dispatches 92 = .ok (.putfield 37, 3) := dk_181 0 37 (dk_at dksX4_dispatches_3 20 rfl rfl)
theorem dX4_dispatches_95 : decode cX4_dispatches 95 = .ok (.aload_n 0, 1) := dk_42 (dk_at dksX4_dispatches_3 23 rfl rfl)
theorem dX4_dispatches_96 : decode cX4_dispatches 96 = .ok (.invokevirtual 129, 3) := dk_182 0 129 (dk_at dksX4_dispatches_4 0 rfl rfl)
theorem dX4_dispatches_99 : decode cX4_dispatches 99 = .ok (.aload_n 0, 1) := dk_42 (dk_at dksX4_dispatches_4 3 rfl rfl)
theorem dX4_dispatches_100 : decode cX4_dispatches 100 = .ok (.getfield 9, 3) := dk_180 0 9 (dk_at dksX4_dispatches_4 4 rfl rfl)
theorem dX4_dispatches_103 : decode cX4_dispatches 103 = .ok (.iconst 3, 1) := dk_6 (dk_at dksX4_dispatches_4 7 rfl rfl)
theorem dX4_dispatches_104 : decode cX4_dispatches 104 = .ok (.iaload, 1) := dk_46 (dk_at dksX4_dispatches_4 8 rfl rfl)
theorem dX4_dispatches_105 : decode cX4_dispatches 105 = .ok (.isub, 1) := dk_100 (dk_at dksX4_dispatches_4 9 rfl rfl)
theorem dX4_dispatches_106 : decode cX4_dispatches 106 = .ok (.istore_n 1, 1) := dk_60 (dk_at dksX4_dispatches_4 10 rfl rfl)
theorem dX4_dispatches_107 : decode cX4_dispatches 107 = .ok (.goto (-90), 3) := dk_167 255 166 (dk_at dksX4_dispatches_4 11 rfl rfl)
theorem dX4_dispatches_110 : decode cX4_dispatches 110 = .ok (.iconst 0, 1) := dk_3 (dk_at dksX4_dispatches_4 14 rfl rfl)
theorem dX4_dispatches_111 : decode cX4_dispatches 111 = .ok (.ireturn, 1) := dk_172 (dk_at dksX4_dispatches_4 15 rfl rfl)
abbrev cX4_releaseAll : ByteArray := prog_20_method_46_code
def yX4_releaseAll : MethodName := ⟨RX4, "releaseAll", "()I"⟩
def dkwX4_releaseAll_0 : List UInt8 := [42, 182, 0, 92, 42, 42, 182, 0, 144, 3, 3, 3, 182, 0, 99, 172]
abbrev dktX4_releaseAll_0 : List UInt8 := dkwX4_releaseAll_0 ++ []
theorem dksX4_releaseAll_0 : cX4_releaseAll.data.toList.drop 0 = dktX4_releaseAll_0 := by decide +kernel
theorem dX4_releaseAll_0 : decode cX4_releaseAll 0 = .ok (.aload_n 0, 1) := dk_42 (dk_at dksX4_releaseAll_0 0 rfl rfl)
theorem dX4_releaseAll_1 : decode cX4_releaseAll 1 = .ok (.invokevirtual 92, 3) := dk_182 0 92 (dk_at dksX4_releaseAll_0 1 rfl rfl)
theorem dX4_releaseAll_4 : decode cX4_releaseAll 4 = .ok (.aload_n 0, 1) := dk_42 (dk_at dksX4_releaseAll_0 4 rfl rfl)
theorem dX4_releaseAll_5 : decode cX4_releaseAll 5 = .ok (.aload_n 0, 1) := dk_42 (dk_at dksX4_releaseAll_0 5 rfl rfl)
theorem dX4_releaseAll_6 : decode cX4_releaseAll 6 = .ok (.invokevirtual 144, 3) := dk_182 0 144 (dk_at dksX4_releaseAll_0 6 rfl rfl)
theorem dX4_releaseAll_9 : decode cX4_releaseAll 9 = .ok (.iconst 0, 1) := dk_3 (dk_at dksX4_releaseAll_0 9 rfl rfl)
theorem dX4_releaseAll_10 : decode cX4_releaseAll 10 = .ok (.iconst 0, 1) := dk_3 (dk_at dksX4_releaseAll_0 10 rfl rfl)
theorem dX4_releaseAll_11 : decode cX4_releaseAll 11 = .ok (.iconst 0, 1) := dk_3 (dk_at dksX4_releaseAll_0 11 rfl rfl)
theorem dX4_releaseAll_12 : decode cX4_releaseAll 12 = .ok (.invokevirtual 99, 3) := dk_182 0 99 (dk_at dksX4_releaseAll_0 12 rfl rfl)
theorem dX4_releaseAll_15 : decode cX4_releaseAll 15 = .ok (.ireturn, 1) := dk_172 (dk_at dksX4_releaseAll_0 15 rfl rfl)
abbrev cX4_releasesAll : ByteArray := prog_20_method_45_code
def yX4_releasesAll : MethodName := ⟨RX4, "releasesAll", "()I"⟩
def dkwX4_releasesAll_2 : List UInt8 := [132, 1, 1, 167, 255, 213, 3, 172]
abbrev dktX4_releasesAll_2 : List UInt8 := dkwX4_releasesAll_2 ++ []
def dkwX4_releasesAll_1 : List UInt8 := [8, 182, 0, 57, 158, 0, 7, 4, 167, 0, 4, 3, 96, 181, 0, 37, 42, 27, 8, 3, 182, 0, 88]
abbrev dktX4_releasesAll_1 : List UInt8 := dkwX4_releasesAll_1 ++ dktX4_releasesAll_2
def dkwX4_releasesAll_0 : List UInt8 := [42, 3, 181, 0, 37, 3, 60, 27, 42, 180, 0, 9, 3, 46, 162, 0, 39, 42, 89, 180, 0, 37, 42, 27]
abbrev dktX4_releasesAll_0 : List UInt8 := dkwX4_releasesAll_0 ++ dktX4_releasesAll_1
theorem dksX4_releasesAll_0 : cX4_releasesAll.data.toList.drop 0 = dktX4_releasesAll_0 := by decide +kernel
theorem dksX4_releasesAll_1 : cX4_releasesAll.data.toList.drop 24 = dktX4_releasesAll_1 := dk_seg dksX4_releasesAll_0 24 rfl rfl
theorem dksX4_releasesAll_2 : cX4_releasesAll.data.toList.drop 47 = dktX4_releasesAll_2 := dk_seg dksX4_releasesAll_1 23 rfl rfl
theorem dX4_releasesAll_0 : decode cX4_releasesAll 0 = .ok (.aload_n 0, 1) := dk_42 (dk_at dksX4_releasesAll_0 0 rfl rfl)
theorem dX4_releasesAll_1 : decode cX4_releasesAll 1 = .ok (.iconst 0, 1) := dk_3 (dk_at dksX4_releasesAll_0 1 rfl rfl)
theorem dX4_releasesAll_2 : decode cX4_releasesAll 2 = .ok (.putfield 37, 3) := dk_181 0 37 (dk_at dksX4_releasesAll_0 2 rfl rfl)
theorem dX4_releasesAll_5 : decode cX4_releasesAll 5 = .ok (.iconst 0, 1) := dk_3 (dk_at dksX4_releasesAll_0 5 rfl rfl)
theorem dX4_releasesAll_6 : decode cX4_releasesAll 6 = .ok (.istore_n 1, 1) := dk_60 (dk_at dksX4_releasesAll_0 6 rfl rfl)
theorem dX4_releasesAll_7 : decode cX4_releasesAll 7 = .ok (.iload_n 1, 1) := dk_27 (dk_at dksX4_releasesAll_0 7 rfl rfl)
theorem dX4_releasesAll_8 : decode cX4_releasesAll 8 = .ok (.aload_n 0, 1) := dk_42 (dk_at dksX4_releasesAll_0 8 rfl rfl)
theorem dX4_releasesAll_9 : decode cX4_releasesAll 9 = .ok (.getfield 9, 3) := dk_180 0 9 (dk_at dksX4_releasesAll_0 9 rfl rfl)
theorem dX4_releasesAll_12 : decode cX4_releasesAll 12 = .ok (.iconst 0, 1) := dk_3 (dk_at dksX4_releasesAll_0 12 rfl rfl)
theorem dX4_releasesAll_13 : decode cX4_releasesAll 13 = .ok (.iaload, 1) := dk_46 (dk_at dksX4_releasesAll_0 13 rfl rfl)
theorem dX4_releasesAll_14 : decode cX4_releasesAll 14 = .ok (.if_icmp .ge 39, 3) := dk_162 0 39 (dk_at dksX4_releasesAll_0 14 rfl rfl)
theorem dX4_releasesAll_17 : decode cX4_releasesAll 17 = .ok (.aload_n 0, 1) := dk_42 (dk_at dksX4_releasesAll_0 17 rfl rfl)
theorem dX4_releasesAll_18 : decode cX4_releasesAll 18 = .ok (.dup, 1) := dk_89 (dk_at dksX4_releasesAll_0 18 rfl rfl)
theorem dX4_releasesAll_19 : decode cX4_releasesAll 19 = .ok (.getfield 37, 3) := dk_180 0 37 (dk_at dksX4_releasesAll_0 19 rfl rfl)
theorem dX4_releasesAll_22 : decode cX4_releasesAll 22 = .ok (.aload_n 0, 1) := dk_42 (dk_at dksX4_releasesAll_0 22 rfl rfl)
theorem dX4_releasesAll_23 : decode cX4_releasesAll 23 = .ok (.iload_n 1, 1) := dk_27 (dk_at dksX4_releasesAll_0 23 rfl rfl)
theorem dX4_releasesAll_24 : decode cX4_releasesAll 24 = .ok (.iconst 5, 1) := dk_8 (dk_at dksX4_releasesAll_1 0 rfl rfl)
theorem dX4_releasesAll_25 : decode cX4_releasesAll 25 = .ok (.invokevirtual 57, 3) := dk_182 0 57 (dk_at dksX4_releasesAll_1 1 rfl rfl)
theorem dX4_releasesAll_28 : decode cX4_releasesAll 28 = .ok (.ifCond .le 7, 3) := dk_158 0 7 (dk_at dksX4_releasesAll_1 4 rfl rfl)
theorem dX4_releasesAll_31 : decode cX4_releasesAll 31 = .ok (.iconst 1, 1) := dk_4 (dk_at dksX4_releasesAll_1 7 rfl rfl)
theorem dX4_releasesAll_32 : decode cX4_releasesAll 32 = .ok (.goto 4, 3) := dk_167 0 4 (dk_at dksX4_releasesAll_1 8 rfl rfl)
theorem dX4_releasesAll_35 : decode cX4_releasesAll 35 = .ok (.iconst 0, 1) := dk_3 (dk_at dksX4_releasesAll_1 11 rfl rfl)
theorem dX4_releasesAll_36 : decode cX4_releasesAll 36 = .ok (.iadd, 1) := dk_96 (dk_at dksX4_releasesAll_1 12 rfl rfl)
theorem dX4_releasesAll_37 : decode cX4_releasesAll 37 = .ok (.putfield 37, 3) := dk_181 0 37 (dk_at dksX4_releasesAll_1 13 rfl rfl)
theorem dX4_releasesAll_40 : decode cX4_releasesAll 40 = .ok (.aload_n 0, 1) := dk_42 (dk_at dksX4_releasesAll_1 16 rfl rfl)
theorem dX4_releasesAll_41 : decode cX4_releasesAll 41 = .ok (.iload_n 1, 1) := dk_27 (dk_at dksX4_releasesAll_1 17 rfl rfl)
theorem dX4_releasesAll_42 : decode cX4_releasesAll 42 = .ok (.iconst 5, 1) := dk_8 (dk_at dksX4_releasesAll_1 18 rfl rfl)
theorem dX4_releasesAll_43 : decode cX4_releasesAll 43 = .ok (.iconst 0, 1) := dk_3 (dk_at dksX4_releasesAll_1 19 rfl rfl)
theorem dX4_releasesAll_44 : decode cX4_releasesAll 44 = .ok (.invokevirtual 88, 3) := dk_182 0 88 (dk_at dksX4_releasesAll_1 20 rfl rfl)
theorem dX4_releasesAll_47 : decode cX4_releasesAll 47 = .ok (.iinc 1 1, 3) := dk_132 1 1 (dk_at dksX4_releasesAll_2 0 rfl rfl)
theorem dX4_releasesAll_50 : decode cX4_releasesAll 50 = .ok (.goto (-43), 3) := dk_167 255 213 (dk_at dksX4_releasesAll_2 3 rfl rfl)
theorem dX4_releasesAll_53 : decode cX4_releasesAll 53 = .ok (.iconst 0, 1) := dk_3 (dk_at dksX4_releasesAll_2 6 rfl rfl)
theorem dX4_releasesAll_54 : decode cX4_releasesAll 54 = .ok (.ireturn, 1) := dk_172 (dk_at dksX4_releasesAll_2 7 rfl rfl)
abbrev cX4_placeBid : ByteArray := prog_20_method_52_code
def yX4_placeBid : MethodName := ⟨RX4, "placeBid", "(III)I"⟩
def dkwX4_placeBid_0 : List UInt8 := [42, 182, 0, 92, 42, 42, 27, 28, 29, 182, 0, 156, 4, 5, 6, 182, 0, 99, 172]
abbrev dktX4_placeBid_0 : List UInt8 := dkwX4_placeBid_0 ++ []
theorem dksX4_placeBid_0 : cX4_placeBid.data.toList.drop 0 = dktX4_placeBid_0 := by decide +kernel
theorem dX4_placeBid_0 : decode cX4_placeBid 0 = .ok (.aload_n 0, 1) := dk_42 (dk_at dksX4_placeBid_0 0 rfl rfl)
theorem dX4_placeBid_1 : decode cX4_placeBid 1 = .ok (.invokevirtual 92, 3) := dk_182 0 92 (dk_at dksX4_placeBid_0 1 rfl rfl)
theorem dX4_placeBid_4 : decode cX4_placeBid 4 = .ok (.aload_n 0, 1) := dk_42 (dk_at dksX4_placeBid_0 4 rfl rfl)
theorem dX4_placeBid_5 : decode cX4_placeBid 5 = .ok (.aload_n 0, 1) := dk_42 (dk_at dksX4_placeBid_0 5 rfl rfl)
theorem dX4_placeBid_6 : decode cX4_placeBid 6 = .ok (.iload_n 1, 1) := dk_27 (dk_at dksX4_placeBid_0 6 rfl rfl)
theorem dX4_placeBid_7 : decode cX4_placeBid 7 = .ok (.iload_n 2, 1) := dk_28 (dk_at dksX4_placeBid_0 7 rfl rfl)
theorem dX4_placeBid_8 : decode cX4_placeBid 8 = .ok (.iload_n 3, 1) := dk_29 (dk_at dksX4_placeBid_0 8 rfl rfl)
theorem dX4_placeBid_9 : decode cX4_placeBid 9 = .ok (.invokevirtual 156, 3) := dk_182 0 156 (dk_at dksX4_placeBid_0 9 rfl rfl)
theorem dX4_placeBid_12 : decode cX4_placeBid 12 = .ok (.iconst 1, 1) := dk_4 (dk_at dksX4_placeBid_0 12 rfl rfl)
theorem dX4_placeBid_13 : decode cX4_placeBid 13 = .ok (.iconst 2, 1) := dk_5 (dk_at dksX4_placeBid_0 13 rfl rfl)
theorem dX4_placeBid_14 : decode cX4_placeBid 14 = .ok (.iconst 3, 1) := dk_6 (dk_at dksX4_placeBid_0 14 rfl rfl)
theorem dX4_placeBid_15 : decode cX4_placeBid 15 = .ok (.invokevirtual 99, 3) := dk_182 0 99 (dk_at dksX4_placeBid_0 15 rfl rfl)
theorem dX4_placeBid_18 : decode cX4_placeBid 18 = .ok (.ireturn, 1) := dk_172 (dk_at dksX4_placeBid_0 18 rfl rfl)
abbrev cX4_places : ByteArray := prog_20_method_51_code
def yX4_places : MethodName := ⟨RX4, "places", "(III)I"⟩
def dkwX4_places_4 : List UInt8 := [172]
abbrev dktX4_places_4 : List UInt8 := dkwX4_places_4 ++ []
def dkwX4_places_3 : List UInt8 := [79, 42, 180, 0, 9, 16, 9, 5, 27, 104, 96, 4, 96, 29, 79, 42, 42, 182, 0, 153, 181, 0, 37, 3]
abbrev dktX4_places_3 : List UInt8 := dkwX4_places_3 ++ dktX4_places_4
def dkwX4_places_2 : List UInt8 := [42, 27, 182, 0, 147, 182, 0, 84, 153, 0, 5, 6, 172, 42, 180, 0, 9, 16, 9, 5, 27, 104, 96, 28]
abbrev dktX4_places_2 : List UInt8 := dkwX4_places_2 ++ dktX4_places_3
def dkwX4_places_1 : List UInt8 := [184, 0, 53, 154, 0, 5, 5, 172, 42, 42, 27, 182, 0, 147, 158, 0, 7, 4, 167, 0, 4, 3, 16, 8]
abbrev dktX4_places_1 : List UInt8 := dkwX4_places_1 ++ dktX4_places_2
def dkwX4_places_0 : List UInt8 := [27, 184, 0, 150, 154, 0, 5, 4, 172, 28, 4, 16, 50, 184, 0, 53, 153, 0, 14, 29, 4, 17, 1, 244]
abbrev dktX4_places_0 : List UInt8 := dkwX4_places_0 ++ dktX4_places_1
theorem dksX4_places_0 : cX4_places.data.toList.drop 0 = dktX4_places_0 := by decide +kernel
theorem dksX4_places_1 : cX4_places.data.toList.drop 24 = dktX4_places_1 := dk_seg dksX4_places_0 24 rfl rfl
theorem dksX4_places_2 : cX4_places.data.toList.drop 48 = dktX4_places_2 := dk_seg dksX4_places_1 24 rfl rfl
theorem dksX4_places_3 : cX4_places.data.toList.drop 72 = dktX4_places_3 := dk_seg dksX4_places_2 24 rfl rfl
theorem dksX4_places_4 : cX4_places.data.toList.drop 96 = dktX4_places_4 := dk_seg dksX4_places_3 24 rfl rfl
theorem dX4_places_0 : decode cX4_places 0 = .ok (.iload_n 1, 1) := dk_27 (dk_at dksX4_places_0 0 rfl rfl)
theorem dX4_places_1 : decode cX4_places 1 = .ok (.invokestatic 150, 3) := dk_184 0 150 (dk_at dksX4_places_0 1 rfl rfl)
theorem dX4_places_4 : decode cX4_places 4 = .ok (.ifCond .ne 5, 3) := dk_154 0 5 (dk_at dksX4_places_0 4 rfl rfl)
theorem dX4_places_7 : decode cX4_places 7 = .ok (.iconst 1, 1) := dk_4 (dk_at dksX4_places_0 7 rfl rfl)
theorem dX4_places_8 : decode cX4_places 8 = .ok (.ireturn, 1) := dk_172 (dk_at dksX4_places_0 8 rfl rfl)
theorem dX4_places_9 : decode cX4_places 9 = .ok (.iload_n 2, 1) := dk_28 (dk_at dksX4_places_0 9 rfl rfl)
theorem dX4_places_10 : decode cX4_places 10 = .ok (.iconst 1, 1) := dk_4 (dk_at dksX4_places_0 10 rfl rfl)
theorem dX4_places_11 : decode cX4_places 11 = .ok (.bipush 50, 2) := dk_16 50 (dk_at dksX4_places_0 11 rfl rfl)
theorem dX4_places_13 : decode cX4_places 13 = .ok (.invokestatic 53, 3) := dk_184 0 53 (dk_at dksX4_places_0 13 rfl rfl)
theorem dX4_places_16 : decode cX4_places 16 = .ok (.ifCond .eq 14, 3) := dk_153 0 14 (dk_at dksX4_places_0 16 rfl rfl)
theorem dX4_places_19 : decode cX4_places 19 = .ok (.iload_n 3, 1) := dk_29 (dk_at dksX4_places_0 19 rfl rfl)
theorem dX4_places_20 : decode cX4_places 20 = .ok (.iconst 1, 1) := dk_4 (dk_at dksX4_places_0 20 rfl rfl)
theorem dX4_places_21 : decode cX4_places 21 = .ok (.sipush 500, 3) := dk_17 1 244 (dk_at dksX4_places_0 21 rfl rfl)
theorem dX4_places_24 : decode cX4_places 24 = .ok (.invokestatic 53, 3) := dk_184 0 53 (dk_at dksX4_places_1 0 rfl rfl)
theorem dX4_places_27 : decode cX4_places 27 = .ok (.ifCond .ne 5, 3) := dk_154 0 5 (dk_at dksX4_places_1 3 rfl rfl)
theorem dX4_places_30 : decode cX4_places 30 = .ok (.iconst 2, 1) := dk_5 (dk_at dksX4_places_1 6 rfl rfl)
theorem dX4_places_31 : decode cX4_places 31 = .ok (.ireturn, 1) := dk_172 (dk_at dksX4_places_1 7 rfl rfl)
theorem dX4_places_32 : decode cX4_places 32 = .ok (.aload_n 0, 1) := dk_42 (dk_at dksX4_places_1 8 rfl rfl)
theorem dX4_places_33 : decode cX4_places 33 = .ok (.aload_n 0, 1) := dk_42 (dk_at dksX4_places_1 9 rfl rfl)
theorem dX4_places_34 : decode cX4_places 34 = .ok (.iload_n 1, 1) := dk_27 (dk_at dksX4_places_1 10 rfl rfl)
theorem dX4_places_35 : decode cX4_places 35 = .ok (.invokevirtual 147, 3) := dk_182 0 147 (dk_at dksX4_places_1 11 rfl rfl)
theorem dX4_places_38 : decode cX4_places 38 = .ok (.ifCond .le 7, 3) := dk_158 0 7 (dk_at dksX4_places_1 14 rfl rfl)
theorem dX4_places_41 : decode cX4_places 41 = .ok (.iconst 1, 1) := dk_4 (dk_at dksX4_places_1 17 rfl rfl)
theorem dX4_places_42 : decode cX4_places 42 = .ok (.goto 4, 3) := dk_167 0 4 (dk_at dksX4_places_1 18 rfl rfl)
theorem dX4_places_45 : decode cX4_places 45 = .ok (.iconst 0, 1) := dk_3 (dk_at dksX4_places_1 21 rfl rfl)
theorem dX4_places_46 : decode cX4_places 46 = .ok (.bipush 8, 2) := dk_16 8 (dk_at dksX4_places_1 22 rfl rfl)
theorem dX4_places_48 : decode cX4_places 48 = .ok (.aload_n 0, 1) := dk_42 (dk_at dksX4_places_2 0 rfl rfl)
theorem dX4_places_49 : decode cX4_places 49 = .ok (.iload_n 1, 1) := dk_27 (dk_at dksX4_places_2 1 rfl rfl)
theorem dX4_places_50 : decode cX4_places 50 = .ok (.invokevirtual 147, 3) := dk_182 0 147 (dk_at dksX4_places_2 2 rfl rfl)
theorem dX4_places_53 : decode cX4_places 53 = .ok (.invokevirtual 84, 3) := dk_182 0 84 (dk_at dksX4_places_2 5 rfl rfl)
theorem dX4_places_56 : decode cX4_places 56 = .ok (.ifCond .eq 5, 3) := dk_153 0 5 (dk_at dksX4_places_2 8 rfl rfl)
theorem dX4_places_59 : decode cX4_places 59 = .ok (.iconst 3, 1) := dk_6 (dk_at dksX4_places_2 11 rfl rfl)
theorem dX4_places_60 : decode cX4_places 60 = .ok (.ireturn, 1) := dk_172 (dk_at dksX4_places_2 12 rfl rfl)
theorem dX4_places_61 : decode cX4_places 61 = .ok (.aload_n 0, 1) := dk_42 (dk_at dksX4_places_2 13 rfl rfl)
theorem dX4_places_62 : decode cX4_places 62 = .ok (.getfield 9, 3) := dk_180 0 9 (dk_at dksX4_places_2 14 rfl rfl)
theorem dX4_places_65 : decode cX4_places 65 = .ok (.bipush 9, 2) := dk_16 9 (dk_at dksX4_places_2 17 rfl rfl)
theorem dX4_places_67 : decode cX4_places 67 = .ok (.iconst 2, 1) := dk_5 (dk_at dksX4_places_2 19 rfl rfl)
theorem dX4_places_68 : decode cX4_places 68 = .ok (.iload_n 1, 1) := dk_27 (dk_at dksX4_places_2 20 rfl rfl)
theorem dX4_places_69 : decode cX4_places 69 = .ok (.imul, 1) := dk_104 (dk_at dksX4_places_2 21 rfl rfl)
theorem dX4_places_70 : decode cX4_places 70 = .ok (.iadd, 1) := dk_96 (dk_at dksX4_places_2 22 rfl rfl)
theorem dX4_places_71 : decode cX4_places 71 = .ok (.iload_n 2, 1) := dk_28 (dk_at dksX4_places_2 23 rfl rfl)
theorem dX4_places_72 : decode cX4_places 72 = .ok (.iastore, 1) := dk_79 (dk_at dksX4_places_3 0 rfl rfl)
theorem dX4_places_73 : decode cX4_places 73 = .ok (.aload_n 0, 1) := dk_42 (dk_at dksX4_places_3 1 rfl rfl)
theorem dX4_places_74 : decode cX4_places 74 = .ok (.getfield 9, 3) := dk_180 0 9 (dk_at dksX4_places_3 2 rfl rfl)
theorem dX4_places_77 : decode cX4_places 77 = .ok (.bipush 9, 2) := dk_16 9 (dk_at dksX4_places_3 5 rfl rfl)
theorem dX4_places_79 : decode cX4_places 79 = .ok (.iconst 2, 1) := dk_5 (dk_at dksX4_places_3 7 rfl rfl)
theorem dX4_places_80 : decode cX4_places 80 = .ok (.iload_n 1, 1) := dk_27 (dk_at dksX4_places_3 8 rfl rfl)
theorem dX4_places_81 : decode cX4_places 81 = .ok (.imul, 1) := dk_104 (dk_at dksX4_places_3 9 rfl rfl)
theorem dX4_places_82 : decode cX4_places 82 = .ok (.iadd, 1) := dk_96 (dk_at dksX4_places_3 10 rfl rfl)
theorem dX4_places_83 : decode cX4_places 83 = .ok (.iconst 1, 1) := dk_4 (dk_at dksX4_places_3 11 rfl rfl)
theorem dX4_places_84 : decode cX4_places 84 = .ok (.iadd, 1) := dk_96 (dk_at dksX4_places_3 12 rfl rfl)
theorem dX4_places_85 : decode cX4_places 85 = .ok (.iload_n 3, 1) := dk_29 (dk_at dksX4_places_3 13 rfl rfl)
theorem dX4_places_86 : decode cX4_places 86 = .ok (.iastore, 1) := dk_79 (dk_at dksX4_places_3 14 rfl rfl)
theorem dX4_places_87 : decode cX4_places 87 = .ok (.aload_n 0, 1) := dk_42 (dk_at dksX4_places_3 15 rfl rfl)
theorem dX4_places_88 : decode cX4_places 88 = .ok (.aload_n 0, 1) := dk_42 (dk_at dksX4_places_3 16 rfl rfl)
theorem dX4_places_89 : decode cX4_places 89 = .ok (.invokevirtual 153, 3) := dk_182 0 153 (dk_at dksX4_places_3 17 rfl rfl)
theorem dX4_places_92 : decode cX4_places 92 = .ok (.putfield 37, 3) := dk_181 0 37 (dk_at dksX4_places_3 20 rfl rfl)
theorem dX4_places_95 : decode cX4_places 95 = .ok (.iconst 0, 1) := dk_3 (dk_at dksX4_places_3 23 rfl rfl)
theorem dX4_places_96 : decode cX4_places 96 = .ok (.ireturn, 1) := dk_172 (dk_at dksX4_places_4 0 rfl rfl)
abbrev cX4_isHour : ByteArray := prog_20_method_47_code
def yX4_isHour : MethodName := ⟨RX4, "isHour", "(I)Z"⟩
def dkwX4_isHour_0 : List UInt8 := [26, 3, 16, 23, 184, 0, 53, 172]
abbrev dktX4_isHour_0 : List UInt8 := dkwX4_isHour_0 ++ []
theorem dksX4_isHour_0 : cX4_isHour.data.toList.drop 0 = dktX4_isHour_0 := by decide +kernel
theorem dX4_isHour_0 : decode cX4_isHour 0 = .ok (.iload_n 0, 1) := dk_26 (dk_at dksX4_isHour_0 0 rfl rfl)
theorem dX4_isHour_1 : decode cX4_isHour 1 = .ok (.iconst 0, 1) := dk_3 (dk_at dksX4_isHour_0 1 rfl rfl)
theorem dX4_isHour_2 : decode cX4_isHour 2 = .ok (.bipush 23, 2) := dk_16 23 (dk_at dksX4_isHour_0 2 rfl rfl)
theorem dX4_isHour_4 : decode cX4_isHour 4 = .ok (.invokestatic 53, 3) := dk_184 0 53 (dk_at dksX4_isHour_0 4 rfl rfl)
theorem dX4_isHour_7 : decode cX4_isHour 7 = .ok (.ireturn, 1) := dk_172 (dk_at dksX4_isHour_0 7 rfl rfl)
abbrev cX4_price : ByteArray := prog_20_method_48_code
def yX4_price : MethodName := ⟨RX4, "price", "(I)I"⟩
def dkwX4_price_0 : List UInt8 := [42, 180, 0, 9, 16, 9, 5, 27, 104, 96, 46, 172]
abbrev dktX4_price_0 : List UInt8 := dkwX4_price_0 ++ []
theorem dksX4_price_0 : cX4_price.data.toList.drop 0 = dktX4_price_0 := by decide +kernel
theorem dX4_price_0 : decode cX4_price 0 = .ok (.aload_n 0, 1) := dk_42 (dk_at dksX4_price_0 0 rfl rfl)
theorem dX4_price_1 : decode cX4_price 1 = .ok (.getfield 9, 3) := dk_180 0 9 (dk_at dksX4_price_0 1 rfl rfl)
theorem dX4_price_4 : decode cX4_price 4 = .ok (.bipush 9, 2) := dk_16 9 (dk_at dksX4_price_0 4 rfl rfl)
theorem dX4_price_6 : decode cX4_price 6 = .ok (.iconst 2, 1) := dk_5 (dk_at dksX4_price_0 6 rfl rfl)
theorem dX4_price_7 : decode cX4_price 7 = .ok (.iload_n 1, 1) := dk_27 (dk_at dksX4_price_0 7 rfl rfl)
theorem dX4_price_8 : decode cX4_price 8 = .ok (.imul, 1) := dk_104 (dk_at dksX4_price_0 8 rfl rfl)
theorem dX4_price_9 : decode cX4_price 9 = .ok (.iadd, 1) := dk_96 (dk_at dksX4_price_0 9 rfl rfl)
theorem dX4_price_10 : decode cX4_price 10 = .ok (.iaload, 1) := dk_46 (dk_at dksX4_price_0 10 rfl rfl)
theorem dX4_price_11 : decode cX4_price 11 = .ok (.ireturn, 1) := dk_172 (dk_at dksX4_price_0 11 rfl rfl)
abbrev cX4_bids : ByteArray := prog_20_method_50_code
def yX4_bids : MethodName := ⟨RX4, "bids", "()I"⟩
def dkwX4_bids_1 : List UInt8 := [96, 60, 132, 2, 1, 167, 255, 231, 27, 172]
abbrev dktX4_bids_1 : List UInt8 := dkwX4_bids_1 ++ []
def dkwX4_bids_0 : List UInt8 := [3, 60, 3, 61, 28, 16, 24, 162, 0, 25, 27, 42, 28, 182, 0, 147, 158, 0, 7, 4, 167, 0, 4, 3]
abbrev dktX4_bids_0 : List UInt8 := dkwX4_bids_0 ++ dktX4_bids_1
theorem dksX4_bids_0 : cX4_bids.data.toList.drop 0 = dktX4_bids_0 := by decide +kernel
theorem dksX4_bids_1 : cX4_bids.data.toList.drop 24 = dktX4_bids_1 := dk_seg dksX4_bids_0 24 rfl rfl
theorem dX4_bids_0 : decode cX4_bids 0 = .ok (.iconst 0, 1) := dk_3 (dk_at dksX4_bids_0 0 rfl rfl)
theorem dX4_bids_1 : decode cX4_bids 1 = .ok (.istore_n 1, 1) := dk_60 (dk_at dksX4_bids_0 1 rfl rfl)
theorem dX4_bids_2 : decode cX4_bids 2 = .ok (.iconst 0, 1) := dk_3 (dk_at dksX4_bids_0 2 rfl rfl)
theorem dX4_bids_3 : decode cX4_bids 3 = .ok (.istore_n 2, 1) := dk_61 (dk_at dksX4_bids_0 3 rfl rfl)
theorem dX4_bids_4 : decode cX4_bids 4 = .ok (.iload_n 2, 1) := dk_28 (dk_at dksX4_bids_0 4 rfl rfl)
theorem dX4_bids_5 : decode cX4_bids 5 = .ok (.bipush 24, 2) := dk_16 24 (dk_at dksX4_bids_0 5 rfl rfl)
theorem dX4_bids_7 : decode cX4_bids 7 = .ok (.if_icmp .ge 25, 3) := dk_162 0 25 (dk_at dksX4_bids_0 7 rfl rfl)
theorem dX4_bids_10 : decode cX4_bids 10 = .ok (.iload_n 1, 1) := dk_27 (dk_at dksX4_bids_0 10 rfl rfl)
theorem dX4_bids_11 : decode cX4_bids 11 = .ok (.aload_n 0, 1) := dk_42 (dk_at dksX4_bids_0 11 rfl rfl)
theorem dX4_bids_12 : decode cX4_bids 12 = .ok (.iload_n 2, 1) := dk_28 (dk_at dksX4_bids_0 12 rfl rfl)
theorem dX4_bids_13 : decode cX4_bids 13 = .ok (.invokevirtual 147, 3) := dk_182 0 147 (dk_at dksX4_bids_0 13 rfl rfl)
theorem dX4_bids_16 : decode cX4_bids 16 = .ok (.ifCond .le 7, 3) := dk_158 0 7 (dk_at dksX4_bids_0 16 rfl rfl)
theorem dX4_bids_19 : decode cX4_bids 19 = .ok (.iconst 1, 1) := dk_4 (dk_at dksX4_bids_0 19 rfl rfl)
theorem dX4_bids_20 : decode cX4_bids 20 = .ok (.goto 4, 3) := dk_167 0 4 (dk_at dksX4_bids_0 20 rfl rfl)
theorem dX4_bids_23 : decode cX4_bids 23 = .ok (.iconst 0, 1) := dk_3 (dk_at dksX4_bids_0 23 rfl rfl)
theorem dX4_bids_24 : decode cX4_bids 24 = .ok (.iadd, 1) := dk_96 (dk_at dksX4_bids_1 0 rfl rfl)
theorem dX4_bids_25 : decode cX4_bids 25 = .ok (.istore_n 1, 1) := dk_60 (dk_at dksX4_bids_1 1 rfl rfl)
theorem dX4_bids_26 : decode cX4_bids 26 = .ok (.iinc 2 1, 3) := dk_132 2 1 (dk_at dksX4_bids_1 2 rfl rfl)
theorem dX4_bids_29 : decode cX4_bids 29 = .ok (.goto (-25), 3) := dk_167 255 231 (dk_at dksX4_bids_1 5 rfl rfl)
theorem dX4_bids_32 : decode cX4_bids 32 = .ok (.iload_n 1, 1) := dk_27 (dk_at dksX4_bids_1 8 rfl rfl)
theorem dX4_bids_33 : decode cX4_bids 33 = .ok (.ireturn, 1) := dk_172 (dk_at dksX4_bids_1 9 rfl rfl)
abbrev cX4_withdrawBid : ByteArray := prog_20_method_54_code
def yX4_withdrawBid : MethodName := ⟨RX4, "withdrawBid", "(I)I"⟩
def dkwX4_withdrawBid_0 : List UInt8 := [42, 182, 0, 92, 42, 42, 27, 182, 0, 162, 4, 3, 5, 182, 0, 99, 172]
abbrev dktX4_withdrawBid_0 : List UInt8 := dkwX4_withdrawBid_0 ++ []
theorem dksX4_withdrawBid_0 : cX4_withdrawBid.data.toList.drop 0 = dktX4_withdrawBid_0 := by decide +kernel
theorem dX4_withdrawBid_0 : decode cX4_withdrawBid 0 = .ok (.aload_n 0, 1) := dk_42 (dk_at dksX4_withdrawBid_0 0 rfl rfl)
theorem dX4_withdrawBid_1 : decode cX4_withdrawBid 1 = .ok (.invokevirtual 92, 3) := dk_182 0 92 (dk_at dksX4_withdrawBid_0 1 rfl rfl)
theorem dX4_withdrawBid_4 : decode cX4_withdrawBid 4 = .ok (.aload_n 0, 1) := dk_42 (dk_at dksX4_withdrawBid_0 4 rfl rfl)
theorem dX4_withdrawBid_5 : decode cX4_withdrawBid 5 = .ok (.aload_n 0, 1) := dk_42 (dk_at dksX4_withdrawBid_0 5 rfl rfl)
theorem dX4_withdrawBid_6 : decode cX4_withdrawBid 6 = .ok (.iload_n 1, 1) := dk_27 (dk_at dksX4_withdrawBid_0 6 rfl rfl)
theorem dX4_withdrawBid_7 : decode cX4_withdrawBid 7 = .ok (.invokevirtual 162, 3) := dk_182 0 162 (dk_at dksX4_withdrawBid_0 7 rfl rfl)
theorem dX4_withdrawBid_10 : decode cX4_withdrawBid 10 = .ok (.iconst 1, 1) := dk_4 (dk_at dksX4_withdrawBid_0 10 rfl rfl)
theorem dX4_withdrawBid_11 : decode cX4_withdrawBid 11 = .ok (.iconst 0, 1) := dk_3 (dk_at dksX4_withdrawBid_0 11 rfl rfl)
theorem dX4_withdrawBid_12 : decode cX4_withdrawBid 12 = .ok (.iconst 2, 1) := dk_5 (dk_at dksX4_withdrawBid_0 12 rfl rfl)
theorem dX4_withdrawBid_13 : decode cX4_withdrawBid 13 = .ok (.invokevirtual 99, 3) := dk_182 0 99 (dk_at dksX4_withdrawBid_0 13 rfl rfl)
theorem dX4_withdrawBid_16 : decode cX4_withdrawBid 16 = .ok (.ireturn, 1) := dk_172 (dk_at dksX4_withdrawBid_0 16 rfl rfl)
abbrev cX4_withdraws : ByteArray := prog_20_method_53_code
def yX4_withdraws : MethodName := ⟨RX4, "withdraws", "(I)I"⟩
def dkwX4_withdraws_3 : List UInt8 := [79, 3, 172]
abbrev dktX4_withdraws_3 : List UInt8 := dkwX4_withdraws_3 ++ []
def dkwX4_withdraws_2 : List UInt8 := [180, 0, 9, 16, 9, 5, 27, 104, 96, 3, 79, 42, 180, 0, 9, 16, 9, 5, 27, 104, 96, 4, 96, 3]
abbrev dktX4_withdraws_2 : List UInt8 := dkwX4_withdraws_2 ++ dktX4_withdraws_3
def dkwX4_withdraws_1 : List UInt8 := [16, 9, 42, 182, 0, 153, 182, 0, 84, 153, 0, 5, 6, 172, 42, 42, 27, 182, 0, 159, 181, 0, 37, 42]
abbrev dktX4_withdraws_1 : List UInt8 := dkwX4_withdraws_1 ++ dktX4_withdraws_2
def dkwX4_withdraws_0 : List UInt8 := [27, 184, 0, 150, 154, 0, 5, 4, 172, 42, 42, 27, 182, 0, 147, 154, 0, 7, 4, 167, 0, 4, 3]
abbrev dktX4_withdraws_0 : List UInt8 := dkwX4_withdraws_0 ++ dktX4_withdraws_1
theorem dksX4_withdraws_0 : cX4_withdraws.data.toList.drop 0 = dktX4_withdraws_0 := by decide +kernel
theorem dksX4_withdraws_1 : cX4_withdraws.data.toList.drop 23 = dktX4_withdraws_1 := dk_seg dksX4_withdraws_0 23 rfl rfl
theorem dksX4_withdraws_2 : cX4_withdraws.data.toList.drop 47 = dktX4_withdraws_2 := dk_seg dksX4_withdraws_1 24 rfl rfl
theorem dksX4_withdraws_3 : cX4_withdraws.data.toList.drop 71 = dktX4_withdraws_3 := dk_seg dksX4_withdraws_2 24 rfl rfl
theorem dX4_withdraws_0 : decode cX4_withdraws 0 = .ok (.iload_n 1, 1) := dk_27 (dk_at dksX4_withdraws_0 0 rfl rfl)
theorem dX4_withdraws_1 : decode cX4_withdraws 1 = .ok (.invokestatic 150, 3) := dk_184 0 150 (dk_at dksX4_withdraws_0 1 rfl rfl)
theorem dX4_withdraws_4 : decode cX4_withdraws 4 = .ok (.ifCond .ne 5, 3) := dk_154 0 5 (dk_at dksX4_withdraws_0 4 rfl rfl)
theorem dX4_withdraws_7 : decode cX4_withdraws 7 = .ok (.iconst 1, 1) := dk_4 (dk_at dksX4_withdraws_0 7 rfl rfl)
theorem dX4_withdraws_8 : decode cX4_withdraws 8 = .ok (.ireturn, 1) := dk_172 (dk_at dksX4_withdraws_0 8 rfl rfl)
theorem dX4_withdraws_9 : decode cX4_withdraws 9 = .ok (.aload_n 0, 1) := dk_42 (dk_at dksX4_withdraws_0 9 rfl rfl)
theorem dX4_withdraws_10 : decode cX4_withdraws 10 = .ok (.aload_n 0, 1) := dk_42 (dk_at dksX4_withdraws_0 10 rfl rfl)
theorem dX4_withdraws_11 : decode cX4_withdraws 11 = .ok (.iload_n 1, 1) := dk_27 (dk_at dksX4_withdraws_0 11 rfl rfl)
theorem dX4_withdraws_12 : decode cX4_withdraws 12 = .ok (.invokevirtual 147, 3) := dk_182 0 147 (dk_at dksX4_withdraws_0 12 rfl rfl)
theorem dX4_withdraws_15 : decode cX4_withdraws 15 = .ok (.ifCond .ne 7, 3) := dk_154 0 7 (dk_at dksX4_withdraws_0 15 rfl rfl)
theorem dX4_withdraws_18 : decode cX4_withdraws 18 = .ok (.iconst 1, 1) := dk_4 (dk_at dksX4_withdraws_0 18 rfl rfl)
theorem dX4_withdraws_19 : decode cX4_withdraws 19 = .ok (.goto 4, 3) := dk_167 0 4 (dk_at dksX4_withdraws_0 19 rfl rfl)
theorem dX4_withdraws_22 : decode cX4_withdraws 22 = .ok (.iconst 0, 1) := dk_3 (dk_at dksX4_withdraws_0 22 rfl rfl)
theorem dX4_withdraws_23 : decode cX4_withdraws 23 = .ok (.bipush 9, 2) := dk_16 9 (dk_at dksX4_withdraws_1 0 rfl rfl)
theorem dX4_withdraws_25 : decode cX4_withdraws 25 = .ok (.aload_n 0, 1) := dk_42 (dk_at dksX4_withdraws_1 2 rfl rfl)
theorem dX4_withdraws_26 : decode cX4_withdraws 26 = .ok (.invokevirtual 153, 3) := dk_182 0 153 (dk_at dksX4_withdraws_1 3 rfl rfl)
theorem dX4_withdraws_29 : decode cX4_withdraws 29 = .ok (.invokevirtual 84, 3) := dk_182 0 84 (dk_at dksX4_withdraws_1 6 rfl rfl)
theorem dX4_withdraws_32 : decode cX4_withdraws 32 = .ok (.ifCond .eq 5, 3) := dk_153 0 5 (dk_at dksX4_withdraws_1 9 rfl rfl)
theorem dX4_withdraws_35 : decode cX4_withdraws 35 = .ok (.iconst 3, 1) := dk_6 (dk_at dksX4_withdraws_1 12 rfl rfl)
theorem dX4_withdraws_36 : decode cX4_withdraws 36 = .ok (.ireturn, 1) := dk_172 (dk_at dksX4_withdraws_1 13 rfl rfl)
theorem dX4_withdraws_37 : decode cX4_withdraws 37 = .ok (.aload_n 0, 1) := dk_42 (dk_at dksX4_withdraws_1 14 rfl rfl)
theorem dX4_withdraws_38 : decode cX4_withdraws 38 = .ok (.aload_n 0, 1) := dk_42 (dk_at dksX4_withdraws_1 15 rfl rfl)
theorem dX4_withdraws_39 : decode cX4_withdraws 39 = .ok (.iload_n 1, 1) := dk_27 (dk_at dksX4_withdraws_1 16 rfl rfl)
theorem dX4_withdraws_40 : decode cX4_withdraws 40 = .ok (.invokevirtual 159, 3) := dk_182 0 159 (dk_at dksX4_withdraws_1 17 rfl rfl)
theorem dX4_withdraws_43 : decode cX4_withdraws 43 = .ok (.putfield 37, 3) := dk_181 0 37 (dk_at dksX4_withdraws_1 20 rfl rfl)
theorem dX4_withdraws_46 : decode cX4_withdraws 46 = .ok (.aload_n 0, 1) := dk_42 (dk_at dksX4_withdraws_1 23 rfl rfl)
theorem dX4_withdraws_47 : decode cX4_withdraws 47 = .ok (.getfield 9, 3) := dk_180 0 9 (dk_at dksX4_withdraws_2 0 rfl rfl)
theorem dX4_withdraws_50 : decode cX4_withdraws 50 = .ok (.bipush 9, 2) := dk_16 9 (dk_at dksX4_withdraws_2 3 rfl rfl)
theorem dX4_withdraws_52 : decode cX4_withdraws 52 = .ok (.iconst 2, 1) := dk_5 (dk_at dksX4_withdraws_2 5 rfl rfl)
theorem dX4_withdraws_53 : decode cX4_withdraws 53 = .ok (.iload_n 1, 1) := dk_27 (dk_at dksX4_withdraws_2 6 rfl rfl)
theorem dX4_withdraws_54 : decode cX4_withdraws 54 = .ok (.imul, 1) := dk_104 (dk_at dksX4_withdraws_2 7 rfl rfl)
theorem dX4_withdraws_55 : decode cX4_withdraws 55 = .ok (.iadd, 1) := dk_96 (dk_at dksX4_withdraws_2 8 rfl rfl)
theorem dX4_withdraws_56 : decode cX4_withdraws 56 = .ok (.iconst 0, 1) := dk_3 (dk_at dksX4_withdraws_2 9 rfl rfl)
theorem dX4_withdraws_57 : decode cX4_withdraws 57 = .ok (.iastore, 1) := dk_79 (dk_at dksX4_withdraws_2 10 rfl rfl)
theorem dX4_withdraws_58 : decode cX4_withdraws 58 = .ok (.aload_n 0, 1) := dk_42 (dk_at dksX4_withdraws_2 11 rfl rfl)
theorem dX4_withdraws_59 : decode cX4_withdraws 59 = .ok (.getfield 9, 3) := dk_180 0 9 (dk_at dksX4_withdraws_2 12 rfl rfl)
theorem dX4_withdraws_62 : decode cX4_withdraws 62 = .ok (.bipush 9, 2) := dk_16 9 (dk_at dksX4_withdraws_2 15 rfl rfl)
theorem dX4_withdraws_64 : decode cX4_withdraws 64 = .ok (.iconst 2, 1) := dk_5 (dk_at dksX4_withdraws_2 17 rfl rfl)
theorem dX4_withdraws_65 : decode cX4_withdraws 65 = .ok (.iload_n 1, 1) := dk_27 (dk_at dksX4_withdraws_2 18 rfl rfl)
theorem dX4_withdraws_66 : decode cX4_withdraws 66 = .ok (.imul, 1) := dk_104 (dk_at dksX4_withdraws_2 19 rfl rfl)
theorem dX4_withdraws_67 : decode cX4_withdraws 67 = .ok (.iadd, 1) := dk_96 (dk_at dksX4_withdraws_2 20 rfl rfl)
theorem dX4_withdraws_68 : decode cX4_withdraws 68 = .ok (.iconst 1, 1) := dk_4 (dk_at dksX4_withdraws_2 21 rfl rfl)
theorem dX4_withdraws_69 : decode cX4_withdraws 69 = .ok (.iadd, 1) := dk_96 (dk_at dksX4_withdraws_2 22 rfl rfl)
theorem dX4_withdraws_70 : decode cX4_withdraws 70 = .ok (.iconst 0, 1) := dk_3 (dk_at dksX4_withdraws_2 23 rfl rfl)
theorem dX4_withdraws_71 : decode cX4_withdraws 71 = .ok (.iastore, 1) := dk_79 (dk_at dksX4_withdraws_3 0 rfl rfl)
theorem dX4_withdraws_72 : decode cX4_withdraws 72 = .ok (.iconst 0, 1) := dk_3 (dk_at dksX4_withdraws_3 1 rfl rfl)
theorem dX4_withdraws_73 : decode cX4_withdraws 73 = .ok (.ireturn, 1) := dk_172 (dk_at dksX4_withdraws_3 2 rfl rfl)
abbrev cX4_quantity : ByteArray := prog_20_method_49_code
def yX4_quantity : MethodName := ⟨RX4, "quantity", "(I)I"⟩
def dkwX4_quantity_0 : List UInt8 := [42, 180, 0, 9, 16, 9, 5, 27, 104, 96, 4, 96, 46, 172]
abbrev dktX4_quantity_0 : List UInt8 := dkwX4_quantity_0 ++ []
theorem dksX4_quantity_0 : cX4_quantity.data.toList.drop 0 = dktX4_quantity_0 := by decide +kernel
theorem dX4_quantity_0 : decode cX4_quantity 0 = .ok (.aload_n 0, 1) := dk_42 (dk_at dksX4_quantity_0 0 rfl rfl)
theorem dX4_quantity_1 : decode cX4_quantity 1 = .ok (.getfield 9, 3) := dk_180 0 9 (dk_at dksX4_quantity_0 1 rfl rfl)
theorem dX4_quantity_4 : decode cX4_quantity 4 = .ok (.bipush 9, 2) := dk_16 9 (dk_at dksX4_quantity_0 4 rfl rfl)
theorem dX4_quantity_6 : decode cX4_quantity 6 = .ok (.iconst 2, 1) := dk_5 (dk_at dksX4_quantity_0 6 rfl rfl)
theorem dX4_quantity_7 : decode cX4_quantity 7 = .ok (.iload_n 1, 1) := dk_27 (dk_at dksX4_quantity_0 7 rfl rfl)
theorem dX4_quantity_8 : decode cX4_quantity 8 = .ok (.imul, 1) := dk_104 (dk_at dksX4_quantity_0 8 rfl rfl)
theorem dX4_quantity_9 : decode cX4_quantity 9 = .ok (.iadd, 1) := dk_96 (dk_at dksX4_quantity_0 9 rfl rfl)
theorem dX4_quantity_10 : decode cX4_quantity 10 = .ok (.iconst 1, 1) := dk_4 (dk_at dksX4_quantity_0 10 rfl rfl)
theorem dX4_quantity_11 : decode cX4_quantity 11 = .ok (.iadd, 1) := dk_96 (dk_at dksX4_quantity_0 11 rfl rfl)
theorem dX4_quantity_12 : decode cX4_quantity 12 = .ok (.iaload, 1) := dk_46 (dk_at dksX4_quantity_0 12 rfl rfl)
theorem dX4_quantity_13 : decode cX4_quantity 13 = .ok (.ireturn, 1) := dk_172 (dk_at dksX4_quantity_0 13 rfl rfl)
abbrev cX4_passHours : ByteArray := prog_20_method_57_code
def yX4_passHours : MethodName := ⟨RX4, "passHours", "(I)I"⟩
def dkwX4_passHours_0 : List UInt8 := [42, 182, 0, 92, 42, 42, 27, 182, 0, 168, 3, 4, 3, 182, 0, 99, 172]
abbrev dktX4_passHours_0 : List UInt8 := dkwX4_passHours_0 ++ []
theorem dksX4_passHours_0 : cX4_passHours.data.toList.drop 0 = dktX4_passHours_0 := by decide +kernel
theorem dX4_passHours_0 : decode cX4_passHours 0 = .ok (.aload_n 0, 1) := dk_42 (dk_at dksX4_passHours_0 0 rfl rfl)
theorem dX4_passHours_1 : decode cX4_passHours 1 = .ok (.invokevirtual 92, 3) := dk_182 0 92 (dk_at dksX4_passHours_0 1 rfl rfl)
theorem dX4_passHours_4 : decode cX4_passHours 4 = .ok (.aload_n 0, 1) := dk_42 (dk_at dksX4_passHours_0 4 rfl rfl)
theorem dX4_passHours_5 : decode cX4_passHours 5 = .ok (.aload_n 0, 1) := dk_42 (dk_at dksX4_passHours_0 5 rfl rfl)
theorem dX4_passHours_6 : decode cX4_passHours 6 = .ok (.iload_n 1, 1) := dk_27 (dk_at dksX4_passHours_0 6 rfl rfl)
theorem dX4_passHours_7 : decode cX4_passHours 7 = .ok (.invokevirtual 168, 3) := dk_182 0 168 (dk_at dksX4_passHours_0 7 rfl rfl)
theorem dX4_passHours_10 : decode cX4_passHours 10 = .ok (.iconst 0, 1) := dk_3 (dk_at dksX4_passHours_0 10 rfl rfl)
theorem dX4_passHours_11 : decode cX4_passHours 11 = .ok (.iconst 1, 1) := dk_4 (dk_at dksX4_passHours_0 11 rfl rfl)
theorem dX4_passHours_12 : decode cX4_passHours 12 = .ok (.iconst 0, 1) := dk_3 (dk_at dksX4_passHours_0 12 rfl rfl)
theorem dX4_passHours_13 : decode cX4_passHours 13 = .ok (.invokevirtual 99, 3) := dk_182 0 99 (dk_at dksX4_passHours_0 13 rfl rfl)
theorem dX4_passHours_16 : decode cX4_passHours 16 = .ok (.ireturn, 1) := dk_172 (dk_at dksX4_passHours_0 16 rfl rfl)
abbrev cX4_passesHours : ByteArray := prog_20_method_56_code
def yX4_passesHours : MethodName := ⟨RX4, "passesHours", "(I)I"⟩
def dkwX4_passesHours_2 : List UInt8 := [181, 0, 37, 3, 172]
abbrev dktX4_passesHours_2 : List UInt8 := dkwX4_passesHours_2 ++ []
def dkwX4_passesHours_1 : List UInt8 := [162, 0, 13, 42, 182, 0, 165, 132, 3, 1, 167, 255, 244, 42, 42, 180, 0, 9, 16, 7, 46, 28, 100]
abbrev dktX4_passesHours_1 : List UInt8 := dkwX4_passesHours_1 ++ dktX4_passesHours_2
def dkwX4_passesHours_0 : List UInt8 := [27, 4, 16, 48, 184, 0, 53, 154, 0, 5, 5, 172, 42, 180, 0, 9, 16, 7, 46, 61, 3, 62, 29, 27]
abbrev dktX4_passesHours_0 : List UInt8 := dkwX4_passesHours_0 ++ dktX4_passesHours_1
theorem dksX4_passesHours_0 : cX4_passesHours.data.toList.drop 0 = dktX4_passesHours_0 := by decide +kernel
theorem dksX4_passesHours_1 : cX4_passesHours.data.toList.drop 24 = dktX4_passesHours_1 := dk_seg dksX4_passesHours_0 24 rfl rfl
theorem dksX4_passesHours_2 : cX4_passesHours.data.toList.drop 47 = dktX4_passesHours_2 := dk_seg dksX4_passesHours_1 23 rfl rfl
theorem dX4_passesHours_0 : decode cX4_passesHours 0 = .ok (.iload_n 1, 1) := dk_27 (dk_at dksX4_passesHours_0 0 rfl rfl)
theorem dX4_passesHours_1 : decode cX4_passesHours 1 = .ok (.iconst 1, 1) := dk_4 (dk_at dksX4_passesHours_0 1 rfl rfl)
theorem dX4_passesHours_2 : decode cX4_passesHours 2 = .ok (.bipush 48, 2) := dk_16 48 (dk_at dksX4_passesHours_0 2 rfl rfl)
theorem dX4_passesHours_4 : decode cX4_passesHours 4 = .ok (.invokestatic 53, 3) := dk_184 0 53 (dk_at dksX4_passesHours_0 4 rfl rfl)
theorem dX4_passesHours_7 : decode cX4_passesHours 7 = .ok (.ifCond .ne 5, 3) := dk_154 0 5 (dk_at dksX4_passesHours_0 7 rfl rfl)
theorem dX4_passesHours_10 : decode cX4_passesHours 10 = .ok (.iconst 2, 1) := dk_5 (dk_at dksX4_passesHours_0 10 rfl rfl)
theorem dX4_passesHours_11 : decode cX4_passesHours 11 = .ok (.ireturn, 1) := dk_172 (dk_at dksX4_passesHours_0 11 rfl rfl)
theorem dX4_passesHours_12 : decode cX4_passesHours 12 = .ok (.aload_n 0, 1) := dk_42 (dk_at dksX4_passesHours_0 12 rfl rfl)
theorem dX4_passesHours_13 : decode cX4_passesHours 13 = .ok (.getfield 9, 3) := dk_180 0 9 (dk_at dksX4_passesHours_0 13 rfl rfl)
theorem dX4_passesHours_16 : decode cX4_passesHours 16 = .ok (.bipush 7, 2) := dk_16 7 (dk_at dksX4_passesHours_0 16 rfl rfl)
theorem dX4_passesHours_18 : decode cX4_passesHours 18 = .ok (.iaload, 1) := dk_46 (dk_at dksX4_passesHours_0 18 rfl rfl)
theorem dX4_passesHours_19 : decode cX4_passesHours 19 = .ok (.istore_n 2, 1) := dk_61 (dk_at dksX4_passesHours_0 19 rfl rfl)
theorem dX4_passesHours_20 : decode cX4_passesHours 20 = .ok (.iconst 0, 1) := dk_3 (dk_at dksX4_passesHours_0 20 rfl rfl)
theorem dX4_passesHours_21 : decode cX4_passesHours 21 = .ok (.istore_n 3, 1) := dk_62 (dk_at dksX4_passesHours_0 21 rfl rfl)
theorem dX4_passesHours_22 : decode cX4_passesHours 22 = .ok (.iload_n 3, 1) := dk_29 (dk_at dksX4_passesHours_0 22 rfl rfl)
theorem dX4_passesHours_23 : decode cX4_passesHours 23 = .ok (.iload_n 1, 1) := dk_27 (dk_at dksX4_passesHours_0 23 rfl rfl)
theorem dX4_passesHours_24 : decode cX4_passesHours 24 = .ok (.if_icmp .ge 13, 3) := dk_162 0 13 (dk_at dksX4_passesHours_1 0 rfl rfl)
theorem dX4_passesHours_27 : decode cX4_passesHours 27 = .ok (.aload_n 0, 1) := dk_42 (dk_at dksX4_passesHours_1 3 rfl rfl)
theorem dX4_passesHours_28 : decode cX4_passesHours 28 = .ok (.invokevirtual 165, 3) := dk_182 0 165 (dk_at dksX4_passesHours_1 4 rfl rfl)
theorem dX4_passesHours_31 : decode cX4_passesHours 31 = .ok (.iinc 3 1, 3) := dk_132 3 1 (dk_at dksX4_passesHours_1 7 rfl rfl)
theorem dX4_passesHours_34 : decode cX4_passesHours 34 = .ok (.goto (-12), 3) := dk_167 255 244 (dk_at dksX4_passesHours_1 10 rfl rfl)
theorem dX4_passesHours_37 : decode cX4_passesHours 37 = .ok (.aload_n 0, 1) := dk_42 (dk_at dksX4_passesHours_1 13 rfl rfl)
theorem dX4_passesHours_38 : decode cX4_passesHours 38 = .ok (.aload_n 0, 1) := dk_42 (dk_at dksX4_passesHours_1 14 rfl rfl)
theorem dX4_passesHours_39 : decode cX4_passesHours 39 = .ok (.getfield 9, 3) := dk_180 0 9 (dk_at dksX4_passesHours_1 15 rfl rfl)
theorem dX4_passesHours_42 : decode cX4_passesHours 42 = .ok (.bipush 7, 2) := dk_16 7 (dk_at dksX4_passesHours_1 18 rfl rfl)
theorem dX4_passesHours_44 : decode cX4_passesHours 44 = .ok (.iaload, 1) := dk_46 (dk_at dksX4_passesHours_1 20 rfl rfl)
theorem dX4_passesHours_45 : decode cX4_passesHours 45 = .ok (.iload_n 2, 1) := dk_28 (dk_at dksX4_passesHours_1 21 rfl rfl)
theorem dX4_passesHours_46 : decode cX4_passesHours 46 = .ok (.isub, 1) := dk_100 (dk_at dksX4_passesHours_1 22 rfl rfl)
theorem dX4_passesHours_47 : decode cX4_passesHours 47 = .ok (.putfield 37, 3) := dk_181 0 37 (dk_at dksX4_passesHours_2 0 rfl rfl)
theorem dX4_passesHours_50 : decode cX4_passesHours 50 = .ok (.iconst 0, 1) := dk_3 (dk_at dksX4_passesHours_2 3 rfl rfl)
theorem dX4_passesHours_51 : decode cX4_passesHours 51 = .ok (.ireturn, 1) := dk_172 (dk_at dksX4_passesHours_2 4 rfl rfl)
abbrev cX4_passes : ByteArray := prog_20_method_55_code
def yX4_passes : MethodName := ⟨RX4, "passes", "()V"⟩
def dkwX4_passes_8 : List UInt8 := [7, 92, 46, 4, 96, 79, 177]
abbrev dktX4_passes_8 : List UInt8 := dkwX4_passes_8 ++ []
def dkwX4_passes_7 : List UInt8 := [182, 0, 57, 154, 0, 7, 3, 167, 0, 4, 5, 182, 0, 88, 132, 7, 1, 167, 255, 190, 42, 180, 0, 9]
abbrev dktX4_passes_7 : List UInt8 := dkwX4_passes_7 ++ dktX4_passes_8
def dkwX4_passes_6 : List UInt8 := [21, 7, 7, 42, 21, 7, 7, 182, 0, 57, 4, 100, 182, 0, 88, 42, 21, 7, 6, 42, 21, 7, 7]
abbrev dktX4_passes_6 : List UInt8 := dkwX4_passes_6 ++ dktX4_passes_7
def dkwX4_passes_5 : List UInt8 := [180, 0, 9, 3, 46, 162, 0, 61, 42, 21, 7, 6, 182, 0, 57, 5, 159, 0, 6, 167, 0, 41, 42]
abbrev dktX4_passes_5 : List UInt8 := dkwX4_passes_5 ++ dktX4_passes_6
def dkwX4_passes_4 : List UInt8 := [182, 0, 147, 104, 21, 5, 21, 6, 100, 42, 27, 182, 0, 147, 104, 100, 96, 79, 3, 54, 7, 21, 7, 42]
abbrev dktX4_passes_4 : List UInt8 := dkwX4_passes_4 ++ dktX4_passes_5
def dkwX4_passes_3 : List UInt8 := [180, 0, 9, 16, 7, 92, 46, 21, 6, 96, 79, 42, 180, 0, 9, 16, 8, 92, 46, 21, 6, 42, 27]
abbrev dktX4_passes_3 : List UInt8 := dkwX4_passes_3 ++ dktX4_passes_4
def dkwX4_passes_2 : List UInt8 := [54, 6, 42, 180, 0, 9, 8, 92, 46, 28, 96, 79, 42, 180, 0, 9, 16, 6, 92, 46, 29, 96, 79, 42]
abbrev dktX4_passes_2 : List UInt8 := dkwX4_passes_2 ++ dktX4_passes_3
def dkwX4_passes_1 : List UInt8 := [54, 4, 42, 27, 182, 0, 159, 54, 5, 21, 4, 21, 5, 162, 0, 8, 21, 4, 167, 0, 5, 21, 5]
abbrev dktX4_passes_1 : List UInt8 := dkwX4_passes_1 ++ dktX4_passes_2
def dkwX4_passes_0 : List UInt8 := [42, 180, 0, 9, 7, 46, 16, 24, 112, 60, 42, 182, 0, 129, 61, 28, 16, 20, 108, 62, 28, 29, 100]
abbrev dktX4_passes_0 : List UInt8 := dkwX4_passes_0 ++ dktX4_passes_1
theorem dksX4_passes_0 : cX4_passes.data.toList.drop 0 = dktX4_passes_0 := by decide +kernel
theorem dksX4_passes_1 : cX4_passes.data.toList.drop 23 = dktX4_passes_1 := dk_seg dksX4_passes_0 23 rfl rfl
theorem dksX4_passes_2 : cX4_passes.data.toList.drop 46 = dktX4_passes_2 := dk_seg dksX4_passes_1 23 rfl rfl
theorem dksX4_passes_3 : cX4_passes.data.toList.drop 70 = dktX4_passes_3 := dk_seg dksX4_passes_2 24 rfl rfl
theorem dksX4_passes_4 : cX4_passes.data.toList.drop 93 = dktX4_passes_4 := dk_seg dksX4_passes_3 23 rfl rfl
theorem dksX4_passes_5 : cX4_passes.data.toList.drop 117 = dktX4_passes_5 := dk_seg dksX4_passes_4 24 rfl rfl
theorem dksX4_passes_6 : cX4_passes.data.toList.drop 140 = dktX4_passes_6 := dk_seg dksX4_passes_5 23 rfl rfl
theorem dksX4_passes_7 : cX4_passes.data.toList.drop 163 = dktX4_passes_7 := dk_seg dksX4_passes_6 23 rfl rfl
theorem dksX4_passes_8 : cX4_passes.data.toList.drop 187 = dktX4_passes_8 := dk_seg dksX4_passes_7 24 rfl rfl
theorem dX4_passes_0 : decode cX4_passes 0 = .ok (.aload_n 0, 1) := dk_42 (dk_at dksX4_passes_0 0 rfl rfl)
theorem dX4_passes_1 : decode cX4_passes 1 = .ok (.getfield 9, 3) := dk_180 0 9 (dk_at dksX4_passes_0 1 rfl rfl)
theorem dX4_passes_4 : decode cX4_passes 4 = .ok (.iconst 4, 1) := dk_7 (dk_at dksX4_passes_0 4 rfl rfl)
theorem dX4_passes_5 : decode cX4_passes 5 = .ok (.iaload, 1) := dk_46 (dk_at dksX4_passes_0 5 rfl rfl)
theorem dX4_passes_6 : decode cX4_passes 6 = .ok (.bipush 24, 2) := dk_16 24 (dk_at dksX4_passes_0 6 rfl rfl)
theorem dX4_passes_8 : decode cX4_passes 8 = .ok (.irem, 1) := dk_112 (dk_at dksX4_passes_0 8 rfl rfl)
theorem dX4_passes_9 : decode cX4_passes 9 = .ok (.istore_n 1, 1) := dk_60 (dk_at dksX4_passes_0 9 rfl rfl)
theorem dX4_passes_10 : decode cX4_passes 10 = .ok (.aload_n 0, 1) := dk_42 (dk_at dksX4_passes_0 10 rfl rfl)
theorem dX4_passes_11 : decode cX4_passes 11 = .ok (.invokevirtual 129, 3) := dk_182 0 129 (dk_at dksX4_passes_0 11 rfl rfl)
theorem dX4_passes_14 : decode cX4_passes 14 = .ok (.istore_n 2, 1) := dk_61 (dk_at dksX4_passes_0 14 rfl rfl)
theorem dX4_passes_15 : decode cX4_passes 15 = .ok (.iload_n 2, 1) := dk_28 (dk_at dksX4_passes_0 15 rfl rfl)
theorem dX4_passes_16 : decode cX4_passes 16 = .ok (.bipush 20, 2) := dk_16 20 (dk_at dksX4_passes_0 16 rfl rfl)
theorem dX4_passes_18 : decode cX4_passes 18 = .ok (.idiv, 1) := dk_108 (dk_at dksX4_passes_0 18 rfl rfl)
theorem dX4_passes_19 : decode cX4_passes 19 = .ok (.istore_n 3, 1) := dk_62 (dk_at dksX4_passes_0 19 rfl rfl)
theorem dX4_passes_20 : decode cX4_passes 20 = .ok (.iload_n 2, 1) := dk_28 (dk_at dksX4_passes_0 20 rfl rfl)
theorem dX4_passes_21 : decode cX4_passes 21 = .ok (.iload_n 3, 1) := dk_29 (dk_at dksX4_passes_0 21 rfl rfl)
theorem dX4_passes_22 : decode cX4_passes 22 = .ok (.isub, 1) := dk_100 (dk_at dksX4_passes_0 22 rfl rfl)
theorem dX4_passes_23 : decode cX4_passes 23 = .ok (.istore 4, 2) := dk_54 4 (dk_at dksX4_passes_1 0 rfl rfl)
theorem dX4_passes_25 : decode cX4_passes 25 = .ok (.aload_n 0, 1) := dk_42 (dk_at dksX4_passes_1 2 rfl rfl)
theorem dX4_passes_26 : decode cX4_passes 26 = .ok (.iload_n 1, 1) := dk_27 (dk_at dksX4_passes_1 3 rfl rfl)
theorem dX4_passes_27 : decode cX4_passes 27 = .ok (.invokevirtual 159, 3) := dk_182 0 159 (dk_at dksX4_passes_1 4 rfl rfl)
theorem dX4_passes_30 : decode cX4_passes 30 = .ok (.istore 5, 2) := dk_54 5 (dk_at dksX4_passes_1 7 rfl rfl)
theorem dX4_passes_32 : decode cX4_passes 32 = .ok (.iload 4, 2) := dk_21 4 (dk_at dksX4_passes_1 9 rfl rfl)
theorem dX4_passes_34 : decode cX4_passes 34 = .ok (.iload 5, 2) := dk_21 5 (dk_at dksX4_passes_1 11 rfl rfl)
theorem dX4_passes_36 : decode cX4_passes 36 = .ok (.if_icmp .ge 8, 3) := dk_162 0 8 (dk_at dksX4_passes_1 13 rfl rfl)
theorem dX4_passes_39 : decode cX4_passes 39 = .ok (.iload 4, 2) := dk_21 4 (dk_at dksX4_passes_1 16 rfl rfl)
theorem dX4_passes_41 : decode cX4_passes 41 = .ok (.goto 5, 3) := dk_167 0 5 (dk_at dksX4_passes_1 18 rfl rfl)
theorem dX4_passes_44 : decode cX4_passes 44 = .ok (.iload 5, 2) := dk_21 5 (dk_at dksX4_passes_1 21 rfl rfl)
theorem dX4_passes_46 : decode cX4_passes 46 = .ok (.istore 6, 2) := dk_54 6 (dk_at dksX4_passes_2 0 rfl rfl)
theorem dX4_passes_48 : decode cX4_passes 48 = .ok (.aload_n 0, 1) := dk_42 (dk_at dksX4_passes_2 2 rfl rfl)
theorem dX4_passes_49 : decode cX4_passes 49 = .ok (.getfield 9, 3) := dk_180 0 9 (dk_at dksX4_passes_2 3 rfl rfl)
theorem dX4_passes_52 : decode cX4_passes 52 = .ok (.iconst 5, 1) := dk_8 (dk_at dksX4_passes_2 6 rfl rfl)
theorem dX4_passes_53 : decode cX4_passes 53 = .ok (.dup2, 1) := dk_92 (dk_at dksX4_passes_2 7 rfl rfl)
theorem dX4_passes_54 : decode cX4_passes 54 = .ok (.iaload, 1) := dk_46 (dk_at dksX4_passes_2 8 rfl rfl)
theorem dX4_passes_55 : decode cX4_passes 55 = .ok (.iload_n 2, 1) := dk_28 (dk_at dksX4_passes_2 9 rfl rfl)
theorem dX4_passes_56 : decode cX4_passes 56 = .ok (.iadd, 1) := dk_96 (dk_at dksX4_passes_2 10 rfl rfl)
theorem dX4_passes_57 : decode cX4_passes 57 = .ok (.iastore, 1) := dk_79 (dk_at dksX4_passes_2 11 rfl rfl)
theorem dX4_passes_58 : decode cX4_passes 58 = .ok (.aload_n 0, 1) := dk_42 (dk_at dksX4_passes_2 12 rfl rfl)
theorem dX4_passes_59 : decode cX4_passes 59 = .ok (.getfield 9, 3) := dk_180 0 9 (dk_at dksX4_passes_2 13 rfl rfl)
theorem dX4_passes_62 : decode cX4_passes 62 = .ok (.bipush 6, 2) := dk_16 6 (dk_at dksX4_passes_2 16 rfl rfl)
theorem dX4_passes_64 : decode cX4_passes 64 = .ok (.dup2, 1) := dk_92 (dk_at dksX4_passes_2 18 rfl rfl)
theorem dX4_passes_65 : decode cX4_passes 65 = .ok (.iaload, 1) := dk_46 (dk_at dksX4_passes_2 19 rfl rfl)
theorem dX4_passes_66 : decode cX4_passes 66 = .ok (.iload_n 3, 1) := dk_29 (dk_at dksX4_passes_2 20 rfl rfl)
theorem dX4_passes_67 : decode cX4_passes 67 = .ok (.iadd, 1) := dk_96 (dk_at dksX4_passes_2 21 rfl rfl)
theorem dX4_passes_68 : decode cX4_passes 68 = .ok (.iastore, 1) := dk_79 (dk_at dksX4_passes_2 22 rfl rfl)
theorem dX4_passes_69 : decode cX4_passes 69 = .ok (.aload_n 0, 1) := dk_42 (dk_at dksX4_passes_2 23 rfl rfl)
theorem dX4_passes_70 : decode cX4_passes 70 = .ok (.getfield 9, 3) := dk_180 0 9 (dk_at dksX4_passes_3 0 rfl rfl)
theorem dX4_passes_73 : decode cX4_passes 73 = .ok (.bipush 7, 2) := dk_16 7 (dk_at dksX4_passes_3 3 rfl rfl)
theorem dX4_passes_75 : decode cX4_passes 75 = .ok (.dup2, 1) := dk_92 (dk_at dksX4_passes_3 5 rfl rfl)
theorem dX4_passes_76 : decode cX4_passes 76 = .ok (.iaload, 1) := dk_46 (dk_at dksX4_passes_3 6 rfl rfl)
theorem dX4_passes_77 : decode cX4_passes 77 = .ok (.iload 6, 2) := dk_21 6 (dk_at dksX4_passes_3 7 rfl rfl)
theorem dX4_passes_79 : decode cX4_passes 79 = .ok (.iadd, 1) := dk_96 (dk_at dksX4_passes_3 9 rfl rfl)
theorem dX4_passes_80 : decode cX4_passes 80 = .ok (.iastore, 1) := dk_79 (dk_at dksX4_passes_3 10 rfl rfl)
theorem dX4_passes_81 : decode cX4_passes 81 = .ok (.aload_n 0, 1) := dk_42 (dk_at dksX4_passes_3 11 rfl rfl)
theorem dX4_passes_82 : decode cX4_passes 82 = .ok (.getfield 9, 3) := dk_180 0 9 (dk_at dksX4_passes_3 12 rfl rfl)
theorem dX4_passes_85 : decode cX4_passes 85 = .ok (.bipush 8, 2) := dk_16 8 (dk_at dksX4_passes_3 15 rfl rfl)
theorem dX4_passes_87 : decode cX4_passes 87 = .ok (.dup2, 1) := dk_92 (dk_at dksX4_passes_3 17 rfl rfl)
theorem dX4_passes_88 : decode cX4_passes 88 = .ok (.iaload, 1) := dk_46 (dk_at dksX4_passes_3 18 rfl rfl)
theorem dX4_passes_89 : decode cX4_passes 89 = .ok (.iload 6, 2) := dk_21 6 (dk_at dksX4_passes_3 19 rfl rfl)
theorem dX4_passes_91 : decode cX4_passes 91 = .ok (.aload_n 0, 1) := dk_42 (dk_at dksX4_passes_3 21 rfl rfl)
theorem dX4_passes_92 : decode cX4_passes 92 = .ok (.iload_n 1, 1) := dk_27 (dk_at dksX4_passes_3 22 rfl rfl)
theorem dX4_passes_93 : decode cX4_passes 93 = .ok (.invokevirtual 147, 3) := dk_182 0 147 (dk_at dksX4_passes_4 0 rfl rfl)
theorem dX4_passes_96 : decode cX4_passes 96 = .ok (.imul, 1) := dk_104 (dk_at dksX4_passes_4 3 rfl rfl)
theorem dX4_passes_97 : decode cX4_passes 97 = .ok (.iload 5, 2) := dk_21 5 (dk_at dksX4_passes_4 4 rfl rfl)
theorem dX4_passes_99 : decode cX4_passes 99 = .ok (.iload 6, 2) := dk_21 6 (dk_at dksX4_passes_4 6 rfl rfl)
theorem dX4_passes_101 : decode cX4_passes 101 = .ok (.isub, 1) := dk_100 (dk_at dksX4_passes_4 8 rfl rfl)
theorem dX4_passes_102 : decode cX4_passes 102 = .ok (.aload_n 0, 1) := dk_42 (dk_at dksX4_passes_4 9 rfl rfl)
theorem dX4_passes_103 : decode cX4_passes 103 = .ok (.iload_n 1, 1) := dk_27 (dk_at dksX4_passes_4 10 rfl rfl)
theorem dX4_passes_104 : decode cX4_passes 104 = .ok (.invokevirtual 147, 3) := dk_182 0 147 (dk_at dksX4_passes_4 11 rfl rfl)
theorem dX4_passes_107 : decode cX4_passes 107 = .ok (.imul, 1) := dk_104 (dk_at dksX4_passes_4 14 rfl rfl)
theorem dX4_passes_108 : decode cX4_passes 108 = .ok (.isub, 1) := dk_100 (dk_at dksX4_passes_4 15 rfl rfl)
theorem dX4_passes_109 : decode cX4_passes 109 = .ok (.iadd, 1) := dk_96 (dk_at dksX4_passes_4 16 rfl rfl)
theorem dX4_passes_110 : decode cX4_passes 110 = .ok (.iastore, 1) := dk_79 (dk_at dksX4_passes_4 17 rfl rfl)
theorem dX4_passes_111 : decode cX4_passes 111 = .ok (.iconst 0, 1) := dk_3 (dk_at dksX4_passes_4 18 rfl rfl)
theorem dX4_passes_112 : decode cX4_passes 112 = .ok (.istore 7, 2) := dk_54 7 (dk_at dksX4_passes_4 19 rfl rfl)
theorem dX4_passes_114 : decode cX4_passes 114 = .ok (.iload 7, 2) := dk_21 7 (dk_at dksX4_passes_4 21 rfl rfl)
theorem dX4_passes_116 : decode cX4_passes 116 = .ok (.aload_n 0, 1) := dk_42 (dk_at dksX4_passes_4 23 rfl rfl)
theorem dX4_passes_117 : decode cX4_passes 117 = .ok (.getfield 9, 3) := dk_180 0 9 (dk_at dksX4_passes_5 0 rfl rfl)
theorem dX4_passes_120 : decode cX4_passes 120 = .ok (.iconst 0, 1) := dk_3 (dk_at dksX4_passes_5 3 rfl rfl)
theorem dX4_passes_121 : decode cX4_passes 121 = .ok (.iaload, 1) := dk_46 (dk_at dksX4_passes_5 4 rfl rfl)
theorem dX4_passes_122 : decode cX4_passes 122 = .ok (.if_icmp .ge 61, 3) := dk_162 0 61 (dk_at dksX4_passes_5 5 rfl rfl)
theorem dX4_passes_125 : decode cX4_passes 125 = .ok (.aload_n 0, 1) := dk_42 (dk_at dksX4_passes_5 8 rfl rfl)
theorem dX4_passes_126 : decode cX4_passes 126 = .ok (.iload 7, 2) := dk_21 7 (dk_at dksX4_passes_5 9 rfl rfl)
theorem dX4_passes_128 : decode cX4_passes 128 = .ok (.iconst 3, 1) := dk_6 (dk_at dksX4_passes_5 11 rfl rfl)
theorem dX4_passes_129 : decode cX4_passes 129 = .ok (.invokevirtual 57, 3) := dk_182 0 57 (dk_at dksX4_passes_5 12 rfl rfl)
theorem dX4_passes_132 : decode cX4_passes 132 = .ok (.iconst 2, 1) := dk_5 (dk_at dksX4_passes_5 15 rfl rfl)
theorem dX4_passes_133 : decode cX4_passes 133 = .ok (.if_icmp .eq 6, 3) := dk_159 0 6 (dk_at dksX4_passes_5 16 rfl rfl)
theorem dX4_passes_136 : decode cX4_passes 136 = .ok (.goto 41, 3) := dk_167 0 41 (dk_at dksX4_passes_5 19 rfl rfl)
theorem dX4_passes_139 : decode cX4_passes 139 = .ok (.aload_n 0, 1) := dk_42 (dk_at dksX4_passes_5 22 rfl rfl)
theorem dX4_passes_140 : decode cX4_passes 140 = .ok (.iload 7, 2) := dk_21 7 (dk_at dksX4_passes_6 0 rfl rfl)
theorem dX4_passes_142 : decode cX4_passes 142 = .ok (.iconst 4, 1) := dk_7 (dk_at dksX4_passes_6 2 rfl rfl)
theorem dX4_passes_143 : decode cX4_passes 143 = .ok (.aload_n 0, 1) := dk_42 (dk_at dksX4_passes_6 3 rfl rfl)
theorem dX4_passes_144 : decode cX4_passes 144 = .ok (.iload 7, 2) := dk_21 7 (dk_at dksX4_passes_6 4 rfl rfl)
theorem dX4_passes_146 : decode cX4_passes 146 = .ok (.iconst 4, 1) := dk_7 (dk_at dksX4_passes_6 6 rfl rfl)
theorem dX4_passes_147 : decode cX4_passes 147 = .ok (.invokevirtual 57, 3) := dk_182 0 57 (dk_at dksX4_passes_6 7 rfl rfl)
theorem dX4_passes_150 : decode cX4_passes 150 = .ok (.iconst 1, 1) := dk_4 (dk_at dksX4_passes_6 10 rfl rfl)
theorem dX4_passes_151 : decode cX4_passes 151 = .ok (.isub, 1) := dk_100 (dk_at dksX4_passes_6 11 rfl rfl)
theorem dX4_passes_152 : decode cX4_passes 152 = .ok (.invokevirtual 88, 3) := dk_182 0 88 (dk_at dksX4_passes_6 12 rfl rfl)
theorem dX4_passes_155 : decode cX4_passes 155 = .ok (.aload_n 0, 1) := dk_42 (dk_at dksX4_passes_6 15 rfl rfl)
theorem dX4_passes_156 : decode cX4_passes 156 = .ok (.iload 7, 2) := dk_21 7 (dk_at dksX4_passes_6 16 rfl rfl)
theorem dX4_passes_158 : decode cX4_passes 158 = .ok (.iconst 3, 1) := dk_6 (dk_at dksX4_passes_6 18 rfl rfl)
theorem dX4_passes_159 : decode cX4_passes 159 = .ok (.aload_n 0, 1) := dk_42 (dk_at dksX4_passes_6 19 rfl rfl)
theorem dX4_passes_160 : decode cX4_passes 160 = .ok (.iload 7, 2) := dk_21 7 (dk_at dksX4_passes_6 20 rfl rfl)
theorem dX4_passes_162 : decode cX4_passes 162 = .ok (.iconst 4, 1) := dk_7 (dk_at dksX4_passes_6 22 rfl rfl)
theorem dX4_passes_163 : decode cX4_passes 163 = .ok (.invokevirtual 57, 3) := dk_182 0 57 (dk_at dksX4_passes_7 0 rfl rfl)
theorem dX4_passes_166 : decode cX4_passes 166 = .ok (.ifCond .ne 7, 3) := dk_154 0 7 (dk_at dksX4_passes_7 3 rfl rfl)
theorem dX4_passes_169 : decode cX4_passes 169 = .ok (.iconst 0, 1) := dk_3 (dk_at dksX4_passes_7 6 rfl rfl)
theorem dX4_passes_170 : decode cX4_passes 170 = .ok (.goto 4, 3) := dk_167 0 4 (dk_at dksX4_passes_7 7 rfl rfl)
theorem dX4_passes_173 : decode cX4_passes 173 = .ok (.iconst 2, 1) := dk_5 (dk_at dksX4_passes_7 10 rfl rfl)
theorem dX4_passes_174 : decode cX4_passes 174 = .ok (.invokevirtual 88, 3) := dk_182 0 88 (dk_at dksX4_passes_7 11 rfl rfl)
theorem dX4_passes_177 : decode cX4_passes 177 = .ok (.iinc 7 1, 3) := dk_132 7 1 (dk_at dksX4_passes_7 14 rfl rfl)
theorem dX4_passes_180 : decode cX4_passes 180 = .ok (.goto (-66), 3) := dk_167 255 190 (dk_at dksX4_passes_7 17 rfl rfl)
theorem dX4_passes_183 : decode cX4_passes 183 = .ok (.aload_n 0, 1) := dk_42 (dk_at dksX4_passes_7 20 rfl rfl)
theorem dX4_passes_184 : decode cX4_passes 184 = .ok (.getfield 9, 3) := dk_180 0 9 (dk_at dksX4_passes_7 21 rfl rfl)
theorem dX4_passes_187 : decode cX4_passes 187 = .ok (.iconst 4, 1) := dk_7 (dk_at dksX4_passes_8 0 rfl rfl)
theorem dX4_passes_188 : decode cX4_passes 188 = .ok (.dup2, 1) := dk_92 (dk_at dksX4_passes_8 1 rfl rfl)
theorem dX4_passes_189 : decode cX4_passes 189 = .ok (.iaload, 1) := dk_46 (dk_at dksX4_passes_8 2 rfl rfl)
theorem dX4_passes_190 : decode cX4_passes 190 = .ok (.iconst 1, 1) := dk_4 (dk_at dksX4_passes_8 3 rfl rfl)
theorem dX4_passes_191 : decode cX4_passes 191 = .ok (.iadd, 1) := dk_96 (dk_at dksX4_passes_8 4 rfl rfl)
theorem dX4_passes_192 : decode cX4_passes 192 = .ok (.iastore, 1) := dk_79 (dk_at dksX4_passes_8 5 rfl rfl)
theorem dX4_passes_193 : decode cX4_passes 193 = .ok (.return_, 1) := dk_177 (dk_at dksX4_passes_8 6 rfl rfl)
abbrev cX4_turbineCount : ByteArray := prog_20_method_58_code
def yX4_turbineCount : MethodName := ⟨RX4, "turbineCount", "()I"⟩
def dkwX4_turbineCount_0 : List UInt8 := [42, 3, 181, 0, 27, 42, 180, 0, 9, 3, 46, 172]
abbrev dktX4_turbineCount_0 : List UInt8 := dkwX4_turbineCount_0 ++ []
theorem dksX4_turbineCount_0 : cX4_turbineCount.data.toList.drop 0 = dktX4_turbineCount_0 := by decide +kernel
theorem dX4_turbineCount_0 : decode cX4_turbineCount 0 = .ok (.aload_n 0, 1) := dk_42 (dk_at dksX4_turbineCount_0 0 rfl rfl)
theorem dX4_turbineCount_1 : decode cX4_turbineCount 1 = .ok (.iconst 0, 1) := dk_3 (dk_at dksX4_turbineCount_0 1 rfl rfl)
theorem dX4_turbineCount_2 : decode cX4_turbineCount 2 = .ok (.putfield 27, 3) := dk_181 0 27 (dk_at dksX4_turbineCount_0 2 rfl rfl)
theorem dX4_turbineCount_5 : decode cX4_turbineCount 5 = .ok (.aload_n 0, 1) := dk_42 (dk_at dksX4_turbineCount_0 5 rfl rfl)
theorem dX4_turbineCount_6 : decode cX4_turbineCount 6 = .ok (.getfield 9, 3) := dk_180 0 9 (dk_at dksX4_turbineCount_0 6 rfl rfl)
theorem dX4_turbineCount_9 : decode cX4_turbineCount 9 = .ok (.iconst 0, 1) := dk_3 (dk_at dksX4_turbineCount_0 9 rfl rfl)
theorem dX4_turbineCount_10 : decode cX4_turbineCount 10 = .ok (.iaload, 1) := dk_46 (dk_at dksX4_turbineCount_0 10 rfl rfl)
theorem dX4_turbineCount_11 : decode cX4_turbineCount 11 = .ok (.ireturn, 1) := dk_172 (dk_at dksX4_turbineCount_0 11 rfl rfl)
abbrev cX4_turbineAt : ByteArray := prog_20_method_59_code
def yX4_turbineAt : MethodName := ⟨RX4, "turbineAt", "(II)I"⟩
def dkwX4_turbineAt_1 : List UInt8 := [5, 167, 0, 4, 3, 181, 0, 27, 42, 180, 0, 27, 154, 0, 7, 29, 167, 0, 4, 3, 172]
abbrev dktX4_turbineAt_1 : List UInt8 := dkwX4_turbineAt_1 ++ []
def dkwX4_turbineAt_0 : List UInt8 := [42, 27, 28, 182, 0, 61, 62, 42, 27, 28, 184, 0, 80, 154, 0, 7, 4, 167, 0, 12, 29, 156, 0, 7]
abbrev dktX4_turbineAt_0 : List UInt8 := dkwX4_turbineAt_0 ++ dktX4_turbineAt_1
theorem dksX4_turbineAt_0 : cX4_turbineAt.data.toList.drop 0 = dktX4_turbineAt_0 := by decide +kernel
theorem dksX4_turbineAt_1 : cX4_turbineAt.data.toList.drop 24 = dktX4_turbineAt_1 := dk_seg dksX4_turbineAt_0 24 rfl rfl
theorem dX4_turbineAt_0 : decode cX4_turbineAt 0 = .ok (.aload_n 0, 1) := dk_42 (dk_at dksX4_turbineAt_0 0 rfl rfl)
theorem dX4_turbineAt_1 : decode cX4_turbineAt 1 = .ok (.iload_n 1, 1) := dk_27 (dk_at dksX4_turbineAt_0 1 rfl rfl)
theorem dX4_turbineAt_2 : decode cX4_turbineAt 2 = .ok (.iload_n 2, 1) := dk_28 (dk_at dksX4_turbineAt_0 2 rfl rfl)
theorem dX4_turbineAt_3 : decode cX4_turbineAt 3 = .ok (.invokevirtual 61, 3) := dk_182 0 61 (dk_at dksX4_turbineAt_0 3 rfl rfl)
theorem dX4_turbineAt_6 : decode cX4_turbineAt 6 = .ok (.istore_n 3, 1) := dk_62 (dk_at dksX4_turbineAt_0 6 rfl rfl)
theorem dX4_turbineAt_7 : decode cX4_turbineAt 7 = .ok (.aload_n 0, 1) := dk_42 (dk_at dksX4_turbineAt_0 7 rfl rfl)
theorem dX4_turbineAt_8 : decode cX4_turbineAt 8 = .ok (.iload_n 1, 1) := dk_27 (dk_at dksX4_turbineAt_0 8 rfl rfl)
theorem dX4_turbineAt_9 : decode cX4_turbineAt 9 = .ok (.iload_n 2, 1) := dk_28 (dk_at dksX4_turbineAt_0 9 rfl rfl)
theorem dX4_turbineAt_10 : decode cX4_turbineAt 10 = .ok (.invokestatic 80, 3) := dk_184 0 80 (dk_at dksX4_turbineAt_0 10 rfl rfl)
theorem dX4_turbineAt_13 : decode cX4_turbineAt 13 = .ok (.ifCond .ne 7, 3) := dk_154 0 7 (dk_at dksX4_turbineAt_0 13 rfl rfl)
theorem dX4_turbineAt_16 : decode cX4_turbineAt 16 = .ok (.iconst 1, 1) := dk_4 (dk_at dksX4_turbineAt_0 16 rfl rfl)
theorem dX4_turbineAt_17 : decode cX4_turbineAt 17 = .ok (.goto 12, 3) := dk_167 0 12 (dk_at dksX4_turbineAt_0 17 rfl rfl)
theorem dX4_turbineAt_20 : decode cX4_turbineAt 20 = .ok (.iload_n 3, 1) := dk_29 (dk_at dksX4_turbineAt_0 20 rfl rfl)
theorem dX4_turbineAt_21 : decode cX4_turbineAt 21 = .ok (.ifCond .ge 7, 3) := dk_156 0 7 (dk_at dksX4_turbineAt_0 21 rfl rfl)
theorem dX4_turbineAt_24 : decode cX4_turbineAt 24 = .ok (.iconst 2, 1) := dk_5 (dk_at dksX4_turbineAt_1 0 rfl rfl)
theorem dX4_turbineAt_25 : decode cX4_turbineAt 25 = .ok (.goto 4, 3) := dk_167 0 4 (dk_at dksX4_turbineAt_1 1 rfl rfl)
theorem dX4_turbineAt_28 : decode cX4_turbineAt 28 = .ok (.iconst 0, 1) := dk_3 (dk_at dksX4_turbineAt_1 4 rfl rfl)
theorem dX4_turbineAt_29 : decode cX4_turbineAt 29 = .ok (.putfield 27, 3) := dk_181 0 27 (dk_at dksX4_turbineAt_1 5 rfl rfl)
theorem dX4_turbineAt_32 : decode cX4_turbineAt 32 = .ok (.aload_n 0, 1) := dk_42 (dk_at dksX4_turbineAt_1 8 rfl rfl)
theorem dX4_turbineAt_33 : decode cX4_turbineAt 33 = .ok (.getfield 27, 3) := dk_180 0 27 (dk_at dksX4_turbineAt_1 9 rfl rfl)
theorem dX4_turbineAt_36 : decode cX4_turbineAt 36 = .ok (.ifCond .ne 7, 3) := dk_154 0 7 (dk_at dksX4_turbineAt_1 12 rfl rfl)
theorem dX4_turbineAt_39 : decode cX4_turbineAt 39 = .ok (.iload_n 3, 1) := dk_29 (dk_at dksX4_turbineAt_1 15 rfl rfl)
theorem dX4_turbineAt_40 : decode cX4_turbineAt 40 = .ok (.goto 4, 3) := dk_167 0 4 (dk_at dksX4_turbineAt_1 16 rfl rfl)
theorem dX4_turbineAt_43 : decode cX4_turbineAt 43 = .ok (.iconst 0, 1) := dk_3 (dk_at dksX4_turbineAt_1 19 rfl rfl)
theorem dX4_turbineAt_44 : decode cX4_turbineAt 44 = .ok (.ireturn, 1) := dk_172 (dk_at dksX4_turbineAt_1 20 rfl rfl)
abbrev cX4_rowOf : ByteArray := prog_20_method_61_code
def yX4_rowOf : MethodName := ⟨RX4, "rowOf", "(I)I"⟩
def dkwX4_rowOf_0 : List UInt8 := [42, 27, 3, 182, 0, 171, 172]
abbrev dktX4_rowOf_0 : List UInt8 := dkwX4_rowOf_0 ++ []
theorem dksX4_rowOf_0 : cX4_rowOf.data.toList.drop 0 = dktX4_rowOf_0 := by decide +kernel
theorem dX4_rowOf_0 : decode cX4_rowOf 0 = .ok (.aload_n 0, 1) := dk_42 (dk_at dksX4_rowOf_0 0 rfl rfl)
theorem dX4_rowOf_1 : decode cX4_rowOf 1 = .ok (.iload_n 1, 1) := dk_27 (dk_at dksX4_rowOf_0 1 rfl rfl)
theorem dX4_rowOf_2 : decode cX4_rowOf 2 = .ok (.iconst 0, 1) := dk_3 (dk_at dksX4_rowOf_0 2 rfl rfl)
theorem dX4_rowOf_3 : decode cX4_rowOf 3 = .ok (.invokevirtual 171, 3) := dk_182 0 171 (dk_at dksX4_rowOf_0 3 rfl rfl)
theorem dX4_rowOf_6 : decode cX4_rowOf 6 = .ok (.ireturn, 1) := dk_172 (dk_at dksX4_rowOf_0 6 rfl rfl)
abbrev cX4_ofTurbine : ByteArray := prog_20_method_60_code
def yX4_ofTurbine : MethodName := ⟨RX4, "ofTurbine", "(II)I"⟩
def dkwX4_ofTurbine_0 : List UInt8 := [42, 42, 27, 182, 0, 103, 182, 0, 49, 153, 0, 12, 42, 27, 28, 182, 0, 57, 167, 0, 4, 3, 172]
abbrev dktX4_ofTurbine_0 : List UInt8 := dkwX4_ofTurbine_0 ++ []
theorem dksX4_ofTurbine_0 : cX4_ofTurbine.data.toList.drop 0 = dktX4_ofTurbine_0 := by decide +kernel
theorem dX4_ofTurbine_0 : decode cX4_ofTurbine 0 = .ok (.aload_n 0, 1) := dk_42 (dk_at dksX4_ofTurbine_0 0 rfl rfl)
theorem dX4_ofTurbine_1 : decode cX4_ofTurbine 1 = .ok (.aload_n 0, 1) := dk_42 (dk_at dksX4_ofTurbine_0 1 rfl rfl)
theorem dX4_ofTurbine_2 : decode cX4_ofTurbine 2 = .ok (.iload_n 1, 1) := dk_27 (dk_at dksX4_ofTurbine_0 2 rfl rfl)
theorem dX4_ofTurbine_3 : decode cX4_ofTurbine 3 = .ok (.invokevirtual 103, 3) := dk_182 0 103 (dk_at dksX4_ofTurbine_0 3 rfl rfl)
theorem dX4_ofTurbine_6 : decode cX4_ofTurbine 6 = .ok (.invokevirtual 49, 3) := dk_182 0 49 (dk_at dksX4_ofTurbine_0 6 rfl rfl)
theorem dX4_ofTurbine_9 : decode cX4_ofTurbine 9 = .ok (.ifCond .eq 12, 3) := dk_153 0 12 (dk_at dksX4_ofTurbine_0 9 rfl rfl)
theorem dX4_ofTurbine_12 : decode cX4_ofTurbine 12 = .ok (.aload_n 0, 1) := dk_42 (dk_at dksX4_ofTurbine_0 12 rfl rfl)
theorem dX4_ofTurbine_13 : decode cX4_ofTurbine 13 = .ok (.iload_n 1, 1) := dk_27 (dk_at dksX4_ofTurbine_0 13 rfl rfl)
theorem dX4_ofTurbine_14 : decode cX4_ofTurbine 14 = .ok (.iload_n 2, 1) := dk_28 (dk_at dksX4_ofTurbine_0 14 rfl rfl)
theorem dX4_ofTurbine_15 : decode cX4_ofTurbine 15 = .ok (.invokevirtual 57, 3) := dk_182 0 57 (dk_at dksX4_ofTurbine_0 15 rfl rfl)
theorem dX4_ofTurbine_18 : decode cX4_ofTurbine 18 = .ok (.goto 4, 3) := dk_167 0 4 (dk_at dksX4_ofTurbine_0 18 rfl rfl)
theorem dX4_ofTurbine_21 : decode cX4_ofTurbine 21 = .ok (.iconst 0, 1) := dk_3 (dk_at dksX4_ofTurbine_0 21 rfl rfl)
theorem dX4_ofTurbine_22 : decode cX4_ofTurbine 22 = .ok (.ireturn, 1) := dk_172 (dk_at dksX4_ofTurbine_0 22 rfl rfl)
abbrev cX4_columnOf : ByteArray := prog_20_method_62_code
def yX4_columnOf : MethodName := ⟨RX4, "columnOf", "(I)I"⟩
def dkwX4_columnOf_0 : List UInt8 := [42, 27, 4, 182, 0, 171, 172]
abbrev dktX4_columnOf_0 : List UInt8 := dkwX4_columnOf_0 ++ []
theorem dksX4_columnOf_0 : cX4_columnOf.data.toList.drop 0 = dktX4_columnOf_0 := by decide +kernel
theorem dX4_columnOf_0 : decode cX4_columnOf 0 = .ok (.aload_n 0, 1) := dk_42 (dk_at dksX4_columnOf_0 0 rfl rfl)
theorem dX4_columnOf_1 : decode cX4_columnOf 1 = .ok (.iload_n 1, 1) := dk_27 (dk_at dksX4_columnOf_0 1 rfl rfl)
theorem dX4_columnOf_2 : decode cX4_columnOf 2 = .ok (.iconst 1, 1) := dk_4 (dk_at dksX4_columnOf_0 2 rfl rfl)
theorem dX4_columnOf_3 : decode cX4_columnOf 3 = .ok (.invokevirtual 171, 3) := dk_182 0 171 (dk_at dksX4_columnOf_0 3 rfl rfl)
theorem dX4_columnOf_6 : decode cX4_columnOf 6 = .ok (.ireturn, 1) := dk_172 (dk_at dksX4_columnOf_0 6 rfl rfl)
abbrev cX4_ratedPower : ByteArray := prog_20_method_63_code
def yX4_ratedPower : MethodName := ⟨RX4, "ratedPower", "(I)I"⟩
def dkwX4_ratedPower_0 : List UInt8 := [42, 27, 5, 182, 0, 171, 172]
abbrev dktX4_ratedPower_0 : List UInt8 := dkwX4_ratedPower_0 ++ []
theorem dksX4_ratedPower_0 : cX4_ratedPower.data.toList.drop 0 = dktX4_ratedPower_0 := by decide +kernel
theorem dX4_ratedPower_0 : decode cX4_ratedPower 0 = .ok (.aload_n 0, 1) := dk_42 (dk_at dksX4_ratedPower_0 0 rfl rfl)
theorem dX4_ratedPower_1 : decode cX4_ratedPower 1 = .ok (.iload_n 1, 1) := dk_27 (dk_at dksX4_ratedPower_0 1 rfl rfl)
theorem dX4_ratedPower_2 : decode cX4_ratedPower 2 = .ok (.iconst 2, 1) := dk_5 (dk_at dksX4_ratedPower_0 2 rfl rfl)
theorem dX4_ratedPower_3 : decode cX4_ratedPower 3 = .ok (.invokevirtual 171, 3) := dk_182 0 171 (dk_at dksX4_ratedPower_0 3 rfl rfl)
theorem dX4_ratedPower_6 : decode cX4_ratedPower 6 = .ok (.ireturn, 1) := dk_172 (dk_at dksX4_ratedPower_0 6 rfl rfl)
abbrev cX4_isRunning : ByteArray := prog_20_method_64_code
def yX4_isRunning : MethodName := ⟨RX4, "isRunning", "(I)Z"⟩
def dkwX4_isRunning_1 : List UInt8 := [167, 0, 4, 3, 172]
abbrev dktX4_isRunning_1 : List UInt8 := dkwX4_isRunning_1 ++ []
def dkwX4_isRunning_0 : List UInt8 := [42, 42, 27, 182, 0, 103, 182, 0, 49, 153, 0, 16, 42, 27, 6, 182, 0, 57, 154, 0, 7, 4]
abbrev dktX4_isRunning_0 : List UInt8 := dkwX4_isRunning_0 ++ dktX4_isRunning_1
theorem dksX4_isRunning_0 : cX4_isRunning.data.toList.drop 0 = dktX4_isRunning_0 := by decide +kernel
theorem dksX4_isRunning_1 : cX4_isRunning.data.toList.drop 22 = dktX4_isRunning_1 := dk_seg dksX4_isRunning_0 22 rfl rfl
theorem dX4_isRunning_0 : decode cX4_isRunning 0 = .ok (.aload_n 0, 1) := dk_42 (dk_at dksX4_isRunning_0 0 rfl rfl)
theorem dX4_isRunning_1 : decode cX4_isRunning 1 = .ok (.aload_n 0, 1) := dk_42 (dk_at dksX4_isRunning_0 1 rfl rfl)
theorem dX4_isRunning_2 : decode cX4_isRunning 2 = .ok (.iload_n 1, 1) := dk_27 (dk_at dksX4_isRunning_0 2 rfl rfl)
theorem dX4_isRunning_3 : decode cX4_isRunning 3 = .ok (.invokevirtual 103, 3) := dk_182 0 103 (dk_at dksX4_isRunning_0 3 rfl rfl)
theorem dX4_isRunning_6 : decode cX4_isRunning 6 = .ok (.invokevirtual 49, 3) := dk_182 0 49 (dk_at dksX4_isRunning_0 6 rfl rfl)
theorem dX4_isRunning_9 : decode cX4_isRunning 9 = .ok (.ifCond .eq 16, 3) := dk_153 0 16 (dk_at dksX4_isRunning_0 9 rfl rfl)
theorem dX4_isRunning_12 : decode cX4_isRunning 12 = .ok (.aload_n 0, 1) := dk_42 (dk_at dksX4_isRunning_0 12 rfl rfl)
theorem dX4_isRunning_13 : decode cX4_isRunning 13 = .ok (.iload_n 1, 1) := dk_27 (dk_at dksX4_isRunning_0 13 rfl rfl)
theorem dX4_isRunning_14 : decode cX4_isRunning 14 = .ok (.iconst 3, 1) := dk_6 (dk_at dksX4_isRunning_0 14 rfl rfl)
theorem dX4_isRunning_15 : decode cX4_isRunning 15 = .ok (.invokevirtual 57, 3) := dk_182 0 57 (dk_at dksX4_isRunning_0 15 rfl rfl)
theorem dX4_isRunning_18 : decode cX4_isRunning 18 = .ok (.ifCond .ne 7, 3) := dk_154 0 7 (dk_at dksX4_isRunning_0 18 rfl rfl)
theorem dX4_isRunning_21 : decode cX4_isRunning 21 = .ok (.iconst 1, 1) := dk_4 (dk_at dksX4_isRunning_0 21 rfl rfl)
theorem dX4_isRunning_22 : decode cX4_isRunning 22 = .ok (.goto 4, 3) := dk_167 0 4 (dk_at dksX4_isRunning_1 0 rfl rfl)
theorem dX4_isRunning_25 : decode cX4_isRunning 25 = .ok (.iconst 0, 1) := dk_3 (dk_at dksX4_isRunning_1 3 rfl rfl)
theorem dX4_isRunning_26 : decode cX4_isRunning 26 = .ok (.ireturn, 1) := dk_172 (dk_at dksX4_isRunning_1 4 rfl rfl)
abbrev cX4_isFailed : ByteArray := prog_20_method_65_code
def yX4_isFailed : MethodName := ⟨RX4, "isFailed", "(I)Z"⟩
def dkwX4_isFailed_0 : List UInt8 := [42, 27, 6, 182, 0, 171, 4, 160, 0, 7, 4, 167, 0, 4, 3, 172]
abbrev dktX4_isFailed_0 : List UInt8 := dkwX4_isFailed_0 ++ []
theorem dksX4_isFailed_0 : cX4_isFailed.data.toList.drop 0 = dktX4_isFailed_0 := by decide +kernel
theorem dX4_isFailed_0 : decode cX4_isFailed 0 = .ok (.aload_n 0, 1) := dk_42 (dk_at dksX4_isFailed_0 0 rfl rfl)
theorem dX4_isFailed_1 : decode cX4_isFailed 1 = .ok (.iload_n 1, 1) := dk_27 (dk_at dksX4_isFailed_0 1 rfl rfl)
theorem dX4_isFailed_2 : decode cX4_isFailed 2 = .ok (.iconst 3, 1) := dk_6 (dk_at dksX4_isFailed_0 2 rfl rfl)
theorem dX4_isFailed_3 : decode cX4_isFailed 3 = .ok (.invokevirtual 171, 3) := dk_182 0 171 (dk_at dksX4_isFailed_0 3 rfl rfl)
theorem dX4_isFailed_6 : decode cX4_isFailed 6 = .ok (.iconst 1, 1) := dk_4 (dk_at dksX4_isFailed_0 6 rfl rfl)
theorem dX4_isFailed_7 : decode cX4_isFailed 7 = .ok (.if_icmp .ne 7, 3) := dk_160 0 7 (dk_at dksX4_isFailed_0 7 rfl rfl)
theorem dX4_isFailed_10 : decode cX4_isFailed 10 = .ok (.iconst 1, 1) := dk_4 (dk_at dksX4_isFailed_0 10 rfl rfl)
theorem dX4_isFailed_11 : decode cX4_isFailed 11 = .ok (.goto 4, 3) := dk_167 0 4 (dk_at dksX4_isFailed_0 11 rfl rfl)
theorem dX4_isFailed_14 : decode cX4_isFailed 14 = .ok (.iconst 0, 1) := dk_3 (dk_at dksX4_isFailed_0 14 rfl rfl)
theorem dX4_isFailed_15 : decode cX4_isFailed 15 = .ok (.ireturn, 1) := dk_172 (dk_at dksX4_isFailed_0 15 rfl rfl)
abbrev cX4_isInService : ByteArray := prog_20_method_66_code
def yX4_isInService : MethodName := ⟨RX4, "isInService", "(I)Z"⟩
def dkwX4_isInService_0 : List UInt8 := [42, 27, 6, 182, 0, 171, 5, 160, 0, 7, 4, 167, 0, 4, 3, 172]
abbrev dktX4_isInService_0 : List UInt8 := dkwX4_isInService_0 ++ []
theorem dksX4_isInService_0 : cX4_isInService.data.toList.drop 0 = dktX4_isInService_0 := by decide +kernel
theorem dX4_isInService_0 : decode cX4_isInService 0 = .ok (.aload_n 0, 1) := dk_42 (dk_at dksX4_isInService_0 0 rfl rfl)
theorem dX4_isInService_1 : decode cX4_isInService 1 = .ok (.iload_n 1, 1) := dk_27 (dk_at dksX4_isInService_0 1 rfl rfl)
theorem dX4_isInService_2 : decode cX4_isInService 2 = .ok (.iconst 3, 1) := dk_6 (dk_at dksX4_isInService_0 2 rfl rfl)
theorem dX4_isInService_3 : decode cX4_isInService 3 = .ok (.invokevirtual 171, 3) := dk_182 0 171 (dk_at dksX4_isInService_0 3 rfl rfl)
theorem dX4_isInService_6 : decode cX4_isInService 6 = .ok (.iconst 2, 1) := dk_5 (dk_at dksX4_isInService_0 6 rfl rfl)
theorem dX4_isInService_7 : decode cX4_isInService 7 = .ok (.if_icmp .ne 7, 3) := dk_160 0 7 (dk_at dksX4_isInService_0 7 rfl rfl)
theorem dX4_isInService_10 : decode cX4_isInService 10 = .ok (.iconst 1, 1) := dk_4 (dk_at dksX4_isInService_0 10 rfl rfl)
theorem dX4_isInService_11 : decode cX4_isInService 11 = .ok (.goto 4, 3) := dk_167 0 4 (dk_at dksX4_isInService_0 11 rfl rfl)
theorem dX4_isInService_14 : decode cX4_isInService 14 = .ok (.iconst 0, 1) := dk_3 (dk_at dksX4_isInService_0 14 rfl rfl)
theorem dX4_isInService_15 : decode cX4_isInService 15 = .ok (.ireturn, 1) := dk_172 (dk_at dksX4_isInService_0 15 rfl rfl)
abbrev cX4_limitOf : ByteArray := prog_20_method_67_code
def yX4_limitOf : MethodName := ⟨RX4, "limitOf", "(I)I"⟩
def dkwX4_limitOf_2 : List UInt8 := [167, 0, 4, 3, 172]
abbrev dktX4_limitOf_2 : List UInt8 := dkwX4_limitOf_2 ++ []
def dkwX4_limitOf_1 : List UInt8 := [167, 0, 4, 3, 181, 0, 27, 42, 180, 0, 27, 154, 0, 14, 42, 27, 8, 182, 0, 57, 4, 100]
abbrev dktX4_limitOf_1 : List UInt8 := dkwX4_limitOf_1 ++ dktX4_limitOf_2
def dkwX4_limitOf_0 : List UInt8 := [42, 42, 27, 182, 0, 103, 154, 0, 7, 4, 167, 0, 17, 42, 27, 8, 182, 0, 57, 154, 0, 7, 5]
abbrev dktX4_limitOf_0 : List UInt8 := dkwX4_limitOf_0 ++ dktX4_limitOf_1
theorem dksX4_limitOf_0 : cX4_limitOf.data.toList.drop 0 = dktX4_limitOf_0 := by decide +kernel
theorem dksX4_limitOf_1 : cX4_limitOf.data.toList.drop 23 = dktX4_limitOf_1 := dk_seg dksX4_limitOf_0 23 rfl rfl
theorem dksX4_limitOf_2 : cX4_limitOf.data.toList.drop 45 = dktX4_limitOf_2 := dk_seg dksX4_limitOf_1 22 rfl rfl
theorem dX4_limitOf_0 : decode cX4_limitOf 0 = .ok (.aload_n 0, 1) := dk_42 (dk_at dksX4_limitOf_0 0 rfl rfl)
theorem dX4_limitOf_1 : decode cX4_limitOf 1 = .ok (.aload_n 0, 1) := dk_42 (dk_at dksX4_limitOf_0 1 rfl rfl)
theorem dX4_limitOf_2 : decode cX4_limitOf 2 = .ok (.iload_n 1, 1) := dk_27 (dk_at dksX4_limitOf_0 2 rfl rfl)
theorem dX4_limitOf_3 : decode cX4_limitOf 3 = .ok (.invokevirtual 103, 3) := dk_182 0 103 (dk_at dksX4_limitOf_0 3 rfl rfl)
theorem dX4_limitOf_6 : decode cX4_limitOf 6 = .ok (.ifCond .ne 7, 3) := dk_154 0 7 (dk_at dksX4_limitOf_0 6 rfl rfl)
theorem dX4_limitOf_9 : decode cX4_limitOf 9 = .ok (.iconst 1, 1) := dk_4 (dk_at dksX4_limitOf_0 9 rfl rfl)
theorem dX4_limitOf_10 : decode cX4_limitOf 10 = .ok (.goto 17, 3) := dk_167 0 17 (dk_at dksX4_limitOf_0 10 rfl rfl)
theorem dX4_limitOf_13 : decode cX4_limitOf 13 = .ok (.aload_n 0, 1) := dk_42 (dk_at dksX4_limitOf_0 13 rfl rfl)
theorem dX4_limitOf_14 : decode cX4_limitOf 14 = .ok (.iload_n 1, 1) := dk_27 (dk_at dksX4_limitOf_0 14 rfl rfl)
theorem dX4_limitOf_15 : decode cX4_limitOf 15 = .ok (.iconst 5, 1) := dk_8 (dk_at dksX4_limitOf_0 15 rfl rfl)
theorem dX4_limitOf_16 : decode cX4_limitOf 16 = .ok (.invokevirtual 57, 3) := dk_182 0 57 (dk_at dksX4_limitOf_0 16 rfl rfl)
theorem dX4_limitOf_19 : decode cX4_limitOf 19 = .ok (.ifCond .ne 7, 3) := dk_154 0 7 (dk_at dksX4_limitOf_0 19 rfl rfl)
theorem dX4_limitOf_22 : decode cX4_limitOf 22 = .ok (.iconst 2, 1) := dk_5 (dk_at dksX4_limitOf_0 22 rfl rfl)
theorem dX4_limitOf_23 : decode cX4_limitOf 23 = .ok (.goto 4, 3) := dk_167 0 4 (dk_at dksX4_limitOf_1 0 rfl rfl)
theorem dX4_limitOf_26 : decode cX4_limitOf 26 = .ok (.iconst 0, 1) := dk_3 (dk_at dksX4_limitOf_1 3 rfl rfl)
theorem dX4_limitOf_27 : decode cX4_limitOf 27 = .ok (.putfield 27, 3) := dk_181 0 27 (dk_at dksX4_limitOf_1 4 rfl rfl)
theorem dX4_limitOf_30 : decode cX4_limitOf 30 = .ok (.aload_n 0, 1) := dk_42 (dk_at dksX4_limitOf_1 7 rfl rfl)
theorem dX4_limitOf_31 : decode cX4_limitOf 31 = .ok (.getfield 27, 3) := dk_180 0 27 (dk_at dksX4_limitOf_1 8 rfl rfl)
theorem dX4_limitOf_34 : decode cX4_limitOf 34 = .ok (.ifCond .ne 14, 3) := dk_154 0 14 (dk_at dksX4_limitOf_1 11 rfl rfl)
theorem dX4_limitOf_37 : decode cX4_limitOf 37 = .ok (.aload_n 0, 1) := dk_42 (dk_at dksX4_limitOf_1 14 rfl rfl)
theorem dX4_limitOf_38 : decode cX4_limitOf 38 = .ok (.iload_n 1, 1) := dk_27 (dk_at dksX4_limitOf_1 15 rfl rfl)
theorem dX4_limitOf_39 : decode cX4_limitOf 39 = .ok (.iconst 5, 1) := dk_8 (dk_at dksX4_limitOf_1 16 rfl rfl)
theorem dX4_limitOf_40 : decode cX4_limitOf 40 = .ok (.invokevirtual 57, 3) := dk_182 0 57 (dk_at dksX4_limitOf_1 17 rfl rfl)
theorem dX4_limitOf_43 : decode cX4_limitOf 43 = .ok (.iconst 1, 1) := dk_4 (dk_at dksX4_limitOf_1 20 rfl rfl)
theorem dX4_limitOf_44 : decode cX4_limitOf 44 = .ok (.isub, 1) := dk_100 (dk_at dksX4_limitOf_1 21 rfl rfl)
theorem dX4_limitOf_45 : decode cX4_limitOf 45 = .ok (.goto 4, 3) := dk_167 0 4 (dk_at dksX4_limitOf_2 0 rfl rfl)
theorem dX4_limitOf_48 : decode cX4_limitOf 48 = .ok (.iconst 0, 1) := dk_3 (dk_at dksX4_limitOf_2 3 rfl rfl)
theorem dX4_limitOf_49 : decode cX4_limitOf 49 = .ok (.ireturn, 1) := dk_172 (dk_at dksX4_limitOf_2 4 rfl rfl)
abbrev cX4_serviceHoursLeft : ByteArray := prog_20_method_68_code
def yX4_serviceHoursLeft : MethodName := ⟨RX4, "serviceHoursLeft", "(I)I"⟩
def dkwX4_serviceHoursLeft_2 : List UInt8 := [172]
abbrev dktX4_serviceHoursLeft_2 : List UInt8 := dkwX4_serviceHoursLeft_2 ++ []
def dkwX4_serviceHoursLeft_1 : List UInt8 := [167, 0, 4, 3, 181, 0, 27, 42, 180, 0, 27, 154, 0, 12, 42, 27, 7, 182, 0, 57, 167, 0, 4, 3]
abbrev dktX4_serviceHoursLeft_1 : List UInt8 := dkwX4_serviceHoursLeft_1 ++ dktX4_serviceHoursLeft_2
def dkwX4_serviceHoursLeft_0 : List UInt8 := [42, 42, 27, 182, 0, 103, 154, 0, 7, 4, 167, 0, 18, 42, 27, 6, 182, 0, 57, 5, 159, 0, 7, 5]
abbrev dktX4_serviceHoursLeft_0 : List UInt8 := dkwX4_serviceHoursLeft_0 ++ dktX4_serviceHoursLeft_1
theorem dksX4_serviceHoursLeft_0 : cX4_serviceHoursLeft.data.toList.drop 0 = dktX4_serviceHoursLeft_0 := by decide +kernel
theorem dksX4_serviceHoursLeft_1 : cX4_serviceHoursLeft.data.toList.drop 24 = dktX4_serviceHoursLeft_1 := dk_seg dksX4_serviceHoursLeft_0 24 rfl rfl
theorem dksX4_serviceHoursLeft_2 : cX4_serviceHoursLeft.data.toList.drop 48 = dktX4_serviceHoursLeft_2 := dk_seg dksX4_serviceHoursLeft_1 24 rfl rfl
theorem dX4_serviceHoursLeft_0 : decode cX4_serviceHoursLeft 0 = .ok (.aload_n 0, 1) := dk_42 (dk_at dksX4_serviceHoursLeft_0 0 rfl rfl)
theorem dX4_serviceHoursLeft_1 : decode cX4_serviceHoursLeft 1 = .ok (.aload_n 0, 1) := dk_42 (dk_at dksX4_serviceHoursLeft_0 1 rfl rfl)
theorem dX4_serviceHoursLeft_2 : decode cX4_serviceHoursLeft 2 = .ok (.iload_n 1, 1) := dk_27 (dk_at dksX4_serviceHoursLeft_0 2 rfl rfl)
theorem dX4_serviceHoursLeft_3 : decode cX4_serviceHoursLeft 3 = .ok (.invokevirtual 103, 3) := dk_182 0 103 (dk_at dksX4_serviceHoursLeft_0 3 rfl rfl)
theorem dX4_serviceHoursLeft_6 : decode cX4_serviceHoursLeft 6 = .ok (.ifCond .ne 7, 3) := dk_154 0 7 (dk_at dksX4_serviceHoursLeft_0 6 rfl rfl)
theorem dX4_serviceHoursLeft_9 : decode cX4_serviceHoursLeft 9 = .ok (.iconst 1, 1) := dk_4 (dk_at dksX4_serviceHoursLeft_0 9 rfl rfl)
theorem dX4_serviceHoursLeft_10 : decode cX4_serviceHoursLeft 10 = .ok (.goto 18, 3) := dk_167 0 18 (dk_at dksX4_serviceHoursLeft_0 10 rfl rfl)
theorem dX4_serviceHoursLeft_13 : decode cX4_serviceHoursLeft 13 = .ok (.aload_n 0, 1) := dk_42 (dk_at dksX4_serviceHoursLeft_0 13 rfl rfl)
theorem dX4_serviceHoursLeft_14 : decode cX4_serviceHoursLeft 14 = .ok (.iload_n 1, 1) := dk_27 (dk_at dksX4_serviceHoursLeft_0 14 rfl rfl)
theorem dX4_serviceHoursLeft_15 : decode cX4_serviceHoursLeft 15 = .ok (.iconst 3, 1) := dk_6 (dk_at dksX4_serviceHoursLeft_0 15 rfl rfl)
theorem dX4_serviceHoursLeft_16 : decode cX4_serviceHoursLeft 16 = .ok (.invokevirtual 57, 3) := dk_182 0 57 (dk_at dksX4_serviceHoursLeft_0 16 rfl rfl)
theorem dX4_serviceHoursLeft_19 : decode cX4_serviceHoursLeft 19 = .ok (.iconst 2, 1) := dk_5 (dk_at dksX4_serviceHoursLeft_0 19 rfl rfl)
theorem dX4_serviceHoursLeft_20 : decode cX4_serviceHoursLeft 20 = .ok (.if_icmp .eq 7, 3) := dk_159 0 7 (dk_at dksX4_serviceHoursLeft_0 20 rfl rfl)
theorem dX4_serviceHoursLeft_23 : decode cX4_serviceHoursLeft 23 = .ok (.iconst 2, 1) := dk_5 (dk_at dksX4_serviceHoursLeft_0 23 rfl rfl)
theorem dX4_serviceHoursLeft_24 : decode cX4_serviceHoursLeft 24 = .ok (.goto 4, 3) := dk_167 0 4 (dk_at dksX4_serviceHoursLeft_1 0 rfl rfl)
theorem dX4_serviceHoursLeft_27 : decode cX4_serviceHoursLeft 27 = .ok (.iconst 0, 1) := dk_3 (dk_at dksX4_serviceHoursLeft_1 3 rfl rfl)
theorem dX4_serviceHoursLeft_28 : decode cX4_serviceHoursLeft 28 = .ok (.putfield 27, 3) := dk_181 0 27 (dk_at dksX4_serviceHoursLeft_1 4 rfl rfl)
theorem dX4_serviceHoursLeft_31 : decode cX4_serviceHoursLeft 31 = .ok (.aload_n 0, 1) := dk_42 (dk_at dksX4_serviceHoursLeft_1 7 rfl rfl)
theorem dX4_serviceHoursLeft_32 : decode cX4_serviceHoursLeft 32 = .ok (.getfield 27, 3) := dk_180 0 27 (dk_at dksX4_serviceHoursLeft_1 8 rfl rfl)
theorem dX4_serviceHoursLeft_35 : decode cX4_serviceHoursLeft 35 = .ok (.ifCond .ne 12, 3) := dk_154 0 12 (dk_at dksX4_serviceHoursLeft_1 11 rfl rfl)
theorem dX4_serviceHoursLeft_38 : decode cX4_serviceHoursLeft 38 = .ok (.aload_n 0, 1) := dk_42 (dk_at dksX4_serviceHoursLeft_1 14 rfl rfl)
theorem dX4_serviceHoursLeft_39 : decode cX4_serviceHoursLeft 39 = .ok (.iload_n 1, 1) := dk_27 (dk_at dksX4_serviceHoursLeft_1 15 rfl rfl)
theorem dX4_serviceHoursLeft_40 : decode cX4_serviceHoursLeft 40 = .ok (.iconst 4, 1) := dk_7 (dk_at dksX4_serviceHoursLeft_1 16 rfl rfl)
theorem dX4_serviceHoursLeft_41 : decode cX4_serviceHoursLeft 41 = .ok (.invokevirtual 57, 3) := dk_182 0 57 (dk_at dksX4_serviceHoursLeft_1 17 rfl rfl)
theorem dX4_serviceHoursLeft_44 : decode cX4_serviceHoursLeft 44 = .ok (.goto 4, 3) := dk_167 0 4 (dk_at dksX4_serviceHoursLeft_1 20 rfl rfl)
theorem dX4_serviceHoursLeft_47 : decode cX4_serviceHoursLeft 47 = .ok (.iconst 0, 1) := dk_3 (dk_at dksX4_serviceHoursLeft_1 23 rfl rfl)
theorem dX4_serviceHoursLeft_48 : decode cX4_serviceHoursLeft 48 = .ok (.ireturn, 1) := dk_172 (dk_at dksX4_serviceHoursLeft_2 0 rfl rfl)
abbrev cX4_freeCrews : ByteArray := prog_20_method_69_code
def yX4_freeCrews : MethodName := ⟨RX4, "freeCrews", "()I"⟩
def dkwX4_freeCrews_0 : List UInt8 := [42, 3, 181, 0, 27, 5, 42, 5, 182, 0, 107, 100, 172]
abbrev dktX4_freeCrews_0 : List UInt8 := dkwX4_freeCrews_0 ++ []
theorem dksX4_freeCrews_0 : cX4_freeCrews.data.toList.drop 0 = dktX4_freeCrews_0 := by decide +kernel
theorem dX4_freeCrews_0 : decode cX4_freeCrews 0 = .ok (.aload_n 0, 1) := dk_42 (dk_at dksX4_freeCrews_0 0 rfl rfl)
theorem dX4_freeCrews_1 : decode cX4_freeCrews 1 = .ok (.iconst 0, 1) := dk_3 (dk_at dksX4_freeCrews_0 1 rfl rfl)
theorem dX4_freeCrews_2 : decode cX4_freeCrews 2 = .ok (.putfield 27, 3) := dk_181 0 27 (dk_at dksX4_freeCrews_0 2 rfl rfl)
theorem dX4_freeCrews_5 : decode cX4_freeCrews 5 = .ok (.iconst 2, 1) := dk_5 (dk_at dksX4_freeCrews_0 5 rfl rfl)
theorem dX4_freeCrews_6 : decode cX4_freeCrews 6 = .ok (.aload_n 0, 1) := dk_42 (dk_at dksX4_freeCrews_0 6 rfl rfl)
theorem dX4_freeCrews_7 : decode cX4_freeCrews 7 = .ok (.iconst 2, 1) := dk_5 (dk_at dksX4_freeCrews_0 7 rfl rfl)
theorem dX4_freeCrews_8 : decode cX4_freeCrews 8 = .ok (.invokevirtual 107, 3) := dk_182 0 107 (dk_at dksX4_freeCrews_0 8 rfl rfl)
theorem dX4_freeCrews_11 : decode cX4_freeCrews 11 = .ok (.isub, 1) := dk_100 (dk_at dksX4_freeCrews_0 11 rfl rfl)
theorem dX4_freeCrews_12 : decode cX4_freeCrews 12 = .ok (.ireturn, 1) := dk_172 (dk_at dksX4_freeCrews_0 12 rfl rfl)
abbrev cX4_windDirection : ByteArray := prog_20_method_70_code
def yX4_windDirection : MethodName := ⟨RX4, "windDirection", "()C"⟩
def dkwX4_windDirection_0 : List UInt8 := [42, 3, 181, 0, 27, 42, 180, 0, 9, 4, 46, 184, 0, 174, 172]
abbrev dktX4_windDirection_0 : List UInt8 := dkwX4_windDirection_0 ++ []
theorem dksX4_windDirection_0 : cX4_windDirection.data.toList.drop 0 = dktX4_windDirection_0 := by decide +kernel
theorem dX4_windDirection_0 : decode cX4_windDirection 0 = .ok (.aload_n 0, 1) := dk_42 (dk_at dksX4_windDirection_0 0 rfl rfl)
theorem dX4_windDirection_1 : decode cX4_windDirection 1 = .ok (.iconst 0, 1) := dk_3 (dk_at dksX4_windDirection_0 1 rfl rfl)
theorem dX4_windDirection_2 : decode cX4_windDirection 2 = .ok (.putfield 27, 3) := dk_181 0 27 (dk_at dksX4_windDirection_0 2 rfl rfl)
theorem dX4_windDirection_5 : decode cX4_windDirection 5 = .ok (.aload_n 0, 1) := dk_42 (dk_at dksX4_windDirection_0 5 rfl rfl)
theorem dX4_windDirection_6 : decode cX4_windDirection 6 = .ok (.getfield 9, 3) := dk_180 0 9 (dk_at dksX4_windDirection_0 6 rfl rfl)
theorem dX4_windDirection_9 : decode cX4_windDirection 9 = .ok (.iconst 1, 1) := dk_4 (dk_at dksX4_windDirection_0 9 rfl rfl)
theorem dX4_windDirection_10 : decode cX4_windDirection 10 = .ok (.iaload, 1) := dk_46 (dk_at dksX4_windDirection_0 10 rfl rfl)
theorem dX4_windDirection_11 : decode cX4_windDirection 11 = .ok (.invokestatic 174, 3) := dk_184 0 174 (dk_at dksX4_windDirection_0 11 rfl rfl)
theorem dX4_windDirection_14 : decode cX4_windDirection 14 = .ok (.ireturn, 1) := dk_172 (dk_at dksX4_windDirection_0 14 rfl rfl)
abbrev cX4_signOf : ByteArray := prog_20_method_26_code
def yX4_signOf : MethodName := ⟨RX4, "signOf", "(I)C"⟩
def dkwX4_signOf_1 : List UInt8 := [16, 83, 167, 0, 5, 16, 87, 172]
abbrev dktX4_signOf_1 : List UInt8 := dkwX4_signOf_1 ++ []
def dkwX4_signOf_0 : List UInt8 := [26, 154, 0, 8, 16, 78, 167, 0, 25, 26, 4, 160, 0, 8, 16, 69, 167, 0, 15, 26, 5, 160, 0, 8]
abbrev dktX4_signOf_0 : List UInt8 := dkwX4_signOf_0 ++ dktX4_signOf_1
theorem dksX4_signOf_0 : cX4_signOf.data.toList.drop 0 = dktX4_signOf_0 := by decide +kernel
theorem dksX4_signOf_1 : cX4_signOf.data.toList.drop 24 = dktX4_signOf_1 := dk_seg dksX4_signOf_0 24 rfl rfl
theorem dX4_signOf_0 : decode cX4_signOf 0 = .ok (.iload_n 0, 1) := dk_26 (dk_at dksX4_signOf_0 0 rfl rfl)
theorem dX4_signOf_1 : decode cX4_signOf 1 = .ok (.ifCond .ne 8, 3) := dk_154 0 8 (dk_at dksX4_signOf_0 1 rfl rfl)
theorem dX4_signOf_4 : decode cX4_signOf 4 = .ok (.bipush 78, 2) := dk_16 78 (dk_at dksX4_signOf_0 4 rfl rfl)
theorem dX4_signOf_6 : decode cX4_signOf 6 = .ok (.goto 25, 3) := dk_167 0 25 (dk_at dksX4_signOf_0 6 rfl rfl)
theorem dX4_signOf_9 : decode cX4_signOf 9 = .ok (.iload_n 0, 1) := dk_26 (dk_at dksX4_signOf_0 9 rfl rfl)
theorem dX4_signOf_10 : decode cX4_signOf 10 = .ok (.iconst 1, 1) := dk_4 (dk_at dksX4_signOf_0 10 rfl rfl)
theorem dX4_signOf_11 : decode cX4_signOf 11 = .ok (.if_icmp .ne 8, 3) := dk_160 0 8 (dk_at dksX4_signOf_0 11 rfl rfl)
theorem dX4_signOf_14 : decode cX4_signOf 14 = .ok (.bipush 69, 2) := dk_16 69 (dk_at dksX4_signOf_0 14 rfl rfl)
theorem dX4_signOf_16 : decode cX4_signOf 16 = .ok (.goto 15, 3) := dk_167 0 15 (dk_at dksX4_signOf_0 16 rfl rfl)
theorem dX4_signOf_19 : decode cX4_signOf 19 = .ok (.iload_n 0, 1) := dk_26 (dk_at dksX4_signOf_0 19 rfl rfl)
theorem dX4_signOf_20 : decode cX4_signOf 20 = .ok (.iconst 2, 1) := dk_5 (dk_at dksX4_signOf_0 20 rfl rfl)
theorem dX4_signOf_21 : decode cX4_signOf 21 = .ok (.if_icmp .ne 8, 3) := dk_160 0 8 (dk_at dksX4_signOf_0 21 rfl rfl)
theorem dX4_signOf_24 : decode cX4_signOf 24 = .ok (.bipush 83, 2) := dk_16 83 (dk_at dksX4_signOf_1 0 rfl rfl)
theorem dX4_signOf_26 : decode cX4_signOf 26 = .ok (.goto 5, 3) := dk_167 0 5 (dk_at dksX4_signOf_1 2 rfl rfl)
theorem dX4_signOf_29 : decode cX4_signOf 29 = .ok (.bipush 87, 2) := dk_16 87 (dk_at dksX4_signOf_1 5 rfl rfl)
theorem dX4_signOf_31 : decode cX4_signOf 31 = .ok (.ireturn, 1) := dk_172 (dk_at dksX4_signOf_1 7 rfl rfl)
abbrev cX4_windSpeed : ByteArray := prog_20_method_71_code
def yX4_windSpeed : MethodName := ⟨RX4, "windSpeed", "()I"⟩
def dkwX4_windSpeed_0 : List UInt8 := [42, 3, 181, 0, 27, 42, 180, 0, 9, 5, 46, 172]
abbrev dktX4_windSpeed_0 : List UInt8 := dkwX4_windSpeed_0 ++ []
theorem dksX4_windSpeed_0 : cX4_windSpeed.data.toList.drop 0 = dktX4_windSpeed_0 := by decide +kernel
theorem dX4_windSpeed_0 : decode cX4_windSpeed 0 = .ok (.aload_n 0, 1) := dk_42 (dk_at dksX4_windSpeed_0 0 rfl rfl)
theorem dX4_windSpeed_1 : decode cX4_windSpeed 1 = .ok (.iconst 0, 1) := dk_3 (dk_at dksX4_windSpeed_0 1 rfl rfl)
theorem dX4_windSpeed_2 : decode cX4_windSpeed 2 = .ok (.putfield 27, 3) := dk_181 0 27 (dk_at dksX4_windSpeed_0 2 rfl rfl)
theorem dX4_windSpeed_5 : decode cX4_windSpeed 5 = .ok (.aload_n 0, 1) := dk_42 (dk_at dksX4_windSpeed_0 5 rfl rfl)
theorem dX4_windSpeed_6 : decode cX4_windSpeed 6 = .ok (.getfield 9, 3) := dk_180 0 9 (dk_at dksX4_windSpeed_0 6 rfl rfl)
theorem dX4_windSpeed_9 : decode cX4_windSpeed 9 = .ok (.iconst 2, 1) := dk_5 (dk_at dksX4_windSpeed_0 9 rfl rfl)
theorem dX4_windSpeed_10 : decode cX4_windSpeed 10 = .ok (.iaload, 1) := dk_46 (dk_at dksX4_windSpeed_0 10 rfl rfl)
theorem dX4_windSpeed_11 : decode cX4_windSpeed 11 = .ok (.ireturn, 1) := dk_172 (dk_at dksX4_windSpeed_0 11 rfl rfl)
abbrev cX4_powerFactor : ByteArray := prog_20_method_72_code
def yX4_powerFactor : MethodName := ⟨RX4, "powerFactor", "()I"⟩
def dkwX4_powerFactor_0 : List UInt8 := [42, 3, 181, 0, 27, 42, 180, 0, 9, 5, 46, 184, 0, 67, 172]
abbrev dktX4_powerFactor_0 : List UInt8 := dkwX4_powerFactor_0 ++ []
theorem dksX4_powerFactor_0 : cX4_powerFactor.data.toList.drop 0 = dktX4_powerFactor_0 := by decide +kernel
theorem dX4_powerFactor_0 : decode cX4_powerFactor 0 = .ok (.aload_n 0, 1) := dk_42 (dk_at dksX4_powerFactor_0 0 rfl rfl)
theorem dX4_powerFactor_1 : decode cX4_powerFactor 1 = .ok (.iconst 0, 1) := dk_3 (dk_at dksX4_powerFactor_0 1 rfl rfl)
theorem dX4_powerFactor_2 : decode cX4_powerFactor 2 = .ok (.putfield 27, 3) := dk_181 0 27 (dk_at dksX4_powerFactor_0 2 rfl rfl)
theorem dX4_powerFactor_5 : decode cX4_powerFactor 5 = .ok (.aload_n 0, 1) := dk_42 (dk_at dksX4_powerFactor_0 5 rfl rfl)
theorem dX4_powerFactor_6 : decode cX4_powerFactor 6 = .ok (.getfield 9, 3) := dk_180 0 9 (dk_at dksX4_powerFactor_0 6 rfl rfl)
theorem dX4_powerFactor_9 : decode cX4_powerFactor 9 = .ok (.iconst 2, 1) := dk_5 (dk_at dksX4_powerFactor_0 9 rfl rfl)
theorem dX4_powerFactor_10 : decode cX4_powerFactor 10 = .ok (.iaload, 1) := dk_46 (dk_at dksX4_powerFactor_0 10 rfl rfl)
theorem dX4_powerFactor_11 : decode cX4_powerFactor 11 = .ok (.invokestatic 67, 3) := dk_184 0 67 (dk_at dksX4_powerFactor_0 11 rfl rfl)
theorem dX4_powerFactor_14 : decode cX4_powerFactor 14 = .ok (.ireturn, 1) := dk_172 (dk_at dksX4_powerFactor_0 14 rfl rfl)
abbrev cX4_wakeLoss : ByteArray := prog_20_method_73_code
def yX4_wakeLoss : MethodName := ⟨RX4, "wakeLoss", "(I)I"⟩
def dkwX4_wakeLoss_0 : List UInt8 := [42, 42, 27, 182, 0, 103, 182, 0, 49, 153, 0, 11, 42, 27, 182, 0, 71, 167, 0, 4, 3, 172]
abbrev dktX4_wakeLoss_0 : List UInt8 := dkwX4_wakeLoss_0 ++ []
theorem dksX4_wakeLoss_0 : cX4_wakeLoss.data.toList.drop 0 = dktX4_wakeLoss_0 := by decide +kernel
theorem dX4_wakeLoss_0 : decode cX4_wakeLoss 0 = .ok (.aload_n 0, 1) := dk_42 (dk_at dksX4_wakeLoss_0 0 rfl rfl)
theorem dX4_wakeLoss_1 : decode cX4_wakeLoss 1 = .ok (.aload_n 0, 1) := dk_42 (dk_at dksX4_wakeLoss_0 1 rfl rfl)
theorem dX4_wakeLoss_2 : decode cX4_wakeLoss 2 = .ok (.iload_n 1, 1) := dk_27 (dk_at dksX4_wakeLoss_0 2 rfl rfl)
theorem dX4_wakeLoss_3 : decode cX4_wakeLoss 3 = .ok (.invokevirtual 103, 3) := dk_182 0 103 (dk_at dksX4_wakeLoss_0 3 rfl rfl)
theorem dX4_wakeLoss_6 : decode cX4_wakeLoss 6 = .ok (.invokevirtual 49, 3) := dk_182 0 49 (dk_at dksX4_wakeLoss_0 6 rfl rfl)
theorem dX4_wakeLoss_9 : decode cX4_wakeLoss 9 = .ok (.ifCond .eq 11, 3) := dk_153 0 11 (dk_at dksX4_wakeLoss_0 9 rfl rfl)
theorem dX4_wakeLoss_12 : decode cX4_wakeLoss 12 = .ok (.aload_n 0, 1) := dk_42 (dk_at dksX4_wakeLoss_0 12 rfl rfl)
theorem dX4_wakeLoss_13 : decode cX4_wakeLoss 13 = .ok (.iload_n 1, 1) := dk_27 (dk_at dksX4_wakeLoss_0 13 rfl rfl)
theorem dX4_wakeLoss_14 : decode cX4_wakeLoss 14 = .ok (.invokevirtual 71, 3) := dk_182 0 71 (dk_at dksX4_wakeLoss_0 14 rfl rfl)
theorem dX4_wakeLoss_17 : decode cX4_wakeLoss 17 = .ok (.goto 4, 3) := dk_167 0 4 (dk_at dksX4_wakeLoss_0 17 rfl rfl)
theorem dX4_wakeLoss_20 : decode cX4_wakeLoss 20 = .ok (.iconst 0, 1) := dk_3 (dk_at dksX4_wakeLoss_0 20 rfl rfl)
theorem dX4_wakeLoss_21 : decode cX4_wakeLoss 21 = .ok (.ireturn, 1) := dk_172 (dk_at dksX4_wakeLoss_0 21 rfl rfl)
abbrev cX4_availablePower : ByteArray := prog_20_method_74_code
def yX4_availablePower : MethodName := ⟨RX4, "availablePower", "(I)I"⟩
def dkwX4_availablePower_0 : List UInt8 := [42, 42, 27, 182, 0, 103, 182, 0, 49, 153, 0, 11, 42, 27, 182, 0, 74, 167, 0, 4, 3, 172]
abbrev dktX4_availablePower_0 : List UInt8 := dkwX4_availablePower_0 ++ []
theorem dksX4_availablePower_0 : cX4_availablePower.data.toList.drop 0 = dktX4_availablePower_0 := by decide +kernel
theorem dX4_availablePower_0 : decode cX4_availablePower 0 = .ok (.aload_n 0, 1) := dk_42 (dk_at dksX4_availablePower_0 0 rfl rfl)
theorem dX4_availablePower_1 : decode cX4_availablePower 1 = .ok (.aload_n 0, 1) := dk_42 (dk_at dksX4_availablePower_0 1 rfl rfl)
theorem dX4_availablePower_2 : decode cX4_availablePower 2 = .ok (.iload_n 1, 1) := dk_27 (dk_at dksX4_availablePower_0 2 rfl rfl)
theorem dX4_availablePower_3 : decode cX4_availablePower 3 = .ok (.invokevirtual 103, 3) := dk_182 0 103 (dk_at dksX4_availablePower_0 3 rfl rfl)
theorem dX4_availablePower_6 : decode cX4_availablePower 6 = .ok (.invokevirtual 49, 3) := dk_182 0 49 (dk_at dksX4_availablePower_0 6 rfl rfl)
theorem dX4_availablePower_9 : decode cX4_availablePower 9 = .ok (.ifCond .eq 11, 3) := dk_153 0 11 (dk_at dksX4_availablePower_0 9 rfl rfl)
theorem dX4_availablePower_12 : decode cX4_availablePower 12 = .ok (.aload_n 0, 1) := dk_42 (dk_at dksX4_availablePower_0 12 rfl rfl)
theorem dX4_availablePower_13 : decode cX4_availablePower 13 = .ok (.iload_n 1, 1) := dk_27 (dk_at dksX4_availablePower_0 13 rfl rfl)
theorem dX4_availablePower_14 : decode cX4_availablePower 14 = .ok (.invokevirtual 74, 3) := dk_182 0 74 (dk_at dksX4_availablePower_0 14 rfl rfl)
theorem dX4_availablePower_17 : decode cX4_availablePower 17 = .ok (.goto 4, 3) := dk_167 0 4 (dk_at dksX4_availablePower_0 17 rfl rfl)
theorem dX4_availablePower_20 : decode cX4_availablePower 20 = .ok (.iconst 0, 1) := dk_3 (dk_at dksX4_availablePower_0 20 rfl rfl)
theorem dX4_availablePower_21 : decode cX4_availablePower 21 = .ok (.ireturn, 1) := dk_172 (dk_at dksX4_availablePower_0 21 rfl rfl)
abbrev cX4_outputOf : ByteArray := prog_20_method_75_code
def yX4_outputOf : MethodName := ⟨RX4, "outputOf", "(I)I"⟩
def dkwX4_outputOf_0 : List UInt8 := [42, 42, 27, 182, 0, 103, 182, 0, 49, 153, 0, 11, 42, 27, 182, 0, 77, 167, 0, 4, 3, 172]
abbrev dktX4_outputOf_0 : List UInt8 := dkwX4_outputOf_0 ++ []
theorem dksX4_outputOf_0 : cX4_outputOf.data.toList.drop 0 = dktX4_outputOf_0 := by decide +kernel
theorem dX4_outputOf_0 : decode cX4_outputOf 0 = .ok (.aload_n 0, 1) := dk_42 (dk_at dksX4_outputOf_0 0 rfl rfl)
theorem dX4_outputOf_1 : decode cX4_outputOf 1 = .ok (.aload_n 0, 1) := dk_42 (dk_at dksX4_outputOf_0 1 rfl rfl)
theorem dX4_outputOf_2 : decode cX4_outputOf 2 = .ok (.iload_n 1, 1) := dk_27 (dk_at dksX4_outputOf_0 2 rfl rfl)
theorem dX4_outputOf_3 : decode cX4_outputOf 3 = .ok (.invokevirtual 103, 3) := dk_182 0 103 (dk_at dksX4_outputOf_0 3 rfl rfl)
theorem dX4_outputOf_6 : decode cX4_outputOf 6 = .ok (.invokevirtual 49, 3) := dk_182 0 49 (dk_at dksX4_outputOf_0 6 rfl rfl)
theorem dX4_outputOf_9 : decode cX4_outputOf 9 = .ok (.ifCond .eq 11, 3) := dk_153 0 11 (dk_at dksX4_outputOf_0 9 rfl rfl)
theorem dX4_outputOf_12 : decode cX4_outputOf 12 = .ok (.aload_n 0, 1) := dk_42 (dk_at dksX4_outputOf_0 12 rfl rfl)
theorem dX4_outputOf_13 : decode cX4_outputOf 13 = .ok (.iload_n 1, 1) := dk_27 (dk_at dksX4_outputOf_0 13 rfl rfl)
theorem dX4_outputOf_14 : decode cX4_outputOf 14 = .ok (.invokevirtual 77, 3) := dk_182 0 77 (dk_at dksX4_outputOf_0 14 rfl rfl)
theorem dX4_outputOf_17 : decode cX4_outputOf 17 = .ok (.goto 4, 3) := dk_167 0 4 (dk_at dksX4_outputOf_0 17 rfl rfl)
theorem dX4_outputOf_20 : decode cX4_outputOf 20 = .ok (.iconst 0, 1) := dk_3 (dk_at dksX4_outputOf_0 20 rfl rfl)
theorem dX4_outputOf_21 : decode cX4_outputOf 21 = .ok (.ireturn, 1) := dk_172 (dk_at dksX4_outputOf_0 21 rfl rfl)
abbrev cX4_totalOutput : ByteArray := prog_20_method_76_code
def yX4_totalOutput : MethodName := ⟨RX4, "totalOutput", "()I"⟩
def dkwX4_totalOutput_0 : List UInt8 := [42, 3, 181, 0, 27, 42, 182, 0, 129, 172]
abbrev dktX4_totalOutput_0 : List UInt8 := dkwX4_totalOutput_0 ++ []
theorem dksX4_totalOutput_0 : cX4_totalOutput.data.toList.drop 0 = dktX4_totalOutput_0 := by decide +kernel
theorem dX4_totalOutput_0 : decode cX4_totalOutput 0 = .ok (.aload_n 0, 1) := dk_42 (dk_at dksX4_totalOutput_0 0 rfl rfl)
theorem dX4_totalOutput_1 : decode cX4_totalOutput 1 = .ok (.iconst 0, 1) := dk_3 (dk_at dksX4_totalOutput_0 1 rfl rfl)
theorem dX4_totalOutput_2 : decode cX4_totalOutput 2 = .ok (.putfield 27, 3) := dk_181 0 27 (dk_at dksX4_totalOutput_0 2 rfl rfl)
theorem dX4_totalOutput_5 : decode cX4_totalOutput 5 = .ok (.aload_n 0, 1) := dk_42 (dk_at dksX4_totalOutput_0 5 rfl rfl)
theorem dX4_totalOutput_6 : decode cX4_totalOutput 6 = .ok (.invokevirtual 129, 3) := dk_182 0 129 (dk_at dksX4_totalOutput_0 6 rfl rfl)
theorem dX4_totalOutput_9 : decode cX4_totalOutput 9 = .ok (.ireturn, 1) := dk_172 (dk_at dksX4_totalOutput_0 9 rfl rfl)
abbrev cX4_totalOutputByLines : ByteArray := prog_20_method_77_code
def yX4_totalOutputByLines : MethodName := ⟨RX4, "totalOutputByLines", "()I"⟩
theorem dX4_totalOutputByLines_0 : decode cX4_totalOutputByLines 0 = .ok (.aload_n 0, 1) := by decide +kernel
theorem dX4_totalOutputByLines_1 : decode cX4_totalOutputByLines 1 = .ok (.invokevirtual 178, 3) := by decide +kernel
theorem dX4_totalOutputByLines_4 : decode cX4_totalOutputByLines 4 = .ok (.ireturn, 1) := by decide +kernel
abbrev cX4_outputWith : ByteArray := prog_20_method_79_code
def yX4_outputWith : MethodName := ⟨RX4, "outputWith", "(CI)I"⟩
def dkwX4_outputWith_1 : List UInt8 := [182, 0, 49, 153, 0, 15, 42, 27, 184, 0, 132, 28, 182, 0, 181, 167, 0, 4, 3, 172]
abbrev dktX4_outputWith_1 : List UInt8 := dkwX4_outputWith_1 ++ []
def dkwX4_outputWith_0 : List UInt8 := [42, 27, 184, 0, 132, 155, 0, 17, 28, 3, 16, 30, 184, 0, 53, 153, 0, 7, 4, 167, 0, 4, 3]
abbrev dktX4_outputWith_0 : List UInt8 := dkwX4_outputWith_0 ++ dktX4_outputWith_1
theorem dksX4_outputWith_0 : cX4_outputWith.data.toList.drop 0 = dktX4_outputWith_0 := by decide +kernel
theorem dksX4_outputWith_1 : cX4_outputWith.data.toList.drop 23 = dktX4_outputWith_1 := dk_seg dksX4_outputWith_0 23 rfl rfl
theorem dX4_outputWith_0 : decode cX4_outputWith 0 = .ok (.aload_n 0, 1) := dk_42 (dk_at dksX4_outputWith_0 0 rfl rfl)
theorem dX4_outputWith_1 : decode cX4_outputWith 1 = .ok (.iload_n 1, 1) := dk_27 (dk_at dksX4_outputWith_0 1 rfl rfl)
theorem dX4_outputWith_2 : decode cX4_outputWith 2 = .ok (.invokestatic 132, 3) := dk_184 0 132 (dk_at dksX4_outputWith_0 2 rfl rfl)
theorem dX4_outputWith_5 : decode cX4_outputWith 5 = .ok (.ifCond .lt 17, 3) := dk_155 0 17 (dk_at dksX4_outputWith_0 5 rfl rfl)
theorem dX4_outputWith_8 : decode cX4_outputWith 8 = .ok (.iload_n 2, 1) := dk_28 (dk_at dksX4_outputWith_0 8 rfl rfl)
theorem dX4_outputWith_9 : decode cX4_outputWith 9 = .ok (.iconst 0, 1) := dk_3 (dk_at dksX4_outputWith_0 9 rfl rfl)
theorem dX4_outputWith_10 : decode cX4_outputWith 10 = .ok (.bipush 30, 2) := dk_16 30 (dk_at dksX4_outputWith_0 10 rfl rfl)
theorem dX4_outputWith_12 : decode cX4_outputWith 12 = .ok (.invokestatic 53, 3) := dk_184 0 53 (dk_at dksX4_outputWith_0 12 rfl rfl)
theorem dX4_outputWith_15 : decode cX4_outputWith 15 = .ok (.ifCond .eq 7, 3) := dk_153 0 7 (dk_at dksX4_outputWith_0 15 rfl rfl)
theorem dX4_outputWith_18 : decode cX4_outputWith 18 = .ok (.iconst 1, 1) := dk_4 (dk_at dksX4_outputWith_0 18 rfl rfl)
theorem dX4_outputWith_19 : decode cX4_outputWith 19 = .ok (.goto 4, 3) := dk_167 0 4 (dk_at dksX4_outputWith_0 19 rfl rfl)
theorem dX4_outputWith_22 : decode cX4_outputWith 22 = .ok (.iconst 0, 1) := dk_3 (dk_at dksX4_outputWith_0 22 rfl rfl)
theorem dX4_outputWith_23 : decode cX4_outputWith 23 = .ok (.invokevirtual 49, 3) := dk_182 0 49 (dk_at dksX4_outputWith_1 0 rfl rfl)
theorem dX4_outputWith_26 : decode cX4_outputWith 26 = .ok (.ifCond .eq 15, 3) := dk_153 0 15 (dk_at dksX4_outputWith_1 3 rfl rfl)
theorem dX4_outputWith_29 : decode cX4_outputWith 29 = .ok (.aload_n 0, 1) := dk_42 (dk_at dksX4_outputWith_1 6 rfl rfl)
theorem dX4_outputWith_30 : decode cX4_outputWith 30 = .ok (.iload_n 1, 1) := dk_27 (dk_at dksX4_outputWith_1 7 rfl rfl)
theorem dX4_outputWith_31 : decode cX4_outputWith 31 = .ok (.invokestatic 132, 3) := dk_184 0 132 (dk_at dksX4_outputWith_1 8 rfl rfl)
theorem dX4_outputWith_34 : decode cX4_outputWith 34 = .ok (.iload_n 2, 1) := dk_28 (dk_at dksX4_outputWith_1 11 rfl rfl)
theorem dX4_outputWith_35 : decode cX4_outputWith 35 = .ok (.invokevirtual 181, 3) := dk_182 0 181 (dk_at dksX4_outputWith_1 12 rfl rfl)
theorem dX4_outputWith_38 : decode cX4_outputWith 38 = .ok (.goto 4, 3) := dk_167 0 4 (dk_at dksX4_outputWith_1 15 rfl rfl)
theorem dX4_outputWith_41 : decode cX4_outputWith 41 = .ok (.iconst 0, 1) := dk_3 (dk_at dksX4_outputWith_1 18 rfl rfl)
theorem dX4_outputWith_42 : decode cX4_outputWith 42 = .ok (.ireturn, 1) := dk_172 (dk_at dksX4_outputWith_1 19 rfl rfl)
abbrev cX4_totalWith : ByteArray := prog_20_method_78_code
def yX4_totalWith : MethodName := ⟨RX4, "totalWith", "(II)I"⟩
def dkwX4_totalWith_2 : List UInt8 := [21, 4, 79, 21, 5, 172]
abbrev dktX4_totalWith_2 : List UInt8 := dkwX4_totalWith_2 ++ []
def dkwX4_totalWith_1 : List UInt8 := [180, 0, 9, 5, 28, 79, 42, 182, 0, 129, 54, 5, 42, 180, 0, 9, 4, 29, 79, 42, 180, 0, 9, 5]
abbrev dktX4_totalWith_1 : List UInt8 := dkwX4_totalWith_1 ++ dktX4_totalWith_2
def dkwX4_totalWith_0 : List UInt8 := [42, 180, 0, 9, 4, 46, 62, 42, 180, 0, 9, 5, 46, 54, 4, 42, 180, 0, 9, 4, 27, 79, 42]
abbrev dktX4_totalWith_0 : List UInt8 := dkwX4_totalWith_0 ++ dktX4_totalWith_1
theorem dksX4_totalWith_0 : cX4_totalWith.data.toList.drop 0 = dktX4_totalWith_0 := by decide +kernel
theorem dksX4_totalWith_1 : cX4_totalWith.data.toList.drop 23 = dktX4_totalWith_1 := dk_seg dksX4_totalWith_0 23 rfl rfl
theorem dksX4_totalWith_2 : cX4_totalWith.data.toList.drop 47 = dktX4_totalWith_2 := dk_seg dksX4_totalWith_1 24 rfl rfl
theorem dX4_totalWith_0 : decode cX4_totalWith 0 = .ok (.aload_n 0, 1) := dk_42 (dk_at dksX4_totalWith_0 0 rfl rfl)
theorem dX4_totalWith_1 : decode cX4_totalWith 1 = .ok (.getfield 9, 3) := dk_180 0 9 (dk_at dksX4_totalWith_0 1 rfl rfl)
theorem dX4_totalWith_4 : decode cX4_totalWith 4 = .ok (.iconst 1, 1) := dk_4 (dk_at dksX4_totalWith_0 4 rfl rfl)
theorem dX4_totalWith_5 : decode cX4_totalWith 5 = .ok (.iaload, 1) := dk_46 (dk_at dksX4_totalWith_0 5 rfl rfl)
theorem dX4_totalWith_6 : decode cX4_totalWith 6 = .ok (.istore_n 3, 1) := dk_62 (dk_at dksX4_totalWith_0 6 rfl rfl)
theorem dX4_totalWith_7 : decode cX4_totalWith 7 = .ok (.aload_n 0, 1) := dk_42 (dk_at dksX4_totalWith_0 7 rfl rfl)
theorem dX4_totalWith_8 : decode cX4_totalWith 8 = .ok (.getfield 9, 3) := dk_180 0 9 (dk_at dksX4_totalWith_0 8 rfl rfl)
theorem dX4_totalWith_11 : decode cX4_totalWith 11 = .ok (.iconst 2, 1) := dk_5 (dk_at dksX4_totalWith_0 11 rfl rfl)
theorem dX4_totalWith_12 : decode cX4_totalWith 12 = .ok (.iaload, 1) := dk_46 (dk_at dksX4_totalWith_0 12 rfl rfl)
theorem dX4_totalWith_13 : decode cX4_totalWith 13 = .ok (.istore 4, 2) := dk_54 4 (dk_at dksX4_totalWith_0 13 rfl rfl)
theorem dX4_totalWith_15 : decode cX4_totalWith 15 = .ok (.aload_n 0, 1) := dk_42 (dk_at dksX4_totalWith_0 15 rfl rfl)
theorem dX4_totalWith_16 : decode cX4_totalWith 16 = .ok (.getfield 9, 3) := dk_180 0 9 (dk_at dksX4_totalWith_0 16 rfl rfl)
theorem dX4_totalWith_19 : decode cX4_totalWith 19 = .ok (.iconst 1, 1) := dk_4 (dk_at dksX4_totalWith_0 19 rfl rfl)
theorem dX4_totalWith_20 : decode cX4_totalWith 20 = .ok (.iload_n 1, 1) := dk_27 (dk_at dksX4_totalWith_0 20 rfl rfl)
theorem dX4_totalWith_21 : decode cX4_totalWith 21 = .ok (.iastore, 1) := dk_79 (dk_at dksX4_totalWith_0 21 rfl rfl)
theorem dX4_totalWith_22 : decode cX4_totalWith 22 = .ok (.aload_n 0, 1) := dk_42 (dk_at dksX4_totalWith_0 22 rfl rfl)
theorem dX4_totalWith_23 : decode cX4_totalWith 23 = .ok (.getfield 9, 3) := dk_180 0 9 (dk_at dksX4_totalWith_1 0 rfl rfl)
theorem dX4_totalWith_26 : decode cX4_totalWith 26 = .ok (.iconst 2, 1) := dk_5 (dk_at dksX4_totalWith_1 3 rfl rfl)
theorem dX4_totalWith_27 : decode cX4_totalWith 27 = .ok (.iload_n 2, 1) := dk_28 (dk_at dksX4_totalWith_1 4 rfl rfl)
theorem dX4_totalWith_28 : decode cX4_totalWith 28 = .ok (.iastore, 1) := dk_79 (dk_at dksX4_totalWith_1 5 rfl rfl)
theorem dX4_totalWith_29 : decode cX4_totalWith 29 = .ok (.aload_n 0, 1) := dk_42 (dk_at dksX4_totalWith_1 6 rfl rfl)
theorem dX4_totalWith_30 : decode cX4_totalWith 30 = .ok (.invokevirtual 129, 3) := dk_182 0 129 (dk_at dksX4_totalWith_1 7 rfl rfl)
theorem dX4_totalWith_33 : decode cX4_totalWith 33 = .ok (.istore 5, 2) := dk_54 5 (dk_at dksX4_totalWith_1 10 rfl rfl)
theorem dX4_totalWith_35 : decode cX4_totalWith 35 = .ok (.aload_n 0, 1) := dk_42 (dk_at dksX4_totalWith_1 12 rfl rfl)
theorem dX4_totalWith_36 : decode cX4_totalWith 36 = .ok (.getfield 9, 3) := dk_180 0 9 (dk_at dksX4_totalWith_1 13 rfl rfl)
theorem dX4_totalWith_39 : decode cX4_totalWith 39 = .ok (.iconst 1, 1) := dk_4 (dk_at dksX4_totalWith_1 16 rfl rfl)
theorem dX4_totalWith_40 : decode cX4_totalWith 40 = .ok (.iload_n 3, 1) := dk_29 (dk_at dksX4_totalWith_1 17 rfl rfl)
theorem dX4_totalWith_41 : decode cX4_totalWith 41 = .ok (.iastore, 1) := dk_79 (dk_at dksX4_totalWith_1 18 rfl rfl)
theorem dX4_totalWith_42 : decode cX4_totalWith 42 = .ok (.aload_n 0, 1) := dk_42 (dk_at dksX4_totalWith_1 19 rfl rfl)
theorem dX4_totalWith_43 : decode cX4_totalWith 43 = .ok (.getfield 9, 3) := dk_180 0 9 (dk_at dksX4_totalWith_1 20 rfl rfl)
theorem dX4_totalWith_46 : decode cX4_totalWith 46 = .ok (.iconst 2, 1) := dk_5 (dk_at dksX4_totalWith_1 23 rfl rfl)
theorem dX4_totalWith_47 : decode cX4_totalWith 47 = .ok (.iload 4, 2) := dk_21 4 (dk_at dksX4_totalWith_2 0 rfl rfl)
theorem dX4_totalWith_49 : decode cX4_totalWith 49 = .ok (.iastore, 1) := dk_79 (dk_at dksX4_totalWith_2 2 rfl rfl)
theorem dX4_totalWith_50 : decode cX4_totalWith 50 = .ok (.iload 5, 2) := dk_21 5 (dk_at dksX4_totalWith_2 3 rfl rfl)
theorem dX4_totalWith_52 : decode cX4_totalWith 52 = .ok (.ireturn, 1) := dk_172 (dk_at dksX4_totalWith_2 5 rfl rfl)
abbrev cX4_bestDirection : ByteArray := prog_20_method_80_code
def yX4_bestDirection : MethodName := ⟨RX4, "bestDirection", "()C"⟩
def dkwX4_bestDirection_2 : List UInt8 := [132, 2, 1, 167, 255, 217, 27, 184, 0, 174, 172]
abbrev dktX4_bestDirection_2 : List UInt8 := dkwX4_bestDirection_2 ++ []
def dkwX4_bestDirection_1 : List UInt8 := [182, 0, 181, 42, 27, 42, 180, 0, 9, 5, 46, 182, 0, 181, 164, 0, 7, 28, 167, 0, 4, 27, 60]
abbrev dktX4_bestDirection_1 : List UInt8 := dkwX4_bestDirection_1 ++ dktX4_bestDirection_2
def dkwX4_bestDirection_0 : List UInt8 := [42, 3, 181, 0, 27, 3, 60, 4, 61, 28, 7, 162, 0, 40, 42, 28, 42, 180, 0, 9, 5, 46]
abbrev dktX4_bestDirection_0 : List UInt8 := dkwX4_bestDirection_0 ++ dktX4_bestDirection_1
theorem dksX4_bestDirection_0 : cX4_bestDirection.data.toList.drop 0 = dktX4_bestDirection_0 := by decide +kernel
theorem dksX4_bestDirection_1 : cX4_bestDirection.data.toList.drop 22 = dktX4_bestDirection_1 := dk_seg dksX4_bestDirection_0 22 rfl rfl
theorem dksX4_bestDirection_2 : cX4_bestDirection.data.toList.drop 45 = dktX4_bestDirection_2 := dk_seg dksX4_bestDirection_1 23 rfl rfl
theorem dX4_bestDirection_0 : decode cX4_bestDirection 0 = .ok (.aload_n 0, 1) := dk_42 (dk_at dksX4_bestDirection_0 0 rfl rfl)
theorem dX4_bestDirection_1 : decode cX4_bestDirection 1 = .ok (.iconst 0, 1) := dk_3 (dk_at dksX4_bestDirection_0 1 rfl rfl)
theorem dX4_bestDirection_2 : decode cX4_bestDirection 2 = .ok (.putfield 27, 3) := dk_181 0 27 (dk_at dksX4_bestDirection_0 2 rfl rfl)
theorem dX4_bestDirection_5 : decode cX4_bestDirection 5 = .ok (.iconst 0, 1) := dk_3 (dk_at dksX4_bestDirection_0 5 rfl rfl)
theorem dX4_bestDirection_6 : decode cX4_bestDirection 6 = .ok (.istore_n 1, 1) := dk_60 (dk_at dksX4_bestDirection_0 6 rfl rfl)
theorem dX4_bestDirection_7 : decode cX4_bestDirection 7 = .ok (.iconst 1, 1) := dk_4 (dk_at dksX4_bestDirection_0 7 rfl rfl)
theorem dX4_bestDirection_8 : decode cX4_bestDirection 8 = .ok (.istore_n 2, 1) := dk_61 (dk_at dksX4_bestDirection_0 8 rfl rfl)
theorem dX4_bestDirection_9 : decode cX4_bestDirection 9 = .ok (.iload_n 2, 1) := dk_28 (dk_at dksX4_bestDirection_0 9 rfl rfl)
theorem dX4_bestDirection_10 : decode cX4_bestDirection 10 = .ok (.iconst 4, 1) := dk_7 (dk_at dksX4_bestDirection_0 10 rfl rfl)
theorem dX4_bestDirection_11 : decode cX4_bestDirection 11 = .ok (.if_icmp .ge 40, 3) := dk_162 0 40 (dk_at dksX4_bestDirection_0 11 rfl rfl)
theorem dX4_bestDirection_14 : decode cX4_bestDirection 14 = .ok (.aload_n 0, 1) := dk_42 (dk_at dksX4_bestDirection_0 14 rfl rfl)
theorem dX4_bestDirection_15 : decode cX4_bestDirection 15 = .ok (.iload_n 2, 1) := dk_28 (dk_at dksX4_bestDirection_0 15 rfl rfl)
theorem dX4_bestDirection_16 : decode cX4_bestDirection 16 = .ok (.aload_n 0, 1) := dk_42 (dk_at dksX4_bestDirection_0 16 rfl rfl)
theorem dX4_bestDirection_17 : decode cX4_bestDirection 17 = .ok (.getfield 9, 3) := dk_180 0 9 (dk_at dksX4_bestDirection_0 17 rfl rfl)
theorem dX4_bestDirection_20 : decode cX4_bestDirection 20 = .ok (.iconst 2, 1) := dk_5 (dk_at dksX4_bestDirection_0 20 rfl rfl)
theorem dX4_bestDirection_21 : decode cX4_bestDirection 21 = .ok (.iaload, 1) := dk_46 (dk_at dksX4_bestDirection_0 21 rfl rfl)
theorem dX4_bestDirection_22 : decode cX4_bestDirection 22 = .ok (.invokevirtual 181, 3) := dk_182 0 181 (dk_at dksX4_bestDirection_1 0 rfl rfl)
theorem dX4_bestDirection_25 : decode cX4_bestDirection 25 = .ok (.aload_n 0, 1) := dk_42 (dk_at dksX4_bestDirection_1 3 rfl rfl)
theorem dX4_bestDirection_26 : decode cX4_bestDirection 26 = .ok (.iload_n 1, 1) := dk_27 (dk_at dksX4_bestDirection_1 4 rfl rfl)
theorem dX4_bestDirection_27 : decode cX4_bestDirection 27 = .ok (.aload_n 0, 1) := dk_42 (dk_at dksX4_bestDirection_1 5 rfl rfl)
theorem dX4_bestDirection_28 : decode cX4_bestDirection 28 = .ok (.getfield 9, 3) := dk_180 0 9 (dk_at dksX4_bestDirection_1 6 rfl rfl)
theorem dX4_bestDirection_31 : decode cX4_bestDirection 31 = .ok (.iconst 2, 1) := dk_5 (dk_at dksX4_bestDirection_1 9 rfl rfl)
theorem dX4_bestDirection_32 : decode cX4_bestDirection 32 = .ok (.iaload, 1) := dk_46 (dk_at dksX4_bestDirection_1 10 rfl rfl)
theorem dX4_bestDirection_33 : decode cX4_bestDirection 33 = .ok (.invokevirtual 181, 3) := dk_182 0 181 (dk_at dksX4_bestDirection_1 11 rfl rfl)
theorem dX4_bestDirection_36 : decode cX4_bestDirection 36 = .ok (.if_icmp .le 7, 3) := dk_164 0 7 (dk_at dksX4_bestDirection_1 14 rfl rfl)
theorem dX4_bestDirection_39 : decode cX4_bestDirection 39 = .ok (.iload_n 2, 1) := dk_28 (dk_at dksX4_bestDirection_1 17 rfl rfl)
theorem dX4_bestDirection_40 : decode cX4_bestDirection 40 = .ok (.goto 4, 3) := dk_167 0 4 (dk_at dksX4_bestDirection_1 18 rfl rfl)
theorem dX4_bestDirection_43 : decode cX4_bestDirection 43 = .ok (.iload_n 1, 1) := dk_27 (dk_at dksX4_bestDirection_1 21 rfl rfl)
theorem dX4_bestDirection_44 : decode cX4_bestDirection 44 = .ok (.istore_n 1, 1) := dk_60 (dk_at dksX4_bestDirection_1 22 rfl rfl)
theorem dX4_bestDirection_45 : decode cX4_bestDirection 45 = .ok (.iinc 2 1, 3) := dk_132 2 1 (dk_at dksX4_bestDirection_2 0 rfl rfl)
theorem dX4_bestDirection_48 : decode cX4_bestDirection 48 = .ok (.goto (-39), 3) := dk_167 255 217 (dk_at dksX4_bestDirection_2 3 rfl rfl)
theorem dX4_bestDirection_51 : decode cX4_bestDirection 51 = .ok (.iload_n 1, 1) := dk_27 (dk_at dksX4_bestDirection_2 6 rfl rfl)
theorem dX4_bestDirection_52 : decode cX4_bestDirection 52 = .ok (.invokestatic 174, 3) := dk_184 0 174 (dk_at dksX4_bestDirection_2 7 rfl rfl)
theorem dX4_bestDirection_55 : decode cX4_bestDirection 55 = .ok (.ireturn, 1) := dk_172 (dk_at dksX4_bestDirection_2 10 rfl rfl)
abbrev cX4_gridLimit : ByteArray := prog_20_method_81_code
def yX4_gridLimit : MethodName := ⟨RX4, "gridLimit", "()I"⟩
def dkwX4_gridLimit_0 : List UInt8 := [42, 3, 181, 0, 27, 42, 180, 0, 9, 6, 46, 172]
abbrev dktX4_gridLimit_0 : List UInt8 := dkwX4_gridLimit_0 ++ []
theorem dksX4_gridLimit_0 : cX4_gridLimit.data.toList.drop 0 = dktX4_gridLimit_0 := by decide +kernel
theorem dX4_gridLimit_0 : decode cX4_gridLimit 0 = .ok (.aload_n 0, 1) := dk_42 (dk_at dksX4_gridLimit_0 0 rfl rfl)
theorem dX4_gridLimit_1 : decode cX4_gridLimit 1 = .ok (.iconst 0, 1) := dk_3 (dk_at dksX4_gridLimit_0 1 rfl rfl)
theorem dX4_gridLimit_2 : decode cX4_gridLimit 2 = .ok (.putfield 27, 3) := dk_181 0 27 (dk_at dksX4_gridLimit_0 2 rfl rfl)
theorem dX4_gridLimit_5 : decode cX4_gridLimit 5 = .ok (.aload_n 0, 1) := dk_42 (dk_at dksX4_gridLimit_0 5 rfl rfl)
theorem dX4_gridLimit_6 : decode cX4_gridLimit 6 = .ok (.getfield 9, 3) := dk_180 0 9 (dk_at dksX4_gridLimit_0 6 rfl rfl)
theorem dX4_gridLimit_9 : decode cX4_gridLimit 9 = .ok (.iconst 3, 1) := dk_6 (dk_at dksX4_gridLimit_0 9 rfl rfl)
theorem dX4_gridLimit_10 : decode cX4_gridLimit 10 = .ok (.iaload, 1) := dk_46 (dk_at dksX4_gridLimit_0 10 rfl rfl)
theorem dX4_gridLimit_11 : decode cX4_gridLimit 11 = .ok (.ireturn, 1) := dk_172 (dk_at dksX4_gridLimit_0 11 rfl rfl)
abbrev cX4_hasBid : ByteArray := prog_20_method_82_code
def yX4_hasBid : MethodName := ⟨RX4, "hasBid", "(I)Z"⟩
def dkwX4_hasBid_1 : List UInt8 := [172]
abbrev dktX4_hasBid_1 : List UInt8 := dkwX4_hasBid_1 ++ []
def dkwX4_hasBid_0 : List UInt8 := [42, 27, 184, 0, 150, 182, 0, 49, 153, 0, 15, 42, 27, 182, 0, 147, 158, 0, 7, 4, 167, 0, 4, 3]
abbrev dktX4_hasBid_0 : List UInt8 := dkwX4_hasBid_0 ++ dktX4_hasBid_1
theorem dksX4_hasBid_0 : cX4_hasBid.data.toList.drop 0 = dktX4_hasBid_0 := by decide +kernel
theorem dksX4_hasBid_1 : cX4_hasBid.data.toList.drop 24 = dktX4_hasBid_1 := dk_seg dksX4_hasBid_0 24 rfl rfl
theorem dX4_hasBid_0 : decode cX4_hasBid 0 = .ok (.aload_n 0, 1) := dk_42 (dk_at dksX4_hasBid_0 0 rfl rfl)
theorem dX4_hasBid_1 : decode cX4_hasBid 1 = .ok (.iload_n 1, 1) := dk_27 (dk_at dksX4_hasBid_0 1 rfl rfl)
theorem dX4_hasBid_2 : decode cX4_hasBid 2 = .ok (.invokestatic 150, 3) := dk_184 0 150 (dk_at dksX4_hasBid_0 2 rfl rfl)
theorem dX4_hasBid_5 : decode cX4_hasBid 5 = .ok (.invokevirtual 49, 3) := dk_182 0 49 (dk_at dksX4_hasBid_0 5 rfl rfl)
theorem dX4_hasBid_8 : decode cX4_hasBid 8 = .ok (.ifCond .eq 15, 3) := dk_153 0 15 (dk_at dksX4_hasBid_0 8 rfl rfl)
theorem dX4_hasBid_11 : decode cX4_hasBid 11 = .ok (.aload_n 0, 1) := dk_42 (dk_at dksX4_hasBid_0 11 rfl rfl)
theorem dX4_hasBid_12 : decode cX4_hasBid 12 = .ok (.iload_n 1, 1) := dk_27 (dk_at dksX4_hasBid_0 12 rfl rfl)
theorem dX4_hasBid_13 : decode cX4_hasBid 13 = .ok (.invokevirtual 147, 3) := dk_182 0 147 (dk_at dksX4_hasBid_0 13 rfl rfl)
theorem dX4_hasBid_16 : decode cX4_hasBid 16 = .ok (.ifCond .le 7, 3) := dk_158 0 7 (dk_at dksX4_hasBid_0 16 rfl rfl)
theorem dX4_hasBid_19 : decode cX4_hasBid 19 = .ok (.iconst 1, 1) := dk_4 (dk_at dksX4_hasBid_0 19 rfl rfl)
theorem dX4_hasBid_20 : decode cX4_hasBid 20 = .ok (.goto 4, 3) := dk_167 0 4 (dk_at dksX4_hasBid_0 20 rfl rfl)
theorem dX4_hasBid_23 : decode cX4_hasBid 23 = .ok (.iconst 0, 1) := dk_3 (dk_at dksX4_hasBid_0 23 rfl rfl)
theorem dX4_hasBid_24 : decode cX4_hasBid 24 = .ok (.ireturn, 1) := dk_172 (dk_at dksX4_hasBid_1 0 rfl rfl)
abbrev cX4_bidPrice : ByteArray := prog_20_method_84_code
def yX4_bidPrice : MethodName := ⟨RX4, "bidPrice", "(I)I"⟩
def dkwX4_bidPrice_0 : List UInt8 := [42, 27, 182, 0, 184, 153, 0, 11, 42, 27, 182, 0, 147, 167, 0, 4, 3, 172]
abbrev dktX4_bidPrice_0 : List UInt8 := dkwX4_bidPrice_0 ++ []
theorem dksX4_bidPrice_0 : cX4_bidPrice.data.toList.drop 0 = dktX4_bidPrice_0 := by decide +kernel
theorem dX4_bidPrice_0 : decode cX4_bidPrice 0 = .ok (.aload_n 0, 1) := dk_42 (dk_at dksX4_bidPrice_0 0 rfl rfl)
theorem dX4_bidPrice_1 : decode cX4_bidPrice 1 = .ok (.iload_n 1, 1) := dk_27 (dk_at dksX4_bidPrice_0 1 rfl rfl)
theorem dX4_bidPrice_2 : decode cX4_bidPrice 2 = .ok (.invokevirtual 184, 3) := dk_182 0 184 (dk_at dksX4_bidPrice_0 2 rfl rfl)
theorem dX4_bidPrice_5 : decode cX4_bidPrice 5 = .ok (.ifCond .eq 11, 3) := dk_153 0 11 (dk_at dksX4_bidPrice_0 5 rfl rfl)
theorem dX4_bidPrice_8 : decode cX4_bidPrice 8 = .ok (.aload_n 0, 1) := dk_42 (dk_at dksX4_bidPrice_0 8 rfl rfl)
theorem dX4_bidPrice_9 : decode cX4_bidPrice 9 = .ok (.iload_n 1, 1) := dk_27 (dk_at dksX4_bidPrice_0 9 rfl rfl)
theorem dX4_bidPrice_10 : decode cX4_bidPrice 10 = .ok (.invokevirtual 147, 3) := dk_182 0 147 (dk_at dksX4_bidPrice_0 10 rfl rfl)
theorem dX4_bidPrice_13 : decode cX4_bidPrice 13 = .ok (.goto 4, 3) := dk_167 0 4 (dk_at dksX4_bidPrice_0 13 rfl rfl)
theorem dX4_bidPrice_16 : decode cX4_bidPrice 16 = .ok (.iconst 0, 1) := dk_3 (dk_at dksX4_bidPrice_0 16 rfl rfl)
theorem dX4_bidPrice_17 : decode cX4_bidPrice 17 = .ok (.ireturn, 1) := dk_172 (dk_at dksX4_bidPrice_0 17 rfl rfl)
abbrev cX4_isBid : ByteArray := prog_20_method_83_code
def yX4_isBid : MethodName := ⟨RX4, "isBid", "(I)Z"⟩
def dkwX4_isBid_1 : List UInt8 := [3, 181, 0, 27, 42, 180, 0, 27, 154, 0, 7, 4, 167, 0, 4, 3, 172]
abbrev dktX4_isBid_1 : List UInt8 := dkwX4_isBid_1 ++ []
def dkwX4_isBid_0 : List UInt8 := [42, 27, 184, 0, 150, 154, 0, 7, 4, 167, 0, 16, 42, 27, 182, 0, 147, 154, 0, 7, 5, 167, 0, 4]
abbrev dktX4_isBid_0 : List UInt8 := dkwX4_isBid_0 ++ dktX4_isBid_1
theorem dksX4_isBid_0 : cX4_isBid.data.toList.drop 0 = dktX4_isBid_0 := by decide +kernel
theorem dksX4_isBid_1 : cX4_isBid.data.toList.drop 24 = dktX4_isBid_1 := dk_seg dksX4_isBid_0 24 rfl rfl
theorem dX4_isBid_0 : decode cX4_isBid 0 = .ok (.aload_n 0, 1) := dk_42 (dk_at dksX4_isBid_0 0 rfl rfl)
theorem dX4_isBid_1 : decode cX4_isBid 1 = .ok (.iload_n 1, 1) := dk_27 (dk_at dksX4_isBid_0 1 rfl rfl)
theorem dX4_isBid_2 : decode cX4_isBid 2 = .ok (.invokestatic 150, 3) := dk_184 0 150 (dk_at dksX4_isBid_0 2 rfl rfl)
theorem dX4_isBid_5 : decode cX4_isBid 5 = .ok (.ifCond .ne 7, 3) := dk_154 0 7 (dk_at dksX4_isBid_0 5 rfl rfl)
theorem dX4_isBid_8 : decode cX4_isBid 8 = .ok (.iconst 1, 1) := dk_4 (dk_at dksX4_isBid_0 8 rfl rfl)
theorem dX4_isBid_9 : decode cX4_isBid 9 = .ok (.goto 16, 3) := dk_167 0 16 (dk_at dksX4_isBid_0 9 rfl rfl)
theorem dX4_isBid_12 : decode cX4_isBid 12 = .ok (.aload_n 0, 1) := dk_42 (dk_at dksX4_isBid_0 12 rfl rfl)
theorem dX4_isBid_13 : decode cX4_isBid 13 = .ok (.iload_n 1, 1) := dk_27 (dk_at dksX4_isBid_0 13 rfl rfl)
theorem dX4_isBid_14 : decode cX4_isBid 14 = .ok (.invokevirtual 147, 3) := dk_182 0 147 (dk_at dksX4_isBid_0 14 rfl rfl)
theorem dX4_isBid_17 : decode cX4_isBid 17 = .ok (.ifCond .ne 7, 3) := dk_154 0 7 (dk_at dksX4_isBid_0 17 rfl rfl)
theorem dX4_isBid_20 : decode cX4_isBid 20 = .ok (.iconst 2, 1) := dk_5 (dk_at dksX4_isBid_0 20 rfl rfl)
theorem dX4_isBid_21 : decode cX4_isBid 21 = .ok (.goto 4, 3) := dk_167 0 4 (dk_at dksX4_isBid_0 21 rfl rfl)
theorem dX4_isBid_24 : decode cX4_isBid 24 = .ok (.iconst 0, 1) := dk_3 (dk_at dksX4_isBid_1 0 rfl rfl)
theorem dX4_isBid_25 : decode cX4_isBid 25 = .ok (.putfield 27, 3) := dk_181 0 27 (dk_at dksX4_isBid_1 1 rfl rfl)
theorem dX4_isBid_28 : decode cX4_isBid 28 = .ok (.aload_n 0, 1) := dk_42 (dk_at dksX4_isBid_1 4 rfl rfl)
theorem dX4_isBid_29 : decode cX4_isBid 29 = .ok (.getfield 27, 3) := dk_180 0 27 (dk_at dksX4_isBid_1 5 rfl rfl)
theorem dX4_isBid_32 : decode cX4_isBid 32 = .ok (.ifCond .ne 7, 3) := dk_154 0 7 (dk_at dksX4_isBid_1 8 rfl rfl)
theorem dX4_isBid_35 : decode cX4_isBid 35 = .ok (.iconst 1, 1) := dk_4 (dk_at dksX4_isBid_1 11 rfl rfl)
theorem dX4_isBid_36 : decode cX4_isBid 36 = .ok (.goto 4, 3) := dk_167 0 4 (dk_at dksX4_isBid_1 12 rfl rfl)
theorem dX4_isBid_39 : decode cX4_isBid 39 = .ok (.iconst 0, 1) := dk_3 (dk_at dksX4_isBid_1 15 rfl rfl)
theorem dX4_isBid_40 : decode cX4_isBid 40 = .ok (.ireturn, 1) := dk_172 (dk_at dksX4_isBid_1 16 rfl rfl)
abbrev cX4_bidQuantity : ByteArray := prog_20_method_85_code
def yX4_bidQuantity : MethodName := ⟨RX4, "bidQuantity", "(I)I"⟩
def dkwX4_bidQuantity_0 : List UInt8 := [42, 27, 182, 0, 184, 153, 0, 11, 42, 27, 182, 0, 159, 167, 0, 4, 3, 172]
abbrev dktX4_bidQuantity_0 : List UInt8 := dkwX4_bidQuantity_0 ++ []
theorem dksX4_bidQuantity_0 : cX4_bidQuantity.data.toList.drop 0 = dktX4_bidQuantity_0 := by decide +kernel
theorem dX4_bidQuantity_0 : decode cX4_bidQuantity 0 = .ok (.aload_n 0, 1) := dk_42 (dk_at dksX4_bidQuantity_0 0 rfl rfl)
theorem dX4_bidQuantity_1 : decode cX4_bidQuantity 1 = .ok (.iload_n 1, 1) := dk_27 (dk_at dksX4_bidQuantity_0 1 rfl rfl)
theorem dX4_bidQuantity_2 : decode cX4_bidQuantity 2 = .ok (.invokevirtual 184, 3) := dk_182 0 184 (dk_at dksX4_bidQuantity_0 2 rfl rfl)
theorem dX4_bidQuantity_5 : decode cX4_bidQuantity 5 = .ok (.ifCond .eq 11, 3) := dk_153 0 11 (dk_at dksX4_bidQuantity_0 5 rfl rfl)
theorem dX4_bidQuantity_8 : decode cX4_bidQuantity 8 = .ok (.aload_n 0, 1) := dk_42 (dk_at dksX4_bidQuantity_0 8 rfl rfl)
theorem dX4_bidQuantity_9 : decode cX4_bidQuantity 9 = .ok (.iload_n 1, 1) := dk_27 (dk_at dksX4_bidQuantity_0 9 rfl rfl)
theorem dX4_bidQuantity_10 : decode cX4_bidQuantity 10 = .ok (.invokevirtual 159, 3) := dk_182 0 159 (dk_at dksX4_bidQuantity_0 10 rfl rfl)
theorem dX4_bidQuantity_13 : decode cX4_bidQuantity 13 = .ok (.goto 4, 3) := dk_167 0 4 (dk_at dksX4_bidQuantity_0 13 rfl rfl)
theorem dX4_bidQuantity_16 : decode cX4_bidQuantity 16 = .ok (.iconst 0, 1) := dk_3 (dk_at dksX4_bidQuantity_0 16 rfl rfl)
theorem dX4_bidQuantity_17 : decode cX4_bidQuantity 17 = .ok (.ireturn, 1) := dk_172 (dk_at dksX4_bidQuantity_0 17 rfl rfl)
abbrev cX4_bidByPrice : ByteArray := prog_20_method_86_code
def yX4_bidByPrice : MethodName := ⟨RX4, "bidByPrice", "(I)I"⟩
def dkwX4_bidByPrice_5 : List UInt8 := [182, 0, 49, 153, 0, 5, 28, 172, 132, 2, 1, 167, 255, 128, 42, 4, 181, 0, 27, 3, 172]
abbrev dktX4_bidByPrice_5 : List UInt8 := dkwX4_bidByPrice_5 ++ []
def dkwX4_bidByPrice_4 : List UInt8 := [4, 167, 0, 4, 3, 96, 62, 132, 4, 1, 167, 255, 175, 42, 29, 27, 160, 0, 7, 4, 167, 0, 4, 3]
abbrev dktX4_bidByPrice_4 : List UInt8 := dkwX4_bidByPrice_4 ++ dktX4_bidByPrice_5
def dkwX4_bidByPrice_3 : List UInt8 := [157, 0, 24, 21, 5, 154, 0, 23, 21, 6, 157, 0, 14, 21, 6, 154, 0, 13, 21, 4, 28, 162, 0, 7]
abbrev dktX4_bidByPrice_3 : List UInt8 := dkwX4_bidByPrice_3 ++ dktX4_bidByPrice_4
def dkwX4_bidByPrice_2 : List UInt8 := [182, 0, 159, 42, 28, 182, 0, 159, 100, 54, 6, 29, 42, 21, 4, 182, 0, 147, 158, 0, 33, 21, 5]
abbrev dktX4_bidByPrice_2 : List UInt8 := dkwX4_bidByPrice_2 ++ dktX4_bidByPrice_3
def dkwX4_bidByPrice_1 : List UInt8 := [21, 4, 16, 24, 162, 0, 80, 42, 21, 4, 182, 0, 147, 42, 28, 182, 0, 147, 100, 54, 5, 42, 21, 4]
abbrev dktX4_bidByPrice_1 : List UInt8 := dkwX4_bidByPrice_1 ++ dktX4_bidByPrice_2
def dkwX4_bidByPrice_0 : List UInt8 := [3, 61, 28, 16, 24, 162, 0, 128, 3, 62, 42, 28, 182, 0, 147, 154, 0, 6, 167, 0, 109, 3, 54, 4]
abbrev dktX4_bidByPrice_0 : List UInt8 := dkwX4_bidByPrice_0 ++ dktX4_bidByPrice_1
theorem dksX4_bidByPrice_0 : cX4_bidByPrice.data.toList.drop 0 = dktX4_bidByPrice_0 := by decide +kernel
theorem dksX4_bidByPrice_1 : cX4_bidByPrice.data.toList.drop 24 = dktX4_bidByPrice_1 := dk_seg dksX4_bidByPrice_0 24 rfl rfl
theorem dksX4_bidByPrice_2 : cX4_bidByPrice.data.toList.drop 48 = dktX4_bidByPrice_2 := dk_seg dksX4_bidByPrice_1 24 rfl rfl
theorem dksX4_bidByPrice_3 : cX4_bidByPrice.data.toList.drop 71 = dktX4_bidByPrice_3 := dk_seg dksX4_bidByPrice_2 23 rfl rfl
theorem dksX4_bidByPrice_4 : cX4_bidByPrice.data.toList.drop 95 = dktX4_bidByPrice_4 := dk_seg dksX4_bidByPrice_3 24 rfl rfl
theorem dksX4_bidByPrice_5 : cX4_bidByPrice.data.toList.drop 119 = dktX4_bidByPrice_5 := dk_seg dksX4_bidByPrice_4 24 rfl rfl
theorem dX4_bidByPrice_0 : decode cX4_bidByPrice 0 = .ok (.iconst 0, 1) := dk_3 (dk_at dksX4_bidByPrice_0 0 rfl rfl)
theorem dX4_bidByPrice_1 : decode cX4_bidByPrice 1 = .ok (.istore_n 2, 1) := dk_61 (dk_at dksX4_bidByPrice_0 1 rfl rfl)
theorem dX4_bidByPrice_2 : decode cX4_bidByPrice 2 = .ok (.iload_n 2, 1) := dk_28 (dk_at dksX4_bidByPrice_0 2 rfl rfl)
theorem dX4_bidByPrice_3 : decode cX4_bidByPrice 3 = .ok (.bipush 24, 2) := dk_16 24 (dk_at dksX4_bidByPrice_0 3 rfl rfl)
theorem dX4_bidByPrice_5 : decode cX4_bidByPrice 5 = .ok (.if_icmp .ge 128, 3) := dk_162 0 128 (dk_at dksX4_bidByPrice_0 5 rfl rfl)
theorem dX4_bidByPrice_8 : decode cX4_bidByPrice 8 = .ok (.iconst 0, 1) := dk_3 (dk_at dksX4_bidByPrice_0 8 rfl rfl)
theorem dX4_bidByPrice_9 : decode cX4_bidByPrice 9 = .ok (.istore_n 3, 1) := dk_62 (dk_at dksX4_bidByPrice_0 9 rfl rfl)
theorem dX4_bidByPrice_10 : decode cX4_bidByPrice 10 = .ok (.aload_n 0, 1) := dk_42 (dk_at dksX4_bidByPrice_0 10 rfl rfl)
theorem dX4_bidByPrice_11 : decode cX4_bidByPrice 11 = .ok (.iload_n 2, 1) := dk_28 (dk_at dksX4_bidByPrice_0 11 rfl rfl)
theorem dX4_bidByPrice_12 : decode cX4_bidByPrice 12 = .ok (.invokevirtual 147, 3) := dk_182 0 147 (dk_at dksX4_bidByPrice_0 12 rfl rfl)
theorem dX4_bidByPrice_15 : decode cX4_bidByPrice 15 = .ok (.ifCond .ne 6, 3) := dk_154 0 6 (dk_at dksX4_bidByPrice_0 15 rfl rfl)
theorem dX4_bidByPrice_18 : decode cX4_bidByPrice 18 = .ok (.goto 109, 3) := dk_167 0 109 (dk_at dksX4_bidByPrice_0 18 rfl rfl)
theorem dX4_bidByPrice_21 : decode cX4_bidByPrice 21 = .ok (.iconst 0, 1) := dk_3 (dk_at dksX4_bidByPrice_0 21 rfl rfl)
theorem dX4_bidByPrice_22 : decode cX4_bidByPrice 22 = .ok (.istore 4, 2) := dk_54 4 (dk_at dksX4_bidByPrice_0 22 rfl rfl)
theorem dX4_bidByPrice_24 : decode cX4_bidByPrice 24 = .ok (.iload 4, 2) := dk_21 4 (dk_at dksX4_bidByPrice_1 0 rfl rfl)
theorem dX4_bidByPrice_26 : decode cX4_bidByPrice 26 = .ok (.bipush 24, 2) := dk_16 24 (dk_at dksX4_bidByPrice_1 2 rfl rfl)
theorem dX4_bidByPrice_28 : decode cX4_bidByPrice 28 = .ok (.if_icmp .ge 80, 3) := dk_162 0 80 (dk_at dksX4_bidByPrice_1 4 rfl rfl)
theorem dX4_bidByPrice_31 : decode cX4_bidByPrice 31 = .ok (.aload_n 0, 1) := dk_42 (dk_at dksX4_bidByPrice_1 7 rfl rfl)
theorem dX4_bidByPrice_32 : decode cX4_bidByPrice 32 = .ok (.iload 4, 2) := dk_21 4 (dk_at dksX4_bidByPrice_1 8 rfl rfl)
theorem dX4_bidByPrice_34 : decode cX4_bidByPrice 34 = .ok (.invokevirtual 147, 3) := dk_182 0 147 (dk_at dksX4_bidByPrice_1 10 rfl rfl)
theorem dX4_bidByPrice_37 : decode cX4_bidByPrice 37 = .ok (.aload_n 0, 1) := dk_42 (dk_at dksX4_bidByPrice_1 13 rfl rfl)
theorem dX4_bidByPrice_38 : decode cX4_bidByPrice 38 = .ok (.iload_n 2, 1) := dk_28 (dk_at dksX4_bidByPrice_1 14 rfl rfl)
theorem dX4_bidByPrice_39 : decode cX4_bidByPrice 39 = .ok (.invokevirtual 147, 3) := dk_182 0 147 (dk_at dksX4_bidByPrice_1 15 rfl rfl)
theorem dX4_bidByPrice_42 : decode cX4_bidByPrice 42 = .ok (.isub, 1) := dk_100 (dk_at dksX4_bidByPrice_1 18 rfl rfl)
theorem dX4_bidByPrice_43 : decode cX4_bidByPrice 43 = .ok (.istore 5, 2) := dk_54 5 (dk_at dksX4_bidByPrice_1 19 rfl rfl)
theorem dX4_bidByPrice_45 : decode cX4_bidByPrice 45 = .ok (.aload_n 0, 1) := dk_42 (dk_at dksX4_bidByPrice_1 21 rfl rfl)
theorem dX4_bidByPrice_46 : decode cX4_bidByPrice 46 = .ok (.iload 4, 2) := dk_21 4 (dk_at dksX4_bidByPrice_1 22 rfl rfl)
theorem dX4_bidByPrice_48 : decode cX4_bidByPrice 48 = .ok (.invokevirtual 159, 3) := dk_182 0 159 (dk_at dksX4_bidByPrice_2 0 rfl rfl)
theorem dX4_bidByPrice_51 : decode cX4_bidByPrice 51 = .ok (.aload_n 0, 1) := dk_42 (dk_at dksX4_bidByPrice_2 3 rfl rfl)
theorem dX4_bidByPrice_52 : decode cX4_bidByPrice 52 = .ok (.iload_n 2, 1) := dk_28 (dk_at dksX4_bidByPrice_2 4 rfl rfl)
theorem dX4_bidByPrice_53 : decode cX4_bidByPrice 53 = .ok (.invokevirtual 159, 3) := dk_182 0 159 (dk_at dksX4_bidByPrice_2 5 rfl rfl)
theorem dX4_bidByPrice_56 : decode cX4_bidByPrice 56 = .ok (.isub, 1) := dk_100 (dk_at dksX4_bidByPrice_2 8 rfl rfl)
theorem dX4_bidByPrice_57 : decode cX4_bidByPrice 57 = .ok (.istore 6, 2) := dk_54 6 (dk_at dksX4_bidByPrice_2 9 rfl rfl)
theorem dX4_bidByPrice_59 : decode cX4_bidByPrice 59 = .ok (.iload_n 3, 1) := dk_29 (dk_at dksX4_bidByPrice_2 11 rfl rfl)
theorem dX4_bidByPrice_60 : decode cX4_bidByPrice 60 = .ok (.aload_n 0, 1) := dk_42 (dk_at dksX4_bidByPrice_2 12 rfl rfl)
theorem dX4_bidByPrice_61 : decode cX4_bidByPrice 61 = .ok (.iload 4, 2) := dk_21 4 (dk_at dksX4_bidByPrice_2 13 rfl rfl)
theorem dX4_bidByPrice_63 : decode cX4_bidByPrice 63 = .ok (.invokevirtual 147, 3) := dk_182 0 147 (dk_at dksX4_bidByPrice_2 15 rfl rfl)
theorem dX4_bidByPrice_66 : decode cX4_bidByPrice 66 = .ok (.ifCond .le 33, 3) := dk_158 0 33 (dk_at dksX4_bidByPrice_2 18 rfl rfl)
theorem dX4_bidByPrice_69 : decode cX4_bidByPrice 69 = .ok (.iload 5, 2) := dk_21 5 (dk_at dksX4_bidByPrice_2 21 rfl rfl)
theorem dX4_bidByPrice_71 : decode cX4_bidByPrice 71 = .ok (.ifCond .gt 24, 3) := dk_157 0 24 (dk_at dksX4_bidByPrice_3 0 rfl rfl)
theorem dX4_bidByPrice_74 : decode cX4_bidByPrice 74 = .ok (.iload 5, 2) := dk_21 5 (dk_at dksX4_bidByPrice_3 3 rfl rfl)
theorem dX4_bidByPrice_76 : decode cX4_bidByPrice 76 = .ok (.ifCond .ne 23, 3) := dk_154 0 23 (dk_at dksX4_bidByPrice_3 5 rfl rfl)
theorem dX4_bidByPrice_79 : decode cX4_bidByPrice 79 = .ok (.iload 6, 2) := dk_21 6 (dk_at dksX4_bidByPrice_3 8 rfl rfl)
theorem dX4_bidByPrice_81 : decode cX4_bidByPrice 81 = .ok (.ifCond .gt 14, 3) := dk_157 0 14 (dk_at dksX4_bidByPrice_3 10 rfl rfl)
theorem dX4_bidByPrice_84 : decode cX4_bidByPrice 84 = .ok (.iload 6, 2) := dk_21 6 (dk_at dksX4_bidByPrice_3 13 rfl rfl)
theorem dX4_bidByPrice_86 : decode cX4_bidByPrice 86 = .ok (.ifCond .ne 13, 3) := dk_154 0 13 (dk_at dksX4_bidByPrice_3 15 rfl rfl)
theorem dX4_bidByPrice_89 : decode cX4_bidByPrice 89 = .ok (.iload 4, 2) := dk_21 4 (dk_at dksX4_bidByPrice_3 18 rfl rfl)
theorem dX4_bidByPrice_91 : decode cX4_bidByPrice 91 = .ok (.iload_n 2, 1) := dk_28 (dk_at dksX4_bidByPrice_3 20 rfl rfl)
theorem dX4_bidByPrice_92 : decode cX4_bidByPrice 92 = .ok (.if_icmp .ge 7, 3) := dk_162 0 7 (dk_at dksX4_bidByPrice_3 21 rfl rfl)
theorem dX4_bidByPrice_95 : decode cX4_bidByPrice 95 = .ok (.iconst 1, 1) := dk_4 (dk_at dksX4_bidByPrice_4 0 rfl rfl)
theorem dX4_bidByPrice_96 : decode cX4_bidByPrice 96 = .ok (.goto 4, 3) := dk_167 0 4 (dk_at dksX4_bidByPrice_4 1 rfl rfl)
theorem dX4_bidByPrice_99 : decode cX4_bidByPrice 99 = .ok (.iconst 0, 1) := dk_3 (dk_at dksX4_bidByPrice_4 4 rfl rfl)
theorem dX4_bidByPrice_100 : decode cX4_bidByPrice 100 = .ok (.iadd, 1) := dk_96 (dk_at dksX4_bidByPrice_4 5 rfl rfl)
theorem dX4_bidByPrice_101 : decode cX4_bidByPrice 101 = .ok (.istore_n 3, 1) := dk_62 (dk_at dksX4_bidByPrice_4 6 rfl rfl)
theorem dX4_bidByPrice_102 : decode cX4_bidByPrice 102 = .ok (.iinc 4 1, 3) := dk_132 4 1 (dk_at dksX4_bidByPrice_4 7 rfl rfl)
theorem dX4_bidByPrice_105 : decode cX4_bidByPrice 105 = .ok (.goto (-81), 3) := dk_167 255 175 (dk_at dksX4_bidByPrice_4 10 rfl rfl)
theorem dX4_bidByPrice_108 : decode cX4_bidByPrice 108 = .ok (.aload_n 0, 1) := dk_42 (dk_at dksX4_bidByPrice_4 13 rfl rfl)
theorem dX4_bidByPrice_109 : decode cX4_bidByPrice 109 = .ok (.iload_n 3, 1) := dk_29 (dk_at dksX4_bidByPrice_4 14 rfl rfl)
theorem dX4_bidByPrice_110 : decode cX4_bidByPrice 110 = .ok (.iload_n 1, 1) := dk_27 (dk_at dksX4_bidByPrice_4 15 rfl rfl)
theorem dX4_bidByPrice_111 : decode cX4_bidByPrice 111 = .ok (.if_icmp .ne 7, 3) := dk_160 0 7 (dk_at dksX4_bidByPrice_4 16 rfl rfl)
theorem dX4_bidByPrice_114 : decode cX4_bidByPrice 114 = .ok (.iconst 1, 1) := dk_4 (dk_at dksX4_bidByPrice_4 19 rfl rfl)
theorem dX4_bidByPrice_115 : decode cX4_bidByPrice 115 = .ok (.goto 4, 3) := dk_167 0 4 (dk_at dksX4_bidByPrice_4 20 rfl rfl)
theorem dX4_bidByPrice_118 : decode cX4_bidByPrice 118 = .ok (.iconst 0, 1) := dk_3 (dk_at dksX4_bidByPrice_4 23 rfl rfl)
theorem dX4_bidByPrice_119 : decode cX4_bidByPrice 119 = .ok (.invokevirtual 49, 3) := dk_182 0 49 (dk_at dksX4_bidByPrice_5 0 rfl rfl)
theorem dX4_bidByPrice_122 : decode cX4_bidByPrice 122 = .ok (.ifCond .eq 5, 3) := dk_153 0 5 (dk_at dksX4_bidByPrice_5 3 rfl rfl)
theorem dX4_bidByPrice_125 : decode cX4_bidByPrice 125 = .ok (.iload_n 2, 1) := dk_28 (dk_at dksX4_bidByPrice_5 6 rfl rfl)
theorem dX4_bidByPrice_126 : decode cX4_bidByPrice 126 = .ok (.ireturn, 1) := dk_172 (dk_at dksX4_bidByPrice_5 7 rfl rfl)
theorem dX4_bidByPrice_127 : decode cX4_bidByPrice 127 = .ok (.iinc 2 1, 3) := dk_132 2 1 (dk_at dksX4_bidByPrice_5 8 rfl rfl)
theorem dX4_bidByPrice_130 : decode cX4_bidByPrice 130 = .ok (.goto (-128), 3) := dk_167 255 128 (dk_at dksX4_bidByPrice_5 11 rfl rfl)
theorem dX4_bidByPrice_133 : decode cX4_bidByPrice 133 = .ok (.aload_n 0, 1) := dk_42 (dk_at dksX4_bidByPrice_5 14 rfl rfl)
theorem dX4_bidByPrice_134 : decode cX4_bidByPrice 134 = .ok (.iconst 1, 1) := dk_4 (dk_at dksX4_bidByPrice_5 15 rfl rfl)
theorem dX4_bidByPrice_135 : decode cX4_bidByPrice 135 = .ok (.putfield 27, 3) := dk_181 0 27 (dk_at dksX4_bidByPrice_5 16 rfl rfl)
theorem dX4_bidByPrice_138 : decode cX4_bidByPrice 138 = .ok (.iconst 0, 1) := dk_3 (dk_at dksX4_bidByPrice_5 19 rfl rfl)
theorem dX4_bidByPrice_139 : decode cX4_bidByPrice 139 = .ok (.ireturn, 1) := dk_172 (dk_at dksX4_bidByPrice_5 20 rfl rfl)
abbrev cX4_time : ByteArray := prog_20_method_87_code
def yX4_time : MethodName := ⟨RX4, "time", "()I"⟩
def dkwX4_time_0 : List UInt8 := [42, 3, 181, 0, 27, 42, 180, 0, 9, 7, 46, 172]
abbrev dktX4_time_0 : List UInt8 := dkwX4_time_0 ++ []
theorem dksX4_time_0 : cX4_time.data.toList.drop 0 = dktX4_time_0 := by decide +kernel
theorem dX4_time_0 : decode cX4_time 0 = .ok (.aload_n 0, 1) := dk_42 (dk_at dksX4_time_0 0 rfl rfl)
theorem dX4_time_1 : decode cX4_time 1 = .ok (.iconst 0, 1) := dk_3 (dk_at dksX4_time_0 1 rfl rfl)
theorem dX4_time_2 : decode cX4_time 2 = .ok (.putfield 27, 3) := dk_181 0 27 (dk_at dksX4_time_0 2 rfl rfl)
theorem dX4_time_5 : decode cX4_time 5 = .ok (.aload_n 0, 1) := dk_42 (dk_at dksX4_time_0 5 rfl rfl)
theorem dX4_time_6 : decode cX4_time 6 = .ok (.getfield 9, 3) := dk_180 0 9 (dk_at dksX4_time_0 6 rfl rfl)
theorem dX4_time_9 : decode cX4_time 9 = .ok (.iconst 4, 1) := dk_7 (dk_at dksX4_time_0 9 rfl rfl)
theorem dX4_time_10 : decode cX4_time 10 = .ok (.iaload, 1) := dk_46 (dk_at dksX4_time_0 10 rfl rfl)
theorem dX4_time_11 : decode cX4_time 11 = .ok (.ireturn, 1) := dk_172 (dk_at dksX4_time_0 11 rfl rfl)
abbrev cX4_incomeWithin : ByteArray := prog_20_method_88_code
def yX4_incomeWithin : MethodName := ⟨RX4, "incomeWithin", "(I)I"⟩
def dkwX4_incomeWithin_2 : List UInt8 := [180, 0, 9, 17, 5, 147, 46, 100, 61, 42, 16, 11, 3, 182, 0, 30, 28, 172]
abbrev dktX4_incomeWithin_2 : List UInt8 := dkwX4_incomeWithin_2 ++ []
def dkwX4_incomeWithin_1 : List UInt8 := [61, 28, 27, 162, 0, 13, 42, 182, 0, 165, 132, 2, 1, 167, 255, 244, 42, 180, 0, 9, 16, 8, 46, 42]
abbrev dktX4_incomeWithin_1 : List UInt8 := dkwX4_incomeWithin_1 ++ dktX4_incomeWithin_2
def dkwX4_incomeWithin_0 : List UInt8 := [42, 27, 4, 16, 48, 184, 0, 53, 182, 0, 49, 154, 0, 5, 3, 172, 42, 3, 16, 11, 182, 0, 30, 3]
abbrev dktX4_incomeWithin_0 : List UInt8 := dkwX4_incomeWithin_0 ++ dktX4_incomeWithin_1
theorem dksX4_incomeWithin_0 : cX4_incomeWithin.data.toList.drop 0 = dktX4_incomeWithin_0 := by decide +kernel
theorem dksX4_incomeWithin_1 : cX4_incomeWithin.data.toList.drop 24 = dktX4_incomeWithin_1 := dk_seg dksX4_incomeWithin_0 24 rfl rfl
theorem dksX4_incomeWithin_2 : cX4_incomeWithin.data.toList.drop 48 = dktX4_incomeWithin_2 := dk_seg dksX4_incomeWithin_1 24 rfl rfl
theorem dX4_incomeWithin_0 : decode cX4_incomeWithin 0 = .ok (.aload_n 0, 1) := dk_42 (dk_at dksX4_incomeWithin_0 0 rfl rfl)
theorem dX4_incomeWithin_1 : decode cX4_incomeWithin 1 = .ok (.iload_n 1, 1) := dk_27 (dk_at dksX4_incomeWithin_0 1 rfl rfl)
theorem dX4_incomeWithin_2 : decode cX4_incomeWithin 2 = .ok (.iconst 1, 1) := dk_4 (dk_at dksX4_incomeWithin_0 2 rfl rfl)
theorem dX4_incomeWithin_3 : decode cX4_incomeWithin 3 = .ok (.bipush 48, 2) := dk_16 48 (dk_at dksX4_incomeWithin_0 3 rfl rfl)
theorem dX4_incomeWithin_5 : decode cX4_incomeWithin 5 = .ok (.invokestatic 53, 3) := dk_184 0 53 (dk_at dksX4_incomeWithin_0 5 rfl rfl)
theorem dX4_incomeWithin_8 : decode cX4_incomeWithin 8 = .ok (.invokevirtual 49, 3) := dk_182 0 49 (dk_at dksX4_incomeWithin_0 8 rfl rfl)
theorem dX4_incomeWithin_11 : decode cX4_incomeWithin 11 = .ok (.ifCond .ne 5, 3) := dk_154 0 5 (dk_at dksX4_incomeWithin_0 11 rfl rfl)
theorem dX4_incomeWithin_14 : decode cX4_incomeWithin 14 = .ok (.iconst 0, 1) := dk_3 (dk_at dksX4_incomeWithin_0 14 rfl rfl)
theorem dX4_incomeWithin_15 : decode cX4_incomeWithin 15 = .ok (.ireturn, 1) := dk_172 (dk_at dksX4_incomeWithin_0 15 rfl rfl)
theorem dX4_incomeWithin_16 : decode cX4_incomeWithin 16 = .ok (.aload_n 0, 1) := dk_42 (dk_at dksX4_incomeWithin_0 16 rfl rfl)
theorem dX4_incomeWithin_17 : decode cX4_incomeWithin 17 = .ok (.iconst 0, 1) := dk_3 (dk_at dksX4_incomeWithin_0 17 rfl rfl)
theorem dX4_incomeWithin_18 : decode cX4_incomeWithin 18 = .ok (.bipush 11, 2) := dk_16 11 (dk_at dksX4_incomeWithin_0 18 rfl rfl)
theorem dX4_incomeWithin_20 : decode cX4_incomeWithin 20 = .ok (.invokevirtual 30, 3) := dk_182 0 30 (dk_at dksX4_incomeWithin_0 20 rfl rfl)
theorem dX4_incomeWithin_23 : decode cX4_incomeWithin 23 = .ok (.iconst 0, 1) := dk_3 (dk_at dksX4_incomeWithin_0 23 rfl rfl)
theorem dX4_incomeWithin_24 : decode cX4_incomeWithin 24 = .ok (.istore_n 2, 1) := dk_61 (dk_at dksX4_incomeWithin_1 0 rfl rfl)
theorem dX4_incomeWithin_25 : decode cX4_incomeWithin 25 = .ok (.iload_n 2, 1) := dk_28 (dk_at dksX4_incomeWithin_1 1 rfl rfl)
theorem dX4_incomeWithin_26 : decode cX4_incomeWithin 26 = .ok (.iload_n 1, 1) := dk_27 (dk_at dksX4_incomeWithin_1 2 rfl rfl)
theorem dX4_incomeWithin_27 : decode cX4_incomeWithin 27 = .ok (.if_icmp .ge 13, 3) := dk_162 0 13 (dk_at dksX4_incomeWithin_1 3 rfl rfl)
theorem dX4_incomeWithin_30 : decode cX4_incomeWithin 30 = .ok (.aload_n 0, 1) := dk_42 (dk_at dksX4_incomeWithin_1 6 rfl rfl)
theorem dX4_incomeWithin_31 : decode cX4_incomeWithin 31 = .ok (.invokevirtual 165, 3) := dk_182 0 165 (dk_at dksX4_incomeWithin_1 7 rfl rfl)
theorem dX4_incomeWithin_34 : decode cX4_incomeWithin 34 = .ok (.iinc 2 1, 3) := dk_132 2 1 (dk_at dksX4_incomeWithin_1 10 rfl rfl)
theorem dX4_incomeWithin_37 : decode cX4_incomeWithin 37 = .ok (.goto (-12), 3) := dk_167 255 244 (dk_at dksX4_incomeWithin_1 13 rfl rfl)
theorem dX4_incomeWithin_40 : decode cX4_incomeWithin 40 = .ok (.aload_n 0, 1) := dk_42 (dk_at dksX4_incomeWithin_1 16 rfl rfl)
theorem dX4_incomeWithin_41 : decode cX4_incomeWithin 41 = .ok (.getfield 9, 3) := dk_180 0 9 (dk_at dksX4_incomeWithin_1 17 rfl rfl)
theorem dX4_incomeWithin_44 : decode cX4_incomeWithin 44 = .ok (.bipush 8, 2) := dk_16 8 (dk_at dksX4_incomeWithin_1 20 rfl rfl)
theorem dX4_incomeWithin_46 : decode cX4_incomeWithin 46 = .ok (.iaload, 1) := dk_46 (dk_at dksX4_incomeWithin_1 22 rfl rfl)
theorem dX4_incomeWithin_47 : decode cX4_incomeWithin 47 = .ok (.aload_n 0, 1) := dk_42 (dk_at dksX4_incomeWithin_1 23 rfl rfl)
theorem dX4_incomeWithin_48 : decode cX4_incomeWithin 48 = .ok (.getfield 9, 3) := dk_180 0 9 (dk_at dksX4_incomeWithin_2 0 rfl rfl)
theorem dX4_incomeWithin_51 : decode cX4_incomeWithin 51 = .ok (.sipush 1427, 3) := dk_17 5 147 (dk_at dksX4_incomeWithin_2 3 rfl rfl)
theorem dX4_incomeWithin_54 : decode cX4_incomeWithin 54 = .ok (.iaload, 1) := dk_46 (dk_at dksX4_incomeWithin_2 6 rfl rfl)
theorem dX4_incomeWithin_55 : decode cX4_incomeWithin 55 = .ok (.isub, 1) := dk_100 (dk_at dksX4_incomeWithin_2 7 rfl rfl)
theorem dX4_incomeWithin_56 : decode cX4_incomeWithin 56 = .ok (.istore_n 2, 1) := dk_61 (dk_at dksX4_incomeWithin_2 8 rfl rfl)
theorem dX4_incomeWithin_57 : decode cX4_incomeWithin 57 = .ok (.aload_n 0, 1) := dk_42 (dk_at dksX4_incomeWithin_2 9 rfl rfl)
theorem dX4_incomeWithin_58 : decode cX4_incomeWithin 58 = .ok (.bipush 11, 2) := dk_16 11 (dk_at dksX4_incomeWithin_2 10 rfl rfl)
theorem dX4_incomeWithin_60 : decode cX4_incomeWithin 60 = .ok (.iconst 0, 1) := dk_3 (dk_at dksX4_incomeWithin_2 12 rfl rfl)
theorem dX4_incomeWithin_61 : decode cX4_incomeWithin 61 = .ok (.invokevirtual 30, 3) := dk_182 0 30 (dk_at dksX4_incomeWithin_2 13 rfl rfl)
theorem dX4_incomeWithin_64 : decode cX4_incomeWithin 64 = .ok (.iload_n 2, 1) := dk_28 (dk_at dksX4_incomeWithin_2 16 rfl rfl)
theorem dX4_incomeWithin_65 : decode cX4_incomeWithin 65 = .ok (.ireturn, 1) := dk_172 (dk_at dksX4_incomeWithin_2 17 rfl rfl)
abbrev cX4_hoursToBid : ByteArray := prog_20_method_89_code
def yX4_hoursToBid : MethodName := ⟨RX4, "hoursToBid", "()I"⟩
def dkwX4_hoursToBid_2 : List UInt8 := [181, 0, 27, 3, 172]
abbrev dktX4_hoursToBid_2 : List UInt8 := dkwX4_hoursToBid_2 ++ []
def dkwX4_hoursToBid_1 : List UInt8 := [158, 0, 7, 4, 167, 0, 4, 3, 182, 0, 49, 153, 0, 5, 27, 172, 132, 1, 1, 167, 255, 215, 42, 4]
abbrev dktX4_hoursToBid_1 : List UInt8 := dkwX4_hoursToBid_1 ++ dktX4_hoursToBid_2
def dkwX4_hoursToBid_0 : List UInt8 := [3, 60, 27, 16, 24, 162, 0, 41, 42, 42, 42, 180, 0, 9, 7, 46, 27, 96, 16, 24, 112, 182, 0, 147]
abbrev dktX4_hoursToBid_0 : List UInt8 := dkwX4_hoursToBid_0 ++ dktX4_hoursToBid_1
theorem dksX4_hoursToBid_0 : cX4_hoursToBid.data.toList.drop 0 = dktX4_hoursToBid_0 := by decide +kernel
theorem dksX4_hoursToBid_1 : cX4_hoursToBid.data.toList.drop 24 = dktX4_hoursToBid_1 := dk_seg dksX4_hoursToBid_0 24 rfl rfl
theorem dksX4_hoursToBid_2 : cX4_hoursToBid.data.toList.drop 48 = dktX4_hoursToBid_2 := dk_seg dksX4_hoursToBid_1 24 rfl rfl
theorem dX4_hoursToBid_0 : decode cX4_hoursToBid 0 = .ok (.iconst 0, 1) := dk_3 (dk_at dksX4_hoursToBid_0 0 rfl rfl)
theorem dX4_hoursToBid_1 : decode cX4_hoursToBid 1 = .ok (.istore_n 1, 1) := dk_60 (dk_at dksX4_hoursToBid_0 1 rfl rfl)
theorem dX4_hoursToBid_2 : decode cX4_hoursToBid 2 = .ok (.iload_n 1, 1) := dk_27 (dk_at dksX4_hoursToBid_0 2 rfl rfl)
theorem dX4_hoursToBid_3 : decode cX4_hoursToBid 3 = .ok (.bipush 24, 2) := dk_16 24 (dk_at dksX4_hoursToBid_0 3 rfl rfl)
theorem dX4_hoursToBid_5 : decode cX4_hoursToBid 5 = .ok (.if_icmp .ge 41, 3) := dk_162 0 41 (dk_at dksX4_hoursToBid_0 5 rfl rfl)
theorem dX4_hoursToBid_8 : decode cX4_hoursToBid 8 = .ok (.aload_n 0, 1) := dk_42 (dk_at dksX4_hoursToBid_0 8 rfl rfl)
theorem dX4_hoursToBid_9 : decode cX4_hoursToBid 9 = .ok (.aload_n 0, 1) := dk_42 (dk_at dksX4_hoursToBid_0 9 rfl rfl)
theorem dX4_hoursToBid_10 : decode cX4_hoursToBid 10 = .ok (.aload_n 0, 1) := dk_42 (dk_at dksX4_hoursToBid_0 10 rfl rfl)
theorem dX4_hoursToBid_11 : decode cX4_hoursToBid 11 = .ok (.getfield 9, 3) := dk_180 0 9 (dk_at dksX4_hoursToBid_0 11 rfl rfl)
theorem dX4_hoursToBid_14 : decode cX4_hoursToBid 14 = .ok (.iconst 4, 1) := dk_7 (dk_at dksX4_hoursToBid_0 14 rfl rfl)
theorem dX4_hoursToBid_15 : decode cX4_hoursToBid 15 = .ok (.iaload, 1) := dk_46 (dk_at dksX4_hoursToBid_0 15 rfl rfl)
theorem dX4_hoursToBid_16 : decode cX4_hoursToBid 16 = .ok (.iload_n 1, 1) := dk_27 (dk_at dksX4_hoursToBid_0 16 rfl rfl)
theorem dX4_hoursToBid_17 : decode cX4_hoursToBid 17 = .ok (.iadd, 1) := dk_96 (dk_at dksX4_hoursToBid_0 17 rfl rfl)
theorem dX4_hoursToBid_18 : decode cX4_hoursToBid 18 = .ok (.bipush 24, 2) := dk_16 24 (dk_at dksX4_hoursToBid_0 18 rfl rfl)
theorem dX4_hoursToBid_20 : decode cX4_hoursToBid 20 = .ok (.irem, 1) := dk_112 (dk_at dksX4_hoursToBid_0 20 rfl rfl)
theorem dX4_hoursToBid_21 : decode cX4_hoursToBid 21 = .ok (.invokevirtual 147, 3) := dk_182 0 147 (dk_at dksX4_hoursToBid_0 21 rfl rfl)
theorem dX4_hoursToBid_24 : decode cX4_hoursToBid 24 = .ok (.ifCond .le 7, 3) := dk_158 0 7 (dk_at dksX4_hoursToBid_1 0 rfl rfl)
theorem dX4_hoursToBid_27 : decode cX4_hoursToBid 27 = .ok (.iconst 1, 1) := dk_4 (dk_at dksX4_hoursToBid_1 3 rfl rfl)
theorem dX4_hoursToBid_28 : decode cX4_hoursToBid 28 = .ok (.goto 4, 3) := dk_167 0 4 (dk_at dksX4_hoursToBid_1 4 rfl rfl)
theorem dX4_hoursToBid_31 : decode cX4_hoursToBid 31 = .ok (.iconst 0, 1) := dk_3 (dk_at dksX4_hoursToBid_1 7 rfl rfl)
theorem dX4_hoursToBid_32 : decode cX4_hoursToBid 32 = .ok (.invokevirtual 49, 3) := dk_182 0 49 (dk_at dksX4_hoursToBid_1 8 rfl rfl)
theorem dX4_hoursToBid_35 : decode cX4_hoursToBid 35 = .ok (.ifCond .eq 5, 3) := dk_153 0 5 (dk_at dksX4_hoursToBid_1 11 rfl rfl)
theorem dX4_hoursToBid_38 : decode cX4_hoursToBid 38 = .ok (.iload_n 1, 1) := dk_27 (dk_at dksX4_hoursToBid_1 14 rfl rfl)
theorem dX4_hoursToBid_39 : decode cX4_hoursToBid 39 = .ok (.ireturn, 1) := dk_172 (dk_at dksX4_hoursToBid_1 15 rfl rfl)
theorem dX4_hoursToBid_40 : decode cX4_hoursToBid 40 = .ok (.iinc 1 1, 3) := dk_132 1 1 (dk_at dksX4_hoursToBid_1 16 rfl rfl)
theorem dX4_hoursToBid_43 : decode cX4_hoursToBid 43 = .ok (.goto (-41), 3) := dk_167 255 215 (dk_at dksX4_hoursToBid_1 19 rfl rfl)
theorem dX4_hoursToBid_46 : decode cX4_hoursToBid 46 = .ok (.aload_n 0, 1) := dk_42 (dk_at dksX4_hoursToBid_1 22 rfl rfl)
theorem dX4_hoursToBid_47 : decode cX4_hoursToBid 47 = .ok (.iconst 1, 1) := dk_4 (dk_at dksX4_hoursToBid_1 23 rfl rfl)
theorem dX4_hoursToBid_48 : decode cX4_hoursToBid 48 = .ok (.putfield 27, 3) := dk_181 0 27 (dk_at dksX4_hoursToBid_2 0 rfl rfl)
theorem dX4_hoursToBid_51 : decode cX4_hoursToBid 51 = .ok (.iconst 0, 1) := dk_3 (dk_at dksX4_hoursToBid_2 3 rfl rfl)
theorem dX4_hoursToBid_52 : decode cX4_hoursToBid 52 = .ok (.ireturn, 1) := dk_172 (dk_at dksX4_hoursToBid_2 4 rfl rfl)
abbrev cX4_energyMade : ByteArray := prog_20_method_90_code
def yX4_energyMade : MethodName := ⟨RX4, "energyMade", "()J"⟩
def dkwX4_energyMade_0 : List UInt8 := [42, 3, 181, 0, 27, 42, 180, 0, 9, 8, 46, 133, 173]
abbrev dktX4_energyMade_0 : List UInt8 := dkwX4_energyMade_0 ++ []
theorem dksX4_energyMade_0 : cX4_energyMade.data.toList.drop 0 = dktX4_energyMade_0 := by decide +kernel
theorem dX4_energyMade_0 : decode cX4_energyMade 0 = .ok (.aload_n 0, 1) := dk_42 (dk_at dksX4_energyMade_0 0 rfl rfl)
theorem dX4_energyMade_1 : decode cX4_energyMade 1 = .ok (.iconst 0, 1) := dk_3 (dk_at dksX4_energyMade_0 1 rfl rfl)
theorem dX4_energyMade_2 : decode cX4_energyMade 2 = .ok (.putfield 27, 3) := dk_181 0 27 (dk_at dksX4_energyMade_0 2 rfl rfl)
theorem dX4_energyMade_5 : decode cX4_energyMade 5 = .ok (.aload_n 0, 1) := dk_42 (dk_at dksX4_energyMade_0 5 rfl rfl)
theorem dX4_energyMade_6 : decode cX4_energyMade 6 = .ok (.getfield 9, 3) := dk_180 0 9 (dk_at dksX4_energyMade_0 6 rfl rfl)
theorem dX4_energyMade_9 : decode cX4_energyMade 9 = .ok (.iconst 5, 1) := dk_8 (dk_at dksX4_energyMade_0 9 rfl rfl)
theorem dX4_energyMade_10 : decode cX4_energyMade 10 = .ok (.iaload, 1) := dk_46 (dk_at dksX4_energyMade_0 10 rfl rfl)
theorem dX4_energyMade_11 : decode cX4_energyMade 11 = .ok (.i2l, 1) := dk_133 (dk_at dksX4_energyMade_0 11 rfl rfl)
theorem dX4_energyMade_12 : decode cX4_energyMade 12 = .ok (.lreturn, 1) := dk_173 (dk_at dksX4_energyMade_0 12 rfl rfl)
abbrev cX4_energyLost : ByteArray := prog_20_method_91_code
def yX4_energyLost : MethodName := ⟨RX4, "energyLost", "()J"⟩
def dkwX4_energyLost_0 : List UInt8 := [42, 3, 181, 0, 27, 42, 180, 0, 9, 16, 6, 46, 133, 173]
abbrev dktX4_energyLost_0 : List UInt8 := dkwX4_energyLost_0 ++ []
theorem dksX4_energyLost_0 : cX4_energyLost.data.toList.drop 0 = dktX4_energyLost_0 := by decide +kernel
theorem dX4_energyLost_0 : decode cX4_energyLost 0 = .ok (.aload_n 0, 1) := dk_42 (dk_at dksX4_energyLost_0 0 rfl rfl)
theorem dX4_energyLost_1 : decode cX4_energyLost 1 = .ok (.iconst 0, 1) := dk_3 (dk_at dksX4_energyLost_0 1 rfl rfl)
theorem dX4_energyLost_2 : decode cX4_energyLost 2 = .ok (.putfield 27, 3) := dk_181 0 27 (dk_at dksX4_energyLost_0 2 rfl rfl)
theorem dX4_energyLost_5 : decode cX4_energyLost 5 = .ok (.aload_n 0, 1) := dk_42 (dk_at dksX4_energyLost_0 5 rfl rfl)
theorem dX4_energyLost_6 : decode cX4_energyLost 6 = .ok (.getfield 9, 3) := dk_180 0 9 (dk_at dksX4_energyLost_0 6 rfl rfl)
theorem dX4_energyLost_9 : decode cX4_energyLost 9 = .ok (.bipush 6, 2) := dk_16 6 (dk_at dksX4_energyLost_0 9 rfl rfl)
theorem dX4_energyLost_11 : decode cX4_energyLost 11 = .ok (.iaload, 1) := dk_46 (dk_at dksX4_energyLost_0 11 rfl rfl)
theorem dX4_energyLost_12 : decode cX4_energyLost 12 = .ok (.i2l, 1) := dk_133 (dk_at dksX4_energyLost_0 12 rfl rfl)
theorem dX4_energyLost_13 : decode cX4_energyLost 13 = .ok (.lreturn, 1) := dk_173 (dk_at dksX4_energyLost_0 13 rfl rfl)
abbrev cX4_energySold : ByteArray := prog_20_method_92_code
def yX4_energySold : MethodName := ⟨RX4, "energySold", "()J"⟩
def dkwX4_energySold_0 : List UInt8 := [42, 3, 181, 0, 27, 42, 180, 0, 9, 16, 7, 46, 133, 173]
abbrev dktX4_energySold_0 : List UInt8 := dkwX4_energySold_0 ++ []
theorem dksX4_energySold_0 : cX4_energySold.data.toList.drop 0 = dktX4_energySold_0 := by decide +kernel
theorem dX4_energySold_0 : decode cX4_energySold 0 = .ok (.aload_n 0, 1) := dk_42 (dk_at dksX4_energySold_0 0 rfl rfl)
theorem dX4_energySold_1 : decode cX4_energySold 1 = .ok (.iconst 0, 1) := dk_3 (dk_at dksX4_energySold_0 1 rfl rfl)
theorem dX4_energySold_2 : decode cX4_energySold 2 = .ok (.putfield 27, 3) := dk_181 0 27 (dk_at dksX4_energySold_0 2 rfl rfl)
theorem dX4_energySold_5 : decode cX4_energySold 5 = .ok (.aload_n 0, 1) := dk_42 (dk_at dksX4_energySold_0 5 rfl rfl)
theorem dX4_energySold_6 : decode cX4_energySold 6 = .ok (.getfield 9, 3) := dk_180 0 9 (dk_at dksX4_energySold_0 6 rfl rfl)
theorem dX4_energySold_9 : decode cX4_energySold 9 = .ok (.bipush 7, 2) := dk_16 7 (dk_at dksX4_energySold_0 9 rfl rfl)
theorem dX4_energySold_11 : decode cX4_energySold 11 = .ok (.iaload, 1) := dk_46 (dk_at dksX4_energySold_0 11 rfl rfl)
theorem dX4_energySold_12 : decode cX4_energySold 12 = .ok (.i2l, 1) := dk_133 (dk_at dksX4_energySold_0 12 rfl rfl)
theorem dX4_energySold_13 : decode cX4_energySold 13 = .ok (.lreturn, 1) := dk_173 (dk_at dksX4_energySold_0 13 rfl rfl)
abbrev cX4_energySpilled : ByteArray := prog_20_method_93_code
def yX4_energySpilled : MethodName := ⟨RX4, "energySpilled", "()J"⟩
def dkwX4_energySpilled_1 : List UInt8 := [16, 7, 46, 100, 133, 173]
abbrev dktX4_energySpilled_1 : List UInt8 := dkwX4_energySpilled_1 ++ []
def dkwX4_energySpilled_0 : List UInt8 := [42, 3, 181, 0, 27, 42, 180, 0, 9, 8, 46, 42, 180, 0, 9, 16, 6, 46, 100, 42, 180, 0, 9]
abbrev dktX4_energySpilled_0 : List UInt8 := dkwX4_energySpilled_0 ++ dktX4_energySpilled_1
theorem dksX4_energySpilled_0 : cX4_energySpilled.data.toList.drop 0 = dktX4_energySpilled_0 := by decide +kernel
theorem dksX4_energySpilled_1 : cX4_energySpilled.data.toList.drop 23 = dktX4_energySpilled_1 := dk_seg dksX4_energySpilled_0 23 rfl rfl
theorem dX4_energySpilled_0 : decode cX4_energySpilled 0 = .ok (.aload_n 0, 1) := dk_42 (dk_at dksX4_energySpilled_0 0 rfl rfl)
theorem dX4_energySpilled_1 : decode cX4_energySpilled 1 = .ok (.iconst 0, 1) := dk_3 (dk_at dksX4_energySpilled_0 1 rfl rfl)
theorem dX4_energySpilled_2 : decode cX4_energySpilled 2 = .ok (.putfield 27, 3) := dk_181 0 27 (dk_at dksX4_energySpilled_0 2 rfl rfl)
theorem dX4_energySpilled_5 : decode cX4_energySpilled 5 = .ok (.aload_n 0, 1) := dk_42 (dk_at dksX4_energySpilled_0 5 rfl rfl)
theorem dX4_energySpilled_6 : decode cX4_energySpilled 6 = .ok (.getfield 9, 3) := dk_180 0 9 (dk_at dksX4_energySpilled_0 6 rfl rfl)
theorem dX4_energySpilled_9 : decode cX4_energySpilled 9 = .ok (.iconst 5, 1) := dk_8 (dk_at dksX4_energySpilled_0 9 rfl rfl)
theorem dX4_energySpilled_10 : decode cX4_energySpilled 10 = .ok (.iaload, 1) := dk_46 (dk_at dksX4_energySpilled_0 10 rfl rfl)
theorem dX4_energySpilled_11 : decode cX4_energySpilled 11 = .ok (.aload_n 0, 1) := dk_42 (dk_at dksX4_energySpilled_0 11 rfl rfl)
theorem dX4_energySpilled_12 : decode cX4_energySpilled 12 = .ok (.getfield 9, 3) := dk_180 0 9 (dk_at dksX4_energySpilled_0 12 rfl rfl)
theorem dX4_energySpilled_15 : decode cX4_energySpilled 15 = .ok (.bipush 6, 2) := dk_16 6 (dk_at dksX4_energySpilled_0 15 rfl rfl)
theorem dX4_energySpilled_17 : decode cX4_energySpilled 17 = .ok (.iaload, 1) := dk_46 (dk_at dksX4_energySpilled_0 17 rfl rfl)
theorem dX4_energySpilled_18 : decode cX4_energySpilled 18 = .ok (.isub, 1) := dk_100 (dk_at dksX4_energySpilled_0 18 rfl rfl)
theorem dX4_energySpilled_19 : decode cX4_energySpilled 19 = .ok (.aload_n 0, 1) := dk_42 (dk_at dksX4_energySpilled_0 19 rfl rfl)
theorem dX4_energySpilled_20 : decode cX4_energySpilled 20 = .ok (.getfield 9, 3) := dk_180 0 9 (dk_at dksX4_energySpilled_0 20 rfl rfl)
theorem dX4_energySpilled_23 : decode cX4_energySpilled 23 = .ok (.bipush 7, 2) := dk_16 7 (dk_at dksX4_energySpilled_1 0 rfl rfl)
theorem dX4_energySpilled_25 : decode cX4_energySpilled 25 = .ok (.iaload, 1) := dk_46 (dk_at dksX4_energySpilled_1 2 rfl rfl)
theorem dX4_energySpilled_26 : decode cX4_energySpilled 26 = .ok (.isub, 1) := dk_100 (dk_at dksX4_energySpilled_1 3 rfl rfl)
theorem dX4_energySpilled_27 : decode cX4_energySpilled 27 = .ok (.i2l, 1) := dk_133 (dk_at dksX4_energySpilled_1 4 rfl rfl)
theorem dX4_energySpilled_28 : decode cX4_energySpilled 28 = .ok (.lreturn, 1) := dk_173 (dk_at dksX4_energySpilled_1 5 rfl rfl)
abbrev cX4_coins : ByteArray := prog_20_method_94_code
def yX4_coins : MethodName := ⟨RX4, "coins", "()J"⟩
def dkwX4_coins_0 : List UInt8 := [42, 3, 181, 0, 27, 42, 180, 0, 9, 16, 8, 46, 133, 173]
abbrev dktX4_coins_0 : List UInt8 := dkwX4_coins_0 ++ []
theorem dksX4_coins_0 : cX4_coins.data.toList.drop 0 = dktX4_coins_0 := by decide +kernel
theorem dX4_coins_0 : decode cX4_coins 0 = .ok (.aload_n 0, 1) := dk_42 (dk_at dksX4_coins_0 0 rfl rfl)
theorem dX4_coins_1 : decode cX4_coins 1 = .ok (.iconst 0, 1) := dk_3 (dk_at dksX4_coins_0 1 rfl rfl)
theorem dX4_coins_2 : decode cX4_coins 2 = .ok (.putfield 27, 3) := dk_181 0 27 (dk_at dksX4_coins_0 2 rfl rfl)
theorem dX4_coins_5 : decode cX4_coins 5 = .ok (.aload_n 0, 1) := dk_42 (dk_at dksX4_coins_0 5 rfl rfl)
theorem dX4_coins_6 : decode cX4_coins 6 = .ok (.getfield 9, 3) := dk_180 0 9 (dk_at dksX4_coins_0 6 rfl rfl)
theorem dX4_coins_9 : decode cX4_coins 9 = .ok (.bipush 8, 2) := dk_16 8 (dk_at dksX4_coins_0 9 rfl rfl)
theorem dX4_coins_11 : decode cX4_coins 11 = .ok (.iaload, 1) := dk_46 (dk_at dksX4_coins_0 11 rfl rfl)
theorem dX4_coins_12 : decode cX4_coins 12 = .ok (.i2l, 1) := dk_133 (dk_at dksX4_coins_0 12 rfl rfl)
theorem dX4_coins_13 : decode cX4_coins 13 = .ok (.lreturn, 1) := dk_173 (dk_at dksX4_coins_0 13 rfl rfl)
abbrev cX4_turbineByOutput : ByteArray := prog_20_method_95_code
def yX4_turbineByOutput : MethodName := ⟨RX4, "turbineByOutput", "(I)I"⟩
def dkwX4_turbineByOutput_5 : List UInt8 := [172, 132, 2, 1, 167, 255, 138, 42, 4, 181, 0, 27, 3, 172]
abbrev dktX4_turbineByOutput_5 : List UInt8 := dkwX4_turbineByOutput_5 ++ []
def dkwX4_turbineByOutput_4 : List UInt8 := [132, 4, 1, 167, 255, 178, 42, 29, 27, 160, 0, 7, 4, 167, 0, 4, 3, 182, 0, 49, 153, 0, 5, 28]
abbrev dktX4_turbineByOutput_4 : List UInt8 := dkwX4_turbineByOutput_4 ++ dktX4_turbineByOutput_5
def dkwX4_turbineByOutput_3 : List UInt8 := [21, 6, 157, 0, 14, 21, 6, 154, 0, 13, 21, 4, 28, 162, 0, 7, 4, 167, 0, 4, 3, 96, 62]
abbrev dktX4_turbineByOutput_3 : List UInt8 := dkwX4_turbineByOutput_3 ++ dktX4_turbineByOutput_4
def dkwX4_turbineByOutput_2 : List UInt8 := [182, 0, 57, 42, 28, 5, 182, 0, 57, 100, 54, 6, 29, 21, 5, 157, 0, 24, 21, 5, 154, 0, 23]
abbrev dktX4_turbineByOutput_2 : List UInt8 := dkwX4_turbineByOutput_2 ++ dktX4_turbineByOutput_3
def dkwX4_turbineByOutput_1 : List UInt8 := [46, 162, 0, 73, 42, 21, 4, 182, 0, 77, 42, 28, 182, 0, 77, 100, 54, 5, 42, 21, 4, 5]
abbrev dktX4_turbineByOutput_1 : List UInt8 := dkwX4_turbineByOutput_1 ++ dktX4_turbineByOutput_2
def dkwX4_turbineByOutput_0 : List UInt8 := [3, 61, 28, 42, 180, 0, 9, 3, 46, 162, 0, 114, 3, 62, 3, 54, 4, 21, 4, 42, 180, 0, 9, 3]
abbrev dktX4_turbineByOutput_0 : List UInt8 := dkwX4_turbineByOutput_0 ++ dktX4_turbineByOutput_1
theorem dksX4_turbineByOutput_0 : cX4_turbineByOutput.data.toList.drop 0 = dktX4_turbineByOutput_0 := by decide +kernel
theorem dksX4_turbineByOutput_1 : cX4_turbineByOutput.data.toList.drop 24 = dktX4_turbineByOutput_1 := dk_seg dksX4_turbineByOutput_0 24 rfl rfl
theorem dksX4_turbineByOutput_2 : cX4_turbineByOutput.data.toList.drop 46 = dktX4_turbineByOutput_2 := dk_seg dksX4_turbineByOutput_1 22 rfl rfl
theorem dksX4_turbineByOutput_3 : cX4_turbineByOutput.data.toList.drop 69 = dktX4_turbineByOutput_3 := dk_seg dksX4_turbineByOutput_2 23 rfl rfl
theorem dksX4_turbineByOutput_4 : cX4_turbineByOutput.data.toList.drop 92 = dktX4_turbineByOutput_4 := dk_seg dksX4_turbineByOutput_3 23 rfl rfl
theorem dksX4_turbineByOutput_5 : cX4_turbineByOutput.data.toList.drop 116 = dktX4_turbineByOutput_5 := dk_seg dksX4_turbineByOutput_4 24 rfl rfl
theorem dX4_turbineByOutput_0 : decode cX4_turbineByOutput 0 = .ok (.iconst 0, 1) := dk_3 (dk_at dksX4_turbineByOutput_0 0 rfl rfl)
theorem dX4_turbineByOutput_1 : decode cX4_turbineByOutput 1 = .ok (.istore_n 2, 1) := dk_61 (dk_at dksX4_turbineByOutput_0 1 rfl rfl)
theorem dX4_turbineByOutput_2 : decode cX4_turbineByOutput 2 = .ok (.iload_n 2, 1) := dk_28 (dk_at dksX4_turbineByOutput_0 2 rfl rfl)
theorem dX4_turbineByOutput_3 : decode cX4_turbineByOutput 3 = .ok (.aload_n 0, 1) := dk_42 (dk_at dksX4_turbineByOutput_0 3 rfl rfl)
theorem dX4_turbineByOutput_4 : decode cX4_turbineByOutput 4 = .ok (.getfield 9, 3) := dk_180 0 9 (dk_at dksX4_turbineByOutput_0 4 rfl rfl)
theorem dX4_turbineByOutput_7 : decode cX4_turbineByOutput 7 = .ok (.iconst 0, 1) := dk_3 (dk_at dksX4_turbineByOutput_0 7 rfl rfl)
theorem dX4_turbineByOutput_8 : decode cX4_turbineByOutput 8 = .ok (.iaload, 1) := dk_46 (dk_at dksX4_turbineByOutput_0 8 rfl rfl)
theorem dX4_turbineByOutput_9 : decode cX4_turbineByOutput 9 = .ok (.if_icmp .ge 114, 3) := dk_162 0 114 (dk_at dksX4_turbineByOutput_0 9 rfl rfl)
theorem dX4_turbineByOutput_12 : decode cX4_turbineByOutput 12 = .ok (.iconst 0, 1) := dk_3 (dk_at dksX4_turbineByOutput_0 12 rfl rfl)
theorem dX4_turbineByOutput_13 : decode cX4_turbineByOutput 13 = .ok (.istore_n 3, 1) := dk_62 (dk_at dksX4_turbineByOutput_0 13 rfl rfl)
theorem dX4_turbineByOutput_14 : decode cX4_turbineByOutput 14 = .ok (.iconst 0, 1) := dk_3 (dk_at dksX4_turbineByOutput_0 14 rfl rfl)
theorem dX4_turbineByOutput_15 : decode cX4_turbineByOutput 15 = .ok (.istore 4, 2) := dk_54 4 (dk_at dksX4_turbineByOutput_0 15 rfl rfl)
theorem dX4_turbineByOutput_17 : decode cX4_turbineByOutput 17 = .ok (.iload 4, 2) := dk_21 4 (dk_at dksX4_turbineByOutput_0 17 rfl rfl)
theorem dX4_turbineByOutput_19 : decode cX4_turbineByOutput 19 = .ok (.aload_n 0, 1) := dk_42 (dk_at dksX4_turbineByOutput_0 19 rfl rfl)
theorem dX4_turbineByOutput_20 : decode cX4_turbineByOutput 20 = .ok (.getfield 9, 3) := dk_180 0 9 (dk_at dksX4_turbineByOutput_0 20 rfl rfl)
theorem dX4_turbineByOutput_23 : decode cX4_turbineByOutput 23 = .ok (.iconst 0, 1) := dk_3 (dk_at dksX4_turbineByOutput_0 23 rfl rfl)
theorem dX4_turbineByOutput_24 : decode cX4_turbineByOutput 24 = .ok (.iaload, 1) := dk_46 (dk_at dksX4_turbineByOutput_1 0 rfl rfl)
theorem dX4_turbineByOutput_25 : decode cX4_turbineByOutput 25 = .ok (.if_icmp .ge 73, 3) := dk_162 0 73 (dk_at dksX4_turbineByOutput_1 1 rfl rfl)
theorem dX4_turbineByOutput_28 : decode cX4_turbineByOutput 28 = .ok (.aload_n 0, 1) := dk_42 (dk_at dksX4_turbineByOutput_1 4 rfl rfl)
theorem dX4_turbineByOutput_29 : decode cX4_turbineByOutput 29 = .ok (.iload 4, 2) := dk_21 4 (dk_at dksX4_turbineByOutput_1 5 rfl rfl)
theorem dX4_turbineByOutput_31 : decode cX4_turbineByOutput 31 = .ok (.invokevirtual 77, 3) := dk_182 0 77 (dk_at dksX4_turbineByOutput_1 7 rfl rfl)
theorem dX4_turbineByOutput_34 : decode cX4_turbineByOutput 34 = .ok (.aload_n 0, 1) := dk_42 (dk_at dksX4_turbineByOutput_1 10 rfl rfl)
theorem dX4_turbineByOutput_35 : decode cX4_turbineByOutput 35 = .ok (.iload_n 2, 1) := dk_28 (dk_at dksX4_turbineByOutput_1 11 rfl rfl)
theorem dX4_turbineByOutput_36 : decode cX4_turbineByOutput 36 = .ok (.invokevirtual 77, 3) := dk_182 0 77 (dk_at dksX4_turbineByOutput_1 12 rfl rfl)
theorem dX4_turbineByOutput_39 : decode cX4_turbineByOutput 39 = .ok (.isub, 1) := dk_100 (dk_at dksX4_turbineByOutput_1 15 rfl rfl)
theorem dX4_turbineByOutput_40 : decode cX4_turbineByOutput 40 = .ok (.istore 5, 2) := dk_54 5 (dk_at dksX4_turbineByOutput_1 16 rfl rfl)
theorem dX4_turbineByOutput_42 : decode cX4_turbineByOutput 42 = .ok (.aload_n 0, 1) := dk_42 (dk_at dksX4_turbineByOutput_1 18 rfl rfl)
theorem dX4_turbineByOutput_43 : decode cX4_turbineByOutput 43 = .ok (.iload 4, 2) := dk_21 4 (dk_at dksX4_turbineByOutput_1 19 rfl rfl)
theorem dX4_turbineByOutput_45 : decode cX4_turbineByOutput 45 = .ok (.iconst 2, 1) := dk_5 (dk_at dksX4_turbineByOutput_1 21 rfl rfl)
theorem dX4_turbineByOutput_46 : decode cX4_turbineByOutput 46 = .ok (.invokevirtual 57, 3) := dk_182 0 57 (dk_at dksX4_turbineByOutput_2 0 rfl rfl)
theorem dX4_turbineByOutput_49 : decode cX4_turbineByOutput 49 = .ok (.aload_n 0, 1) := dk_42 (dk_at dksX4_turbineByOutput_2 3 rfl rfl)
theorem dX4_turbineByOutput_50 : decode cX4_turbineByOutput 50 = .ok (.iload_n 2, 1) := dk_28 (dk_at dksX4_turbineByOutput_2 4 rfl rfl)
theorem dX4_turbineByOutput_51 : decode cX4_turbineByOutput 51 = .ok (.iconst 2, 1) := dk_5 (dk_at dksX4_turbineByOutput_2 5 rfl rfl)
theorem dX4_turbineByOutput_52 : decode cX4_turbineByOutput 52 = .ok (.invokevirtual 57, 3) := dk_182 0 57 (dk_at dksX4_turbineByOutput_2 6 rfl rfl)
theorem dX4_turbineByOutput_55 : decode cX4_turbineByOutput 55 = .ok (.isub, 1) := dk_100 (dk_at dksX4_turbineByOutput_2 9 rfl rfl)
theorem dX4_turbineByOutput_56 : decode cX4_turbineByOutput 56 = .ok (.istore 6, 2) := dk_54 6 (dk_at dksX4_turbineByOutput_2 10 rfl rfl)
theorem dX4_turbineByOutput_58 : decode cX4_turbineByOutput 58 = .ok (.iload_n 3, 1) := dk_29 (dk_at dksX4_turbineByOutput_2 12 rfl rfl)
theorem dX4_turbineByOutput_59 : decode cX4_turbineByOutput 59 = .ok (.iload 5, 2) := dk_21 5 (dk_at dksX4_turbineByOutput_2 13 rfl rfl)
theorem dX4_turbineByOutput_61 : decode cX4_turbineByOutput 61 = .ok (.ifCond .gt 24, 3) := dk_157 0 24 (dk_at dksX4_turbineByOutput_2 15 rfl rfl)
theorem dX4_turbineByOutput_64 : decode cX4_turbineByOutput 64 = .ok (.iload 5, 2) := dk_21 5 (dk_at dksX4_turbineByOutput_2 18 rfl rfl)
theorem dX4_turbineByOutput_66 : decode cX4_turbineByOutput 66 = .ok (.ifCond .ne 23, 3) := dk_154 0 23 (dk_at dksX4_turbineByOutput_2 20 rfl rfl)
theorem dX4_turbineByOutput_69 : decode cX4_turbineByOutput 69 = .ok (.iload 6, 2) := dk_21 6 (dk_at dksX4_turbineByOutput_3 0 rfl rfl)
theorem dX4_turbineByOutput_71 : decode cX4_turbineByOutput 71 = .ok (.ifCond .gt 14, 3) := dk_157 0 14 (dk_at dksX4_turbineByOutput_3 2 rfl rfl)
theorem dX4_turbineByOutput_74 : decode cX4_turbineByOutput 74 = .ok (.iload 6, 2) := dk_21 6 (dk_at dksX4_turbineByOutput_3 5 rfl rfl)
theorem dX4_turbineByOutput_76 : decode cX4_turbineByOutput 76 = .ok (.ifCond .ne 13, 3) := dk_154 0 13 (dk_at dksX4_turbineByOutput_3 7 rfl rfl)
theorem dX4_turbineByOutput_79 : decode cX4_turbineByOutput 79 = .ok (.iload 4, 2) := dk_21 4 (dk_at dksX4_turbineByOutput_3 10 rfl rfl)
theorem dX4_turbineByOutput_81 : decode cX4_turbineByOutput 81 = .ok (.iload_n 2, 1) := dk_28 (dk_at dksX4_turbineByOutput_3 12 rfl rfl)
theorem dX4_turbineByOutput_82 : decode cX4_turbineByOutput 82 = .ok (.if_icmp .ge 7, 3) := dk_162 0 7 (dk_at dksX4_turbineByOutput_3 13 rfl rfl)
theorem dX4_turbineByOutput_85 : decode cX4_turbineByOutput 85 = .ok (.iconst 1, 1) := dk_4 (dk_at dksX4_turbineByOutput_3 16 rfl rfl)
theorem dX4_turbineByOutput_86 : decode cX4_turbineByOutput 86 = .ok (.goto 4, 3) := dk_167 0 4 (dk_at dksX4_turbineByOutput_3 17 rfl rfl)
theorem dX4_turbineByOutput_89 : decode cX4_turbineByOutput 89 = .ok (.iconst 0, 1) := dk_3 (dk_at dksX4_turbineByOutput_3 20 rfl rfl)
theorem dX4_turbineByOutput_90 : decode cX4_turbineByOutput 90 = .ok (.iadd, 1) := dk_96 (dk_at dksX4_turbineByOutput_3 21 rfl rfl)
theorem dX4_turbineByOutput_91 : decode cX4_turbineByOutput 91 = .ok (.istore_n 3, 1) := dk_62 (dk_at dksX4_turbineByOutput_3 22 rfl rfl)
theorem dX4_turbineByOutput_92 : decode cX4_turbineByOutput 92 = .ok (.iinc 4 1, 3) := dk_132 4 1 (dk_at dksX4_turbineByOutput_4 0 rfl rfl)
theorem dX4_turbineByOutput_95 : decode cX4_turbineByOutput 95 = .ok (.goto (-78), 3) := dk_167 255 178 (dk_at dksX4_turbineByOutput_4 3 rfl rfl)
theorem dX4_turbineByOutput_98 : decode cX4_turbineByOutput 98 = .ok (.aload_n 0, 1) := dk_42 (dk_at dksX4_turbineByOutput_4 6 rfl rfl)
theorem dX4_turbineByOutput_99 : decode cX4_turbineByOutput 99 = .ok (.iload_n 3, 1) := dk_29 (dk_at dksX4_turbineByOutput_4 7 rfl rfl)
theorem dX4_turbineByOutput_100 : decode cX4_turbineByOutput 100 = .ok (.iload_n 1, 1) := dk_27 (dk_at dksX4_turbineByOutput_4 8 rfl rfl)
theorem dX4_turbineByOutput_101 : decode cX4_turbineByOutput 101 = .ok (.if_icmp .ne 7, 3) := dk_160 0 7 (dk_at dksX4_turbineByOutput_4 9 rfl rfl)
theorem dX4_turbineByOutput_104 : decode cX4_turbineByOutput 104 = .ok (.iconst 1, 1) := dk_4 (dk_at dksX4_turbineByOutput_4 12 rfl rfl)
theorem dX4_turbineByOutput_105 : decode cX4_turbineByOutput 105 = .ok (.goto 4, 3) := dk_167 0 4 (dk_at dksX4_turbineByOutput_4 13 rfl rfl)
theorem dX4_turbineByOutput_108 : decode cX4_turbineByOutput 108 = .ok (.iconst 0, 1) := dk_3 (dk_at dksX4_turbineByOutput_4 16 rfl rfl)
theorem dX4_turbineByOutput_109 : decode cX4_turbineByOutput 109 = .ok (.invokevirtual 49, 3) := dk_182 0 49 (dk_at dksX4_turbineByOutput_4 17 rfl rfl)
theorem dX4_turbineByOutput_112 : decode cX4_turbineByOutput 112 = .ok (.ifCond .eq 5, 3) := dk_153 0 5 (dk_at dksX4_turbineByOutput_4 20 rfl rfl)
theorem dX4_turbineByOutput_115 : decode cX4_turbineByOutput 115 = .ok (.iload_n 2, 1) := dk_28 (dk_at dksX4_turbineByOutput_4 23 rfl rfl)
theorem dX4_turbineByOutput_116 : decode cX4_turbineByOutput 116 = .ok (.ireturn, 1) := dk_172 (dk_at dksX4_turbineByOutput_5 0 rfl rfl)
theorem dX4_turbineByOutput_117 : decode cX4_turbineByOutput 117 = .ok (.iinc 2 1, 3) := dk_132 2 1 (dk_at dksX4_turbineByOutput_5 1 rfl rfl)
theorem dX4_turbineByOutput_120 : decode cX4_turbineByOutput 120 = .ok (.goto (-118), 3) := dk_167 255 138 (dk_at dksX4_turbineByOutput_5 4 rfl rfl)
theorem dX4_turbineByOutput_123 : decode cX4_turbineByOutput 123 = .ok (.aload_n 0, 1) := dk_42 (dk_at dksX4_turbineByOutput_5 7 rfl rfl)
theorem dX4_turbineByOutput_124 : decode cX4_turbineByOutput 124 = .ok (.iconst 1, 1) := dk_4 (dk_at dksX4_turbineByOutput_5 8 rfl rfl)
theorem dX4_turbineByOutput_125 : decode cX4_turbineByOutput 125 = .ok (.putfield 27, 3) := dk_181 0 27 (dk_at dksX4_turbineByOutput_5 9 rfl rfl)
theorem dX4_turbineByOutput_128 : decode cX4_turbineByOutput 128 = .ok (.iconst 0, 1) := dk_3 (dk_at dksX4_turbineByOutput_5 12 rfl rfl)
theorem dX4_turbineByOutput_129 : decode cX4_turbineByOutput 129 = .ok (.ireturn, 1) := dk_172 (dk_at dksX4_turbineByOutput_5 13 rfl rfl)
abbrev cX4_meanOutput : ByteArray := prog_20_method_96_code
def yX4_meanOutput : MethodName := ⟨RX4, "meanOutput", "()D"⟩
def dkwX4_meanOutput_1 : List UInt8 := [182, 0, 129, 135, 42, 180, 0, 9, 3, 46, 135, 111, 167, 0, 4, 14, 175]
abbrev dktX4_meanOutput_1 : List UInt8 := dkwX4_meanOutput_1 ++ []
def dkwX4_meanOutput_0 : List UInt8 := [42, 42, 180, 0, 9, 3, 46, 158, 0, 7, 4, 167, 0, 4, 3, 182, 0, 49, 153, 0, 19, 42]
abbrev dktX4_meanOutput_0 : List UInt8 := dkwX4_meanOutput_0 ++ dktX4_meanOutput_1
theorem dksX4_meanOutput_0 : cX4_meanOutput.data.toList.drop 0 = dktX4_meanOutput_0 := by decide +kernel
theorem dksX4_meanOutput_1 : cX4_meanOutput.data.toList.drop 22 = dktX4_meanOutput_1 := dk_seg dksX4_meanOutput_0 22 rfl rfl
theorem dX4_meanOutput_0 : decode cX4_meanOutput 0 = .ok (.aload_n 0, 1) := dk_42 (dk_at dksX4_meanOutput_0 0 rfl rfl)
theorem dX4_meanOutput_1 : decode cX4_meanOutput 1 = .ok (.aload_n 0, 1) := dk_42 (dk_at dksX4_meanOutput_0 1 rfl rfl)
theorem dX4_meanOutput_2 : decode cX4_meanOutput 2 = .ok (.getfield 9, 3) := dk_180 0 9 (dk_at dksX4_meanOutput_0 2 rfl rfl)
theorem dX4_meanOutput_5 : decode cX4_meanOutput 5 = .ok (.iconst 0, 1) := dk_3 (dk_at dksX4_meanOutput_0 5 rfl rfl)
theorem dX4_meanOutput_6 : decode cX4_meanOutput 6 = .ok (.iaload, 1) := dk_46 (dk_at dksX4_meanOutput_0 6 rfl rfl)
theorem dX4_meanOutput_7 : decode cX4_meanOutput 7 = .ok (.ifCond .le 7, 3) := dk_158 0 7 (dk_at dksX4_meanOutput_0 7 rfl rfl)
theorem dX4_meanOutput_10 : decode cX4_meanOutput 10 = .ok (.iconst 1, 1) := dk_4 (dk_at dksX4_meanOutput_0 10 rfl rfl)
theorem dX4_meanOutput_11 : decode cX4_meanOutput 11 = .ok (.goto 4, 3) := dk_167 0 4 (dk_at dksX4_meanOutput_0 11 rfl rfl)
theorem dX4_meanOutput_14 : decode cX4_meanOutput 14 = .ok (.iconst 0, 1) := dk_3 (dk_at dksX4_meanOutput_0 14 rfl rfl)
theorem dX4_meanOutput_15 : decode cX4_meanOutput 15 = .ok (.invokevirtual 49, 3) := dk_182 0 49 (dk_at dksX4_meanOutput_0 15 rfl rfl)
theorem dX4_meanOutput_18 : decode cX4_meanOutput 18 = .ok (.ifCond .eq 19, 3) := dk_153 0 19 (dk_at dksX4_meanOutput_0 18 rfl rfl)
theorem dX4_meanOutput_21 : decode cX4_meanOutput 21 = .ok (.aload_n 0, 1) := dk_42 (dk_at dksX4_meanOutput_0 21 rfl rfl)
theorem dX4_meanOutput_22 : decode cX4_meanOutput 22 = .ok (.invokevirtual 129, 3) := dk_182 0 129 (dk_at dksX4_meanOutput_1 0 rfl rfl)
theorem dX4_meanOutput_25 : decode cX4_meanOutput 25 = .ok (.i2d, 1) := dk_135 (dk_at dksX4_meanOutput_1 3 rfl rfl)
theorem dX4_meanOutput_26 : decode cX4_meanOutput 26 = .ok (.aload_n 0, 1) := dk_42 (dk_at dksX4_meanOutput_1 4 rfl rfl)
theorem dX4_meanOutput_27 : decode cX4_meanOutput 27 = .ok (.getfield 9, 3) := dk_180 0 9 (dk_at dksX4_meanOutput_1 5 rfl rfl)
theorem dX4_meanOutput_30 : decode cX4_meanOutput 30 = .ok (.iconst 0, 1) := dk_3 (dk_at dksX4_meanOutput_1 8 rfl rfl)
theorem dX4_meanOutput_31 : decode cX4_meanOutput 31 = .ok (.iaload, 1) := dk_46 (dk_at dksX4_meanOutput_1 9 rfl rfl)
theorem dX4_meanOutput_32 : decode cX4_meanOutput 32 = .ok (.i2d, 1) := dk_135 (dk_at dksX4_meanOutput_1 10 rfl rfl)
theorem dX4_meanOutput_33 : decode cX4_meanOutput 33 = .ok (.ddiv, 1) := dk_111 (dk_at dksX4_meanOutput_1 11 rfl rfl)
theorem dX4_meanOutput_34 : decode cX4_meanOutput 34 = .ok (.goto 4, 3) := dk_167 0 4 (dk_at dksX4_meanOutput_1 12 rfl rfl)
theorem dX4_meanOutput_37 : decode cX4_meanOutput 37 = .ok (.dconst 0, 1) := dk_14 (dk_at dksX4_meanOutput_1 15 rfl rfl)
theorem dX4_meanOutput_38 : decode cX4_meanOutput 38 = .ok (.dreturn, 1) := dk_175 (dk_at dksX4_meanOutput_1 16 rfl rfl)
abbrev cX4_runningShare : ByteArray := prog_20_method_97_code
def yX4_runningShare : MethodName := ⟨RX4, "runningShare", "()F"⟩
def dkwX4_runningShare_1 : List UInt8 := [182, 0, 107, 134, 42, 180, 0, 9, 3, 46, 134, 110, 167, 0, 4, 11, 174]
abbrev dktX4_runningShare_1 : List UInt8 := dkwX4_runningShare_1 ++ []
def dkwX4_runningShare_0 : List UInt8 := [42, 42, 180, 0, 9, 3, 46, 158, 0, 7, 4, 167, 0, 4, 3, 182, 0, 49, 153, 0, 20, 42, 3]
abbrev dktX4_runningShare_0 : List UInt8 := dkwX4_runningShare_0 ++ dktX4_runningShare_1
theorem dksX4_runningShare_0 : cX4_runningShare.data.toList.drop 0 = dktX4_runningShare_0 := by decide +kernel
theorem dksX4_runningShare_1 : cX4_runningShare.data.toList.drop 23 = dktX4_runningShare_1 := dk_seg dksX4_runningShare_0 23 rfl rfl
theorem dX4_runningShare_0 : decode cX4_runningShare 0 = .ok (.aload_n 0, 1) := dk_42 (dk_at dksX4_runningShare_0 0 rfl rfl)
theorem dX4_runningShare_1 : decode cX4_runningShare 1 = .ok (.aload_n 0, 1) := dk_42 (dk_at dksX4_runningShare_0 1 rfl rfl)
theorem dX4_runningShare_2 : decode cX4_runningShare 2 = .ok (.getfield 9, 3) := dk_180 0 9 (dk_at dksX4_runningShare_0 2 rfl rfl)
theorem dX4_runningShare_5 : decode cX4_runningShare 5 = .ok (.iconst 0, 1) := dk_3 (dk_at dksX4_runningShare_0 5 rfl rfl)
theorem dX4_runningShare_6 : decode cX4_runningShare 6 = .ok (.iaload, 1) := dk_46 (dk_at dksX4_runningShare_0 6 rfl rfl)
theorem dX4_runningShare_7 : decode cX4_runningShare 7 = .ok (.ifCond .le 7, 3) := dk_158 0 7 (dk_at dksX4_runningShare_0 7 rfl rfl)
theorem dX4_runningShare_10 : decode cX4_runningShare 10 = .ok (.iconst 1, 1) := dk_4 (dk_at dksX4_runningShare_0 10 rfl rfl)
theorem dX4_runningShare_11 : decode cX4_runningShare 11 = .ok (.goto 4, 3) := dk_167 0 4 (dk_at dksX4_runningShare_0 11 rfl rfl)
theorem dX4_runningShare_14 : decode cX4_runningShare 14 = .ok (.iconst 0, 1) := dk_3 (dk_at dksX4_runningShare_0 14 rfl rfl)
theorem dX4_runningShare_15 : decode cX4_runningShare 15 = .ok (.invokevirtual 49, 3) := dk_182 0 49 (dk_at dksX4_runningShare_0 15 rfl rfl)
theorem dX4_runningShare_18 : decode cX4_runningShare 18 = .ok (.ifCond .eq 20, 3) := dk_153 0 20 (dk_at dksX4_runningShare_0 18 rfl rfl)
theorem dX4_runningShare_21 : decode cX4_runningShare 21 = .ok (.aload_n 0, 1) := dk_42 (dk_at dksX4_runningShare_0 21 rfl rfl)
theorem dX4_runningShare_22 : decode cX4_runningShare 22 = .ok (.iconst 0, 1) := dk_3 (dk_at dksX4_runningShare_0 22 rfl rfl)
theorem dX4_runningShare_23 : decode cX4_runningShare 23 = .ok (.invokevirtual 107, 3) := dk_182 0 107 (dk_at dksX4_runningShare_1 0 rfl rfl)
theorem dX4_runningShare_26 : decode cX4_runningShare 26 = .ok (.i2f, 1) := dk_134 (dk_at dksX4_runningShare_1 3 rfl rfl)
theorem dX4_runningShare_27 : decode cX4_runningShare 27 = .ok (.aload_n 0, 1) := dk_42 (dk_at dksX4_runningShare_1 4 rfl rfl)
theorem dX4_runningShare_28 : decode cX4_runningShare 28 = .ok (.getfield 9, 3) := dk_180 0 9 (dk_at dksX4_runningShare_1 5 rfl rfl)
theorem dX4_runningShare_31 : decode cX4_runningShare 31 = .ok (.iconst 0, 1) := dk_3 (dk_at dksX4_runningShare_1 8 rfl rfl)
theorem dX4_runningShare_32 : decode cX4_runningShare 32 = .ok (.iaload, 1) := dk_46 (dk_at dksX4_runningShare_1 9 rfl rfl)
theorem dX4_runningShare_33 : decode cX4_runningShare 33 = .ok (.i2f, 1) := dk_134 (dk_at dksX4_runningShare_1 10 rfl rfl)
theorem dX4_runningShare_34 : decode cX4_runningShare 34 = .ok (.fdiv, 1) := dk_110 (dk_at dksX4_runningShare_1 11 rfl rfl)
theorem dX4_runningShare_35 : decode cX4_runningShare 35 = .ok (.goto 4, 3) := dk_167 0 4 (dk_at dksX4_runningShare_1 12 rfl rfl)
theorem dX4_runningShare_38 : decode cX4_runningShare 38 = .ok (.fconst 0, 1) := dk_11 (dk_at dksX4_runningShare_1 15 rfl rfl)
theorem dX4_runningShare_39 : decode cX4_runningShare 39 = .ok (.freturn, 1) := dk_174 (dk_at dksX4_runningShare_1 16 rfl rfl)
abbrev cX4_isConsistent : ByteArray := prog_20_method_98_code
def yX4_isConsistent : MethodName := ⟨RX4, "isConsistent", "()Z"⟩
def dkwX4_isConsistent_0 : List UInt8 := [42, 3, 181, 0, 27, 4, 172]
abbrev dktX4_isConsistent_0 : List UInt8 := dkwX4_isConsistent_0 ++ []
theorem dksX4_isConsistent_0 : cX4_isConsistent.data.toList.drop 0 = dktX4_isConsistent_0 := by decide +kernel
theorem dX4_isConsistent_0 : decode cX4_isConsistent 0 = .ok (.aload_n 0, 1) := dk_42 (dk_at dksX4_isConsistent_0 0 rfl rfl)
theorem dX4_isConsistent_1 : decode cX4_isConsistent 1 = .ok (.iconst 0, 1) := dk_3 (dk_at dksX4_isConsistent_0 1 rfl rfl)
theorem dX4_isConsistent_2 : decode cX4_isConsistent 2 = .ok (.putfield 27, 3) := dk_181 0 27 (dk_at dksX4_isConsistent_0 2 rfl rfl)
theorem dX4_isConsistent_5 : decode cX4_isConsistent 5 = .ok (.iconst 1, 1) := dk_4 (dk_at dksX4_isConsistent_0 5 rfl rfl)
theorem dX4_isConsistent_6 : decode cX4_isConsistent 6 = .ok (.ireturn, 1) := dk_172 (dk_at dksX4_isConsistent_0 6 rfl rfl)
abbrev cX4_writeTurbine : ByteArray := prog_20_method_102_code
def yX4_writeTurbine : MethodName := ⟨RX4, "writeTurbine", "(I)I"⟩
def dkwX4_writeTurbine_5 : List UInt8 := [42, 16, 115, 42, 27, 7, 182, 0, 57, 182, 0, 197, 42, 180, 0, 187, 172]
abbrev dktX4_writeTurbine_5 : List UInt8 := dkwX4_writeTurbine_5 ++ []
def dkwX4_writeTurbine_4 : List UInt8 := [6, 182, 0, 57, 4, 160, 0, 9, 42, 16, 120, 182, 0, 194, 42, 27, 6, 182, 0, 57, 5, 160, 0, 15]
abbrev dktX4_writeTurbine_4 : List UInt8 := dkwX4_writeTurbine_4 ++ dktX4_writeTurbine_5
def dkwX4_writeTurbine_3 : List UInt8 := [27, 8, 182, 0, 57, 158, 0, 17, 42, 16, 60, 42, 27, 8, 182, 0, 57, 4, 100, 182, 0, 197, 42, 27]
abbrev dktX4_writeTurbine_3 : List UInt8 := dkwX4_writeTurbine_3 ++ dktX4_writeTurbine_4
def dkwX4_writeTurbine_2 : List UInt8 := [42, 16, 112, 42, 27, 5, 182, 0, 57, 182, 0, 197, 42, 16, 61, 42, 27, 182, 0, 77, 182, 0, 197, 42]
abbrev dktX4_writeTurbine_2 : List UInt8 := dkwX4_writeTurbine_2 ++ dktX4_writeTurbine_3
def dkwX4_writeTurbine_1 : List UInt8 := [42, 16, 64, 42, 27, 3, 182, 0, 57, 182, 0, 197, 42, 16, 44, 42, 27, 4, 182, 0, 57, 182, 0, 197]
abbrev dktX4_writeTurbine_1 : List UInt8 := dkwX4_writeTurbine_1 ++ dktX4_writeTurbine_2
def dkwX4_writeTurbine_0 : List UInt8 := [42, 42, 27, 182, 0, 103, 182, 0, 49, 154, 0, 5, 3, 172, 42, 3, 181, 0, 187, 42, 27, 182, 0, 190]
abbrev dktX4_writeTurbine_0 : List UInt8 := dkwX4_writeTurbine_0 ++ dktX4_writeTurbine_1
theorem dksX4_writeTurbine_0 : cX4_writeTurbine.data.toList.drop 0 = dktX4_writeTurbine_0 := by decide +kernel
theorem dksX4_writeTurbine_1 : cX4_writeTurbine.data.toList.drop 24 = dktX4_writeTurbine_1 := dk_seg dksX4_writeTurbine_0 24 rfl rfl
theorem dksX4_writeTurbine_2 : cX4_writeTurbine.data.toList.drop 48 = dktX4_writeTurbine_2 := dk_seg dksX4_writeTurbine_1 24 rfl rfl
theorem dksX4_writeTurbine_3 : cX4_writeTurbine.data.toList.drop 72 = dktX4_writeTurbine_3 := dk_seg dksX4_writeTurbine_2 24 rfl rfl
theorem dksX4_writeTurbine_4 : cX4_writeTurbine.data.toList.drop 96 = dktX4_writeTurbine_4 := dk_seg dksX4_writeTurbine_3 24 rfl rfl
theorem dksX4_writeTurbine_5 : cX4_writeTurbine.data.toList.drop 120 = dktX4_writeTurbine_5 := dk_seg dksX4_writeTurbine_4 24 rfl rfl
theorem dX4_writeTurbine_0 : decode cX4_writeTurbine 0 = .ok (.aload_n 0, 1) := dk_42 (dk_at dksX4_writeTurbine_0 0 rfl rfl)
theorem dX4_writeTurbine_1 : decode cX4_writeTurbine 1 = .ok (.aload_n 0, 1) := dk_42 (dk_at dksX4_writeTurbine_0 1 rfl rfl)
theorem dX4_writeTurbine_2 : decode cX4_writeTurbine 2 = .ok (.iload_n 1, 1) := dk_27 (dk_at dksX4_writeTurbine_0 2 rfl rfl)
theorem dX4_writeTurbine_3 : decode cX4_writeTurbine 3 = .ok (.invokevirtual 103, 3) := dk_182 0 103 (dk_at dksX4_writeTurbine_0 3 rfl rfl)
theorem dX4_writeTurbine_6 : decode cX4_writeTurbine 6 = .ok (.invokevirtual 49, 3) := dk_182 0 49 (dk_at dksX4_writeTurbine_0 6 rfl rfl)
theorem dX4_writeTurbine_9 : decode cX4_writeTurbine 9 = .ok (.ifCond .ne 5, 3) := dk_154 0 5 (dk_at dksX4_writeTurbine_0 9 rfl rfl)
theorem dX4_writeTurbine_12 : decode cX4_writeTurbine 12 = .ok (.iconst 0, 1) := dk_3 (dk_at dksX4_writeTurbine_0 12 rfl rfl)
theorem dX4_writeTurbine_13 : decode cX4_writeTurbine 13 = .ok (.ireturn, 1) := dk_172 (dk_at dksX4_writeTurbine_0 13 rfl rfl)
theorem dX4_writeTurbine_14 : decode cX4_writeTurbine 14 = .ok (.aload_n 0, 1) := dk_42 (dk_at dksX4_writeTurbine_0 14 rfl rfl)
theorem dX4_writeTurbine_15 : decode cX4_writeTurbine 15 = .ok (.iconst 0, 1) := dk_3 (dk_at dksX4_writeTurbine_0 15 rfl rfl)
theorem dX4_writeTurbine_16 : decode cX4_writeTurbine 16 = .ok (.putfield 187, 3) := dk_181 0 187 (dk_at dksX4_writeTurbine_0 16 rfl rfl)
theorem dX4_writeTurbine_19 : decode cX4_writeTurbine 19 = .ok (.aload_n 0, 1) := dk_42 (dk_at dksX4_writeTurbine_0 19 rfl rfl)
theorem dX4_writeTurbine_20 : decode cX4_writeTurbine 20 = .ok (.iload_n 1, 1) := dk_27 (dk_at dksX4_writeTurbine_0 20 rfl rfl)
theorem dX4_writeTurbine_21 : decode cX4_writeTurbine 21 = .ok (.invokevirtual 190, 3) := dk_182 0 190 (dk_at dksX4_writeTurbine_0 21 rfl rfl)
theorem dX4_writeTurbine_24 : decode cX4_writeTurbine 24 = .ok (.aload_n 0, 1) := dk_42 (dk_at dksX4_writeTurbine_1 0 rfl rfl)
theorem dX4_writeTurbine_25 : decode cX4_writeTurbine 25 = .ok (.bipush 64, 2) := dk_16 64 (dk_at dksX4_writeTurbine_1 1 rfl rfl)
theorem dX4_writeTurbine_27 : decode cX4_writeTurbine 27 = .ok (.aload_n 0, 1) := dk_42 (dk_at dksX4_writeTurbine_1 3 rfl rfl)
theorem dX4_writeTurbine_28 : decode cX4_writeTurbine 28 = .ok (.iload_n 1, 1) := dk_27 (dk_at dksX4_writeTurbine_1 4 rfl rfl)
theorem dX4_writeTurbine_29 : decode cX4_writeTurbine 29 = .ok (.iconst 0, 1) := dk_3 (dk_at dksX4_writeTurbine_1 5 rfl rfl)
theorem dX4_writeTurbine_30 : decode cX4_writeTurbine 30 = .ok (.invokevirtual 57, 3) := dk_182 0 57 (dk_at dksX4_writeTurbine_1 6 rfl rfl)
theorem dX4_writeTurbine_33 : decode cX4_writeTurbine 33 = .ok (.invokevirtual 197, 3) := dk_182 0 197 (dk_at dksX4_writeTurbine_1 9 rfl rfl)
theorem dX4_writeTurbine_36 : decode cX4_writeTurbine 36 = .ok (.aload_n 0, 1) := dk_42 (dk_at dksX4_writeTurbine_1 12 rfl rfl)
theorem dX4_writeTurbine_37 : decode cX4_writeTurbine 37 = .ok (.bipush 44, 2) := dk_16 44 (dk_at dksX4_writeTurbine_1 13 rfl rfl)
theorem dX4_writeTurbine_39 : decode cX4_writeTurbine 39 = .ok (.aload_n 0, 1) := dk_42 (dk_at dksX4_writeTurbine_1 15 rfl rfl)
theorem dX4_writeTurbine_40 : decode cX4_writeTurbine 40 = .ok (.iload_n 1, 1) := dk_27 (dk_at dksX4_writeTurbine_1 16 rfl rfl)
theorem dX4_writeTurbine_41 : decode cX4_writeTurbine 41 = .ok (.iconst 1, 1) := dk_4 (dk_at dksX4_writeTurbine_1 17 rfl rfl)
theorem dX4_writeTurbine_42 : decode cX4_writeTurbine 42 = .ok (.invokevirtual 57, 3) := dk_182 0 57 (dk_at dksX4_writeTurbine_1 18 rfl rfl)
theorem dX4_writeTurbine_45 : decode cX4_writeTurbine 45 = .ok (.invokevirtual 197, 3) := dk_182 0 197 (dk_at dksX4_writeTurbine_1 21 rfl rfl)
theorem dX4_writeTurbine_48 : decode cX4_writeTurbine 48 = .ok (.aload_n 0, 1) := dk_42 (dk_at dksX4_writeTurbine_2 0 rfl rfl)
theorem dX4_writeTurbine_49 : decode cX4_writeTurbine 49 = .ok (.bipush 112, 2) := dk_16 112 (dk_at dksX4_writeTurbine_2 1 rfl rfl)
theorem dX4_writeTurbine_51 : decode cX4_writeTurbine 51 = .ok (.aload_n 0, 1) := dk_42 (dk_at dksX4_writeTurbine_2 3 rfl rfl)
theorem dX4_writeTurbine_52 : decode cX4_writeTurbine 52 = .ok (.iload_n 1, 1) := dk_27 (dk_at dksX4_writeTurbine_2 4 rfl rfl)
theorem dX4_writeTurbine_53 : decode cX4_writeTurbine 53 = .ok (.iconst 2, 1) := dk_5 (dk_at dksX4_writeTurbine_2 5 rfl rfl)
theorem dX4_writeTurbine_54 : decode cX4_writeTurbine 54 = .ok (.invokevirtual 57, 3) := dk_182 0 57 (dk_at dksX4_writeTurbine_2 6 rfl rfl)
theorem dX4_writeTurbine_57 : decode cX4_writeTurbine 57 = .ok (.invokevirtual 197, 3) := dk_182 0 197 (dk_at dksX4_writeTurbine_2 9 rfl rfl)
theorem dX4_writeTurbine_60 : decode cX4_writeTurbine 60 = .ok (.aload_n 0, 1) := dk_42 (dk_at dksX4_writeTurbine_2 12 rfl rfl)
theorem dX4_writeTurbine_61 : decode cX4_writeTurbine 61 = .ok (.bipush 61, 2) := dk_16 61 (dk_at dksX4_writeTurbine_2 13 rfl rfl)
theorem dX4_writeTurbine_63 : decode cX4_writeTurbine 63 = .ok (.aload_n 0, 1) := dk_42 (dk_at dksX4_writeTurbine_2 15 rfl rfl)
theorem dX4_writeTurbine_64 : decode cX4_writeTurbine 64 = .ok (.iload_n 1, 1) := dk_27 (dk_at dksX4_writeTurbine_2 16 rfl rfl)
theorem dX4_writeTurbine_65 : decode cX4_writeTurbine 65 = .ok (.invokevirtual 77, 3) := dk_182 0 77 (dk_at dksX4_writeTurbine_2 17 rfl rfl)
theorem dX4_writeTurbine_68 : decode cX4_writeTurbine 68 = .ok (.invokevirtual 197, 3) := dk_182 0 197 (dk_at dksX4_writeTurbine_2 20 rfl rfl)
theorem dX4_writeTurbine_71 : decode cX4_writeTurbine 71 = .ok (.aload_n 0, 1) := dk_42 (dk_at dksX4_writeTurbine_2 23 rfl rfl)
theorem dX4_writeTurbine_72 : decode cX4_writeTurbine 72 = .ok (.iload_n 1, 1) := dk_27 (dk_at dksX4_writeTurbine_3 0 rfl rfl)
theorem dX4_writeTurbine_73 : decode cX4_writeTurbine 73 = .ok (.iconst 5, 1) := dk_8 (dk_at dksX4_writeTurbine_3 1 rfl rfl)
theorem dX4_writeTurbine_74 : decode cX4_writeTurbine 74 = .ok (.invokevirtual 57, 3) := dk_182 0 57 (dk_at dksX4_writeTurbine_3 2 rfl rfl)
theorem dX4_writeTurbine_77 : decode cX4_writeTurbine 77 = .ok (.ifCond .le 17, 3) := dk_158 0 17 (dk_at dksX4_writeTurbine_3 5 rfl rfl)
theorem dX4_writeTurbine_80 : decode cX4_writeTurbine 80 = .ok (.aload_n 0, 1) := dk_42 (dk_at dksX4_writeTurbine_3 8 rfl rfl)
theorem dX4_writeTurbine_81 : decode cX4_writeTurbine 81 = .ok (.bipush 60, 2) := dk_16 60 (dk_at dksX4_writeTurbine_3 9 rfl rfl)
theorem dX4_writeTurbine_83 : decode cX4_writeTurbine 83 = .ok (.aload_n 0, 1) := dk_42 (dk_at dksX4_writeTurbine_3 11 rfl rfl)
theorem dX4_writeTurbine_84 : decode cX4_writeTurbine 84 = .ok (.iload_n 1, 1) := dk_27 (dk_at dksX4_writeTurbine_3 12 rfl rfl)
theorem dX4_writeTurbine_85 : decode cX4_writeTurbine 85 = .ok (.iconst 5, 1) := dk_8 (dk_at dksX4_writeTurbine_3 13 rfl rfl)
theorem dX4_writeTurbine_86 : decode cX4_writeTurbine 86 = .ok (.invokevirtual 57, 3) := dk_182 0 57 (dk_at dksX4_writeTurbine_3 14 rfl rfl)
theorem dX4_writeTurbine_89 : decode cX4_writeTurbine 89 = .ok (.iconst 1, 1) := dk_4 (dk_at dksX4_writeTurbine_3 17 rfl rfl)
theorem dX4_writeTurbine_90 : decode cX4_writeTurbine 90 = .ok (.isub, 1) := dk_100 (dk_at dksX4_writeTurbine_3 18 rfl rfl)
theorem dX4_writeTurbine_91 : decode cX4_writeTurbine 91 = .ok (.invokevirtual 197, 3) := dk_182 0 197 (dk_at dksX4_writeTurbine_3 19 rfl rfl)
theorem dX4_writeTurbine_94 : decode cX4_writeTurbine 94 = .ok (.aload_n 0, 1) := dk_42 (dk_at dksX4_writeTurbine_3 22 rfl rfl)
theorem dX4_writeTurbine_95 : decode cX4_writeTurbine 95 = .ok (.iload_n 1, 1) := dk_27 (dk_at dksX4_writeTurbine_3 23 rfl rfl)
theorem dX4_writeTurbine_96 : decode cX4_writeTurbine 96 = .ok (.iconst 3, 1) := dk_6 (dk_at dksX4_writeTurbine_4 0 rfl rfl)
theorem dX4_writeTurbine_97 : decode cX4_writeTurbine 97 = .ok (.invokevirtual 57, 3) := dk_182 0 57 (dk_at dksX4_writeTurbine_4 1 rfl rfl)
theorem dX4_writeTurbine_100 : decode cX4_writeTurbine 100 = .ok (.iconst 1, 1) := dk_4 (dk_at dksX4_writeTurbine_4 4 rfl rfl)
theorem dX4_writeTurbine_101 : decode cX4_writeTurbine 101 = .ok (.if_icmp .ne 9, 3) := dk_160 0 9 (dk_at dksX4_writeTurbine_4 5 rfl rfl)
theorem dX4_writeTurbine_104 : decode cX4_writeTurbine 104 = .ok (.aload_n 0, 1) := dk_42 (dk_at dksX4_writeTurbine_4 8 rfl rfl)
theorem dX4_writeTurbine_105 : decode cX4_writeTurbine 105 = .ok (.bipush 120, 2) := dk_16 120 (dk_at dksX4_writeTurbine_4 9 rfl rfl)
theorem dX4_writeTurbine_107 : decode cX4_writeTurbine 107 = .ok (.invokevirtual 194, 3) := dk_182 0 194 (dk_at dksX4_writeTurbine_4 11 rfl rfl)
theorem dX4_writeTurbine_110 : decode cX4_writeTurbine 110 = .ok (.aload_n 0, 1) := dk_42 (dk_at dksX4_writeTurbine_4 14 rfl rfl)
theorem dX4_writeTurbine_111 : decode cX4_writeTurbine 111 = .ok (.iload_n 1, 1) := dk_27 (dk_at dksX4_writeTurbine_4 15 rfl rfl)
theorem dX4_writeTurbine_112 : decode cX4_writeTurbine 112 = .ok (.iconst 3, 1) := dk_6 (dk_at dksX4_writeTurbine_4 16 rfl rfl)
theorem dX4_writeTurbine_113 : decode cX4_writeTurbine 113 = .ok (.invokevirtual 57, 3) := dk_182 0 57 (dk_at dksX4_writeTurbine_4 17 rfl rfl)
theorem dX4_writeTurbine_116 : decode cX4_writeTurbine 116 = .ok (.iconst 2, 1) := dk_5 (dk_at dksX4_writeTurbine_4 20 rfl rfl)
theorem dX4_writeTurbine_117 : decode cX4_writeTurbine 117 = .ok (.if_icmp .ne 15, 3) := dk_160 0 15 (dk_at dksX4_writeTurbine_4 21 rfl rfl)
theorem dX4_writeTurbine_120 : decode cX4_writeTurbine 120 = .ok (.aload_n 0, 1) := dk_42 (dk_at dksX4_writeTurbine_5 0 rfl rfl)
theorem dX4_writeTurbine_121 : decode cX4_writeTurbine 121 = .ok (.bipush 115, 2) := dk_16 115 (dk_at dksX4_writeTurbine_5 1 rfl rfl)
theorem dX4_writeTurbine_123 : decode cX4_writeTurbine 123 = .ok (.aload_n 0, 1) := dk_42 (dk_at dksX4_writeTurbine_5 3 rfl rfl)
theorem dX4_writeTurbine_124 : decode cX4_writeTurbine 124 = .ok (.iload_n 1, 1) := dk_27 (dk_at dksX4_writeTurbine_5 4 rfl rfl)
theorem dX4_writeTurbine_125 : decode cX4_writeTurbine 125 = .ok (.iconst 4, 1) := dk_7 (dk_at dksX4_writeTurbine_5 5 rfl rfl)
theorem dX4_writeTurbine_126 : decode cX4_writeTurbine 126 = .ok (.invokevirtual 57, 3) := dk_182 0 57 (dk_at dksX4_writeTurbine_5 6 rfl rfl)
theorem dX4_writeTurbine_129 : decode cX4_writeTurbine 129 = .ok (.invokevirtual 197, 3) := dk_182 0 197 (dk_at dksX4_writeTurbine_5 9 rfl rfl)
theorem dX4_writeTurbine_132 : decode cX4_writeTurbine 132 = .ok (.aload_n 0, 1) := dk_42 (dk_at dksX4_writeTurbine_5 12 rfl rfl)
theorem dX4_writeTurbine_133 : decode cX4_writeTurbine 133 = .ok (.getfield 187, 3) := dk_180 0 187 (dk_at dksX4_writeTurbine_5 13 rfl rfl)
theorem dX4_writeTurbine_136 : decode cX4_writeTurbine 136 = .ok (.ireturn, 1) := dk_172 (dk_at dksX4_writeTurbine_5 16 rfl rfl)
abbrev cX4_writesNumber : ByteArray := prog_20_method_100_code
def yX4_writesNumber : MethodName := ⟨RX4, "writesNumber", "(I)V"⟩
def dkwX4_writesNumber_1 : List UInt8 := [182, 0, 194, 177]
abbrev dktX4_writesNumber_1 : List UInt8 := dkwX4_writesNumber_1 ++ []
def dkwX4_writesNumber_0 : List UInt8 := [27, 16, 9, 164, 0, 11, 42, 27, 16, 10, 108, 182, 0, 190, 42, 16, 48, 27, 16, 10, 112, 96]
abbrev dktX4_writesNumber_0 : List UInt8 := dkwX4_writesNumber_0 ++ dktX4_writesNumber_1
theorem dksX4_writesNumber_0 : cX4_writesNumber.data.toList.drop 0 = dktX4_writesNumber_0 := by decide +kernel
theorem dksX4_writesNumber_1 : cX4_writesNumber.data.toList.drop 22 = dktX4_writesNumber_1 := dk_seg dksX4_writesNumber_0 22 rfl rfl
theorem dX4_writesNumber_0 : decode cX4_writesNumber 0 = .ok (.iload_n 1, 1) := dk_27 (dk_at dksX4_writesNumber_0 0 rfl rfl)
theorem dX4_writesNumber_1 : decode cX4_writesNumber 1 = .ok (.bipush 9, 2) := dk_16 9 (dk_at dksX4_writesNumber_0 1 rfl rfl)
theorem dX4_writesNumber_3 : decode cX4_writesNumber 3 = .ok (.if_icmp .le 11, 3) := dk_164 0 11 (dk_at dksX4_writesNumber_0 3 rfl rfl)
theorem dX4_writesNumber_6 : decode cX4_writesNumber 6 = .ok (.aload_n 0, 1) := dk_42 (dk_at dksX4_writesNumber_0 6 rfl rfl)
theorem dX4_writesNumber_7 : decode cX4_writesNumber 7 = .ok (.iload_n 1, 1) := dk_27 (dk_at dksX4_writesNumber_0 7 rfl rfl)
theorem dX4_writesNumber_8 : decode cX4_writesNumber 8 = .ok (.bipush 10, 2) := dk_16 10 (dk_at dksX4_writesNumber_0 8 rfl rfl)
theorem dX4_writesNumber_10 : decode cX4_writesNumber 10 = .ok (.idiv, 1) := dk_108 (dk_at dksX4_writesNumber_0 10 rfl rfl)
theorem dX4_writesNumber_11 : decode cX4_writesNumber 11 = .ok (.invokevirtual 190, 3) := dk_182 0 190 (dk_at dksX4_writesNumber_0 11 rfl rfl)
theorem dX4_writesNumber_14 : decode cX4_writesNumber 14 = .ok (.aload_n 0, 1) := dk_42 (dk_at dksX4_writesNumber_0 14 rfl rfl)
theorem dX4_writesNumber_15 : decode cX4_writesNumber 15 = .ok (.bipush 48, 2) := dk_16 48 (dk_at dksX4_writesNumber_0 15 rfl rfl)
theorem dX4_writesNumber_17 : decode cX4_writesNumber 17 = .ok (.iload_n 1, 1) := dk_27 (dk_at dksX4_writesNumber_0 17 rfl rfl)
theorem dX4_writesNumber_18 : decode cX4_writesNumber 18 = .ok (.bipush 10, 2) := dk_16 10 (dk_at dksX4_writesNumber_0 18 rfl rfl)
theorem dX4_writesNumber_20 : decode cX4_writesNumber 20 = .ok (.irem, 1) := dk_112 (dk_at dksX4_writesNumber_0 20 rfl rfl)
theorem dX4_writesNumber_21 : decode cX4_writesNumber 21 = .ok (.iadd, 1) := dk_96 (dk_at dksX4_writesNumber_0 21 rfl rfl)
theorem dX4_writesNumber_22 : decode cX4_writesNumber 22 = .ok (.invokevirtual 194, 3) := dk_182 0 194 (dk_at dksX4_writesNumber_1 0 rfl rfl)
theorem dX4_writesNumber_25 : decode cX4_writesNumber 25 = .ok (.return_, 1) := dk_177 (dk_at dksX4_writesNumber_1 3 rfl rfl)
abbrev cX4_writes : ByteArray := prog_20_method_99_code
def yX4_writes : MethodName := ⟨RX4, "writes", "(I)V"⟩
def dkwX4_writes_0 : List UInt8 := [42, 180, 0, 13, 42, 180, 0, 187, 27, 146, 85, 42, 89, 180, 0, 187, 4, 96, 181, 0, 187, 177]
abbrev dktX4_writes_0 : List UInt8 := dkwX4_writes_0 ++ []
theorem dksX4_writes_0 : cX4_writes.data.toList.drop 0 = dktX4_writes_0 := by decide +kernel
theorem dX4_writes_0 : decode cX4_writes 0 = .ok (.aload_n 0, 1) := dk_42 (dk_at dksX4_writes_0 0 rfl rfl)
theorem dX4_writes_1 : decode cX4_writes 1 = .ok (.getfield 13, 3) := dk_180 0 13 (dk_at dksX4_writes_0 1 rfl rfl)
theorem dX4_writes_4 : decode cX4_writes 4 = .ok (.aload_n 0, 1) := dk_42 (dk_at dksX4_writes_0 4 rfl rfl)
theorem dX4_writes_5 : decode cX4_writes 5 = .ok (.getfield 187, 3) := dk_180 0 187 (dk_at dksX4_writes_0 5 rfl rfl)
theorem dX4_writes_8 : decode cX4_writes 8 = .ok (.iload_n 1, 1) := dk_27 (dk_at dksX4_writes_0 8 rfl rfl)
theorem dX4_writes_9 : decode cX4_writes 9 = .ok (.i2c, 1) := dk_146 (dk_at dksX4_writes_0 9 rfl rfl)
theorem dX4_writes_10 : decode cX4_writes 10 = .ok (.castore, 1) := dk_85 (dk_at dksX4_writes_0 10 rfl rfl)
theorem dX4_writes_11 : decode cX4_writes 11 = .ok (.aload_n 0, 1) := dk_42 (dk_at dksX4_writes_0 11 rfl rfl)
theorem dX4_writes_12 : decode cX4_writes 12 = .ok (.dup, 1) := dk_89 (dk_at dksX4_writes_0 12 rfl rfl)
theorem dX4_writes_13 : decode cX4_writes 13 = .ok (.getfield 187, 3) := dk_180 0 187 (dk_at dksX4_writes_0 13 rfl rfl)
theorem dX4_writes_16 : decode cX4_writes 16 = .ok (.iconst 1, 1) := dk_4 (dk_at dksX4_writes_0 16 rfl rfl)
theorem dX4_writes_17 : decode cX4_writes 17 = .ok (.iadd, 1) := dk_96 (dk_at dksX4_writes_0 17 rfl rfl)
theorem dX4_writes_18 : decode cX4_writes 18 = .ok (.putfield 187, 3) := dk_181 0 187 (dk_at dksX4_writes_0 18 rfl rfl)
theorem dX4_writes_21 : decode cX4_writes 21 = .ok (.return_, 1) := dk_177 (dk_at dksX4_writes_0 21 rfl rfl)
abbrev cX4_writesBehind : ByteArray := prog_20_method_101_code
def yX4_writesBehind : MethodName := ⟨RX4, "writesBehind", "(II)V"⟩
def dkwX4_writesBehind_0 : List UInt8 := [42, 27, 182, 0, 194, 42, 28, 182, 0, 190, 177]
abbrev dktX4_writesBehind_0 : List UInt8 := dkwX4_writesBehind_0 ++ []
theorem dksX4_writesBehind_0 : cX4_writesBehind.data.toList.drop 0 = dktX4_writesBehind_0 := by decide +kernel
theorem dX4_writesBehind_0 : decode cX4_writesBehind 0 = .ok (.aload_n 0, 1) := dk_42 (dk_at dksX4_writesBehind_0 0 rfl rfl)
theorem dX4_writesBehind_1 : decode cX4_writesBehind 1 = .ok (.iload_n 1, 1) := dk_27 (dk_at dksX4_writesBehind_0 1 rfl rfl)
theorem dX4_writesBehind_2 : decode cX4_writesBehind 2 = .ok (.invokevirtual 194, 3) := dk_182 0 194 (dk_at dksX4_writesBehind_0 2 rfl rfl)
theorem dX4_writesBehind_5 : decode cX4_writesBehind 5 = .ok (.aload_n 0, 1) := dk_42 (dk_at dksX4_writesBehind_0 5 rfl rfl)
theorem dX4_writesBehind_6 : decode cX4_writesBehind 6 = .ok (.iload_n 2, 1) := dk_28 (dk_at dksX4_writesBehind_0 6 rfl rfl)
theorem dX4_writesBehind_7 : decode cX4_writesBehind 7 = .ok (.invokevirtual 190, 3) := dk_182 0 190 (dk_at dksX4_writesBehind_0 7 rfl rfl)
theorem dX4_writesBehind_10 : decode cX4_writesBehind 10 = .ok (.return_, 1) := dk_177 (dk_at dksX4_writesBehind_0 10 rfl rfl)
abbrev cX4_outputAt : ByteArray := prog_20_method_103_code
def yX4_outputAt : MethodName := ⟨RX4, "outputAt", "(I)C"⟩
def dkwX4_outputAt_1 : List UInt8 := [167, 0, 4, 3, 172]
abbrev dktX4_outputAt_1 : List UInt8 := dkwX4_outputAt_1 ++ []
def dkwX4_outputAt_0 : List UInt8 := [42, 27, 3, 42, 180, 0, 187, 4, 100, 184, 0, 53, 182, 0, 49, 153, 0, 12, 42, 180, 0, 13, 27, 52]
abbrev dktX4_outputAt_0 : List UInt8 := dkwX4_outputAt_0 ++ dktX4_outputAt_1
theorem dksX4_outputAt_0 : cX4_outputAt.data.toList.drop 0 = dktX4_outputAt_0 := by decide +kernel
theorem dksX4_outputAt_1 : cX4_outputAt.data.toList.drop 24 = dktX4_outputAt_1 := dk_seg dksX4_outputAt_0 24 rfl rfl
theorem dX4_outputAt_0 : decode cX4_outputAt 0 = .ok (.aload_n 0, 1) := dk_42 (dk_at dksX4_outputAt_0 0 rfl rfl)
theorem dX4_outputAt_1 : decode cX4_outputAt 1 = .ok (.iload_n 1, 1) := dk_27 (dk_at dksX4_outputAt_0 1 rfl rfl)
theorem dX4_outputAt_2 : decode cX4_outputAt 2 = .ok (.iconst 0, 1) := dk_3 (dk_at dksX4_outputAt_0 2 rfl rfl)
theorem dX4_outputAt_3 : decode cX4_outputAt 3 = .ok (.aload_n 0, 1) := dk_42 (dk_at dksX4_outputAt_0 3 rfl rfl)
theorem dX4_outputAt_4 : decode cX4_outputAt 4 = .ok (.getfield 187, 3) := dk_180 0 187 (dk_at dksX4_outputAt_0 4 rfl rfl)
theorem dX4_outputAt_7 : decode cX4_outputAt 7 = .ok (.iconst 1, 1) := dk_4 (dk_at dksX4_outputAt_0 7 rfl rfl)
theorem dX4_outputAt_8 : decode cX4_outputAt 8 = .ok (.isub, 1) := dk_100 (dk_at dksX4_outputAt_0 8 rfl rfl)
theorem dX4_outputAt_9 : decode cX4_outputAt 9 = .ok (.invokestatic 53, 3) := dk_184 0 53 (dk_at dksX4_outputAt_0 9 rfl rfl)
theorem dX4_outputAt_12 : decode cX4_outputAt 12 = .ok (.invokevirtual 49, 3) := dk_182 0 49 (dk_at dksX4_outputAt_0 12 rfl rfl)
theorem dX4_outputAt_15 : decode cX4_outputAt 15 = .ok (.ifCond .eq 12, 3) := dk_153 0 12 (dk_at dksX4_outputAt_0 15 rfl rfl)
theorem dX4_outputAt_18 : decode cX4_outputAt 18 = .ok (.aload_n 0, 1) := dk_42 (dk_at dksX4_outputAt_0 18 rfl rfl)
theorem dX4_outputAt_19 : decode cX4_outputAt 19 = .ok (.getfield 13, 3) := dk_180 0 13 (dk_at dksX4_outputAt_0 19 rfl rfl)
theorem dX4_outputAt_22 : decode cX4_outputAt 22 = .ok (.iload_n 1, 1) := dk_27 (dk_at dksX4_outputAt_0 22 rfl rfl)
theorem dX4_outputAt_23 : decode cX4_outputAt 23 = .ok (.caload, 1) := dk_52 (dk_at dksX4_outputAt_0 23 rfl rfl)
theorem dX4_outputAt_24 : decode cX4_outputAt 24 = .ok (.goto 4, 3) := dk_167 0 4 (dk_at dksX4_outputAt_1 0 rfl rfl)
theorem dX4_outputAt_27 : decode cX4_outputAt 27 = .ok (.iconst 0, 1) := dk_3 (dk_at dksX4_outputAt_1 3 rfl rfl)
theorem dX4_outputAt_28 : decode cX4_outputAt 28 = .ok (.ireturn, 1) := dk_172 (dk_at dksX4_outputAt_1 4 rfl rfl)
abbrev cX4_appendInput : ByteArray := prog_20_method_104_code
def yX4_appendInput : MethodName := ⟨RX4, "appendInput", "(C)I"⟩
def dkwX4_appendInput_2 : List UInt8 := [42, 180, 0, 200, 27, 85, 42, 89, 180, 0, 200, 4, 96, 181, 0, 200, 42, 180, 0, 200, 172]
abbrev dktX4_appendInput_2 : List UInt8 := dkwX4_appendInput_2 ++ []
def dkwX4_appendInput_1 : List UInt8 := [160, 0, 7, 5, 167, 0, 4, 3, 181, 0, 27, 42, 180, 0, 27, 153, 0, 5, 3, 172, 42, 180, 0, 17]
abbrev dktX4_appendInput_1 : List UInt8 := dkwX4_appendInput_1 ++ dktX4_appendInput_2
def dkwX4_appendInput_0 : List UInt8 := [42, 27, 16, 32, 16, 126, 184, 0, 53, 154, 0, 7, 4, 167, 0, 17, 42, 180, 0, 200, 16, 60]
abbrev dktX4_appendInput_0 : List UInt8 := dkwX4_appendInput_0 ++ dktX4_appendInput_1
theorem dksX4_appendInput_0 : cX4_appendInput.data.toList.drop 0 = dktX4_appendInput_0 := by decide +kernel
theorem dksX4_appendInput_1 : cX4_appendInput.data.toList.drop 22 = dktX4_appendInput_1 := dk_seg dksX4_appendInput_0 22 rfl rfl
theorem dksX4_appendInput_2 : cX4_appendInput.data.toList.drop 46 = dktX4_appendInput_2 := dk_seg dksX4_appendInput_1 24 rfl rfl
theorem dX4_appendInput_0 : decode cX4_appendInput 0 = .ok (.aload_n 0, 1) := dk_42 (dk_at dksX4_appendInput_0 0 rfl rfl)
theorem dX4_appendInput_1 : decode cX4_appendInput 1 = .ok (.iload_n 1, 1) := dk_27 (dk_at dksX4_appendInput_0 1 rfl rfl)
theorem dX4_appendInput_2 : decode cX4_appendInput 2 = .ok (.bipush 32, 2) := dk_16 32 (dk_at dksX4_appendInput_0 2 rfl rfl)
theorem dX4_appendInput_4 : decode cX4_appendInput 4 = .ok (.bipush 126, 2) := dk_16 126 (dk_at dksX4_appendInput_0 4 rfl rfl)
theorem dX4_appendInput_6 : decode cX4_appendInput 6 = .ok (.invokestatic 53, 3) := dk_184 0 53 (dk_at dksX4_appendInput_0 6 rfl rfl)
theorem dX4_appendInput_9 : decode cX4_appendInput 9 = .ok (.ifCond .ne 7, 3) := dk_154 0 7 (dk_at dksX4_appendInput_0 9 rfl rfl)
theorem dX4_appendInput_12 : decode cX4_appendInput 12 = .ok (.iconst 1, 1) := dk_4 (dk_at dksX4_appendInput_0 12 rfl rfl)
theorem dX4_appendInput_13 : decode cX4_appendInput 13 = .ok (.goto 17, 3) := dk_167 0 17 (dk_at dksX4_appendInput_0 13 rfl rfl)
theorem dX4_appendInput_16 : decode cX4_appendInput 16 = .ok (.aload_n 0, 1) := dk_42 (dk_at dksX4_appendInput_0 16 rfl rfl)
theorem dX4_appendInput_17 : decode cX4_appendInput 17 = .ok (.getfield 200, 3) := dk_180 0 200 (dk_at dksX4_appendInput_0 17 rfl rfl)
theorem dX4_appendInput_20 : decode cX4_appendInput 20 = .ok (.bipush 60, 2) := dk_16 60 (dk_at dksX4_appendInput_0 20 rfl rfl)
theorem dX4_appendInput_22 : decode cX4_appendInput 22 = .ok (.if_icmp .ne 7, 3) := dk_160 0 7 (dk_at dksX4_appendInput_1 0 rfl rfl)
theorem dX4_appendInput_25 : decode cX4_appendInput 25 = .ok (.iconst 2, 1) := dk_5 (dk_at dksX4_appendInput_1 3 rfl rfl)
theorem dX4_appendInput_26 : decode cX4_appendInput 26 = .ok (.goto 4, 3) := dk_167 0 4 (dk_at dksX4_appendInput_1 4 rfl rfl)
theorem dX4_appendInput_29 : decode cX4_appendInput 29 = .ok (.iconst 0, 1) := dk_3 (dk_at dksX4_appendInput_1 7 rfl rfl)
theorem dX4_appendInput_30 : decode cX4_appendInput 30 = .ok (.putfield 27, 3) := dk_181 0 27 (dk_at dksX4_appendInput_1 8 rfl rfl)
theorem dX4_appendInput_33 : decode cX4_appendInput 33 = .ok (.aload_n 0, 1) := dk_42 (dk_at dksX4_appendInput_1 11 rfl rfl)
theorem dX4_appendInput_34 : decode cX4_appendInput 34 = .ok (.getfield 27, 3) := dk_180 0 27 (dk_at dksX4_appendInput_1 12 rfl rfl)
theorem dX4_appendInput_37 : decode cX4_appendInput 37 = .ok (.ifCond .eq 5, 3) := dk_153 0 5 (dk_at dksX4_appendInput_1 15 rfl rfl)
theorem dX4_appendInput_40 : decode cX4_appendInput 40 = .ok (.iconst 0, 1) := dk_3 (dk_at dksX4_appendInput_1 18 rfl rfl)
theorem dX4_appendInput_41 : decode cX4_appendInput 41 = .ok (.ireturn, 1) := dk_172 (dk_at dksX4_appendInput_1 19 rfl rfl)
theorem dX4_appendInput_42 : decode cX4_appendInput 42 = .ok (.aload_n 0, 1) := dk_42 (dk_at dksX4_appendInput_1 20 rfl rfl)
theorem dX4_appendInput_43 : decode cX4_appendInput 43 = .ok (.getfield 17, 3) := dk_180 0 17 (dk_at dksX4_appendInput_1 21 rfl rfl)
theorem dX4_appendInput_46 : decode cX4_appendInput 46 = .ok (.aload_n 0, 1) := dk_42 (dk_at dksX4_appendInput_2 0 rfl rfl)
theorem dX4_appendInput_47 : decode cX4_appendInput 47 = .ok (.getfield 200, 3) := dk_180 0 200 (dk_at dksX4_appendInput_2 1 rfl rfl)
theorem dX4_appendInput_50 : decode cX4_appendInput 50 = .ok (.iload_n 1, 1) := dk_27 (dk_at dksX4_appendInput_2 4 rfl rfl)
theorem dX4_appendInput_51 : decode cX4_appendInput 51 = .ok (.castore, 1) := dk_85 (dk_at dksX4_appendInput_2 5 rfl rfl)
theorem dX4_appendInput_52 : decode cX4_appendInput 52 = .ok (.aload_n 0, 1) := dk_42 (dk_at dksX4_appendInput_2 6 rfl rfl)
theorem dX4_appendInput_53 : decode cX4_appendInput 53 = .ok (.dup, 1) := dk_89 (dk_at dksX4_appendInput_2 7 rfl rfl)
theorem dX4_appendInput_54 : decode cX4_appendInput 54 = .ok (.getfield 200, 3) := dk_180 0 200 (dk_at dksX4_appendInput_2 8 rfl rfl)
theorem dX4_appendInput_57 : decode cX4_appendInput 57 = .ok (.iconst 1, 1) := dk_4 (dk_at dksX4_appendInput_2 11 rfl rfl)
theorem dX4_appendInput_58 : decode cX4_appendInput 58 = .ok (.iadd, 1) := dk_96 (dk_at dksX4_appendInput_2 12 rfl rfl)
theorem dX4_appendInput_59 : decode cX4_appendInput 59 = .ok (.putfield 200, 3) := dk_181 0 200 (dk_at dksX4_appendInput_2 13 rfl rfl)
theorem dX4_appendInput_62 : decode cX4_appendInput 62 = .ok (.aload_n 0, 1) := dk_42 (dk_at dksX4_appendInput_2 16 rfl rfl)
theorem dX4_appendInput_63 : decode cX4_appendInput 63 = .ok (.getfield 200, 3) := dk_180 0 200 (dk_at dksX4_appendInput_2 17 rfl rfl)
theorem dX4_appendInput_66 : decode cX4_appendInput 66 = .ok (.ireturn, 1) := dk_172 (dk_at dksX4_appendInput_2 20 rfl rfl)
abbrev cX4_execute : ByteArray := prog_20_method_114_code
def yX4_execute : MethodName := ⟨RX4, "execute", "()I"⟩
def dkwX4_execute_4 : List UInt8 := [181, 0, 37, 42, 27, 5, 5, 6, 182, 0, 99, 172]
abbrev dktX4_execute_4 : List UInt8 := dkwX4_execute_4 ++ []
def dkwX4_execute_3 : List UInt8 := [180, 0, 40, 181, 0, 46, 42, 16, 10, 181, 0, 40, 42, 28, 4, 100, 181, 0, 43, 42, 42, 180, 0, 218]
abbrev dktX4_execute_3 : List UInt8 := dkwX4_execute_3 ++ dktX4_execute_4
def dkwX4_execute_2 : List UInt8 := [154, 0, 17, 42, 7, 28, 104, 182, 0, 236, 60, 132, 2, 1, 167, 255, 233, 27, 6, 160, 0, 24, 42, 42]
abbrev dktX4_execute_2 : List UInt8 := dkwX4_execute_2 ++ dktX4_execute_3
def dkwX4_execute_1 : List UInt8 := [42, 4, 181, 0, 27, 3, 172, 42, 182, 0, 92, 3, 60, 3, 61, 28, 42, 180, 0, 218, 162, 0, 21, 27]
abbrev dktX4_execute_1 : List UInt8 := dkwX4_execute_1 ++ dktX4_execute_2
def dkwX4_execute_0 : List UInt8 := [42, 182, 0, 233, 42, 3, 181, 0, 200, 42, 180, 0, 206, 155, 0, 18, 42, 42, 180, 0, 206, 181, 0, 20]
abbrev dktX4_execute_0 : List UInt8 := dkwX4_execute_0 ++ dktX4_execute_1
theorem dksX4_execute_0 : cX4_execute.data.toList.drop 0 = dktX4_execute_0 := by decide +kernel
theorem dksX4_execute_1 : cX4_execute.data.toList.drop 24 = dktX4_execute_1 := dk_seg dksX4_execute_0 24 rfl rfl
theorem dksX4_execute_2 : cX4_execute.data.toList.drop 48 = dktX4_execute_2 := dk_seg dksX4_execute_1 24 rfl rfl
theorem dksX4_execute_3 : cX4_execute.data.toList.drop 72 = dktX4_execute_3 := dk_seg dksX4_execute_2 24 rfl rfl
theorem dksX4_execute_4 : cX4_execute.data.toList.drop 96 = dktX4_execute_4 := dk_seg dksX4_execute_3 24 rfl rfl
theorem dX4_execute_0 : decode cX4_execute 0 = .ok (.aload_n 0, 1) := dk_42 (dk_at dksX4_execute_0 0 rfl rfl)
theorem dX4_execute_1 : decode cX4_execute 1 = .ok (.invokevirtual 233, 3) := dk_182 0 233 (dk_at dksX4_execute_0 1 rfl rfl)
theorem dX4_execute_4 : decode cX4_execute 4 = .ok (.aload_n 0, 1) := dk_42 (dk_at dksX4_execute_0 4 rfl rfl)
theorem dX4_execute_5 : decode cX4_execute 5 = .ok (.iconst 0, 1) := dk_3 (dk_at dksX4_execute_0 5 rfl rfl)
theorem dX4_execute_6 : decode cX4_execute 6 = .ok (.putfield 200, 3) := dk_181 0 200 (dk_at dksX4_execute_0 6 rfl rfl)
theorem dX4_execute_9 : decode cX4_execute 9 = .ok (.aload_n 0, 1) := dk_42 (dk_at dksX4_execute_0 9 rfl rfl)
theorem dX4_execute_10 : decode cX4_execute 10 = .ok (.getfield 206, 3) := dk_180 0 206 (dk_at dksX4_execute_0 10 rfl rfl)
theorem dX4_execute_13 : decode cX4_execute 13 = .ok (.ifCond .lt 18, 3) := dk_155 0 18 (dk_at dksX4_execute_0 13 rfl rfl)
theorem dX4_execute_16 : decode cX4_execute 16 = .ok (.aload_n 0, 1) := dk_42 (dk_at dksX4_execute_0 16 rfl rfl)
theorem dX4_execute_17 : decode cX4_execute 17 = .ok (.aload_n 0, 1) := dk_42 (dk_at dksX4_execute_0 17 rfl rfl)
theorem dX4_execute_18 : decode cX4_execute 18 = .ok (.getfield 206, 3) := dk_180 0 206 (dk_at dksX4_execute_0 18 rfl rfl)
theorem dX4_execute_21 : decode cX4_execute 21 = .ok (.putfield 20, 3) := dk_181 0 20 (dk_at dksX4_execute_0 21 rfl rfl)
theorem dX4_execute_24 : decode cX4_execute 24 = .ok (.aload_n 0, 1) := dk_42 (dk_at dksX4_execute_1 0 rfl rfl)
theorem dX4_execute_25 : decode cX4_execute 25 = .ok (.iconst 1, 1) := dk_4 (dk_at dksX4_execute_1 1 rfl rfl)
theorem dX4_execute_26 : decode cX4_execute 26 = .ok (.putfield 27, 3) := dk_181 0 27 (dk_at dksX4_execute_1 2 rfl rfl)
theorem dX4_execute_29 : decode cX4_execute 29 = .ok (.iconst 0, 1) := dk_3 (dk_at dksX4_execute_1 5 rfl rfl)
theorem dX4_execute_30 : decode cX4_execute 30 = .ok (.ireturn, 1) := dk_172 (dk_at dksX4_execute_1 6 rfl rfl)
theorem dX4_execute_31 : decode cX4_execute 31 = .ok (.aload_n 0, 1) := dk_42 (dk_at dksX4_execute_1 7 rfl rfl)
theorem dX4_execute_32 : decode cX4_execute 32 = .ok (.invokevirtual 92, 3) := dk_182 0 92 (dk_at dksX4_execute_1 8 rfl rfl)
theorem dX4_execute_35 : decode cX4_execute 35 = .ok (.iconst 0, 1) := dk_3 (dk_at dksX4_execute_1 11 rfl rfl)
theorem dX4_execute_36 : decode cX4_execute 36 = .ok (.istore_n 1, 1) := dk_60 (dk_at dksX4_execute_1 12 rfl rfl)
theorem dX4_execute_37 : decode cX4_execute 37 = .ok (.iconst 0, 1) := dk_3 (dk_at dksX4_execute_1 13 rfl rfl)
theorem dX4_execute_38 : decode cX4_execute 38 = .ok (.istore_n 2, 1) := dk_61 (dk_at dksX4_execute_1 14 rfl rfl)
theorem dX4_execute_39 : decode cX4_execute 39 = .ok (.iload_n 2, 1) := dk_28 (dk_at dksX4_execute_1 15 rfl rfl)
theorem dX4_execute_40 : decode cX4_execute 40 = .ok (.aload_n 0, 1) := dk_42 (dk_at dksX4_execute_1 16 rfl rfl)
theorem dX4_execute_41 : decode cX4_execute 41 = .ok (.getfield 218, 3) := dk_180 0 218 (dk_at dksX4_execute_1 17 rfl rfl)
theorem dX4_execute_44 : decode cX4_execute 44 = .ok (.if_icmp .ge 21, 3) := dk_162 0 21 (dk_at dksX4_execute_1 20 rfl rfl)
theorem dX4_execute_47 : decode cX4_execute 47 = .ok (.iload_n 1, 1) := dk_27 (dk_at dksX4_execute_1 23 rfl rfl)
theorem dX4_execute_48 : decode cX4_execute 48 = .ok (.ifCond .ne 17, 3) := dk_154 0 17 (dk_at dksX4_execute_2 0 rfl rfl)
theorem dX4_execute_51 : decode cX4_execute 51 = .ok (.aload_n 0, 1) := dk_42 (dk_at dksX4_execute_2 3 rfl rfl)
theorem dX4_execute_52 : decode cX4_execute 52 = .ok (.iconst 4, 1) := dk_7 (dk_at dksX4_execute_2 4 rfl rfl)
theorem dX4_execute_53 : decode cX4_execute 53 = .ok (.iload_n 2, 1) := dk_28 (dk_at dksX4_execute_2 5 rfl rfl)
theorem dX4_execute_54 : decode cX4_execute 54 = .ok (.imul, 1) := dk_104 (dk_at dksX4_execute_2 6 rfl rfl)
theorem dX4_execute_55 : decode cX4_execute 55 = .ok (.invokevirtual 236, 3) := dk_182 0 236 (dk_at dksX4_execute_2 7 rfl rfl)
theorem dX4_execute_58 : decode cX4_execute 58 = .ok (.istore_n 1, 1) := dk_60 (dk_at dksX4_execute_2 10 rfl rfl)
theorem dX4_execute_59 : decode cX4_execute 59 = .ok (.iinc 2 1, 3) := dk_132 2 1 (dk_at dksX4_execute_2 11 rfl rfl)
theorem dX4_execute_62 : decode cX4_execute 62 = .ok (.goto (-23), 3) := dk_167 255 233 (dk_at dksX4_execute_2 14 rfl rfl)
theorem dX4_execute_65 : decode cX4_execute 65 = .ok (.iload_n 1, 1) := dk_27 (dk_at dksX4_execute_2 17 rfl rfl)
theorem dX4_execute_66 : decode cX4_execute 66 = .ok (.iconst 3, 1) := dk_6 (dk_at dksX4_execute_2 18 rfl rfl)
theorem dX4_execute_67 : decode cX4_execute 67 = .ok (.if_icmp .ne 24, 3) := dk_160 0 24 (dk_at dksX4_execute_2 19 rfl rfl)
theorem dX4_execute_70 : decode cX4_execute 70 = .ok (.aload_n 0, 1) := dk_42 (dk_at dksX4_execute_2 22 rfl rfl)
theorem dX4_execute_71 : decode cX4_execute 71 = .ok (.aload_n 0, 1) := dk_42 (dk_at dksX4_execute_2 23 rfl rfl)
theorem dX4_execute_72 : decode cX4_execute 72 = .ok (.getfield 40, 3) := dk_180 0 40 (dk_at dksX4_execute_3 0 rfl rfl)
theorem dX4_execute_75 : decode cX4_execute 75 = .ok (.putfield 46, 3) := dk_181 0 46 (dk_at dksX4_execute_3 3 rfl rfl)
theorem dX4_execute_78 : decode cX4_execute 78 = .ok (.aload_n 0, 1) := dk_42 (dk_at dksX4_execute_3 6 rfl rfl)
theorem dX4_execute_79 : decode cX4_execute 79 = .ok (.bipush 10, 2) := dk_16 10 (dk_at dksX4_execute_3 7 rfl rfl)
theorem dX4_execute_81 : decode cX4_execute 81 = .ok (.putfield 40, 3) := dk_181 0 40 (dk_at dksX4_execute_3 9 rfl rfl)
theorem dX4_execute_84 : decode cX4_execute 84 = .ok (.aload_n 0, 1) := dk_42 (dk_at dksX4_execute_3 12 rfl rfl)
theorem dX4_execute_85 : decode cX4_execute 85 = .ok (.iload_n 2, 1) := dk_28 (dk_at dksX4_execute_3 13 rfl rfl)
theorem dX4_execute_86 : decode cX4_execute 86 = .ok (.iconst 1, 1) := dk_4 (dk_at dksX4_execute_3 14 rfl rfl)
theorem dX4_execute_87 : decode cX4_execute 87 = .ok (.isub, 1) := dk_100 (dk_at dksX4_execute_3 15 rfl rfl)
theorem dX4_execute_88 : decode cX4_execute 88 = .ok (.putfield 43, 3) := dk_181 0 43 (dk_at dksX4_execute_3 16 rfl rfl)
theorem dX4_execute_91 : decode cX4_execute 91 = .ok (.aload_n 0, 1) := dk_42 (dk_at dksX4_execute_3 19 rfl rfl)
theorem dX4_execute_92 : decode cX4_execute 92 = .ok (.aload_n 0, 1) := dk_42 (dk_at dksX4_execute_3 20 rfl rfl)
theorem dX4_execute_93 : decode cX4_execute 93 = .ok (.getfield 218, 3) := dk_180 0 218 (dk_at dksX4_execute_3 21 rfl rfl)
theorem dX4_execute_96 : decode cX4_execute 96 = .ok (.putfield 37, 3) := dk_181 0 37 (dk_at dksX4_execute_4 0 rfl rfl)
theorem dX4_execute_99 : decode cX4_execute 99 = .ok (.aload_n 0, 1) := dk_42 (dk_at dksX4_execute_4 3 rfl rfl)
theorem dX4_execute_100 : decode cX4_execute 100 = .ok (.iload_n 1, 1) := dk_27 (dk_at dksX4_execute_4 4 rfl rfl)
theorem dX4_execute_101 : decode cX4_execute 101 = .ok (.iconst 2, 1) := dk_5 (dk_at dksX4_execute_4 5 rfl rfl)
theorem dX4_execute_102 : decode cX4_execute 102 = .ok (.iconst 2, 1) := dk_5 (dk_at dksX4_execute_4 6 rfl rfl)
theorem dX4_execute_103 : decode cX4_execute 103 = .ok (.iconst 3, 1) := dk_6 (dk_at dksX4_execute_4 7 rfl rfl)
theorem dX4_execute_104 : decode cX4_execute 104 = .ok (.invokevirtual 99, 3) := dk_182 0 99 (dk_at dksX4_execute_4 8 rfl rfl)
theorem dX4_execute_107 : decode cX4_execute 107 = .ok (.ireturn, 1) := dk_172 (dk_at dksX4_execute_4 11 rfl rfl)
abbrev cX4_parse : ByteArray := prog_20_method_112_code
def yX4_parse : MethodName := ⟨RX4, "parse", "()V"⟩
def dkwX4_parse_3 : List UInt8 := [42, 42, 180, 0, 203, 181, 0, 206, 177]
abbrev dktX4_parse_3 : List UInt8 := dkwX4_parse_3 ++ []
def dkwX4_parse_2 : List UInt8 := [182, 0, 230, 167, 255, 226, 42, 180, 0, 206, 156, 0, 22, 42, 180, 0, 203, 42, 180, 0, 200, 162, 0, 11]
abbrev dktX4_parse_2 : List UInt8 := dkwX4_parse_2 ++ dktX4_parse_3
def dkwX4_parse_1 : List UInt8 := [156, 0, 29, 42, 182, 0, 209, 16, 59, 160, 0, 20, 42, 89, 180, 0, 203, 4, 96, 181, 0, 203, 42]
abbrev dktX4_parse_1 : List UInt8 := dkwX4_parse_1 ++ dktX4_parse_2
def dkwX4_parse_0 : List UInt8 := [42, 3, 181, 0, 203, 42, 2, 181, 0, 206, 42, 3, 181, 0, 218, 42, 182, 0, 230, 42, 180, 0, 206]
abbrev dktX4_parse_0 : List UInt8 := dkwX4_parse_0 ++ dktX4_parse_1
theorem dksX4_parse_0 : cX4_parse.data.toList.drop 0 = dktX4_parse_0 := by decide +kernel
theorem dksX4_parse_1 : cX4_parse.data.toList.drop 23 = dktX4_parse_1 := dk_seg dksX4_parse_0 23 rfl rfl
theorem dksX4_parse_2 : cX4_parse.data.toList.drop 46 = dktX4_parse_2 := dk_seg dksX4_parse_1 23 rfl rfl
theorem dksX4_parse_3 : cX4_parse.data.toList.drop 70 = dktX4_parse_3 := dk_seg dksX4_parse_2 24 rfl rfl
theorem dX4_parse_0 : decode cX4_parse 0 = .ok (.aload_n 0, 1) := dk_42 (dk_at dksX4_parse_0 0 rfl rfl)
theorem dX4_parse_1 : decode cX4_parse 1 = .ok (.iconst 0, 1) := dk_3 (dk_at dksX4_parse_0 1 rfl rfl)
theorem dX4_parse_2 : decode cX4_parse 2 = .ok (.putfield 203, 3) := dk_181 0 203 (dk_at dksX4_parse_0 2 rfl rfl)
theorem dX4_parse_5 : decode cX4_parse 5 = .ok (.aload_n 0, 1) := dk_42 (dk_at dksX4_parse_0 5 rfl rfl)
theorem dX4_parse_6 : decode cX4_parse 6 = .ok (.iconst (-1), 1) := dk_2 (dk_at dksX4_parse_0 6 rfl rfl)
theorem dX4_parse_7 : decode cX4_parse 7 = .ok (.putfield 206, 3) := dk_181 0 206 (dk_at dksX4_parse_0 7 rfl rfl)
theorem dX4_parse_10 : decode cX4_parse 10 = .ok (.aload_n 0, 1) := dk_42 (dk_at dksX4_parse_0 10 rfl rfl)
theorem dX4_parse_11 : decode cX4_parse 11 = .ok (.iconst 0, 1) := dk_3 (dk_at dksX4_parse_0 11 rfl rfl)
theorem dX4_parse_12 : decode cX4_parse 12 = .ok (.putfield 218, 3) := dk_181 0 218 (dk_at dksX4_parse_0 12 rfl rfl)
theorem dX4_parse_15 : decode cX4_parse 15 = .ok (.aload_n 0, 1) := dk_42 (dk_at dksX4_parse_0 15 rfl rfl)
theorem dX4_parse_16 : decode cX4_parse 16 = .ok (.invokevirtual 230, 3) := dk_182 0 230 (dk_at dksX4_parse_0 16 rfl rfl)
theorem dX4_parse_19 : decode cX4_parse 19 = .ok (.aload_n 0, 1) := dk_42 (dk_at dksX4_parse_0 19 rfl rfl)
theorem dX4_parse_20 : decode cX4_parse 20 = .ok (.getfield 206, 3) := dk_180 0 206 (dk_at dksX4_parse_0 20 rfl rfl)
theorem dX4_parse_23 : decode cX4_parse 23 = .ok (.ifCond .ge 29, 3) := dk_156 0 29 (dk_at dksX4_parse_1 0 rfl rfl)
theorem dX4_parse_26 : decode cX4_parse 26 = .ok (.aload_n 0, 1) := dk_42 (dk_at dksX4_parse_1 3 rfl rfl)
theorem dX4_parse_27 : decode cX4_parse 27 = .ok (.invokevirtual 209, 3) := dk_182 0 209 (dk_at dksX4_parse_1 4 rfl rfl)
theorem dX4_parse_30 : decode cX4_parse 30 = .ok (.bipush 59, 2) := dk_16 59 (dk_at dksX4_parse_1 7 rfl rfl)
theorem dX4_parse_32 : decode cX4_parse 32 = .ok (.if_icmp .ne 20, 3) := dk_160 0 20 (dk_at dksX4_parse_1 9 rfl rfl)
theorem dX4_parse_35 : decode cX4_parse 35 = .ok (.aload_n 0, 1) := dk_42 (dk_at dksX4_parse_1 12 rfl rfl)
theorem dX4_parse_36 : decode cX4_parse 36 = .ok (.dup, 1) := dk_89 (dk_at dksX4_parse_1 13 rfl rfl)
theorem dX4_parse_37 : decode cX4_parse 37 = .ok (.getfield 203, 3) := dk_180 0 203 (dk_at dksX4_parse_1 14 rfl rfl)
theorem dX4_parse_40 : decode cX4_parse 40 = .ok (.iconst 1, 1) := dk_4 (dk_at dksX4_parse_1 17 rfl rfl)
theorem dX4_parse_41 : decode cX4_parse 41 = .ok (.iadd, 1) := dk_96 (dk_at dksX4_parse_1 18 rfl rfl)
theorem dX4_parse_42 : decode cX4_parse 42 = .ok (.putfield 203, 3) := dk_181 0 203 (dk_at dksX4_parse_1 19 rfl rfl)
theorem dX4_parse_45 : decode cX4_parse 45 = .ok (.aload_n 0, 1) := dk_42 (dk_at dksX4_parse_1 22 rfl rfl)
theorem dX4_parse_46 : decode cX4_parse 46 = .ok (.invokevirtual 230, 3) := dk_182 0 230 (dk_at dksX4_parse_2 0 rfl rfl)
theorem dX4_parse_49 : decode cX4_parse 49 = .ok (.goto (-30), 3) := dk_167 255 226 (dk_at dksX4_parse_2 3 rfl rfl)
theorem dX4_parse_52 : decode cX4_parse 52 = .ok (.aload_n 0, 1) := dk_42 (dk_at dksX4_parse_2 6 rfl rfl)
theorem dX4_parse_53 : decode cX4_parse 53 = .ok (.getfield 206, 3) := dk_180 0 206 (dk_at dksX4_parse_2 7 rfl rfl)
theorem dX4_parse_56 : decode cX4_parse 56 = .ok (.ifCond .ge 22, 3) := dk_156 0 22 (dk_at dksX4_parse_2 10 rfl rfl)
theorem dX4_parse_59 : decode cX4_parse 59 = .ok (.aload_n 0, 1) := dk_42 (dk_at dksX4_parse_2 13 rfl rfl)
theorem dX4_parse_60 : decode cX4_parse 60 = .ok (.getfield 203, 3) := dk_180 0 203 (dk_at dksX4_parse_2 14 rfl rfl)
theorem dX4_parse_63 : decode cX4_parse 63 = .ok (.aload_n 0, 1) := dk_42 (dk_at dksX4_parse_2 17 rfl rfl)
theorem dX4_parse_64 : decode cX4_parse 64 = .ok (.getfield 200, 3) := dk_180 0 200 (dk_at dksX4_parse_2 18 rfl rfl)
theorem dX4_parse_67 : decode cX4_parse 67 = .ok (.if_icmp .ge 11, 3) := dk_162 0 11 (dk_at dksX4_parse_2 21 rfl rfl)
theorem dX4_parse_70 : decode cX4_parse 70 = .ok (.aload_n 0, 1) := dk_42 (dk_at dksX4_parse_3 0 rfl rfl)
theorem dX4_parse_71 : decode cX4_parse 71 = .ok (.aload_n 0, 1) := dk_42 (dk_at dksX4_parse_3 1 rfl rfl)
theorem dX4_parse_72 : decode cX4_parse 72 = .ok (.getfield 203, 3) := dk_180 0 203 (dk_at dksX4_parse_3 2 rfl rfl)
theorem dX4_parse_75 : decode cX4_parse 75 = .ok (.putfield 206, 3) := dk_181 0 206 (dk_at dksX4_parse_3 5 rfl rfl)
theorem dX4_parse_78 : decode cX4_parse 78 = .ok (.return_, 1) := dk_177 (dk_at dksX4_parse_3 8 rfl rfl)
abbrev cX4_command : ByteArray := prog_20_method_111_code
def yX4_command : MethodName := ⟨RX4, "command", "()V"⟩
def dkwX4_command_11 : List UInt8 := [180, 0, 24, 27, 4, 96, 42, 6, 182, 0, 215, 79, 177]
abbrev dktX4_command_11 : List UInt8 := dkwX4_command_11 ++ []
def dkwX4_command_10 : List UInt8 := [182, 0, 227, 79, 42, 180, 0, 24, 27, 6, 96, 42, 16, 42, 182, 0, 227, 79, 167, 0, 16, 42]
abbrev dktX4_command_10 : List UInt8 := dkwX4_command_10 ++ dktX4_command_11
def dkwX4_command_9 : List UInt8 := [180, 0, 24, 27, 4, 96, 42, 6, 182, 0, 215, 79, 42, 180, 0, 24, 27, 5, 96, 42, 16, 58]
abbrev dktX4_command_9 : List UInt8 := dkwX4_command_9 ++ dktX4_command_10
def dkwX4_command_8 : List UInt8 := [182, 0, 215, 79, 42, 180, 0, 24, 27, 5, 96, 42, 16, 58, 182, 0, 227, 79, 167, 0, 60, 42]
abbrev dktX4_command_8 : List UInt8 := dkwX4_command_8 ++ dktX4_command_9
def dkwX4_command_7 : List UInt8 := [180, 0, 24, 27, 5, 96, 42, 6, 182, 0, 215, 79, 167, 0, 90, 42, 180, 0, 24, 27, 4, 96, 42, 6]
abbrev dktX4_command_7 : List UInt8 := dkwX4_command_7 ++ dktX4_command_8
def dkwX4_command_6 : List UInt8 := [132, 3, 1, 167, 255, 235, 167, 0, 118, 42, 180, 0, 24, 27, 4, 96, 42, 182, 0, 224, 79, 42]
abbrev dktX4_command_6 : List UInt8 := dkwX4_command_6 ++ dktX4_command_7
def dkwX4_command_5 : List UInt8 := [167, 0, 147, 4, 62, 29, 7, 162, 0, 22, 42, 180, 0, 24, 27, 29, 96, 42, 4, 182, 0, 215, 79]
abbrev dktX4_command_5 : List UInt8 := dkwX4_command_5 ++ dktX4_command_6
def dkwX4_command_4 : List UInt8 := [170, 0, 0, 0, 0, 240, 0, 0, 0, 97, 0, 0, 0, 119, 0, 0, 0, 109, 0, 0, 0, 196, 0, 0, 0, 166, 0, 0, 0, 106, 0, 0, 0, 240, 0, 0, 0, 240, 0, 0, 0, 240, 0, 0, 0, 240, 0, 0, 0, 240, 0, 0, 0, 240, 0, 0, 0, 240, 0, 0, 0, 240, 0, 0, 0, 240, 0, 0, 0, 240, 0, 0, 0, 240, 0, 0, 0, 240, 0, 0, 0, 240, 0, 0, 0, 240, 0, 0, 0, 166, 0, 0, 0, 240, 0, 0, 0, 240, 0, 0, 0, 106, 0, 0, 0, 138]
abbrev dktX4_command_4 : List UInt8 := dkwX4_command_4 ++ dktX4_command_5
def dkwX4_command_3 : List UInt8 := [180, 0, 24, 27, 28, 79, 28]
abbrev dktX4_command_3 : List UInt8 := dkwX4_command_3 ++ dktX4_command_4
def dkwX4_command_2 : List UInt8 := [154, 0, 12, 42, 42, 180, 0, 203, 181, 0, 206, 177, 42, 89, 180, 0, 203, 4, 96, 181, 0, 203, 42]
abbrev dktX4_command_2 : List UInt8 := dkwX4_command_2 ++ dktX4_command_3
def dkwX4_command_1 : List UInt8 := [29, 7, 162, 0, 18, 42, 180, 0, 24, 27, 29, 96, 3, 79, 132, 3, 1, 167, 255, 239, 28, 184, 0, 221]
abbrev dktX4_command_1 : List UInt8 := dkwX4_command_1 ++ dktX4_command_2
def dkwX4_command_0 : List UInt8 := [7, 42, 180, 0, 218, 104, 60, 42, 89, 180, 0, 218, 4, 96, 181, 0, 218, 42, 182, 0, 209, 61, 3, 62]
abbrev dktX4_command_0 : List UInt8 := dkwX4_command_0 ++ dktX4_command_1
theorem dksX4_command_0 : cX4_command.data.toList.drop 0 = dktX4_command_0 := by decide +kernel
theorem dksX4_command_1 : cX4_command.data.toList.drop 24 = dktX4_command_1 := dk_seg dksX4_command_0 24 rfl rfl
theorem dksX4_command_2 : cX4_command.data.toList.drop 48 = dktX4_command_2 := dk_seg dksX4_command_1 24 rfl rfl
theorem dksX4_command_3 : cX4_command.data.toList.drop 71 = dktX4_command_3 := dk_seg dksX4_command_2 23 rfl rfl
theorem dksX4_command_4 : cX4_command.data.toList.drop 78 = dktX4_command_4 := dk_seg dksX4_command_3 7 rfl rfl
theorem dksX4_command_5 : cX4_command.data.toList.drop 184 = dktX4_command_5 := dk_seg dksX4_command_4 106 rfl rfl
theorem dksX4_command_6 : cX4_command.data.toList.drop 207 = dktX4_command_6 := dk_seg dksX4_command_5 23 rfl rfl
theorem dksX4_command_7 : cX4_command.data.toList.drop 229 = dktX4_command_7 := dk_seg dksX4_command_6 22 rfl rfl
theorem dksX4_command_8 : cX4_command.data.toList.drop 253 = dktX4_command_8 := dk_seg dksX4_command_7 24 rfl rfl
theorem dksX4_command_9 : cX4_command.data.toList.drop 275 = dktX4_command_9 := dk_seg dksX4_command_8 22 rfl rfl
theorem dksX4_command_10 : cX4_command.data.toList.drop 297 = dktX4_command_10 := dk_seg dksX4_command_9 22 rfl rfl
theorem dksX4_command_11 : cX4_command.data.toList.drop 319 = dktX4_command_11 := dk_seg dksX4_command_10 22 rfl rfl
theorem dX4_command_0 : decode cX4_command 0 = .ok (.iconst 4, 1) := dk_7 (dk_at dksX4_command_0 0 rfl rfl)
theorem dX4_command_1 : decode cX4_command 1 = .ok (.aload_n 0, 1) := dk_42 (dk_at dksX4_command_0 1 rfl rfl)
theorem dX4_command_2 : decode cX4_command 2 = .ok (.getfield 218, 3) := dk_180 0 218 (dk_at dksX4_command_0 2 rfl rfl)
theorem dX4_command_5 : decode cX4_command 5 = .ok (.imul, 1) := dk_104 (dk_at dksX4_command_0 5 rfl rfl)
theorem dX4_command_6 : decode cX4_command 6 = .ok (.istore_n 1, 1) := dk_60 (dk_at dksX4_command_0 6 rfl rfl)
theorem dX4_command_7 : decode cX4_command 7 = .ok (.aload_n 0, 1) := dk_42 (dk_at dksX4_command_0 7 rfl rfl)
theorem dX4_command_8 : decode cX4_command 8 = .ok (.dup, 1) := dk_89 (dk_at dksX4_command_0 8 rfl rfl)
theorem dX4_command_9 : decode cX4_command 9 = .ok (.getfield 218, 3) := dk_180 0 218 (dk_at dksX4_command_0 9 rfl rfl)
theorem dX4_command_12 : decode cX4_command 12 = .ok (.iconst 1, 1) := dk_4 (dk_at dksX4_command_0 12 rfl rfl)
theorem dX4_command_13 : decode cX4_command 13 = .ok (.iadd, 1) := dk_96 (dk_at dksX4_command_0 13 rfl rfl)
theorem dX4_command_14 : decode cX4_command 14 = .ok (.putfield 218, 3) := dk_181 0 218 (dk_at dksX4_command_0 14 rfl rfl)
theorem dX4_command_17 : decode cX4_command 17 = .ok (.aload_n 0, 1) := dk_42 (dk_at dksX4_command_0 17 rfl rfl)
theorem dX4_command_18 : decode cX4_command 18 = .ok (.invokevirtual 209, 3) := dk_182 0 209 (dk_at dksX4_command_0 18 rfl rfl)
theorem dX4_command_21 : decode cX4_command 21 = .ok (.istore_n 2, 1) := dk_61 (dk_at dksX4_command_0 21 rfl rfl)
theorem dX4_command_22 : decode cX4_command 22 = .ok (.iconst 0, 1) := dk_3 (dk_at dksX4_command_0 22 rfl rfl)
theorem dX4_command_23 : decode cX4_command 23 = .ok (.istore_n 3, 1) := dk_62 (dk_at dksX4_command_0 23 rfl rfl)
theorem dX4_command_24 : decode cX4_command 24 = .ok (.iload_n 3, 1) := dk_29 (dk_at dksX4_command_1 0 rfl rfl)
theorem dX4_command_25 : decode cX4_command 25 = .ok (.iconst 4, 1) := dk_7 (dk_at dksX4_command_1 1 rfl rfl)
theorem dX4_command_26 : decode cX4_command 26 = .ok (.if_icmp .ge 18, 3) := dk_162 0 18 (dk_at dksX4_command_1 2 rfl rfl)
theorem dX4_command_29 : decode cX4_command 29 = .ok (.aload_n 0, 1) := dk_42 (dk_at dksX4_command_1 5 rfl rfl)
theorem dX4_command_30 : decode cX4_command 30 = .ok (.getfield 24, 3) := dk_180 0 24 (dk_at dksX4_command_1 6 rfl rfl)
theorem dX4_command_33 : decode cX4_command 33 = .ok (.iload_n 1, 1) := dk_27 (dk_at dksX4_command_1 9 rfl rfl)
theorem dX4_command_34 : decode cX4_command 34 = .ok (.iload_n 3, 1) := dk_29 (dk_at dksX4_command_1 10 rfl rfl)
theorem dX4_command_35 : decode cX4_command 35 = .ok (.iadd, 1) := dk_96 (dk_at dksX4_command_1 11 rfl rfl)
theorem dX4_command_36 : decode cX4_command 36 = .ok (.iconst 0, 1) := dk_3 (dk_at dksX4_command_1 12 rfl rfl)
theorem dX4_command_37 : decode cX4_command 37 = .ok (.iastore, 1) := dk_79 (dk_at dksX4_command_1 13 rfl rfl)
theorem dX4_command_38 : decode cX4_command 38 = .ok (.iinc 3 1, 3) := dk_132 3 1 (dk_at dksX4_command_1 14 rfl rfl)
theorem dX4_command_41 : decode cX4_command 41 = .ok (.goto (-17), 3) := dk_167 255 239 (dk_at dksX4_command_1 17 rfl rfl)
theorem dX4_command_44 : decode cX4_command 44 = .ok (.iload_n 2, 1) := dk_28 (dk_at dksX4_command_1 20 rfl rfl)
theorem dX4_command_45 : decode cX4_command 45 = .ok (.invokestatic 221, 3) := dk_184 0 221 (dk_at dksX4_command_1 21 rfl rfl)
theorem dX4_command_48 : decode cX4_command 48 = .ok (.ifCond .ne 12, 3) := dk_154 0 12 (dk_at dksX4_command_2 0 rfl rfl)
theorem dX4_command_51 : decode cX4_command 51 = .ok (.aload_n 0, 1) := dk_42 (dk_at dksX4_command_2 3 rfl rfl)
theorem dX4_command_52 : decode cX4_command 52 = .ok (.aload_n 0, 1) := dk_42 (dk_at dksX4_command_2 4 rfl rfl)
theorem dX4_command_53 : decode cX4_command 53 = .ok (.getfield 203, 3) := dk_180 0 203 (dk_at dksX4_command_2 5 rfl rfl)
theorem dX4_command_56 : decode cX4_command 56 = .ok (.putfield 206, 3) := dk_181 0 206 (dk_at dksX4_command_2 8 rfl rfl)
theorem dX4_command_59 : decode cX4_command 59 = .ok (.return_, 1) := dk_177 (dk_at dksX4_command_2 11 rfl rfl)
theorem dX4_command_60 : decode cX4_command 60 = .ok (.aload_n 0, 1) := dk_42 (dk_at dksX4_command_2 12 rfl rfl)
theorem dX4_command_61 : decode cX4_command 61 = .ok (.dup, 1) := dk_89 (dk_at dksX4_command_2 13 rfl rfl)
theorem dX4_command_62 : decode cX4_command 62 = .ok (.getfield 203, 3) := dk_180 0 203 (dk_at dksX4_command_2 14 rfl rfl)
theorem dX4_command_65 : decode cX4_command 65 = .ok (.iconst 1, 1) := dk_4 (dk_at dksX4_command_2 17 rfl rfl)
theorem dX4_command_66 : decode cX4_command 66 = .ok (.iadd, 1) := dk_96 (dk_at dksX4_command_2 18 rfl rfl)
theorem dX4_command_67 : decode cX4_command 67 = .ok (.putfield 203, 3) := dk_181 0 203 (dk_at dksX4_command_2 19 rfl rfl)
theorem dX4_command_70 : decode cX4_command 70 = .ok (.aload_n 0, 1) := dk_42 (dk_at dksX4_command_2 22 rfl rfl)
theorem dX4_command_71 : decode cX4_command 71 = .ok (.getfield 24, 3) := dk_180 0 24 (dk_at dksX4_command_3 0 rfl rfl)
theorem dX4_command_74 : decode cX4_command 74 = .ok (.iload_n 1, 1) := dk_27 (dk_at dksX4_command_3 3 rfl rfl)
theorem dX4_command_75 : decode cX4_command 75 = .ok (.iload_n 2, 1) := dk_28 (dk_at dksX4_command_3 4 rfl rfl)
theorem dX4_command_76 : decode cX4_command 76 = .ok (.iastore, 1) := dk_79 (dk_at dksX4_command_3 5 rfl rfl)
theorem dX4_command_77 : decode cX4_command 77 = .ok (.iload_n 2, 1) := dk_28 (dk_at dksX4_command_3 6 rfl rfl)
theorem dX4_command_78 : decode cX4_command 78 = .ok (.tableswitch 240 97 119 #[109, 196, 166, 106, 240, 240, 240, 240, 240, 240, 240, 240, 240, 240, 240, 240, 240, 240, 166, 240, 240, 106, 138], 106) := by decide +kernel
theorem dX4_command_184 : decode cX4_command 184 = .ok (.goto 147, 3) := dk_167 0 147 (dk_at dksX4_command_5 0 rfl rfl)
theorem dX4_command_187 : decode cX4_command 187 = .ok (.iconst 1, 1) := dk_4 (dk_at dksX4_command_5 3 rfl rfl)
theorem dX4_command_188 : decode cX4_command 188 = .ok (.istore_n 3, 1) := dk_62 (dk_at dksX4_command_5 4 rfl rfl)
theorem dX4_command_189 : decode cX4_command 189 = .ok (.iload_n 3, 1) := dk_29 (dk_at dksX4_command_5 5 rfl rfl)
theorem dX4_command_190 : decode cX4_command 190 = .ok (.iconst 4, 1) := dk_7 (dk_at dksX4_command_5 6 rfl rfl)
theorem dX4_command_191 : decode cX4_command 191 = .ok (.if_icmp .ge 22, 3) := dk_162 0 22 (dk_at dksX4_command_5 7 rfl rfl)
theorem dX4_command_194 : decode cX4_command 194 = .ok (.aload_n 0, 1) := dk_42 (dk_at dksX4_command_5 10 rfl rfl)
theorem dX4_command_195 : decode cX4_command 195 = .ok (.getfield 24, 3) := dk_180 0 24 (dk_at dksX4_command_5 11 rfl rfl)
theorem dX4_command_198 : decode cX4_command 198 = .ok (.iload_n 1, 1) := dk_27 (dk_at dksX4_command_5 14 rfl rfl)
theorem dX4_command_199 : decode cX4_command 199 = .ok (.iload_n 3, 1) := dk_29 (dk_at dksX4_command_5 15 rfl rfl)
theorem dX4_command_200 : decode cX4_command 200 = .ok (.iadd, 1) := dk_96 (dk_at dksX4_command_5 16 rfl rfl)
theorem dX4_command_201 : decode cX4_command 201 = .ok (.aload_n 0, 1) := dk_42 (dk_at dksX4_command_5 17 rfl rfl)
theorem dX4_command_202 : decode cX4_command 202 = .ok (.iconst 1, 1) := dk_4 (dk_at dksX4_command_5 18 rfl rfl)
theorem dX4_command_203 : decode cX4_command 203 = .ok (.invokevirtual 215, 3) := dk_182 0 215 (dk_at dksX4_command_5 19 rfl rfl)
theorem dX4_command_206 : decode cX4_command 206 = .ok (.iastore, 1) := dk_79 (dk_at dksX4_command_5 22 rfl rfl)
theorem dX4_command_207 : decode cX4_command 207 = .ok (.iinc 3 1, 3) := dk_132 3 1 (dk_at dksX4_command_6 0 rfl rfl)
theorem dX4_command_210 : decode cX4_command 210 = .ok (.goto (-21), 3) := dk_167 255 235 (dk_at dksX4_command_6 3 rfl rfl)
theorem dX4_command_213 : decode cX4_command 213 = .ok (.goto 118, 3) := dk_167 0 118 (dk_at dksX4_command_6 6 rfl rfl)
theorem dX4_command_216 : decode cX4_command 216 = .ok (.aload_n 0, 1) := dk_42 (dk_at dksX4_command_6 9 rfl rfl)
theorem dX4_command_217 : decode cX4_command 217 = .ok (.getfield 24, 3) := dk_180 0 24 (dk_at dksX4_command_6 10 rfl rfl)
theorem dX4_command_220 : decode cX4_command 220 = .ok (.iload_n 1, 1) := dk_27 (dk_at dksX4_command_6 13 rfl rfl)
theorem dX4_command_221 : decode cX4_command 221 = .ok (.iconst 1, 1) := dk_4 (dk_at dksX4_command_6 14 rfl rfl)
theorem dX4_command_222 : decode cX4_command 222 = .ok (.iadd, 1) := dk_96 (dk_at dksX4_command_6 15 rfl rfl)
theorem dX4_command_223 : decode cX4_command 223 = .ok (.aload_n 0, 1) := dk_42 (dk_at dksX4_command_6 16 rfl rfl)
theorem dX4_command_224 : decode cX4_command 224 = .ok (.invokevirtual 224, 3) := dk_182 0 224 (dk_at dksX4_command_6 17 rfl rfl)
theorem dX4_command_227 : decode cX4_command 227 = .ok (.iastore, 1) := dk_79 (dk_at dksX4_command_6 20 rfl rfl)
theorem dX4_command_228 : decode cX4_command 228 = .ok (.aload_n 0, 1) := dk_42 (dk_at dksX4_command_6 21 rfl rfl)
theorem dX4_command_229 : decode cX4_command 229 = .ok (.getfield 24, 3) := dk_180 0 24 (dk_at dksX4_command_7 0 rfl rfl)
theorem dX4_command_232 : decode cX4_command 232 = .ok (.iload_n 1, 1) := dk_27 (dk_at dksX4_command_7 3 rfl rfl)
theorem dX4_command_233 : decode cX4_command 233 = .ok (.iconst 2, 1) := dk_5 (dk_at dksX4_command_7 4 rfl rfl)
theorem dX4_command_234 : decode cX4_command 234 = .ok (.iadd, 1) := dk_96 (dk_at dksX4_command_7 5 rfl rfl)
theorem dX4_command_235 : decode cX4_command 235 = .ok (.aload_n 0, 1) := dk_42 (dk_at dksX4_command_7 6 rfl rfl)
theorem dX4_command_236 : decode cX4_command 236 = .ok (.iconst 3, 1) := dk_6 (dk_at dksX4_command_7 7 rfl rfl)
theorem dX4_command_237 : decode cX4_command 237 = .ok (.invokevirtual 215, 3) := dk_182 0 215 (dk_at dksX4_command_7 8 rfl rfl)
theorem dX4_command_240 : decode cX4_command 240 = .ok (.iastore, 1) := dk_79 (dk_at dksX4_command_7 11 rfl rfl)
theorem dX4_command_241 : decode cX4_command 241 = .ok (.goto 90, 3) := dk_167 0 90 (dk_at dksX4_command_7 12 rfl rfl)
theorem dX4_command_244 : decode cX4_command 244 = .ok (.aload_n 0, 1) := dk_42 (dk_at dksX4_command_7 15 rfl rfl)
theorem dX4_command_245 : decode cX4_command 245 = .ok (.getfield 24, 3) := dk_180 0 24 (dk_at dksX4_command_7 16 rfl rfl)
theorem dX4_command_248 : decode cX4_command 248 = .ok (.iload_n 1, 1) := dk_27 (dk_at dksX4_command_7 19 rfl rfl)
theorem dX4_command_249 : decode cX4_command 249 = .ok (.iconst 1, 1) := dk_4 (dk_at dksX4_command_7 20 rfl rfl)
theorem dX4_command_250 : decode cX4_command 250 = .ok (.iadd, 1) := dk_96 (dk_at dksX4_command_7 21 rfl rfl)
theorem dX4_command_251 : decode cX4_command 251 = .ok (.aload_n 0, 1) := dk_42 (dk_at dksX4_command_7 22 rfl rfl)
theorem dX4_command_252 : decode cX4_command 252 = .ok (.iconst 3, 1) := dk_6 (dk_at dksX4_command_7 23 rfl rfl)
theorem dX4_command_253 : decode cX4_command 253 = .ok (.invokevirtual 215, 3) := dk_182 0 215 (dk_at dksX4_command_8 0 rfl rfl)
theorem dX4_command_256 : decode cX4_command 256 = .ok (.iastore, 1) := dk_79 (dk_at dksX4_command_8 3 rfl rfl)
theorem dX4_command_257 : decode cX4_command 257 = .ok (.aload_n 0, 1) := dk_42 (dk_at dksX4_command_8 4 rfl rfl)
theorem dX4_command_258 : decode cX4_command 258 = .ok (.getfield 24, 3) := dk_180 0 24 (dk_at dksX4_command_8 5 rfl rfl)
theorem dX4_command_261 : decode cX4_command 261 = .ok (.iload_n 1, 1) := dk_27 (dk_at dksX4_command_8 8 rfl rfl)
theorem dX4_command_262 : decode cX4_command 262 = .ok (.iconst 2, 1) := dk_5 (dk_at dksX4_command_8 9 rfl rfl)
theorem dX4_command_263 : decode cX4_command 263 = .ok (.iadd, 1) := dk_96 (dk_at dksX4_command_8 10 rfl rfl)
theorem dX4_command_264 : decode cX4_command 264 = .ok (.aload_n 0, 1) := dk_42 (dk_at dksX4_command_8 11 rfl rfl)
theorem dX4_command_265 : decode cX4_command 265 = .ok (.bipush 58, 2) := dk_16 58 (dk_at dksX4_command_8 12 rfl rfl)
theorem dX4_command_267 : decode cX4_command 267 = .ok (.invokevirtual 227, 3) := dk_182 0 227 (dk_at dksX4_command_8 14 rfl rfl)
theorem dX4_command_270 : decode cX4_command 270 = .ok (.iastore, 1) := dk_79 (dk_at dksX4_command_8 17 rfl rfl)
theorem dX4_command_271 : decode cX4_command 271 = .ok (.goto 60, 3) := dk_167 0 60 (dk_at dksX4_command_8 18 rfl rfl)
theorem dX4_command_274 : decode cX4_command 274 = .ok (.aload_n 0, 1) := dk_42 (dk_at dksX4_command_8 21 rfl rfl)
theorem dX4_command_275 : decode cX4_command 275 = .ok (.getfield 24, 3) := dk_180 0 24 (dk_at dksX4_command_9 0 rfl rfl)
theorem dX4_command_278 : decode cX4_command 278 = .ok (.iload_n 1, 1) := dk_27 (dk_at dksX4_command_9 3 rfl rfl)
theorem dX4_command_279 : decode cX4_command 279 = .ok (.iconst 1, 1) := dk_4 (dk_at dksX4_command_9 4 rfl rfl)
theorem dX4_command_280 : decode cX4_command 280 = .ok (.iadd, 1) := dk_96 (dk_at dksX4_command_9 5 rfl rfl)
theorem dX4_command_281 : decode cX4_command 281 = .ok (.aload_n 0, 1) := dk_42 (dk_at dksX4_command_9 6 rfl rfl)
theorem dX4_command_282 : decode cX4_command 282 = .ok (.iconst 3, 1) := dk_6 (dk_at dksX4_command_9 7 rfl rfl)
theorem dX4_command_283 : decode cX4_command 283 = .ok (.invokevirtual 215, 3) := dk_182 0 215 (dk_at dksX4_command_9 8 rfl rfl)
theorem dX4_command_286 : decode cX4_command 286 = .ok (.iastore, 1) := dk_79 (dk_at dksX4_command_9 11 rfl rfl)
theorem dX4_command_287 : decode cX4_command 287 = .ok (.aload_n 0, 1) := dk_42 (dk_at dksX4_command_9 12 rfl rfl)
theorem dX4_command_288 : decode cX4_command 288 = .ok (.getfield 24, 3) := dk_180 0 24 (dk_at dksX4_command_9 13 rfl rfl)
theorem dX4_command_291 : decode cX4_command 291 = .ok (.iload_n 1, 1) := dk_27 (dk_at dksX4_command_9 16 rfl rfl)
theorem dX4_command_292 : decode cX4_command 292 = .ok (.iconst 2, 1) := dk_5 (dk_at dksX4_command_9 17 rfl rfl)
theorem dX4_command_293 : decode cX4_command 293 = .ok (.iadd, 1) := dk_96 (dk_at dksX4_command_9 18 rfl rfl)
theorem dX4_command_294 : decode cX4_command 294 = .ok (.aload_n 0, 1) := dk_42 (dk_at dksX4_command_9 19 rfl rfl)
theorem dX4_command_295 : decode cX4_command 295 = .ok (.bipush 58, 2) := dk_16 58 (dk_at dksX4_command_9 20 rfl rfl)
theorem dX4_command_297 : decode cX4_command 297 = .ok (.invokevirtual 227, 3) := dk_182 0 227 (dk_at dksX4_command_10 0 rfl rfl)
theorem dX4_command_300 : decode cX4_command 300 = .ok (.iastore, 1) := dk_79 (dk_at dksX4_command_10 3 rfl rfl)
theorem dX4_command_301 : decode cX4_command 301 = .ok (.aload_n 0, 1) := dk_42 (dk_at dksX4_command_10 4 rfl rfl)
theorem dX4_command_302 : decode cX4_command 302 = .ok (.getfield 24, 3) := dk_180 0 24 (dk_at dksX4_command_10 5 rfl rfl)
theorem dX4_command_305 : decode cX4_command 305 = .ok (.iload_n 1, 1) := dk_27 (dk_at dksX4_command_10 8 rfl rfl)
theorem dX4_command_306 : decode cX4_command 306 = .ok (.iconst 3, 1) := dk_6 (dk_at dksX4_command_10 9 rfl rfl)
theorem dX4_command_307 : decode cX4_command 307 = .ok (.iadd, 1) := dk_96 (dk_at dksX4_command_10 10 rfl rfl)
theorem dX4_command_308 : decode cX4_command 308 = .ok (.aload_n 0, 1) := dk_42 (dk_at dksX4_command_10 11 rfl rfl)
theorem dX4_command_309 : decode cX4_command 309 = .ok (.bipush 42, 2) := dk_16 42 (dk_at dksX4_command_10 12 rfl rfl)
theorem dX4_command_311 : decode cX4_command 311 = .ok (.invokevirtual 227, 3) := dk_182 0 227 (dk_at dksX4_command_10 14 rfl rfl)
theorem dX4_command_314 : decode cX4_command 314 = .ok (.iastore, 1) := dk_79 (dk_at dksX4_command_10 17 rfl rfl)
theorem dX4_command_315 : decode cX4_command 315 = .ok (.goto 16, 3) := dk_167 0 16 (dk_at dksX4_command_10 18 rfl rfl)
theorem dX4_command_318 : decode cX4_command 318 = .ok (.aload_n 0, 1) := dk_42 (dk_at dksX4_command_10 21 rfl rfl)
theorem dX4_command_319 : decode cX4_command 319 = .ok (.getfield 24, 3) := dk_180 0 24 (dk_at dksX4_command_11 0 rfl rfl)
theorem dX4_command_322 : decode cX4_command 322 = .ok (.iload_n 1, 1) := dk_27 (dk_at dksX4_command_11 3 rfl rfl)
theorem dX4_command_323 : decode cX4_command 323 = .ok (.iconst 1, 1) := dk_4 (dk_at dksX4_command_11 4 rfl rfl)
theorem dX4_command_324 : decode cX4_command 324 = .ok (.iadd, 1) := dk_96 (dk_at dksX4_command_11 5 rfl rfl)
theorem dX4_command_325 : decode cX4_command 325 = .ok (.aload_n 0, 1) := dk_42 (dk_at dksX4_command_11 6 rfl rfl)
theorem dX4_command_326 : decode cX4_command 326 = .ok (.iconst 3, 1) := dk_6 (dk_at dksX4_command_11 7 rfl rfl)
theorem dX4_command_327 : decode cX4_command 327 = .ok (.invokevirtual 215, 3) := dk_182 0 215 (dk_at dksX4_command_11 8 rfl rfl)
theorem dX4_command_330 : decode cX4_command 330 = .ok (.iastore, 1) := dk_79 (dk_at dksX4_command_11 11 rfl rfl)
theorem dX4_command_331 : decode cX4_command 331 = .ok (.return_, 1) := dk_177 (dk_at dksX4_command_11 12 rfl rfl)
abbrev cX4_sign : ByteArray := prog_20_method_105_code
def yX4_sign : MethodName := ⟨RX4, "sign", "()I"⟩
def dkwX4_sign_1 : List UInt8 := [172]
abbrev dktX4_sign_1 : List UInt8 := dkwX4_sign_1 ++ []
def dkwX4_sign_0 : List UInt8 := [42, 180, 0, 203, 42, 180, 0, 200, 162, 0, 15, 42, 180, 0, 17, 42, 180, 0, 203, 52, 167, 0, 4, 2]
abbrev dktX4_sign_0 : List UInt8 := dkwX4_sign_0 ++ dktX4_sign_1
theorem dksX4_sign_0 : cX4_sign.data.toList.drop 0 = dktX4_sign_0 := by decide +kernel
theorem dksX4_sign_1 : cX4_sign.data.toList.drop 24 = dktX4_sign_1 := dk_seg dksX4_sign_0 24 rfl rfl
theorem dX4_sign_0 : decode cX4_sign 0 = .ok (.aload_n 0, 1) := dk_42 (dk_at dksX4_sign_0 0 rfl rfl)
theorem dX4_sign_1 : decode cX4_sign 1 = .ok (.getfield 203, 3) := dk_180 0 203 (dk_at dksX4_sign_0 1 rfl rfl)
theorem dX4_sign_4 : decode cX4_sign 4 = .ok (.aload_n 0, 1) := dk_42 (dk_at dksX4_sign_0 4 rfl rfl)
theorem dX4_sign_5 : decode cX4_sign 5 = .ok (.getfield 200, 3) := dk_180 0 200 (dk_at dksX4_sign_0 5 rfl rfl)
theorem dX4_sign_8 : decode cX4_sign 8 = .ok (.if_icmp .ge 15, 3) := dk_162 0 15 (dk_at dksX4_sign_0 8 rfl rfl)
theorem dX4_sign_11 : decode cX4_sign 11 = .ok (.aload_n 0, 1) := dk_42 (dk_at dksX4_sign_0 11 rfl rfl)
theorem dX4_sign_12 : decode cX4_sign 12 = .ok (.getfield 17, 3) := dk_180 0 17 (dk_at dksX4_sign_0 12 rfl rfl)
theorem dX4_sign_15 : decode cX4_sign 15 = .ok (.aload_n 0, 1) := dk_42 (dk_at dksX4_sign_0 15 rfl rfl)
theorem dX4_sign_16 : decode cX4_sign 16 = .ok (.getfield 203, 3) := dk_180 0 203 (dk_at dksX4_sign_0 16 rfl rfl)
theorem dX4_sign_19 : decode cX4_sign 19 = .ok (.caload, 1) := dk_52 (dk_at dksX4_sign_0 19 rfl rfl)
theorem dX4_sign_20 : decode cX4_sign 20 = .ok (.goto 4, 3) := dk_167 0 4 (dk_at dksX4_sign_0 20 rfl rfl)
theorem dX4_sign_23 : decode cX4_sign 23 = .ok (.iconst (-1), 1) := dk_2 (dk_at dksX4_sign_0 23 rfl rfl)
theorem dX4_sign_24 : decode cX4_sign 24 = .ok (.ireturn, 1) := dk_172 (dk_at dksX4_sign_1 0 rfl rfl)
abbrev cX4_isLetter : ByteArray := prog_20_method_110_code
def yX4_isLetter : MethodName := ⟨RX4, "isLetter", "(I)Z"⟩
def dkwX4_isLetter_3 : List UInt8 := [26, 16, 116, 160, 0, 7, 4, 167, 0, 4, 3, 172]
abbrev dktX4_isLetter_3 : List UInt8 := dkwX4_isLetter_3 ++ []
def dkwX4_isLetter_2 : List UInt8 := [26, 16, 100, 159, 0, 27, 26, 16, 118, 159, 0, 21, 26, 16, 98, 159, 0, 15, 26, 16, 113, 159, 0, 9]
abbrev dktX4_isLetter_2 : List UInt8 := dkwX4_isLetter_2 ++ dktX4_isLetter_3
def dkwX4_isLetter_1 : List UInt8 := [26, 16, 99, 159, 0, 51, 26, 16, 117, 159, 0, 45, 26, 16, 119, 159, 0, 39, 26, 16, 103, 159, 0, 33]
abbrev dktX4_isLetter_1 : List UInt8 := dkwX4_isLetter_1 ++ dktX4_isLetter_2
def dkwX4_isLetter_0 : List UInt8 := [26, 16, 97, 159, 0, 75, 26, 16, 102, 159, 0, 69, 26, 16, 115, 159, 0, 63, 26, 16, 114, 159, 0, 57]
abbrev dktX4_isLetter_0 : List UInt8 := dkwX4_isLetter_0 ++ dktX4_isLetter_1
theorem dksX4_isLetter_0 : cX4_isLetter.data.toList.drop 0 = dktX4_isLetter_0 := by decide +kernel
theorem dksX4_isLetter_1 : cX4_isLetter.data.toList.drop 24 = dktX4_isLetter_1 := dk_seg dksX4_isLetter_0 24 rfl rfl
theorem dksX4_isLetter_2 : cX4_isLetter.data.toList.drop 48 = dktX4_isLetter_2 := dk_seg dksX4_isLetter_1 24 rfl rfl
theorem dksX4_isLetter_3 : cX4_isLetter.data.toList.drop 72 = dktX4_isLetter_3 := dk_seg dksX4_isLetter_2 24 rfl rfl
theorem dX4_isLetter_0 : decode cX4_isLetter 0 = .ok (.iload_n 0, 1) := dk_26 (dk_at dksX4_isLetter_0 0 rfl rfl)
theorem dX4_isLetter_1 : decode cX4_isLetter 1 = .ok (.bipush 97, 2) := dk_16 97 (dk_at dksX4_isLetter_0 1 rfl rfl)
theorem dX4_isLetter_3 : decode cX4_isLetter 3 = .ok (.if_icmp .eq 75, 3) := dk_159 0 75 (dk_at dksX4_isLetter_0 3 rfl rfl)
theorem dX4_isLetter_6 : decode cX4_isLetter 6 = .ok (.iload_n 0, 1) := dk_26 (dk_at dksX4_isLetter_0 6 rfl rfl)
theorem dX4_isLetter_7 : decode cX4_isLetter 7 = .ok (.bipush 102, 2) := dk_16 102 (dk_at dksX4_isLetter_0 7 rfl rfl)
theorem dX4_isLetter_9 : decode cX4_isLetter 9 = .ok (.if_icmp .eq 69, 3) := dk_159 0 69 (dk_at dksX4_isLetter_0 9 rfl rfl)
theorem dX4_isLetter_12 : decode cX4_isLetter 12 = .ok (.iload_n 0, 1) := dk_26 (dk_at dksX4_isLetter_0 12 rfl rfl)
theorem dX4_isLetter_13 : decode cX4_isLetter 13 = .ok (.bipush 115, 2) := dk_16 115 (dk_at dksX4_isLetter_0 13 rfl rfl)
theorem dX4_isLetter_15 : decode cX4_isLetter 15 = .ok (.if_icmp .eq 63, 3) := dk_159 0 63 (dk_at dksX4_isLetter_0 15 rfl rfl)
theorem dX4_isLetter_18 : decode cX4_isLetter 18 = .ok (.iload_n 0, 1) := dk_26 (dk_at dksX4_isLetter_0 18 rfl rfl)
theorem dX4_isLetter_19 : decode cX4_isLetter 19 = .ok (.bipush 114, 2) := dk_16 114 (dk_at dksX4_isLetter_0 19 rfl rfl)
theorem dX4_isLetter_21 : decode cX4_isLetter 21 = .ok (.if_icmp .eq 57, 3) := dk_159 0 57 (dk_at dksX4_isLetter_0 21 rfl rfl)
theorem dX4_isLetter_24 : decode cX4_isLetter 24 = .ok (.iload_n 0, 1) := dk_26 (dk_at dksX4_isLetter_1 0 rfl rfl)
theorem dX4_isLetter_25 : decode cX4_isLetter 25 = .ok (.bipush 99, 2) := dk_16 99 (dk_at dksX4_isLetter_1 1 rfl rfl)
theorem dX4_isLetter_27 : decode cX4_isLetter 27 = .ok (.if_icmp .eq 51, 3) := dk_159 0 51 (dk_at dksX4_isLetter_1 3 rfl rfl)
theorem dX4_isLetter_30 : decode cX4_isLetter 30 = .ok (.iload_n 0, 1) := dk_26 (dk_at dksX4_isLetter_1 6 rfl rfl)
theorem dX4_isLetter_31 : decode cX4_isLetter 31 = .ok (.bipush 117, 2) := dk_16 117 (dk_at dksX4_isLetter_1 7 rfl rfl)
theorem dX4_isLetter_33 : decode cX4_isLetter 33 = .ok (.if_icmp .eq 45, 3) := dk_159 0 45 (dk_at dksX4_isLetter_1 9 rfl rfl)
theorem dX4_isLetter_36 : decode cX4_isLetter 36 = .ok (.iload_n 0, 1) := dk_26 (dk_at dksX4_isLetter_1 12 rfl rfl)
theorem dX4_isLetter_37 : decode cX4_isLetter 37 = .ok (.bipush 119, 2) := dk_16 119 (dk_at dksX4_isLetter_1 13 rfl rfl)
theorem dX4_isLetter_39 : decode cX4_isLetter 39 = .ok (.if_icmp .eq 39, 3) := dk_159 0 39 (dk_at dksX4_isLetter_1 15 rfl rfl)
theorem dX4_isLetter_42 : decode cX4_isLetter 42 = .ok (.iload_n 0, 1) := dk_26 (dk_at dksX4_isLetter_1 18 rfl rfl)
theorem dX4_isLetter_43 : decode cX4_isLetter 43 = .ok (.bipush 103, 2) := dk_16 103 (dk_at dksX4_isLetter_1 19 rfl rfl)
theorem dX4_isLetter_45 : decode cX4_isLetter 45 = .ok (.if_icmp .eq 33, 3) := dk_159 0 33 (dk_at dksX4_isLetter_1 21 rfl rfl)
theorem dX4_isLetter_48 : decode cX4_isLetter 48 = .ok (.iload_n 0, 1) := dk_26 (dk_at dksX4_isLetter_2 0 rfl rfl)
theorem dX4_isLetter_49 : decode cX4_isLetter 49 = .ok (.bipush 100, 2) := dk_16 100 (dk_at dksX4_isLetter_2 1 rfl rfl)
theorem dX4_isLetter_51 : decode cX4_isLetter 51 = .ok (.if_icmp .eq 27, 3) := dk_159 0 27 (dk_at dksX4_isLetter_2 3 rfl rfl)
theorem dX4_isLetter_54 : decode cX4_isLetter 54 = .ok (.iload_n 0, 1) := dk_26 (dk_at dksX4_isLetter_2 6 rfl rfl)
theorem dX4_isLetter_55 : decode cX4_isLetter 55 = .ok (.bipush 118, 2) := dk_16 118 (dk_at dksX4_isLetter_2 7 rfl rfl)
theorem dX4_isLetter_57 : decode cX4_isLetter 57 = .ok (.if_icmp .eq 21, 3) := dk_159 0 21 (dk_at dksX4_isLetter_2 9 rfl rfl)
theorem dX4_isLetter_60 : decode cX4_isLetter 60 = .ok (.iload_n 0, 1) := dk_26 (dk_at dksX4_isLetter_2 12 rfl rfl)
theorem dX4_isLetter_61 : decode cX4_isLetter 61 = .ok (.bipush 98, 2) := dk_16 98 (dk_at dksX4_isLetter_2 13 rfl rfl)
theorem dX4_isLetter_63 : decode cX4_isLetter 63 = .ok (.if_icmp .eq 15, 3) := dk_159 0 15 (dk_at dksX4_isLetter_2 15 rfl rfl)
theorem dX4_isLetter_66 : decode cX4_isLetter 66 = .ok (.iload_n 0, 1) := dk_26 (dk_at dksX4_isLetter_2 18 rfl rfl)
theorem dX4_isLetter_67 : decode cX4_isLetter 67 = .ok (.bipush 113, 2) := dk_16 113 (dk_at dksX4_isLetter_2 19 rfl rfl)
theorem dX4_isLetter_69 : decode cX4_isLetter 69 = .ok (.if_icmp .eq 9, 3) := dk_159 0 9 (dk_at dksX4_isLetter_2 21 rfl rfl)
theorem dX4_isLetter_72 : decode cX4_isLetter 72 = .ok (.iload_n 0, 1) := dk_26 (dk_at dksX4_isLetter_3 0 rfl rfl)
theorem dX4_isLetter_73 : decode cX4_isLetter 73 = .ok (.bipush 116, 2) := dk_16 116 (dk_at dksX4_isLetter_3 1 rfl rfl)
theorem dX4_isLetter_75 : decode cX4_isLetter 75 = .ok (.if_icmp .ne 7, 3) := dk_160 0 7 (dk_at dksX4_isLetter_3 3 rfl rfl)
theorem dX4_isLetter_78 : decode cX4_isLetter 78 = .ok (.iconst 1, 1) := dk_4 (dk_at dksX4_isLetter_3 6 rfl rfl)
theorem dX4_isLetter_79 : decode cX4_isLetter 79 = .ok (.goto 4, 3) := dk_167 0 4 (dk_at dksX4_isLetter_3 7 rfl rfl)
theorem dX4_isLetter_82 : decode cX4_isLetter 82 = .ok (.iconst 0, 1) := dk_3 (dk_at dksX4_isLetter_3 10 rfl rfl)
theorem dX4_isLetter_83 : decode cX4_isLetter 83 = .ok (.ireturn, 1) := dk_172 (dk_at dksX4_isLetter_3 11 rfl rfl)
abbrev cX4_number : ByteArray := prog_20_method_107_code
def yX4_number : MethodName := ⟨RX4, "number", "(I)I"⟩
def dkwX4_number_3 : List UInt8 := [180, 0, 203, 4, 96, 181, 0, 203, 132, 3, 1, 167, 255, 211, 28, 172]
abbrev dktX4_number_3 : List UInt8 := dkwX4_number_3 ++ []
def dkwX4_number_2 : List UInt8 := [16, 57, 184, 0, 53, 153, 0, 32, 16, 10, 28, 104, 42, 182, 0, 209, 96, 16, 48, 100, 61, 42, 89]
abbrev dktX4_number_2 : List UInt8 := dkwX4_number_2 ++ dktX4_number_3
def dkwX4_number_1 : List UInt8 := [42, 180, 0, 203, 181, 0, 206, 3, 172, 3, 61, 3, 62, 29, 27, 162, 0, 46, 42, 182, 0, 209, 16, 48]
abbrev dktX4_number_1 : List UInt8 := dkwX4_number_1 ++ dktX4_number_2
def dkwX4_number_0 : List UInt8 := [42, 180, 0, 206, 155, 0, 5, 3, 172, 42, 182, 0, 209, 16, 48, 16, 57, 184, 0, 53, 154, 0, 13, 42]
abbrev dktX4_number_0 : List UInt8 := dkwX4_number_0 ++ dktX4_number_1
theorem dksX4_number_0 : cX4_number.data.toList.drop 0 = dktX4_number_0 := by decide +kernel
theorem dksX4_number_1 : cX4_number.data.toList.drop 24 = dktX4_number_1 := dk_seg dksX4_number_0 24 rfl rfl
theorem dksX4_number_2 : cX4_number.data.toList.drop 48 = dktX4_number_2 := dk_seg dksX4_number_1 24 rfl rfl
theorem dksX4_number_3 : cX4_number.data.toList.drop 71 = dktX4_number_3 := dk_seg dksX4_number_2 23 rfl rfl
theorem dX4_number_0 : decode cX4_number 0 = .ok (.aload_n 0, 1) := dk_42 (dk_at dksX4_number_0 0 rfl rfl)
theorem dX4_number_1 : decode cX4_number 1 = .ok (.getfield 206, 3) := dk_180 0 206 (dk_at dksX4_number_0 1 rfl rfl)
theorem dX4_number_4 : decode cX4_number 4 = .ok (.ifCond .lt 5, 3) := dk_155 0 5 (dk_at dksX4_number_0 4 rfl rfl)
theorem dX4_number_7 : decode cX4_number 7 = .ok (.iconst 0, 1) := dk_3 (dk_at dksX4_number_0 7 rfl rfl)
theorem dX4_number_8 : decode cX4_number 8 = .ok (.ireturn, 1) := dk_172 (dk_at dksX4_number_0 8 rfl rfl)
theorem dX4_number_9 : decode cX4_number 9 = .ok (.aload_n 0, 1) := dk_42 (dk_at dksX4_number_0 9 rfl rfl)
theorem dX4_number_10 : decode cX4_number 10 = .ok (.invokevirtual 209, 3) := dk_182 0 209 (dk_at dksX4_number_0 10 rfl rfl)
theorem dX4_number_13 : decode cX4_number 13 = .ok (.bipush 48, 2) := dk_16 48 (dk_at dksX4_number_0 13 rfl rfl)
theorem dX4_number_15 : decode cX4_number 15 = .ok (.bipush 57, 2) := dk_16 57 (dk_at dksX4_number_0 15 rfl rfl)
theorem dX4_number_17 : decode cX4_number 17 = .ok (.invokestatic 53, 3) := dk_184 0 53 (dk_at dksX4_number_0 17 rfl rfl)
theorem dX4_number_20 : decode cX4_number 20 = .ok (.ifCond .ne 13, 3) := dk_154 0 13 (dk_at dksX4_number_0 20 rfl rfl)
theorem dX4_number_23 : decode cX4_number 23 = .ok (.aload_n 0, 1) := dk_42 (dk_at dksX4_number_0 23 rfl rfl)
theorem dX4_number_24 : decode cX4_number 24 = .ok (.aload_n 0, 1) := dk_42 (dk_at dksX4_number_1 0 rfl rfl)
theorem dX4_number_25 : decode cX4_number 25 = .ok (.getfield 203, 3) := dk_180 0 203 (dk_at dksX4_number_1 1 rfl rfl)
theorem dX4_number_28 : decode cX4_number 28 = .ok (.putfield 206, 3) := dk_181 0 206 (dk_at dksX4_number_1 4 rfl rfl)
theorem dX4_number_31 : decode cX4_number 31 = .ok (.iconst 0, 1) := dk_3 (dk_at dksX4_number_1 7 rfl rfl)
theorem dX4_number_32 : decode cX4_number 32 = .ok (.ireturn, 1) := dk_172 (dk_at dksX4_number_1 8 rfl rfl)
theorem dX4_number_33 : decode cX4_number 33 = .ok (.iconst 0, 1) := dk_3 (dk_at dksX4_number_1 9 rfl rfl)
theorem dX4_number_34 : decode cX4_number 34 = .ok (.istore_n 2, 1) := dk_61 (dk_at dksX4_number_1 10 rfl rfl)
theorem dX4_number_35 : decode cX4_number 35 = .ok (.iconst 0, 1) := dk_3 (dk_at dksX4_number_1 11 rfl rfl)
theorem dX4_number_36 : decode cX4_number 36 = .ok (.istore_n 3, 1) := dk_62 (dk_at dksX4_number_1 12 rfl rfl)
theorem dX4_number_37 : decode cX4_number 37 = .ok (.iload_n 3, 1) := dk_29 (dk_at dksX4_number_1 13 rfl rfl)
theorem dX4_number_38 : decode cX4_number 38 = .ok (.iload_n 1, 1) := dk_27 (dk_at dksX4_number_1 14 rfl rfl)
theorem dX4_number_39 : decode cX4_number 39 = .ok (.if_icmp .ge 46, 3) := dk_162 0 46 (dk_at dksX4_number_1 15 rfl rfl)
theorem dX4_number_42 : decode cX4_number 42 = .ok (.aload_n 0, 1) := dk_42 (dk_at dksX4_number_1 18 rfl rfl)
theorem dX4_number_43 : decode cX4_number 43 = .ok (.invokevirtual 209, 3) := dk_182 0 209 (dk_at dksX4_number_1 19 rfl rfl)
theorem dX4_number_46 : decode cX4_number 46 = .ok (.bipush 48, 2) := dk_16 48 (dk_at dksX4_number_1 22 rfl rfl)
theorem dX4_number_48 : decode cX4_number 48 = .ok (.bipush 57, 2) := dk_16 57 (dk_at dksX4_number_2 0 rfl rfl)
theorem dX4_number_50 : decode cX4_number 50 = .ok (.invokestatic 53, 3) := dk_184 0 53 (dk_at dksX4_number_2 2 rfl rfl)
theorem dX4_number_53 : decode cX4_number 53 = .ok (.ifCond .eq 32, 3) := dk_153 0 32 (dk_at dksX4_number_2 5 rfl rfl)
theorem dX4_number_56 : decode cX4_number 56 = .ok (.bipush 10, 2) := dk_16 10 (dk_at dksX4_number_2 8 rfl rfl)
theorem dX4_number_58 : decode cX4_number 58 = .ok (.iload_n 2, 1) := dk_28 (dk_at dksX4_number_2 10 rfl rfl)
theorem dX4_number_59 : decode cX4_number 59 = .ok (.imul, 1) := dk_104 (dk_at dksX4_number_2 11 rfl rfl)
theorem dX4_number_60 : decode cX4_number 60 = .ok (.aload_n 0, 1) := dk_42 (dk_at dksX4_number_2 12 rfl rfl)
theorem dX4_number_61 : decode cX4_number 61 = .ok (.invokevirtual 209, 3) := dk_182 0 209 (dk_at dksX4_number_2 13 rfl rfl)
theorem dX4_number_64 : decode cX4_number 64 = .ok (.iadd, 1) := dk_96 (dk_at dksX4_number_2 16 rfl rfl)
theorem dX4_number_65 : decode cX4_number 65 = .ok (.bipush 48, 2) := dk_16 48 (dk_at dksX4_number_2 17 rfl rfl)
theorem dX4_number_67 : decode cX4_number 67 = .ok (.isub, 1) := dk_100 (dk_at dksX4_number_2 19 rfl rfl)
theorem dX4_number_68 : decode cX4_number 68 = .ok (.istore_n 2, 1) := dk_61 (dk_at dksX4_number_2 20 rfl rfl)
theorem dX4_number_69 : decode cX4_number 69 = .ok (.aload_n 0, 1) := dk_42 (dk_at dksX4_number_2 21 rfl rfl)
theorem dX4_number_70 : decode cX4_number 70 = .ok (.dup, 1) := dk_89 (dk_at dksX4_number_2 22 rfl rfl)
theorem dX4_number_71 : decode cX4_number 71 = .ok (.getfield 203, 3) := dk_180 0 203 (dk_at dksX4_number_3 0 rfl rfl)
theorem dX4_number_74 : decode cX4_number 74 = .ok (.iconst 1, 1) := dk_4 (dk_at dksX4_number_3 3 rfl rfl)
theorem dX4_number_75 : decode cX4_number 75 = .ok (.iadd, 1) := dk_96 (dk_at dksX4_number_3 4 rfl rfl)
theorem dX4_number_76 : decode cX4_number 76 = .ok (.putfield 203, 3) := dk_181 0 203 (dk_at dksX4_number_3 5 rfl rfl)
theorem dX4_number_79 : decode cX4_number 79 = .ok (.iinc 3 1, 3) := dk_132 3 1 (dk_at dksX4_number_3 8 rfl rfl)
theorem dX4_number_82 : decode cX4_number 82 = .ok (.goto (-45), 3) := dk_167 255 211 (dk_at dksX4_number_3 11 rfl rfl)
theorem dX4_number_85 : decode cX4_number 85 = .ok (.iload_n 2, 1) := dk_28 (dk_at dksX4_number_3 14 rfl rfl)
theorem dX4_number_86 : decode cX4_number 86 = .ok (.ireturn, 1) := dk_172 (dk_at dksX4_number_3 15 rfl rfl)
abbrev cX4_way : ByteArray := prog_20_method_109_code
def yX4_way : MethodName := ⟨RX4, "way", "()I"⟩
def dkwX4_way_1 : List UInt8 := [180, 0, 203, 4, 96, 181, 0, 203, 27, 172]
abbrev dktX4_way_1 : List UInt8 := dkwX4_way_1 ++ []
def dkwX4_way_0 : List UInt8 := [42, 182, 0, 209, 184, 0, 132, 60, 27, 156, 0, 13, 42, 42, 180, 0, 203, 181, 0, 206, 3, 172, 42, 89]
abbrev dktX4_way_0 : List UInt8 := dkwX4_way_0 ++ dktX4_way_1
theorem dksX4_way_0 : cX4_way.data.toList.drop 0 = dktX4_way_0 := by decide +kernel
theorem dksX4_way_1 : cX4_way.data.toList.drop 24 = dktX4_way_1 := dk_seg dksX4_way_0 24 rfl rfl
theorem dX4_way_0 : decode cX4_way 0 = .ok (.aload_n 0, 1) := dk_42 (dk_at dksX4_way_0 0 rfl rfl)
theorem dX4_way_1 : decode cX4_way 1 = .ok (.invokevirtual 209, 3) := dk_182 0 209 (dk_at dksX4_way_0 1 rfl rfl)
theorem dX4_way_4 : decode cX4_way 4 = .ok (.invokestatic 132, 3) := dk_184 0 132 (dk_at dksX4_way_0 4 rfl rfl)
theorem dX4_way_7 : decode cX4_way 7 = .ok (.istore_n 1, 1) := dk_60 (dk_at dksX4_way_0 7 rfl rfl)
theorem dX4_way_8 : decode cX4_way 8 = .ok (.iload_n 1, 1) := dk_27 (dk_at dksX4_way_0 8 rfl rfl)
theorem dX4_way_9 : decode cX4_way 9 = .ok (.ifCond .ge 13, 3) := dk_156 0 13 (dk_at dksX4_way_0 9 rfl rfl)
theorem dX4_way_12 : decode cX4_way 12 = .ok (.aload_n 0, 1) := dk_42 (dk_at dksX4_way_0 12 rfl rfl)
theorem dX4_way_13 : decode cX4_way 13 = .ok (.aload_n 0, 1) := dk_42 (dk_at dksX4_way_0 13 rfl rfl)
theorem dX4_way_14 : decode cX4_way 14 = .ok (.getfield 203, 3) := dk_180 0 203 (dk_at dksX4_way_0 14 rfl rfl)
theorem dX4_way_17 : decode cX4_way 17 = .ok (.putfield 206, 3) := dk_181 0 206 (dk_at dksX4_way_0 17 rfl rfl)
theorem dX4_way_20 : decode cX4_way 20 = .ok (.iconst 0, 1) := dk_3 (dk_at dksX4_way_0 20 rfl rfl)
theorem dX4_way_21 : decode cX4_way 21 = .ok (.ireturn, 1) := dk_172 (dk_at dksX4_way_0 21 rfl rfl)
theorem dX4_way_22 : decode cX4_way 22 = .ok (.aload_n 0, 1) := dk_42 (dk_at dksX4_way_0 22 rfl rfl)
theorem dX4_way_23 : decode cX4_way 23 = .ok (.dup, 1) := dk_89 (dk_at dksX4_way_0 23 rfl rfl)
theorem dX4_way_24 : decode cX4_way 24 = .ok (.getfield 203, 3) := dk_180 0 203 (dk_at dksX4_way_1 0 rfl rfl)
theorem dX4_way_27 : decode cX4_way 27 = .ok (.iconst 1, 1) := dk_4 (dk_at dksX4_way_1 3 rfl rfl)
theorem dX4_way_28 : decode cX4_way 28 = .ok (.iadd, 1) := dk_96 (dk_at dksX4_way_1 4 rfl rfl)
theorem dX4_way_29 : decode cX4_way 29 = .ok (.putfield 203, 3) := dk_181 0 203 (dk_at dksX4_way_1 5 rfl rfl)
theorem dX4_way_32 : decode cX4_way 32 = .ok (.iload_n 1, 1) := dk_27 (dk_at dksX4_way_1 8 rfl rfl)
theorem dX4_way_33 : decode cX4_way 33 = .ok (.ireturn, 1) := dk_172 (dk_at dksX4_way_1 9 rfl rfl)
abbrev cX4_behind : ByteArray := prog_20_method_108_code
def yX4_behind : MethodName := ⟨RX4, "behind", "(I)I"⟩
def dkwX4_behind_0 : List UInt8 := [42, 27, 182, 0, 212, 42, 6, 182, 0, 215, 172]
abbrev dktX4_behind_0 : List UInt8 := dkwX4_behind_0 ++ []
theorem dksX4_behind_0 : cX4_behind.data.toList.drop 0 = dktX4_behind_0 := by decide +kernel
theorem dX4_behind_0 : decode cX4_behind 0 = .ok (.aload_n 0, 1) := dk_42 (dk_at dksX4_behind_0 0 rfl rfl)
theorem dX4_behind_1 : decode cX4_behind 1 = .ok (.iload_n 1, 1) := dk_27 (dk_at dksX4_behind_0 1 rfl rfl)
theorem dX4_behind_2 : decode cX4_behind 2 = .ok (.invokevirtual 212, 3) := dk_182 0 212 (dk_at dksX4_behind_0 2 rfl rfl)
theorem dX4_behind_5 : decode cX4_behind 5 = .ok (.aload_n 0, 1) := dk_42 (dk_at dksX4_behind_0 5 rfl rfl)
theorem dX4_behind_6 : decode cX4_behind 6 = .ok (.iconst 3, 1) := dk_6 (dk_at dksX4_behind_0 6 rfl rfl)
theorem dX4_behind_7 : decode cX4_behind 7 = .ok (.invokevirtual 215, 3) := dk_182 0 215 (dk_at dksX4_behind_0 7 rfl rfl)
theorem dX4_behind_10 : decode cX4_behind 10 = .ok (.ireturn, 1) := dk_172 (dk_at dksX4_behind_0 10 rfl rfl)
abbrev cX4_needs : ByteArray := prog_20_method_106_code
def yX4_needs : MethodName := ⟨RX4, "needs", "(I)V"⟩
def dkwX4_needs_1 : List UInt8 := [177, 42, 89, 180, 0, 203, 4, 96, 181, 0, 203, 177]
abbrev dktX4_needs_1 : List UInt8 := dkwX4_needs_1 ++ []
def dkwX4_needs_0 : List UInt8 := [42, 180, 0, 206, 155, 0, 4, 177, 42, 182, 0, 209, 27, 159, 0, 12, 42, 42, 180, 0, 203, 181, 0, 206]
abbrev dktX4_needs_0 : List UInt8 := dkwX4_needs_0 ++ dktX4_needs_1
theorem dksX4_needs_0 : cX4_needs.data.toList.drop 0 = dktX4_needs_0 := by decide +kernel
theorem dksX4_needs_1 : cX4_needs.data.toList.drop 24 = dktX4_needs_1 := dk_seg dksX4_needs_0 24 rfl rfl
theorem dX4_needs_0 : decode cX4_needs 0 = .ok (.aload_n 0, 1) := dk_42 (dk_at dksX4_needs_0 0 rfl rfl)
theorem dX4_needs_1 : decode cX4_needs 1 = .ok (.getfield 206, 3) := dk_180 0 206 (dk_at dksX4_needs_0 1 rfl rfl)
theorem dX4_needs_4 : decode cX4_needs 4 = .ok (.ifCond .lt 4, 3) := dk_155 0 4 (dk_at dksX4_needs_0 4 rfl rfl)
theorem dX4_needs_7 : decode cX4_needs 7 = .ok (.return_, 1) := dk_177 (dk_at dksX4_needs_0 7 rfl rfl)
theorem dX4_needs_8 : decode cX4_needs 8 = .ok (.aload_n 0, 1) := dk_42 (dk_at dksX4_needs_0 8 rfl rfl)
theorem dX4_needs_9 : decode cX4_needs 9 = .ok (.invokevirtual 209, 3) := dk_182 0 209 (dk_at dksX4_needs_0 9 rfl rfl)
theorem dX4_needs_12 : decode cX4_needs 12 = .ok (.iload_n 1, 1) := dk_27 (dk_at dksX4_needs_0 12 rfl rfl)
theorem dX4_needs_13 : decode cX4_needs 13 = .ok (.if_icmp .eq 12, 3) := dk_159 0 12 (dk_at dksX4_needs_0 13 rfl rfl)
theorem dX4_needs_16 : decode cX4_needs 16 = .ok (.aload_n 0, 1) := dk_42 (dk_at dksX4_needs_0 16 rfl rfl)
theorem dX4_needs_17 : decode cX4_needs 17 = .ok (.aload_n 0, 1) := dk_42 (dk_at dksX4_needs_0 17 rfl rfl)
theorem dX4_needs_18 : decode cX4_needs 18 = .ok (.getfield 203, 3) := dk_180 0 203 (dk_at dksX4_needs_0 18 rfl rfl)
theorem dX4_needs_21 : decode cX4_needs 21 = .ok (.putfield 206, 3) := dk_181 0 206 (dk_at dksX4_needs_0 21 rfl rfl)
theorem dX4_needs_24 : decode cX4_needs 24 = .ok (.return_, 1) := dk_177 (dk_at dksX4_needs_1 0 rfl rfl)
theorem dX4_needs_25 : decode cX4_needs 25 = .ok (.aload_n 0, 1) := dk_42 (dk_at dksX4_needs_1 1 rfl rfl)
theorem dX4_needs_26 : decode cX4_needs 26 = .ok (.dup, 1) := dk_89 (dk_at dksX4_needs_1 2 rfl rfl)
theorem dX4_needs_27 : decode cX4_needs 27 = .ok (.getfield 203, 3) := dk_180 0 203 (dk_at dksX4_needs_1 3 rfl rfl)
theorem dX4_needs_30 : decode cX4_needs 30 = .ok (.iconst 1, 1) := dk_4 (dk_at dksX4_needs_1 6 rfl rfl)
theorem dX4_needs_31 : decode cX4_needs 31 = .ok (.iadd, 1) := dk_96 (dk_at dksX4_needs_1 7 rfl rfl)
theorem dX4_needs_32 : decode cX4_needs 32 = .ok (.putfield 203, 3) := dk_181 0 203 (dk_at dksX4_needs_1 8 rfl rfl)
theorem dX4_needs_35 : decode cX4_needs 35 = .ok (.return_, 1) := dk_177 (dk_at dksX4_needs_1 11 rfl rfl)
abbrev cX4_does : ByteArray := prog_20_method_113_code
def yX4_does : MethodName := ⟨RX4, "does", "(I)I"⟩
def dkwX4_does_6 : List UInt8 := [172, 42, 28, 182, 0, 162, 172, 42, 28, 182, 0, 168, 172]
abbrev dktX4_does_6 : List UInt8 := dkwX4_does_6 ++ []
def dkwX4_does_5 : List UInt8 := [42, 28, 182, 0, 138, 172, 42, 182, 0, 141, 172, 42, 182, 0, 144, 172, 42, 28, 29, 21, 4, 182, 0, 156]
abbrev dktX4_does_5 : List UInt8 := dkwX4_does_5 ++ dktX4_does_6
def dkwX4_does_4 : List UInt8 := [182, 0, 120, 172, 42, 28, 29, 182, 0, 123, 172, 42, 28, 182, 0, 126, 172, 42, 28, 29, 182, 0, 135, 172]
abbrev dktX4_does_4 : List UInt8 := dkwX4_does_4 ++ dktX4_does_5
def dkwX4_does_3 : List UInt8 := [42, 28, 29, 21, 4, 182, 0, 95, 172, 42, 28, 182, 0, 110, 172, 42, 28, 29, 182, 0, 117, 172, 42, 28]
abbrev dktX4_does_3 : List UInt8 := dkwX4_does_3 ++ dktX4_does_4
def dkwX4_does_2 : List UInt8 := [170, 0, 0, 0, 0, 185, 0, 0, 0, 97, 0, 0, 0, 119, 0, 0, 0, 106, 0, 0, 0, 170, 0, 0, 0, 134, 0, 0, 0, 160, 0, 0, 0, 185, 0, 0, 0, 115, 0, 0, 0, 154, 0, 0, 0, 185, 0, 0, 0, 185, 0, 0, 0, 185, 0, 0, 0, 185, 0, 0, 0, 185, 0, 0, 0, 185, 0, 0, 0, 185, 0, 0, 0, 185, 0, 0, 0, 185, 0, 0, 0, 179, 0, 0, 0, 128, 0, 0, 0, 121, 0, 0, 0, 185, 0, 0, 0, 141, 0, 0, 0, 165, 0, 0, 0, 147]
abbrev dktX4_does_2 : List UInt8 := dkwX4_does_2 ++ dktX4_does_3
def dkwX4_does_1 : List UInt8 := [96, 46, 54, 4, 42, 180, 0, 24, 27, 46]
abbrev dktX4_does_1 : List UInt8 := dkwX4_does_1 ++ dktX4_does_2
def dkwX4_does_0 : List UInt8 := [42, 180, 0, 24, 27, 4, 96, 46, 61, 42, 180, 0, 24, 27, 5, 96, 46, 62, 42, 180, 0, 24, 27, 6]
abbrev dktX4_does_0 : List UInt8 := dkwX4_does_0 ++ dktX4_does_1
theorem dksX4_does_0 : cX4_does.data.toList.drop 0 = dktX4_does_0 := by decide +kernel
theorem dksX4_does_1 : cX4_does.data.toList.drop 24 = dktX4_does_1 := dk_seg dksX4_does_0 24 rfl rfl
theorem dksX4_does_2 : cX4_does.data.toList.drop 34 = dktX4_does_2 := dk_seg dksX4_does_1 10 rfl rfl
theorem dksX4_does_3 : cX4_does.data.toList.drop 140 = dktX4_does_3 := dk_seg dksX4_does_2 106 rfl rfl
theorem dksX4_does_4 : cX4_does.data.toList.drop 164 = dktX4_does_4 := dk_seg dksX4_does_3 24 rfl rfl
theorem dksX4_does_5 : cX4_does.data.toList.drop 188 = dktX4_does_5 := dk_seg dksX4_does_4 24 rfl rfl
theorem dksX4_does_6 : cX4_does.data.toList.drop 212 = dktX4_does_6 := dk_seg dksX4_does_5 24 rfl rfl
theorem dX4_does_0 : decode cX4_does 0 = .ok (.aload_n 0, 1) := dk_42 (dk_at dksX4_does_0 0 rfl rfl)
theorem dX4_does_1 : decode cX4_does 1 = .ok (.getfield 24, 3) := dk_180 0 24 (dk_at dksX4_does_0 1 rfl rfl)
theorem dX4_does_4 : decode cX4_does 4 = .ok (.iload_n 1, 1) := dk_27 (dk_at dksX4_does_0 4 rfl rfl)
theorem dX4_does_5 : decode cX4_does 5 = .ok (.iconst 1, 1) := dk_4 (dk_at dksX4_does_0 5 rfl rfl)
theorem dX4_does_6 : decode cX4_does 6 = .ok (.iadd, 1) := dk_96 (dk_at dksX4_does_0 6 rfl rfl)
theorem dX4_does_7 : decode cX4_does 7 = .ok (.iaload, 1) := dk_46 (dk_at dksX4_does_0 7 rfl rfl)
theorem dX4_does_8 : decode cX4_does 8 = .ok (.istore_n 2, 1) := dk_61 (dk_at dksX4_does_0 8 rfl rfl)
theorem dX4_does_9 : decode cX4_does 9 = .ok (.aload_n 0, 1) := dk_42 (dk_at dksX4_does_0 9 rfl rfl)
theorem dX4_does_10 : decode cX4_does 10 = .ok (.getfield 24, 3) := dk_180 0 24 (dk_at dksX4_does_0 10 rfl rfl)
theorem dX4_does_13 : decode cX4_does 13 = .ok (.iload_n 1, 1) := dk_27 (dk_at dksX4_does_0 13 rfl rfl)
theorem dX4_does_14 : decode cX4_does 14 = .ok (.iconst 2, 1) := dk_5 (dk_at dksX4_does_0 14 rfl rfl)
theorem dX4_does_15 : decode cX4_does 15 = .ok (.iadd, 1) := dk_96 (dk_at dksX4_does_0 15 rfl rfl)
theorem dX4_does_16 : decode cX4_does 16 = .ok (.iaload, 1) := dk_46 (dk_at dksX4_does_0 16 rfl rfl)
theorem dX4_does_17 : decode cX4_does 17 = .ok (.istore_n 3, 1) := dk_62 (dk_at dksX4_does_0 17 rfl rfl)
theorem dX4_does_18 : decode cX4_does 18 = .ok (.aload_n 0, 1) := dk_42 (dk_at dksX4_does_0 18 rfl rfl)
theorem dX4_does_19 : decode cX4_does 19 = .ok (.getfield 24, 3) := dk_180 0 24 (dk_at dksX4_does_0 19 rfl rfl)
theorem dX4_does_22 : decode cX4_does 22 = .ok (.iload_n 1, 1) := dk_27 (dk_at dksX4_does_0 22 rfl rfl)
theorem dX4_does_23 : decode cX4_does 23 = .ok (.iconst 3, 1) := dk_6 (dk_at dksX4_does_0 23 rfl rfl)
theorem dX4_does_24 : decode cX4_does 24 = .ok (.iadd, 1) := dk_96 (dk_at dksX4_does_1 0 rfl rfl)
theorem dX4_does_25 : decode cX4_does 25 = .ok (.iaload, 1) := dk_46 (dk_at dksX4_does_1 1 rfl rfl)
theorem dX4_does_26 : decode cX4_does 26 = .ok (.istore 4, 2) := dk_54 4 (dk_at dksX4_does_1 2 rfl rfl)
theorem dX4_does_28 : decode cX4_does 28 = .ok (.aload_n 0, 1) := dk_42 (dk_at dksX4_does_1 4 rfl rfl)
theorem dX4_does_29 : decode cX4_does 29 = .ok (.getfield 24, 3) := dk_180 0 24 (dk_at dksX4_does_1 5 rfl rfl)
theorem dX4_does_32 : decode cX4_does 32 = .ok (.iload_n 1, 1) := dk_27 (dk_at dksX4_does_1 8 rfl rfl)
theorem dX4_does_33 : decode cX4_does 33 = .ok (.iaload, 1) := dk_46 (dk_at dksX4_does_1 9 rfl rfl)
theorem dX4_does_34 : decode cX4_does 34 = .ok (.tableswitch 185 97 119 #[106, 170, 134, 160, 185, 115, 154, 185, 185, 185, 185, 185, 185, 185, 185, 185, 179, 128, 121, 185, 141, 165, 147], 106) := by decide +kernel
theorem dX4_does_140 : decode cX4_does 140 = .ok (.aload_n 0, 1) := dk_42 (dk_at dksX4_does_3 0 rfl rfl)
theorem dX4_does_141 : decode cX4_does 141 = .ok (.iload_n 2, 1) := dk_28 (dk_at dksX4_does_3 1 rfl rfl)
theorem dX4_does_142 : decode cX4_does 142 = .ok (.iload_n 3, 1) := dk_29 (dk_at dksX4_does_3 2 rfl rfl)
theorem dX4_does_143 : decode cX4_does 143 = .ok (.iload 4, 2) := dk_21 4 (dk_at dksX4_does_3 3 rfl rfl)
theorem dX4_does_145 : decode cX4_does 145 = .ok (.invokevirtual 95, 3) := dk_182 0 95 (dk_at dksX4_does_3 5 rfl rfl)
theorem dX4_does_148 : decode cX4_does 148 = .ok (.ireturn, 1) := dk_172 (dk_at dksX4_does_3 8 rfl rfl)
theorem dX4_does_149 : decode cX4_does 149 = .ok (.aload_n 0, 1) := dk_42 (dk_at dksX4_does_3 9 rfl rfl)
theorem dX4_does_150 : decode cX4_does 150 = .ok (.iload_n 2, 1) := dk_28 (dk_at dksX4_does_3 10 rfl rfl)
theorem dX4_does_151 : decode cX4_does 151 = .ok (.invokevirtual 110, 3) := dk_182 0 110 (dk_at dksX4_does_3 11 rfl rfl)
theorem dX4_does_154 : decode cX4_does 154 = .ok (.ireturn, 1) := dk_172 (dk_at dksX4_does_3 14 rfl rfl)
theorem dX4_does_155 : decode cX4_does 155 = .ok (.aload_n 0, 1) := dk_42 (dk_at dksX4_does_3 15 rfl rfl)
theorem dX4_does_156 : decode cX4_does 156 = .ok (.iload_n 2, 1) := dk_28 (dk_at dksX4_does_3 16 rfl rfl)
theorem dX4_does_157 : decode cX4_does 157 = .ok (.iload_n 3, 1) := dk_29 (dk_at dksX4_does_3 17 rfl rfl)
theorem dX4_does_158 : decode cX4_does 158 = .ok (.invokevirtual 117, 3) := dk_182 0 117 (dk_at dksX4_does_3 18 rfl rfl)
theorem dX4_does_161 : decode cX4_does 161 = .ok (.ireturn, 1) := dk_172 (dk_at dksX4_does_3 21 rfl rfl)
theorem dX4_does_162 : decode cX4_does 162 = .ok (.aload_n 0, 1) := dk_42 (dk_at dksX4_does_3 22 rfl rfl)
theorem dX4_does_163 : decode cX4_does 163 = .ok (.iload_n 2, 1) := dk_28 (dk_at dksX4_does_3 23 rfl rfl)
theorem dX4_does_164 : decode cX4_does 164 = .ok (.invokevirtual 120, 3) := dk_182 0 120 (dk_at dksX4_does_4 0 rfl rfl)
theorem dX4_does_167 : decode cX4_does 167 = .ok (.ireturn, 1) := dk_172 (dk_at dksX4_does_4 3 rfl rfl)
theorem dX4_does_168 : decode cX4_does 168 = .ok (.aload_n 0, 1) := dk_42 (dk_at dksX4_does_4 4 rfl rfl)
theorem dX4_does_169 : decode cX4_does 169 = .ok (.iload_n 2, 1) := dk_28 (dk_at dksX4_does_4 5 rfl rfl)
theorem dX4_does_170 : decode cX4_does 170 = .ok (.iload_n 3, 1) := dk_29 (dk_at dksX4_does_4 6 rfl rfl)
theorem dX4_does_171 : decode cX4_does 171 = .ok (.invokevirtual 123, 3) := dk_182 0 123 (dk_at dksX4_does_4 7 rfl rfl)
theorem dX4_does_174 : decode cX4_does 174 = .ok (.ireturn, 1) := dk_172 (dk_at dksX4_does_4 10 rfl rfl)
theorem dX4_does_175 : decode cX4_does 175 = .ok (.aload_n 0, 1) := dk_42 (dk_at dksX4_does_4 11 rfl rfl)
theorem dX4_does_176 : decode cX4_does 176 = .ok (.iload_n 2, 1) := dk_28 (dk_at dksX4_does_4 12 rfl rfl)
theorem dX4_does_177 : decode cX4_does 177 = .ok (.invokevirtual 126, 3) := dk_182 0 126 (dk_at dksX4_does_4 13 rfl rfl)
theorem dX4_does_180 : decode cX4_does 180 = .ok (.ireturn, 1) := dk_172 (dk_at dksX4_does_4 16 rfl rfl)
theorem dX4_does_181 : decode cX4_does 181 = .ok (.aload_n 0, 1) := dk_42 (dk_at dksX4_does_4 17 rfl rfl)
theorem dX4_does_182 : decode cX4_does 182 = .ok (.iload_n 2, 1) := dk_28 (dk_at dksX4_does_4 18 rfl rfl)
theorem dX4_does_183 : decode cX4_does 183 = .ok (.iload_n 3, 1) := dk_29 (dk_at dksX4_does_4 19 rfl rfl)
theorem dX4_does_184 : decode cX4_does 184 = .ok (.invokevirtual 135, 3) := dk_182 0 135 (dk_at dksX4_does_4 20 rfl rfl)
theorem dX4_does_187 : decode cX4_does 187 = .ok (.ireturn, 1) := dk_172 (dk_at dksX4_does_4 23 rfl rfl)
theorem dX4_does_188 : decode cX4_does 188 = .ok (.aload_n 0, 1) := dk_42 (dk_at dksX4_does_5 0 rfl rfl)
theorem dX4_does_189 : decode cX4_does 189 = .ok (.iload_n 2, 1) := dk_28 (dk_at dksX4_does_5 1 rfl rfl)
theorem dX4_does_190 : decode cX4_does 190 = .ok (.invokevirtual 138, 3) := dk_182 0 138 (dk_at dksX4_does_5 2 rfl rfl)
theorem dX4_does_193 : decode cX4_does 193 = .ok (.ireturn, 1) := dk_172 (dk_at dksX4_does_5 5 rfl rfl)
theorem dX4_does_194 : decode cX4_does 194 = .ok (.aload_n 0, 1) := dk_42 (dk_at dksX4_does_5 6 rfl rfl)
theorem dX4_does_195 : decode cX4_does 195 = .ok (.invokevirtual 141, 3) := dk_182 0 141 (dk_at dksX4_does_5 7 rfl rfl)
theorem dX4_does_198 : decode cX4_does 198 = .ok (.ireturn, 1) := dk_172 (dk_at dksX4_does_5 10 rfl rfl)
theorem dX4_does_199 : decode cX4_does 199 = .ok (.aload_n 0, 1) := dk_42 (dk_at dksX4_does_5 11 rfl rfl)
theorem dX4_does_200 : decode cX4_does 200 = .ok (.invokevirtual 144, 3) := dk_182 0 144 (dk_at dksX4_does_5 12 rfl rfl)
theorem dX4_does_203 : decode cX4_does 203 = .ok (.ireturn, 1) := dk_172 (dk_at dksX4_does_5 15 rfl rfl)
theorem dX4_does_204 : decode cX4_does 204 = .ok (.aload_n 0, 1) := dk_42 (dk_at dksX4_does_5 16 rfl rfl)
theorem dX4_does_205 : decode cX4_does 205 = .ok (.iload_n 2, 1) := dk_28 (dk_at dksX4_does_5 17 rfl rfl)
theorem dX4_does_206 : decode cX4_does 206 = .ok (.iload_n 3, 1) := dk_29 (dk_at dksX4_does_5 18 rfl rfl)
theorem dX4_does_207 : decode cX4_does 207 = .ok (.iload 4, 2) := dk_21 4 (dk_at dksX4_does_5 19 rfl rfl)
theorem dX4_does_209 : decode cX4_does 209 = .ok (.invokevirtual 156, 3) := dk_182 0 156 (dk_at dksX4_does_5 21 rfl rfl)
theorem dX4_does_212 : decode cX4_does 212 = .ok (.ireturn, 1) := dk_172 (dk_at dksX4_does_6 0 rfl rfl)
theorem dX4_does_213 : decode cX4_does 213 = .ok (.aload_n 0, 1) := dk_42 (dk_at dksX4_does_6 1 rfl rfl)
theorem dX4_does_214 : decode cX4_does 214 = .ok (.iload_n 2, 1) := dk_28 (dk_at dksX4_does_6 2 rfl rfl)
theorem dX4_does_215 : decode cX4_does 215 = .ok (.invokevirtual 162, 3) := dk_182 0 162 (dk_at dksX4_does_6 3 rfl rfl)
theorem dX4_does_218 : decode cX4_does 218 = .ok (.ireturn, 1) := dk_172 (dk_at dksX4_does_6 6 rfl rfl)
theorem dX4_does_219 : decode cX4_does 219 = .ok (.aload_n 0, 1) := dk_42 (dk_at dksX4_does_6 7 rfl rfl)
theorem dX4_does_220 : decode cX4_does 220 = .ok (.iload_n 2, 1) := dk_28 (dk_at dksX4_does_6 8 rfl rfl)
theorem dX4_does_221 : decode cX4_does 221 = .ok (.invokevirtual 168, 3) := dk_182 0 168 (dk_at dksX4_does_6 9 rfl rfl)
theorem dX4_does_224 : decode cX4_does 224 = .ok (.ireturn, 1) := dk_172 (dk_at dksX4_does_6 12 rfl rfl)
abbrev cX4_syntaxErrorOffset : ByteArray := prog_20_method_115_code
def yX4_syntaxErrorOffset : MethodName := ⟨RX4, "syntaxErrorOffset", "()I"⟩
def dkwX4_syntaxErrorOffset_1 : List UInt8 := [167, 0, 4, 3, 172]
abbrev dktX4_syntaxErrorOffset_1 : List UInt8 := dkwX4_syntaxErrorOffset_1 ++ []
def dkwX4_syntaxErrorOffset_0 : List UInt8 := [42, 42, 180, 0, 20, 2, 159, 0, 7, 4, 167, 0, 4, 3, 182, 0, 49, 153, 0, 10, 42, 180, 0, 20]
abbrev dktX4_syntaxErrorOffset_0 : List UInt8 := dkwX4_syntaxErrorOffset_0 ++ dktX4_syntaxErrorOffset_1
theorem dksX4_syntaxErrorOffset_0 : cX4_syntaxErrorOffset.data.toList.drop 0 = dktX4_syntaxErrorOffset_0 := by decide +kernel
theorem dksX4_syntaxErrorOffset_1 : cX4_syntaxErrorOffset.data.toList.drop 24 = dktX4_syntaxErrorOffset_1 := dk_seg dksX4_syntaxErrorOffset_0 24 rfl rfl
theorem dX4_syntaxErrorOffset_0 : decode cX4_syntaxErrorOffset 0 = .ok (.aload_n 0, 1) := dk_42 (dk_at dksX4_syntaxErrorOffset_0 0 rfl rfl)
theorem dX4_syntaxErrorOffset_1 : decode cX4_syntaxErrorOffset 1 = .ok (.aload_n 0, 1) := dk_42 (dk_at dksX4_syntaxErrorOffset_0 1 rfl rfl)
theorem dX4_syntaxErrorOffset_2 : decode cX4_syntaxErrorOffset 2 = .ok (.getfield 20, 3) := dk_180 0 20 (dk_at dksX4_syntaxErrorOffset_0 2 rfl rfl)
theorem dX4_syntaxErrorOffset_5 : decode cX4_syntaxErrorOffset 5 = .ok (.iconst (-1), 1) := dk_2 (dk_at dksX4_syntaxErrorOffset_0 5 rfl rfl)
theorem dX4_syntaxErrorOffset_6 : decode cX4_syntaxErrorOffset 6 = .ok (.if_icmp .eq 7, 3) := dk_159 0 7 (dk_at dksX4_syntaxErrorOffset_0 6 rfl rfl)
theorem dX4_syntaxErrorOffset_9 : decode cX4_syntaxErrorOffset 9 = .ok (.iconst 1, 1) := dk_4 (dk_at dksX4_syntaxErrorOffset_0 9 rfl rfl)
theorem dX4_syntaxErrorOffset_10 : decode cX4_syntaxErrorOffset 10 = .ok (.goto 4, 3) := dk_167 0 4 (dk_at dksX4_syntaxErrorOffset_0 10 rfl rfl)
theorem dX4_syntaxErrorOffset_13 : decode cX4_syntaxErrorOffset 13 = .ok (.iconst 0, 1) := dk_3 (dk_at dksX4_syntaxErrorOffset_0 13 rfl rfl)
theorem dX4_syntaxErrorOffset_14 : decode cX4_syntaxErrorOffset 14 = .ok (.invokevirtual 49, 3) := dk_182 0 49 (dk_at dksX4_syntaxErrorOffset_0 14 rfl rfl)
theorem dX4_syntaxErrorOffset_17 : decode cX4_syntaxErrorOffset 17 = .ok (.ifCond .eq 10, 3) := dk_153 0 10 (dk_at dksX4_syntaxErrorOffset_0 17 rfl rfl)
theorem dX4_syntaxErrorOffset_20 : decode cX4_syntaxErrorOffset 20 = .ok (.aload_n 0, 1) := dk_42 (dk_at dksX4_syntaxErrorOffset_0 20 rfl rfl)
theorem dX4_syntaxErrorOffset_21 : decode cX4_syntaxErrorOffset 21 = .ok (.getfield 20, 3) := dk_180 0 20 (dk_at dksX4_syntaxErrorOffset_0 21 rfl rfl)
theorem dX4_syntaxErrorOffset_24 : decode cX4_syntaxErrorOffset 24 = .ok (.goto 4, 3) := dk_167 0 4 (dk_at dksX4_syntaxErrorOffset_1 0 rfl rfl)
theorem dX4_syntaxErrorOffset_27 : decode cX4_syntaxErrorOffset 27 = .ok (.iconst 0, 1) := dk_3 (dk_at dksX4_syntaxErrorOffset_1 3 rfl rfl)
theorem dX4_syntaxErrorOffset_28 : decode cX4_syntaxErrorOffset 28 = .ok (.ireturn, 1) := dk_172 (dk_at dksX4_syntaxErrorOffset_1 4 rfl rfl)
abbrev cX4_undo : ByteArray := prog_20_method_116_code
def yX4_undo : MethodName := ⟨RX4, "undo", "()I"⟩
def dkwX4_undo_1 : List UInt8 := [180, 0, 34, 3, 182, 0, 30, 42, 89, 180, 0, 34, 4, 100, 181, 0, 34, 42, 180, 0, 34, 172]
abbrev dktX4_undo_1 : List UInt8 := dkwX4_undo_1 ++ []
def dkwX4_undo_0 : List UInt8 := [42, 42, 180, 0, 34, 158, 0, 7, 4, 167, 0, 4, 3, 182, 0, 49, 154, 0, 5, 3, 172, 42, 42]
abbrev dktX4_undo_0 : List UInt8 := dkwX4_undo_0 ++ dktX4_undo_1
theorem dksX4_undo_0 : cX4_undo.data.toList.drop 0 = dktX4_undo_0 := by decide +kernel
theorem dksX4_undo_1 : cX4_undo.data.toList.drop 23 = dktX4_undo_1 := dk_seg dksX4_undo_0 23 rfl rfl
theorem dX4_undo_0 : decode cX4_undo 0 = .ok (.aload_n 0, 1) := dk_42 (dk_at dksX4_undo_0 0 rfl rfl)
theorem dX4_undo_1 : decode cX4_undo 1 = .ok (.aload_n 0, 1) := dk_42 (dk_at dksX4_undo_0 1 rfl rfl)
theorem dX4_undo_2 : decode cX4_undo 2 = .ok (.getfield 34, 3) := dk_180 0 34 (dk_at dksX4_undo_0 2 rfl rfl)
theorem dX4_undo_5 : decode cX4_undo 5 = .ok (.ifCond .le 7, 3) := dk_158 0 7 (dk_at dksX4_undo_0 5 rfl rfl)
theorem dX4_undo_8 : decode cX4_undo 8 = .ok (.iconst 1, 1) := dk_4 (dk_at dksX4_undo_0 8 rfl rfl)
theorem dX4_undo_9 : decode cX4_undo 9 = .ok (.goto 4, 3) := dk_167 0 4 (dk_at dksX4_undo_0 9 rfl rfl)
theorem dX4_undo_12 : decode cX4_undo 12 = .ok (.iconst 0, 1) := dk_3 (dk_at dksX4_undo_0 12 rfl rfl)
theorem dX4_undo_13 : decode cX4_undo 13 = .ok (.invokevirtual 49, 3) := dk_182 0 49 (dk_at dksX4_undo_0 13 rfl rfl)
theorem dX4_undo_16 : decode cX4_undo 16 = .ok (.ifCond .ne 5, 3) := dk_154 0 5 (dk_at dksX4_undo_0 16 rfl rfl)
theorem dX4_undo_19 : decode cX4_undo 19 = .ok (.iconst 0, 1) := dk_3 (dk_at dksX4_undo_0 19 rfl rfl)
theorem dX4_undo_20 : decode cX4_undo 20 = .ok (.ireturn, 1) := dk_172 (dk_at dksX4_undo_0 20 rfl rfl)
theorem dX4_undo_21 : decode cX4_undo 21 = .ok (.aload_n 0, 1) := dk_42 (dk_at dksX4_undo_0 21 rfl rfl)
theorem dX4_undo_22 : decode cX4_undo 22 = .ok (.aload_n 0, 1) := dk_42 (dk_at dksX4_undo_0 22 rfl rfl)
theorem dX4_undo_23 : decode cX4_undo 23 = .ok (.getfield 34, 3) := dk_180 0 34 (dk_at dksX4_undo_1 0 rfl rfl)
theorem dX4_undo_26 : decode cX4_undo 26 = .ok (.iconst 0, 1) := dk_3 (dk_at dksX4_undo_1 3 rfl rfl)
theorem dX4_undo_27 : decode cX4_undo 27 = .ok (.invokevirtual 30, 3) := dk_182 0 30 (dk_at dksX4_undo_1 4 rfl rfl)
theorem dX4_undo_30 : decode cX4_undo 30 = .ok (.aload_n 0, 1) := dk_42 (dk_at dksX4_undo_1 7 rfl rfl)
theorem dX4_undo_31 : decode cX4_undo 31 = .ok (.dup, 1) := dk_89 (dk_at dksX4_undo_1 8 rfl rfl)
theorem dX4_undo_32 : decode cX4_undo 32 = .ok (.getfield 34, 3) := dk_180 0 34 (dk_at dksX4_undo_1 9 rfl rfl)
theorem dX4_undo_35 : decode cX4_undo 35 = .ok (.iconst 1, 1) := dk_4 (dk_at dksX4_undo_1 12 rfl rfl)
theorem dX4_undo_36 : decode cX4_undo 36 = .ok (.isub, 1) := dk_100 (dk_at dksX4_undo_1 13 rfl rfl)
theorem dX4_undo_37 : decode cX4_undo 37 = .ok (.putfield 34, 3) := dk_181 0 34 (dk_at dksX4_undo_1 14 rfl rfl)
theorem dX4_undo_40 : decode cX4_undo 40 = .ok (.aload_n 0, 1) := dk_42 (dk_at dksX4_undo_1 17 rfl rfl)
theorem dX4_undo_41 : decode cX4_undo 41 = .ok (.getfield 34, 3) := dk_180 0 34 (dk_at dksX4_undo_1 18 rfl rfl)
theorem dX4_undo_44 : decode cX4_undo 44 = .ok (.ireturn, 1) := dk_172 (dk_at dksX4_undo_1 21 rfl rfl)
abbrev cX4_saveSnapshot : ByteArray := prog_20_method_117_code
def yX4_saveSnapshot : MethodName := ⟨RX4, "saveSnapshot", "()I"⟩
def dkwX4_saveSnapshot_0 : List UInt8 := [42, 3, 181, 0, 27, 42, 4, 181, 0, 239, 42, 3, 16, 9, 182, 0, 30, 42, 180, 0, 9, 3, 46, 172]
abbrev dktX4_saveSnapshot_0 : List UInt8 := dkwX4_saveSnapshot_0 ++ []
theorem dksX4_saveSnapshot_0 : cX4_saveSnapshot.data.toList.drop 0 = dktX4_saveSnapshot_0 := by decide +kernel
theorem dX4_saveSnapshot_0 : decode cX4_saveSnapshot 0 = .ok (.aload_n 0, 1) := dk_42 (dk_at dksX4_saveSnapshot_0 0 rfl rfl)
theorem dX4_saveSnapshot_1 : decode cX4_saveSnapshot 1 = .ok (.iconst 0, 1) := dk_3 (dk_at dksX4_saveSnapshot_0 1 rfl rfl)
theorem dX4_saveSnapshot_2 : decode cX4_saveSnapshot 2 = .ok (.putfield 27, 3) := dk_181 0 27 (dk_at dksX4_saveSnapshot_0 2 rfl rfl)
theorem dX4_saveSnapshot_5 : decode cX4_saveSnapshot 5 = .ok (.aload_n 0, 1) := dk_42 (dk_at dksX4_saveSnapshot_0 5 rfl rfl)
theorem dX4_saveSnapshot_6 : decode cX4_saveSnapshot 6 = .ok (.iconst 1, 1) := dk_4 (dk_at dksX4_saveSnapshot_0 6 rfl rfl)
theorem dX4_saveSnapshot_7 : decode cX4_saveSnapshot 7 = .ok (.putfield 239, 3) := dk_181 0 239 (dk_at dksX4_saveSnapshot_0 7 rfl rfl)
theorem dX4_saveSnapshot_10 : decode cX4_saveSnapshot 10 = .ok (.aload_n 0, 1) := dk_42 (dk_at dksX4_saveSnapshot_0 10 rfl rfl)
theorem dX4_saveSnapshot_11 : decode cX4_saveSnapshot 11 = .ok (.iconst 0, 1) := dk_3 (dk_at dksX4_saveSnapshot_0 11 rfl rfl)
theorem dX4_saveSnapshot_12 : decode cX4_saveSnapshot 12 = .ok (.bipush 9, 2) := dk_16 9 (dk_at dksX4_saveSnapshot_0 12 rfl rfl)
theorem dX4_saveSnapshot_14 : decode cX4_saveSnapshot 14 = .ok (.invokevirtual 30, 3) := dk_182 0 30 (dk_at dksX4_saveSnapshot_0 14 rfl rfl)
theorem dX4_saveSnapshot_17 : decode cX4_saveSnapshot 17 = .ok (.aload_n 0, 1) := dk_42 (dk_at dksX4_saveSnapshot_0 17 rfl rfl)
theorem dX4_saveSnapshot_18 : decode cX4_saveSnapshot 18 = .ok (.getfield 9, 3) := dk_180 0 9 (dk_at dksX4_saveSnapshot_0 18 rfl rfl)
theorem dX4_saveSnapshot_21 : decode cX4_saveSnapshot 21 = .ok (.iconst 0, 1) := dk_3 (dk_at dksX4_saveSnapshot_0 21 rfl rfl)
theorem dX4_saveSnapshot_22 : decode cX4_saveSnapshot 22 = .ok (.iaload, 1) := dk_46 (dk_at dksX4_saveSnapshot_0 22 rfl rfl)
theorem dX4_saveSnapshot_23 : decode cX4_saveSnapshot 23 = .ok (.ireturn, 1) := dk_172 (dk_at dksX4_saveSnapshot_0 23 rfl rfl)
abbrev cX4_restoreSnapshot : ByteArray := prog_20_method_118_code
def yX4_restoreSnapshot : MethodName := ⟨RX4, "restoreSnapshot", "()I"⟩
def dkwX4_restoreSnapshot_1 : List UInt8 := [181, 0, 34, 42, 180, 0, 9, 3, 46, 172]
abbrev dktX4_restoreSnapshot_1 : List UInt8 := dkwX4_restoreSnapshot_1 ++ []
def dkwX4_restoreSnapshot_0 : List UInt8 := [42, 42, 180, 0, 239, 182, 0, 49, 154, 0, 5, 3, 172, 42, 16, 9, 3, 182, 0, 30, 42, 3]
abbrev dktX4_restoreSnapshot_0 : List UInt8 := dkwX4_restoreSnapshot_0 ++ dktX4_restoreSnapshot_1
theorem dksX4_restoreSnapshot_0 : cX4_restoreSnapshot.data.toList.drop 0 = dktX4_restoreSnapshot_0 := by decide +kernel
theorem dksX4_restoreSnapshot_1 : cX4_restoreSnapshot.data.toList.drop 22 = dktX4_restoreSnapshot_1 := dk_seg dksX4_restoreSnapshot_0 22 rfl rfl
theorem dX4_restoreSnapshot_0 : decode cX4_restoreSnapshot 0 = .ok (.aload_n 0, 1) := dk_42 (dk_at dksX4_restoreSnapshot_0 0 rfl rfl)
theorem dX4_restoreSnapshot_1 : decode cX4_restoreSnapshot 1 = .ok (.aload_n 0, 1) := dk_42 (dk_at dksX4_restoreSnapshot_0 1 rfl rfl)
theorem dX4_restoreSnapshot_2 : decode cX4_restoreSnapshot 2 = .ok (.getfield 239, 3) := dk_180 0 239 (dk_at dksX4_restoreSnapshot_0 2 rfl rfl)
theorem dX4_restoreSnapshot_5 : decode cX4_restoreSnapshot 5 = .ok (.invokevirtual 49, 3) := dk_182 0 49 (dk_at dksX4_restoreSnapshot_0 5 rfl rfl)
theorem dX4_restoreSnapshot_8 : decode cX4_restoreSnapshot 8 = .ok (.ifCond .ne 5, 3) := dk_154 0 5 (dk_at dksX4_restoreSnapshot_0 8 rfl rfl)
theorem dX4_restoreSnapshot_11 : decode cX4_restoreSnapshot 11 = .ok (.iconst 0, 1) := dk_3 (dk_at dksX4_restoreSnapshot_0 11 rfl rfl)
theorem dX4_restoreSnapshot_12 : decode cX4_restoreSnapshot 12 = .ok (.ireturn, 1) := dk_172 (dk_at dksX4_restoreSnapshot_0 12 rfl rfl)
theorem dX4_restoreSnapshot_13 : decode cX4_restoreSnapshot 13 = .ok (.aload_n 0, 1) := dk_42 (dk_at dksX4_restoreSnapshot_0 13 rfl rfl)
theorem dX4_restoreSnapshot_14 : decode cX4_restoreSnapshot 14 = .ok (.bipush 9, 2) := dk_16 9 (dk_at dksX4_restoreSnapshot_0 14 rfl rfl)
theorem dX4_restoreSnapshot_16 : decode cX4_restoreSnapshot 16 = .ok (.iconst 0, 1) := dk_3 (dk_at dksX4_restoreSnapshot_0 16 rfl rfl)
theorem dX4_restoreSnapshot_17 : decode cX4_restoreSnapshot 17 = .ok (.invokevirtual 30, 3) := dk_182 0 30 (dk_at dksX4_restoreSnapshot_0 17 rfl rfl)
theorem dX4_restoreSnapshot_20 : decode cX4_restoreSnapshot 20 = .ok (.aload_n 0, 1) := dk_42 (dk_at dksX4_restoreSnapshot_0 20 rfl rfl)
theorem dX4_restoreSnapshot_21 : decode cX4_restoreSnapshot 21 = .ok (.iconst 0, 1) := dk_3 (dk_at dksX4_restoreSnapshot_0 21 rfl rfl)
theorem dX4_restoreSnapshot_22 : decode cX4_restoreSnapshot 22 = .ok (.putfield 34, 3) := dk_181 0 34 (dk_at dksX4_restoreSnapshot_1 0 rfl rfl)
theorem dX4_restoreSnapshot_25 : decode cX4_restoreSnapshot 25 = .ok (.aload_n 0, 1) := dk_42 (dk_at dksX4_restoreSnapshot_1 3 rfl rfl)
theorem dX4_restoreSnapshot_26 : decode cX4_restoreSnapshot 26 = .ok (.getfield 9, 3) := dk_180 0 9 (dk_at dksX4_restoreSnapshot_1 4 rfl rfl)
theorem dX4_restoreSnapshot_29 : decode cX4_restoreSnapshot 29 = .ok (.iconst 0, 1) := dk_3 (dk_at dksX4_restoreSnapshot_1 7 rfl rfl)
theorem dX4_restoreSnapshot_30 : decode cX4_restoreSnapshot 30 = .ok (.iaload, 1) := dk_46 (dk_at dksX4_restoreSnapshot_1 8 rfl rfl)
theorem dX4_restoreSnapshot_31 : decode cX4_restoreSnapshot 31 = .ok (.ireturn, 1) := dk_172 (dk_at dksX4_restoreSnapshot_1 9 rfl rfl)
theorem q87 : (Jvm.Cond.initialized "WindFarmDispatcherModel") ∈ lw_all := lw_g (lw_at lw_m1 12 rfl) rfl
theorem q616 : (Jvm.Cond.selects "WindFarmDispatcherModel" ({ cls := "java/lang/Object", name := "getClass", desc := "()Ljava/lang/Class;" } : Jvm.MethodName) ({ cls := "java/lang/Object", name := "getClass", desc := "()Ljava/lang/Class;" } : Jvm.MethodName)) ∈ lw_all := lw_g (lw_at lw_m3 61 rfl) rfl
theorem q1971 : (Jvm.Cond.instantiable "WindFarmDispatcherModel" (17 : Nat)) ∈ lw_all := lw_g (lw_at lw_m8 216 rfl) rfl
theorem q1973 : (Jvm.Cond.instanceMethod ({ cls := "WindFarmDispatcherModel", name := "<init>", desc := "()V" } : Jvm.MethodName)) ∈ lw_all := lw_g (lw_at lw_m8 218 rfl) rfl
theorem q1974 : (Jvm.Cond.code ({ cls := "WindFarmDispatcherModel", name := "<init>", desc := "()V" } : Jvm.MethodName) prog_20_method_1_code (1 : Nat) (Option.none : Option Jvm.ClassFile.FieldType)) ∈ lw_all := lw_g (lw_at lw_m8 219 rfl) rfl
theorem q1975 : (Jvm.Cond.methodLink "WindFarmDispatcherModel" (1 : Nat) ({ cls := "java/lang/Object", name := "<init>", desc := "()V" } : Jvm.MethodName)) ∈ lw_all := lw_g (lw_at lw_m8 220 rfl) rfl
theorem q1976 : (Jvm.Cond.fieldLink "WindFarmDispatcherModel" (27 : Nat) "WindFarmDispatcherModel" "thrown" "I") ∈ lw_all := lw_g (lw_at lw_m8 221 rfl) rfl
theorem q1977 : (Jvm.Cond.fieldLink "WindFarmDispatcherModel" (9 : Nat) "WindFarmDispatcherModel" "all" "[I") ∈ lw_all := lw_g (lw_at lw_m8 222 rfl) rfl
theorem q1978 : (Jvm.Cond.fieldLink "WindFarmDispatcherModel" (34 : Nat) "WindFarmDispatcherModel" "changes" "I") ∈ lw_all := lw_g (lw_at lw_m8 223 rfl) rfl
theorem q1979 : (Jvm.Cond.fieldLink "WindFarmDispatcherModel" (239 : Nat) "WindFarmDispatcherModel" "isSaved" "Z") ∈ lw_all := lw_g (lw_at lw_m8 224 rfl) rfl
theorem q1980 : (Jvm.Cond.fieldLink "WindFarmDispatcherModel" (37 : Nat) "WindFarmDispatcherModel" "result" "I") ∈ lw_all := lw_g (lw_at lw_m8 225 rfl) rfl
theorem q1981 : (Jvm.Cond.fieldLink "WindFarmDispatcherModel" (40 : Nat) "WindFarmDispatcherModel" "why" "I") ∈ lw_all := lw_g (lw_at lw_m8 226 rfl) rfl
theorem q1982 : (Jvm.Cond.fieldLink "WindFarmDispatcherModel" (43 : Nat) "WindFarmDispatcherModel" "detail" "I") ∈ lw_all := lw_g (lw_at lw_m8 227 rfl) rfl
theorem q1983 : (Jvm.Cond.fieldLink "WindFarmDispatcherModel" (46 : Nat) "WindFarmDispatcherModel" "cause" "I") ∈ lw_all := lw_g (lw_at lw_m8 228 rfl) rfl
theorem q1984 : (Jvm.Cond.fieldLink "WindFarmDispatcherModel" (13 : Nat) "WindFarmDispatcherModel" "line" "[C") ∈ lw_all := lw_g (lw_at lw_m8 229 rfl) rfl
theorem q1985 : (Jvm.Cond.fieldLink "WindFarmDispatcherModel" (187 : Nat) "WindFarmDispatcherModel" "lineSize" "I") ∈ lw_all := lw_g (lw_at lw_m8 230 rfl) rfl
theorem q1986 : (Jvm.Cond.fieldLink "WindFarmDispatcherModel" (17 : Nat) "WindFarmDispatcherModel" "input" "[C") ∈ lw_all := lw_g (lw_at lw_m8 231 rfl) rfl
theorem q1987 : (Jvm.Cond.fieldLink "WindFarmDispatcherModel" (200 : Nat) "WindFarmDispatcherModel" "typed" "I") ∈ lw_all := lw_g (lw_at lw_m8 232 rfl) rfl
theorem q1988 : (Jvm.Cond.fieldLink "WindFarmDispatcherModel" (203 : Nat) "WindFarmDispatcherModel" "here" "I") ∈ lw_all := lw_g (lw_at lw_m8 233 rfl) rfl
theorem q1989 : (Jvm.Cond.fieldLink "WindFarmDispatcherModel" (206 : Nat) "WindFarmDispatcherModel" "error" "I") ∈ lw_all := lw_g (lw_at lw_m8 234 rfl) rfl
theorem q1990 : (Jvm.Cond.fieldLink "WindFarmDispatcherModel" (20 : Nat) "WindFarmDispatcherModel" "errorAt" "I") ∈ lw_all := lw_g (lw_at lw_m8 235 rfl) rfl
theorem q1991 : (Jvm.Cond.fieldLink "WindFarmDispatcherModel" (24 : Nat) "WindFarmDispatcherModel" "commands" "[I") ∈ lw_all := lw_g (lw_at lw_m8 236 rfl) rfl
theorem q1992 : (Jvm.Cond.fieldLink "WindFarmDispatcherModel" (218 : Nat) "WindFarmDispatcherModel" "commandMany" "I") ∈ lw_all := lw_g (lw_at lw_m8 237 rfl) rfl
theorem q1993 : (Jvm.Cond.lays "WindFarmDispatcherModel" "WindFarmDispatcherModel" "thrown" "I") ∈ lw_all := lw_g (lw_at lw_m8 238 rfl) rfl
theorem q1994 : (Jvm.Cond.soleField "WindFarmDispatcherModel" "thrown") ∈ lw_all := lw_g (lw_at lw_m8 239 rfl) rfl
theorem q1995 : (Jvm.Cond.laysFinal "WindFarmDispatcherModel" "WindFarmDispatcherModel" "all" "[I") ∈ lw_all := lw_g (lw_at lw_m9 0 rfl) rfl
theorem q1996 : (Jvm.Cond.soleField "WindFarmDispatcherModel" "all") ∈ lw_all := lw_g (lw_at lw_m9 1 rfl) rfl
theorem q1997 : (Jvm.Cond.lays "WindFarmDispatcherModel" "WindFarmDispatcherModel" "changes" "I") ∈ lw_all := lw_g (lw_at lw_m9 2 rfl) rfl
theorem q1998 : (Jvm.Cond.soleField "WindFarmDispatcherModel" "changes") ∈ lw_all := lw_g (lw_at lw_m9 3 rfl) rfl
theorem q1999 : (Jvm.Cond.lays "WindFarmDispatcherModel" "WindFarmDispatcherModel" "isSaved" "Z") ∈ lw_all := lw_g (lw_at lw_m9 4 rfl) rfl
theorem q2000 : (Jvm.Cond.soleField "WindFarmDispatcherModel" "isSaved") ∈ lw_all := lw_g (lw_at lw_m9 5 rfl) rfl
theorem q2001 : (Jvm.Cond.lays "WindFarmDispatcherModel" "WindFarmDispatcherModel" "result" "I") ∈ lw_all := lw_g (lw_at lw_m9 6 rfl) rfl
theorem q2002 : (Jvm.Cond.soleField "WindFarmDispatcherModel" "result") ∈ lw_all := lw_g (lw_at lw_m9 7 rfl) rfl
theorem q2003 : (Jvm.Cond.lays "WindFarmDispatcherModel" "WindFarmDispatcherModel" "why" "I") ∈ lw_all := lw_g (lw_at lw_m9 8 rfl) rfl
theorem q2004 : (Jvm.Cond.soleField "WindFarmDispatcherModel" "why") ∈ lw_all := lw_g (lw_at lw_m9 9 rfl) rfl
theorem q2005 : (Jvm.Cond.lays "WindFarmDispatcherModel" "WindFarmDispatcherModel" "detail" "I") ∈ lw_all := lw_g (lw_at lw_m9 10 rfl) rfl
theorem q2006 : (Jvm.Cond.soleField "WindFarmDispatcherModel" "detail") ∈ lw_all := lw_g (lw_at lw_m9 11 rfl) rfl
theorem q2007 : (Jvm.Cond.lays "WindFarmDispatcherModel" "WindFarmDispatcherModel" "cause" "I") ∈ lw_all := lw_g (lw_at lw_m9 12 rfl) rfl
theorem q2008 : (Jvm.Cond.soleField "WindFarmDispatcherModel" "cause") ∈ lw_all := lw_g (lw_at lw_m9 13 rfl) rfl
theorem q2009 : (Jvm.Cond.laysFinal "WindFarmDispatcherModel" "WindFarmDispatcherModel" "line" "[C") ∈ lw_all := lw_g (lw_at lw_m9 14 rfl) rfl
theorem q2010 : (Jvm.Cond.soleField "WindFarmDispatcherModel" "line") ∈ lw_all := lw_g (lw_at lw_m9 15 rfl) rfl
theorem q2011 : (Jvm.Cond.lays "WindFarmDispatcherModel" "WindFarmDispatcherModel" "lineSize" "I") ∈ lw_all := lw_g (lw_at lw_m9 16 rfl) rfl
theorem q2012 : (Jvm.Cond.soleField "WindFarmDispatcherModel" "lineSize") ∈ lw_all := lw_g (lw_at lw_m9 17 rfl) rfl
theorem q2013 : (Jvm.Cond.laysFinal "WindFarmDispatcherModel" "WindFarmDispatcherModel" "input" "[C") ∈ lw_all := lw_g (lw_at lw_m9 18 rfl) rfl
theorem q2014 : (Jvm.Cond.soleField "WindFarmDispatcherModel" "input") ∈ lw_all := lw_g (lw_at lw_m9 19 rfl) rfl
theorem q2015 : (Jvm.Cond.lays "WindFarmDispatcherModel" "WindFarmDispatcherModel" "typed" "I") ∈ lw_all := lw_g (lw_at lw_m9 20 rfl) rfl
theorem q2016 : (Jvm.Cond.soleField "WindFarmDispatcherModel" "typed") ∈ lw_all := lw_g (lw_at lw_m9 21 rfl) rfl
theorem q2017 : (Jvm.Cond.lays "WindFarmDispatcherModel" "WindFarmDispatcherModel" "here" "I") ∈ lw_all := lw_g (lw_at lw_m9 22 rfl) rfl
theorem q2018 : (Jvm.Cond.soleField "WindFarmDispatcherModel" "here") ∈ lw_all := lw_g (lw_at lw_m9 23 rfl) rfl
theorem q2019 : (Jvm.Cond.lays "WindFarmDispatcherModel" "WindFarmDispatcherModel" "error" "I") ∈ lw_all := lw_g (lw_at lw_m9 24 rfl) rfl
theorem q2020 : (Jvm.Cond.soleField "WindFarmDispatcherModel" "error") ∈ lw_all := lw_g (lw_at lw_m9 25 rfl) rfl
theorem q2021 : (Jvm.Cond.lays "WindFarmDispatcherModel" "WindFarmDispatcherModel" "errorAt" "I") ∈ lw_all := lw_g (lw_at lw_m9 26 rfl) rfl
theorem q2022 : (Jvm.Cond.soleField "WindFarmDispatcherModel" "errorAt") ∈ lw_all := lw_g (lw_at lw_m9 27 rfl) rfl
theorem q2023 : (Jvm.Cond.laysFinal "WindFarmDispatcherModel" "WindFarmDispatcherModel" "commands" "[I") ∈ lw_all := lw_g (lw_at lw_m9 28 rfl) rfl
theorem q2024 : (Jvm.Cond.soleField "WindFarmDispatcherModel" "commands") ∈ lw_all := lw_g (lw_at lw_m9 29 rfl) rfl
theorem q2025 : (Jvm.Cond.lays "WindFarmDispatcherModel" "WindFarmDispatcherModel" "commandMany" "I") ∈ lw_all := lw_g (lw_at lw_m9 30 rfl) rfl
theorem q2026 : (Jvm.Cond.soleField "WindFarmDispatcherModel" "commandMany") ∈ lw_all := lw_g (lw_at lw_m9 31 rfl) rfl
theorem q2027 : (Jvm.Cond.superclass "WindFarmDispatcherModel" "java/lang/Object") ∈ lw_all := lw_g (lw_at lw_m9 32 rfl) rfl
theorem q2030 : (Jvm.Cond.instanceMethod ({ cls := "WindFarmDispatcherModel", name := "thrown", desc := "()I" } : Jvm.MethodName)) ∈ lw_all := lw_g (lw_at lw_m9 35 rfl) rfl
theorem q2031 : (Jvm.Cond.selects "WindFarmDispatcherModel" ({ cls := "WindFarmDispatcherModel", name := "thrown", desc := "()I" } : Jvm.MethodName) ({ cls := "WindFarmDispatcherModel", name := "thrown", desc := "()I" } : Jvm.MethodName)) ∈ lw_all := lw_g (lw_at lw_m9 36 rfl) rfl
theorem q2032 : (Jvm.Cond.code ({ cls := "WindFarmDispatcherModel", name := "thrown", desc := "()I" } : Jvm.MethodName) prog_20_method_2_code (1 : Nat) (Option.some Jvm.ClassFile.FieldType.int)) ∈ lw_all := lw_g (lw_at lw_m9 37 rfl) rfl
theorem q2034 : (Jvm.Cond.instanceMethod ({ cls := "WindFarmDispatcherModel", name := "rejectionReason", desc := "()I" } : Jvm.MethodName)) ∈ lw_all := lw_g (lw_at lw_m9 39 rfl) rfl
theorem q2035 : (Jvm.Cond.selects "WindFarmDispatcherModel" ({ cls := "WindFarmDispatcherModel", name := "rejectionReason", desc := "()I" } : Jvm.MethodName) ({ cls := "WindFarmDispatcherModel", name := "rejectionReason", desc := "()I" } : Jvm.MethodName)) ∈ lw_all := lw_g (lw_at lw_m9 40 rfl) rfl
theorem q2036 : (Jvm.Cond.code ({ cls := "WindFarmDispatcherModel", name := "rejectionReason", desc := "()I" } : Jvm.MethodName) prog_20_method_9_code (1 : Nat) (Option.some Jvm.ClassFile.FieldType.int)) ∈ lw_all := lw_g (lw_at lw_m9 41 rfl) rfl
theorem q2037 : (Jvm.Cond.methodLink "WindFarmDispatcherModel" (49 : Nat) ({ cls := "WindFarmDispatcherModel", name := "isFine", desc := "(Z)Z" } : Jvm.MethodName)) ∈ lw_all := lw_g (lw_at lw_m9 42 rfl) rfl
theorem q2038 : (Jvm.Cond.privateMethod ({ cls := "WindFarmDispatcherModel", name := "isFine", desc := "(Z)Z" } : Jvm.MethodName)) ∈ lw_tbl := lw_at lw_m9 43 rfl
theorem q2039 : (Jvm.Cond.instanceMethod ({ cls := "WindFarmDispatcherModel", name := "isFine", desc := "(Z)Z" } : Jvm.MethodName)) ∈ lw_all := lw_g (lw_at lw_m9 44 rfl) rfl
theorem q2040 : (Jvm.Cond.code ({ cls := "WindFarmDispatcherModel", name := "isFine", desc := "(Z)Z" } : Jvm.MethodName) prog_20_method_7_code (2 : Nat) (Option.some Jvm.ClassFile.FieldType.boolean)) ∈ lw_all := lw_g (lw_at lw_m9 45 rfl) rfl
theorem q2042 : (Jvm.Cond.instanceMethod ({ cls := "WindFarmDispatcherModel", name := "rejectionDetail", desc := "()I" } : Jvm.MethodName)) ∈ lw_all := lw_g (lw_at lw_m9 47 rfl) rfl
theorem q2043 : (Jvm.Cond.selects "WindFarmDispatcherModel" ({ cls := "WindFarmDispatcherModel", name := "rejectionDetail", desc := "()I" } : Jvm.MethodName) ({ cls := "WindFarmDispatcherModel", name := "rejectionDetail", desc := "()I" } : Jvm.MethodName)) ∈ lw_all := lw_g (lw_at lw_m9 48 rfl) rfl
theorem q2044 : (Jvm.Cond.code ({ cls := "WindFarmDispatcherModel", name := "rejectionDetail", desc := "()I" } : Jvm.MethodName) prog_20_method_10_code (1 : Nat) (Option.some Jvm.ClassFile.FieldType.int)) ∈ lw_all := lw_g (lw_at lw_m9 49 rfl) rfl
theorem q2046 : (Jvm.Cond.instanceMethod ({ cls := "WindFarmDispatcherModel", name := "causeReason", desc := "()I" } : Jvm.MethodName)) ∈ lw_all := lw_g (lw_at lw_m9 51 rfl) rfl
theorem q2047 : (Jvm.Cond.selects "WindFarmDispatcherModel" ({ cls := "WindFarmDispatcherModel", name := "causeReason", desc := "()I" } : Jvm.MethodName) ({ cls := "WindFarmDispatcherModel", name := "causeReason", desc := "()I" } : Jvm.MethodName)) ∈ lw_all := lw_g (lw_at lw_m9 52 rfl) rfl
theorem q2048 : (Jvm.Cond.code ({ cls := "WindFarmDispatcherModel", name := "causeReason", desc := "()I" } : Jvm.MethodName) prog_20_method_11_code (1 : Nat) (Option.some Jvm.ClassFile.FieldType.int)) ∈ lw_all := lw_g (lw_at lw_m9 53 rfl) rfl
theorem q2050 : (Jvm.Cond.instanceMethod ({ cls := "WindFarmDispatcherModel", name := "addTurbine", desc := "(III)I" } : Jvm.MethodName)) ∈ lw_all := lw_g (lw_at lw_m9 55 rfl) rfl
theorem q2051 : (Jvm.Cond.selects "WindFarmDispatcherModel" ({ cls := "WindFarmDispatcherModel", name := "addTurbine", desc := "(III)I" } : Jvm.MethodName) ({ cls := "WindFarmDispatcherModel", name := "addTurbine", desc := "(III)I" } : Jvm.MethodName)) ∈ lw_all := lw_g (lw_at lw_m9 56 rfl) rfl
theorem q2052 : (Jvm.Cond.code ({ cls := "WindFarmDispatcherModel", name := "addTurbine", desc := "(III)I" } : Jvm.MethodName) prog_20_method_28_code (4 : Nat) (Option.some Jvm.ClassFile.FieldType.int)) ∈ lw_all := lw_g (lw_at lw_m9 57 rfl) rfl
theorem q2053 : (Jvm.Cond.methodLink "WindFarmDispatcherModel" (92 : Nat) ({ cls := "WindFarmDispatcherModel", name := "begins", desc := "()V" } : Jvm.MethodName)) ∈ lw_all := lw_g (lw_at lw_m9 58 rfl) rfl
theorem q2054 : (Jvm.Cond.privateMethod ({ cls := "WindFarmDispatcherModel", name := "begins", desc := "()V" } : Jvm.MethodName)) ∈ lw_tbl := lw_at lw_m9 59 rfl
theorem q2055 : (Jvm.Cond.instanceMethod ({ cls := "WindFarmDispatcherModel", name := "begins", desc := "()V" } : Jvm.MethodName)) ∈ lw_all := lw_g (lw_at lw_m9 60 rfl) rfl
theorem q2056 : (Jvm.Cond.code ({ cls := "WindFarmDispatcherModel", name := "begins", desc := "()V" } : Jvm.MethodName) prog_20_method_5_code (1 : Nat) (Option.none : Option Jvm.ClassFile.FieldType)) ∈ lw_all := lw_g (lw_at lw_m9 61 rfl) rfl
theorem q2057 : (Jvm.Cond.methodLink "WindFarmDispatcherModel" (30 : Nat) ({ cls := "WindFarmDispatcherModel", name := "copies", desc := "(II)V" } : Jvm.MethodName)) ∈ lw_all := lw_g (lw_at lw_m9 62 rfl) rfl
theorem q2058 : (Jvm.Cond.privateMethod ({ cls := "WindFarmDispatcherModel", name := "copies", desc := "(II)V" } : Jvm.MethodName)) ∈ lw_tbl := lw_at lw_m9 63 rfl
theorem q2059 : (Jvm.Cond.instanceMethod ({ cls := "WindFarmDispatcherModel", name := "copies", desc := "(II)V" } : Jvm.MethodName)) ∈ lw_all := lw_g (lw_at lw_m9 64 rfl) rfl
theorem q2060 : (Jvm.Cond.code ({ cls := "WindFarmDispatcherModel", name := "copies", desc := "(II)V" } : Jvm.MethodName) prog_20_method_4_code (4 : Nat) (Option.none : Option Jvm.ClassFile.FieldType)) ∈ lw_all := lw_g (lw_at lw_m9 65 rfl) rfl
theorem q2061 : (Jvm.Cond.methodLink "WindFarmDispatcherModel" (95 : Nat) ({ cls := "WindFarmDispatcherModel", name := "adds", desc := "(III)I" } : Jvm.MethodName)) ∈ lw_all := lw_g (lw_at lw_m9 66 rfl) rfl
theorem q2062 : (Jvm.Cond.privateMethod ({ cls := "WindFarmDispatcherModel", name := "adds", desc := "(III)I" } : Jvm.MethodName)) ∈ lw_tbl := lw_at lw_m9 67 rfl
theorem q2063 : (Jvm.Cond.instanceMethod ({ cls := "WindFarmDispatcherModel", name := "adds", desc := "(III)I" } : Jvm.MethodName)) ∈ lw_all := lw_g (lw_at lw_m9 68 rfl) rfl
theorem q2064 : (Jvm.Cond.code ({ cls := "WindFarmDispatcherModel", name := "adds", desc := "(III)I" } : Jvm.MethodName) prog_20_method_27_code (7 : Nat) (Option.some Jvm.ClassFile.FieldType.int)) ∈ lw_all := lw_g (lw_at lw_m9 69 rfl) rfl
theorem q2065 : (Jvm.Cond.methodLink "WindFarmDispatcherModel" (80 : Nat) ({ cls := "WindFarmDispatcherModel", name := "isCell", desc := "(II)Z" } : Jvm.MethodName)) ∈ lw_all := lw_g (lw_at lw_m9 70 rfl) rfl
theorem q2066 : (Jvm.Cond.static ({ cls := "WindFarmDispatcherModel", name := "isCell", desc := "(II)Z" } : Jvm.MethodName)) ∈ lw_all := lw_g (lw_at lw_m9 71 rfl) rfl
theorem q2067 : (Jvm.Cond.code ({ cls := "WindFarmDispatcherModel", name := "isCell", desc := "(II)Z" } : Jvm.MethodName) prog_20_method_15_code (2 : Nat) (Option.some Jvm.ClassFile.FieldType.boolean)) ∈ lw_all := lw_g (lw_at lw_m9 72 rfl) rfl
theorem q2068 : (Jvm.Cond.methodLink "WindFarmDispatcherModel" (53 : Nat) ({ cls := "WindFarmDispatcherModel", name := "in", desc := "(III)Z" } : Jvm.MethodName)) ∈ lw_all := lw_g (lw_at lw_m9 73 rfl) rfl
theorem q2069 : (Jvm.Cond.static ({ cls := "WindFarmDispatcherModel", name := "in", desc := "(III)Z" } : Jvm.MethodName)) ∈ lw_all := lw_g (lw_at lw_m9 74 rfl) rfl
theorem q2070 : (Jvm.Cond.code ({ cls := "WindFarmDispatcherModel", name := "in", desc := "(III)Z" } : Jvm.MethodName) prog_20_method_3_code (3 : Nat) (Option.some Jvm.ClassFile.FieldType.boolean)) ∈ lw_all := lw_g (lw_at lw_m9 75 rfl) rfl
theorem q2071 : (Jvm.Cond.methodLink "WindFarmDispatcherModel" (61 : Nat) ({ cls := "WindFarmDispatcherModel", name := "inCell", desc := "(II)I" } : Jvm.MethodName)) ∈ lw_all := lw_g (lw_at lw_m9 76 rfl) rfl
theorem q2072 : (Jvm.Cond.privateMethod ({ cls := "WindFarmDispatcherModel", name := "inCell", desc := "(II)I" } : Jvm.MethodName)) ∈ lw_tbl := lw_at lw_m9 77 rfl
theorem q2073 : (Jvm.Cond.instanceMethod ({ cls := "WindFarmDispatcherModel", name := "inCell", desc := "(II)I" } : Jvm.MethodName)) ∈ lw_all := lw_g (lw_at lw_m9 78 rfl) rfl
theorem q2074 : (Jvm.Cond.code ({ cls := "WindFarmDispatcherModel", name := "inCell", desc := "(II)I" } : Jvm.MethodName) prog_20_method_16_code (4 : Nat) (Option.some Jvm.ClassFile.FieldType.int)) ∈ lw_all := lw_g (lw_at lw_m9 79 rfl) rfl
theorem q2075 : (Jvm.Cond.methodLink "WindFarmDispatcherModel" (57 : Nat) ({ cls := "WindFarmDispatcherModel", name := "t", desc := "(II)I" } : Jvm.MethodName)) ∈ lw_all := lw_g (lw_at lw_m9 80 rfl) rfl
theorem q2076 : (Jvm.Cond.privateMethod ({ cls := "WindFarmDispatcherModel", name := "t", desc := "(II)I" } : Jvm.MethodName)) ∈ lw_tbl := lw_at lw_m9 81 rfl
theorem q2077 : (Jvm.Cond.instanceMethod ({ cls := "WindFarmDispatcherModel", name := "t", desc := "(II)I" } : Jvm.MethodName)) ∈ lw_all := lw_g (lw_at lw_m9 82 rfl) rfl
theorem q2078 : (Jvm.Cond.code ({ cls := "WindFarmDispatcherModel", name := "t", desc := "(II)I" } : Jvm.MethodName) prog_20_method_12_code (3 : Nat) (Option.some Jvm.ClassFile.FieldType.int)) ∈ lw_all := lw_g (lw_at lw_m9 83 rfl) rfl
theorem q2079 : (Jvm.Cond.methodLink "WindFarmDispatcherModel" (84 : Nat) ({ cls := "WindFarmDispatcherModel", name := "rejects", desc := "(ZII)Z" } : Jvm.MethodName)) ∈ lw_all := lw_g (lw_at lw_m9 84 rfl) rfl
theorem q2080 : (Jvm.Cond.privateMethod ({ cls := "WindFarmDispatcherModel", name := "rejects", desc := "(ZII)Z" } : Jvm.MethodName)) ∈ lw_tbl := lw_at lw_m9 85 rfl
theorem q2081 : (Jvm.Cond.instanceMethod ({ cls := "WindFarmDispatcherModel", name := "rejects", desc := "(ZII)Z" } : Jvm.MethodName)) ∈ lw_all := lw_g (lw_at lw_m9 86 rfl) rfl
theorem q2082 : (Jvm.Cond.code ({ cls := "WindFarmDispatcherModel", name := "rejects", desc := "(ZII)Z" } : Jvm.MethodName) prog_20_method_8_code (4 : Nat) (Option.some Jvm.ClassFile.FieldType.boolean)) ∈ lw_all := lw_g (lw_at lw_m9 87 rfl) rfl
theorem q2083 : (Jvm.Cond.methodLink "WindFarmDispatcherModel" (88 : Nat) ({ cls := "WindFarmDispatcherModel", name := "set", desc := "(III)V" } : Jvm.MethodName)) ∈ lw_all := lw_g (lw_at lw_m9 88 rfl) rfl
theorem q2084 : (Jvm.Cond.privateMethod ({ cls := "WindFarmDispatcherModel", name := "set", desc := "(III)V" } : Jvm.MethodName)) ∈ lw_tbl := lw_at lw_m9 89 rfl
theorem q2085 : (Jvm.Cond.instanceMethod ({ cls := "WindFarmDispatcherModel", name := "set", desc := "(III)V" } : Jvm.MethodName)) ∈ lw_all := lw_g (lw_at lw_m9 90 rfl) rfl
theorem q2086 : (Jvm.Cond.code ({ cls := "WindFarmDispatcherModel", name := "set", desc := "(III)V" } : Jvm.MethodName) prog_20_method_13_code (4 : Nat) (Option.none : Option Jvm.ClassFile.FieldType)) ∈ lw_all := lw_g (lw_at lw_m9 91 rfl) rfl
theorem q2087 : (Jvm.Cond.methodLink "WindFarmDispatcherModel" (99 : Nat) ({ cls := "WindFarmDispatcherModel", name := "ends", desc := "(IIII)I" } : Jvm.MethodName)) ∈ lw_all := lw_g (lw_at lw_m9 92 rfl) rfl
theorem q2088 : (Jvm.Cond.privateMethod ({ cls := "WindFarmDispatcherModel", name := "ends", desc := "(IIII)I" } : Jvm.MethodName)) ∈ lw_tbl := lw_at lw_m9 93 rfl
theorem q2089 : (Jvm.Cond.instanceMethod ({ cls := "WindFarmDispatcherModel", name := "ends", desc := "(IIII)I" } : Jvm.MethodName)) ∈ lw_all := lw_g (lw_at lw_m9 94 rfl) rfl
theorem q2090 : (Jvm.Cond.code ({ cls := "WindFarmDispatcherModel", name := "ends", desc := "(IIII)I" } : Jvm.MethodName) prog_20_method_6_code (6 : Nat) (Option.some Jvm.ClassFile.FieldType.int)) ∈ lw_all := lw_g (lw_at lw_m9 95 rfl) rfl
theorem q2092 : (Jvm.Cond.instanceMethod ({ cls := "WindFarmDispatcherModel", name := "fail", desc := "(I)I" } : Jvm.MethodName)) ∈ lw_all := lw_g (lw_at lw_m9 97 rfl) rfl
theorem q2093 : (Jvm.Cond.selects "WindFarmDispatcherModel" ({ cls := "WindFarmDispatcherModel", name := "fail", desc := "(I)I" } : Jvm.MethodName) ({ cls := "WindFarmDispatcherModel", name := "fail", desc := "(I)I" } : Jvm.MethodName)) ∈ lw_all := lw_g (lw_at lw_m9 98 rfl) rfl
theorem q2094 : (Jvm.Cond.code ({ cls := "WindFarmDispatcherModel", name := "fail", desc := "(I)I" } : Jvm.MethodName) prog_20_method_30_code (2 : Nat) (Option.some Jvm.ClassFile.FieldType.int)) ∈ lw_all := lw_g (lw_at lw_m9 99 rfl) rfl
theorem q2095 : (Jvm.Cond.methodLink "WindFarmDispatcherModel" (110 : Nat) ({ cls := "WindFarmDispatcherModel", name := "fails", desc := "(I)I" } : Jvm.MethodName)) ∈ lw_all := lw_g (lw_at lw_m9 100 rfl) rfl
theorem q2096 : (Jvm.Cond.privateMethod ({ cls := "WindFarmDispatcherModel", name := "fails", desc := "(I)I" } : Jvm.MethodName)) ∈ lw_tbl := lw_at lw_m9 101 rfl
theorem q2097 : (Jvm.Cond.instanceMethod ({ cls := "WindFarmDispatcherModel", name := "fails", desc := "(I)I" } : Jvm.MethodName)) ∈ lw_all := lw_g (lw_at lw_m9 102 rfl) rfl
theorem q2098 : (Jvm.Cond.code ({ cls := "WindFarmDispatcherModel", name := "fails", desc := "(I)I" } : Jvm.MethodName) prog_20_method_29_code (2 : Nat) (Option.some Jvm.ClassFile.FieldType.int)) ∈ lw_all := lw_g (lw_at lw_m9 103 rfl) rfl
theorem q2099 : (Jvm.Cond.methodLink "WindFarmDispatcherModel" (103 : Nat) ({ cls := "WindFarmDispatcherModel", name := "isTurbine", desc := "(I)Z" } : Jvm.MethodName)) ∈ lw_all := lw_g (lw_at lw_m9 104 rfl) rfl
theorem q2100 : (Jvm.Cond.privateMethod ({ cls := "WindFarmDispatcherModel", name := "isTurbine", desc := "(I)Z" } : Jvm.MethodName)) ∈ lw_tbl := lw_at lw_m9 105 rfl
theorem q2101 : (Jvm.Cond.instanceMethod ({ cls := "WindFarmDispatcherModel", name := "isTurbine", desc := "(I)Z" } : Jvm.MethodName)) ∈ lw_all := lw_g (lw_at lw_m9 106 rfl) rfl
theorem q2102 : (Jvm.Cond.code ({ cls := "WindFarmDispatcherModel", name := "isTurbine", desc := "(I)Z" } : Jvm.MethodName) prog_20_method_14_code (2 : Nat) (Option.some Jvm.ClassFile.FieldType.boolean)) ∈ lw_all := lw_g (lw_at lw_m9 107 rfl) rfl
theorem q2103 : (Jvm.Cond.methodLink "WindFarmDispatcherModel" (107 : Nat) ({ cls := "WindFarmDispatcherModel", name := "inState", desc := "(I)I" } : Jvm.MethodName)) ∈ lw_all := lw_g (lw_at lw_m9 108 rfl) rfl
theorem q2104 : (Jvm.Cond.privateMethod ({ cls := "WindFarmDispatcherModel", name := "inState", desc := "(I)I" } : Jvm.MethodName)) ∈ lw_tbl := lw_at lw_m9 109 rfl
theorem q2105 : (Jvm.Cond.instanceMethod ({ cls := "WindFarmDispatcherModel", name := "inState", desc := "(I)I" } : Jvm.MethodName)) ∈ lw_all := lw_g (lw_at lw_m9 110 rfl) rfl
theorem q2106 : (Jvm.Cond.code ({ cls := "WindFarmDispatcherModel", name := "inState", desc := "(I)I" } : Jvm.MethodName) prog_20_method_23_code (4 : Nat) (Option.some Jvm.ClassFile.FieldType.int)) ∈ lw_all := lw_g (lw_at lw_m9 111 rfl) rfl
theorem q2108 : (Jvm.Cond.instanceMethod ({ cls := "WindFarmDispatcherModel", name := "sendCrew", desc := "(II)I" } : Jvm.MethodName)) ∈ lw_all := lw_g (lw_at lw_m9 113 rfl) rfl
theorem q2109 : (Jvm.Cond.selects "WindFarmDispatcherModel" ({ cls := "WindFarmDispatcherModel", name := "sendCrew", desc := "(II)I" } : Jvm.MethodName) ({ cls := "WindFarmDispatcherModel", name := "sendCrew", desc := "(II)I" } : Jvm.MethodName)) ∈ lw_all := lw_g (lw_at lw_m9 114 rfl) rfl
theorem q2110 : (Jvm.Cond.code ({ cls := "WindFarmDispatcherModel", name := "sendCrew", desc := "(II)I" } : Jvm.MethodName) prog_20_method_32_code (3 : Nat) (Option.some Jvm.ClassFile.FieldType.int)) ∈ lw_all := lw_g (lw_at lw_m9 115 rfl) rfl
theorem q2111 : (Jvm.Cond.methodLink "WindFarmDispatcherModel" (117 : Nat) ({ cls := "WindFarmDispatcherModel", name := "sends", desc := "(II)I" } : Jvm.MethodName)) ∈ lw_all := lw_g (lw_at lw_m9 116 rfl) rfl
theorem q2112 : (Jvm.Cond.privateMethod ({ cls := "WindFarmDispatcherModel", name := "sends", desc := "(II)I" } : Jvm.MethodName)) ∈ lw_tbl := lw_at lw_m9 117 rfl
theorem q2113 : (Jvm.Cond.instanceMethod ({ cls := "WindFarmDispatcherModel", name := "sends", desc := "(II)I" } : Jvm.MethodName)) ∈ lw_all := lw_g (lw_at lw_m9 118 rfl) rfl
theorem q2114 : (Jvm.Cond.code ({ cls := "WindFarmDispatcherModel", name := "sends", desc := "(II)I" } : Jvm.MethodName) prog_20_method_31_code (3 : Nat) (Option.some Jvm.ClassFile.FieldType.int)) ∈ lw_all := lw_g (lw_at lw_m9 119 rfl) rfl
theorem q2115 : (Jvm.Cond.methodLink "WindFarmDispatcherModel" (77 : Nat) ({ cls := "WindFarmDispatcherModel", name := "output", desc := "(I)I" } : Jvm.MethodName)) ∈ lw_all := lw_g (lw_at lw_m9 120 rfl) rfl
theorem q2116 : (Jvm.Cond.privateMethod ({ cls := "WindFarmDispatcherModel", name := "output", desc := "(I)I" } : Jvm.MethodName)) ∈ lw_tbl := lw_at lw_m9 121 rfl
theorem q2117 : (Jvm.Cond.instanceMethod ({ cls := "WindFarmDispatcherModel", name := "output", desc := "(I)I" } : Jvm.MethodName)) ∈ lw_all := lw_g (lw_at lw_m9 122 rfl) rfl
theorem q2118 : (Jvm.Cond.code ({ cls := "WindFarmDispatcherModel", name := "output", desc := "(I)I" } : Jvm.MethodName) prog_20_method_21_code (4 : Nat) (Option.some Jvm.ClassFile.FieldType.int)) ∈ lw_all := lw_g (lw_at lw_m9 123 rfl) rfl
theorem q2119 : (Jvm.Cond.methodLink "WindFarmDispatcherModel" (74 : Nat) ({ cls := "WindFarmDispatcherModel", name := "available", desc := "(I)I" } : Jvm.MethodName)) ∈ lw_all := lw_g (lw_at lw_m9 124 rfl) rfl
theorem q2120 : (Jvm.Cond.privateMethod ({ cls := "WindFarmDispatcherModel", name := "available", desc := "(I)I" } : Jvm.MethodName)) ∈ lw_tbl := lw_at lw_m9 125 rfl
theorem q2121 : (Jvm.Cond.instanceMethod ({ cls := "WindFarmDispatcherModel", name := "available", desc := "(I)I" } : Jvm.MethodName)) ∈ lw_all := lw_g (lw_at lw_m9 126 rfl) rfl
theorem q2122 : (Jvm.Cond.code ({ cls := "WindFarmDispatcherModel", name := "available", desc := "(I)I" } : Jvm.MethodName) prog_20_method_20_code (3 : Nat) (Option.some Jvm.ClassFile.FieldType.int)) ∈ lw_all := lw_g (lw_at lw_m9 127 rfl) rfl
theorem q2123 : (Jvm.Cond.methodLink "WindFarmDispatcherModel" (67 : Nat) ({ cls := "WindFarmDispatcherModel", name := "factorOf", desc := "(I)I" } : Jvm.MethodName)) ∈ lw_all := lw_g (lw_at lw_m9 128 rfl) rfl
theorem q2124 : (Jvm.Cond.static ({ cls := "WindFarmDispatcherModel", name := "factorOf", desc := "(I)I" } : Jvm.MethodName)) ∈ lw_all := lw_g (lw_at lw_m9 129 rfl) rfl
theorem q2125 : (Jvm.Cond.code ({ cls := "WindFarmDispatcherModel", name := "factorOf", desc := "(I)I" } : Jvm.MethodName) prog_20_method_17_code (1 : Nat) (Option.some Jvm.ClassFile.FieldType.int)) ∈ lw_all := lw_g (lw_at lw_m9 130 rfl) rfl
theorem q2126 : (Jvm.Cond.methodLink "WindFarmDispatcherModel" (71 : Nat) ({ cls := "WindFarmDispatcherModel", name := "lossOf", desc := "(I)I" } : Jvm.MethodName)) ∈ lw_all := lw_g (lw_at lw_m9 131 rfl) rfl
theorem q2127 : (Jvm.Cond.privateMethod ({ cls := "WindFarmDispatcherModel", name := "lossOf", desc := "(I)I" } : Jvm.MethodName)) ∈ lw_tbl := lw_at lw_m9 132 rfl
theorem q2128 : (Jvm.Cond.instanceMethod ({ cls := "WindFarmDispatcherModel", name := "lossOf", desc := "(I)I" } : Jvm.MethodName)) ∈ lw_all := lw_g (lw_at lw_m9 133 rfl) rfl
theorem q2129 : (Jvm.Cond.code ({ cls := "WindFarmDispatcherModel", name := "lossOf", desc := "(I)I" } : Jvm.MethodName) prog_20_method_19_code (2 : Nat) (Option.some Jvm.ClassFile.FieldType.int)) ∈ lw_all := lw_g (lw_at lw_m9 134 rfl) rfl
theorem q2130 : (Jvm.Cond.methodLink "WindFarmDispatcherModel" (64 : Nat) ({ cls := "WindFarmDispatcherModel", name := "wakeOf", desc := "(II)I" } : Jvm.MethodName)) ∈ lw_all := lw_g (lw_at lw_m9 135 rfl) rfl
theorem q2131 : (Jvm.Cond.privateMethod ({ cls := "WindFarmDispatcherModel", name := "wakeOf", desc := "(II)I" } : Jvm.MethodName)) ∈ lw_tbl := lw_at lw_m9 136 rfl
theorem q2132 : (Jvm.Cond.instanceMethod ({ cls := "WindFarmDispatcherModel", name := "wakeOf", desc := "(II)I" } : Jvm.MethodName)) ∈ lw_all := lw_g (lw_at lw_m9 137 rfl) rfl
theorem q2133 : (Jvm.Cond.code ({ cls := "WindFarmDispatcherModel", name := "wakeOf", desc := "(II)I" } : Jvm.MethodName) prog_20_method_18_code (6 : Nat) (Option.some Jvm.ClassFile.FieldType.int)) ∈ lw_all := lw_g (lw_at lw_m9 138 rfl) rfl
theorem q2134 : (Jvm.Cond.methodLink "WindFarmDispatcherModel" (113 : Nat) ({ cls := "WindFarmDispatcherModel", name := "firstInService", desc := "()I" } : Jvm.MethodName)) ∈ lw_all := lw_g (lw_at lw_m9 139 rfl) rfl
theorem q2135 : (Jvm.Cond.privateMethod ({ cls := "WindFarmDispatcherModel", name := "firstInService", desc := "()I" } : Jvm.MethodName)) ∈ lw_tbl := lw_at lw_m9 140 rfl
theorem q2136 : (Jvm.Cond.instanceMethod ({ cls := "WindFarmDispatcherModel", name := "firstInService", desc := "()I" } : Jvm.MethodName)) ∈ lw_all := lw_g (lw_at lw_m9 141 rfl) rfl
theorem q2137 : (Jvm.Cond.code ({ cls := "WindFarmDispatcherModel", name := "firstInService", desc := "()I" } : Jvm.MethodName) prog_20_method_24_code (2 : Nat) (Option.some Jvm.ClassFile.FieldType.int)) ∈ lw_all := lw_g (lw_at lw_m9 142 rfl) rfl
theorem q2139 : (Jvm.Cond.instanceMethod ({ cls := "WindFarmDispatcherModel", name := "recallCrew", desc := "(I)I" } : Jvm.MethodName)) ∈ lw_all := lw_g (lw_at lw_m9 144 rfl) rfl
theorem q2140 : (Jvm.Cond.selects "WindFarmDispatcherModel" ({ cls := "WindFarmDispatcherModel", name := "recallCrew", desc := "(I)I" } : Jvm.MethodName) ({ cls := "WindFarmDispatcherModel", name := "recallCrew", desc := "(I)I" } : Jvm.MethodName)) ∈ lw_all := lw_g (lw_at lw_m9 145 rfl) rfl
theorem q2141 : (Jvm.Cond.code ({ cls := "WindFarmDispatcherModel", name := "recallCrew", desc := "(I)I" } : Jvm.MethodName) prog_20_method_34_code (2 : Nat) (Option.some Jvm.ClassFile.FieldType.int)) ∈ lw_all := lw_g (lw_at lw_m9 146 rfl) rfl
theorem q2142 : (Jvm.Cond.methodLink "WindFarmDispatcherModel" (120 : Nat) ({ cls := "WindFarmDispatcherModel", name := "recalls", desc := "(I)I" } : Jvm.MethodName)) ∈ lw_all := lw_g (lw_at lw_m9 147 rfl) rfl
theorem q2143 : (Jvm.Cond.privateMethod ({ cls := "WindFarmDispatcherModel", name := "recalls", desc := "(I)I" } : Jvm.MethodName)) ∈ lw_tbl := lw_at lw_m9 148 rfl
theorem q2144 : (Jvm.Cond.instanceMethod ({ cls := "WindFarmDispatcherModel", name := "recalls", desc := "(I)I" } : Jvm.MethodName)) ∈ lw_all := lw_g (lw_at lw_m9 149 rfl) rfl
theorem q2145 : (Jvm.Cond.code ({ cls := "WindFarmDispatcherModel", name := "recalls", desc := "(I)I" } : Jvm.MethodName) prog_20_method_33_code (2 : Nat) (Option.some Jvm.ClassFile.FieldType.int)) ∈ lw_all := lw_g (lw_at lw_m9 150 rfl) rfl
theorem q2147 : (Jvm.Cond.instanceMethod ({ cls := "WindFarmDispatcherModel", name := "curtail", desc := "(II)I" } : Jvm.MethodName)) ∈ lw_all := lw_g (lw_at lw_m9 152 rfl) rfl
theorem q2148 : (Jvm.Cond.selects "WindFarmDispatcherModel" ({ cls := "WindFarmDispatcherModel", name := "curtail", desc := "(II)I" } : Jvm.MethodName) ({ cls := "WindFarmDispatcherModel", name := "curtail", desc := "(II)I" } : Jvm.MethodName)) ∈ lw_all := lw_g (lw_at lw_m9 153 rfl) rfl
theorem q2149 : (Jvm.Cond.code ({ cls := "WindFarmDispatcherModel", name := "curtail", desc := "(II)I" } : Jvm.MethodName) prog_20_method_36_code (3 : Nat) (Option.some Jvm.ClassFile.FieldType.int)) ∈ lw_all := lw_g (lw_at lw_m9 154 rfl) rfl
theorem q2150 : (Jvm.Cond.methodLink "WindFarmDispatcherModel" (123 : Nat) ({ cls := "WindFarmDispatcherModel", name := "curtails", desc := "(II)I" } : Jvm.MethodName)) ∈ lw_all := lw_g (lw_at lw_m9 155 rfl) rfl
theorem q2151 : (Jvm.Cond.privateMethod ({ cls := "WindFarmDispatcherModel", name := "curtails", desc := "(II)I" } : Jvm.MethodName)) ∈ lw_tbl := lw_at lw_m9 156 rfl
theorem q2152 : (Jvm.Cond.instanceMethod ({ cls := "WindFarmDispatcherModel", name := "curtails", desc := "(II)I" } : Jvm.MethodName)) ∈ lw_all := lw_g (lw_at lw_m9 157 rfl) rfl
theorem q2153 : (Jvm.Cond.code ({ cls := "WindFarmDispatcherModel", name := "curtails", desc := "(II)I" } : Jvm.MethodName) prog_20_method_35_code (3 : Nat) (Option.some Jvm.ClassFile.FieldType.int)) ∈ lw_all := lw_g (lw_at lw_m9 158 rfl) rfl
theorem q2155 : (Jvm.Cond.instanceMethod ({ cls := "WindFarmDispatcherModel", name := "release", desc := "(I)I" } : Jvm.MethodName)) ∈ lw_all := lw_g (lw_at lw_m9 160 rfl) rfl
theorem q2156 : (Jvm.Cond.selects "WindFarmDispatcherModel" ({ cls := "WindFarmDispatcherModel", name := "release", desc := "(I)I" } : Jvm.MethodName) ({ cls := "WindFarmDispatcherModel", name := "release", desc := "(I)I" } : Jvm.MethodName)) ∈ lw_all := lw_g (lw_at lw_m9 161 rfl) rfl
theorem q2157 : (Jvm.Cond.code ({ cls := "WindFarmDispatcherModel", name := "release", desc := "(I)I" } : Jvm.MethodName) prog_20_method_38_code (2 : Nat) (Option.some Jvm.ClassFile.FieldType.int)) ∈ lw_all := lw_g (lw_at lw_m9 162 rfl) rfl
theorem q2158 : (Jvm.Cond.methodLink "WindFarmDispatcherModel" (126 : Nat) ({ cls := "WindFarmDispatcherModel", name := "releases", desc := "(I)I" } : Jvm.MethodName)) ∈ lw_all := lw_g (lw_at lw_m9 163 rfl) rfl
theorem q2159 : (Jvm.Cond.privateMethod ({ cls := "WindFarmDispatcherModel", name := "releases", desc := "(I)I" } : Jvm.MethodName)) ∈ lw_tbl := lw_at lw_m9 164 rfl
theorem q2160 : (Jvm.Cond.instanceMethod ({ cls := "WindFarmDispatcherModel", name := "releases", desc := "(I)I" } : Jvm.MethodName)) ∈ lw_all := lw_g (lw_at lw_m9 165 rfl) rfl
theorem q2161 : (Jvm.Cond.code ({ cls := "WindFarmDispatcherModel", name := "releases", desc := "(I)I" } : Jvm.MethodName) prog_20_method_37_code (2 : Nat) (Option.some Jvm.ClassFile.FieldType.int)) ∈ lw_all := lw_g (lw_at lw_m9 166 rfl) rfl
theorem q2163 : (Jvm.Cond.instanceMethod ({ cls := "WindFarmDispatcherModel", name := "setWind", desc := "(CI)I" } : Jvm.MethodName)) ∈ lw_all := lw_g (lw_at lw_m9 168 rfl) rfl
theorem q2164 : (Jvm.Cond.selects "WindFarmDispatcherModel" ({ cls := "WindFarmDispatcherModel", name := "setWind", desc := "(CI)I" } : Jvm.MethodName) ({ cls := "WindFarmDispatcherModel", name := "setWind", desc := "(CI)I" } : Jvm.MethodName)) ∈ lw_all := lw_g (lw_at lw_m9 169 rfl) rfl
theorem q2165 : (Jvm.Cond.code ({ cls := "WindFarmDispatcherModel", name := "setWind", desc := "(CI)I" } : Jvm.MethodName) prog_20_method_40_code (3 : Nat) (Option.some Jvm.ClassFile.FieldType.int)) ∈ lw_all := lw_g (lw_at lw_m9 170 rfl) rfl
theorem q2166 : (Jvm.Cond.methodLink "WindFarmDispatcherModel" (132 : Nat) ({ cls := "WindFarmDispatcherModel", name := "wayOf", desc := "(I)I" } : Jvm.MethodName)) ∈ lw_all := lw_g (lw_at lw_m9 171 rfl) rfl
theorem q2167 : (Jvm.Cond.static ({ cls := "WindFarmDispatcherModel", name := "wayOf", desc := "(I)I" } : Jvm.MethodName)) ∈ lw_all := lw_g (lw_at lw_m9 172 rfl) rfl
theorem q2168 : (Jvm.Cond.code ({ cls := "WindFarmDispatcherModel", name := "wayOf", desc := "(I)I" } : Jvm.MethodName) prog_20_method_25_code (1 : Nat) (Option.some Jvm.ClassFile.FieldType.int)) ∈ lw_all := lw_g (lw_at lw_m9 173 rfl) rfl
theorem q2169 : (Jvm.Cond.methodLink "WindFarmDispatcherModel" (135 : Nat) ({ cls := "WindFarmDispatcherModel", name := "blows", desc := "(II)I" } : Jvm.MethodName)) ∈ lw_all := lw_g (lw_at lw_m9 174 rfl) rfl
theorem q2170 : (Jvm.Cond.privateMethod ({ cls := "WindFarmDispatcherModel", name := "blows", desc := "(II)I" } : Jvm.MethodName)) ∈ lw_tbl := lw_at lw_m9 175 rfl
theorem q2171 : (Jvm.Cond.instanceMethod ({ cls := "WindFarmDispatcherModel", name := "blows", desc := "(II)I" } : Jvm.MethodName)) ∈ lw_all := lw_g (lw_at lw_m9 176 rfl) rfl
theorem q2172 : (Jvm.Cond.code ({ cls := "WindFarmDispatcherModel", name := "blows", desc := "(II)I" } : Jvm.MethodName) prog_20_method_39_code (3 : Nat) (Option.some Jvm.ClassFile.FieldType.int)) ∈ lw_all := lw_g (lw_at lw_m9 177 rfl) rfl
theorem q2173 : (Jvm.Cond.methodLink "WindFarmDispatcherModel" (129 : Nat) ({ cls := "WindFarmDispatcherModel", name := "total", desc := "()I" } : Jvm.MethodName)) ∈ lw_all := lw_g (lw_at lw_m9 178 rfl) rfl
theorem q2174 : (Jvm.Cond.privateMethod ({ cls := "WindFarmDispatcherModel", name := "total", desc := "()I" } : Jvm.MethodName)) ∈ lw_tbl := lw_at lw_m9 179 rfl
theorem q2175 : (Jvm.Cond.instanceMethod ({ cls := "WindFarmDispatcherModel", name := "total", desc := "()I" } : Jvm.MethodName)) ∈ lw_all := lw_g (lw_at lw_m9 180 rfl) rfl
theorem q2176 : (Jvm.Cond.code ({ cls := "WindFarmDispatcherModel", name := "total", desc := "()I" } : Jvm.MethodName) prog_20_method_22_code (3 : Nat) (Option.some Jvm.ClassFile.FieldType.int)) ∈ lw_all := lw_g (lw_at lw_m9 181 rfl) rfl
theorem q2178 : (Jvm.Cond.instanceMethod ({ cls := "WindFarmDispatcherModel", name := "setGridLimit", desc := "(I)I" } : Jvm.MethodName)) ∈ lw_all := lw_g (lw_at lw_m9 183 rfl) rfl
theorem q2179 : (Jvm.Cond.selects "WindFarmDispatcherModel" ({ cls := "WindFarmDispatcherModel", name := "setGridLimit", desc := "(I)I" } : Jvm.MethodName) ({ cls := "WindFarmDispatcherModel", name := "setGridLimit", desc := "(I)I" } : Jvm.MethodName)) ∈ lw_all := lw_g (lw_at lw_m9 184 rfl) rfl
theorem q2180 : (Jvm.Cond.code ({ cls := "WindFarmDispatcherModel", name := "setGridLimit", desc := "(I)I" } : Jvm.MethodName) prog_20_method_42_code (2 : Nat) (Option.some Jvm.ClassFile.FieldType.int)) ∈ lw_all := lw_g (lw_at lw_m9 185 rfl) rfl
theorem q2181 : (Jvm.Cond.methodLink "WindFarmDispatcherModel" (138 : Nat) ({ cls := "WindFarmDispatcherModel", name := "limits", desc := "(I)I" } : Jvm.MethodName)) ∈ lw_all := lw_g (lw_at lw_m9 186 rfl) rfl
theorem q2182 : (Jvm.Cond.privateMethod ({ cls := "WindFarmDispatcherModel", name := "limits", desc := "(I)I" } : Jvm.MethodName)) ∈ lw_tbl := lw_at lw_m9 187 rfl
theorem q2183 : (Jvm.Cond.instanceMethod ({ cls := "WindFarmDispatcherModel", name := "limits", desc := "(I)I" } : Jvm.MethodName)) ∈ lw_all := lw_g (lw_at lw_m9 188 rfl) rfl
theorem q2184 : (Jvm.Cond.code ({ cls := "WindFarmDispatcherModel", name := "limits", desc := "(I)I" } : Jvm.MethodName) prog_20_method_41_code (2 : Nat) (Option.some Jvm.ClassFile.FieldType.int)) ∈ lw_all := lw_g (lw_at lw_m9 189 rfl) rfl
theorem q2186 : (Jvm.Cond.instanceMethod ({ cls := "WindFarmDispatcherModel", name := "dispatch", desc := "()I" } : Jvm.MethodName)) ∈ lw_all := lw_g (lw_at lw_m9 191 rfl) rfl
theorem q2187 : (Jvm.Cond.selects "WindFarmDispatcherModel" ({ cls := "WindFarmDispatcherModel", name := "dispatch", desc := "()I" } : Jvm.MethodName) ({ cls := "WindFarmDispatcherModel", name := "dispatch", desc := "()I" } : Jvm.MethodName)) ∈ lw_all := lw_g (lw_at lw_m9 192 rfl) rfl
theorem q2188 : (Jvm.Cond.code ({ cls := "WindFarmDispatcherModel", name := "dispatch", desc := "()I" } : Jvm.MethodName) prog_20_method_44_code (1 : Nat) (Option.some Jvm.ClassFile.FieldType.int)) ∈ lw_all := lw_g (lw_at lw_m9 193 rfl) rfl
theorem q2189 : (Jvm.Cond.methodLink "WindFarmDispatcherModel" (141 : Nat) ({ cls := "WindFarmDispatcherModel", name := "dispatches", desc := "()I" } : Jvm.MethodName)) ∈ lw_all := lw_g (lw_at lw_m9 194 rfl) rfl
theorem q2190 : (Jvm.Cond.privateMethod ({ cls := "WindFarmDispatcherModel", name := "dispatches", desc := "()I" } : Jvm.MethodName)) ∈ lw_tbl := lw_at lw_m9 195 rfl
theorem q2191 : (Jvm.Cond.instanceMethod ({ cls := "WindFarmDispatcherModel", name := "dispatches", desc := "()I" } : Jvm.MethodName)) ∈ lw_all := lw_g (lw_at lw_m9 196 rfl) rfl
theorem q2192 : (Jvm.Cond.code ({ cls := "WindFarmDispatcherModel", name := "dispatches", desc := "()I" } : Jvm.MethodName) prog_20_method_43_code (4 : Nat) (Option.some Jvm.ClassFile.FieldType.int)) ∈ lw_all := lw_g (lw_at lw_m9 197 rfl) rfl
theorem q2194 : (Jvm.Cond.instanceMethod ({ cls := "WindFarmDispatcherModel", name := "releaseAll", desc := "()I" } : Jvm.MethodName)) ∈ lw_all := lw_g (lw_at lw_m9 199 rfl) rfl
theorem q2195 : (Jvm.Cond.selects "WindFarmDispatcherModel" ({ cls := "WindFarmDispatcherModel", name := "releaseAll", desc := "()I" } : Jvm.MethodName) ({ cls := "WindFarmDispatcherModel", name := "releaseAll", desc := "()I" } : Jvm.MethodName)) ∈ lw_all := lw_g (lw_at lw_m9 200 rfl) rfl
theorem q2196 : (Jvm.Cond.code ({ cls := "WindFarmDispatcherModel", name := "releaseAll", desc := "()I" } : Jvm.MethodName) prog_20_method_46_code (1 : Nat) (Option.some Jvm.ClassFile.FieldType.int)) ∈ lw_all := lw_g (lw_at lw_m9 201 rfl) rfl
theorem q2197 : (Jvm.Cond.methodLink "WindFarmDispatcherModel" (144 : Nat) ({ cls := "WindFarmDispatcherModel", name := "releasesAll", desc := "()I" } : Jvm.MethodName)) ∈ lw_all := lw_g (lw_at lw_m9 202 rfl) rfl
theorem q2198 : (Jvm.Cond.privateMethod ({ cls := "WindFarmDispatcherModel", name := "releasesAll", desc := "()I" } : Jvm.MethodName)) ∈ lw_tbl := lw_at lw_m9 203 rfl
theorem q2199 : (Jvm.Cond.instanceMethod ({ cls := "WindFarmDispatcherModel", name := "releasesAll", desc := "()I" } : Jvm.MethodName)) ∈ lw_all := lw_g (lw_at lw_m9 204 rfl) rfl
theorem q2200 : (Jvm.Cond.code ({ cls := "WindFarmDispatcherModel", name := "releasesAll", desc := "()I" } : Jvm.MethodName) prog_20_method_45_code (2 : Nat) (Option.some Jvm.ClassFile.FieldType.int)) ∈ lw_all := lw_g (lw_at lw_m9 205 rfl) rfl
theorem q2202 : (Jvm.Cond.instanceMethod ({ cls := "WindFarmDispatcherModel", name := "placeBid", desc := "(III)I" } : Jvm.MethodName)) ∈ lw_all := lw_g (lw_at lw_m9 207 rfl) rfl
theorem q2203 : (Jvm.Cond.selects "WindFarmDispatcherModel" ({ cls := "WindFarmDispatcherModel", name := "placeBid", desc := "(III)I" } : Jvm.MethodName) ({ cls := "WindFarmDispatcherModel", name := "placeBid", desc := "(III)I" } : Jvm.MethodName)) ∈ lw_all := lw_g (lw_at lw_m9 208 rfl) rfl
theorem q2204 : (Jvm.Cond.code ({ cls := "WindFarmDispatcherModel", name := "placeBid", desc := "(III)I" } : Jvm.MethodName) prog_20_method_52_code (4 : Nat) (Option.some Jvm.ClassFile.FieldType.int)) ∈ lw_all := lw_g (lw_at lw_m9 209 rfl) rfl
theorem q2205 : (Jvm.Cond.methodLink "WindFarmDispatcherModel" (156 : Nat) ({ cls := "WindFarmDispatcherModel", name := "places", desc := "(III)I" } : Jvm.MethodName)) ∈ lw_all := lw_g (lw_at lw_m9 210 rfl) rfl
theorem q2206 : (Jvm.Cond.privateMethod ({ cls := "WindFarmDispatcherModel", name := "places", desc := "(III)I" } : Jvm.MethodName)) ∈ lw_tbl := lw_at lw_m9 211 rfl
theorem q2207 : (Jvm.Cond.instanceMethod ({ cls := "WindFarmDispatcherModel", name := "places", desc := "(III)I" } : Jvm.MethodName)) ∈ lw_all := lw_g (lw_at lw_m9 212 rfl) rfl
theorem q2208 : (Jvm.Cond.code ({ cls := "WindFarmDispatcherModel", name := "places", desc := "(III)I" } : Jvm.MethodName) prog_20_method_51_code (4 : Nat) (Option.some Jvm.ClassFile.FieldType.int)) ∈ lw_all := lw_g (lw_at lw_m9 213 rfl) rfl
theorem q2209 : (Jvm.Cond.methodLink "WindFarmDispatcherModel" (150 : Nat) ({ cls := "WindFarmDispatcherModel", name := "isHour", desc := "(I)Z" } : Jvm.MethodName)) ∈ lw_all := lw_g (lw_at lw_m9 214 rfl) rfl
theorem q2210 : (Jvm.Cond.static ({ cls := "WindFarmDispatcherModel", name := "isHour", desc := "(I)Z" } : Jvm.MethodName)) ∈ lw_all := lw_g (lw_at lw_m9 215 rfl) rfl
theorem q2211 : (Jvm.Cond.code ({ cls := "WindFarmDispatcherModel", name := "isHour", desc := "(I)Z" } : Jvm.MethodName) prog_20_method_47_code (1 : Nat) (Option.some Jvm.ClassFile.FieldType.boolean)) ∈ lw_all := lw_g (lw_at lw_m9 216 rfl) rfl
theorem q2212 : (Jvm.Cond.methodLink "WindFarmDispatcherModel" (147 : Nat) ({ cls := "WindFarmDispatcherModel", name := "price", desc := "(I)I" } : Jvm.MethodName)) ∈ lw_all := lw_g (lw_at lw_m9 217 rfl) rfl
theorem q2213 : (Jvm.Cond.privateMethod ({ cls := "WindFarmDispatcherModel", name := "price", desc := "(I)I" } : Jvm.MethodName)) ∈ lw_tbl := lw_at lw_m9 218 rfl
theorem q2214 : (Jvm.Cond.instanceMethod ({ cls := "WindFarmDispatcherModel", name := "price", desc := "(I)I" } : Jvm.MethodName)) ∈ lw_all := lw_g (lw_at lw_m9 219 rfl) rfl
theorem q2215 : (Jvm.Cond.code ({ cls := "WindFarmDispatcherModel", name := "price", desc := "(I)I" } : Jvm.MethodName) prog_20_method_48_code (2 : Nat) (Option.some Jvm.ClassFile.FieldType.int)) ∈ lw_all := lw_g (lw_at lw_m9 220 rfl) rfl
theorem q2216 : (Jvm.Cond.methodLink "WindFarmDispatcherModel" (153 : Nat) ({ cls := "WindFarmDispatcherModel", name := "bids", desc := "()I" } : Jvm.MethodName)) ∈ lw_all := lw_g (lw_at lw_m9 221 rfl) rfl
theorem q2217 : (Jvm.Cond.privateMethod ({ cls := "WindFarmDispatcherModel", name := "bids", desc := "()I" } : Jvm.MethodName)) ∈ lw_tbl := lw_at lw_m9 222 rfl
theorem q2218 : (Jvm.Cond.instanceMethod ({ cls := "WindFarmDispatcherModel", name := "bids", desc := "()I" } : Jvm.MethodName)) ∈ lw_all := lw_g (lw_at lw_m9 223 rfl) rfl
theorem q2219 : (Jvm.Cond.code ({ cls := "WindFarmDispatcherModel", name := "bids", desc := "()I" } : Jvm.MethodName) prog_20_method_50_code (3 : Nat) (Option.some Jvm.ClassFile.FieldType.int)) ∈ lw_all := lw_g (lw_at lw_m9 224 rfl) rfl
theorem q2221 : (Jvm.Cond.instanceMethod ({ cls := "WindFarmDispatcherModel", name := "withdrawBid", desc := "(I)I" } : Jvm.MethodName)) ∈ lw_all := lw_g (lw_at lw_m9 226 rfl) rfl
theorem q2222 : (Jvm.Cond.selects "WindFarmDispatcherModel" ({ cls := "WindFarmDispatcherModel", name := "withdrawBid", desc := "(I)I" } : Jvm.MethodName) ({ cls := "WindFarmDispatcherModel", name := "withdrawBid", desc := "(I)I" } : Jvm.MethodName)) ∈ lw_all := lw_g (lw_at lw_m9 227 rfl) rfl
theorem q2223 : (Jvm.Cond.code ({ cls := "WindFarmDispatcherModel", name := "withdrawBid", desc := "(I)I" } : Jvm.MethodName) prog_20_method_54_code (2 : Nat) (Option.some Jvm.ClassFile.FieldType.int)) ∈ lw_all := lw_g (lw_at lw_m9 228 rfl) rfl
theorem q2224 : (Jvm.Cond.methodLink "WindFarmDispatcherModel" (162 : Nat) ({ cls := "WindFarmDispatcherModel", name := "withdraws", desc := "(I)I" } : Jvm.MethodName)) ∈ lw_all := lw_g (lw_at lw_m9 229 rfl) rfl
theorem q2225 : (Jvm.Cond.privateMethod ({ cls := "WindFarmDispatcherModel", name := "withdraws", desc := "(I)I" } : Jvm.MethodName)) ∈ lw_tbl := lw_at lw_m9 230 rfl
theorem q2226 : (Jvm.Cond.instanceMethod ({ cls := "WindFarmDispatcherModel", name := "withdraws", desc := "(I)I" } : Jvm.MethodName)) ∈ lw_all := lw_g (lw_at lw_m9 231 rfl) rfl
theorem q2227 : (Jvm.Cond.code ({ cls := "WindFarmDispatcherModel", name := "withdraws", desc := "(I)I" } : Jvm.MethodName) prog_20_method_53_code (2 : Nat) (Option.some Jvm.ClassFile.FieldType.int)) ∈ lw_all := lw_g (lw_at lw_m9 232 rfl) rfl
theorem q2228 : (Jvm.Cond.methodLink "WindFarmDispatcherModel" (159 : Nat) ({ cls := "WindFarmDispatcherModel", name := "quantity", desc := "(I)I" } : Jvm.MethodName)) ∈ lw_all := lw_g (lw_at lw_m9 233 rfl) rfl
theorem q2229 : (Jvm.Cond.privateMethod ({ cls := "WindFarmDispatcherModel", name := "quantity", desc := "(I)I" } : Jvm.MethodName)) ∈ lw_tbl := lw_at lw_m9 234 rfl
theorem q2230 : (Jvm.Cond.instanceMethod ({ cls := "WindFarmDispatcherModel", name := "quantity", desc := "(I)I" } : Jvm.MethodName)) ∈ lw_all := lw_g (lw_at lw_m9 235 rfl) rfl
theorem q2231 : (Jvm.Cond.code ({ cls := "WindFarmDispatcherModel", name := "quantity", desc := "(I)I" } : Jvm.MethodName) prog_20_method_49_code (2 : Nat) (Option.some Jvm.ClassFile.FieldType.int)) ∈ lw_all := lw_g (lw_at lw_m9 236 rfl) rfl
theorem q2233 : (Jvm.Cond.instanceMethod ({ cls := "WindFarmDispatcherModel", name := "passHours", desc := "(I)I" } : Jvm.MethodName)) ∈ lw_all := lw_g (lw_at lw_m9 238 rfl) rfl
theorem q2234 : (Jvm.Cond.selects "WindFarmDispatcherModel" ({ cls := "WindFarmDispatcherModel", name := "passHours", desc := "(I)I" } : Jvm.MethodName) ({ cls := "WindFarmDispatcherModel", name := "passHours", desc := "(I)I" } : Jvm.MethodName)) ∈ lw_all := lw_g (lw_at lw_m9 239 rfl) rfl
theorem q2235 : (Jvm.Cond.code ({ cls := "WindFarmDispatcherModel", name := "passHours", desc := "(I)I" } : Jvm.MethodName) prog_20_method_57_code (2 : Nat) (Option.some Jvm.ClassFile.FieldType.int)) ∈ lw_all := lw_g (lw_at lw_m10 0 rfl) rfl
theorem q2236 : (Jvm.Cond.methodLink "WindFarmDispatcherModel" (168 : Nat) ({ cls := "WindFarmDispatcherModel", name := "passesHours", desc := "(I)I" } : Jvm.MethodName)) ∈ lw_all := lw_g (lw_at lw_m10 1 rfl) rfl
theorem q2237 : (Jvm.Cond.privateMethod ({ cls := "WindFarmDispatcherModel", name := "passesHours", desc := "(I)I" } : Jvm.MethodName)) ∈ lw_tbl := lw_at lw_m10 2 rfl
theorem q2238 : (Jvm.Cond.instanceMethod ({ cls := "WindFarmDispatcherModel", name := "passesHours", desc := "(I)I" } : Jvm.MethodName)) ∈ lw_all := lw_g (lw_at lw_m10 3 rfl) rfl
theorem q2239 : (Jvm.Cond.code ({ cls := "WindFarmDispatcherModel", name := "passesHours", desc := "(I)I" } : Jvm.MethodName) prog_20_method_56_code (4 : Nat) (Option.some Jvm.ClassFile.FieldType.int)) ∈ lw_all := lw_g (lw_at lw_m10 4 rfl) rfl
theorem q2240 : (Jvm.Cond.methodLink "WindFarmDispatcherModel" (165 : Nat) ({ cls := "WindFarmDispatcherModel", name := "passes", desc := "()V" } : Jvm.MethodName)) ∈ lw_all := lw_g (lw_at lw_m10 5 rfl) rfl
theorem q2241 : (Jvm.Cond.privateMethod ({ cls := "WindFarmDispatcherModel", name := "passes", desc := "()V" } : Jvm.MethodName)) ∈ lw_tbl := lw_at lw_m10 6 rfl
theorem q2242 : (Jvm.Cond.instanceMethod ({ cls := "WindFarmDispatcherModel", name := "passes", desc := "()V" } : Jvm.MethodName)) ∈ lw_all := lw_g (lw_at lw_m10 7 rfl) rfl
theorem q2243 : (Jvm.Cond.code ({ cls := "WindFarmDispatcherModel", name := "passes", desc := "()V" } : Jvm.MethodName) prog_20_method_55_code (8 : Nat) (Option.none : Option Jvm.ClassFile.FieldType)) ∈ lw_all := lw_g (lw_at lw_m10 8 rfl) rfl
theorem q2245 : (Jvm.Cond.instanceMethod ({ cls := "WindFarmDispatcherModel", name := "turbineCount", desc := "()I" } : Jvm.MethodName)) ∈ lw_all := lw_g (lw_at lw_m10 10 rfl) rfl
theorem q2246 : (Jvm.Cond.selects "WindFarmDispatcherModel" ({ cls := "WindFarmDispatcherModel", name := "turbineCount", desc := "()I" } : Jvm.MethodName) ({ cls := "WindFarmDispatcherModel", name := "turbineCount", desc := "()I" } : Jvm.MethodName)) ∈ lw_all := lw_g (lw_at lw_m10 11 rfl) rfl
theorem q2247 : (Jvm.Cond.code ({ cls := "WindFarmDispatcherModel", name := "turbineCount", desc := "()I" } : Jvm.MethodName) prog_20_method_58_code (1 : Nat) (Option.some Jvm.ClassFile.FieldType.int)) ∈ lw_all := lw_g (lw_at lw_m10 12 rfl) rfl
theorem q2249 : (Jvm.Cond.instanceMethod ({ cls := "WindFarmDispatcherModel", name := "turbineAt", desc := "(II)I" } : Jvm.MethodName)) ∈ lw_all := lw_g (lw_at lw_m10 14 rfl) rfl
theorem q2250 : (Jvm.Cond.selects "WindFarmDispatcherModel" ({ cls := "WindFarmDispatcherModel", name := "turbineAt", desc := "(II)I" } : Jvm.MethodName) ({ cls := "WindFarmDispatcherModel", name := "turbineAt", desc := "(II)I" } : Jvm.MethodName)) ∈ lw_all := lw_g (lw_at lw_m10 15 rfl) rfl
theorem q2251 : (Jvm.Cond.code ({ cls := "WindFarmDispatcherModel", name := "turbineAt", desc := "(II)I" } : Jvm.MethodName) prog_20_method_59_code (4 : Nat) (Option.some Jvm.ClassFile.FieldType.int)) ∈ lw_all := lw_g (lw_at lw_m10 16 rfl) rfl
theorem q2253 : (Jvm.Cond.instanceMethod ({ cls := "WindFarmDispatcherModel", name := "rowOf", desc := "(I)I" } : Jvm.MethodName)) ∈ lw_all := lw_g (lw_at lw_m10 18 rfl) rfl
theorem q2254 : (Jvm.Cond.selects "WindFarmDispatcherModel" ({ cls := "WindFarmDispatcherModel", name := "rowOf", desc := "(I)I" } : Jvm.MethodName) ({ cls := "WindFarmDispatcherModel", name := "rowOf", desc := "(I)I" } : Jvm.MethodName)) ∈ lw_all := lw_g (lw_at lw_m10 19 rfl) rfl
theorem q2255 : (Jvm.Cond.code ({ cls := "WindFarmDispatcherModel", name := "rowOf", desc := "(I)I" } : Jvm.MethodName) prog_20_method_61_code (2 : Nat) (Option.some Jvm.ClassFile.FieldType.int)) ∈ lw_all := lw_g (lw_at lw_m10 20 rfl) rfl
theorem q2256 : (Jvm.Cond.methodLink "WindFarmDispatcherModel" (171 : Nat) ({ cls := "WindFarmDispatcherModel", name := "ofTurbine", desc := "(II)I" } : Jvm.MethodName)) ∈ lw_all := lw_g (lw_at lw_m10 21 rfl) rfl
theorem q2257 : (Jvm.Cond.privateMethod ({ cls := "WindFarmDispatcherModel", name := "ofTurbine", desc := "(II)I" } : Jvm.MethodName)) ∈ lw_tbl := lw_at lw_m10 22 rfl
theorem q2258 : (Jvm.Cond.instanceMethod ({ cls := "WindFarmDispatcherModel", name := "ofTurbine", desc := "(II)I" } : Jvm.MethodName)) ∈ lw_all := lw_g (lw_at lw_m10 23 rfl) rfl
theorem q2259 : (Jvm.Cond.code ({ cls := "WindFarmDispatcherModel", name := "ofTurbine", desc := "(II)I" } : Jvm.MethodName) prog_20_method_60_code (3 : Nat) (Option.some Jvm.ClassFile.FieldType.int)) ∈ lw_all := lw_g (lw_at lw_m10 24 rfl) rfl
theorem q2261 : (Jvm.Cond.instanceMethod ({ cls := "WindFarmDispatcherModel", name := "columnOf", desc := "(I)I" } : Jvm.MethodName)) ∈ lw_all := lw_g (lw_at lw_m10 26 rfl) rfl
theorem q2262 : (Jvm.Cond.selects "WindFarmDispatcherModel" ({ cls := "WindFarmDispatcherModel", name := "columnOf", desc := "(I)I" } : Jvm.MethodName) ({ cls := "WindFarmDispatcherModel", name := "columnOf", desc := "(I)I" } : Jvm.MethodName)) ∈ lw_all := lw_g (lw_at lw_m10 27 rfl) rfl
theorem q2263 : (Jvm.Cond.code ({ cls := "WindFarmDispatcherModel", name := "columnOf", desc := "(I)I" } : Jvm.MethodName) prog_20_method_62_code (2 : Nat) (Option.some Jvm.ClassFile.FieldType.int)) ∈ lw_all := lw_g (lw_at lw_m10 28 rfl) rfl
theorem q2265 : (Jvm.Cond.instanceMethod ({ cls := "WindFarmDispatcherModel", name := "ratedPower", desc := "(I)I" } : Jvm.MethodName)) ∈ lw_all := lw_g (lw_at lw_m10 30 rfl) rfl
theorem q2266 : (Jvm.Cond.selects "WindFarmDispatcherModel" ({ cls := "WindFarmDispatcherModel", name := "ratedPower", desc := "(I)I" } : Jvm.MethodName) ({ cls := "WindFarmDispatcherModel", name := "ratedPower", desc := "(I)I" } : Jvm.MethodName)) ∈ lw_all := lw_g (lw_at lw_m10 31 rfl) rfl
theorem q2267 : (Jvm.Cond.code ({ cls := "WindFarmDispatcherModel", name := "ratedPower", desc := "(I)I" } : Jvm.MethodName) prog_20_method_63_code (2 : Nat) (Option.some Jvm.ClassFile.FieldType.int)) ∈ lw_all := lw_g (lw_at lw_m10 32 rfl) rfl
theorem q2269 : (Jvm.Cond.instanceMethod ({ cls := "WindFarmDispatcherModel", name := "isRunning", desc := "(I)Z" } : Jvm.MethodName)) ∈ lw_all := lw_g (lw_at lw_m10 34 rfl) rfl
theorem q2270 : (Jvm.Cond.selects "WindFarmDispatcherModel" ({ cls := "WindFarmDispatcherModel", name := "isRunning", desc := "(I)Z" } : Jvm.MethodName) ({ cls := "WindFarmDispatcherModel", name := "isRunning", desc := "(I)Z" } : Jvm.MethodName)) ∈ lw_all := lw_g (lw_at lw_m10 35 rfl) rfl
theorem q2271 : (Jvm.Cond.code ({ cls := "WindFarmDispatcherModel", name := "isRunning", desc := "(I)Z" } : Jvm.MethodName) prog_20_method_64_code (2 : Nat) (Option.some Jvm.ClassFile.FieldType.boolean)) ∈ lw_all := lw_g (lw_at lw_m10 36 rfl) rfl
theorem q2273 : (Jvm.Cond.instanceMethod ({ cls := "WindFarmDispatcherModel", name := "isFailed", desc := "(I)Z" } : Jvm.MethodName)) ∈ lw_all := lw_g (lw_at lw_m10 38 rfl) rfl
theorem q2274 : (Jvm.Cond.selects "WindFarmDispatcherModel" ({ cls := "WindFarmDispatcherModel", name := "isFailed", desc := "(I)Z" } : Jvm.MethodName) ({ cls := "WindFarmDispatcherModel", name := "isFailed", desc := "(I)Z" } : Jvm.MethodName)) ∈ lw_all := lw_g (lw_at lw_m10 39 rfl) rfl
theorem q2275 : (Jvm.Cond.code ({ cls := "WindFarmDispatcherModel", name := "isFailed", desc := "(I)Z" } : Jvm.MethodName) prog_20_method_65_code (2 : Nat) (Option.some Jvm.ClassFile.FieldType.boolean)) ∈ lw_all := lw_g (lw_at lw_m10 40 rfl) rfl
theorem q2277 : (Jvm.Cond.instanceMethod ({ cls := "WindFarmDispatcherModel", name := "isInService", desc := "(I)Z" } : Jvm.MethodName)) ∈ lw_all := lw_g (lw_at lw_m10 42 rfl) rfl
theorem q2278 : (Jvm.Cond.selects "WindFarmDispatcherModel" ({ cls := "WindFarmDispatcherModel", name := "isInService", desc := "(I)Z" } : Jvm.MethodName) ({ cls := "WindFarmDispatcherModel", name := "isInService", desc := "(I)Z" } : Jvm.MethodName)) ∈ lw_all := lw_g (lw_at lw_m10 43 rfl) rfl
theorem q2279 : (Jvm.Cond.code ({ cls := "WindFarmDispatcherModel", name := "isInService", desc := "(I)Z" } : Jvm.MethodName) prog_20_method_66_code (2 : Nat) (Option.some Jvm.ClassFile.FieldType.boolean)) ∈ lw_all := lw_g (lw_at lw_m10 44 rfl) rfl
theorem q2281 : (Jvm.Cond.instanceMethod ({ cls := "WindFarmDispatcherModel", name := "limitOf", desc := "(I)I" } : Jvm.MethodName)) ∈ lw_all := lw_g (lw_at lw_m10 46 rfl) rfl
theorem q2282 : (Jvm.Cond.selects "WindFarmDispatcherModel" ({ cls := "WindFarmDispatcherModel", name := "limitOf", desc := "(I)I" } : Jvm.MethodName) ({ cls := "WindFarmDispatcherModel", name := "limitOf", desc := "(I)I" } : Jvm.MethodName)) ∈ lw_all := lw_g (lw_at lw_m10 47 rfl) rfl
theorem q2283 : (Jvm.Cond.code ({ cls := "WindFarmDispatcherModel", name := "limitOf", desc := "(I)I" } : Jvm.MethodName) prog_20_method_67_code (2 : Nat) (Option.some Jvm.ClassFile.FieldType.int)) ∈ lw_all := lw_g (lw_at lw_m10 48 rfl) rfl
theorem q2285 : (Jvm.Cond.instanceMethod ({ cls := "WindFarmDispatcherModel", name := "serviceHoursLeft", desc := "(I)I" } : Jvm.MethodName)) ∈ lw_all := lw_g (lw_at lw_m10 50 rfl) rfl
theorem q2286 : (Jvm.Cond.selects "WindFarmDispatcherModel" ({ cls := "WindFarmDispatcherModel", name := "serviceHoursLeft", desc := "(I)I" } : Jvm.MethodName) ({ cls := "WindFarmDispatcherModel", name := "serviceHoursLeft", desc := "(I)I" } : Jvm.MethodName)) ∈ lw_all := lw_g (lw_at lw_m10 51 rfl) rfl
theorem q2287 : (Jvm.Cond.code ({ cls := "WindFarmDispatcherModel", name := "serviceHoursLeft", desc := "(I)I" } : Jvm.MethodName) prog_20_method_68_code (2 : Nat) (Option.some Jvm.ClassFile.FieldType.int)) ∈ lw_all := lw_g (lw_at lw_m10 52 rfl) rfl
theorem q2289 : (Jvm.Cond.instanceMethod ({ cls := "WindFarmDispatcherModel", name := "freeCrews", desc := "()I" } : Jvm.MethodName)) ∈ lw_all := lw_g (lw_at lw_m10 54 rfl) rfl
theorem q2290 : (Jvm.Cond.selects "WindFarmDispatcherModel" ({ cls := "WindFarmDispatcherModel", name := "freeCrews", desc := "()I" } : Jvm.MethodName) ({ cls := "WindFarmDispatcherModel", name := "freeCrews", desc := "()I" } : Jvm.MethodName)) ∈ lw_all := lw_g (lw_at lw_m10 55 rfl) rfl
theorem q2291 : (Jvm.Cond.code ({ cls := "WindFarmDispatcherModel", name := "freeCrews", desc := "()I" } : Jvm.MethodName) prog_20_method_69_code (1 : Nat) (Option.some Jvm.ClassFile.FieldType.int)) ∈ lw_all := lw_g (lw_at lw_m10 56 rfl) rfl
theorem q2293 : (Jvm.Cond.instanceMethod ({ cls := "WindFarmDispatcherModel", name := "windDirection", desc := "()C" } : Jvm.MethodName)) ∈ lw_all := lw_g (lw_at lw_m10 58 rfl) rfl
theorem q2294 : (Jvm.Cond.selects "WindFarmDispatcherModel" ({ cls := "WindFarmDispatcherModel", name := "windDirection", desc := "()C" } : Jvm.MethodName) ({ cls := "WindFarmDispatcherModel", name := "windDirection", desc := "()C" } : Jvm.MethodName)) ∈ lw_all := lw_g (lw_at lw_m10 59 rfl) rfl
theorem q2295 : (Jvm.Cond.code ({ cls := "WindFarmDispatcherModel", name := "windDirection", desc := "()C" } : Jvm.MethodName) prog_20_method_70_code (1 : Nat) (Option.some Jvm.ClassFile.FieldType.char)) ∈ lw_all := lw_g (lw_at lw_m10 60 rfl) rfl
theorem q2296 : (Jvm.Cond.methodLink "WindFarmDispatcherModel" (174 : Nat) ({ cls := "WindFarmDispatcherModel", name := "signOf", desc := "(I)C" } : Jvm.MethodName)) ∈ lw_all := lw_g (lw_at lw_m10 61 rfl) rfl
theorem q2297 : (Jvm.Cond.static ({ cls := "WindFarmDispatcherModel", name := "signOf", desc := "(I)C" } : Jvm.MethodName)) ∈ lw_all := lw_g (lw_at lw_m10 62 rfl) rfl
theorem q2298 : (Jvm.Cond.code ({ cls := "WindFarmDispatcherModel", name := "signOf", desc := "(I)C" } : Jvm.MethodName) prog_20_method_26_code (1 : Nat) (Option.some Jvm.ClassFile.FieldType.char)) ∈ lw_all := lw_g (lw_at lw_m10 63 rfl) rfl
theorem q2300 : (Jvm.Cond.instanceMethod ({ cls := "WindFarmDispatcherModel", name := "windSpeed", desc := "()I" } : Jvm.MethodName)) ∈ lw_all := lw_g (lw_at lw_m10 65 rfl) rfl
theorem q2301 : (Jvm.Cond.selects "WindFarmDispatcherModel" ({ cls := "WindFarmDispatcherModel", name := "windSpeed", desc := "()I" } : Jvm.MethodName) ({ cls := "WindFarmDispatcherModel", name := "windSpeed", desc := "()I" } : Jvm.MethodName)) ∈ lw_all := lw_g (lw_at lw_m10 66 rfl) rfl
theorem q2302 : (Jvm.Cond.code ({ cls := "WindFarmDispatcherModel", name := "windSpeed", desc := "()I" } : Jvm.MethodName) prog_20_method_71_code (1 : Nat) (Option.some Jvm.ClassFile.FieldType.int)) ∈ lw_all := lw_g (lw_at lw_m10 67 rfl) rfl
theorem q2304 : (Jvm.Cond.instanceMethod ({ cls := "WindFarmDispatcherModel", name := "powerFactor", desc := "()I" } : Jvm.MethodName)) ∈ lw_all := lw_g (lw_at lw_m10 69 rfl) rfl
theorem q2305 : (Jvm.Cond.selects "WindFarmDispatcherModel" ({ cls := "WindFarmDispatcherModel", name := "powerFactor", desc := "()I" } : Jvm.MethodName) ({ cls := "WindFarmDispatcherModel", name := "powerFactor", desc := "()I" } : Jvm.MethodName)) ∈ lw_all := lw_g (lw_at lw_m10 70 rfl) rfl
theorem q2306 : (Jvm.Cond.code ({ cls := "WindFarmDispatcherModel", name := "powerFactor", desc := "()I" } : Jvm.MethodName) prog_20_method_72_code (1 : Nat) (Option.some Jvm.ClassFile.FieldType.int)) ∈ lw_all := lw_g (lw_at lw_m10 71 rfl) rfl
theorem q2308 : (Jvm.Cond.instanceMethod ({ cls := "WindFarmDispatcherModel", name := "wakeLoss", desc := "(I)I" } : Jvm.MethodName)) ∈ lw_all := lw_g (lw_at lw_m10 73 rfl) rfl
theorem q2309 : (Jvm.Cond.selects "WindFarmDispatcherModel" ({ cls := "WindFarmDispatcherModel", name := "wakeLoss", desc := "(I)I" } : Jvm.MethodName) ({ cls := "WindFarmDispatcherModel", name := "wakeLoss", desc := "(I)I" } : Jvm.MethodName)) ∈ lw_all := lw_g (lw_at lw_m10 74 rfl) rfl
theorem q2310 : (Jvm.Cond.code ({ cls := "WindFarmDispatcherModel", name := "wakeLoss", desc := "(I)I" } : Jvm.MethodName) prog_20_method_73_code (2 : Nat) (Option.some Jvm.ClassFile.FieldType.int)) ∈ lw_all := lw_g (lw_at lw_m10 75 rfl) rfl
theorem q2312 : (Jvm.Cond.instanceMethod ({ cls := "WindFarmDispatcherModel", name := "availablePower", desc := "(I)I" } : Jvm.MethodName)) ∈ lw_all := lw_g (lw_at lw_m10 77 rfl) rfl
theorem q2313 : (Jvm.Cond.selects "WindFarmDispatcherModel" ({ cls := "WindFarmDispatcherModel", name := "availablePower", desc := "(I)I" } : Jvm.MethodName) ({ cls := "WindFarmDispatcherModel", name := "availablePower", desc := "(I)I" } : Jvm.MethodName)) ∈ lw_all := lw_g (lw_at lw_m10 78 rfl) rfl
theorem q2314 : (Jvm.Cond.code ({ cls := "WindFarmDispatcherModel", name := "availablePower", desc := "(I)I" } : Jvm.MethodName) prog_20_method_74_code (2 : Nat) (Option.some Jvm.ClassFile.FieldType.int)) ∈ lw_all := lw_g (lw_at lw_m10 79 rfl) rfl
theorem q2316 : (Jvm.Cond.instanceMethod ({ cls := "WindFarmDispatcherModel", name := "outputOf", desc := "(I)I" } : Jvm.MethodName)) ∈ lw_all := lw_g (lw_at lw_m10 81 rfl) rfl
theorem q2317 : (Jvm.Cond.selects "WindFarmDispatcherModel" ({ cls := "WindFarmDispatcherModel", name := "outputOf", desc := "(I)I" } : Jvm.MethodName) ({ cls := "WindFarmDispatcherModel", name := "outputOf", desc := "(I)I" } : Jvm.MethodName)) ∈ lw_all := lw_g (lw_at lw_m10 82 rfl) rfl
theorem q2318 : (Jvm.Cond.code ({ cls := "WindFarmDispatcherModel", name := "outputOf", desc := "(I)I" } : Jvm.MethodName) prog_20_method_75_code (2 : Nat) (Option.some Jvm.ClassFile.FieldType.int)) ∈ lw_all := lw_g (lw_at lw_m10 83 rfl) rfl
theorem q2320 : (Jvm.Cond.instanceMethod ({ cls := "WindFarmDispatcherModel", name := "totalOutput", desc := "()I" } : Jvm.MethodName)) ∈ lw_all := lw_g (lw_at lw_m10 85 rfl) rfl
theorem q2321 : (Jvm.Cond.selects "WindFarmDispatcherModel" ({ cls := "WindFarmDispatcherModel", name := "totalOutput", desc := "()I" } : Jvm.MethodName) ({ cls := "WindFarmDispatcherModel", name := "totalOutput", desc := "()I" } : Jvm.MethodName)) ∈ lw_all := lw_g (lw_at lw_m10 86 rfl) rfl
theorem q2322 : (Jvm.Cond.code ({ cls := "WindFarmDispatcherModel", name := "totalOutput", desc := "()I" } : Jvm.MethodName) prog_20_method_76_code (1 : Nat) (Option.some Jvm.ClassFile.FieldType.int)) ∈ lw_all := lw_g (lw_at lw_m10 87 rfl) rfl
theorem q2324 : (Jvm.Cond.instanceMethod ({ cls := "WindFarmDispatcherModel", name := "totalOutputByLines", desc := "()I" } : Jvm.MethodName)) ∈ lw_all := lw_g (lw_at lw_m10 89 rfl) rfl
theorem q2325 : (Jvm.Cond.selects "WindFarmDispatcherModel" ({ cls := "WindFarmDispatcherModel", name := "totalOutputByLines", desc := "()I" } : Jvm.MethodName) ({ cls := "WindFarmDispatcherModel", name := "totalOutputByLines", desc := "()I" } : Jvm.MethodName)) ∈ lw_all := lw_g (lw_at lw_m10 90 rfl) rfl
theorem q2326 : (Jvm.Cond.code ({ cls := "WindFarmDispatcherModel", name := "totalOutputByLines", desc := "()I" } : Jvm.MethodName) prog_20_method_77_code (1 : Nat) (Option.some Jvm.ClassFile.FieldType.int)) ∈ lw_all := lw_g (lw_at lw_m10 91 rfl) rfl
theorem q2327 : (Jvm.Cond.methodLink "WindFarmDispatcherModel" (178 : Nat) ({ cls := "WindFarmDispatcherModel", name := "totalOutput", desc := "()I" } : Jvm.MethodName)) ∈ lw_all := lw_g (lw_at lw_m10 92 rfl) rfl
theorem q2329 : (Jvm.Cond.instanceMethod ({ cls := "WindFarmDispatcherModel", name := "outputWith", desc := "(CI)I" } : Jvm.MethodName)) ∈ lw_all := lw_g (lw_at lw_m10 94 rfl) rfl
theorem q2330 : (Jvm.Cond.selects "WindFarmDispatcherModel" ({ cls := "WindFarmDispatcherModel", name := "outputWith", desc := "(CI)I" } : Jvm.MethodName) ({ cls := "WindFarmDispatcherModel", name := "outputWith", desc := "(CI)I" } : Jvm.MethodName)) ∈ lw_all := lw_g (lw_at lw_m10 95 rfl) rfl
theorem q2331 : (Jvm.Cond.code ({ cls := "WindFarmDispatcherModel", name := "outputWith", desc := "(CI)I" } : Jvm.MethodName) prog_20_method_79_code (3 : Nat) (Option.some Jvm.ClassFile.FieldType.int)) ∈ lw_all := lw_g (lw_at lw_m10 96 rfl) rfl
theorem q2332 : (Jvm.Cond.methodLink "WindFarmDispatcherModel" (181 : Nat) ({ cls := "WindFarmDispatcherModel", name := "totalWith", desc := "(II)I" } : Jvm.MethodName)) ∈ lw_all := lw_g (lw_at lw_m10 97 rfl) rfl
theorem q2333 : (Jvm.Cond.privateMethod ({ cls := "WindFarmDispatcherModel", name := "totalWith", desc := "(II)I" } : Jvm.MethodName)) ∈ lw_tbl := lw_at lw_m10 98 rfl
theorem q2334 : (Jvm.Cond.instanceMethod ({ cls := "WindFarmDispatcherModel", name := "totalWith", desc := "(II)I" } : Jvm.MethodName)) ∈ lw_all := lw_g (lw_at lw_m10 99 rfl) rfl
theorem q2335 : (Jvm.Cond.code ({ cls := "WindFarmDispatcherModel", name := "totalWith", desc := "(II)I" } : Jvm.MethodName) prog_20_method_78_code (6 : Nat) (Option.some Jvm.ClassFile.FieldType.int)) ∈ lw_all := lw_g (lw_at lw_m10 100 rfl) rfl
theorem q2337 : (Jvm.Cond.instanceMethod ({ cls := "WindFarmDispatcherModel", name := "bestDirection", desc := "()C" } : Jvm.MethodName)) ∈ lw_all := lw_g (lw_at lw_m10 102 rfl) rfl
theorem q2338 : (Jvm.Cond.selects "WindFarmDispatcherModel" ({ cls := "WindFarmDispatcherModel", name := "bestDirection", desc := "()C" } : Jvm.MethodName) ({ cls := "WindFarmDispatcherModel", name := "bestDirection", desc := "()C" } : Jvm.MethodName)) ∈ lw_all := lw_g (lw_at lw_m10 103 rfl) rfl
theorem q2339 : (Jvm.Cond.code ({ cls := "WindFarmDispatcherModel", name := "bestDirection", desc := "()C" } : Jvm.MethodName) prog_20_method_80_code (3 : Nat) (Option.some Jvm.ClassFile.FieldType.char)) ∈ lw_all := lw_g (lw_at lw_m10 104 rfl) rfl
theorem q2341 : (Jvm.Cond.instanceMethod ({ cls := "WindFarmDispatcherModel", name := "gridLimit", desc := "()I" } : Jvm.MethodName)) ∈ lw_all := lw_g (lw_at lw_m10 106 rfl) rfl
theorem q2342 : (Jvm.Cond.selects "WindFarmDispatcherModel" ({ cls := "WindFarmDispatcherModel", name := "gridLimit", desc := "()I" } : Jvm.MethodName) ({ cls := "WindFarmDispatcherModel", name := "gridLimit", desc := "()I" } : Jvm.MethodName)) ∈ lw_all := lw_g (lw_at lw_m10 107 rfl) rfl
theorem q2343 : (Jvm.Cond.code ({ cls := "WindFarmDispatcherModel", name := "gridLimit", desc := "()I" } : Jvm.MethodName) prog_20_method_81_code (1 : Nat) (Option.some Jvm.ClassFile.FieldType.int)) ∈ lw_all := lw_g (lw_at lw_m10 108 rfl) rfl
theorem q2345 : (Jvm.Cond.instanceMethod ({ cls := "WindFarmDispatcherModel", name := "hasBid", desc := "(I)Z" } : Jvm.MethodName)) ∈ lw_all := lw_g (lw_at lw_m10 110 rfl) rfl
theorem q2346 : (Jvm.Cond.selects "WindFarmDispatcherModel" ({ cls := "WindFarmDispatcherModel", name := "hasBid", desc := "(I)Z" } : Jvm.MethodName) ({ cls := "WindFarmDispatcherModel", name := "hasBid", desc := "(I)Z" } : Jvm.MethodName)) ∈ lw_all := lw_g (lw_at lw_m10 111 rfl) rfl
theorem q2347 : (Jvm.Cond.code ({ cls := "WindFarmDispatcherModel", name := "hasBid", desc := "(I)Z" } : Jvm.MethodName) prog_20_method_82_code (2 : Nat) (Option.some Jvm.ClassFile.FieldType.boolean)) ∈ lw_all := lw_g (lw_at lw_m10 112 rfl) rfl
theorem q2349 : (Jvm.Cond.instanceMethod ({ cls := "WindFarmDispatcherModel", name := "bidPrice", desc := "(I)I" } : Jvm.MethodName)) ∈ lw_all := lw_g (lw_at lw_m10 114 rfl) rfl
theorem q2350 : (Jvm.Cond.selects "WindFarmDispatcherModel" ({ cls := "WindFarmDispatcherModel", name := "bidPrice", desc := "(I)I" } : Jvm.MethodName) ({ cls := "WindFarmDispatcherModel", name := "bidPrice", desc := "(I)I" } : Jvm.MethodName)) ∈ lw_all := lw_g (lw_at lw_m10 115 rfl) rfl
theorem q2351 : (Jvm.Cond.code ({ cls := "WindFarmDispatcherModel", name := "bidPrice", desc := "(I)I" } : Jvm.MethodName) prog_20_method_84_code (2 : Nat) (Option.some Jvm.ClassFile.FieldType.int)) ∈ lw_all := lw_g (lw_at lw_m10 116 rfl) rfl
theorem q2352 : (Jvm.Cond.methodLink "WindFarmDispatcherModel" (184 : Nat) ({ cls := "WindFarmDispatcherModel", name := "isBid", desc := "(I)Z" } : Jvm.MethodName)) ∈ lw_all := lw_g (lw_at lw_m10 117 rfl) rfl
theorem q2353 : (Jvm.Cond.privateMethod ({ cls := "WindFarmDispatcherModel", name := "isBid", desc := "(I)Z" } : Jvm.MethodName)) ∈ lw_tbl := lw_at lw_m10 118 rfl
theorem q2354 : (Jvm.Cond.instanceMethod ({ cls := "WindFarmDispatcherModel", name := "isBid", desc := "(I)Z" } : Jvm.MethodName)) ∈ lw_all := lw_g (lw_at lw_m10 119 rfl) rfl
theorem q2355 : (Jvm.Cond.code ({ cls := "WindFarmDispatcherModel", name := "isBid", desc := "(I)Z" } : Jvm.MethodName) prog_20_method_83_code (2 : Nat) (Option.some Jvm.ClassFile.FieldType.boolean)) ∈ lw_all := lw_g (lw_at lw_m10 120 rfl) rfl
theorem q2357 : (Jvm.Cond.instanceMethod ({ cls := "WindFarmDispatcherModel", name := "bidQuantity", desc := "(I)I" } : Jvm.MethodName)) ∈ lw_all := lw_g (lw_at lw_m10 122 rfl) rfl
theorem q2358 : (Jvm.Cond.selects "WindFarmDispatcherModel" ({ cls := "WindFarmDispatcherModel", name := "bidQuantity", desc := "(I)I" } : Jvm.MethodName) ({ cls := "WindFarmDispatcherModel", name := "bidQuantity", desc := "(I)I" } : Jvm.MethodName)) ∈ lw_all := lw_g (lw_at lw_m10 123 rfl) rfl
theorem q2359 : (Jvm.Cond.code ({ cls := "WindFarmDispatcherModel", name := "bidQuantity", desc := "(I)I" } : Jvm.MethodName) prog_20_method_85_code (2 : Nat) (Option.some Jvm.ClassFile.FieldType.int)) ∈ lw_all := lw_g (lw_at lw_m10 124 rfl) rfl
theorem q2361 : (Jvm.Cond.instanceMethod ({ cls := "WindFarmDispatcherModel", name := "bidByPrice", desc := "(I)I" } : Jvm.MethodName)) ∈ lw_all := lw_g (lw_at lw_m10 126 rfl) rfl
theorem q2362 : (Jvm.Cond.selects "WindFarmDispatcherModel" ({ cls := "WindFarmDispatcherModel", name := "bidByPrice", desc := "(I)I" } : Jvm.MethodName) ({ cls := "WindFarmDispatcherModel", name := "bidByPrice", desc := "(I)I" } : Jvm.MethodName)) ∈ lw_all := lw_g (lw_at lw_m10 127 rfl) rfl
theorem q2363 : (Jvm.Cond.code ({ cls := "WindFarmDispatcherModel", name := "bidByPrice", desc := "(I)I" } : Jvm.MethodName) prog_20_method_86_code (7 : Nat) (Option.some Jvm.ClassFile.FieldType.int)) ∈ lw_all := lw_g (lw_at lw_m10 128 rfl) rfl
theorem q2365 : (Jvm.Cond.instanceMethod ({ cls := "WindFarmDispatcherModel", name := "time", desc := "()I" } : Jvm.MethodName)) ∈ lw_all := lw_g (lw_at lw_m10 130 rfl) rfl
theorem q2366 : (Jvm.Cond.selects "WindFarmDispatcherModel" ({ cls := "WindFarmDispatcherModel", name := "time", desc := "()I" } : Jvm.MethodName) ({ cls := "WindFarmDispatcherModel", name := "time", desc := "()I" } : Jvm.MethodName)) ∈ lw_all := lw_g (lw_at lw_m10 131 rfl) rfl
theorem q2367 : (Jvm.Cond.code ({ cls := "WindFarmDispatcherModel", name := "time", desc := "()I" } : Jvm.MethodName) prog_20_method_87_code (1 : Nat) (Option.some Jvm.ClassFile.FieldType.int)) ∈ lw_all := lw_g (lw_at lw_m10 132 rfl) rfl
theorem q2369 : (Jvm.Cond.instanceMethod ({ cls := "WindFarmDispatcherModel", name := "incomeWithin", desc := "(I)I" } : Jvm.MethodName)) ∈ lw_all := lw_g (lw_at lw_m10 134 rfl) rfl
theorem q2370 : (Jvm.Cond.selects "WindFarmDispatcherModel" ({ cls := "WindFarmDispatcherModel", name := "incomeWithin", desc := "(I)I" } : Jvm.MethodName) ({ cls := "WindFarmDispatcherModel", name := "incomeWithin", desc := "(I)I" } : Jvm.MethodName)) ∈ lw_all := lw_g (lw_at lw_m10 135 rfl) rfl
theorem q2371 : (Jvm.Cond.code ({ cls := "WindFarmDispatcherModel", name := "incomeWithin", desc := "(I)I" } : Jvm.MethodName) prog_20_method_88_code (3 : Nat) (Option.some Jvm.ClassFile.FieldType.int)) ∈ lw_all := lw_g (lw_at lw_m10 136 rfl) rfl
theorem q2373 : (Jvm.Cond.instanceMethod ({ cls := "WindFarmDispatcherModel", name := "hoursToBid", desc := "()I" } : Jvm.MethodName)) ∈ lw_all := lw_g (lw_at lw_m10 138 rfl) rfl
theorem q2374 : (Jvm.Cond.selects "WindFarmDispatcherModel" ({ cls := "WindFarmDispatcherModel", name := "hoursToBid", desc := "()I" } : Jvm.MethodName) ({ cls := "WindFarmDispatcherModel", name := "hoursToBid", desc := "()I" } : Jvm.MethodName)) ∈ lw_all := lw_g (lw_at lw_m10 139 rfl) rfl
theorem q2375 : (Jvm.Cond.code ({ cls := "WindFarmDispatcherModel", name := "hoursToBid", desc := "()I" } : Jvm.MethodName) prog_20_method_89_code (2 : Nat) (Option.some Jvm.ClassFile.FieldType.int)) ∈ lw_all := lw_g (lw_at lw_m10 140 rfl) rfl
theorem q2377 : (Jvm.Cond.instanceMethod ({ cls := "WindFarmDispatcherModel", name := "energyMade", desc := "()J" } : Jvm.MethodName)) ∈ lw_all := lw_g (lw_at lw_m10 142 rfl) rfl
theorem q2378 : (Jvm.Cond.selects "WindFarmDispatcherModel" ({ cls := "WindFarmDispatcherModel", name := "energyMade", desc := "()J" } : Jvm.MethodName) ({ cls := "WindFarmDispatcherModel", name := "energyMade", desc := "()J" } : Jvm.MethodName)) ∈ lw_all := lw_g (lw_at lw_m10 143 rfl) rfl
theorem q2379 : (Jvm.Cond.code ({ cls := "WindFarmDispatcherModel", name := "energyMade", desc := "()J" } : Jvm.MethodName) prog_20_method_90_code (1 : Nat) (Option.some Jvm.ClassFile.FieldType.long)) ∈ lw_all := lw_g (lw_at lw_m10 144 rfl) rfl
theorem q2381 : (Jvm.Cond.instanceMethod ({ cls := "WindFarmDispatcherModel", name := "energyLost", desc := "()J" } : Jvm.MethodName)) ∈ lw_all := lw_g (lw_at lw_m10 146 rfl) rfl
theorem q2382 : (Jvm.Cond.selects "WindFarmDispatcherModel" ({ cls := "WindFarmDispatcherModel", name := "energyLost", desc := "()J" } : Jvm.MethodName) ({ cls := "WindFarmDispatcherModel", name := "energyLost", desc := "()J" } : Jvm.MethodName)) ∈ lw_all := lw_g (lw_at lw_m10 147 rfl) rfl
theorem q2383 : (Jvm.Cond.code ({ cls := "WindFarmDispatcherModel", name := "energyLost", desc := "()J" } : Jvm.MethodName) prog_20_method_91_code (1 : Nat) (Option.some Jvm.ClassFile.FieldType.long)) ∈ lw_all := lw_g (lw_at lw_m10 148 rfl) rfl
theorem q2385 : (Jvm.Cond.instanceMethod ({ cls := "WindFarmDispatcherModel", name := "energySold", desc := "()J" } : Jvm.MethodName)) ∈ lw_all := lw_g (lw_at lw_m10 150 rfl) rfl
theorem q2386 : (Jvm.Cond.selects "WindFarmDispatcherModel" ({ cls := "WindFarmDispatcherModel", name := "energySold", desc := "()J" } : Jvm.MethodName) ({ cls := "WindFarmDispatcherModel", name := "energySold", desc := "()J" } : Jvm.MethodName)) ∈ lw_all := lw_g (lw_at lw_m10 151 rfl) rfl
theorem q2387 : (Jvm.Cond.code ({ cls := "WindFarmDispatcherModel", name := "energySold", desc := "()J" } : Jvm.MethodName) prog_20_method_92_code (1 : Nat) (Option.some Jvm.ClassFile.FieldType.long)) ∈ lw_all := lw_g (lw_at lw_m10 152 rfl) rfl
theorem q2389 : (Jvm.Cond.instanceMethod ({ cls := "WindFarmDispatcherModel", name := "energySpilled", desc := "()J" } : Jvm.MethodName)) ∈ lw_all := lw_g (lw_at lw_m10 154 rfl) rfl
theorem q2390 : (Jvm.Cond.selects "WindFarmDispatcherModel" ({ cls := "WindFarmDispatcherModel", name := "energySpilled", desc := "()J" } : Jvm.MethodName) ({ cls := "WindFarmDispatcherModel", name := "energySpilled", desc := "()J" } : Jvm.MethodName)) ∈ lw_all := lw_g (lw_at lw_m10 155 rfl) rfl
theorem q2391 : (Jvm.Cond.code ({ cls := "WindFarmDispatcherModel", name := "energySpilled", desc := "()J" } : Jvm.MethodName) prog_20_method_93_code (1 : Nat) (Option.some Jvm.ClassFile.FieldType.long)) ∈ lw_all := lw_g (lw_at lw_m10 156 rfl) rfl
theorem q2393 : (Jvm.Cond.instanceMethod ({ cls := "WindFarmDispatcherModel", name := "coins", desc := "()J" } : Jvm.MethodName)) ∈ lw_all := lw_g (lw_at lw_m10 158 rfl) rfl
theorem q2394 : (Jvm.Cond.selects "WindFarmDispatcherModel" ({ cls := "WindFarmDispatcherModel", name := "coins", desc := "()J" } : Jvm.MethodName) ({ cls := "WindFarmDispatcherModel", name := "coins", desc := "()J" } : Jvm.MethodName)) ∈ lw_all := lw_g (lw_at lw_m10 159 rfl) rfl
theorem q2395 : (Jvm.Cond.code ({ cls := "WindFarmDispatcherModel", name := "coins", desc := "()J" } : Jvm.MethodName) prog_20_method_94_code (1 : Nat) (Option.some Jvm.ClassFile.FieldType.long)) ∈ lw_all := lw_g (lw_at lw_m10 160 rfl) rfl
theorem q2397 : (Jvm.Cond.instanceMethod ({ cls := "WindFarmDispatcherModel", name := "turbineByOutput", desc := "(I)I" } : Jvm.MethodName)) ∈ lw_all := lw_g (lw_at lw_m10 162 rfl) rfl
theorem q2398 : (Jvm.Cond.selects "WindFarmDispatcherModel" ({ cls := "WindFarmDispatcherModel", name := "turbineByOutput", desc := "(I)I" } : Jvm.MethodName) ({ cls := "WindFarmDispatcherModel", name := "turbineByOutput", desc := "(I)I" } : Jvm.MethodName)) ∈ lw_all := lw_g (lw_at lw_m10 163 rfl) rfl
theorem q2399 : (Jvm.Cond.code ({ cls := "WindFarmDispatcherModel", name := "turbineByOutput", desc := "(I)I" } : Jvm.MethodName) prog_20_method_95_code (7 : Nat) (Option.some Jvm.ClassFile.FieldType.int)) ∈ lw_all := lw_g (lw_at lw_m10 164 rfl) rfl
theorem q2401 : (Jvm.Cond.instanceMethod ({ cls := "WindFarmDispatcherModel", name := "meanOutput", desc := "()D" } : Jvm.MethodName)) ∈ lw_all := lw_g (lw_at lw_m10 166 rfl) rfl
theorem q2402 : (Jvm.Cond.selects "WindFarmDispatcherModel" ({ cls := "WindFarmDispatcherModel", name := "meanOutput", desc := "()D" } : Jvm.MethodName) ({ cls := "WindFarmDispatcherModel", name := "meanOutput", desc := "()D" } : Jvm.MethodName)) ∈ lw_all := lw_g (lw_at lw_m10 167 rfl) rfl
theorem q2403 : (Jvm.Cond.code ({ cls := "WindFarmDispatcherModel", name := "meanOutput", desc := "()D" } : Jvm.MethodName) prog_20_method_96_code (1 : Nat) (Option.some Jvm.ClassFile.FieldType.double)) ∈ lw_all := lw_g (lw_at lw_m10 168 rfl) rfl
theorem q2405 : (Jvm.Cond.instanceMethod ({ cls := "WindFarmDispatcherModel", name := "runningShare", desc := "()F" } : Jvm.MethodName)) ∈ lw_all := lw_g (lw_at lw_m10 170 rfl) rfl
theorem q2406 : (Jvm.Cond.selects "WindFarmDispatcherModel" ({ cls := "WindFarmDispatcherModel", name := "runningShare", desc := "()F" } : Jvm.MethodName) ({ cls := "WindFarmDispatcherModel", name := "runningShare", desc := "()F" } : Jvm.MethodName)) ∈ lw_all := lw_g (lw_at lw_m10 171 rfl) rfl
theorem q2407 : (Jvm.Cond.code ({ cls := "WindFarmDispatcherModel", name := "runningShare", desc := "()F" } : Jvm.MethodName) prog_20_method_97_code (1 : Nat) (Option.some Jvm.ClassFile.FieldType.float)) ∈ lw_all := lw_g (lw_at lw_m10 172 rfl) rfl
theorem q2409 : (Jvm.Cond.instanceMethod ({ cls := "WindFarmDispatcherModel", name := "isConsistent", desc := "()Z" } : Jvm.MethodName)) ∈ lw_all := lw_g (lw_at lw_m10 174 rfl) rfl
theorem q2410 : (Jvm.Cond.selects "WindFarmDispatcherModel" ({ cls := "WindFarmDispatcherModel", name := "isConsistent", desc := "()Z" } : Jvm.MethodName) ({ cls := "WindFarmDispatcherModel", name := "isConsistent", desc := "()Z" } : Jvm.MethodName)) ∈ lw_all := lw_g (lw_at lw_m10 175 rfl) rfl
theorem q2411 : (Jvm.Cond.code ({ cls := "WindFarmDispatcherModel", name := "isConsistent", desc := "()Z" } : Jvm.MethodName) prog_20_method_98_code (1 : Nat) (Option.some Jvm.ClassFile.FieldType.boolean)) ∈ lw_all := lw_g (lw_at lw_m10 176 rfl) rfl
theorem q2413 : (Jvm.Cond.instanceMethod ({ cls := "WindFarmDispatcherModel", name := "writeTurbine", desc := "(I)I" } : Jvm.MethodName)) ∈ lw_all := lw_g (lw_at lw_m10 178 rfl) rfl
theorem q2414 : (Jvm.Cond.selects "WindFarmDispatcherModel" ({ cls := "WindFarmDispatcherModel", name := "writeTurbine", desc := "(I)I" } : Jvm.MethodName) ({ cls := "WindFarmDispatcherModel", name := "writeTurbine", desc := "(I)I" } : Jvm.MethodName)) ∈ lw_all := lw_g (lw_at lw_m10 179 rfl) rfl
theorem q2415 : (Jvm.Cond.code ({ cls := "WindFarmDispatcherModel", name := "writeTurbine", desc := "(I)I" } : Jvm.MethodName) prog_20_method_102_code (2 : Nat) (Option.some Jvm.ClassFile.FieldType.int)) ∈ lw_all := lw_g (lw_at lw_m10 180 rfl) rfl
theorem q2416 : (Jvm.Cond.methodLink "WindFarmDispatcherModel" (190 : Nat) ({ cls := "WindFarmDispatcherModel", name := "writesNumber", desc := "(I)V" } : Jvm.MethodName)) ∈ lw_all := lw_g (lw_at lw_m10 181 rfl) rfl
theorem q2417 : (Jvm.Cond.privateMethod ({ cls := "WindFarmDispatcherModel", name := "writesNumber", desc := "(I)V" } : Jvm.MethodName)) ∈ lw_tbl := lw_at lw_m10 182 rfl
theorem q2418 : (Jvm.Cond.instanceMethod ({ cls := "WindFarmDispatcherModel", name := "writesNumber", desc := "(I)V" } : Jvm.MethodName)) ∈ lw_all := lw_g (lw_at lw_m10 183 rfl) rfl
theorem q2419 : (Jvm.Cond.code ({ cls := "WindFarmDispatcherModel", name := "writesNumber", desc := "(I)V" } : Jvm.MethodName) prog_20_method_100_code (2 : Nat) (Option.none : Option Jvm.ClassFile.FieldType)) ∈ lw_all := lw_g (lw_at lw_m10 184 rfl) rfl
theorem q2420 : (Jvm.Cond.methodLink "WindFarmDispatcherModel" (194 : Nat) ({ cls := "WindFarmDispatcherModel", name := "writes", desc := "(I)V" } : Jvm.MethodName)) ∈ lw_all := lw_g (lw_at lw_m10 185 rfl) rfl
theorem q2421 : (Jvm.Cond.privateMethod ({ cls := "WindFarmDispatcherModel", name := "writes", desc := "(I)V" } : Jvm.MethodName)) ∈ lw_tbl := lw_at lw_m10 186 rfl
theorem q2422 : (Jvm.Cond.instanceMethod ({ cls := "WindFarmDispatcherModel", name := "writes", desc := "(I)V" } : Jvm.MethodName)) ∈ lw_all := lw_g (lw_at lw_m10 187 rfl) rfl
theorem q2423 : (Jvm.Cond.code ({ cls := "WindFarmDispatcherModel", name := "writes", desc := "(I)V" } : Jvm.MethodName) prog_20_method_99_code (2 : Nat) (Option.none : Option Jvm.ClassFile.FieldType)) ∈ lw_all := lw_g (lw_at lw_m10 188 rfl) rfl
theorem q2424 : (Jvm.Cond.methodLink "WindFarmDispatcherModel" (197 : Nat) ({ cls := "WindFarmDispatcherModel", name := "writesBehind", desc := "(II)V" } : Jvm.MethodName)) ∈ lw_all := lw_g (lw_at lw_m10 189 rfl) rfl
theorem q2425 : (Jvm.Cond.privateMethod ({ cls := "WindFarmDispatcherModel", name := "writesBehind", desc := "(II)V" } : Jvm.MethodName)) ∈ lw_tbl := lw_at lw_m10 190 rfl
theorem q2426 : (Jvm.Cond.instanceMethod ({ cls := "WindFarmDispatcherModel", name := "writesBehind", desc := "(II)V" } : Jvm.MethodName)) ∈ lw_all := lw_g (lw_at lw_m10 191 rfl) rfl
theorem q2427 : (Jvm.Cond.code ({ cls := "WindFarmDispatcherModel", name := "writesBehind", desc := "(II)V" } : Jvm.MethodName) prog_20_method_101_code (3 : Nat) (Option.none : Option Jvm.ClassFile.FieldType)) ∈ lw_all := lw_g (lw_at lw_m10 192 rfl) rfl
theorem q2429 : (Jvm.Cond.instanceMethod ({ cls := "WindFarmDispatcherModel", name := "outputAt", desc := "(I)C" } : Jvm.MethodName)) ∈ lw_all := lw_g (lw_at lw_m10 194 rfl) rfl
theorem q2430 : (Jvm.Cond.selects "WindFarmDispatcherModel" ({ cls := "WindFarmDispatcherModel", name := "outputAt", desc := "(I)C" } : Jvm.MethodName) ({ cls := "WindFarmDispatcherModel", name := "outputAt", desc := "(I)C" } : Jvm.MethodName)) ∈ lw_all := lw_g (lw_at lw_m10 195 rfl) rfl
theorem q2431 : (Jvm.Cond.code ({ cls := "WindFarmDispatcherModel", name := "outputAt", desc := "(I)C" } : Jvm.MethodName) prog_20_method_103_code (2 : Nat) (Option.some Jvm.ClassFile.FieldType.char)) ∈ lw_all := lw_g (lw_at lw_m10 196 rfl) rfl
theorem q2433 : (Jvm.Cond.instanceMethod ({ cls := "WindFarmDispatcherModel", name := "appendInput", desc := "(C)I" } : Jvm.MethodName)) ∈ lw_all := lw_g (lw_at lw_m10 198 rfl) rfl
theorem q2434 : (Jvm.Cond.selects "WindFarmDispatcherModel" ({ cls := "WindFarmDispatcherModel", name := "appendInput", desc := "(C)I" } : Jvm.MethodName) ({ cls := "WindFarmDispatcherModel", name := "appendInput", desc := "(C)I" } : Jvm.MethodName)) ∈ lw_all := lw_g (lw_at lw_m10 199 rfl) rfl
theorem q2435 : (Jvm.Cond.code ({ cls := "WindFarmDispatcherModel", name := "appendInput", desc := "(C)I" } : Jvm.MethodName) prog_20_method_104_code (2 : Nat) (Option.some Jvm.ClassFile.FieldType.int)) ∈ lw_all := lw_g (lw_at lw_m10 200 rfl) rfl
theorem q2437 : (Jvm.Cond.instanceMethod ({ cls := "WindFarmDispatcherModel", name := "execute", desc := "()I" } : Jvm.MethodName)) ∈ lw_all := lw_g (lw_at lw_m10 202 rfl) rfl
theorem q2438 : (Jvm.Cond.selects "WindFarmDispatcherModel" ({ cls := "WindFarmDispatcherModel", name := "execute", desc := "()I" } : Jvm.MethodName) ({ cls := "WindFarmDispatcherModel", name := "execute", desc := "()I" } : Jvm.MethodName)) ∈ lw_all := lw_g (lw_at lw_m10 203 rfl) rfl
theorem q2439 : (Jvm.Cond.code ({ cls := "WindFarmDispatcherModel", name := "execute", desc := "()I" } : Jvm.MethodName) prog_20_method_114_code (3 : Nat) (Option.some Jvm.ClassFile.FieldType.int)) ∈ lw_all := lw_g (lw_at lw_m10 204 rfl) rfl
theorem q2440 : (Jvm.Cond.methodLink "WindFarmDispatcherModel" (233 : Nat) ({ cls := "WindFarmDispatcherModel", name := "parse", desc := "()V" } : Jvm.MethodName)) ∈ lw_all := lw_g (lw_at lw_m10 205 rfl) rfl
theorem q2441 : (Jvm.Cond.privateMethod ({ cls := "WindFarmDispatcherModel", name := "parse", desc := "()V" } : Jvm.MethodName)) ∈ lw_tbl := lw_at lw_m10 206 rfl
theorem q2442 : (Jvm.Cond.instanceMethod ({ cls := "WindFarmDispatcherModel", name := "parse", desc := "()V" } : Jvm.MethodName)) ∈ lw_all := lw_g (lw_at lw_m10 207 rfl) rfl
theorem q2443 : (Jvm.Cond.code ({ cls := "WindFarmDispatcherModel", name := "parse", desc := "()V" } : Jvm.MethodName) prog_20_method_112_code (1 : Nat) (Option.none : Option Jvm.ClassFile.FieldType)) ∈ lw_all := lw_g (lw_at lw_m10 208 rfl) rfl
theorem q2444 : (Jvm.Cond.methodLink "WindFarmDispatcherModel" (230 : Nat) ({ cls := "WindFarmDispatcherModel", name := "command", desc := "()V" } : Jvm.MethodName)) ∈ lw_all := lw_g (lw_at lw_m10 209 rfl) rfl
theorem q2445 : (Jvm.Cond.privateMethod ({ cls := "WindFarmDispatcherModel", name := "command", desc := "()V" } : Jvm.MethodName)) ∈ lw_tbl := lw_at lw_m10 210 rfl
theorem q2446 : (Jvm.Cond.instanceMethod ({ cls := "WindFarmDispatcherModel", name := "command", desc := "()V" } : Jvm.MethodName)) ∈ lw_all := lw_g (lw_at lw_m10 211 rfl) rfl
theorem q2447 : (Jvm.Cond.code ({ cls := "WindFarmDispatcherModel", name := "command", desc := "()V" } : Jvm.MethodName) prog_20_method_111_code (4 : Nat) (Option.none : Option Jvm.ClassFile.FieldType)) ∈ lw_all := lw_g (lw_at lw_m10 212 rfl) rfl
theorem q2448 : (Jvm.Cond.methodLink "WindFarmDispatcherModel" (209 : Nat) ({ cls := "WindFarmDispatcherModel", name := "sign", desc := "()I" } : Jvm.MethodName)) ∈ lw_all := lw_g (lw_at lw_m10 213 rfl) rfl
theorem q2449 : (Jvm.Cond.privateMethod ({ cls := "WindFarmDispatcherModel", name := "sign", desc := "()I" } : Jvm.MethodName)) ∈ lw_tbl := lw_at lw_m10 214 rfl
theorem q2450 : (Jvm.Cond.instanceMethod ({ cls := "WindFarmDispatcherModel", name := "sign", desc := "()I" } : Jvm.MethodName)) ∈ lw_all := lw_g (lw_at lw_m10 215 rfl) rfl
theorem q2451 : (Jvm.Cond.code ({ cls := "WindFarmDispatcherModel", name := "sign", desc := "()I" } : Jvm.MethodName) prog_20_method_105_code (1 : Nat) (Option.some Jvm.ClassFile.FieldType.int)) ∈ lw_all := lw_g (lw_at lw_m10 216 rfl) rfl
theorem q2452 : (Jvm.Cond.methodLink "WindFarmDispatcherModel" (221 : Nat) ({ cls := "WindFarmDispatcherModel", name := "isLetter", desc := "(I)Z" } : Jvm.MethodName)) ∈ lw_all := lw_g (lw_at lw_m10 217 rfl) rfl
theorem q2453 : (Jvm.Cond.static ({ cls := "WindFarmDispatcherModel", name := "isLetter", desc := "(I)Z" } : Jvm.MethodName)) ∈ lw_all := lw_g (lw_at lw_m10 218 rfl) rfl
theorem q2454 : (Jvm.Cond.code ({ cls := "WindFarmDispatcherModel", name := "isLetter", desc := "(I)Z" } : Jvm.MethodName) prog_20_method_110_code (1 : Nat) (Option.some Jvm.ClassFile.FieldType.boolean)) ∈ lw_all := lw_g (lw_at lw_m10 219 rfl) rfl
theorem q2455 : (Jvm.Cond.methodLink "WindFarmDispatcherModel" (215 : Nat) ({ cls := "WindFarmDispatcherModel", name := "number", desc := "(I)I" } : Jvm.MethodName)) ∈ lw_all := lw_g (lw_at lw_m10 220 rfl) rfl
theorem q2456 : (Jvm.Cond.privateMethod ({ cls := "WindFarmDispatcherModel", name := "number", desc := "(I)I" } : Jvm.MethodName)) ∈ lw_tbl := lw_at lw_m10 221 rfl
theorem q2457 : (Jvm.Cond.instanceMethod ({ cls := "WindFarmDispatcherModel", name := "number", desc := "(I)I" } : Jvm.MethodName)) ∈ lw_all := lw_g (lw_at lw_m10 222 rfl) rfl
theorem q2458 : (Jvm.Cond.code ({ cls := "WindFarmDispatcherModel", name := "number", desc := "(I)I" } : Jvm.MethodName) prog_20_method_107_code (4 : Nat) (Option.some Jvm.ClassFile.FieldType.int)) ∈ lw_all := lw_g (lw_at lw_m10 223 rfl) rfl
theorem q2459 : (Jvm.Cond.methodLink "WindFarmDispatcherModel" (224 : Nat) ({ cls := "WindFarmDispatcherModel", name := "way", desc := "()I" } : Jvm.MethodName)) ∈ lw_all := lw_g (lw_at lw_m10 224 rfl) rfl
theorem q2460 : (Jvm.Cond.privateMethod ({ cls := "WindFarmDispatcherModel", name := "way", desc := "()I" } : Jvm.MethodName)) ∈ lw_tbl := lw_at lw_m10 225 rfl
theorem q2461 : (Jvm.Cond.instanceMethod ({ cls := "WindFarmDispatcherModel", name := "way", desc := "()I" } : Jvm.MethodName)) ∈ lw_all := lw_g (lw_at lw_m10 226 rfl) rfl
theorem q2462 : (Jvm.Cond.code ({ cls := "WindFarmDispatcherModel", name := "way", desc := "()I" } : Jvm.MethodName) prog_20_method_109_code (2 : Nat) (Option.some Jvm.ClassFile.FieldType.int)) ∈ lw_all := lw_g (lw_at lw_m10 227 rfl) rfl
theorem q2463 : (Jvm.Cond.methodLink "WindFarmDispatcherModel" (227 : Nat) ({ cls := "WindFarmDispatcherModel", name := "behind", desc := "(I)I" } : Jvm.MethodName)) ∈ lw_all := lw_g (lw_at lw_m10 228 rfl) rfl
theorem q2464 : (Jvm.Cond.privateMethod ({ cls := "WindFarmDispatcherModel", name := "behind", desc := "(I)I" } : Jvm.MethodName)) ∈ lw_tbl := lw_at lw_m10 229 rfl
theorem q2465 : (Jvm.Cond.instanceMethod ({ cls := "WindFarmDispatcherModel", name := "behind", desc := "(I)I" } : Jvm.MethodName)) ∈ lw_all := lw_g (lw_at lw_m10 230 rfl) rfl
theorem q2466 : (Jvm.Cond.code ({ cls := "WindFarmDispatcherModel", name := "behind", desc := "(I)I" } : Jvm.MethodName) prog_20_method_108_code (2 : Nat) (Option.some Jvm.ClassFile.FieldType.int)) ∈ lw_all := lw_g (lw_at lw_m10 231 rfl) rfl
theorem q2467 : (Jvm.Cond.methodLink "WindFarmDispatcherModel" (212 : Nat) ({ cls := "WindFarmDispatcherModel", name := "needs", desc := "(I)V" } : Jvm.MethodName)) ∈ lw_all := lw_g (lw_at lw_m10 232 rfl) rfl
theorem q2468 : (Jvm.Cond.privateMethod ({ cls := "WindFarmDispatcherModel", name := "needs", desc := "(I)V" } : Jvm.MethodName)) ∈ lw_tbl := lw_at lw_m10 233 rfl
theorem q2469 : (Jvm.Cond.instanceMethod ({ cls := "WindFarmDispatcherModel", name := "needs", desc := "(I)V" } : Jvm.MethodName)) ∈ lw_all := lw_g (lw_at lw_m10 234 rfl) rfl
theorem q2470 : (Jvm.Cond.code ({ cls := "WindFarmDispatcherModel", name := "needs", desc := "(I)V" } : Jvm.MethodName) prog_20_method_106_code (2 : Nat) (Option.none : Option Jvm.ClassFile.FieldType)) ∈ lw_all := lw_g (lw_at lw_m10 235 rfl) rfl
theorem q2471 : (Jvm.Cond.methodLink "WindFarmDispatcherModel" (236 : Nat) ({ cls := "WindFarmDispatcherModel", name := "does", desc := "(I)I" } : Jvm.MethodName)) ∈ lw_all := lw_g (lw_at lw_m10 236 rfl) rfl
theorem q2472 : (Jvm.Cond.privateMethod ({ cls := "WindFarmDispatcherModel", name := "does", desc := "(I)I" } : Jvm.MethodName)) ∈ lw_tbl := lw_at lw_m10 237 rfl
theorem q2473 : (Jvm.Cond.instanceMethod ({ cls := "WindFarmDispatcherModel", name := "does", desc := "(I)I" } : Jvm.MethodName)) ∈ lw_all := lw_g (lw_at lw_m10 238 rfl) rfl
theorem q2474 : (Jvm.Cond.code ({ cls := "WindFarmDispatcherModel", name := "does", desc := "(I)I" } : Jvm.MethodName) prog_20_method_113_code (5 : Nat) (Option.some Jvm.ClassFile.FieldType.int)) ∈ lw_all := lw_g (lw_at lw_m10 239 rfl) rfl
theorem q2476 : (Jvm.Cond.instanceMethod ({ cls := "WindFarmDispatcherModel", name := "syntaxErrorOffset", desc := "()I" } : Jvm.MethodName)) ∈ lw_all := lw_g (lw_at lw_m11 1 rfl) rfl
theorem q2477 : (Jvm.Cond.selects "WindFarmDispatcherModel" ({ cls := "WindFarmDispatcherModel", name := "syntaxErrorOffset", desc := "()I" } : Jvm.MethodName) ({ cls := "WindFarmDispatcherModel", name := "syntaxErrorOffset", desc := "()I" } : Jvm.MethodName)) ∈ lw_all := lw_g (lw_at lw_m11 2 rfl) rfl
theorem q2478 : (Jvm.Cond.code ({ cls := "WindFarmDispatcherModel", name := "syntaxErrorOffset", desc := "()I" } : Jvm.MethodName) prog_20_method_115_code (1 : Nat) (Option.some Jvm.ClassFile.FieldType.int)) ∈ lw_all := lw_g (lw_at lw_m11 3 rfl) rfl
theorem q2480 : (Jvm.Cond.instanceMethod ({ cls := "WindFarmDispatcherModel", name := "undo", desc := "()I" } : Jvm.MethodName)) ∈ lw_all := lw_g (lw_at lw_m11 5 rfl) rfl
theorem q2481 : (Jvm.Cond.selects "WindFarmDispatcherModel" ({ cls := "WindFarmDispatcherModel", name := "undo", desc := "()I" } : Jvm.MethodName) ({ cls := "WindFarmDispatcherModel", name := "undo", desc := "()I" } : Jvm.MethodName)) ∈ lw_all := lw_g (lw_at lw_m11 6 rfl) rfl
theorem q2482 : (Jvm.Cond.code ({ cls := "WindFarmDispatcherModel", name := "undo", desc := "()I" } : Jvm.MethodName) prog_20_method_116_code (1 : Nat) (Option.some Jvm.ClassFile.FieldType.int)) ∈ lw_all := lw_g (lw_at lw_m11 7 rfl) rfl
theorem q2484 : (Jvm.Cond.instanceMethod ({ cls := "WindFarmDispatcherModel", name := "saveSnapshot", desc := "()I" } : Jvm.MethodName)) ∈ lw_all := lw_g (lw_at lw_m11 9 rfl) rfl
theorem q2485 : (Jvm.Cond.selects "WindFarmDispatcherModel" ({ cls := "WindFarmDispatcherModel", name := "saveSnapshot", desc := "()I" } : Jvm.MethodName) ({ cls := "WindFarmDispatcherModel", name := "saveSnapshot", desc := "()I" } : Jvm.MethodName)) ∈ lw_all := lw_g (lw_at lw_m11 10 rfl) rfl
theorem q2486 : (Jvm.Cond.code ({ cls := "WindFarmDispatcherModel", name := "saveSnapshot", desc := "()I" } : Jvm.MethodName) prog_20_method_117_code (1 : Nat) (Option.some Jvm.ClassFile.FieldType.int)) ∈ lw_all := lw_g (lw_at lw_m11 11 rfl) rfl
theorem q2488 : (Jvm.Cond.instanceMethod ({ cls := "WindFarmDispatcherModel", name := "restoreSnapshot", desc := "()I" } : Jvm.MethodName)) ∈ lw_all := lw_g (lw_at lw_m11 13 rfl) rfl
theorem q2489 : (Jvm.Cond.selects "WindFarmDispatcherModel" ({ cls := "WindFarmDispatcherModel", name := "restoreSnapshot", desc := "()I" } : Jvm.MethodName) ({ cls := "WindFarmDispatcherModel", name := "restoreSnapshot", desc := "()I" } : Jvm.MethodName)) ∈ lw_all := lw_g (lw_at lw_m11 14 rfl) rfl
theorem q2490 : (Jvm.Cond.code ({ cls := "WindFarmDispatcherModel", name := "restoreSnapshot", desc := "()I" } : Jvm.MethodName) prog_20_method_118_code (1 : Nat) (Option.some Jvm.ClassFile.FieldType.int)) ∈ lw_all := lw_g (lw_at lw_m11 15 rfl) rfl
theorem q2515 : (Jvm.Cond.castable "WindFarmDispatcherModel" "java/lang/Object") ∈ lw_tbl := lw_at lw_m11 40 rfl
theorem in_X4 : ∀ w ∈ wsX40, w ∈ lw_all := lw_in wsX40 [1993, 1995, 1997, 1999, 2001, 2003, 2005, 2007, 2009, 2011, 2013, 2015, 2017, 2019, 2021, 2023, 2025] (by decide +kernel) (by decide +kernel)
