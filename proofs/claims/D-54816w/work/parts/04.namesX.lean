/-! PedalLayers -/
set_option maxRecDepth 100000
def RX0 : String := "PedalLayers"
def TX0 : u_T := fun k => match k with
  | 0 => ("PedalLayers", "now", "LPedalLayers$Pedal;", false)
  | 1 => ("PedalLayers", "history", "Ljava/util/LinkedList;", true)
  | 2 => ("PedalLayers", "kept", "LPedalLayers$Pedal;", false)
  | 3 => ("PedalLayers", "pad", "Ljava/lang/StringBuilder;", true)
  | _ => ("PedalLayers", "stopped", "LPedalLayers$Stopped;", false)
def tyX0 : Nat → FieldType := fun k => match k with
  | 0 => .object "PedalLayers$Pedal"
  | 1 => .object "java/util/LinkedList"
  | 2 => .object "PedalLayers$Pedal"
  | 3 => .object "java/lang/StringBuilder"
  | _ => .object "PedalLayers$Stopped"
abbrev wsX00 : List Cond := u_ws RX0 TX0 5
theorem nmX0 : ∀ a, a < 5 → ∀ b, b < 5 → a ≠ b → (TX0 a).2.1 ≠ (TX0 b).2.1 := by decide +kernel
theorem tyX0_ok : ∀ k, k < 5 → parseFieldDescriptor (TX0 k).2.2.1 = some (tyX0 k) := by decide +kernel
abbrev cX0_init : ByteArray := prog_1_method_4_code
def yX0_init : MethodName := ⟨RX0, "<init>", "()V"⟩
def dkwX0_init_1 : List UInt8 := [181, 0, 25, 42, 187, 0, 29, 89, 183, 0, 31, 181, 0, 32, 177]
abbrev dktX0_init_1 : List UInt8 := dkwX0_init_1 ++ []
def dkwX0_init_0 : List UInt8 := [42, 183, 0, 10, 42, 187, 0, 13, 89, 183, 0, 15, 181, 0, 16, 42, 187, 0, 22, 89, 183, 0, 24]
abbrev dktX0_init_0 : List UInt8 := dkwX0_init_0 ++ dktX0_init_1
theorem dksX0_init_0 : cX0_init.data.toList.drop 0 = dktX0_init_0 := by decide +kernel
theorem dksX0_init_1 : cX0_init.data.toList.drop 23 = dktX0_init_1 := dk_seg dksX0_init_0 23 rfl rfl
theorem dX0_init_0 : decode cX0_init 0 = .ok (.aload_n 0, 1) := dk_42 (dk_at dksX0_init_0 0 rfl rfl)
theorem dX0_init_1 : decode cX0_init 1 = .ok (.invokespecial 10, 3) := dk_183 0 10 (dk_at dksX0_init_0 1 rfl rfl)
theorem dX0_init_4 : decode cX0_init 4 = .ok (.aload_n 0, 1) := dk_42 (dk_at dksX0_init_0 4 rfl rfl)
theorem dX0_init_5 : decode cX0_init 5 = .ok (.new 13, 3) := dk_187 0 13 (dk_at dksX0_init_0 5 rfl rfl)
theorem dX0_init_8 : decode cX0_init 8 = .ok (.dup, 1) := dk_89 (dk_at dksX0_init_0 8 rfl rfl)
theorem dX0_init_9 : decode cX0_init 9 = .ok (.invokespecial 15, 3) := dk_183 0 15 (dk_at dksX0_init_0 9 rfl rfl)
theorem dX0_init_12 : decode cX0_init 12 = .ok (.putfield 16, 3) := dk_181 0 16 (dk_at dksX0_init_0 12 rfl rfl)
theorem dX0_init_15 : decode cX0_init 15 = .ok (.aload_n 0, 1) := dk_42 (dk_at dksX0_init_0 15 rfl rfl)
theorem dX0_init_16 : decode cX0_init 16 = .ok (.new 22, 3) := dk_187 0 22 (dk_at dksX0_init_0 16 rfl rfl)
theorem dX0_init_19 : decode cX0_init 19 = .ok (.dup, 1) := dk_89 (dk_at dksX0_init_0 19 rfl rfl)
theorem dX0_init_20 : decode cX0_init 20 = .ok (.invokespecial 24, 3) := dk_183 0 24 (dk_at dksX0_init_0 20 rfl rfl)
theorem dX0_init_23 : decode cX0_init 23 = .ok (.putfield 25, 3) := dk_181 0 25 (dk_at dksX0_init_1 0 rfl rfl)
theorem dX0_init_26 : decode cX0_init 26 = .ok (.aload_n 0, 1) := dk_42 (dk_at dksX0_init_1 3 rfl rfl)
theorem dX0_init_27 : decode cX0_init 27 = .ok (.new 29, 3) := dk_187 0 29 (dk_at dksX0_init_1 4 rfl rfl)
theorem dX0_init_30 : decode cX0_init 30 = .ok (.dup, 1) := dk_89 (dk_at dksX0_init_1 7 rfl rfl)
theorem dX0_init_31 : decode cX0_init 31 = .ok (.invokespecial 31, 3) := dk_183 0 31 (dk_at dksX0_init_1 8 rfl rfl)
theorem dX0_init_34 : decode cX0_init 34 = .ok (.putfield 32, 3) := dk_181 0 32 (dk_at dksX0_init_1 11 rfl rfl)
theorem dX0_init_37 : decode cX0_init 37 = .ok (.return_, 1) := dk_177 (dk_at dksX0_init_1 14 rfl rfl)
abbrev cX0_press : ByteArray := prog_1_method_6_code
def yX0_press : MethodName := ⟨RX0, "press", "()I"⟩
def dkwX0_press_1 : List UInt8 := [44, 184, 0, 61, 172]
abbrev dktX0_press_1 : List UInt8 := dkwX0_press_1 ++ []
def dkwX0_press_0 : List UInt8 := [42, 180, 0, 16, 182, 0, 48, 76, 42, 180, 0, 16, 182, 0, 52, 61, 42, 43, 182, 0, 55, 28, 172, 77]
abbrev dktX0_press_0 : List UInt8 := dkwX0_press_0 ++ dktX0_press_1
theorem dksX0_press_0 : cX0_press.data.toList.drop 0 = dktX0_press_0 := by decide +kernel
theorem dksX0_press_1 : cX0_press.data.toList.drop 24 = dktX0_press_1 := dk_seg dksX0_press_0 24 rfl rfl
theorem dX0_press_0 : decode cX0_press 0 = .ok (.aload_n 0, 1) := dk_42 (dk_at dksX0_press_0 0 rfl rfl)
theorem dX0_press_1 : decode cX0_press 1 = .ok (.getfield 16, 3) := dk_180 0 16 (dk_at dksX0_press_0 1 rfl rfl)
theorem dX0_press_4 : decode cX0_press 4 = .ok (.invokevirtual 48, 3) := dk_182 0 48 (dk_at dksX0_press_0 4 rfl rfl)
theorem dX0_press_7 : decode cX0_press 7 = .ok (.astore_n 1, 1) := dk_76 (dk_at dksX0_press_0 7 rfl rfl)
theorem dX0_press_8 : decode cX0_press 8 = .ok (.aload_n 0, 1) := dk_42 (dk_at dksX0_press_0 8 rfl rfl)
theorem dX0_press_9 : decode cX0_press 9 = .ok (.getfield 16, 3) := dk_180 0 16 (dk_at dksX0_press_0 9 rfl rfl)
theorem dX0_press_12 : decode cX0_press 12 = .ok (.invokevirtual 52, 3) := dk_182 0 52 (dk_at dksX0_press_0 12 rfl rfl)
theorem dX0_press_15 : decode cX0_press 15 = .ok (.istore_n 2, 1) := dk_61 (dk_at dksX0_press_0 15 rfl rfl)
theorem dX0_press_16 : decode cX0_press 16 = .ok (.aload_n 0, 1) := dk_42 (dk_at dksX0_press_0 16 rfl rfl)
theorem dX0_press_17 : decode cX0_press 17 = .ok (.aload_n 1, 1) := dk_43 (dk_at dksX0_press_0 17 rfl rfl)
theorem dX0_press_18 : decode cX0_press 18 = .ok (.invokevirtual 55, 3) := dk_182 0 55 (dk_at dksX0_press_0 18 rfl rfl)
theorem dX0_press_21 : decode cX0_press 21 = .ok (.iload_n 2, 1) := dk_28 (dk_at dksX0_press_0 21 rfl rfl)
theorem dX0_press_22 : decode cX0_press 22 = .ok (.ireturn, 1) := dk_172 (dk_at dksX0_press_0 22 rfl rfl)
theorem dX0_press_23 : decode cX0_press 23 = .ok (.astore_n 2, 1) := dk_77 (dk_at dksX0_press_0 23 rfl rfl)
theorem dX0_press_24 : decode cX0_press 24 = .ok (.aload_n 2, 1) := dk_44 (dk_at dksX0_press_1 0 rfl rfl)
theorem dX0_press_25 : decode cX0_press 25 = .ok (.invokestatic 61, 3) := dk_184 0 61 (dk_at dksX0_press_1 1 rfl rfl)
theorem dX0_press_28 : decode cX0_press 28 = .ok (.ireturn, 1) := dk_172 (dk_at dksX0_press_1 4 rfl rfl)
abbrev cX0_needs : ByteArray := prog_1_method_3_code
def yX0_needs : MethodName := ⟨RX0, "needs", "(Z)V"⟩
def dkwX0_needs_0 : List UInt8 := [26, 154, 0, 11, 187, 0, 7, 89, 183, 0, 9, 191, 177]
abbrev dktX0_needs_0 : List UInt8 := dkwX0_needs_0 ++ []
theorem dksX0_needs_0 : cX0_needs.data.toList.drop 0 = dktX0_needs_0 := by decide +kernel
theorem dX0_needs_0 : decode cX0_needs 0 = .ok (.iload_n 0, 1) := dk_26 (dk_at dksX0_needs_0 0 rfl rfl)
theorem dX0_needs_1 : decode cX0_needs 1 = .ok (.ifCond .ne 11, 3) := dk_154 0 11 (dk_at dksX0_needs_0 1 rfl rfl)
theorem dX0_needs_4 : decode cX0_needs 4 = .ok (.new 7, 3) := dk_187 0 7 (dk_at dksX0_needs_0 4 rfl rfl)
theorem dX0_needs_7 : decode cX0_needs 7 = .ok (.dup, 1) := dk_89 (dk_at dksX0_needs_0 7 rfl rfl)
theorem dX0_needs_8 : decode cX0_needs 8 = .ok (.invokespecial 9, 3) := dk_183 0 9 (dk_at dksX0_needs_0 8 rfl rfl)
theorem dX0_needs_11 : decode cX0_needs 11 = .ok (.athrow, 1) := dk_191 (dk_at dksX0_needs_0 11 rfl rfl)
theorem dX0_needs_12 : decode cX0_needs 12 = .ok (.return_, 1) := dk_177 (dk_at dksX0_needs_0 12 rfl rfl)
abbrev cX0_records : ByteArray := prog_1_method_5_code
def yX0_records : MethodName := ⟨RX0, "records", "(LPedalLayers$Pedal;)V"⟩
def dkwX0_records_1 : List UInt8 := [182, 0, 44, 177]
abbrev dktX0_records_1 : List UInt8 := dkwX0_records_1 ++ []
def dkwX0_records_0 : List UInt8 := [42, 180, 0, 25, 182, 0, 36, 7, 160, 0, 11, 42, 180, 0, 25, 182, 0, 40, 87, 42, 180, 0, 25, 43]
abbrev dktX0_records_0 : List UInt8 := dkwX0_records_0 ++ dktX0_records_1
theorem dksX0_records_0 : cX0_records.data.toList.drop 0 = dktX0_records_0 := by decide +kernel
theorem dksX0_records_1 : cX0_records.data.toList.drop 24 = dktX0_records_1 := dk_seg dksX0_records_0 24 rfl rfl
theorem dX0_records_0 : decode cX0_records 0 = .ok (.aload_n 0, 1) := dk_42 (dk_at dksX0_records_0 0 rfl rfl)
theorem dX0_records_1 : decode cX0_records 1 = .ok (.getfield 25, 3) := dk_180 0 25 (dk_at dksX0_records_0 1 rfl rfl)
theorem dX0_records_4 : decode cX0_records 4 = .ok (.invokevirtual 36, 3) := dk_182 0 36 (dk_at dksX0_records_0 4 rfl rfl)
theorem dX0_records_7 : decode cX0_records 7 = .ok (.iconst 4, 1) := dk_7 (dk_at dksX0_records_0 7 rfl rfl)
theorem dX0_records_8 : decode cX0_records 8 = .ok (.if_icmp .ne 11, 3) := dk_160 0 11 (dk_at dksX0_records_0 8 rfl rfl)
theorem dX0_records_11 : decode cX0_records 11 = .ok (.aload_n 0, 1) := dk_42 (dk_at dksX0_records_0 11 rfl rfl)
theorem dX0_records_12 : decode cX0_records 12 = .ok (.getfield 25, 3) := dk_180 0 25 (dk_at dksX0_records_0 12 rfl rfl)
theorem dX0_records_15 : decode cX0_records 15 = .ok (.invokevirtual 40, 3) := dk_182 0 40 (dk_at dksX0_records_0 15 rfl rfl)
theorem dX0_records_18 : decode cX0_records 18 = .ok (.pop, 1) := dk_87 (dk_at dksX0_records_0 18 rfl rfl)
theorem dX0_records_19 : decode cX0_records 19 = .ok (.aload_n 0, 1) := dk_42 (dk_at dksX0_records_0 19 rfl rfl)
theorem dX0_records_20 : decode cX0_records 20 = .ok (.getfield 25, 3) := dk_180 0 25 (dk_at dksX0_records_0 20 rfl rfl)
theorem dX0_records_23 : decode cX0_records 23 = .ok (.aload_n 1, 1) := dk_43 (dk_at dksX0_records_0 23 rfl rfl)
theorem dX0_records_24 : decode cX0_records 24 = .ok (.invokevirtual 44, 3) := dk_182 0 44 (dk_at dksX0_records_1 0 rfl rfl)
theorem dX0_records_27 : decode cX0_records 27 = .ok (.return_, 1) := dk_177 (dk_at dksX0_records_1 3 rfl rfl)
abbrev cX0_errorOf : ByteArray := prog_1_method_7_code
def yX0_errorOf : MethodName := ⟨RX0, "errorOf", "(LPedalLayers$Refused;)I"⟩
theorem dX0_errorOf_0 : decode cX0_errorOf 0 = .ok (.aload_n 0, 1) := by decide +kernel
theorem dX0_errorOf_1 : decode cX0_errorOf 1 = .ok (.getfield 65, 3) := by decide +kernel
theorem dX0_errorOf_4 : decode cX0_errorOf 4 = .ok (.ireturn, 1) := by decide +kernel
abbrev cX0_stop : ByteArray := prog_1_method_8_code
def yX0_stop : MethodName := ⟨RX0, "stop", "()I"⟩
def dkwX0_stop_1 : List UInt8 := [44, 184, 0, 61, 172]
abbrev dktX0_stop_1 : List UInt8 := dkwX0_stop_1 ++ []
def dkwX0_stop_0 : List UInt8 := [42, 180, 0, 16, 182, 0, 48, 76, 42, 180, 0, 16, 182, 0, 71, 61, 42, 43, 182, 0, 55, 28, 172, 77]
abbrev dktX0_stop_0 : List UInt8 := dkwX0_stop_0 ++ dktX0_stop_1
theorem dksX0_stop_0 : cX0_stop.data.toList.drop 0 = dktX0_stop_0 := by decide +kernel
theorem dksX0_stop_1 : cX0_stop.data.toList.drop 24 = dktX0_stop_1 := dk_seg dksX0_stop_0 24 rfl rfl
theorem dX0_stop_0 : decode cX0_stop 0 = .ok (.aload_n 0, 1) := dk_42 (dk_at dksX0_stop_0 0 rfl rfl)
theorem dX0_stop_1 : decode cX0_stop 1 = .ok (.getfield 16, 3) := dk_180 0 16 (dk_at dksX0_stop_0 1 rfl rfl)
theorem dX0_stop_4 : decode cX0_stop 4 = .ok (.invokevirtual 48, 3) := dk_182 0 48 (dk_at dksX0_stop_0 4 rfl rfl)
theorem dX0_stop_7 : decode cX0_stop 7 = .ok (.astore_n 1, 1) := dk_76 (dk_at dksX0_stop_0 7 rfl rfl)
theorem dX0_stop_8 : decode cX0_stop 8 = .ok (.aload_n 0, 1) := dk_42 (dk_at dksX0_stop_0 8 rfl rfl)
theorem dX0_stop_9 : decode cX0_stop 9 = .ok (.getfield 16, 3) := dk_180 0 16 (dk_at dksX0_stop_0 9 rfl rfl)
theorem dX0_stop_12 : decode cX0_stop 12 = .ok (.invokevirtual 71, 3) := dk_182 0 71 (dk_at dksX0_stop_0 12 rfl rfl)
theorem dX0_stop_15 : decode cX0_stop 15 = .ok (.istore_n 2, 1) := dk_61 (dk_at dksX0_stop_0 15 rfl rfl)
theorem dX0_stop_16 : decode cX0_stop 16 = .ok (.aload_n 0, 1) := dk_42 (dk_at dksX0_stop_0 16 rfl rfl)
theorem dX0_stop_17 : decode cX0_stop 17 = .ok (.aload_n 1, 1) := dk_43 (dk_at dksX0_stop_0 17 rfl rfl)
theorem dX0_stop_18 : decode cX0_stop 18 = .ok (.invokevirtual 55, 3) := dk_182 0 55 (dk_at dksX0_stop_0 18 rfl rfl)
theorem dX0_stop_21 : decode cX0_stop 21 = .ok (.iload_n 2, 1) := dk_28 (dk_at dksX0_stop_0 21 rfl rfl)
theorem dX0_stop_22 : decode cX0_stop 22 = .ok (.ireturn, 1) := dk_172 (dk_at dksX0_stop_0 22 rfl rfl)
theorem dX0_stop_23 : decode cX0_stop 23 = .ok (.astore_n 2, 1) := dk_77 (dk_at dksX0_stop_0 23 rfl rfl)
theorem dX0_stop_24 : decode cX0_stop 24 = .ok (.aload_n 2, 1) := dk_44 (dk_at dksX0_stop_1 0 rfl rfl)
theorem dX0_stop_25 : decode cX0_stop 25 = .ok (.invokestatic 61, 3) := dk_184 0 61 (dk_at dksX0_stop_1 1 rfl rfl)
theorem dX0_stop_28 : decode cX0_stop 28 = .ok (.ireturn, 1) := dk_172 (dk_at dksX0_stop_1 4 rfl rfl)
abbrev cX0_empty : ByteArray := prog_1_method_9_code
def yX0_empty : MethodName := ⟨RX0, "empty", "()I"⟩
def dkwX0_empty_1 : List UInt8 := [44, 184, 0, 61, 172]
abbrev dktX0_empty_1 : List UInt8 := dkwX0_empty_1 ++ []
def dkwX0_empty_0 : List UInt8 := [42, 180, 0, 16, 182, 0, 48, 76, 42, 180, 0, 16, 182, 0, 74, 61, 42, 43, 182, 0, 55, 28, 172, 77]
abbrev dktX0_empty_0 : List UInt8 := dkwX0_empty_0 ++ dktX0_empty_1
theorem dksX0_empty_0 : cX0_empty.data.toList.drop 0 = dktX0_empty_0 := by decide +kernel
theorem dksX0_empty_1 : cX0_empty.data.toList.drop 24 = dktX0_empty_1 := dk_seg dksX0_empty_0 24 rfl rfl
theorem dX0_empty_0 : decode cX0_empty 0 = .ok (.aload_n 0, 1) := dk_42 (dk_at dksX0_empty_0 0 rfl rfl)
theorem dX0_empty_1 : decode cX0_empty 1 = .ok (.getfield 16, 3) := dk_180 0 16 (dk_at dksX0_empty_0 1 rfl rfl)
theorem dX0_empty_4 : decode cX0_empty 4 = .ok (.invokevirtual 48, 3) := dk_182 0 48 (dk_at dksX0_empty_0 4 rfl rfl)
theorem dX0_empty_7 : decode cX0_empty 7 = .ok (.astore_n 1, 1) := dk_76 (dk_at dksX0_empty_0 7 rfl rfl)
theorem dX0_empty_8 : decode cX0_empty 8 = .ok (.aload_n 0, 1) := dk_42 (dk_at dksX0_empty_0 8 rfl rfl)
theorem dX0_empty_9 : decode cX0_empty 9 = .ok (.getfield 16, 3) := dk_180 0 16 (dk_at dksX0_empty_0 9 rfl rfl)
theorem dX0_empty_12 : decode cX0_empty 12 = .ok (.invokevirtual 74, 3) := dk_182 0 74 (dk_at dksX0_empty_0 12 rfl rfl)
theorem dX0_empty_15 : decode cX0_empty 15 = .ok (.istore_n 2, 1) := dk_61 (dk_at dksX0_empty_0 15 rfl rfl)
theorem dX0_empty_16 : decode cX0_empty 16 = .ok (.aload_n 0, 1) := dk_42 (dk_at dksX0_empty_0 16 rfl rfl)
theorem dX0_empty_17 : decode cX0_empty 17 = .ok (.aload_n 1, 1) := dk_43 (dk_at dksX0_empty_0 17 rfl rfl)
theorem dX0_empty_18 : decode cX0_empty 18 = .ok (.invokevirtual 55, 3) := dk_182 0 55 (dk_at dksX0_empty_0 18 rfl rfl)
theorem dX0_empty_21 : decode cX0_empty 21 = .ok (.iload_n 2, 1) := dk_28 (dk_at dksX0_empty_0 21 rfl rfl)
theorem dX0_empty_22 : decode cX0_empty 22 = .ok (.ireturn, 1) := dk_172 (dk_at dksX0_empty_0 22 rfl rfl)
theorem dX0_empty_23 : decode cX0_empty 23 = .ok (.astore_n 2, 1) := dk_77 (dk_at dksX0_empty_0 23 rfl rfl)
theorem dX0_empty_24 : decode cX0_empty 24 = .ok (.aload_n 2, 1) := dk_44 (dk_at dksX0_empty_1 0 rfl rfl)
theorem dX0_empty_25 : decode cX0_empty 25 = .ok (.invokestatic 61, 3) := dk_184 0 61 (dk_at dksX0_empty_1 1 rfl rfl)
theorem dX0_empty_28 : decode cX0_empty 28 = .ok (.ireturn, 1) := dk_172 (dk_at dksX0_empty_1 4 rfl rfl)
abbrev cX0_hit : ByteArray := prog_1_method_10_code
def yX0_hit : MethodName := ⟨RX0, "hit", "(II)I"⟩
def dkwX0_hit_1 : List UInt8 := [21, 4, 172, 58, 4, 25, 4, 184, 0, 61, 172]
abbrev dktX0_hit_1 : List UInt8 := dkwX0_hit_1 ++ []
def dkwX0_hit_0 : List UInt8 := [42, 180, 0, 16, 182, 0, 48, 78, 42, 180, 0, 16, 27, 28, 182, 0, 77, 54, 4, 42, 45, 182, 0, 55]
abbrev dktX0_hit_0 : List UInt8 := dkwX0_hit_0 ++ dktX0_hit_1
theorem dksX0_hit_0 : cX0_hit.data.toList.drop 0 = dktX0_hit_0 := by decide +kernel
theorem dksX0_hit_1 : cX0_hit.data.toList.drop 24 = dktX0_hit_1 := dk_seg dksX0_hit_0 24 rfl rfl
theorem dX0_hit_0 : decode cX0_hit 0 = .ok (.aload_n 0, 1) := dk_42 (dk_at dksX0_hit_0 0 rfl rfl)
theorem dX0_hit_1 : decode cX0_hit 1 = .ok (.getfield 16, 3) := dk_180 0 16 (dk_at dksX0_hit_0 1 rfl rfl)
theorem dX0_hit_4 : decode cX0_hit 4 = .ok (.invokevirtual 48, 3) := dk_182 0 48 (dk_at dksX0_hit_0 4 rfl rfl)
theorem dX0_hit_7 : decode cX0_hit 7 = .ok (.astore_n 3, 1) := dk_78 (dk_at dksX0_hit_0 7 rfl rfl)
theorem dX0_hit_8 : decode cX0_hit 8 = .ok (.aload_n 0, 1) := dk_42 (dk_at dksX0_hit_0 8 rfl rfl)
theorem dX0_hit_9 : decode cX0_hit 9 = .ok (.getfield 16, 3) := dk_180 0 16 (dk_at dksX0_hit_0 9 rfl rfl)
theorem dX0_hit_12 : decode cX0_hit 12 = .ok (.iload_n 1, 1) := dk_27 (dk_at dksX0_hit_0 12 rfl rfl)
theorem dX0_hit_13 : decode cX0_hit 13 = .ok (.iload_n 2, 1) := dk_28 (dk_at dksX0_hit_0 13 rfl rfl)
theorem dX0_hit_14 : decode cX0_hit 14 = .ok (.invokevirtual 77, 3) := dk_182 0 77 (dk_at dksX0_hit_0 14 rfl rfl)
theorem dX0_hit_17 : decode cX0_hit 17 = .ok (.istore 4, 2) := dk_54 4 (dk_at dksX0_hit_0 17 rfl rfl)
theorem dX0_hit_19 : decode cX0_hit 19 = .ok (.aload_n 0, 1) := dk_42 (dk_at dksX0_hit_0 19 rfl rfl)
theorem dX0_hit_20 : decode cX0_hit 20 = .ok (.aload_n 3, 1) := dk_45 (dk_at dksX0_hit_0 20 rfl rfl)
theorem dX0_hit_21 : decode cX0_hit 21 = .ok (.invokevirtual 55, 3) := dk_182 0 55 (dk_at dksX0_hit_0 21 rfl rfl)
theorem dX0_hit_24 : decode cX0_hit 24 = .ok (.iload 4, 2) := dk_21 4 (dk_at dksX0_hit_1 0 rfl rfl)
theorem dX0_hit_26 : decode cX0_hit 26 = .ok (.ireturn, 1) := dk_172 (dk_at dksX0_hit_1 2 rfl rfl)
theorem dX0_hit_27 : decode cX0_hit 27 = .ok (.astore 4, 2) := dk_58 4 (dk_at dksX0_hit_1 3 rfl rfl)
theorem dX0_hit_29 : decode cX0_hit 29 = .ok (.aload 4, 2) := dk_25 4 (dk_at dksX0_hit_1 5 rfl rfl)
theorem dX0_hit_31 : decode cX0_hit 31 = .ok (.invokestatic 61, 3) := dk_184 0 61 (dk_at dksX0_hit_1 7 rfl rfl)
theorem dX0_hit_34 : decode cX0_hit 34 = .ok (.ireturn, 1) := dk_172 (dk_at dksX0_hit_1 10 rfl rfl)
abbrev cX0_inRange : ByteArray := prog_1_method_1_code
def yX0_inRange : MethodName := ⟨RX0, "inRange", "(III)Z"⟩
def dkwX0_inRange_0 : List UInt8 := [26, 27, 161, 0, 12, 26, 28, 163, 0, 7, 4, 167, 0, 4, 3, 172]
abbrev dktX0_inRange_0 : List UInt8 := dkwX0_inRange_0 ++ []
theorem dksX0_inRange_0 : cX0_inRange.data.toList.drop 0 = dktX0_inRange_0 := by decide +kernel
theorem dX0_inRange_0 : decode cX0_inRange 0 = .ok (.iload_n 0, 1) := dk_26 (dk_at dksX0_inRange_0 0 rfl rfl)
theorem dX0_inRange_1 : decode cX0_inRange 1 = .ok (.iload_n 1, 1) := dk_27 (dk_at dksX0_inRange_0 1 rfl rfl)
theorem dX0_inRange_2 : decode cX0_inRange 2 = .ok (.if_icmp .lt 12, 3) := dk_161 0 12 (dk_at dksX0_inRange_0 2 rfl rfl)
theorem dX0_inRange_5 : decode cX0_inRange 5 = .ok (.iload_n 0, 1) := dk_26 (dk_at dksX0_inRange_0 5 rfl rfl)
theorem dX0_inRange_6 : decode cX0_inRange 6 = .ok (.iload_n 2, 1) := dk_28 (dk_at dksX0_inRange_0 6 rfl rfl)
theorem dX0_inRange_7 : decode cX0_inRange 7 = .ok (.if_icmp .gt 7, 3) := dk_163 0 7 (dk_at dksX0_inRange_0 7 rfl rfl)
theorem dX0_inRange_10 : decode cX0_inRange 10 = .ok (.iconst 1, 1) := dk_4 (dk_at dksX0_inRange_0 10 rfl rfl)
theorem dX0_inRange_11 : decode cX0_inRange 11 = .ok (.goto 4, 3) := dk_167 0 4 (dk_at dksX0_inRange_0 11 rfl rfl)
theorem dX0_inRange_14 : decode cX0_inRange 14 = .ok (.iconst 0, 1) := dk_3 (dk_at dksX0_inRange_0 14 rfl rfl)
theorem dX0_inRange_15 : decode cX0_inRange 15 = .ok (.ireturn, 1) := dk_172 (dk_at dksX0_inRange_0 15 rfl rfl)
abbrev cX0_wants : ByteArray := prog_1_method_2_code
def yX0_wants : MethodName := ⟨RX0, "wants", "(Z)V"⟩
def dkwX0_wants_0 : List UInt8 := [26, 154, 0, 11, 187, 0, 1, 89, 183, 0, 3, 191, 177]
abbrev dktX0_wants_0 : List UInt8 := dkwX0_wants_0 ++ []
theorem dksX0_wants_0 : cX0_wants.data.toList.drop 0 = dktX0_wants_0 := by decide +kernel
theorem dX0_wants_0 : decode cX0_wants 0 = .ok (.iload_n 0, 1) := dk_26 (dk_at dksX0_wants_0 0 rfl rfl)
theorem dX0_wants_1 : decode cX0_wants 1 = .ok (.ifCond .ne 11, 3) := dk_154 0 11 (dk_at dksX0_wants_0 1 rfl rfl)
theorem dX0_wants_4 : decode cX0_wants 4 = .ok (.new 1, 3) := dk_187 0 1 (dk_at dksX0_wants_0 4 rfl rfl)
theorem dX0_wants_7 : decode cX0_wants 7 = .ok (.dup, 1) := dk_89 (dk_at dksX0_wants_0 7 rfl rfl)
theorem dX0_wants_8 : decode cX0_wants 8 = .ok (.invokespecial 3, 3) := dk_183 0 3 (dk_at dksX0_wants_0 8 rfl rfl)
theorem dX0_wants_11 : decode cX0_wants 11 = .ok (.athrow, 1) := dk_191 (dk_at dksX0_wants_0 11 rfl rfl)
theorem dX0_wants_12 : decode cX0_wants 12 = .ok (.return_, 1) := dk_177 (dk_at dksX0_wants_0 12 rfl rfl)
abbrev cX0_pass : ByteArray := prog_1_method_11_code
def yX0_pass : MethodName := ⟨RX0, "pass", "(I)I"⟩
def dkwX0_pass_1 : List UInt8 := [78, 45, 184, 0, 61, 172]
abbrev dktX0_pass_1 : List UInt8 := dkwX0_pass_1 ++ []
def dkwX0_pass_0 : List UInt8 := [42, 180, 0, 16, 182, 0, 48, 77, 42, 180, 0, 16, 27, 182, 0, 81, 62, 42, 44, 182, 0, 55, 29, 172]
abbrev dktX0_pass_0 : List UInt8 := dkwX0_pass_0 ++ dktX0_pass_1
theorem dksX0_pass_0 : cX0_pass.data.toList.drop 0 = dktX0_pass_0 := by decide +kernel
theorem dksX0_pass_1 : cX0_pass.data.toList.drop 24 = dktX0_pass_1 := dk_seg dksX0_pass_0 24 rfl rfl
theorem dX0_pass_0 : decode cX0_pass 0 = .ok (.aload_n 0, 1) := dk_42 (dk_at dksX0_pass_0 0 rfl rfl)
theorem dX0_pass_1 : decode cX0_pass 1 = .ok (.getfield 16, 3) := dk_180 0 16 (dk_at dksX0_pass_0 1 rfl rfl)
theorem dX0_pass_4 : decode cX0_pass 4 = .ok (.invokevirtual 48, 3) := dk_182 0 48 (dk_at dksX0_pass_0 4 rfl rfl)
theorem dX0_pass_7 : decode cX0_pass 7 = .ok (.astore_n 2, 1) := dk_77 (dk_at dksX0_pass_0 7 rfl rfl)
theorem dX0_pass_8 : decode cX0_pass 8 = .ok (.aload_n 0, 1) := dk_42 (dk_at dksX0_pass_0 8 rfl rfl)
theorem dX0_pass_9 : decode cX0_pass 9 = .ok (.getfield 16, 3) := dk_180 0 16 (dk_at dksX0_pass_0 9 rfl rfl)
theorem dX0_pass_12 : decode cX0_pass 12 = .ok (.iload_n 1, 1) := dk_27 (dk_at dksX0_pass_0 12 rfl rfl)
theorem dX0_pass_13 : decode cX0_pass 13 = .ok (.invokevirtual 81, 3) := dk_182 0 81 (dk_at dksX0_pass_0 13 rfl rfl)
theorem dX0_pass_16 : decode cX0_pass 16 = .ok (.istore_n 3, 1) := dk_62 (dk_at dksX0_pass_0 16 rfl rfl)
theorem dX0_pass_17 : decode cX0_pass 17 = .ok (.aload_n 0, 1) := dk_42 (dk_at dksX0_pass_0 17 rfl rfl)
theorem dX0_pass_18 : decode cX0_pass 18 = .ok (.aload_n 2, 1) := dk_44 (dk_at dksX0_pass_0 18 rfl rfl)
theorem dX0_pass_19 : decode cX0_pass 19 = .ok (.invokevirtual 55, 3) := dk_182 0 55 (dk_at dksX0_pass_0 19 rfl rfl)
theorem dX0_pass_22 : decode cX0_pass 22 = .ok (.iload_n 3, 1) := dk_29 (dk_at dksX0_pass_0 22 rfl rfl)
theorem dX0_pass_23 : decode cX0_pass 23 = .ok (.ireturn, 1) := dk_172 (dk_at dksX0_pass_0 23 rfl rfl)
theorem dX0_pass_24 : decode cX0_pass 24 = .ok (.astore_n 3, 1) := dk_78 (dk_at dksX0_pass_1 0 rfl rfl)
theorem dX0_pass_25 : decode cX0_pass 25 = .ok (.aload_n 3, 1) := dk_45 (dk_at dksX0_pass_1 1 rfl rfl)
theorem dX0_pass_26 : decode cX0_pass 26 = .ok (.invokestatic 61, 3) := dk_184 0 61 (dk_at dksX0_pass_1 2 rfl rfl)
theorem dX0_pass_29 : decode cX0_pass 29 = .ok (.ireturn, 1) := dk_172 (dk_at dksX0_pass_1 5 rfl rfl)
abbrev cX0_peel : ByteArray := prog_1_method_12_code
def yX0_peel : MethodName := ⟨RX0, "peel", "()I"⟩
def dkwX0_peel_1 : List UInt8 := [44, 184, 0, 61, 172]
abbrev dktX0_peel_1 : List UInt8 := dkwX0_peel_1 ++ []
def dkwX0_peel_0 : List UInt8 := [42, 180, 0, 16, 182, 0, 48, 76, 42, 180, 0, 16, 182, 0, 85, 61, 42, 43, 182, 0, 55, 28, 172, 77]
abbrev dktX0_peel_0 : List UInt8 := dkwX0_peel_0 ++ dktX0_peel_1
theorem dksX0_peel_0 : cX0_peel.data.toList.drop 0 = dktX0_peel_0 := by decide +kernel
theorem dksX0_peel_1 : cX0_peel.data.toList.drop 24 = dktX0_peel_1 := dk_seg dksX0_peel_0 24 rfl rfl
theorem dX0_peel_0 : decode cX0_peel 0 = .ok (.aload_n 0, 1) := dk_42 (dk_at dksX0_peel_0 0 rfl rfl)
theorem dX0_peel_1 : decode cX0_peel 1 = .ok (.getfield 16, 3) := dk_180 0 16 (dk_at dksX0_peel_0 1 rfl rfl)
theorem dX0_peel_4 : decode cX0_peel 4 = .ok (.invokevirtual 48, 3) := dk_182 0 48 (dk_at dksX0_peel_0 4 rfl rfl)
theorem dX0_peel_7 : decode cX0_peel 7 = .ok (.astore_n 1, 1) := dk_76 (dk_at dksX0_peel_0 7 rfl rfl)
theorem dX0_peel_8 : decode cX0_peel 8 = .ok (.aload_n 0, 1) := dk_42 (dk_at dksX0_peel_0 8 rfl rfl)
theorem dX0_peel_9 : decode cX0_peel 9 = .ok (.getfield 16, 3) := dk_180 0 16 (dk_at dksX0_peel_0 9 rfl rfl)
theorem dX0_peel_12 : decode cX0_peel 12 = .ok (.invokevirtual 85, 3) := dk_182 0 85 (dk_at dksX0_peel_0 12 rfl rfl)
theorem dX0_peel_15 : decode cX0_peel 15 = .ok (.istore_n 2, 1) := dk_61 (dk_at dksX0_peel_0 15 rfl rfl)
theorem dX0_peel_16 : decode cX0_peel 16 = .ok (.aload_n 0, 1) := dk_42 (dk_at dksX0_peel_0 16 rfl rfl)
theorem dX0_peel_17 : decode cX0_peel 17 = .ok (.aload_n 1, 1) := dk_43 (dk_at dksX0_peel_0 17 rfl rfl)
theorem dX0_peel_18 : decode cX0_peel 18 = .ok (.invokevirtual 55, 3) := dk_182 0 55 (dk_at dksX0_peel_0 18 rfl rfl)
theorem dX0_peel_21 : decode cX0_peel 21 = .ok (.iload_n 2, 1) := dk_28 (dk_at dksX0_peel_0 21 rfl rfl)
theorem dX0_peel_22 : decode cX0_peel 22 = .ok (.ireturn, 1) := dk_172 (dk_at dksX0_peel_0 22 rfl rfl)
theorem dX0_peel_23 : decode cX0_peel 23 = .ok (.astore_n 2, 1) := dk_77 (dk_at dksX0_peel_0 23 rfl rfl)
theorem dX0_peel_24 : decode cX0_peel 24 = .ok (.aload_n 2, 1) := dk_44 (dk_at dksX0_peel_1 0 rfl rfl)
theorem dX0_peel_25 : decode cX0_peel 25 = .ok (.invokestatic 61, 3) := dk_184 0 61 (dk_at dksX0_peel_1 1 rfl rfl)
theorem dX0_peel_28 : decode cX0_peel 28 = .ok (.ireturn, 1) := dk_172 (dk_at dksX0_peel_1 4 rfl rfl)
abbrev cX0_back : ByteArray := prog_1_method_13_code
def yX0_back : MethodName := ⟨RX0, "back", "()I"⟩
def dkwX0_back_1 : List UInt8 := [44, 184, 0, 61, 172]
abbrev dktX0_back_1 : List UInt8 := dkwX0_back_1 ++ []
def dkwX0_back_0 : List UInt8 := [42, 180, 0, 16, 182, 0, 48, 76, 42, 180, 0, 16, 182, 0, 88, 61, 42, 43, 182, 0, 55, 28, 172, 77]
abbrev dktX0_back_0 : List UInt8 := dkwX0_back_0 ++ dktX0_back_1
theorem dksX0_back_0 : cX0_back.data.toList.drop 0 = dktX0_back_0 := by decide +kernel
theorem dksX0_back_1 : cX0_back.data.toList.drop 24 = dktX0_back_1 := dk_seg dksX0_back_0 24 rfl rfl
theorem dX0_back_0 : decode cX0_back 0 = .ok (.aload_n 0, 1) := dk_42 (dk_at dksX0_back_0 0 rfl rfl)
theorem dX0_back_1 : decode cX0_back 1 = .ok (.getfield 16, 3) := dk_180 0 16 (dk_at dksX0_back_0 1 rfl rfl)
theorem dX0_back_4 : decode cX0_back 4 = .ok (.invokevirtual 48, 3) := dk_182 0 48 (dk_at dksX0_back_0 4 rfl rfl)
theorem dX0_back_7 : decode cX0_back 7 = .ok (.astore_n 1, 1) := dk_76 (dk_at dksX0_back_0 7 rfl rfl)
theorem dX0_back_8 : decode cX0_back 8 = .ok (.aload_n 0, 1) := dk_42 (dk_at dksX0_back_0 8 rfl rfl)
theorem dX0_back_9 : decode cX0_back 9 = .ok (.getfield 16, 3) := dk_180 0 16 (dk_at dksX0_back_0 9 rfl rfl)
theorem dX0_back_12 : decode cX0_back 12 = .ok (.invokevirtual 88, 3) := dk_182 0 88 (dk_at dksX0_back_0 12 rfl rfl)
theorem dX0_back_15 : decode cX0_back 15 = .ok (.istore_n 2, 1) := dk_61 (dk_at dksX0_back_0 15 rfl rfl)
theorem dX0_back_16 : decode cX0_back 16 = .ok (.aload_n 0, 1) := dk_42 (dk_at dksX0_back_0 16 rfl rfl)
theorem dX0_back_17 : decode cX0_back 17 = .ok (.aload_n 1, 1) := dk_43 (dk_at dksX0_back_0 17 rfl rfl)
theorem dX0_back_18 : decode cX0_back 18 = .ok (.invokevirtual 55, 3) := dk_182 0 55 (dk_at dksX0_back_0 18 rfl rfl)
theorem dX0_back_21 : decode cX0_back 21 = .ok (.iload_n 2, 1) := dk_28 (dk_at dksX0_back_0 21 rfl rfl)
theorem dX0_back_22 : decode cX0_back 22 = .ok (.ireturn, 1) := dk_172 (dk_at dksX0_back_0 22 rfl rfl)
theorem dX0_back_23 : decode cX0_back 23 = .ok (.astore_n 2, 1) := dk_77 (dk_at dksX0_back_0 23 rfl rfl)
theorem dX0_back_24 : decode cX0_back 24 = .ok (.aload_n 2, 1) := dk_44 (dk_at dksX0_back_1 0 rfl rfl)
theorem dX0_back_25 : decode cX0_back 25 = .ok (.invokestatic 61, 3) := dk_184 0 61 (dk_at dksX0_back_1 1 rfl rfl)
theorem dX0_back_28 : decode cX0_back 28 = .ok (.ireturn, 1) := dk_172 (dk_at dksX0_back_1 4 rfl rfl)
abbrev cX0_mute : ByteArray := prog_1_method_14_code
def yX0_mute : MethodName := ⟨RX0, "mute", "(I)I"⟩
def dkwX0_mute_1 : List UInt8 := [78, 45, 184, 0, 61, 172]
abbrev dktX0_mute_1 : List UInt8 := dkwX0_mute_1 ++ []
def dkwX0_mute_0 : List UInt8 := [42, 180, 0, 16, 182, 0, 48, 77, 42, 180, 0, 16, 27, 182, 0, 91, 62, 42, 44, 182, 0, 55, 29, 172]
abbrev dktX0_mute_0 : List UInt8 := dkwX0_mute_0 ++ dktX0_mute_1
theorem dksX0_mute_0 : cX0_mute.data.toList.drop 0 = dktX0_mute_0 := by decide +kernel
theorem dksX0_mute_1 : cX0_mute.data.toList.drop 24 = dktX0_mute_1 := dk_seg dksX0_mute_0 24 rfl rfl
theorem dX0_mute_0 : decode cX0_mute 0 = .ok (.aload_n 0, 1) := dk_42 (dk_at dksX0_mute_0 0 rfl rfl)
theorem dX0_mute_1 : decode cX0_mute 1 = .ok (.getfield 16, 3) := dk_180 0 16 (dk_at dksX0_mute_0 1 rfl rfl)
theorem dX0_mute_4 : decode cX0_mute 4 = .ok (.invokevirtual 48, 3) := dk_182 0 48 (dk_at dksX0_mute_0 4 rfl rfl)
theorem dX0_mute_7 : decode cX0_mute 7 = .ok (.astore_n 2, 1) := dk_77 (dk_at dksX0_mute_0 7 rfl rfl)
theorem dX0_mute_8 : decode cX0_mute 8 = .ok (.aload_n 0, 1) := dk_42 (dk_at dksX0_mute_0 8 rfl rfl)
theorem dX0_mute_9 : decode cX0_mute 9 = .ok (.getfield 16, 3) := dk_180 0 16 (dk_at dksX0_mute_0 9 rfl rfl)
theorem dX0_mute_12 : decode cX0_mute 12 = .ok (.iload_n 1, 1) := dk_27 (dk_at dksX0_mute_0 12 rfl rfl)
theorem dX0_mute_13 : decode cX0_mute 13 = .ok (.invokevirtual 91, 3) := dk_182 0 91 (dk_at dksX0_mute_0 13 rfl rfl)
theorem dX0_mute_16 : decode cX0_mute 16 = .ok (.istore_n 3, 1) := dk_62 (dk_at dksX0_mute_0 16 rfl rfl)
theorem dX0_mute_17 : decode cX0_mute 17 = .ok (.aload_n 0, 1) := dk_42 (dk_at dksX0_mute_0 17 rfl rfl)
theorem dX0_mute_18 : decode cX0_mute 18 = .ok (.aload_n 2, 1) := dk_44 (dk_at dksX0_mute_0 18 rfl rfl)
theorem dX0_mute_19 : decode cX0_mute 19 = .ok (.invokevirtual 55, 3) := dk_182 0 55 (dk_at dksX0_mute_0 19 rfl rfl)
theorem dX0_mute_22 : decode cX0_mute 22 = .ok (.iload_n 3, 1) := dk_29 (dk_at dksX0_mute_0 22 rfl rfl)
theorem dX0_mute_23 : decode cX0_mute 23 = .ok (.ireturn, 1) := dk_172 (dk_at dksX0_mute_0 23 rfl rfl)
theorem dX0_mute_24 : decode cX0_mute 24 = .ok (.astore_n 3, 1) := dk_78 (dk_at dksX0_mute_1 0 rfl rfl)
theorem dX0_mute_25 : decode cX0_mute 25 = .ok (.aload_n 3, 1) := dk_45 (dk_at dksX0_mute_1 1 rfl rfl)
theorem dX0_mute_26 : decode cX0_mute 26 = .ok (.invokestatic 61, 3) := dk_184 0 61 (dk_at dksX0_mute_1 2 rfl rfl)
theorem dX0_mute_29 : decode cX0_mute 29 = .ok (.ireturn, 1) := dk_172 (dk_at dksX0_mute_1 5 rfl rfl)
abbrev cX0_speed : ByteArray := prog_1_method_15_code
def yX0_speed : MethodName := ⟨RX0, "speed", "()I"⟩
def dkwX0_speed_0 : List UInt8 := [42, 42, 180, 0, 16, 182, 0, 48, 182, 0, 55, 42, 180, 0, 16, 182, 0, 94, 172]
abbrev dktX0_speed_0 : List UInt8 := dkwX0_speed_0 ++ []
theorem dksX0_speed_0 : cX0_speed.data.toList.drop 0 = dktX0_speed_0 := by decide +kernel
theorem dX0_speed_0 : decode cX0_speed 0 = .ok (.aload_n 0, 1) := dk_42 (dk_at dksX0_speed_0 0 rfl rfl)
theorem dX0_speed_1 : decode cX0_speed 1 = .ok (.aload_n 0, 1) := dk_42 (dk_at dksX0_speed_0 1 rfl rfl)
theorem dX0_speed_2 : decode cX0_speed 2 = .ok (.getfield 16, 3) := dk_180 0 16 (dk_at dksX0_speed_0 2 rfl rfl)
theorem dX0_speed_5 : decode cX0_speed 5 = .ok (.invokevirtual 48, 3) := dk_182 0 48 (dk_at dksX0_speed_0 5 rfl rfl)
theorem dX0_speed_8 : decode cX0_speed 8 = .ok (.invokevirtual 55, 3) := dk_182 0 55 (dk_at dksX0_speed_0 8 rfl rfl)
theorem dX0_speed_11 : decode cX0_speed 11 = .ok (.aload_n 0, 1) := dk_42 (dk_at dksX0_speed_0 11 rfl rfl)
theorem dX0_speed_12 : decode cX0_speed 12 = .ok (.getfield 16, 3) := dk_180 0 16 (dk_at dksX0_speed_0 12 rfl rfl)
theorem dX0_speed_15 : decode cX0_speed 15 = .ok (.invokevirtual 94, 3) := dk_182 0 94 (dk_at dksX0_speed_0 15 rfl rfl)
theorem dX0_speed_18 : decode cX0_speed 18 = .ok (.ireturn, 1) := dk_172 (dk_at dksX0_speed_0 18 rfl rfl)
abbrev cX0_set : ByteArray := prog_1_method_16_code
def yX0_set : MethodName := ⟨RX0, "set", "(II)I"⟩
def dkwX0_set_1 : List UInt8 := [21, 4, 172, 58, 4, 25, 4, 184, 0, 61, 172]
abbrev dktX0_set_1 : List UInt8 := dkwX0_set_1 ++ []
def dkwX0_set_0 : List UInt8 := [42, 180, 0, 16, 182, 0, 48, 78, 42, 180, 0, 16, 27, 28, 182, 0, 97, 54, 4, 42, 45, 182, 0, 55]
abbrev dktX0_set_0 : List UInt8 := dkwX0_set_0 ++ dktX0_set_1
theorem dksX0_set_0 : cX0_set.data.toList.drop 0 = dktX0_set_0 := by decide +kernel
theorem dksX0_set_1 : cX0_set.data.toList.drop 24 = dktX0_set_1 := dk_seg dksX0_set_0 24 rfl rfl
theorem dX0_set_0 : decode cX0_set 0 = .ok (.aload_n 0, 1) := dk_42 (dk_at dksX0_set_0 0 rfl rfl)
theorem dX0_set_1 : decode cX0_set 1 = .ok (.getfield 16, 3) := dk_180 0 16 (dk_at dksX0_set_0 1 rfl rfl)
theorem dX0_set_4 : decode cX0_set 4 = .ok (.invokevirtual 48, 3) := dk_182 0 48 (dk_at dksX0_set_0 4 rfl rfl)
theorem dX0_set_7 : decode cX0_set 7 = .ok (.astore_n 3, 1) := dk_78 (dk_at dksX0_set_0 7 rfl rfl)
theorem dX0_set_8 : decode cX0_set 8 = .ok (.aload_n 0, 1) := dk_42 (dk_at dksX0_set_0 8 rfl rfl)
theorem dX0_set_9 : decode cX0_set 9 = .ok (.getfield 16, 3) := dk_180 0 16 (dk_at dksX0_set_0 9 rfl rfl)
theorem dX0_set_12 : decode cX0_set 12 = .ok (.iload_n 1, 1) := dk_27 (dk_at dksX0_set_0 12 rfl rfl)
theorem dX0_set_13 : decode cX0_set 13 = .ok (.iload_n 2, 1) := dk_28 (dk_at dksX0_set_0 13 rfl rfl)
theorem dX0_set_14 : decode cX0_set 14 = .ok (.invokevirtual 97, 3) := dk_182 0 97 (dk_at dksX0_set_0 14 rfl rfl)
theorem dX0_set_17 : decode cX0_set 17 = .ok (.istore 4, 2) := dk_54 4 (dk_at dksX0_set_0 17 rfl rfl)
theorem dX0_set_19 : decode cX0_set 19 = .ok (.aload_n 0, 1) := dk_42 (dk_at dksX0_set_0 19 rfl rfl)
theorem dX0_set_20 : decode cX0_set 20 = .ok (.aload_n 3, 1) := dk_45 (dk_at dksX0_set_0 20 rfl rfl)
theorem dX0_set_21 : decode cX0_set 21 = .ok (.invokevirtual 55, 3) := dk_182 0 55 (dk_at dksX0_set_0 21 rfl rfl)
theorem dX0_set_24 : decode cX0_set 24 = .ok (.iload 4, 2) := dk_21 4 (dk_at dksX0_set_1 0 rfl rfl)
theorem dX0_set_26 : decode cX0_set 26 = .ok (.ireturn, 1) := dk_172 (dk_at dksX0_set_1 2 rfl rfl)
theorem dX0_set_27 : decode cX0_set 27 = .ok (.astore 4, 2) := dk_58 4 (dk_at dksX0_set_1 3 rfl rfl)
theorem dX0_set_29 : decode cX0_set 29 = .ok (.aload 4, 2) := dk_25 4 (dk_at dksX0_set_1 5 rfl rfl)
theorem dX0_set_31 : decode cX0_set 31 = .ok (.invokestatic 61, 3) := dk_184 0 61 (dk_at dksX0_set_1 7 rfl rfl)
theorem dX0_set_34 : decode cX0_set 34 = .ok (.ireturn, 1) := dk_172 (dk_at dksX0_set_1 10 rfl rfl)
abbrev cX0_append : ByteArray := prog_1_method_17_code
def yX0_append : MethodName := ⟨RX0, "append", "(I)I"⟩
def dkwX0_append_1 : List UInt8 := [160, 0, 6, 16, 253, 172, 42, 180, 0, 32, 27, 146, 182, 0, 107, 87, 42, 180, 0, 32, 182, 0, 104, 172]
abbrev dktX0_append_1 : List UInt8 := dkwX0_append_1 ++ []
def dkwX0_append_0 : List UInt8 := [27, 16, 33, 16, 126, 184, 0, 100, 154, 0, 5, 2, 172, 42, 180, 0, 32, 182, 0, 104, 16, 60]
abbrev dktX0_append_0 : List UInt8 := dkwX0_append_0 ++ dktX0_append_1
theorem dksX0_append_0 : cX0_append.data.toList.drop 0 = dktX0_append_0 := by decide +kernel
theorem dksX0_append_1 : cX0_append.data.toList.drop 22 = dktX0_append_1 := dk_seg dksX0_append_0 22 rfl rfl
theorem dX0_append_0 : decode cX0_append 0 = .ok (.iload_n 1, 1) := dk_27 (dk_at dksX0_append_0 0 rfl rfl)
theorem dX0_append_1 : decode cX0_append 1 = .ok (.bipush 33, 2) := dk_16 33 (dk_at dksX0_append_0 1 rfl rfl)
theorem dX0_append_3 : decode cX0_append 3 = .ok (.bipush 126, 2) := dk_16 126 (dk_at dksX0_append_0 3 rfl rfl)
theorem dX0_append_5 : decode cX0_append 5 = .ok (.invokestatic 100, 3) := dk_184 0 100 (dk_at dksX0_append_0 5 rfl rfl)
theorem dX0_append_8 : decode cX0_append 8 = .ok (.ifCond .ne 5, 3) := dk_154 0 5 (dk_at dksX0_append_0 8 rfl rfl)
theorem dX0_append_11 : decode cX0_append 11 = .ok (.iconst (-1), 1) := dk_2 (dk_at dksX0_append_0 11 rfl rfl)
theorem dX0_append_12 : decode cX0_append 12 = .ok (.ireturn, 1) := dk_172 (dk_at dksX0_append_0 12 rfl rfl)
theorem dX0_append_13 : decode cX0_append 13 = .ok (.aload_n 0, 1) := dk_42 (dk_at dksX0_append_0 13 rfl rfl)
theorem dX0_append_14 : decode cX0_append 14 = .ok (.getfield 32, 3) := dk_180 0 32 (dk_at dksX0_append_0 14 rfl rfl)
theorem dX0_append_17 : decode cX0_append 17 = .ok (.invokevirtual 104, 3) := dk_182 0 104 (dk_at dksX0_append_0 17 rfl rfl)
theorem dX0_append_20 : decode cX0_append 20 = .ok (.bipush 60, 2) := dk_16 60 (dk_at dksX0_append_0 20 rfl rfl)
theorem dX0_append_22 : decode cX0_append 22 = .ok (.if_icmp .ne 6, 3) := dk_160 0 6 (dk_at dksX0_append_1 0 rfl rfl)
theorem dX0_append_25 : decode cX0_append 25 = .ok (.bipush (-3), 2) := dk_16 253 (dk_at dksX0_append_1 3 rfl rfl)
theorem dX0_append_27 : decode cX0_append 27 = .ok (.ireturn, 1) := dk_172 (dk_at dksX0_append_1 5 rfl rfl)
theorem dX0_append_28 : decode cX0_append 28 = .ok (.aload_n 0, 1) := dk_42 (dk_at dksX0_append_1 6 rfl rfl)
theorem dX0_append_29 : decode cX0_append 29 = .ok (.getfield 32, 3) := dk_180 0 32 (dk_at dksX0_append_1 7 rfl rfl)
theorem dX0_append_32 : decode cX0_append 32 = .ok (.iload_n 1, 1) := dk_27 (dk_at dksX0_append_1 10 rfl rfl)
theorem dX0_append_33 : decode cX0_append 33 = .ok (.i2c, 1) := dk_146 (dk_at dksX0_append_1 11 rfl rfl)
theorem dX0_append_34 : decode cX0_append 34 = .ok (.invokevirtual 107, 3) := dk_182 0 107 (dk_at dksX0_append_1 12 rfl rfl)
theorem dX0_append_37 : decode cX0_append 37 = .ok (.pop, 1) := dk_87 (dk_at dksX0_append_1 15 rfl rfl)
theorem dX0_append_38 : decode cX0_append 38 = .ok (.aload_n 0, 1) := dk_42 (dk_at dksX0_append_1 16 rfl rfl)
theorem dX0_append_39 : decode cX0_append 39 = .ok (.getfield 32, 3) := dk_180 0 32 (dk_at dksX0_append_1 17 rfl rfl)
theorem dX0_append_42 : decode cX0_append 42 = .ok (.invokevirtual 104, 3) := dk_182 0 104 (dk_at dksX0_append_1 20 rfl rfl)
theorem dX0_append_45 : decode cX0_append 45 = .ok (.ireturn, 1) := dk_172 (dk_at dksX0_append_1 23 rfl rfl)
abbrev cX0_erase : ByteArray := prog_1_method_18_code
def yX0_erase : MethodName := ⟨RX0, "erase", "()I"⟩
def dkwX0_erase_0 : List UInt8 := [42, 180, 0, 32, 182, 0, 104, 60, 42, 180, 0, 32, 3, 182, 0, 111, 27, 172]
abbrev dktX0_erase_0 : List UInt8 := dkwX0_erase_0 ++ []
theorem dksX0_erase_0 : cX0_erase.data.toList.drop 0 = dktX0_erase_0 := by decide +kernel
theorem dX0_erase_0 : decode cX0_erase 0 = .ok (.aload_n 0, 1) := dk_42 (dk_at dksX0_erase_0 0 rfl rfl)
theorem dX0_erase_1 : decode cX0_erase 1 = .ok (.getfield 32, 3) := dk_180 0 32 (dk_at dksX0_erase_0 1 rfl rfl)
theorem dX0_erase_4 : decode cX0_erase 4 = .ok (.invokevirtual 104, 3) := dk_182 0 104 (dk_at dksX0_erase_0 4 rfl rfl)
theorem dX0_erase_7 : decode cX0_erase 7 = .ok (.istore_n 1, 1) := dk_60 (dk_at dksX0_erase_0 7 rfl rfl)
theorem dX0_erase_8 : decode cX0_erase 8 = .ok (.aload_n 0, 1) := dk_42 (dk_at dksX0_erase_0 8 rfl rfl)
theorem dX0_erase_9 : decode cX0_erase 9 = .ok (.getfield 32, 3) := dk_180 0 32 (dk_at dksX0_erase_0 9 rfl rfl)
theorem dX0_erase_12 : decode cX0_erase 12 = .ok (.iconst 0, 1) := dk_3 (dk_at dksX0_erase_0 12 rfl rfl)
theorem dX0_erase_13 : decode cX0_erase 13 = .ok (.invokevirtual 111, 3) := dk_182 0 111 (dk_at dksX0_erase_0 13 rfl rfl)
theorem dX0_erase_16 : decode cX0_erase 16 = .ok (.iload_n 1, 1) := dk_27 (dk_at dksX0_erase_0 16 rfl rfl)
theorem dX0_erase_17 : decode cX0_erase 17 = .ok (.ireturn, 1) := dk_172 (dk_at dksX0_erase_0 17 rfl rfl)
abbrev cX0_fault : ByteArray := prog_1_method_19_code
def yX0_fault : MethodName := ⟨RX0, "fault", "(I)I"⟩
def dkwX0_fault_2 : List UInt8 := [87, 16, 252, 172, 77, 44, 180, 0, 129, 172]
abbrev dktX0_fault_2 : List UInt8 := dkwX0_fault_2 ++ []
def dkwX0_fault_1 : List UInt8 := [183, 0, 117, 182, 0, 120, 87, 167, 0, 18, 187, 0, 115, 89, 42, 180, 0, 32, 183, 0, 117, 182, 0, 124]
abbrev dktX0_fault_1 : List UInt8 := dkwX0_fault_1 ++ dktX0_fault_2
def dkwX0_fault_0 : List UInt8 := [27, 3, 4, 184, 0, 100, 154, 0, 5, 2, 172, 27, 154, 0, 21, 187, 0, 115, 89, 42, 180, 0, 32]
abbrev dktX0_fault_0 : List UInt8 := dkwX0_fault_0 ++ dktX0_fault_1
theorem dksX0_fault_0 : cX0_fault.data.toList.drop 0 = dktX0_fault_0 := by decide +kernel
theorem dksX0_fault_1 : cX0_fault.data.toList.drop 23 = dktX0_fault_1 := dk_seg dksX0_fault_0 23 rfl rfl
theorem dksX0_fault_2 : cX0_fault.data.toList.drop 47 = dktX0_fault_2 := dk_seg dksX0_fault_1 24 rfl rfl
theorem dX0_fault_0 : decode cX0_fault 0 = .ok (.iload_n 1, 1) := dk_27 (dk_at dksX0_fault_0 0 rfl rfl)
theorem dX0_fault_1 : decode cX0_fault 1 = .ok (.iconst 0, 1) := dk_3 (dk_at dksX0_fault_0 1 rfl rfl)
theorem dX0_fault_2 : decode cX0_fault 2 = .ok (.iconst 1, 1) := dk_4 (dk_at dksX0_fault_0 2 rfl rfl)
theorem dX0_fault_3 : decode cX0_fault 3 = .ok (.invokestatic 100, 3) := dk_184 0 100 (dk_at dksX0_fault_0 3 rfl rfl)
theorem dX0_fault_6 : decode cX0_fault 6 = .ok (.ifCond .ne 5, 3) := dk_154 0 5 (dk_at dksX0_fault_0 6 rfl rfl)
theorem dX0_fault_9 : decode cX0_fault 9 = .ok (.iconst (-1), 1) := dk_2 (dk_at dksX0_fault_0 9 rfl rfl)
theorem dX0_fault_10 : decode cX0_fault 10 = .ok (.ireturn, 1) := dk_172 (dk_at dksX0_fault_0 10 rfl rfl)
theorem dX0_fault_11 : decode cX0_fault 11 = .ok (.iload_n 1, 1) := dk_27 (dk_at dksX0_fault_0 11 rfl rfl)
theorem dX0_fault_12 : decode cX0_fault 12 = .ok (.ifCond .ne 21, 3) := dk_154 0 21 (dk_at dksX0_fault_0 12 rfl rfl)
theorem dX0_fault_15 : decode cX0_fault 15 = .ok (.new 115, 3) := dk_187 0 115 (dk_at dksX0_fault_0 15 rfl rfl)
theorem dX0_fault_18 : decode cX0_fault 18 = .ok (.dup, 1) := dk_89 (dk_at dksX0_fault_0 18 rfl rfl)
theorem dX0_fault_19 : decode cX0_fault 19 = .ok (.aload_n 0, 1) := dk_42 (dk_at dksX0_fault_0 19 rfl rfl)
theorem dX0_fault_20 : decode cX0_fault 20 = .ok (.getfield 32, 3) := dk_180 0 32 (dk_at dksX0_fault_0 20 rfl rfl)
theorem dX0_fault_23 : decode cX0_fault 23 = .ok (.invokespecial 117, 3) := dk_183 0 117 (dk_at dksX0_fault_1 0 rfl rfl)
theorem dX0_fault_26 : decode cX0_fault 26 = .ok (.invokevirtual 120, 3) := dk_182 0 120 (dk_at dksX0_fault_1 3 rfl rfl)
theorem dX0_fault_29 : decode cX0_fault 29 = .ok (.pop, 1) := dk_87 (dk_at dksX0_fault_1 6 rfl rfl)
theorem dX0_fault_30 : decode cX0_fault 30 = .ok (.goto 18, 3) := dk_167 0 18 (dk_at dksX0_fault_1 7 rfl rfl)
theorem dX0_fault_33 : decode cX0_fault 33 = .ok (.new 115, 3) := dk_187 0 115 (dk_at dksX0_fault_1 10 rfl rfl)
theorem dX0_fault_36 : decode cX0_fault 36 = .ok (.dup, 1) := dk_89 (dk_at dksX0_fault_1 13 rfl rfl)
theorem dX0_fault_37 : decode cX0_fault 37 = .ok (.aload_n 0, 1) := dk_42 (dk_at dksX0_fault_1 14 rfl rfl)
theorem dX0_fault_38 : decode cX0_fault 38 = .ok (.getfield 32, 3) := dk_180 0 32 (dk_at dksX0_fault_1 15 rfl rfl)
theorem dX0_fault_41 : decode cX0_fault 41 = .ok (.invokespecial 117, 3) := dk_183 0 117 (dk_at dksX0_fault_1 18 rfl rfl)
theorem dX0_fault_44 : decode cX0_fault 44 = .ok (.invokevirtual 124, 3) := dk_182 0 124 (dk_at dksX0_fault_1 21 rfl rfl)
theorem dX0_fault_47 : decode cX0_fault 47 = .ok (.pop, 1) := dk_87 (dk_at dksX0_fault_2 0 rfl rfl)
theorem dX0_fault_48 : decode cX0_fault 48 = .ok (.bipush (-4), 2) := dk_16 252 (dk_at dksX0_fault_2 1 rfl rfl)
theorem dX0_fault_50 : decode cX0_fault 50 = .ok (.ireturn, 1) := dk_172 (dk_at dksX0_fault_2 3 rfl rfl)
theorem dX0_fault_51 : decode cX0_fault 51 = .ok (.astore_n 2, 1) := dk_77 (dk_at dksX0_fault_2 4 rfl rfl)
theorem dX0_fault_52 : decode cX0_fault 52 = .ok (.aload_n 2, 1) := dk_44 (dk_at dksX0_fault_2 5 rfl rfl)
theorem dX0_fault_53 : decode cX0_fault 53 = .ok (.getfield 129, 3) := dk_180 0 129 (dk_at dksX0_fault_2 6 rfl rfl)
theorem dX0_fault_56 : decode cX0_fault 56 = .ok (.ireturn, 1) := dk_172 (dk_at dksX0_fault_2 9 rfl rfl)
abbrev cX0_play : ByteArray := prog_1_method_22_code
def yX0_play : MethodName := ⟨RX0, "play", "()I"⟩
def dkwX0_play_1 : List UInt8 := [180, 0, 16, 182, 0, 48, 182, 0, 55, 42, 1, 181, 0, 167, 42, 43, 182, 0, 171, 172]
abbrev dktX0_play_1 : List UInt8 := dkwX0_play_1 ++ []
def dkwX0_play_0 : List UInt8 := [187, 0, 115, 89, 42, 180, 0, 32, 183, 0, 117, 182, 0, 120, 76, 167, 0, 7, 77, 16, 254, 172, 42, 42]
abbrev dktX0_play_0 : List UInt8 := dkwX0_play_0 ++ dktX0_play_1
theorem dksX0_play_0 : cX0_play.data.toList.drop 0 = dktX0_play_0 := by decide +kernel
theorem dksX0_play_1 : cX0_play.data.toList.drop 24 = dktX0_play_1 := dk_seg dksX0_play_0 24 rfl rfl
theorem dX0_play_0 : decode cX0_play 0 = .ok (.new 115, 3) := dk_187 0 115 (dk_at dksX0_play_0 0 rfl rfl)
theorem dX0_play_3 : decode cX0_play 3 = .ok (.dup, 1) := dk_89 (dk_at dksX0_play_0 3 rfl rfl)
theorem dX0_play_4 : decode cX0_play 4 = .ok (.aload_n 0, 1) := dk_42 (dk_at dksX0_play_0 4 rfl rfl)
theorem dX0_play_5 : decode cX0_play 5 = .ok (.getfield 32, 3) := dk_180 0 32 (dk_at dksX0_play_0 5 rfl rfl)
theorem dX0_play_8 : decode cX0_play 8 = .ok (.invokespecial 117, 3) := dk_183 0 117 (dk_at dksX0_play_0 8 rfl rfl)
theorem dX0_play_11 : decode cX0_play 11 = .ok (.invokevirtual 120, 3) := dk_182 0 120 (dk_at dksX0_play_0 11 rfl rfl)
theorem dX0_play_14 : decode cX0_play 14 = .ok (.astore_n 1, 1) := dk_76 (dk_at dksX0_play_0 14 rfl rfl)
theorem dX0_play_15 : decode cX0_play 15 = .ok (.goto 7, 3) := dk_167 0 7 (dk_at dksX0_play_0 15 rfl rfl)
theorem dX0_play_18 : decode cX0_play 18 = .ok (.astore_n 2, 1) := dk_77 (dk_at dksX0_play_0 18 rfl rfl)
theorem dX0_play_19 : decode cX0_play 19 = .ok (.bipush (-2), 2) := dk_16 254 (dk_at dksX0_play_0 19 rfl rfl)
theorem dX0_play_21 : decode cX0_play 21 = .ok (.ireturn, 1) := dk_172 (dk_at dksX0_play_0 21 rfl rfl)
theorem dX0_play_22 : decode cX0_play 22 = .ok (.aload_n 0, 1) := dk_42 (dk_at dksX0_play_0 22 rfl rfl)
theorem dX0_play_23 : decode cX0_play 23 = .ok (.aload_n 0, 1) := dk_42 (dk_at dksX0_play_0 23 rfl rfl)
theorem dX0_play_24 : decode cX0_play 24 = .ok (.getfield 16, 3) := dk_180 0 16 (dk_at dksX0_play_1 0 rfl rfl)
theorem dX0_play_27 : decode cX0_play 27 = .ok (.invokevirtual 48, 3) := dk_182 0 48 (dk_at dksX0_play_1 3 rfl rfl)
theorem dX0_play_30 : decode cX0_play 30 = .ok (.invokevirtual 55, 3) := dk_182 0 55 (dk_at dksX0_play_1 6 rfl rfl)
theorem dX0_play_33 : decode cX0_play 33 = .ok (.aload_n 0, 1) := dk_42 (dk_at dksX0_play_1 9 rfl rfl)
theorem dX0_play_34 : decode cX0_play 34 = .ok (.aconst_null, 1) := dk_1 (dk_at dksX0_play_1 10 rfl rfl)
theorem dX0_play_35 : decode cX0_play 35 = .ok (.putfield 167, 3) := dk_181 0 167 (dk_at dksX0_play_1 11 rfl rfl)
theorem dX0_play_38 : decode cX0_play 38 = .ok (.aload_n 0, 1) := dk_42 (dk_at dksX0_play_1 14 rfl rfl)
theorem dX0_play_39 : decode cX0_play 39 = .ok (.aload_n 1, 1) := dk_43 (dk_at dksX0_play_1 15 rfl rfl)
theorem dX0_play_40 : decode cX0_play 40 = .ok (.invokevirtual 171, 3) := dk_182 0 171 (dk_at dksX0_play_1 16 rfl rfl)
theorem dX0_play_43 : decode cX0_play 43 = .ok (.ireturn, 1) := dk_172 (dk_at dksX0_play_1 19 rfl rfl)
abbrev cX0_plays : ByteArray := prog_1_method_21_code
def yX0_plays : MethodName := ⟨RX0, "plays", "(Ljava/util/ArrayList;)I"⟩
def dkwX0_plays_3 : List UInt8 := [58, 5, 42, 180, 0, 32, 3, 182, 0, 111, 25, 5, 191, 28, 172]
abbrev dktX0_plays_3 : List UInt8 := dkwX0_plays_3 ++ []
def dkwX0_plays_2 : List UInt8 := [182, 0, 111, 167, 0, 33, 78, 42, 45, 181, 0, 167, 42, 180, 0, 32, 3, 182, 0, 111, 167, 0, 16]
abbrev dktX0_plays_2 : List UInt8 := dkwX0_plays_2 ++ dktX0_plays_3
def dkwX0_plays_1 : List UInt8 := [192, 0, 133, 58, 4, 42, 25, 4, 28, 182, 0, 163, 132, 2, 1, 167, 255, 226, 42, 180, 0, 32, 3]
abbrev dktX0_plays_1 : List UInt8 := dkwX0_plays_1 ++ dktX0_plays_2
def dkwX0_plays_0 : List UInt8 := [3, 61, 43, 182, 0, 148, 78, 45, 185, 0, 154, 1, 0, 153, 0, 27, 45, 185, 0, 160, 1, 0]
abbrev dktX0_plays_0 : List UInt8 := dkwX0_plays_0 ++ dktX0_plays_1
theorem dksX0_plays_0 : cX0_plays.data.toList.drop 0 = dktX0_plays_0 := by decide +kernel
theorem dksX0_plays_1 : cX0_plays.data.toList.drop 22 = dktX0_plays_1 := dk_seg dksX0_plays_0 22 rfl rfl
theorem dksX0_plays_2 : cX0_plays.data.toList.drop 45 = dktX0_plays_2 := dk_seg dksX0_plays_1 23 rfl rfl
theorem dksX0_plays_3 : cX0_plays.data.toList.drop 68 = dktX0_plays_3 := dk_seg dksX0_plays_2 23 rfl rfl
theorem dX0_plays_0 : decode cX0_plays 0 = .ok (.iconst 0, 1) := dk_3 (dk_at dksX0_plays_0 0 rfl rfl)
theorem dX0_plays_1 : decode cX0_plays 1 = .ok (.istore_n 2, 1) := dk_61 (dk_at dksX0_plays_0 1 rfl rfl)
theorem dX0_plays_2 : decode cX0_plays 2 = .ok (.aload_n 1, 1) := dk_43 (dk_at dksX0_plays_0 2 rfl rfl)
theorem dX0_plays_3 : decode cX0_plays 3 = .ok (.invokevirtual 148, 3) := dk_182 0 148 (dk_at dksX0_plays_0 3 rfl rfl)
theorem dX0_plays_6 : decode cX0_plays 6 = .ok (.astore_n 3, 1) := dk_78 (dk_at dksX0_plays_0 6 rfl rfl)
theorem dX0_plays_7 : decode cX0_plays 7 = .ok (.aload_n 3, 1) := dk_45 (dk_at dksX0_plays_0 7 rfl rfl)
theorem dX0_plays_8 : decode cX0_plays 8 = .ok (.invokeinterface 154 1, 5) := by decide +kernel
theorem dX0_plays_13 : decode cX0_plays 13 = .ok (.ifCond .eq 27, 3) := dk_153 0 27 (dk_at dksX0_plays_0 13 rfl rfl)
theorem dX0_plays_16 : decode cX0_plays 16 = .ok (.aload_n 3, 1) := dk_45 (dk_at dksX0_plays_0 16 rfl rfl)
theorem dX0_plays_17 : decode cX0_plays 17 = .ok (.invokeinterface 160 1, 5) := by decide +kernel
theorem dX0_plays_22 : decode cX0_plays 22 = .ok (.checkcast 133, 3) := dk_192 0 133 (dk_at dksX0_plays_1 0 rfl rfl)
theorem dX0_plays_25 : decode cX0_plays 25 = .ok (.astore 4, 2) := dk_58 4 (dk_at dksX0_plays_1 3 rfl rfl)
theorem dX0_plays_27 : decode cX0_plays 27 = .ok (.aload_n 0, 1) := dk_42 (dk_at dksX0_plays_1 5 rfl rfl)
theorem dX0_plays_28 : decode cX0_plays 28 = .ok (.aload 4, 2) := dk_25 4 (dk_at dksX0_plays_1 6 rfl rfl)
theorem dX0_plays_30 : decode cX0_plays 30 = .ok (.iload_n 2, 1) := dk_28 (dk_at dksX0_plays_1 8 rfl rfl)
theorem dX0_plays_31 : decode cX0_plays 31 = .ok (.invokevirtual 163, 3) := dk_182 0 163 (dk_at dksX0_plays_1 9 rfl rfl)
theorem dX0_plays_34 : decode cX0_plays 34 = .ok (.iinc 2 1, 3) := dk_132 2 1 (dk_at dksX0_plays_1 12 rfl rfl)
theorem dX0_plays_37 : decode cX0_plays 37 = .ok (.goto (-30), 3) := dk_167 255 226 (dk_at dksX0_plays_1 15 rfl rfl)
theorem dX0_plays_40 : decode cX0_plays 40 = .ok (.aload_n 0, 1) := dk_42 (dk_at dksX0_plays_1 18 rfl rfl)
theorem dX0_plays_41 : decode cX0_plays 41 = .ok (.getfield 32, 3) := dk_180 0 32 (dk_at dksX0_plays_1 19 rfl rfl)
theorem dX0_plays_44 : decode cX0_plays 44 = .ok (.iconst 0, 1) := dk_3 (dk_at dksX0_plays_1 22 rfl rfl)
theorem dX0_plays_45 : decode cX0_plays 45 = .ok (.invokevirtual 111, 3) := dk_182 0 111 (dk_at dksX0_plays_2 0 rfl rfl)
theorem dX0_plays_48 : decode cX0_plays 48 = .ok (.goto 33, 3) := dk_167 0 33 (dk_at dksX0_plays_2 3 rfl rfl)
theorem dX0_plays_51 : decode cX0_plays 51 = .ok (.astore_n 3, 1) := dk_78 (dk_at dksX0_plays_2 6 rfl rfl)
theorem dX0_plays_52 : decode cX0_plays 52 = .ok (.aload_n 0, 1) := dk_42 (dk_at dksX0_plays_2 7 rfl rfl)
theorem dX0_plays_53 : decode cX0_plays 53 = .ok (.aload_n 3, 1) := dk_45 (dk_at dksX0_plays_2 8 rfl rfl)
theorem dX0_plays_54 : decode cX0_plays 54 = .ok (.putfield 167, 3) := dk_181 0 167 (dk_at dksX0_plays_2 9 rfl rfl)
theorem dX0_plays_57 : decode cX0_plays 57 = .ok (.aload_n 0, 1) := dk_42 (dk_at dksX0_plays_2 12 rfl rfl)
theorem dX0_plays_58 : decode cX0_plays 58 = .ok (.getfield 32, 3) := dk_180 0 32 (dk_at dksX0_plays_2 13 rfl rfl)
theorem dX0_plays_61 : decode cX0_plays 61 = .ok (.iconst 0, 1) := dk_3 (dk_at dksX0_plays_2 16 rfl rfl)
theorem dX0_plays_62 : decode cX0_plays 62 = .ok (.invokevirtual 111, 3) := dk_182 0 111 (dk_at dksX0_plays_2 17 rfl rfl)
theorem dX0_plays_65 : decode cX0_plays 65 = .ok (.goto 16, 3) := dk_167 0 16 (dk_at dksX0_plays_2 20 rfl rfl)
theorem dX0_plays_68 : decode cX0_plays 68 = .ok (.astore 5, 2) := dk_58 5 (dk_at dksX0_plays_3 0 rfl rfl)
theorem dX0_plays_70 : decode cX0_plays 70 = .ok (.aload_n 0, 1) := dk_42 (dk_at dksX0_plays_3 2 rfl rfl)
theorem dX0_plays_71 : decode cX0_plays 71 = .ok (.getfield 32, 3) := dk_180 0 32 (dk_at dksX0_plays_3 3 rfl rfl)
theorem dX0_plays_74 : decode cX0_plays 74 = .ok (.iconst 0, 1) := dk_3 (dk_at dksX0_plays_3 6 rfl rfl)
theorem dX0_plays_75 : decode cX0_plays 75 = .ok (.invokevirtual 111, 3) := dk_182 0 111 (dk_at dksX0_plays_3 7 rfl rfl)
theorem dX0_plays_78 : decode cX0_plays 78 = .ok (.aload 5, 2) := dk_25 5 (dk_at dksX0_plays_3 10 rfl rfl)
theorem dX0_plays_80 : decode cX0_plays 80 = .ok (.athrow, 1) := dk_191 (dk_at dksX0_plays_3 12 rfl rfl)
theorem dX0_plays_81 : decode cX0_plays 81 = .ok (.iload_n 2, 1) := dk_28 (dk_at dksX0_plays_3 13 rfl rfl)
theorem dX0_plays_82 : decode cX0_plays 82 = .ok (.ireturn, 1) := dk_172 (dk_at dksX0_plays_3 14 rfl rfl)
abbrev cX0_carriesOut : ByteArray := prog_1_method_20_code
def yX0_carriesOut : MethodName := ⟨RX0, "carriesOut", "(LPedalLayers$Order;I)V"⟩
def dkwX0_carriesOut_1 : List UInt8 := [183, 0, 141, 58, 4, 25, 4, 45, 182, 0, 144, 87, 25, 4, 191, 177]
abbrev dktX0_carriesOut_1 : List UInt8 := dkwX0_carriesOut_1 ++ []
def dkwX0_carriesOut_0 : List UInt8 := [43, 42, 180, 0, 16, 182, 0, 132, 87, 167, 0, 28, 78, 187, 0, 138, 89, 28, 43, 180, 0, 140]
abbrev dktX0_carriesOut_0 : List UInt8 := dkwX0_carriesOut_0 ++ dktX0_carriesOut_1
theorem dksX0_carriesOut_0 : cX0_carriesOut.data.toList.drop 0 = dktX0_carriesOut_0 := by decide +kernel
theorem dksX0_carriesOut_1 : cX0_carriesOut.data.toList.drop 22 = dktX0_carriesOut_1 := dk_seg dksX0_carriesOut_0 22 rfl rfl
theorem dX0_carriesOut_0 : decode cX0_carriesOut 0 = .ok (.aload_n 1, 1) := dk_43 (dk_at dksX0_carriesOut_0 0 rfl rfl)
theorem dX0_carriesOut_1 : decode cX0_carriesOut 1 = .ok (.aload_n 0, 1) := dk_42 (dk_at dksX0_carriesOut_0 1 rfl rfl)
theorem dX0_carriesOut_2 : decode cX0_carriesOut 2 = .ok (.getfield 16, 3) := dk_180 0 16 (dk_at dksX0_carriesOut_0 2 rfl rfl)
theorem dX0_carriesOut_5 : decode cX0_carriesOut 5 = .ok (.invokevirtual 132, 3) := dk_182 0 132 (dk_at dksX0_carriesOut_0 5 rfl rfl)
theorem dX0_carriesOut_8 : decode cX0_carriesOut 8 = .ok (.pop, 1) := dk_87 (dk_at dksX0_carriesOut_0 8 rfl rfl)
theorem dX0_carriesOut_9 : decode cX0_carriesOut 9 = .ok (.goto 28, 3) := dk_167 0 28 (dk_at dksX0_carriesOut_0 9 rfl rfl)
theorem dX0_carriesOut_12 : decode cX0_carriesOut 12 = .ok (.astore_n 3, 1) := dk_78 (dk_at dksX0_carriesOut_0 12 rfl rfl)
theorem dX0_carriesOut_13 : decode cX0_carriesOut 13 = .ok (.new 138, 3) := dk_187 0 138 (dk_at dksX0_carriesOut_0 13 rfl rfl)
theorem dX0_carriesOut_16 : decode cX0_carriesOut 16 = .ok (.dup, 1) := dk_89 (dk_at dksX0_carriesOut_0 16 rfl rfl)
theorem dX0_carriesOut_17 : decode cX0_carriesOut 17 = .ok (.iload_n 2, 1) := dk_28 (dk_at dksX0_carriesOut_0 17 rfl rfl)
theorem dX0_carriesOut_18 : decode cX0_carriesOut 18 = .ok (.aload_n 1, 1) := dk_43 (dk_at dksX0_carriesOut_0 18 rfl rfl)
theorem dX0_carriesOut_19 : decode cX0_carriesOut 19 = .ok (.getfield 140, 3) := dk_180 0 140 (dk_at dksX0_carriesOut_0 19 rfl rfl)
theorem dX0_carriesOut_22 : decode cX0_carriesOut 22 = .ok (.invokespecial 141, 3) := dk_183 0 141 (dk_at dksX0_carriesOut_1 0 rfl rfl)
theorem dX0_carriesOut_25 : decode cX0_carriesOut 25 = .ok (.astore 4, 2) := dk_58 4 (dk_at dksX0_carriesOut_1 3 rfl rfl)
theorem dX0_carriesOut_27 : decode cX0_carriesOut 27 = .ok (.aload 4, 2) := dk_25 4 (dk_at dksX0_carriesOut_1 5 rfl rfl)
theorem dX0_carriesOut_29 : decode cX0_carriesOut 29 = .ok (.aload_n 3, 1) := dk_45 (dk_at dksX0_carriesOut_1 7 rfl rfl)
theorem dX0_carriesOut_30 : decode cX0_carriesOut 30 = .ok (.invokevirtual 144, 3) := dk_182 0 144 (dk_at dksX0_carriesOut_1 8 rfl rfl)
theorem dX0_carriesOut_33 : decode cX0_carriesOut 33 = .ok (.pop, 1) := dk_87 (dk_at dksX0_carriesOut_1 11 rfl rfl)
theorem dX0_carriesOut_34 : decode cX0_carriesOut 34 = .ok (.aload 4, 2) := dk_25 4 (dk_at dksX0_carriesOut_1 12 rfl rfl)
theorem dX0_carriesOut_36 : decode cX0_carriesOut 36 = .ok (.athrow, 1) := dk_191 (dk_at dksX0_carriesOut_1 14 rfl rfl)
theorem dX0_carriesOut_37 : decode cX0_carriesOut 37 = .ok (.return_, 1) := dk_177 (dk_at dksX0_carriesOut_1 15 rfl rfl)
abbrev cX0_why : ByteArray := prog_1_method_23_code
def yX0_why : MethodName := ⟨RX0, "why", "(I)I"⟩
def dkwX0_why_2 : List UInt8 := [180, 0, 177, 167, 0, 10, 42, 180, 0, 167, 180, 0, 180, 172]
abbrev dktX0_why_2 : List UInt8 := dkwX0_why_2 ++ []
def dkwX0_why_1 : List UInt8 := [154, 0, 13, 42, 180, 0, 167, 182, 0, 175, 167, 0, 25, 27, 4, 160, 0, 13, 42, 180, 0, 167]
abbrev dktX0_why_1 : List UInt8 := dkwX0_why_1 ++ dktX0_why_2
def dkwX0_why_0 : List UInt8 := [27, 3, 5, 184, 0, 100, 154, 0, 5, 2, 172, 42, 180, 0, 167, 199, 0, 6, 16, 252, 172, 27]
abbrev dktX0_why_0 : List UInt8 := dkwX0_why_0 ++ dktX0_why_1
theorem dksX0_why_0 : cX0_why.data.toList.drop 0 = dktX0_why_0 := by decide +kernel
theorem dksX0_why_1 : cX0_why.data.toList.drop 22 = dktX0_why_1 := dk_seg dksX0_why_0 22 rfl rfl
theorem dksX0_why_2 : cX0_why.data.toList.drop 44 = dktX0_why_2 := dk_seg dksX0_why_1 22 rfl rfl
theorem dX0_why_0 : decode cX0_why 0 = .ok (.iload_n 1, 1) := dk_27 (dk_at dksX0_why_0 0 rfl rfl)
theorem dX0_why_1 : decode cX0_why 1 = .ok (.iconst 0, 1) := dk_3 (dk_at dksX0_why_0 1 rfl rfl)
theorem dX0_why_2 : decode cX0_why 2 = .ok (.iconst 2, 1) := dk_5 (dk_at dksX0_why_0 2 rfl rfl)
theorem dX0_why_3 : decode cX0_why 3 = .ok (.invokestatic 100, 3) := dk_184 0 100 (dk_at dksX0_why_0 3 rfl rfl)
theorem dX0_why_6 : decode cX0_why 6 = .ok (.ifCond .ne 5, 3) := dk_154 0 5 (dk_at dksX0_why_0 6 rfl rfl)
theorem dX0_why_9 : decode cX0_why 9 = .ok (.iconst (-1), 1) := dk_2 (dk_at dksX0_why_0 9 rfl rfl)
theorem dX0_why_10 : decode cX0_why 10 = .ok (.ireturn, 1) := dk_172 (dk_at dksX0_why_0 10 rfl rfl)
theorem dX0_why_11 : decode cX0_why 11 = .ok (.aload_n 0, 1) := dk_42 (dk_at dksX0_why_0 11 rfl rfl)
theorem dX0_why_12 : decode cX0_why 12 = .ok (.getfield 167, 3) := dk_180 0 167 (dk_at dksX0_why_0 12 rfl rfl)
theorem dX0_why_15 : decode cX0_why 15 = .ok (.ifnonnull 6, 3) := dk_199 0 6 (dk_at dksX0_why_0 15 rfl rfl)
theorem dX0_why_18 : decode cX0_why 18 = .ok (.bipush (-4), 2) := dk_16 252 (dk_at dksX0_why_0 18 rfl rfl)
theorem dX0_why_20 : decode cX0_why 20 = .ok (.ireturn, 1) := dk_172 (dk_at dksX0_why_0 20 rfl rfl)
theorem dX0_why_21 : decode cX0_why 21 = .ok (.iload_n 1, 1) := dk_27 (dk_at dksX0_why_0 21 rfl rfl)
theorem dX0_why_22 : decode cX0_why 22 = .ok (.ifCond .ne 13, 3) := dk_154 0 13 (dk_at dksX0_why_1 0 rfl rfl)
theorem dX0_why_25 : decode cX0_why 25 = .ok (.aload_n 0, 1) := dk_42 (dk_at dksX0_why_1 3 rfl rfl)
theorem dX0_why_26 : decode cX0_why 26 = .ok (.getfield 167, 3) := dk_180 0 167 (dk_at dksX0_why_1 4 rfl rfl)
theorem dX0_why_29 : decode cX0_why 29 = .ok (.invokevirtual 175, 3) := dk_182 0 175 (dk_at dksX0_why_1 7 rfl rfl)
theorem dX0_why_32 : decode cX0_why 32 = .ok (.goto 25, 3) := dk_167 0 25 (dk_at dksX0_why_1 10 rfl rfl)
theorem dX0_why_35 : decode cX0_why 35 = .ok (.iload_n 1, 1) := dk_27 (dk_at dksX0_why_1 13 rfl rfl)
theorem dX0_why_36 : decode cX0_why 36 = .ok (.iconst 1, 1) := dk_4 (dk_at dksX0_why_1 14 rfl rfl)
theorem dX0_why_37 : decode cX0_why 37 = .ok (.if_icmp .ne 13, 3) := dk_160 0 13 (dk_at dksX0_why_1 15 rfl rfl)
theorem dX0_why_40 : decode cX0_why 40 = .ok (.aload_n 0, 1) := dk_42 (dk_at dksX0_why_1 18 rfl rfl)
theorem dX0_why_41 : decode cX0_why 41 = .ok (.getfield 167, 3) := dk_180 0 167 (dk_at dksX0_why_1 19 rfl rfl)
theorem dX0_why_44 : decode cX0_why 44 = .ok (.getfield 177, 3) := dk_180 0 177 (dk_at dksX0_why_2 0 rfl rfl)
theorem dX0_why_47 : decode cX0_why 47 = .ok (.goto 10, 3) := dk_167 0 10 (dk_at dksX0_why_2 3 rfl rfl)
theorem dX0_why_50 : decode cX0_why 50 = .ok (.aload_n 0, 1) := dk_42 (dk_at dksX0_why_2 6 rfl rfl)
theorem dX0_why_51 : decode cX0_why 51 = .ok (.getfield 167, 3) := dk_180 0 167 (dk_at dksX0_why_2 7 rfl rfl)
theorem dX0_why_54 : decode cX0_why 54 = .ok (.getfield 180, 3) := dk_180 0 180 (dk_at dksX0_why_2 10 rfl rfl)
theorem dX0_why_57 : decode cX0_why 57 = .ok (.ireturn, 1) := dk_172 (dk_at dksX0_why_2 13 rfl rfl)
abbrev cX0_layer : ByteArray := prog_1_method_25_code
def yX0_layer : MethodName := ⟨RX0, "layer", "(II)I"⟩
def dkwX0_layer_4 : List UInt8 := [153, 0, 7, 4, 167, 0, 4, 3, 172, 45, 180, 0, 210, 172, 2, 172]
abbrev dktX0_layer_4 : List UInt8 := dkwX0_layer_4 ++ []
def dkwX0_layer_3 : List UInt8 := [45, 182, 0, 196, 172, 45, 182, 0, 197, 172, 45, 182, 0, 200, 172, 45, 182, 0, 203, 172, 45, 180, 0, 206]
abbrev dktX0_layer_3 : List UInt8 := dkwX0_layer_3 ++ dktX0_layer_4
def dkwX0_layer_2 : List UInt8 := [170, 0, 0, 0, 0, 76, 0, 0, 0, 0, 0, 0, 0, 5, 0, 0, 0, 38, 0, 0, 0, 43, 0, 0, 0, 48, 0, 0, 0, 53, 0, 0, 0, 58, 0, 0, 0, 71]
abbrev dktX0_layer_2 : List UInt8 := dkwX0_layer_2 ++ dktX0_layer_3
def dkwX0_layer_1 : List UInt8 := [78, 28]
abbrev dktX0_layer_1 : List UInt8 := dkwX0_layer_1 ++ dktX0_layer_2
def dkwX0_layer_0 : List UInt8 := [42, 27, 182, 0, 186, 154, 0, 5, 2, 172, 42, 180, 0, 16, 180, 0, 181, 27, 182, 0, 190, 192, 0, 194]
abbrev dktX0_layer_0 : List UInt8 := dkwX0_layer_0 ++ dktX0_layer_1
theorem dksX0_layer_0 : cX0_layer.data.toList.drop 0 = dktX0_layer_0 := by decide +kernel
theorem dksX0_layer_1 : cX0_layer.data.toList.drop 24 = dktX0_layer_1 := dk_seg dksX0_layer_0 24 rfl rfl
theorem dksX0_layer_2 : cX0_layer.data.toList.drop 26 = dktX0_layer_2 := dk_seg dksX0_layer_1 2 rfl rfl
theorem dksX0_layer_3 : cX0_layer.data.toList.drop 64 = dktX0_layer_3 := dk_seg dksX0_layer_2 38 rfl rfl
theorem dksX0_layer_4 : cX0_layer.data.toList.drop 88 = dktX0_layer_4 := dk_seg dksX0_layer_3 24 rfl rfl
theorem dX0_layer_0 : decode cX0_layer 0 = .ok (.aload_n 0, 1) := dk_42 (dk_at dksX0_layer_0 0 rfl rfl)
theorem dX0_layer_1 : decode cX0_layer 1 = .ok (.iload_n 1, 1) := dk_27 (dk_at dksX0_layer_0 1 rfl rfl)
theorem dX0_layer_2 : decode cX0_layer 2 = .ok (.invokevirtual 186, 3) := dk_182 0 186 (dk_at dksX0_layer_0 2 rfl rfl)
theorem dX0_layer_5 : decode cX0_layer 5 = .ok (.ifCond .ne 5, 3) := dk_154 0 5 (dk_at dksX0_layer_0 5 rfl rfl)
theorem dX0_layer_8 : decode cX0_layer 8 = .ok (.iconst (-1), 1) := dk_2 (dk_at dksX0_layer_0 8 rfl rfl)
theorem dX0_layer_9 : decode cX0_layer 9 = .ok (.ireturn, 1) := dk_172 (dk_at dksX0_layer_0 9 rfl rfl)
theorem dX0_layer_10 : decode cX0_layer 10 = .ok (.aload_n 0, 1) := dk_42 (dk_at dksX0_layer_0 10 rfl rfl)
theorem dX0_layer_11 : decode cX0_layer 11 = .ok (.getfield 16, 3) := dk_180 0 16 (dk_at dksX0_layer_0 11 rfl rfl)
theorem dX0_layer_14 : decode cX0_layer 14 = .ok (.getfield 181, 3) := dk_180 0 181 (dk_at dksX0_layer_0 14 rfl rfl)
theorem dX0_layer_17 : decode cX0_layer 17 = .ok (.iload_n 1, 1) := dk_27 (dk_at dksX0_layer_0 17 rfl rfl)
theorem dX0_layer_18 : decode cX0_layer 18 = .ok (.invokevirtual 190, 3) := dk_182 0 190 (dk_at dksX0_layer_0 18 rfl rfl)
theorem dX0_layer_21 : decode cX0_layer 21 = .ok (.checkcast 194, 3) := dk_192 0 194 (dk_at dksX0_layer_0 21 rfl rfl)
theorem dX0_layer_24 : decode cX0_layer 24 = .ok (.astore_n 3, 1) := dk_78 (dk_at dksX0_layer_1 0 rfl rfl)
theorem dX0_layer_25 : decode cX0_layer 25 = .ok (.iload_n 2, 1) := dk_28 (dk_at dksX0_layer_1 1 rfl rfl)
theorem dX0_layer_26 : decode cX0_layer 26 = .ok (.tableswitch 76 0 5 #[38, 43, 48, 53, 58, 71], 38) := by decide +kernel
theorem dX0_layer_64 : decode cX0_layer 64 = .ok (.aload_n 3, 1) := dk_45 (dk_at dksX0_layer_3 0 rfl rfl)
theorem dX0_layer_65 : decode cX0_layer 65 = .ok (.invokevirtual 196, 3) := dk_182 0 196 (dk_at dksX0_layer_3 1 rfl rfl)
theorem dX0_layer_68 : decode cX0_layer 68 = .ok (.ireturn, 1) := dk_172 (dk_at dksX0_layer_3 4 rfl rfl)
theorem dX0_layer_69 : decode cX0_layer 69 = .ok (.aload_n 3, 1) := dk_45 (dk_at dksX0_layer_3 5 rfl rfl)
theorem dX0_layer_70 : decode cX0_layer 70 = .ok (.invokevirtual 197, 3) := dk_182 0 197 (dk_at dksX0_layer_3 6 rfl rfl)
theorem dX0_layer_73 : decode cX0_layer 73 = .ok (.ireturn, 1) := dk_172 (dk_at dksX0_layer_3 9 rfl rfl)
theorem dX0_layer_74 : decode cX0_layer 74 = .ok (.aload_n 3, 1) := dk_45 (dk_at dksX0_layer_3 10 rfl rfl)
theorem dX0_layer_75 : decode cX0_layer 75 = .ok (.invokevirtual 200, 3) := dk_182 0 200 (dk_at dksX0_layer_3 11 rfl rfl)
theorem dX0_layer_78 : decode cX0_layer 78 = .ok (.ireturn, 1) := dk_172 (dk_at dksX0_layer_3 14 rfl rfl)
theorem dX0_layer_79 : decode cX0_layer 79 = .ok (.aload_n 3, 1) := dk_45 (dk_at dksX0_layer_3 15 rfl rfl)
theorem dX0_layer_80 : decode cX0_layer 80 = .ok (.invokevirtual 203, 3) := dk_182 0 203 (dk_at dksX0_layer_3 16 rfl rfl)
theorem dX0_layer_83 : decode cX0_layer 83 = .ok (.ireturn, 1) := dk_172 (dk_at dksX0_layer_3 19 rfl rfl)
theorem dX0_layer_84 : decode cX0_layer 84 = .ok (.aload_n 3, 1) := dk_45 (dk_at dksX0_layer_3 20 rfl rfl)
theorem dX0_layer_85 : decode cX0_layer 85 = .ok (.getfield 206, 3) := dk_180 0 206 (dk_at dksX0_layer_3 21 rfl rfl)
theorem dX0_layer_88 : decode cX0_layer 88 = .ok (.ifCond .eq 7, 3) := dk_153 0 7 (dk_at dksX0_layer_4 0 rfl rfl)
theorem dX0_layer_91 : decode cX0_layer 91 = .ok (.iconst 1, 1) := dk_4 (dk_at dksX0_layer_4 3 rfl rfl)
theorem dX0_layer_92 : decode cX0_layer 92 = .ok (.goto 4, 3) := dk_167 0 4 (dk_at dksX0_layer_4 4 rfl rfl)
theorem dX0_layer_95 : decode cX0_layer 95 = .ok (.iconst 0, 1) := dk_3 (dk_at dksX0_layer_4 7 rfl rfl)
theorem dX0_layer_96 : decode cX0_layer 96 = .ok (.ireturn, 1) := dk_172 (dk_at dksX0_layer_4 8 rfl rfl)
theorem dX0_layer_97 : decode cX0_layer 97 = .ok (.aload_n 3, 1) := dk_45 (dk_at dksX0_layer_4 9 rfl rfl)
theorem dX0_layer_98 : decode cX0_layer 98 = .ok (.getfield 210, 3) := dk_180 0 210 (dk_at dksX0_layer_4 10 rfl rfl)
theorem dX0_layer_101 : decode cX0_layer 101 = .ok (.ireturn, 1) := dk_172 (dk_at dksX0_layer_4 13 rfl rfl)
theorem dX0_layer_102 : decode cX0_layer 102 = .ok (.iconst (-1), 1) := dk_2 (dk_at dksX0_layer_4 14 rfl rfl)
theorem dX0_layer_103 : decode cX0_layer 103 = .ok (.ireturn, 1) := dk_172 (dk_at dksX0_layer_4 15 rfl rfl)
abbrev cX0_isLayer : ByteArray := prog_1_method_24_code
def yX0_isLayer : MethodName := ⟨RX0, "isLayer", "(I)Z"⟩
def dkwX0_isLayer_0 : List UInt8 := [27, 3, 42, 180, 0, 16, 180, 0, 181, 182, 0, 185, 4, 100, 184, 0, 100, 172]
abbrev dktX0_isLayer_0 : List UInt8 := dkwX0_isLayer_0 ++ []
theorem dksX0_isLayer_0 : cX0_isLayer.data.toList.drop 0 = dktX0_isLayer_0 := by decide +kernel
theorem dX0_isLayer_0 : decode cX0_isLayer 0 = .ok (.iload_n 1, 1) := dk_27 (dk_at dksX0_isLayer_0 0 rfl rfl)
theorem dX0_isLayer_1 : decode cX0_isLayer 1 = .ok (.iconst 0, 1) := dk_3 (dk_at dksX0_isLayer_0 1 rfl rfl)
theorem dX0_isLayer_2 : decode cX0_isLayer 2 = .ok (.aload_n 0, 1) := dk_42 (dk_at dksX0_isLayer_0 2 rfl rfl)
theorem dX0_isLayer_3 : decode cX0_isLayer 3 = .ok (.getfield 16, 3) := dk_180 0 16 (dk_at dksX0_isLayer_0 3 rfl rfl)
theorem dX0_isLayer_6 : decode cX0_isLayer 6 = .ok (.getfield 181, 3) := dk_180 0 181 (dk_at dksX0_isLayer_0 6 rfl rfl)
theorem dX0_isLayer_9 : decode cX0_isLayer 9 = .ok (.invokevirtual 185, 3) := dk_182 0 185 (dk_at dksX0_isLayer_0 9 rfl rfl)
theorem dX0_isLayer_12 : decode cX0_isLayer 12 = .ok (.iconst 1, 1) := dk_4 (dk_at dksX0_isLayer_0 12 rfl rfl)
theorem dX0_isLayer_13 : decode cX0_isLayer 13 = .ok (.isub, 1) := dk_100 (dk_at dksX0_isLayer_0 13 rfl rfl)
theorem dX0_isLayer_14 : decode cX0_isLayer 14 = .ok (.invokestatic 100, 3) := dk_184 0 100 (dk_at dksX0_isLayer_0 14 rfl rfl)
theorem dX0_isLayer_17 : decode cX0_isLayer 17 = .ok (.ireturn, 1) := dk_172 (dk_at dksX0_isLayer_0 17 rfl rfl)
abbrev cX0_note : ByteArray := prog_1_method_26_code
def yX0_note : MethodName := ⟨RX0, "note", "(III)I"⟩
def dkwX0_note_2 : List UInt8 := [180, 0, 16, 180, 0, 181, 27, 182, 0, 190, 192, 0, 194, 180, 0, 213, 28, 50, 29, 46, 172]
abbrev dktX0_note_2 : List UInt8 := dkwX0_note_2 ++ []
def dkwX0_note_1 : List UInt8 := [182, 0, 196, 4, 100, 184, 0, 100, 153, 0, 13, 29, 3, 16, 35, 184, 0, 100, 154, 0, 5, 2, 172, 42]
abbrev dktX0_note_1 : List UInt8 := dkwX0_note_1 ++ dktX0_note_2
def dkwX0_note_0 : List UInt8 := [42, 27, 182, 0, 186, 153, 0, 40, 28, 3, 42, 180, 0, 16, 180, 0, 181, 27, 182, 0, 190, 192, 0, 194]
abbrev dktX0_note_0 : List UInt8 := dkwX0_note_0 ++ dktX0_note_1
theorem dksX0_note_0 : cX0_note.data.toList.drop 0 = dktX0_note_0 := by decide +kernel
theorem dksX0_note_1 : cX0_note.data.toList.drop 24 = dktX0_note_1 := dk_seg dksX0_note_0 24 rfl rfl
theorem dksX0_note_2 : cX0_note.data.toList.drop 48 = dktX0_note_2 := dk_seg dksX0_note_1 24 rfl rfl
theorem dX0_note_0 : decode cX0_note 0 = .ok (.aload_n 0, 1) := dk_42 (dk_at dksX0_note_0 0 rfl rfl)
theorem dX0_note_1 : decode cX0_note 1 = .ok (.iload_n 1, 1) := dk_27 (dk_at dksX0_note_0 1 rfl rfl)
theorem dX0_note_2 : decode cX0_note 2 = .ok (.invokevirtual 186, 3) := dk_182 0 186 (dk_at dksX0_note_0 2 rfl rfl)
theorem dX0_note_5 : decode cX0_note 5 = .ok (.ifCond .eq 40, 3) := dk_153 0 40 (dk_at dksX0_note_0 5 rfl rfl)
theorem dX0_note_8 : decode cX0_note 8 = .ok (.iload_n 2, 1) := dk_28 (dk_at dksX0_note_0 8 rfl rfl)
theorem dX0_note_9 : decode cX0_note 9 = .ok (.iconst 0, 1) := dk_3 (dk_at dksX0_note_0 9 rfl rfl)
theorem dX0_note_10 : decode cX0_note 10 = .ok (.aload_n 0, 1) := dk_42 (dk_at dksX0_note_0 10 rfl rfl)
theorem dX0_note_11 : decode cX0_note 11 = .ok (.getfield 16, 3) := dk_180 0 16 (dk_at dksX0_note_0 11 rfl rfl)
theorem dX0_note_14 : decode cX0_note 14 = .ok (.getfield 181, 3) := dk_180 0 181 (dk_at dksX0_note_0 14 rfl rfl)
theorem dX0_note_17 : decode cX0_note 17 = .ok (.iload_n 1, 1) := dk_27 (dk_at dksX0_note_0 17 rfl rfl)
theorem dX0_note_18 : decode cX0_note 18 = .ok (.invokevirtual 190, 3) := dk_182 0 190 (dk_at dksX0_note_0 18 rfl rfl)
theorem dX0_note_21 : decode cX0_note 21 = .ok (.checkcast 194, 3) := dk_192 0 194 (dk_at dksX0_note_0 21 rfl rfl)
theorem dX0_note_24 : decode cX0_note 24 = .ok (.invokevirtual 196, 3) := dk_182 0 196 (dk_at dksX0_note_1 0 rfl rfl)
theorem dX0_note_27 : decode cX0_note 27 = .ok (.iconst 1, 1) := dk_4 (dk_at dksX0_note_1 3 rfl rfl)
theorem dX0_note_28 : decode cX0_note 28 = .ok (.isub, 1) := dk_100 (dk_at dksX0_note_1 4 rfl rfl)
theorem dX0_note_29 : decode cX0_note 29 = .ok (.invokestatic 100, 3) := dk_184 0 100 (dk_at dksX0_note_1 5 rfl rfl)
theorem dX0_note_32 : decode cX0_note 32 = .ok (.ifCond .eq 13, 3) := dk_153 0 13 (dk_at dksX0_note_1 8 rfl rfl)
theorem dX0_note_35 : decode cX0_note 35 = .ok (.iload_n 3, 1) := dk_29 (dk_at dksX0_note_1 11 rfl rfl)
theorem dX0_note_36 : decode cX0_note 36 = .ok (.iconst 0, 1) := dk_3 (dk_at dksX0_note_1 12 rfl rfl)
theorem dX0_note_37 : decode cX0_note 37 = .ok (.bipush 35, 2) := dk_16 35 (dk_at dksX0_note_1 13 rfl rfl)
theorem dX0_note_39 : decode cX0_note 39 = .ok (.invokestatic 100, 3) := dk_184 0 100 (dk_at dksX0_note_1 15 rfl rfl)
theorem dX0_note_42 : decode cX0_note 42 = .ok (.ifCond .ne 5, 3) := dk_154 0 5 (dk_at dksX0_note_1 18 rfl rfl)
theorem dX0_note_45 : decode cX0_note 45 = .ok (.iconst (-1), 1) := dk_2 (dk_at dksX0_note_1 21 rfl rfl)
theorem dX0_note_46 : decode cX0_note 46 = .ok (.ireturn, 1) := dk_172 (dk_at dksX0_note_1 22 rfl rfl)
theorem dX0_note_47 : decode cX0_note 47 = .ok (.aload_n 0, 1) := dk_42 (dk_at dksX0_note_1 23 rfl rfl)
theorem dX0_note_48 : decode cX0_note 48 = .ok (.getfield 16, 3) := dk_180 0 16 (dk_at dksX0_note_2 0 rfl rfl)
theorem dX0_note_51 : decode cX0_note 51 = .ok (.getfield 181, 3) := dk_180 0 181 (dk_at dksX0_note_2 3 rfl rfl)
theorem dX0_note_54 : decode cX0_note 54 = .ok (.iload_n 1, 1) := dk_27 (dk_at dksX0_note_2 6 rfl rfl)
theorem dX0_note_55 : decode cX0_note 55 = .ok (.invokevirtual 190, 3) := dk_182 0 190 (dk_at dksX0_note_2 7 rfl rfl)
theorem dX0_note_58 : decode cX0_note 58 = .ok (.checkcast 194, 3) := dk_192 0 194 (dk_at dksX0_note_2 10 rfl rfl)
theorem dX0_note_61 : decode cX0_note 61 = .ok (.getfield 213, 3) := dk_180 0 213 (dk_at dksX0_note_2 13 rfl rfl)
theorem dX0_note_64 : decode cX0_note 64 = .ok (.iload_n 2, 1) := dk_28 (dk_at dksX0_note_2 16 rfl rfl)
theorem dX0_note_65 : decode cX0_note 65 = .ok (.aaload, 1) := dk_50 (dk_at dksX0_note_2 17 rfl rfl)
theorem dX0_note_66 : decode cX0_note 66 = .ok (.iload_n 3, 1) := dk_29 (dk_at dksX0_note_2 18 rfl rfl)
theorem dX0_note_67 : decode cX0_note 67 = .ok (.iaload, 1) := dk_46 (dk_at dksX0_note_2 19 rfl rfl)
theorem dX0_note_68 : decode cX0_note 68 = .ok (.ireturn, 1) := dk_172 (dk_at dksX0_note_2 20 rfl rfl)
abbrev cX0_ring : ByteArray := prog_1_method_28_code
def yX0_ring : MethodName := ⟨RX0, "ring", "(II)I"⟩
def dkwX0_ring_1 : List UInt8 := [42, 180, 0, 16, 180, 0, 181, 182, 0, 185, 182, 0, 221, 167, 0, 4, 2, 172]
abbrev dktX0_ring_1 : List UInt8 := dkwX0_ring_1 ++ []
def dkwX0_ring_0 : List UInt8 := [42, 27, 182, 0, 218, 153, 0, 35, 28, 3, 16, 35, 184, 0, 100, 153, 0, 25, 42, 180, 0, 16, 27, 28]
abbrev dktX0_ring_0 : List UInt8 := dkwX0_ring_0 ++ dktX0_ring_1
theorem dksX0_ring_0 : cX0_ring.data.toList.drop 0 = dktX0_ring_0 := by decide +kernel
theorem dksX0_ring_1 : cX0_ring.data.toList.drop 24 = dktX0_ring_1 := dk_seg dksX0_ring_0 24 rfl rfl
theorem dX0_ring_0 : decode cX0_ring 0 = .ok (.aload_n 0, 1) := dk_42 (dk_at dksX0_ring_0 0 rfl rfl)
theorem dX0_ring_1 : decode cX0_ring 1 = .ok (.iload_n 1, 1) := dk_27 (dk_at dksX0_ring_0 1 rfl rfl)
theorem dX0_ring_2 : decode cX0_ring 2 = .ok (.invokevirtual 218, 3) := dk_182 0 218 (dk_at dksX0_ring_0 2 rfl rfl)
theorem dX0_ring_5 : decode cX0_ring 5 = .ok (.ifCond .eq 35, 3) := dk_153 0 35 (dk_at dksX0_ring_0 5 rfl rfl)
theorem dX0_ring_8 : decode cX0_ring 8 = .ok (.iload_n 2, 1) := dk_28 (dk_at dksX0_ring_0 8 rfl rfl)
theorem dX0_ring_9 : decode cX0_ring 9 = .ok (.iconst 0, 1) := dk_3 (dk_at dksX0_ring_0 9 rfl rfl)
theorem dX0_ring_10 : decode cX0_ring 10 = .ok (.bipush 35, 2) := dk_16 35 (dk_at dksX0_ring_0 10 rfl rfl)
theorem dX0_ring_12 : decode cX0_ring 12 = .ok (.invokestatic 100, 3) := dk_184 0 100 (dk_at dksX0_ring_0 12 rfl rfl)
theorem dX0_ring_15 : decode cX0_ring 15 = .ok (.ifCond .eq 25, 3) := dk_153 0 25 (dk_at dksX0_ring_0 15 rfl rfl)
theorem dX0_ring_18 : decode cX0_ring 18 = .ok (.aload_n 0, 1) := dk_42 (dk_at dksX0_ring_0 18 rfl rfl)
theorem dX0_ring_19 : decode cX0_ring 19 = .ok (.getfield 16, 3) := dk_180 0 16 (dk_at dksX0_ring_0 19 rfl rfl)
theorem dX0_ring_22 : decode cX0_ring 22 = .ok (.iload_n 1, 1) := dk_27 (dk_at dksX0_ring_0 22 rfl rfl)
theorem dX0_ring_23 : decode cX0_ring 23 = .ok (.iload_n 2, 1) := dk_28 (dk_at dksX0_ring_0 23 rfl rfl)
theorem dX0_ring_24 : decode cX0_ring 24 = .ok (.aload_n 0, 1) := dk_42 (dk_at dksX0_ring_1 0 rfl rfl)
theorem dX0_ring_25 : decode cX0_ring 25 = .ok (.getfield 16, 3) := dk_180 0 16 (dk_at dksX0_ring_1 1 rfl rfl)
theorem dX0_ring_28 : decode cX0_ring 28 = .ok (.getfield 181, 3) := dk_180 0 181 (dk_at dksX0_ring_1 4 rfl rfl)
theorem dX0_ring_31 : decode cX0_ring 31 = .ok (.invokevirtual 185, 3) := dk_182 0 185 (dk_at dksX0_ring_1 7 rfl rfl)
theorem dX0_ring_34 : decode cX0_ring 34 = .ok (.invokevirtual 221, 3) := dk_182 0 221 (dk_at dksX0_ring_1 10 rfl rfl)
theorem dX0_ring_37 : decode cX0_ring 37 = .ok (.goto 4, 3) := dk_167 0 4 (dk_at dksX0_ring_1 13 rfl rfl)
theorem dX0_ring_40 : decode cX0_ring 40 = .ok (.iconst (-1), 1) := dk_2 (dk_at dksX0_ring_1 16 rfl rfl)
theorem dX0_ring_41 : decode cX0_ring 41 = .ok (.ireturn, 1) := dk_172 (dk_at dksX0_ring_1 17 rfl rfl)
abbrev cX0_isCell : ByteArray := prog_1_method_27_code
def yX0_isCell : MethodName := ⟨RX0, "isCell", "(I)Z"⟩
def dkwX0_isCell_0 : List UInt8 := [27, 3, 42, 180, 0, 16, 182, 0, 217, 4, 100, 184, 0, 100, 172]
abbrev dktX0_isCell_0 : List UInt8 := dkwX0_isCell_0 ++ []
theorem dksX0_isCell_0 : cX0_isCell.data.toList.drop 0 = dktX0_isCell_0 := by decide +kernel
theorem dX0_isCell_0 : decode cX0_isCell 0 = .ok (.iload_n 1, 1) := dk_27 (dk_at dksX0_isCell_0 0 rfl rfl)
theorem dX0_isCell_1 : decode cX0_isCell 1 = .ok (.iconst 0, 1) := dk_3 (dk_at dksX0_isCell_0 1 rfl rfl)
theorem dX0_isCell_2 : decode cX0_isCell 2 = .ok (.aload_n 0, 1) := dk_42 (dk_at dksX0_isCell_0 2 rfl rfl)
theorem dX0_isCell_3 : decode cX0_isCell 3 = .ok (.getfield 16, 3) := dk_180 0 16 (dk_at dksX0_isCell_0 3 rfl rfl)
theorem dX0_isCell_6 : decode cX0_isCell 6 = .ok (.invokevirtual 217, 3) := dk_182 0 217 (dk_at dksX0_isCell_0 6 rfl rfl)
theorem dX0_isCell_9 : decode cX0_isCell 9 = .ok (.iconst 1, 1) := dk_4 (dk_at dksX0_isCell_0 9 rfl rfl)
theorem dX0_isCell_10 : decode cX0_isCell 10 = .ok (.isub, 1) := dk_100 (dk_at dksX0_isCell_0 10 rfl rfl)
theorem dX0_isCell_11 : decode cX0_isCell 11 = .ok (.invokestatic 100, 3) := dk_184 0 100 (dk_at dksX0_isCell_0 11 rfl rfl)
theorem dX0_isCell_14 : decode cX0_isCell 14 = .ok (.ireturn, 1) := dk_172 (dk_at dksX0_isCell_0 14 rfl rfl)
abbrev cX0_heard : ByteArray := prog_1_method_29_code
def yX0_heard : MethodName := ⟨RX0, "heard", "(II)I"⟩
def dkwX0_heard_4 : List UInt8 := [180, 0, 16, 27, 182, 0, 237, 172, 2, 172]
abbrev dktX0_heard_4 : List UInt8 := dkwX0_heard_4 ++ []
def dkwX0_heard_3 : List UInt8 := [182, 0, 228, 172, 42, 180, 0, 16, 27, 182, 0, 231, 172, 42, 180, 0, 16, 27, 182, 0, 234, 172, 42]
abbrev dktX0_heard_3 : List UInt8 := dkwX0_heard_3 ++ dktX0_heard_4
def dkwX0_heard_2 : List UInt8 := [42, 180, 0, 16, 27, 182, 0, 225, 172, 42, 180, 0, 16, 27, 42, 180, 0, 16, 180, 0, 181, 182, 0, 185]
abbrev dktX0_heard_2 : List UInt8 := dkwX0_heard_2 ++ dktX0_heard_3
def dkwX0_heard_1 : List UInt8 := [170, 0, 0, 0, 88, 0, 0, 0, 0, 0, 0, 0, 4, 0, 0, 0, 33, 0, 0, 0, 42, 0, 0, 0, 61, 0, 0, 0, 70, 0, 0, 0, 79]
abbrev dktX0_heard_1 : List UInt8 := dkwX0_heard_1 ++ dktX0_heard_2
def dkwX0_heard_0 : List UInt8 := [42, 27, 182, 0, 218, 154, 0, 5, 2, 172, 28]
abbrev dktX0_heard_0 : List UInt8 := dkwX0_heard_0 ++ dktX0_heard_1
theorem dksX0_heard_0 : cX0_heard.data.toList.drop 0 = dktX0_heard_0 := by decide +kernel
theorem dksX0_heard_1 : cX0_heard.data.toList.drop 11 = dktX0_heard_1 := dk_seg dksX0_heard_0 11 rfl rfl
theorem dksX0_heard_2 : cX0_heard.data.toList.drop 44 = dktX0_heard_2 := dk_seg dksX0_heard_1 33 rfl rfl
theorem dksX0_heard_3 : cX0_heard.data.toList.drop 68 = dktX0_heard_3 := dk_seg dksX0_heard_2 24 rfl rfl
theorem dksX0_heard_4 : cX0_heard.data.toList.drop 91 = dktX0_heard_4 := dk_seg dksX0_heard_3 23 rfl rfl
theorem dX0_heard_0 : decode cX0_heard 0 = .ok (.aload_n 0, 1) := dk_42 (dk_at dksX0_heard_0 0 rfl rfl)
theorem dX0_heard_1 : decode cX0_heard 1 = .ok (.iload_n 1, 1) := dk_27 (dk_at dksX0_heard_0 1 rfl rfl)
theorem dX0_heard_2 : decode cX0_heard 2 = .ok (.invokevirtual 218, 3) := dk_182 0 218 (dk_at dksX0_heard_0 2 rfl rfl)
theorem dX0_heard_5 : decode cX0_heard 5 = .ok (.ifCond .ne 5, 3) := dk_154 0 5 (dk_at dksX0_heard_0 5 rfl rfl)
theorem dX0_heard_8 : decode cX0_heard 8 = .ok (.iconst (-1), 1) := dk_2 (dk_at dksX0_heard_0 8 rfl rfl)
theorem dX0_heard_9 : decode cX0_heard 9 = .ok (.ireturn, 1) := dk_172 (dk_at dksX0_heard_0 9 rfl rfl)
theorem dX0_heard_10 : decode cX0_heard 10 = .ok (.iload_n 2, 1) := dk_28 (dk_at dksX0_heard_0 10 rfl rfl)
theorem dX0_heard_11 : decode cX0_heard 11 = .ok (.tableswitch 88 0 4 #[33, 42, 61, 70, 79], 33) := by decide +kernel
theorem dX0_heard_44 : decode cX0_heard 44 = .ok (.aload_n 0, 1) := dk_42 (dk_at dksX0_heard_2 0 rfl rfl)
theorem dX0_heard_45 : decode cX0_heard 45 = .ok (.getfield 16, 3) := dk_180 0 16 (dk_at dksX0_heard_2 1 rfl rfl)
theorem dX0_heard_48 : decode cX0_heard 48 = .ok (.iload_n 1, 1) := dk_27 (dk_at dksX0_heard_2 4 rfl rfl)
theorem dX0_heard_49 : decode cX0_heard 49 = .ok (.invokevirtual 225, 3) := dk_182 0 225 (dk_at dksX0_heard_2 5 rfl rfl)
theorem dX0_heard_52 : decode cX0_heard 52 = .ok (.ireturn, 1) := dk_172 (dk_at dksX0_heard_2 8 rfl rfl)
theorem dX0_heard_53 : decode cX0_heard 53 = .ok (.aload_n 0, 1) := dk_42 (dk_at dksX0_heard_2 9 rfl rfl)
theorem dX0_heard_54 : decode cX0_heard 54 = .ok (.getfield 16, 3) := dk_180 0 16 (dk_at dksX0_heard_2 10 rfl rfl)
theorem dX0_heard_57 : decode cX0_heard 57 = .ok (.iload_n 1, 1) := dk_27 (dk_at dksX0_heard_2 13 rfl rfl)
theorem dX0_heard_58 : decode cX0_heard 58 = .ok (.aload_n 0, 1) := dk_42 (dk_at dksX0_heard_2 14 rfl rfl)
theorem dX0_heard_59 : decode cX0_heard 59 = .ok (.getfield 16, 3) := dk_180 0 16 (dk_at dksX0_heard_2 15 rfl rfl)
theorem dX0_heard_62 : decode cX0_heard 62 = .ok (.getfield 181, 3) := dk_180 0 181 (dk_at dksX0_heard_2 18 rfl rfl)
theorem dX0_heard_65 : decode cX0_heard 65 = .ok (.invokevirtual 185, 3) := dk_182 0 185 (dk_at dksX0_heard_2 21 rfl rfl)
theorem dX0_heard_68 : decode cX0_heard 68 = .ok (.invokevirtual 228, 3) := dk_182 0 228 (dk_at dksX0_heard_3 0 rfl rfl)
theorem dX0_heard_71 : decode cX0_heard 71 = .ok (.ireturn, 1) := dk_172 (dk_at dksX0_heard_3 3 rfl rfl)
theorem dX0_heard_72 : decode cX0_heard 72 = .ok (.aload_n 0, 1) := dk_42 (dk_at dksX0_heard_3 4 rfl rfl)
theorem dX0_heard_73 : decode cX0_heard 73 = .ok (.getfield 16, 3) := dk_180 0 16 (dk_at dksX0_heard_3 5 rfl rfl)
theorem dX0_heard_76 : decode cX0_heard 76 = .ok (.iload_n 1, 1) := dk_27 (dk_at dksX0_heard_3 8 rfl rfl)
theorem dX0_heard_77 : decode cX0_heard 77 = .ok (.invokevirtual 231, 3) := dk_182 0 231 (dk_at dksX0_heard_3 9 rfl rfl)
theorem dX0_heard_80 : decode cX0_heard 80 = .ok (.ireturn, 1) := dk_172 (dk_at dksX0_heard_3 12 rfl rfl)
theorem dX0_heard_81 : decode cX0_heard 81 = .ok (.aload_n 0, 1) := dk_42 (dk_at dksX0_heard_3 13 rfl rfl)
theorem dX0_heard_82 : decode cX0_heard 82 = .ok (.getfield 16, 3) := dk_180 0 16 (dk_at dksX0_heard_3 14 rfl rfl)
theorem dX0_heard_85 : decode cX0_heard 85 = .ok (.iload_n 1, 1) := dk_27 (dk_at dksX0_heard_3 17 rfl rfl)
theorem dX0_heard_86 : decode cX0_heard 86 = .ok (.invokevirtual 234, 3) := dk_182 0 234 (dk_at dksX0_heard_3 18 rfl rfl)
theorem dX0_heard_89 : decode cX0_heard 89 = .ok (.ireturn, 1) := dk_172 (dk_at dksX0_heard_3 21 rfl rfl)
theorem dX0_heard_90 : decode cX0_heard 90 = .ok (.aload_n 0, 1) := dk_42 (dk_at dksX0_heard_3 22 rfl rfl)
theorem dX0_heard_91 : decode cX0_heard 91 = .ok (.getfield 16, 3) := dk_180 0 16 (dk_at dksX0_heard_4 0 rfl rfl)
theorem dX0_heard_94 : decode cX0_heard 94 = .ok (.iload_n 1, 1) := dk_27 (dk_at dksX0_heard_4 3 rfl rfl)
theorem dX0_heard_95 : decode cX0_heard 95 = .ok (.invokevirtual 237, 3) := dk_182 0 237 (dk_at dksX0_heard_4 4 rfl rfl)
theorem dX0_heard_98 : decode cX0_heard 98 = .ok (.ireturn, 1) := dk_172 (dk_at dksX0_heard_4 7 rfl rfl)
theorem dX0_heard_99 : decode cX0_heard 99 = .ok (.iconst (-1), 1) := dk_2 (dk_at dksX0_heard_4 8 rfl rfl)
theorem dX0_heard_100 : decode cX0_heard 100 = .ok (.ireturn, 1) := dk_172 (dk_at dksX0_heard_4 9 rfl rfl)
abbrev cX0_loudest : ByteArray := prog_1_method_30_code
def yX0_loudest : MethodName := ⟨RX0, "loudest", "()I"⟩
def dkwX0_loudest_3 : List UInt8 := [184, 0, 243, 61, 132, 3, 1, 167, 255, 203, 27, 172]
abbrev dktX0_loudest_3 : List UInt8 := dkwX0_loudest_3 ++ []
def dkwX0_loudest_2 : List UInt8 := [182, 0, 185, 182, 0, 228, 54, 4, 21, 4, 28, 164, 0, 7, 29, 167, 0, 4, 27, 60, 28, 21, 4]
abbrev dktX0_loudest_2 : List UInt8 := dkwX0_loudest_2 ++ dktX0_loudest_3
def dkwX0_loudest_1 : List UInt8 := [42, 180, 0, 16, 182, 0, 217, 162, 0, 48, 42, 180, 0, 16, 29, 42, 180, 0, 16, 180, 0, 181]
abbrev dktX0_loudest_1 : List UInt8 := dkwX0_loudest_1 ++ dktX0_loudest_2
def dkwX0_loudest_0 : List UInt8 := [42, 180, 0, 16, 180, 0, 181, 182, 0, 240, 153, 0, 6, 16, 254, 172, 16, 252, 60, 3, 61, 3, 62, 29]
abbrev dktX0_loudest_0 : List UInt8 := dkwX0_loudest_0 ++ dktX0_loudest_1
theorem dksX0_loudest_0 : cX0_loudest.data.toList.drop 0 = dktX0_loudest_0 := by decide +kernel
theorem dksX0_loudest_1 : cX0_loudest.data.toList.drop 24 = dktX0_loudest_1 := dk_seg dksX0_loudest_0 24 rfl rfl
theorem dksX0_loudest_2 : cX0_loudest.data.toList.drop 46 = dktX0_loudest_2 := dk_seg dksX0_loudest_1 22 rfl rfl
theorem dksX0_loudest_3 : cX0_loudest.data.toList.drop 69 = dktX0_loudest_3 := dk_seg dksX0_loudest_2 23 rfl rfl
theorem dX0_loudest_0 : decode cX0_loudest 0 = .ok (.aload_n 0, 1) := dk_42 (dk_at dksX0_loudest_0 0 rfl rfl)
theorem dX0_loudest_1 : decode cX0_loudest 1 = .ok (.getfield 16, 3) := dk_180 0 16 (dk_at dksX0_loudest_0 1 rfl rfl)
theorem dX0_loudest_4 : decode cX0_loudest 4 = .ok (.getfield 181, 3) := dk_180 0 181 (dk_at dksX0_loudest_0 4 rfl rfl)
theorem dX0_loudest_7 : decode cX0_loudest 7 = .ok (.invokevirtual 240, 3) := dk_182 0 240 (dk_at dksX0_loudest_0 7 rfl rfl)
theorem dX0_loudest_10 : decode cX0_loudest 10 = .ok (.ifCond .eq 6, 3) := dk_153 0 6 (dk_at dksX0_loudest_0 10 rfl rfl)
theorem dX0_loudest_13 : decode cX0_loudest 13 = .ok (.bipush (-2), 2) := dk_16 254 (dk_at dksX0_loudest_0 13 rfl rfl)
theorem dX0_loudest_15 : decode cX0_loudest 15 = .ok (.ireturn, 1) := dk_172 (dk_at dksX0_loudest_0 15 rfl rfl)
theorem dX0_loudest_16 : decode cX0_loudest 16 = .ok (.bipush (-4), 2) := dk_16 252 (dk_at dksX0_loudest_0 16 rfl rfl)
theorem dX0_loudest_18 : decode cX0_loudest 18 = .ok (.istore_n 1, 1) := dk_60 (dk_at dksX0_loudest_0 18 rfl rfl)
theorem dX0_loudest_19 : decode cX0_loudest 19 = .ok (.iconst 0, 1) := dk_3 (dk_at dksX0_loudest_0 19 rfl rfl)
theorem dX0_loudest_20 : decode cX0_loudest 20 = .ok (.istore_n 2, 1) := dk_61 (dk_at dksX0_loudest_0 20 rfl rfl)
theorem dX0_loudest_21 : decode cX0_loudest 21 = .ok (.iconst 0, 1) := dk_3 (dk_at dksX0_loudest_0 21 rfl rfl)
theorem dX0_loudest_22 : decode cX0_loudest 22 = .ok (.istore_n 3, 1) := dk_62 (dk_at dksX0_loudest_0 22 rfl rfl)
theorem dX0_loudest_23 : decode cX0_loudest 23 = .ok (.iload_n 3, 1) := dk_29 (dk_at dksX0_loudest_0 23 rfl rfl)
theorem dX0_loudest_24 : decode cX0_loudest 24 = .ok (.aload_n 0, 1) := dk_42 (dk_at dksX0_loudest_1 0 rfl rfl)
theorem dX0_loudest_25 : decode cX0_loudest 25 = .ok (.getfield 16, 3) := dk_180 0 16 (dk_at dksX0_loudest_1 1 rfl rfl)
theorem dX0_loudest_28 : decode cX0_loudest 28 = .ok (.invokevirtual 217, 3) := dk_182 0 217 (dk_at dksX0_loudest_1 4 rfl rfl)
theorem dX0_loudest_31 : decode cX0_loudest 31 = .ok (.if_icmp .ge 48, 3) := dk_162 0 48 (dk_at dksX0_loudest_1 7 rfl rfl)
theorem dX0_loudest_34 : decode cX0_loudest 34 = .ok (.aload_n 0, 1) := dk_42 (dk_at dksX0_loudest_1 10 rfl rfl)
theorem dX0_loudest_35 : decode cX0_loudest 35 = .ok (.getfield 16, 3) := dk_180 0 16 (dk_at dksX0_loudest_1 11 rfl rfl)
theorem dX0_loudest_38 : decode cX0_loudest 38 = .ok (.iload_n 3, 1) := dk_29 (dk_at dksX0_loudest_1 14 rfl rfl)
theorem dX0_loudest_39 : decode cX0_loudest 39 = .ok (.aload_n 0, 1) := dk_42 (dk_at dksX0_loudest_1 15 rfl rfl)
theorem dX0_loudest_40 : decode cX0_loudest 40 = .ok (.getfield 16, 3) := dk_180 0 16 (dk_at dksX0_loudest_1 16 rfl rfl)
theorem dX0_loudest_43 : decode cX0_loudest 43 = .ok (.getfield 181, 3) := dk_180 0 181 (dk_at dksX0_loudest_1 19 rfl rfl)
theorem dX0_loudest_46 : decode cX0_loudest 46 = .ok (.invokevirtual 185, 3) := dk_182 0 185 (dk_at dksX0_loudest_2 0 rfl rfl)
theorem dX0_loudest_49 : decode cX0_loudest 49 = .ok (.invokevirtual 228, 3) := dk_182 0 228 (dk_at dksX0_loudest_2 3 rfl rfl)
theorem dX0_loudest_52 : decode cX0_loudest 52 = .ok (.istore 4, 2) := dk_54 4 (dk_at dksX0_loudest_2 6 rfl rfl)
theorem dX0_loudest_54 : decode cX0_loudest 54 = .ok (.iload 4, 2) := dk_21 4 (dk_at dksX0_loudest_2 8 rfl rfl)
theorem dX0_loudest_56 : decode cX0_loudest 56 = .ok (.iload_n 2, 1) := dk_28 (dk_at dksX0_loudest_2 10 rfl rfl)
theorem dX0_loudest_57 : decode cX0_loudest 57 = .ok (.if_icmp .le 7, 3) := dk_164 0 7 (dk_at dksX0_loudest_2 11 rfl rfl)
theorem dX0_loudest_60 : decode cX0_loudest 60 = .ok (.iload_n 3, 1) := dk_29 (dk_at dksX0_loudest_2 14 rfl rfl)
theorem dX0_loudest_61 : decode cX0_loudest 61 = .ok (.goto 4, 3) := dk_167 0 4 (dk_at dksX0_loudest_2 15 rfl rfl)
theorem dX0_loudest_64 : decode cX0_loudest 64 = .ok (.iload_n 1, 1) := dk_27 (dk_at dksX0_loudest_2 18 rfl rfl)
theorem dX0_loudest_65 : decode cX0_loudest 65 = .ok (.istore_n 1, 1) := dk_60 (dk_at dksX0_loudest_2 19 rfl rfl)
theorem dX0_loudest_66 : decode cX0_loudest 66 = .ok (.iload_n 2, 1) := dk_28 (dk_at dksX0_loudest_2 20 rfl rfl)
theorem dX0_loudest_67 : decode cX0_loudest 67 = .ok (.iload 4, 2) := dk_21 4 (dk_at dksX0_loudest_2 21 rfl rfl)
theorem dX0_loudest_69 : decode cX0_loudest 69 = .ok (.invokestatic 243, 3) := dk_184 0 243 (dk_at dksX0_loudest_3 0 rfl rfl)
theorem dX0_loudest_72 : decode cX0_loudest 72 = .ok (.istore_n 2, 1) := dk_61 (dk_at dksX0_loudest_3 3 rfl rfl)
theorem dX0_loudest_73 : decode cX0_loudest 73 = .ok (.iinc 3 1, 3) := dk_132 3 1 (dk_at dksX0_loudest_3 4 rfl rfl)
theorem dX0_loudest_76 : decode cX0_loudest 76 = .ok (.goto (-53), 3) := dk_167 255 203 (dk_at dksX0_loudest_3 7 rfl rfl)
theorem dX0_loudest_79 : decode cX0_loudest 79 = .ok (.iload_n 1, 1) := dk_27 (dk_at dksX0_loudest_3 10 rfl rfl)
theorem dX0_loudest_80 : decode cX0_loudest 80 = .ok (.ireturn, 1) := dk_172 (dk_at dksX0_loudest_3 11 rfl rfl)
abbrev cX0_buried : ByteArray := prog_1_method_31_code
def yX0_buried : MethodName := ⟨RX0, "buried", "()I"⟩
def dkwX0_buried_2 : List UInt8 := [184, 0, 243, 61, 132, 3, 1, 167, 255, 210, 27, 172]
abbrev dktX0_buried_2 : List UInt8 := dkwX0_buried_2 ++ []
def dkwX0_buried_1 : List UInt8 := [180, 0, 16, 29, 182, 0, 248, 54, 4, 21, 4, 28, 164, 0, 7, 29, 167, 0, 4, 27, 60, 28, 21, 4]
abbrev dktX0_buried_1 : List UInt8 := dkwX0_buried_1 ++ dktX0_buried_2
def dkwX0_buried_0 : List UInt8 := [16, 252, 60, 3, 61, 3, 62, 29, 42, 180, 0, 16, 180, 0, 181, 182, 0, 185, 162, 0, 38, 42]
abbrev dktX0_buried_0 : List UInt8 := dkwX0_buried_0 ++ dktX0_buried_1
theorem dksX0_buried_0 : cX0_buried.data.toList.drop 0 = dktX0_buried_0 := by decide +kernel
theorem dksX0_buried_1 : cX0_buried.data.toList.drop 22 = dktX0_buried_1 := dk_seg dksX0_buried_0 22 rfl rfl
theorem dksX0_buried_2 : cX0_buried.data.toList.drop 46 = dktX0_buried_2 := dk_seg dksX0_buried_1 24 rfl rfl
theorem dX0_buried_0 : decode cX0_buried 0 = .ok (.bipush (-4), 2) := dk_16 252 (dk_at dksX0_buried_0 0 rfl rfl)
theorem dX0_buried_2 : decode cX0_buried 2 = .ok (.istore_n 1, 1) := dk_60 (dk_at dksX0_buried_0 2 rfl rfl)
theorem dX0_buried_3 : decode cX0_buried 3 = .ok (.iconst 0, 1) := dk_3 (dk_at dksX0_buried_0 3 rfl rfl)
theorem dX0_buried_4 : decode cX0_buried 4 = .ok (.istore_n 2, 1) := dk_61 (dk_at dksX0_buried_0 4 rfl rfl)
theorem dX0_buried_5 : decode cX0_buried 5 = .ok (.iconst 0, 1) := dk_3 (dk_at dksX0_buried_0 5 rfl rfl)
theorem dX0_buried_6 : decode cX0_buried 6 = .ok (.istore_n 3, 1) := dk_62 (dk_at dksX0_buried_0 6 rfl rfl)
theorem dX0_buried_7 : decode cX0_buried 7 = .ok (.iload_n 3, 1) := dk_29 (dk_at dksX0_buried_0 7 rfl rfl)
theorem dX0_buried_8 : decode cX0_buried 8 = .ok (.aload_n 0, 1) := dk_42 (dk_at dksX0_buried_0 8 rfl rfl)
theorem dX0_buried_9 : decode cX0_buried 9 = .ok (.getfield 16, 3) := dk_180 0 16 (dk_at dksX0_buried_0 9 rfl rfl)
theorem dX0_buried_12 : decode cX0_buried 12 = .ok (.getfield 181, 3) := dk_180 0 181 (dk_at dksX0_buried_0 12 rfl rfl)
theorem dX0_buried_15 : decode cX0_buried 15 = .ok (.invokevirtual 185, 3) := dk_182 0 185 (dk_at dksX0_buried_0 15 rfl rfl)
theorem dX0_buried_18 : decode cX0_buried 18 = .ok (.if_icmp .ge 38, 3) := dk_162 0 38 (dk_at dksX0_buried_0 18 rfl rfl)
theorem dX0_buried_21 : decode cX0_buried 21 = .ok (.aload_n 0, 1) := dk_42 (dk_at dksX0_buried_0 21 rfl rfl)
theorem dX0_buried_22 : decode cX0_buried 22 = .ok (.getfield 16, 3) := dk_180 0 16 (dk_at dksX0_buried_1 0 rfl rfl)
theorem dX0_buried_25 : decode cX0_buried 25 = .ok (.iload_n 3, 1) := dk_29 (dk_at dksX0_buried_1 3 rfl rfl)
theorem dX0_buried_26 : decode cX0_buried 26 = .ok (.invokevirtual 248, 3) := dk_182 0 248 (dk_at dksX0_buried_1 4 rfl rfl)
theorem dX0_buried_29 : decode cX0_buried 29 = .ok (.istore 4, 2) := dk_54 4 (dk_at dksX0_buried_1 7 rfl rfl)
theorem dX0_buried_31 : decode cX0_buried 31 = .ok (.iload 4, 2) := dk_21 4 (dk_at dksX0_buried_1 9 rfl rfl)
theorem dX0_buried_33 : decode cX0_buried 33 = .ok (.iload_n 2, 1) := dk_28 (dk_at dksX0_buried_1 11 rfl rfl)
theorem dX0_buried_34 : decode cX0_buried 34 = .ok (.if_icmp .le 7, 3) := dk_164 0 7 (dk_at dksX0_buried_1 12 rfl rfl)
theorem dX0_buried_37 : decode cX0_buried 37 = .ok (.iload_n 3, 1) := dk_29 (dk_at dksX0_buried_1 15 rfl rfl)
theorem dX0_buried_38 : decode cX0_buried 38 = .ok (.goto 4, 3) := dk_167 0 4 (dk_at dksX0_buried_1 16 rfl rfl)
theorem dX0_buried_41 : decode cX0_buried 41 = .ok (.iload_n 1, 1) := dk_27 (dk_at dksX0_buried_1 19 rfl rfl)
theorem dX0_buried_42 : decode cX0_buried 42 = .ok (.istore_n 1, 1) := dk_60 (dk_at dksX0_buried_1 20 rfl rfl)
theorem dX0_buried_43 : decode cX0_buried 43 = .ok (.iload_n 2, 1) := dk_28 (dk_at dksX0_buried_1 21 rfl rfl)
theorem dX0_buried_44 : decode cX0_buried 44 = .ok (.iload 4, 2) := dk_21 4 (dk_at dksX0_buried_1 22 rfl rfl)
theorem dX0_buried_46 : decode cX0_buried 46 = .ok (.invokestatic 243, 3) := dk_184 0 243 (dk_at dksX0_buried_2 0 rfl rfl)
theorem dX0_buried_49 : decode cX0_buried 49 = .ok (.istore_n 2, 1) := dk_61 (dk_at dksX0_buried_2 3 rfl rfl)
theorem dX0_buried_50 : decode cX0_buried 50 = .ok (.iinc 3 1, 3) := dk_132 3 1 (dk_at dksX0_buried_2 4 rfl rfl)
theorem dX0_buried_53 : decode cX0_buried 53 = .ok (.goto (-46), 3) := dk_167 255 210 (dk_at dksX0_buried_2 7 rfl rfl)
theorem dX0_buried_56 : decode cX0_buried 56 = .ok (.iload_n 1, 1) := dk_27 (dk_at dksX0_buried_2 10 rfl rfl)
theorem dX0_buried_57 : decode cX0_buried 57 = .ok (.ireturn, 1) := dk_172 (dk_at dksX0_buried_2 11 rfl rfl)
abbrev cX0_tunes : ByteArray := prog_1_method_32_code
def yX0_tunes : MethodName := ⟨RX0, "tunes", "()I"⟩
def dkwX0_tunes_3 : List UInt8 := [96, 61, 132, 3, 1, 167, 255, 222, 28, 172]
abbrev dktX0_tunes_3 : List UInt8 := dkwX0_tunes_3 ++ []
def dkwX0_tunes_2 : List UInt8 := [182, 0, 217, 162, 0, 29, 28, 42, 180, 0, 16, 43, 29, 182, 0, 251, 153, 0, 7, 4, 167, 0, 4, 3]
abbrev dktX0_tunes_2 : List UInt8 := dkwX0_tunes_2 ++ dktX0_tunes_3
def dkwX0_tunes_1 : List UInt8 := [180, 0, 16, 180, 0, 181, 182, 0, 240, 153, 0, 6, 16, 254, 172, 3, 61, 3, 62, 29, 42, 180, 0, 16]
abbrev dktX0_tunes_1 : List UInt8 := dkwX0_tunes_1 ++ dktX0_tunes_2
def dkwX0_tunes_0 : List UInt8 := [187, 0, 115, 89, 42, 180, 0, 32, 183, 0, 117, 182, 0, 124, 76, 167, 0, 7, 77, 16, 254, 172, 42]
abbrev dktX0_tunes_0 : List UInt8 := dkwX0_tunes_0 ++ dktX0_tunes_1
theorem dksX0_tunes_0 : cX0_tunes.data.toList.drop 0 = dktX0_tunes_0 := by decide +kernel
theorem dksX0_tunes_1 : cX0_tunes.data.toList.drop 23 = dktX0_tunes_1 := dk_seg dksX0_tunes_0 23 rfl rfl
theorem dksX0_tunes_2 : cX0_tunes.data.toList.drop 47 = dktX0_tunes_2 := dk_seg dksX0_tunes_1 24 rfl rfl
theorem dksX0_tunes_3 : cX0_tunes.data.toList.drop 71 = dktX0_tunes_3 := dk_seg dksX0_tunes_2 24 rfl rfl
theorem dX0_tunes_0 : decode cX0_tunes 0 = .ok (.new 115, 3) := dk_187 0 115 (dk_at dksX0_tunes_0 0 rfl rfl)
theorem dX0_tunes_3 : decode cX0_tunes 3 = .ok (.dup, 1) := dk_89 (dk_at dksX0_tunes_0 3 rfl rfl)
theorem dX0_tunes_4 : decode cX0_tunes 4 = .ok (.aload_n 0, 1) := dk_42 (dk_at dksX0_tunes_0 4 rfl rfl)
theorem dX0_tunes_5 : decode cX0_tunes 5 = .ok (.getfield 32, 3) := dk_180 0 32 (dk_at dksX0_tunes_0 5 rfl rfl)
theorem dX0_tunes_8 : decode cX0_tunes 8 = .ok (.invokespecial 117, 3) := dk_183 0 117 (dk_at dksX0_tunes_0 8 rfl rfl)
theorem dX0_tunes_11 : decode cX0_tunes 11 = .ok (.invokevirtual 124, 3) := dk_182 0 124 (dk_at dksX0_tunes_0 11 rfl rfl)
theorem dX0_tunes_14 : decode cX0_tunes 14 = .ok (.astore_n 1, 1) := dk_76 (dk_at dksX0_tunes_0 14 rfl rfl)
theorem dX0_tunes_15 : decode cX0_tunes 15 = .ok (.goto 7, 3) := dk_167 0 7 (dk_at dksX0_tunes_0 15 rfl rfl)
theorem dX0_tunes_18 : decode cX0_tunes 18 = .ok (.astore_n 2, 1) := dk_77 (dk_at dksX0_tunes_0 18 rfl rfl)
theorem dX0_tunes_19 : decode cX0_tunes 19 = .ok (.bipush (-2), 2) := dk_16 254 (dk_at dksX0_tunes_0 19 rfl rfl)
theorem dX0_tunes_21 : decode cX0_tunes 21 = .ok (.ireturn, 1) := dk_172 (dk_at dksX0_tunes_0 21 rfl rfl)
theorem dX0_tunes_22 : decode cX0_tunes 22 = .ok (.aload_n 0, 1) := dk_42 (dk_at dksX0_tunes_0 22 rfl rfl)
theorem dX0_tunes_23 : decode cX0_tunes 23 = .ok (.getfield 16, 3) := dk_180 0 16 (dk_at dksX0_tunes_1 0 rfl rfl)
theorem dX0_tunes_26 : decode cX0_tunes 26 = .ok (.getfield 181, 3) := dk_180 0 181 (dk_at dksX0_tunes_1 3 rfl rfl)
theorem dX0_tunes_29 : decode cX0_tunes 29 = .ok (.invokevirtual 240, 3) := dk_182 0 240 (dk_at dksX0_tunes_1 6 rfl rfl)
theorem dX0_tunes_32 : decode cX0_tunes 32 = .ok (.ifCond .eq 6, 3) := dk_153 0 6 (dk_at dksX0_tunes_1 9 rfl rfl)
theorem dX0_tunes_35 : decode cX0_tunes 35 = .ok (.bipush (-2), 2) := dk_16 254 (dk_at dksX0_tunes_1 12 rfl rfl)
theorem dX0_tunes_37 : decode cX0_tunes 37 = .ok (.ireturn, 1) := dk_172 (dk_at dksX0_tunes_1 14 rfl rfl)
theorem dX0_tunes_38 : decode cX0_tunes 38 = .ok (.iconst 0, 1) := dk_3 (dk_at dksX0_tunes_1 15 rfl rfl)
theorem dX0_tunes_39 : decode cX0_tunes 39 = .ok (.istore_n 2, 1) := dk_61 (dk_at dksX0_tunes_1 16 rfl rfl)
theorem dX0_tunes_40 : decode cX0_tunes 40 = .ok (.iconst 0, 1) := dk_3 (dk_at dksX0_tunes_1 17 rfl rfl)
theorem dX0_tunes_41 : decode cX0_tunes 41 = .ok (.istore_n 3, 1) := dk_62 (dk_at dksX0_tunes_1 18 rfl rfl)
theorem dX0_tunes_42 : decode cX0_tunes 42 = .ok (.iload_n 3, 1) := dk_29 (dk_at dksX0_tunes_1 19 rfl rfl)
theorem dX0_tunes_43 : decode cX0_tunes 43 = .ok (.aload_n 0, 1) := dk_42 (dk_at dksX0_tunes_1 20 rfl rfl)
theorem dX0_tunes_44 : decode cX0_tunes 44 = .ok (.getfield 16, 3) := dk_180 0 16 (dk_at dksX0_tunes_1 21 rfl rfl)
theorem dX0_tunes_47 : decode cX0_tunes 47 = .ok (.invokevirtual 217, 3) := dk_182 0 217 (dk_at dksX0_tunes_2 0 rfl rfl)
theorem dX0_tunes_50 : decode cX0_tunes 50 = .ok (.if_icmp .ge 29, 3) := dk_162 0 29 (dk_at dksX0_tunes_2 3 rfl rfl)
theorem dX0_tunes_53 : decode cX0_tunes 53 = .ok (.iload_n 2, 1) := dk_28 (dk_at dksX0_tunes_2 6 rfl rfl)
theorem dX0_tunes_54 : decode cX0_tunes 54 = .ok (.aload_n 0, 1) := dk_42 (dk_at dksX0_tunes_2 7 rfl rfl)
theorem dX0_tunes_55 : decode cX0_tunes 55 = .ok (.getfield 16, 3) := dk_180 0 16 (dk_at dksX0_tunes_2 8 rfl rfl)
theorem dX0_tunes_58 : decode cX0_tunes 58 = .ok (.aload_n 1, 1) := dk_43 (dk_at dksX0_tunes_2 11 rfl rfl)
theorem dX0_tunes_59 : decode cX0_tunes 59 = .ok (.iload_n 3, 1) := dk_29 (dk_at dksX0_tunes_2 12 rfl rfl)
theorem dX0_tunes_60 : decode cX0_tunes 60 = .ok (.invokevirtual 251, 3) := dk_182 0 251 (dk_at dksX0_tunes_2 13 rfl rfl)
theorem dX0_tunes_63 : decode cX0_tunes 63 = .ok (.ifCond .eq 7, 3) := dk_153 0 7 (dk_at dksX0_tunes_2 16 rfl rfl)
theorem dX0_tunes_66 : decode cX0_tunes 66 = .ok (.iconst 1, 1) := dk_4 (dk_at dksX0_tunes_2 19 rfl rfl)
theorem dX0_tunes_67 : decode cX0_tunes 67 = .ok (.goto 4, 3) := dk_167 0 4 (dk_at dksX0_tunes_2 20 rfl rfl)
theorem dX0_tunes_70 : decode cX0_tunes 70 = .ok (.iconst 0, 1) := dk_3 (dk_at dksX0_tunes_2 23 rfl rfl)
theorem dX0_tunes_71 : decode cX0_tunes 71 = .ok (.iadd, 1) := dk_96 (dk_at dksX0_tunes_3 0 rfl rfl)
theorem dX0_tunes_72 : decode cX0_tunes 72 = .ok (.istore_n 2, 1) := dk_61 (dk_at dksX0_tunes_3 1 rfl rfl)
theorem dX0_tunes_73 : decode cX0_tunes 73 = .ok (.iinc 3 1, 3) := dk_132 3 1 (dk_at dksX0_tunes_3 2 rfl rfl)
theorem dX0_tunes_76 : decode cX0_tunes 76 = .ok (.goto (-34), 3) := dk_167 255 222 (dk_at dksX0_tunes_3 5 rfl rfl)
theorem dX0_tunes_79 : decode cX0_tunes 79 = .ok (.iload_n 2, 1) := dk_28 (dk_at dksX0_tunes_3 8 rfl rfl)
theorem dX0_tunes_80 : decode cX0_tunes 80 = .ok (.ireturn, 1) := dk_172 (dk_at dksX0_tunes_3 9 rfl rfl)
abbrev cX0_count : ByteArray := prog_1_method_33_code
def yX0_count : MethodName := ⟨RX0, "count", "(I)I"⟩
def dkwX0_count_8 : List UInt8 := [172]
abbrev dktX0_count_8 : List UInt8 := dkwX0_count_8 ++ []
def dkwX0_count_7 : List UInt8 := [180, 0, 32, 182, 0, 104, 172, 42, 180, 0, 25, 182, 0, 36, 172, 42, 180, 0, 16, 180, 1, 29, 172, 2]
abbrev dktX0_count_7 : List UInt8 := dkwX0_count_7 ++ dktX0_count_8
def dkwX0_count_6 : List UInt8 := [42, 180, 0, 16, 180, 1, 22, 172, 42, 180, 0, 16, 180, 1, 25, 27, 16, 10, 100, 46, 172, 42]
abbrev dktX0_count_6 : List UInt8 := dkwX0_count_6 ++ dktX0_count_7
def dkwX0_count_5 : List UInt8 := [180, 0, 16, 182, 1, 15, 153, 0, 16, 42, 180, 0, 16, 180, 1, 18, 182, 0, 197, 167, 0, 4, 3, 172]
abbrev dktX0_count_5 : List UInt8 := dkwX0_count_5 ++ dktX0_count_6
def dkwX0_count_4 : List UInt8 := [180, 0, 16, 180, 1, 8, 172, 42, 180, 0, 16, 180, 1, 11, 172, 42, 180, 0, 16, 180, 1, 12, 172, 42]
abbrev dktX0_count_4 : List UInt8 := dkwX0_count_4 ++ dktX0_count_5
def dkwX0_count_3 : List UInt8 := [42, 180, 0, 16, 180, 0, 181, 182, 0, 185, 172, 42, 180, 0, 16, 180, 1, 5, 182, 0, 36, 172, 42]
abbrev dktX0_count_3 : List UInt8 := dkwX0_count_3 ++ dktX0_count_4
def dkwX0_count_2 : List UInt8 := [42, 180, 0, 16, 180, 0, 255, 172, 42, 180, 0, 16, 182, 0, 217, 172, 42, 180, 0, 16, 182, 1, 2, 172]
abbrev dktX0_count_2 : List UInt8 := dkwX0_count_2 ++ dktX0_count_3
def dkwX0_count_1 : List UInt8 := [170, 0, 0, 0, 0, 0, 219, 0, 0, 0, 0, 0, 0, 0, 15, 0, 0, 0, 79, 0, 0, 0, 87, 0, 0, 0, 95, 0, 0, 0, 103, 0, 0, 0, 114, 0, 0, 0, 125, 0, 0, 0, 133, 0, 0, 0, 141, 0, 0, 0, 149, 0, 0, 0, 174, 0, 0, 0, 182, 0, 0, 0, 182, 0, 0, 0, 182, 0, 0, 0, 195, 0, 0, 0, 203, 0, 0, 0, 211]
abbrev dktX0_count_1 : List UInt8 := dkwX0_count_1 ++ dktX0_count_2
def dkwX0_count_0 : List UInt8 := [27]
abbrev dktX0_count_0 : List UInt8 := dkwX0_count_0 ++ dktX0_count_1
theorem dksX0_count_0 : cX0_count.data.toList.drop 0 = dktX0_count_0 := by decide +kernel
theorem dksX0_count_1 : cX0_count.data.toList.drop 1 = dktX0_count_1 := dk_seg dksX0_count_0 1 rfl rfl
theorem dksX0_count_2 : cX0_count.data.toList.drop 80 = dktX0_count_2 := dk_seg dksX0_count_1 79 rfl rfl
theorem dksX0_count_3 : cX0_count.data.toList.drop 104 = dktX0_count_3 := dk_seg dksX0_count_2 24 rfl rfl
theorem dksX0_count_4 : cX0_count.data.toList.drop 127 = dktX0_count_4 := dk_seg dksX0_count_3 23 rfl rfl
theorem dksX0_count_5 : cX0_count.data.toList.drop 151 = dktX0_count_5 := dk_seg dksX0_count_4 24 rfl rfl
theorem dksX0_count_6 : cX0_count.data.toList.drop 175 = dktX0_count_6 := dk_seg dksX0_count_5 24 rfl rfl
theorem dksX0_count_7 : cX0_count.data.toList.drop 197 = dktX0_count_7 := dk_seg dksX0_count_6 22 rfl rfl
theorem dksX0_count_8 : cX0_count.data.toList.drop 221 = dktX0_count_8 := dk_seg dksX0_count_7 24 rfl rfl
theorem dX0_count_0 : decode cX0_count 0 = .ok (.iload_n 1, 1) := dk_27 (dk_at dksX0_count_0 0 rfl rfl)
theorem dX0_count_1 : decode cX0_count 1 = .ok (.tableswitch 219 0 15 #[79, 87, 95, 103, 114, 125, 133, 141, 149, 174, 182, 182, 182, 195, 203, 211], 79) := by decide +kernel
theorem dX0_count_80 : decode cX0_count 80 = .ok (.aload_n 0, 1) := dk_42 (dk_at dksX0_count_2 0 rfl rfl)
theorem dX0_count_81 : decode cX0_count 81 = .ok (.getfield 16, 3) := dk_180 0 16 (dk_at dksX0_count_2 1 rfl rfl)
theorem dX0_count_84 : decode cX0_count 84 = .ok (.getfield 255, 3) := dk_180 0 255 (dk_at dksX0_count_2 4 rfl rfl)
theorem dX0_count_87 : decode cX0_count 87 = .ok (.ireturn, 1) := dk_172 (dk_at dksX0_count_2 7 rfl rfl)
theorem dX0_count_88 : decode cX0_count 88 = .ok (.aload_n 0, 1) := dk_42 (dk_at dksX0_count_2 8 rfl rfl)
theorem dX0_count_89 : decode cX0_count 89 = .ok (.getfield 16, 3) := dk_180 0 16 (dk_at dksX0_count_2 9 rfl rfl)
theorem dX0_count_92 : decode cX0_count 92 = .ok (.invokevirtual 217, 3) := dk_182 0 217 (dk_at dksX0_count_2 12 rfl rfl)
theorem dX0_count_95 : decode cX0_count 95 = .ok (.ireturn, 1) := dk_172 (dk_at dksX0_count_2 15 rfl rfl)
theorem dX0_count_96 : decode cX0_count 96 = .ok (.aload_n 0, 1) := dk_42 (dk_at dksX0_count_2 16 rfl rfl)
theorem dX0_count_97 : decode cX0_count 97 = .ok (.getfield 16, 3) := dk_180 0 16 (dk_at dksX0_count_2 17 rfl rfl)
theorem dX0_count_100 : decode cX0_count 100 = .ok (.invokevirtual 258, 3) := dk_182 1 2 (dk_at dksX0_count_2 20 rfl rfl)
theorem dX0_count_103 : decode cX0_count 103 = .ok (.ireturn, 1) := dk_172 (dk_at dksX0_count_2 23 rfl rfl)
theorem dX0_count_104 : decode cX0_count 104 = .ok (.aload_n 0, 1) := dk_42 (dk_at dksX0_count_3 0 rfl rfl)
theorem dX0_count_105 : decode cX0_count 105 = .ok (.getfield 16, 3) := dk_180 0 16 (dk_at dksX0_count_3 1 rfl rfl)
theorem dX0_count_108 : decode cX0_count 108 = .ok (.getfield 181, 3) := dk_180 0 181 (dk_at dksX0_count_3 4 rfl rfl)
theorem dX0_count_111 : decode cX0_count 111 = .ok (.invokevirtual 185, 3) := dk_182 0 185 (dk_at dksX0_count_3 7 rfl rfl)
theorem dX0_count_114 : decode cX0_count 114 = .ok (.ireturn, 1) := dk_172 (dk_at dksX0_count_3 10 rfl rfl)
theorem dX0_count_115 : decode cX0_count 115 = .ok (.aload_n 0, 1) := dk_42 (dk_at dksX0_count_3 11 rfl rfl)
theorem dX0_count_116 : decode cX0_count 116 = .ok (.getfield 16, 3) := dk_180 0 16 (dk_at dksX0_count_3 12 rfl rfl)
theorem dX0_count_119 : decode cX0_count 119 = .ok (.getfield 261, 3) := dk_180 1 5 (dk_at dksX0_count_3 15 rfl rfl)
theorem dX0_count_122 : decode cX0_count 122 = .ok (.invokevirtual 36, 3) := dk_182 0 36 (dk_at dksX0_count_3 18 rfl rfl)
theorem dX0_count_125 : decode cX0_count 125 = .ok (.ireturn, 1) := dk_172 (dk_at dksX0_count_3 21 rfl rfl)
theorem dX0_count_126 : decode cX0_count 126 = .ok (.aload_n 0, 1) := dk_42 (dk_at dksX0_count_3 22 rfl rfl)
theorem dX0_count_127 : decode cX0_count 127 = .ok (.getfield 16, 3) := dk_180 0 16 (dk_at dksX0_count_4 0 rfl rfl)
theorem dX0_count_130 : decode cX0_count 130 = .ok (.getfield 264, 3) := dk_180 1 8 (dk_at dksX0_count_4 3 rfl rfl)
theorem dX0_count_133 : decode cX0_count 133 = .ok (.ireturn, 1) := dk_172 (dk_at dksX0_count_4 6 rfl rfl)
theorem dX0_count_134 : decode cX0_count 134 = .ok (.aload_n 0, 1) := dk_42 (dk_at dksX0_count_4 7 rfl rfl)
theorem dX0_count_135 : decode cX0_count 135 = .ok (.getfield 16, 3) := dk_180 0 16 (dk_at dksX0_count_4 8 rfl rfl)
theorem dX0_count_138 : decode cX0_count 138 = .ok (.getfield 267, 3) := dk_180 1 11 (dk_at dksX0_count_4 11 rfl rfl)
theorem dX0_count_141 : decode cX0_count 141 = .ok (.ireturn, 1) := dk_172 (dk_at dksX0_count_4 14 rfl rfl)
theorem dX0_count_142 : decode cX0_count 142 = .ok (.aload_n 0, 1) := dk_42 (dk_at dksX0_count_4 15 rfl rfl)
theorem dX0_count_143 : decode cX0_count 143 = .ok (.getfield 16, 3) := dk_180 0 16 (dk_at dksX0_count_4 16 rfl rfl)
theorem dX0_count_146 : decode cX0_count 146 = .ok (.getfield 268, 3) := dk_180 1 12 (dk_at dksX0_count_4 19 rfl rfl)
theorem dX0_count_149 : decode cX0_count 149 = .ok (.ireturn, 1) := dk_172 (dk_at dksX0_count_4 22 rfl rfl)
theorem dX0_count_150 : decode cX0_count 150 = .ok (.aload_n 0, 1) := dk_42 (dk_at dksX0_count_4 23 rfl rfl)
theorem dX0_count_151 : decode cX0_count 151 = .ok (.getfield 16, 3) := dk_180 0 16 (dk_at dksX0_count_5 0 rfl rfl)
theorem dX0_count_154 : decode cX0_count 154 = .ok (.invokevirtual 271, 3) := dk_182 1 15 (dk_at dksX0_count_5 3 rfl rfl)
theorem dX0_count_157 : decode cX0_count 157 = .ok (.ifCond .eq 16, 3) := dk_153 0 16 (dk_at dksX0_count_5 6 rfl rfl)
theorem dX0_count_160 : decode cX0_count 160 = .ok (.aload_n 0, 1) := dk_42 (dk_at dksX0_count_5 9 rfl rfl)
theorem dX0_count_161 : decode cX0_count 161 = .ok (.getfield 16, 3) := dk_180 0 16 (dk_at dksX0_count_5 10 rfl rfl)
theorem dX0_count_164 : decode cX0_count 164 = .ok (.getfield 274, 3) := dk_180 1 18 (dk_at dksX0_count_5 13 rfl rfl)
theorem dX0_count_167 : decode cX0_count 167 = .ok (.invokevirtual 197, 3) := dk_182 0 197 (dk_at dksX0_count_5 16 rfl rfl)
theorem dX0_count_170 : decode cX0_count 170 = .ok (.goto 4, 3) := dk_167 0 4 (dk_at dksX0_count_5 19 rfl rfl)
theorem dX0_count_173 : decode cX0_count 173 = .ok (.iconst 0, 1) := dk_3 (dk_at dksX0_count_5 22 rfl rfl)
theorem dX0_count_174 : decode cX0_count 174 = .ok (.ireturn, 1) := dk_172 (dk_at dksX0_count_5 23 rfl rfl)
theorem dX0_count_175 : decode cX0_count 175 = .ok (.aload_n 0, 1) := dk_42 (dk_at dksX0_count_6 0 rfl rfl)
theorem dX0_count_176 : decode cX0_count 176 = .ok (.getfield 16, 3) := dk_180 0 16 (dk_at dksX0_count_6 1 rfl rfl)
theorem dX0_count_179 : decode cX0_count 179 = .ok (.getfield 278, 3) := dk_180 1 22 (dk_at dksX0_count_6 4 rfl rfl)
theorem dX0_count_182 : decode cX0_count 182 = .ok (.ireturn, 1) := dk_172 (dk_at dksX0_count_6 7 rfl rfl)
theorem dX0_count_183 : decode cX0_count 183 = .ok (.aload_n 0, 1) := dk_42 (dk_at dksX0_count_6 8 rfl rfl)
theorem dX0_count_184 : decode cX0_count 184 = .ok (.getfield 16, 3) := dk_180 0 16 (dk_at dksX0_count_6 9 rfl rfl)
theorem dX0_count_187 : decode cX0_count 187 = .ok (.getfield 281, 3) := dk_180 1 25 (dk_at dksX0_count_6 12 rfl rfl)
theorem dX0_count_190 : decode cX0_count 190 = .ok (.iload_n 1, 1) := dk_27 (dk_at dksX0_count_6 15 rfl rfl)
theorem dX0_count_191 : decode cX0_count 191 = .ok (.bipush 10, 2) := dk_16 10 (dk_at dksX0_count_6 16 rfl rfl)
theorem dX0_count_193 : decode cX0_count 193 = .ok (.isub, 1) := dk_100 (dk_at dksX0_count_6 18 rfl rfl)
theorem dX0_count_194 : decode cX0_count 194 = .ok (.iaload, 1) := dk_46 (dk_at dksX0_count_6 19 rfl rfl)
theorem dX0_count_195 : decode cX0_count 195 = .ok (.ireturn, 1) := dk_172 (dk_at dksX0_count_6 20 rfl rfl)
theorem dX0_count_196 : decode cX0_count 196 = .ok (.aload_n 0, 1) := dk_42 (dk_at dksX0_count_6 21 rfl rfl)
theorem dX0_count_197 : decode cX0_count 197 = .ok (.getfield 32, 3) := dk_180 0 32 (dk_at dksX0_count_7 0 rfl rfl)
theorem dX0_count_200 : decode cX0_count 200 = .ok (.invokevirtual 104, 3) := dk_182 0 104 (dk_at dksX0_count_7 3 rfl rfl)
theorem dX0_count_203 : decode cX0_count 203 = .ok (.ireturn, 1) := dk_172 (dk_at dksX0_count_7 6 rfl rfl)
theorem dX0_count_204 : decode cX0_count 204 = .ok (.aload_n 0, 1) := dk_42 (dk_at dksX0_count_7 7 rfl rfl)
theorem dX0_count_205 : decode cX0_count 205 = .ok (.getfield 25, 3) := dk_180 0 25 (dk_at dksX0_count_7 8 rfl rfl)
theorem dX0_count_208 : decode cX0_count 208 = .ok (.invokevirtual 36, 3) := dk_182 0 36 (dk_at dksX0_count_7 11 rfl rfl)
theorem dX0_count_211 : decode cX0_count 211 = .ok (.ireturn, 1) := dk_172 (dk_at dksX0_count_7 14 rfl rfl)
theorem dX0_count_212 : decode cX0_count 212 = .ok (.aload_n 0, 1) := dk_42 (dk_at dksX0_count_7 15 rfl rfl)
theorem dX0_count_213 : decode cX0_count 213 = .ok (.getfield 16, 3) := dk_180 0 16 (dk_at dksX0_count_7 16 rfl rfl)
theorem dX0_count_216 : decode cX0_count 216 = .ok (.getfield 285, 3) := dk_180 1 29 (dk_at dksX0_count_7 19 rfl rfl)
theorem dX0_count_219 : decode cX0_count 219 = .ok (.ireturn, 1) := dk_172 (dk_at dksX0_count_7 22 rfl rfl)
theorem dX0_count_220 : decode cX0_count 220 = .ok (.iconst (-1), 1) := dk_2 (dk_at dksX0_count_7 23 rfl rfl)
theorem dX0_count_221 : decode cX0_count 221 = .ok (.ireturn, 1) := dk_172 (dk_at dksX0_count_8 0 rfl rfl)
abbrev cX0_loudness : ByteArray := prog_1_method_34_code
def yX0_loudness : MethodName := ⟨RX0, "loudness", "()D"⟩
def dkwX0_loudness_1 : List UInt8 := [180, 0, 16, 180, 0, 181, 182, 0, 185, 182, 1, 32, 135, 42, 180, 0, 16, 182, 0, 217, 135, 111, 175]
abbrev dktX0_loudness_1 : List UInt8 := dkwX0_loudness_1 ++ []
def dkwX0_loudness_0 : List UInt8 := [42, 180, 0, 16, 180, 0, 181, 182, 0, 240, 153, 0, 7, 14, 167, 0, 30, 42, 180, 0, 16, 42]
abbrev dktX0_loudness_0 : List UInt8 := dkwX0_loudness_0 ++ dktX0_loudness_1
theorem dksX0_loudness_0 : cX0_loudness.data.toList.drop 0 = dktX0_loudness_0 := by decide +kernel
theorem dksX0_loudness_1 : cX0_loudness.data.toList.drop 22 = dktX0_loudness_1 := dk_seg dksX0_loudness_0 22 rfl rfl
theorem dX0_loudness_0 : decode cX0_loudness 0 = .ok (.aload_n 0, 1) := dk_42 (dk_at dksX0_loudness_0 0 rfl rfl)
theorem dX0_loudness_1 : decode cX0_loudness 1 = .ok (.getfield 16, 3) := dk_180 0 16 (dk_at dksX0_loudness_0 1 rfl rfl)
theorem dX0_loudness_4 : decode cX0_loudness 4 = .ok (.getfield 181, 3) := dk_180 0 181 (dk_at dksX0_loudness_0 4 rfl rfl)
theorem dX0_loudness_7 : decode cX0_loudness 7 = .ok (.invokevirtual 240, 3) := dk_182 0 240 (dk_at dksX0_loudness_0 7 rfl rfl)
theorem dX0_loudness_10 : decode cX0_loudness 10 = .ok (.ifCond .eq 7, 3) := dk_153 0 7 (dk_at dksX0_loudness_0 10 rfl rfl)
theorem dX0_loudness_13 : decode cX0_loudness 13 = .ok (.dconst 0, 1) := dk_14 (dk_at dksX0_loudness_0 13 rfl rfl)
theorem dX0_loudness_14 : decode cX0_loudness 14 = .ok (.goto 30, 3) := dk_167 0 30 (dk_at dksX0_loudness_0 14 rfl rfl)
theorem dX0_loudness_17 : decode cX0_loudness 17 = .ok (.aload_n 0, 1) := dk_42 (dk_at dksX0_loudness_0 17 rfl rfl)
theorem dX0_loudness_18 : decode cX0_loudness 18 = .ok (.getfield 16, 3) := dk_180 0 16 (dk_at dksX0_loudness_0 18 rfl rfl)
theorem dX0_loudness_21 : decode cX0_loudness 21 = .ok (.aload_n 0, 1) := dk_42 (dk_at dksX0_loudness_0 21 rfl rfl)
theorem dX0_loudness_22 : decode cX0_loudness 22 = .ok (.getfield 16, 3) := dk_180 0 16 (dk_at dksX0_loudness_1 0 rfl rfl)
theorem dX0_loudness_25 : decode cX0_loudness 25 = .ok (.getfield 181, 3) := dk_180 0 181 (dk_at dksX0_loudness_1 3 rfl rfl)
theorem dX0_loudness_28 : decode cX0_loudness 28 = .ok (.invokevirtual 185, 3) := dk_182 0 185 (dk_at dksX0_loudness_1 6 rfl rfl)
theorem dX0_loudness_31 : decode cX0_loudness 31 = .ok (.invokevirtual 288, 3) := dk_182 1 32 (dk_at dksX0_loudness_1 9 rfl rfl)
theorem dX0_loudness_34 : decode cX0_loudness 34 = .ok (.i2d, 1) := dk_135 (dk_at dksX0_loudness_1 12 rfl rfl)
theorem dX0_loudness_35 : decode cX0_loudness 35 = .ok (.aload_n 0, 1) := dk_42 (dk_at dksX0_loudness_1 13 rfl rfl)
theorem dX0_loudness_36 : decode cX0_loudness 36 = .ok (.getfield 16, 3) := dk_180 0 16 (dk_at dksX0_loudness_1 14 rfl rfl)
theorem dX0_loudness_39 : decode cX0_loudness 39 = .ok (.invokevirtual 217, 3) := dk_182 0 217 (dk_at dksX0_loudness_1 17 rfl rfl)
theorem dX0_loudness_42 : decode cX0_loudness 42 = .ok (.i2d, 1) := dk_135 (dk_at dksX0_loudness_1 20 rfl rfl)
theorem dX0_loudness_43 : decode cX0_loudness 43 = .ok (.ddiv, 1) := dk_111 (dk_at dksX0_loudness_1 21 rfl rfl)
theorem dX0_loudness_44 : decode cX0_loudness 44 = .ok (.dreturn, 1) := dk_175 (dk_at dksX0_loudness_1 22 rfl rfl)
abbrev cX0_barIn : ByteArray := prog_1_method_36_code
def yX0_barIn : MethodName := ⟨RX0, "barIn", "()I"⟩
def dkwX0_barIn_1 : List UInt8 := [180, 0, 16, 180, 1, 38, 27, 112, 100, 27, 112, 172]
abbrev dktX0_barIn_1 : List UInt8 := dkwX0_barIn_1 ++ []
def dkwX0_barIn_0 : List UInt8 := [42, 182, 1, 35, 154, 0, 6, 16, 254, 172, 5, 42, 180, 0, 16, 180, 1, 25, 3, 46, 104, 60, 27, 42]
abbrev dktX0_barIn_0 : List UInt8 := dkwX0_barIn_0 ++ dktX0_barIn_1
theorem dksX0_barIn_0 : cX0_barIn.data.toList.drop 0 = dktX0_barIn_0 := by decide +kernel
theorem dksX0_barIn_1 : cX0_barIn.data.toList.drop 24 = dktX0_barIn_1 := dk_seg dksX0_barIn_0 24 rfl rfl
theorem dX0_barIn_0 : decode cX0_barIn 0 = .ok (.aload_n 0, 1) := dk_42 (dk_at dksX0_barIn_0 0 rfl rfl)
theorem dX0_barIn_1 : decode cX0_barIn 1 = .ok (.invokevirtual 291, 3) := dk_182 1 35 (dk_at dksX0_barIn_0 1 rfl rfl)
theorem dX0_barIn_4 : decode cX0_barIn 4 = .ok (.ifCond .ne 6, 3) := dk_154 0 6 (dk_at dksX0_barIn_0 4 rfl rfl)
theorem dX0_barIn_7 : decode cX0_barIn 7 = .ok (.bipush (-2), 2) := dk_16 254 (dk_at dksX0_barIn_0 7 rfl rfl)
theorem dX0_barIn_9 : decode cX0_barIn 9 = .ok (.ireturn, 1) := dk_172 (dk_at dksX0_barIn_0 9 rfl rfl)
theorem dX0_barIn_10 : decode cX0_barIn 10 = .ok (.iconst 2, 1) := dk_5 (dk_at dksX0_barIn_0 10 rfl rfl)
theorem dX0_barIn_11 : decode cX0_barIn 11 = .ok (.aload_n 0, 1) := dk_42 (dk_at dksX0_barIn_0 11 rfl rfl)
theorem dX0_barIn_12 : decode cX0_barIn 12 = .ok (.getfield 16, 3) := dk_180 0 16 (dk_at dksX0_barIn_0 12 rfl rfl)
theorem dX0_barIn_15 : decode cX0_barIn 15 = .ok (.getfield 281, 3) := dk_180 1 25 (dk_at dksX0_barIn_0 15 rfl rfl)
theorem dX0_barIn_18 : decode cX0_barIn 18 = .ok (.iconst 0, 1) := dk_3 (dk_at dksX0_barIn_0 18 rfl rfl)
theorem dX0_barIn_19 : decode cX0_barIn 19 = .ok (.iaload, 1) := dk_46 (dk_at dksX0_barIn_0 19 rfl rfl)
theorem dX0_barIn_20 : decode cX0_barIn 20 = .ok (.imul, 1) := dk_104 (dk_at dksX0_barIn_0 20 rfl rfl)
theorem dX0_barIn_21 : decode cX0_barIn 21 = .ok (.istore_n 1, 1) := dk_60 (dk_at dksX0_barIn_0 21 rfl rfl)
theorem dX0_barIn_22 : decode cX0_barIn 22 = .ok (.iload_n 1, 1) := dk_27 (dk_at dksX0_barIn_0 22 rfl rfl)
theorem dX0_barIn_23 : decode cX0_barIn 23 = .ok (.aload_n 0, 1) := dk_42 (dk_at dksX0_barIn_0 23 rfl rfl)
theorem dX0_barIn_24 : decode cX0_barIn 24 = .ok (.getfield 16, 3) := dk_180 0 16 (dk_at dksX0_barIn_1 0 rfl rfl)
theorem dX0_barIn_27 : decode cX0_barIn 27 = .ok (.getfield 294, 3) := dk_180 1 38 (dk_at dksX0_barIn_1 3 rfl rfl)
theorem dX0_barIn_30 : decode cX0_barIn 30 = .ok (.iload_n 1, 1) := dk_27 (dk_at dksX0_barIn_1 6 rfl rfl)
theorem dX0_barIn_31 : decode cX0_barIn 31 = .ok (.irem, 1) := dk_112 (dk_at dksX0_barIn_1 7 rfl rfl)
theorem dX0_barIn_32 : decode cX0_barIn 32 = .ok (.isub, 1) := dk_100 (dk_at dksX0_barIn_1 8 rfl rfl)
theorem dX0_barIn_33 : decode cX0_barIn 33 = .ok (.iload_n 1, 1) := dk_27 (dk_at dksX0_barIn_1 9 rfl rfl)
theorem dX0_barIn_34 : decode cX0_barIn 34 = .ok (.irem, 1) := dk_112 (dk_at dksX0_barIn_1 10 rfl rfl)
theorem dX0_barIn_35 : decode cX0_barIn 35 = .ok (.ireturn, 1) := dk_172 (dk_at dksX0_barIn_1 11 rfl rfl)
abbrev cX0_doesPlay : ByteArray := prog_1_method_35_code
def yX0_doesPlay : MethodName := ⟨RX0, "doesPlay", "()Z"⟩
def dkwX0_doesPlay_1 : List UInt8 := [167, 0, 4, 3, 172]
abbrev dktX0_doesPlay_1 : List UInt8 := dkwX0_doesPlay_1 ++ []
def dkwX0_doesPlay_0 : List UInt8 := [42, 180, 0, 16, 180, 0, 255, 5, 159, 0, 14, 42, 180, 0, 16, 180, 0, 255, 6, 160, 0, 7, 4]
abbrev dktX0_doesPlay_0 : List UInt8 := dkwX0_doesPlay_0 ++ dktX0_doesPlay_1
theorem dksX0_doesPlay_0 : cX0_doesPlay.data.toList.drop 0 = dktX0_doesPlay_0 := by decide +kernel
theorem dksX0_doesPlay_1 : cX0_doesPlay.data.toList.drop 23 = dktX0_doesPlay_1 := dk_seg dksX0_doesPlay_0 23 rfl rfl
theorem dX0_doesPlay_0 : decode cX0_doesPlay 0 = .ok (.aload_n 0, 1) := dk_42 (dk_at dksX0_doesPlay_0 0 rfl rfl)
theorem dX0_doesPlay_1 : decode cX0_doesPlay 1 = .ok (.getfield 16, 3) := dk_180 0 16 (dk_at dksX0_doesPlay_0 1 rfl rfl)
theorem dX0_doesPlay_4 : decode cX0_doesPlay 4 = .ok (.getfield 255, 3) := dk_180 0 255 (dk_at dksX0_doesPlay_0 4 rfl rfl)
theorem dX0_doesPlay_7 : decode cX0_doesPlay 7 = .ok (.iconst 2, 1) := dk_5 (dk_at dksX0_doesPlay_0 7 rfl rfl)
theorem dX0_doesPlay_8 : decode cX0_doesPlay 8 = .ok (.if_icmp .eq 14, 3) := dk_159 0 14 (dk_at dksX0_doesPlay_0 8 rfl rfl)
theorem dX0_doesPlay_11 : decode cX0_doesPlay 11 = .ok (.aload_n 0, 1) := dk_42 (dk_at dksX0_doesPlay_0 11 rfl rfl)
theorem dX0_doesPlay_12 : decode cX0_doesPlay 12 = .ok (.getfield 16, 3) := dk_180 0 16 (dk_at dksX0_doesPlay_0 12 rfl rfl)
theorem dX0_doesPlay_15 : decode cX0_doesPlay 15 = .ok (.getfield 255, 3) := dk_180 0 255 (dk_at dksX0_doesPlay_0 15 rfl rfl)
theorem dX0_doesPlay_18 : decode cX0_doesPlay 18 = .ok (.iconst 3, 1) := dk_6 (dk_at dksX0_doesPlay_0 18 rfl rfl)
theorem dX0_doesPlay_19 : decode cX0_doesPlay 19 = .ok (.if_icmp .ne 7, 3) := dk_160 0 7 (dk_at dksX0_doesPlay_0 19 rfl rfl)
theorem dX0_doesPlay_22 : decode cX0_doesPlay 22 = .ok (.iconst 1, 1) := dk_4 (dk_at dksX0_doesPlay_0 22 rfl rfl)
theorem dX0_doesPlay_23 : decode cX0_doesPlay 23 = .ok (.goto 4, 3) := dk_167 0 4 (dk_at dksX0_doesPlay_1 0 rfl rfl)
theorem dX0_doesPlay_26 : decode cX0_doesPlay 26 = .ok (.iconst 0, 1) := dk_3 (dk_at dksX0_doesPlay_1 3 rfl rfl)
theorem dX0_doesPlay_27 : decode cX0_doesPlay 27 = .ok (.ireturn, 1) := dk_172 (dk_at dksX0_doesPlay_1 4 rfl rfl)
abbrev cX0_drift : ByteArray := prog_1_method_37_code
def yX0_drift : MethodName := ⟨RX0, "drift", "(I)I"⟩
def dkwX0_drift_3 : List UInt8 := [167, 0, 5, 16, 252, 172]
abbrev dktX0_drift_3 : List UInt8 := dkwX0_drift_3 ++ []
def dkwX0_drift_2 : List UInt8 := [182, 0, 217, 104, 28, 112, 100, 28, 112, 62, 29, 42, 180, 0, 16, 182, 0, 217, 162, 0, 7, 29]
abbrev dktX0_drift_2 : List UInt8 := dkwX0_drift_2 ++ dktX0_drift_3
def dkwX0_drift_1 : List UInt8 := [153, 0, 6, 16, 254, 172, 42, 180, 0, 16, 180, 1, 25, 3, 46, 61, 28, 27, 42, 180, 0, 16]
abbrev dktX0_drift_1 : List UInt8 := dkwX0_drift_1 ++ dktX0_drift_2
def dkwX0_drift_0 : List UInt8 := [27, 3, 16, 99, 184, 0, 100, 154, 0, 5, 2, 172, 42, 180, 0, 16, 180, 0, 181, 182, 0, 240]
abbrev dktX0_drift_0 : List UInt8 := dkwX0_drift_0 ++ dktX0_drift_1
theorem dksX0_drift_0 : cX0_drift.data.toList.drop 0 = dktX0_drift_0 := by decide +kernel
theorem dksX0_drift_1 : cX0_drift.data.toList.drop 22 = dktX0_drift_1 := dk_seg dksX0_drift_0 22 rfl rfl
theorem dksX0_drift_2 : cX0_drift.data.toList.drop 44 = dktX0_drift_2 := dk_seg dksX0_drift_1 22 rfl rfl
theorem dksX0_drift_3 : cX0_drift.data.toList.drop 66 = dktX0_drift_3 := dk_seg dksX0_drift_2 22 rfl rfl
theorem dX0_drift_0 : decode cX0_drift 0 = .ok (.iload_n 1, 1) := dk_27 (dk_at dksX0_drift_0 0 rfl rfl)
theorem dX0_drift_1 : decode cX0_drift 1 = .ok (.iconst 0, 1) := dk_3 (dk_at dksX0_drift_0 1 rfl rfl)
theorem dX0_drift_2 : decode cX0_drift 2 = .ok (.bipush 99, 2) := dk_16 99 (dk_at dksX0_drift_0 2 rfl rfl)
theorem dX0_drift_4 : decode cX0_drift 4 = .ok (.invokestatic 100, 3) := dk_184 0 100 (dk_at dksX0_drift_0 4 rfl rfl)
theorem dX0_drift_7 : decode cX0_drift 7 = .ok (.ifCond .ne 5, 3) := dk_154 0 5 (dk_at dksX0_drift_0 7 rfl rfl)
theorem dX0_drift_10 : decode cX0_drift 10 = .ok (.iconst (-1), 1) := dk_2 (dk_at dksX0_drift_0 10 rfl rfl)
theorem dX0_drift_11 : decode cX0_drift 11 = .ok (.ireturn, 1) := dk_172 (dk_at dksX0_drift_0 11 rfl rfl)
theorem dX0_drift_12 : decode cX0_drift 12 = .ok (.aload_n 0, 1) := dk_42 (dk_at dksX0_drift_0 12 rfl rfl)
theorem dX0_drift_13 : decode cX0_drift 13 = .ok (.getfield 16, 3) := dk_180 0 16 (dk_at dksX0_drift_0 13 rfl rfl)
theorem dX0_drift_16 : decode cX0_drift 16 = .ok (.getfield 181, 3) := dk_180 0 181 (dk_at dksX0_drift_0 16 rfl rfl)
theorem dX0_drift_19 : decode cX0_drift 19 = .ok (.invokevirtual 240, 3) := dk_182 0 240 (dk_at dksX0_drift_0 19 rfl rfl)
theorem dX0_drift_22 : decode cX0_drift 22 = .ok (.ifCond .eq 6, 3) := dk_153 0 6 (dk_at dksX0_drift_1 0 rfl rfl)
theorem dX0_drift_25 : decode cX0_drift 25 = .ok (.bipush (-2), 2) := dk_16 254 (dk_at dksX0_drift_1 3 rfl rfl)
theorem dX0_drift_27 : decode cX0_drift 27 = .ok (.ireturn, 1) := dk_172 (dk_at dksX0_drift_1 5 rfl rfl)
theorem dX0_drift_28 : decode cX0_drift 28 = .ok (.aload_n 0, 1) := dk_42 (dk_at dksX0_drift_1 6 rfl rfl)
theorem dX0_drift_29 : decode cX0_drift 29 = .ok (.getfield 16, 3) := dk_180 0 16 (dk_at dksX0_drift_1 7 rfl rfl)
theorem dX0_drift_32 : decode cX0_drift 32 = .ok (.getfield 281, 3) := dk_180 1 25 (dk_at dksX0_drift_1 10 rfl rfl)
theorem dX0_drift_35 : decode cX0_drift 35 = .ok (.iconst 0, 1) := dk_3 (dk_at dksX0_drift_1 13 rfl rfl)
theorem dX0_drift_36 : decode cX0_drift 36 = .ok (.iaload, 1) := dk_46 (dk_at dksX0_drift_1 14 rfl rfl)
theorem dX0_drift_37 : decode cX0_drift 37 = .ok (.istore_n 2, 1) := dk_61 (dk_at dksX0_drift_1 15 rfl rfl)
theorem dX0_drift_38 : decode cX0_drift 38 = .ok (.iload_n 2, 1) := dk_28 (dk_at dksX0_drift_1 16 rfl rfl)
theorem dX0_drift_39 : decode cX0_drift 39 = .ok (.iload_n 1, 1) := dk_27 (dk_at dksX0_drift_1 17 rfl rfl)
theorem dX0_drift_40 : decode cX0_drift 40 = .ok (.aload_n 0, 1) := dk_42 (dk_at dksX0_drift_1 18 rfl rfl)
theorem dX0_drift_41 : decode cX0_drift 41 = .ok (.getfield 16, 3) := dk_180 0 16 (dk_at dksX0_drift_1 19 rfl rfl)
theorem dX0_drift_44 : decode cX0_drift 44 = .ok (.invokevirtual 217, 3) := dk_182 0 217 (dk_at dksX0_drift_2 0 rfl rfl)
theorem dX0_drift_47 : decode cX0_drift 47 = .ok (.imul, 1) := dk_104 (dk_at dksX0_drift_2 3 rfl rfl)
theorem dX0_drift_48 : decode cX0_drift 48 = .ok (.iload_n 2, 1) := dk_28 (dk_at dksX0_drift_2 4 rfl rfl)
theorem dX0_drift_49 : decode cX0_drift 49 = .ok (.irem, 1) := dk_112 (dk_at dksX0_drift_2 5 rfl rfl)
theorem dX0_drift_50 : decode cX0_drift 50 = .ok (.isub, 1) := dk_100 (dk_at dksX0_drift_2 6 rfl rfl)
theorem dX0_drift_51 : decode cX0_drift 51 = .ok (.iload_n 2, 1) := dk_28 (dk_at dksX0_drift_2 7 rfl rfl)
theorem dX0_drift_52 : decode cX0_drift 52 = .ok (.irem, 1) := dk_112 (dk_at dksX0_drift_2 8 rfl rfl)
theorem dX0_drift_53 : decode cX0_drift 53 = .ok (.istore_n 3, 1) := dk_62 (dk_at dksX0_drift_2 9 rfl rfl)
theorem dX0_drift_54 : decode cX0_drift 54 = .ok (.iload_n 3, 1) := dk_29 (dk_at dksX0_drift_2 10 rfl rfl)
theorem dX0_drift_55 : decode cX0_drift 55 = .ok (.aload_n 0, 1) := dk_42 (dk_at dksX0_drift_2 11 rfl rfl)
theorem dX0_drift_56 : decode cX0_drift 56 = .ok (.getfield 16, 3) := dk_180 0 16 (dk_at dksX0_drift_2 12 rfl rfl)
theorem dX0_drift_59 : decode cX0_drift 59 = .ok (.invokevirtual 217, 3) := dk_182 0 217 (dk_at dksX0_drift_2 15 rfl rfl)
theorem dX0_drift_62 : decode cX0_drift 62 = .ok (.if_icmp .ge 7, 3) := dk_162 0 7 (dk_at dksX0_drift_2 18 rfl rfl)
theorem dX0_drift_65 : decode cX0_drift 65 = .ok (.iload_n 3, 1) := dk_29 (dk_at dksX0_drift_2 21 rfl rfl)
theorem dX0_drift_66 : decode cX0_drift 66 = .ok (.goto 5, 3) := dk_167 0 5 (dk_at dksX0_drift_3 0 rfl rfl)
theorem dX0_drift_69 : decode cX0_drift 69 = .ok (.bipush (-4), 2) := dk_16 252 (dk_at dksX0_drift_3 3 rfl rfl)
theorem dX0_drift_71 : decode cX0_drift 71 = .ok (.ireturn, 1) := dk_172 (dk_at dksX0_drift_3 5 rfl rfl)
abbrev cX0_meets : ByteArray := prog_1_method_38_code
def yX0_meets : MethodName := ⟨RX0, "meets", "()I"⟩
def dkwX0_meets_2 : List UInt8 := [172]
abbrev dktX0_meets_2 : List UInt8 := dkwX0_meets_2 ++ []
def dkwX0_meets_1 : List UInt8 := [182, 0, 217, 104, 42, 180, 0, 16, 180, 1, 25, 3, 46, 112, 153, 0, 9, 132, 1, 1, 167, 255, 231, 27]
abbrev dktX0_meets_1 : List UInt8 := dkwX0_meets_1 ++ dktX0_meets_2
def dkwX0_meets_0 : List UInt8 := [42, 180, 0, 16, 180, 0, 181, 182, 0, 240, 153, 0, 6, 16, 254, 172, 4, 60, 27, 42, 180, 0, 16]
abbrev dktX0_meets_0 : List UInt8 := dkwX0_meets_0 ++ dktX0_meets_1
theorem dksX0_meets_0 : cX0_meets.data.toList.drop 0 = dktX0_meets_0 := by decide +kernel
theorem dksX0_meets_1 : cX0_meets.data.toList.drop 23 = dktX0_meets_1 := dk_seg dksX0_meets_0 23 rfl rfl
theorem dksX0_meets_2 : cX0_meets.data.toList.drop 47 = dktX0_meets_2 := dk_seg dksX0_meets_1 24 rfl rfl
theorem dX0_meets_0 : decode cX0_meets 0 = .ok (.aload_n 0, 1) := dk_42 (dk_at dksX0_meets_0 0 rfl rfl)
theorem dX0_meets_1 : decode cX0_meets 1 = .ok (.getfield 16, 3) := dk_180 0 16 (dk_at dksX0_meets_0 1 rfl rfl)
theorem dX0_meets_4 : decode cX0_meets 4 = .ok (.getfield 181, 3) := dk_180 0 181 (dk_at dksX0_meets_0 4 rfl rfl)
theorem dX0_meets_7 : decode cX0_meets 7 = .ok (.invokevirtual 240, 3) := dk_182 0 240 (dk_at dksX0_meets_0 7 rfl rfl)
theorem dX0_meets_10 : decode cX0_meets 10 = .ok (.ifCond .eq 6, 3) := dk_153 0 6 (dk_at dksX0_meets_0 10 rfl rfl)
theorem dX0_meets_13 : decode cX0_meets 13 = .ok (.bipush (-2), 2) := dk_16 254 (dk_at dksX0_meets_0 13 rfl rfl)
theorem dX0_meets_15 : decode cX0_meets 15 = .ok (.ireturn, 1) := dk_172 (dk_at dksX0_meets_0 15 rfl rfl)
theorem dX0_meets_16 : decode cX0_meets 16 = .ok (.iconst 1, 1) := dk_4 (dk_at dksX0_meets_0 16 rfl rfl)
theorem dX0_meets_17 : decode cX0_meets 17 = .ok (.istore_n 1, 1) := dk_60 (dk_at dksX0_meets_0 17 rfl rfl)
theorem dX0_meets_18 : decode cX0_meets 18 = .ok (.iload_n 1, 1) := dk_27 (dk_at dksX0_meets_0 18 rfl rfl)
theorem dX0_meets_19 : decode cX0_meets 19 = .ok (.aload_n 0, 1) := dk_42 (dk_at dksX0_meets_0 19 rfl rfl)
theorem dX0_meets_20 : decode cX0_meets 20 = .ok (.getfield 16, 3) := dk_180 0 16 (dk_at dksX0_meets_0 20 rfl rfl)
theorem dX0_meets_23 : decode cX0_meets 23 = .ok (.invokevirtual 217, 3) := dk_182 0 217 (dk_at dksX0_meets_1 0 rfl rfl)
theorem dX0_meets_26 : decode cX0_meets 26 = .ok (.imul, 1) := dk_104 (dk_at dksX0_meets_1 3 rfl rfl)
theorem dX0_meets_27 : decode cX0_meets 27 = .ok (.aload_n 0, 1) := dk_42 (dk_at dksX0_meets_1 4 rfl rfl)
theorem dX0_meets_28 : decode cX0_meets 28 = .ok (.getfield 16, 3) := dk_180 0 16 (dk_at dksX0_meets_1 5 rfl rfl)
theorem dX0_meets_31 : decode cX0_meets 31 = .ok (.getfield 281, 3) := dk_180 1 25 (dk_at dksX0_meets_1 8 rfl rfl)
theorem dX0_meets_34 : decode cX0_meets 34 = .ok (.iconst 0, 1) := dk_3 (dk_at dksX0_meets_1 11 rfl rfl)
theorem dX0_meets_35 : decode cX0_meets 35 = .ok (.iaload, 1) := dk_46 (dk_at dksX0_meets_1 12 rfl rfl)
theorem dX0_meets_36 : decode cX0_meets 36 = .ok (.irem, 1) := dk_112 (dk_at dksX0_meets_1 13 rfl rfl)
theorem dX0_meets_37 : decode cX0_meets 37 = .ok (.ifCond .eq 9, 3) := dk_153 0 9 (dk_at dksX0_meets_1 14 rfl rfl)
theorem dX0_meets_40 : decode cX0_meets 40 = .ok (.iinc 1 1, 3) := dk_132 1 1 (dk_at dksX0_meets_1 17 rfl rfl)
theorem dX0_meets_43 : decode cX0_meets 43 = .ok (.goto (-25), 3) := dk_167 255 231 (dk_at dksX0_meets_1 20 rfl rfl)
theorem dX0_meets_46 : decode cX0_meets 46 = .ok (.iload_n 1, 1) := dk_27 (dk_at dksX0_meets_1 23 rfl rfl)
theorem dX0_meets_47 : decode cX0_meets 47 = .ok (.ireturn, 1) := dk_172 (dk_at dksX0_meets_2 0 rfl rfl)
abbrev cX0_rounded : ByteArray := prog_1_method_39_code
def yX0_rounded : MethodName := ⟨RX0, "rounded", "(I)I"⟩
def dkwX0_rounded_0 : List UInt8 := [27, 4, 16, 24, 184, 0, 100, 153, 0, 14, 42, 180, 0, 16, 27, 182, 1, 41, 167, 0, 4, 2, 172]
abbrev dktX0_rounded_0 : List UInt8 := dkwX0_rounded_0 ++ []
theorem dksX0_rounded_0 : cX0_rounded.data.toList.drop 0 = dktX0_rounded_0 := by decide +kernel
theorem dX0_rounded_0 : decode cX0_rounded 0 = .ok (.iload_n 1, 1) := dk_27 (dk_at dksX0_rounded_0 0 rfl rfl)
theorem dX0_rounded_1 : decode cX0_rounded 1 = .ok (.iconst 1, 1) := dk_4 (dk_at dksX0_rounded_0 1 rfl rfl)
theorem dX0_rounded_2 : decode cX0_rounded 2 = .ok (.bipush 24, 2) := dk_16 24 (dk_at dksX0_rounded_0 2 rfl rfl)
theorem dX0_rounded_4 : decode cX0_rounded 4 = .ok (.invokestatic 100, 3) := dk_184 0 100 (dk_at dksX0_rounded_0 4 rfl rfl)
theorem dX0_rounded_7 : decode cX0_rounded 7 = .ok (.ifCond .eq 14, 3) := dk_153 0 14 (dk_at dksX0_rounded_0 7 rfl rfl)
theorem dX0_rounded_10 : decode cX0_rounded 10 = .ok (.aload_n 0, 1) := dk_42 (dk_at dksX0_rounded_0 10 rfl rfl)
theorem dX0_rounded_11 : decode cX0_rounded 11 = .ok (.getfield 16, 3) := dk_180 0 16 (dk_at dksX0_rounded_0 11 rfl rfl)
theorem dX0_rounded_14 : decode cX0_rounded 14 = .ok (.iload_n 1, 1) := dk_27 (dk_at dksX0_rounded_0 14 rfl rfl)
theorem dX0_rounded_15 : decode cX0_rounded 15 = .ok (.invokevirtual 297, 3) := dk_182 1 41 (dk_at dksX0_rounded_0 15 rfl rfl)
theorem dX0_rounded_18 : decode cX0_rounded 18 = .ok (.goto 4, 3) := dk_167 0 4 (dk_at dksX0_rounded_0 18 rfl rfl)
theorem dX0_rounded_21 : decode cX0_rounded 21 = .ok (.iconst (-1), 1) := dk_2 (dk_at dksX0_rounded_0 21 rfl rfl)
theorem dX0_rounded_22 : decode cX0_rounded 22 = .ok (.ireturn, 1) := dk_172 (dk_at dksX0_rounded_0 22 rfl rfl)
abbrev cX0_silentIn : ByteArray := prog_1_method_40_code
def yX0_silentIn : MethodName := ⟨RX0, "silentIn", "()I"⟩
def dkwX0_silentIn_2 : List UInt8 := [182, 1, 47, 132, 2, 1, 167, 255, 230, 28, 172]
abbrev dktX0_silentIn_2 : List UInt8 := dkwX0_silentIn_2 ++ []
def dkwX0_silentIn_1 : List UInt8 := [3, 61, 43, 182, 1, 44, 154, 0, 25, 43, 180, 1, 25, 5, 46, 154, 0, 6, 16, 252, 172, 43]
abbrev dktX0_silentIn_1 : List UInt8 := dkwX0_silentIn_1 ++ dktX0_silentIn_2
def dkwX0_silentIn_0 : List UInt8 := [42, 180, 0, 16, 180, 0, 181, 182, 0, 240, 153, 0, 6, 16, 254, 172, 42, 180, 0, 16, 182, 0, 48, 76]
abbrev dktX0_silentIn_0 : List UInt8 := dkwX0_silentIn_0 ++ dktX0_silentIn_1
theorem dksX0_silentIn_0 : cX0_silentIn.data.toList.drop 0 = dktX0_silentIn_0 := by decide +kernel
theorem dksX0_silentIn_1 : cX0_silentIn.data.toList.drop 24 = dktX0_silentIn_1 := dk_seg dksX0_silentIn_0 24 rfl rfl
theorem dksX0_silentIn_2 : cX0_silentIn.data.toList.drop 46 = dktX0_silentIn_2 := dk_seg dksX0_silentIn_1 22 rfl rfl
theorem dX0_silentIn_0 : decode cX0_silentIn 0 = .ok (.aload_n 0, 1) := dk_42 (dk_at dksX0_silentIn_0 0 rfl rfl)
theorem dX0_silentIn_1 : decode cX0_silentIn 1 = .ok (.getfield 16, 3) := dk_180 0 16 (dk_at dksX0_silentIn_0 1 rfl rfl)
theorem dX0_silentIn_4 : decode cX0_silentIn 4 = .ok (.getfield 181, 3) := dk_180 0 181 (dk_at dksX0_silentIn_0 4 rfl rfl)
theorem dX0_silentIn_7 : decode cX0_silentIn 7 = .ok (.invokevirtual 240, 3) := dk_182 0 240 (dk_at dksX0_silentIn_0 7 rfl rfl)
theorem dX0_silentIn_10 : decode cX0_silentIn 10 = .ok (.ifCond .eq 6, 3) := dk_153 0 6 (dk_at dksX0_silentIn_0 10 rfl rfl)
theorem dX0_silentIn_13 : decode cX0_silentIn 13 = .ok (.bipush (-2), 2) := dk_16 254 (dk_at dksX0_silentIn_0 13 rfl rfl)
theorem dX0_silentIn_15 : decode cX0_silentIn 15 = .ok (.ireturn, 1) := dk_172 (dk_at dksX0_silentIn_0 15 rfl rfl)
theorem dX0_silentIn_16 : decode cX0_silentIn 16 = .ok (.aload_n 0, 1) := dk_42 (dk_at dksX0_silentIn_0 16 rfl rfl)
theorem dX0_silentIn_17 : decode cX0_silentIn 17 = .ok (.getfield 16, 3) := dk_180 0 16 (dk_at dksX0_silentIn_0 17 rfl rfl)
theorem dX0_silentIn_20 : decode cX0_silentIn 20 = .ok (.invokevirtual 48, 3) := dk_182 0 48 (dk_at dksX0_silentIn_0 20 rfl rfl)
theorem dX0_silentIn_23 : decode cX0_silentIn 23 = .ok (.astore_n 1, 1) := dk_76 (dk_at dksX0_silentIn_0 23 rfl rfl)
theorem dX0_silentIn_24 : decode cX0_silentIn 24 = .ok (.iconst 0, 1) := dk_3 (dk_at dksX0_silentIn_1 0 rfl rfl)
theorem dX0_silentIn_25 : decode cX0_silentIn 25 = .ok (.istore_n 2, 1) := dk_61 (dk_at dksX0_silentIn_1 1 rfl rfl)
theorem dX0_silentIn_26 : decode cX0_silentIn 26 = .ok (.aload_n 1, 1) := dk_43 (dk_at dksX0_silentIn_1 2 rfl rfl)
theorem dX0_silentIn_27 : decode cX0_silentIn 27 = .ok (.invokevirtual 300, 3) := dk_182 1 44 (dk_at dksX0_silentIn_1 3 rfl rfl)
theorem dX0_silentIn_30 : decode cX0_silentIn 30 = .ok (.ifCond .ne 25, 3) := dk_154 0 25 (dk_at dksX0_silentIn_1 6 rfl rfl)
theorem dX0_silentIn_33 : decode cX0_silentIn 33 = .ok (.aload_n 1, 1) := dk_43 (dk_at dksX0_silentIn_1 9 rfl rfl)
theorem dX0_silentIn_34 : decode cX0_silentIn 34 = .ok (.getfield 281, 3) := dk_180 1 25 (dk_at dksX0_silentIn_1 10 rfl rfl)
theorem dX0_silentIn_37 : decode cX0_silentIn 37 = .ok (.iconst 2, 1) := dk_5 (dk_at dksX0_silentIn_1 13 rfl rfl)
theorem dX0_silentIn_38 : decode cX0_silentIn 38 = .ok (.iaload, 1) := dk_46 (dk_at dksX0_silentIn_1 14 rfl rfl)
theorem dX0_silentIn_39 : decode cX0_silentIn 39 = .ok (.ifCond .ne 6, 3) := dk_154 0 6 (dk_at dksX0_silentIn_1 15 rfl rfl)
theorem dX0_silentIn_42 : decode cX0_silentIn 42 = .ok (.bipush (-4), 2) := dk_16 252 (dk_at dksX0_silentIn_1 18 rfl rfl)
theorem dX0_silentIn_44 : decode cX0_silentIn 44 = .ok (.ireturn, 1) := dk_172 (dk_at dksX0_silentIn_1 20 rfl rfl)
theorem dX0_silentIn_45 : decode cX0_silentIn 45 = .ok (.aload_n 1, 1) := dk_43 (dk_at dksX0_silentIn_1 21 rfl rfl)
theorem dX0_silentIn_46 : decode cX0_silentIn 46 = .ok (.invokevirtual 303, 3) := dk_182 1 47 (dk_at dksX0_silentIn_2 0 rfl rfl)
theorem dX0_silentIn_49 : decode cX0_silentIn 49 = .ok (.iinc 2 1, 3) := dk_132 2 1 (dk_at dksX0_silentIn_2 3 rfl rfl)
theorem dX0_silentIn_52 : decode cX0_silentIn 52 = .ok (.goto (-26), 3) := dk_167 255 230 (dk_at dksX0_silentIn_2 6 rfl rfl)
theorem dX0_silentIn_55 : decode cX0_silentIn 55 = .ok (.iload_n 2, 1) := dk_28 (dk_at dksX0_silentIn_2 9 rfl rfl)
theorem dX0_silentIn_56 : decode cX0_silentIn 56 = .ok (.ireturn, 1) := dk_172 (dk_at dksX0_silentIn_2 10 rfl rfl)
abbrev cX0_ifPeeled : ByteArray := prog_1_method_41_code
def yX0_ifPeeled : MethodName := ⟨RX0, "ifPeeled", "(II)I"⟩
def dkwX0_ifPeeled_2 : List UInt8 := [160, 0, 14, 42, 180, 0, 16, 27, 182, 1, 32, 167, 0, 11, 42, 180, 0, 16, 27, 182, 1, 53, 172]
abbrev dktX0_ifPeeled_2 : List UInt8 := dkwX0_ifPeeled_2 ++ []
def dkwX0_ifPeeled_1 : List UInt8 := [154, 0, 5, 2, 172, 28, 154, 0, 14, 42, 180, 0, 16, 27, 182, 1, 50, 167, 0, 27, 28, 4]
abbrev dktX0_ifPeeled_1 : List UInt8 := dkwX0_ifPeeled_1 ++ dktX0_ifPeeled_2
def dkwX0_ifPeeled_0 : List UInt8 := [27, 4, 42, 180, 0, 16, 180, 0, 181, 182, 0, 185, 184, 0, 100, 153, 0, 12, 28, 3, 5, 184, 0, 100]
abbrev dktX0_ifPeeled_0 : List UInt8 := dkwX0_ifPeeled_0 ++ dktX0_ifPeeled_1
theorem dksX0_ifPeeled_0 : cX0_ifPeeled.data.toList.drop 0 = dktX0_ifPeeled_0 := by decide +kernel
theorem dksX0_ifPeeled_1 : cX0_ifPeeled.data.toList.drop 24 = dktX0_ifPeeled_1 := dk_seg dksX0_ifPeeled_0 24 rfl rfl
theorem dksX0_ifPeeled_2 : cX0_ifPeeled.data.toList.drop 46 = dktX0_ifPeeled_2 := dk_seg dksX0_ifPeeled_1 22 rfl rfl
theorem dX0_ifPeeled_0 : decode cX0_ifPeeled 0 = .ok (.iload_n 1, 1) := dk_27 (dk_at dksX0_ifPeeled_0 0 rfl rfl)
theorem dX0_ifPeeled_1 : decode cX0_ifPeeled 1 = .ok (.iconst 1, 1) := dk_4 (dk_at dksX0_ifPeeled_0 1 rfl rfl)
theorem dX0_ifPeeled_2 : decode cX0_ifPeeled 2 = .ok (.aload_n 0, 1) := dk_42 (dk_at dksX0_ifPeeled_0 2 rfl rfl)
theorem dX0_ifPeeled_3 : decode cX0_ifPeeled 3 = .ok (.getfield 16, 3) := dk_180 0 16 (dk_at dksX0_ifPeeled_0 3 rfl rfl)
theorem dX0_ifPeeled_6 : decode cX0_ifPeeled 6 = .ok (.getfield 181, 3) := dk_180 0 181 (dk_at dksX0_ifPeeled_0 6 rfl rfl)
theorem dX0_ifPeeled_9 : decode cX0_ifPeeled 9 = .ok (.invokevirtual 185, 3) := dk_182 0 185 (dk_at dksX0_ifPeeled_0 9 rfl rfl)
theorem dX0_ifPeeled_12 : decode cX0_ifPeeled 12 = .ok (.invokestatic 100, 3) := dk_184 0 100 (dk_at dksX0_ifPeeled_0 12 rfl rfl)
theorem dX0_ifPeeled_15 : decode cX0_ifPeeled 15 = .ok (.ifCond .eq 12, 3) := dk_153 0 12 (dk_at dksX0_ifPeeled_0 15 rfl rfl)
theorem dX0_ifPeeled_18 : decode cX0_ifPeeled 18 = .ok (.iload_n 2, 1) := dk_28 (dk_at dksX0_ifPeeled_0 18 rfl rfl)
theorem dX0_ifPeeled_19 : decode cX0_ifPeeled 19 = .ok (.iconst 0, 1) := dk_3 (dk_at dksX0_ifPeeled_0 19 rfl rfl)
theorem dX0_ifPeeled_20 : decode cX0_ifPeeled 20 = .ok (.iconst 2, 1) := dk_5 (dk_at dksX0_ifPeeled_0 20 rfl rfl)
theorem dX0_ifPeeled_21 : decode cX0_ifPeeled 21 = .ok (.invokestatic 100, 3) := dk_184 0 100 (dk_at dksX0_ifPeeled_0 21 rfl rfl)
theorem dX0_ifPeeled_24 : decode cX0_ifPeeled 24 = .ok (.ifCond .ne 5, 3) := dk_154 0 5 (dk_at dksX0_ifPeeled_1 0 rfl rfl)
theorem dX0_ifPeeled_27 : decode cX0_ifPeeled 27 = .ok (.iconst (-1), 1) := dk_2 (dk_at dksX0_ifPeeled_1 3 rfl rfl)
theorem dX0_ifPeeled_28 : decode cX0_ifPeeled 28 = .ok (.ireturn, 1) := dk_172 (dk_at dksX0_ifPeeled_1 4 rfl rfl)
theorem dX0_ifPeeled_29 : decode cX0_ifPeeled 29 = .ok (.iload_n 2, 1) := dk_28 (dk_at dksX0_ifPeeled_1 5 rfl rfl)
theorem dX0_ifPeeled_30 : decode cX0_ifPeeled 30 = .ok (.ifCond .ne 14, 3) := dk_154 0 14 (dk_at dksX0_ifPeeled_1 6 rfl rfl)
theorem dX0_ifPeeled_33 : decode cX0_ifPeeled 33 = .ok (.aload_n 0, 1) := dk_42 (dk_at dksX0_ifPeeled_1 9 rfl rfl)
theorem dX0_ifPeeled_34 : decode cX0_ifPeeled 34 = .ok (.getfield 16, 3) := dk_180 0 16 (dk_at dksX0_ifPeeled_1 10 rfl rfl)
theorem dX0_ifPeeled_37 : decode cX0_ifPeeled 37 = .ok (.iload_n 1, 1) := dk_27 (dk_at dksX0_ifPeeled_1 13 rfl rfl)
theorem dX0_ifPeeled_38 : decode cX0_ifPeeled 38 = .ok (.invokevirtual 306, 3) := dk_182 1 50 (dk_at dksX0_ifPeeled_1 14 rfl rfl)
theorem dX0_ifPeeled_41 : decode cX0_ifPeeled 41 = .ok (.goto 27, 3) := dk_167 0 27 (dk_at dksX0_ifPeeled_1 17 rfl rfl)
theorem dX0_ifPeeled_44 : decode cX0_ifPeeled 44 = .ok (.iload_n 2, 1) := dk_28 (dk_at dksX0_ifPeeled_1 20 rfl rfl)
theorem dX0_ifPeeled_45 : decode cX0_ifPeeled 45 = .ok (.iconst 1, 1) := dk_4 (dk_at dksX0_ifPeeled_1 21 rfl rfl)
theorem dX0_ifPeeled_46 : decode cX0_ifPeeled 46 = .ok (.if_icmp .ne 14, 3) := dk_160 0 14 (dk_at dksX0_ifPeeled_2 0 rfl rfl)
theorem dX0_ifPeeled_49 : decode cX0_ifPeeled 49 = .ok (.aload_n 0, 1) := dk_42 (dk_at dksX0_ifPeeled_2 3 rfl rfl)
theorem dX0_ifPeeled_50 : decode cX0_ifPeeled 50 = .ok (.getfield 16, 3) := dk_180 0 16 (dk_at dksX0_ifPeeled_2 4 rfl rfl)
theorem dX0_ifPeeled_53 : decode cX0_ifPeeled 53 = .ok (.iload_n 1, 1) := dk_27 (dk_at dksX0_ifPeeled_2 7 rfl rfl)
theorem dX0_ifPeeled_54 : decode cX0_ifPeeled 54 = .ok (.invokevirtual 288, 3) := dk_182 1 32 (dk_at dksX0_ifPeeled_2 8 rfl rfl)
theorem dX0_ifPeeled_57 : decode cX0_ifPeeled 57 = .ok (.goto 11, 3) := dk_167 0 11 (dk_at dksX0_ifPeeled_2 11 rfl rfl)
theorem dX0_ifPeeled_60 : decode cX0_ifPeeled 60 = .ok (.aload_n 0, 1) := dk_42 (dk_at dksX0_ifPeeled_2 14 rfl rfl)
theorem dX0_ifPeeled_61 : decode cX0_ifPeeled 61 = .ok (.getfield 16, 3) := dk_180 0 16 (dk_at dksX0_ifPeeled_2 15 rfl rfl)
theorem dX0_ifPeeled_64 : decode cX0_ifPeeled 64 = .ok (.iload_n 1, 1) := dk_27 (dk_at dksX0_ifPeeled_2 18 rfl rfl)
theorem dX0_ifPeeled_65 : decode cX0_ifPeeled 65 = .ok (.invokevirtual 309, 3) := dk_182 1 53 (dk_at dksX0_ifPeeled_2 19 rfl rfl)
theorem dX0_ifPeeled_68 : decode cX0_ifPeeled 68 = .ok (.ireturn, 1) := dk_172 (dk_at dksX0_ifPeeled_2 22 rfl rfl)
abbrev cX0_undo : ByteArray := prog_1_method_42_code
def yX0_undo : MethodName := ⟨RX0, "undo", "()I"⟩
def dkwX0_undo_1 : List UInt8 := [181, 0, 16, 42, 180, 0, 25, 182, 0, 36, 172]
abbrev dktX0_undo_1 : List UInt8 := dkwX0_undo_1 ++ []
def dkwX0_undo_0 : List UInt8 := [42, 180, 0, 25, 182, 1, 56, 153, 0, 6, 16, 254, 172, 42, 42, 180, 0, 25, 182, 1, 57, 192, 0, 13]
abbrev dktX0_undo_0 : List UInt8 := dkwX0_undo_0 ++ dktX0_undo_1
theorem dksX0_undo_0 : cX0_undo.data.toList.drop 0 = dktX0_undo_0 := by decide +kernel
theorem dksX0_undo_1 : cX0_undo.data.toList.drop 24 = dktX0_undo_1 := dk_seg dksX0_undo_0 24 rfl rfl
theorem dX0_undo_0 : decode cX0_undo 0 = .ok (.aload_n 0, 1) := dk_42 (dk_at dksX0_undo_0 0 rfl rfl)
theorem dX0_undo_1 : decode cX0_undo 1 = .ok (.getfield 25, 3) := dk_180 0 25 (dk_at dksX0_undo_0 1 rfl rfl)
theorem dX0_undo_4 : decode cX0_undo 4 = .ok (.invokevirtual 312, 3) := dk_182 1 56 (dk_at dksX0_undo_0 4 rfl rfl)
theorem dX0_undo_7 : decode cX0_undo 7 = .ok (.ifCond .eq 6, 3) := dk_153 0 6 (dk_at dksX0_undo_0 7 rfl rfl)
theorem dX0_undo_10 : decode cX0_undo 10 = .ok (.bipush (-2), 2) := dk_16 254 (dk_at dksX0_undo_0 10 rfl rfl)
theorem dX0_undo_12 : decode cX0_undo 12 = .ok (.ireturn, 1) := dk_172 (dk_at dksX0_undo_0 12 rfl rfl)
theorem dX0_undo_13 : decode cX0_undo 13 = .ok (.aload_n 0, 1) := dk_42 (dk_at dksX0_undo_0 13 rfl rfl)
theorem dX0_undo_14 : decode cX0_undo 14 = .ok (.aload_n 0, 1) := dk_42 (dk_at dksX0_undo_0 14 rfl rfl)
theorem dX0_undo_15 : decode cX0_undo 15 = .ok (.getfield 25, 3) := dk_180 0 25 (dk_at dksX0_undo_0 15 rfl rfl)
theorem dX0_undo_18 : decode cX0_undo 18 = .ok (.invokevirtual 313, 3) := dk_182 1 57 (dk_at dksX0_undo_0 18 rfl rfl)
theorem dX0_undo_21 : decode cX0_undo 21 = .ok (.checkcast 13, 3) := dk_192 0 13 (dk_at dksX0_undo_0 21 rfl rfl)
theorem dX0_undo_24 : decode cX0_undo 24 = .ok (.putfield 16, 3) := dk_181 0 16 (dk_at dksX0_undo_1 0 rfl rfl)
theorem dX0_undo_27 : decode cX0_undo 27 = .ok (.aload_n 0, 1) := dk_42 (dk_at dksX0_undo_1 3 rfl rfl)
theorem dX0_undo_28 : decode cX0_undo 28 = .ok (.getfield 25, 3) := dk_180 0 25 (dk_at dksX0_undo_1 4 rfl rfl)
theorem dX0_undo_31 : decode cX0_undo 31 = .ok (.invokevirtual 36, 3) := dk_182 0 36 (dk_at dksX0_undo_1 7 rfl rfl)
theorem dX0_undo_34 : decode cX0_undo 34 = .ok (.ireturn, 1) := dk_172 (dk_at dksX0_undo_1 10 rfl rfl)
abbrev cX0_save : ByteArray := prog_1_method_43_code
def yX0_save : MethodName := ⟨RX0, "save", "()I"⟩
def dkwX0_save_0 : List UInt8 := [42, 42, 180, 0, 16, 182, 0, 48, 181, 1, 60, 42, 180, 0, 16, 180, 0, 255, 172]
abbrev dktX0_save_0 : List UInt8 := dkwX0_save_0 ++ []
theorem dksX0_save_0 : cX0_save.data.toList.drop 0 = dktX0_save_0 := by decide +kernel
theorem dX0_save_0 : decode cX0_save 0 = .ok (.aload_n 0, 1) := dk_42 (dk_at dksX0_save_0 0 rfl rfl)
theorem dX0_save_1 : decode cX0_save 1 = .ok (.aload_n 0, 1) := dk_42 (dk_at dksX0_save_0 1 rfl rfl)
theorem dX0_save_2 : decode cX0_save 2 = .ok (.getfield 16, 3) := dk_180 0 16 (dk_at dksX0_save_0 2 rfl rfl)
theorem dX0_save_5 : decode cX0_save 5 = .ok (.invokevirtual 48, 3) := dk_182 0 48 (dk_at dksX0_save_0 5 rfl rfl)
theorem dX0_save_8 : decode cX0_save 8 = .ok (.putfield 316, 3) := dk_181 1 60 (dk_at dksX0_save_0 8 rfl rfl)
theorem dX0_save_11 : decode cX0_save 11 = .ok (.aload_n 0, 1) := dk_42 (dk_at dksX0_save_0 11 rfl rfl)
theorem dX0_save_12 : decode cX0_save 12 = .ok (.getfield 16, 3) := dk_180 0 16 (dk_at dksX0_save_0 12 rfl rfl)
theorem dX0_save_15 : decode cX0_save 15 = .ok (.getfield 255, 3) := dk_180 0 255 (dk_at dksX0_save_0 15 rfl rfl)
theorem dX0_save_18 : decode cX0_save 18 = .ok (.ireturn, 1) := dk_172 (dk_at dksX0_save_0 18 rfl rfl)
abbrev cX0_restore : ByteArray := prog_1_method_44_code
def yX0_restore : MethodName := ⟨RX0, "restore", "()I"⟩
def dkwX0_restore_1 : List UInt8 := [182, 0, 48, 181, 0, 16, 42, 180, 0, 16, 180, 0, 255, 172]
abbrev dktX0_restore_1 : List UInt8 := dkwX0_restore_1 ++ []
def dkwX0_restore_0 : List UInt8 := [42, 180, 1, 60, 199, 0, 6, 16, 254, 172, 42, 42, 180, 0, 16, 182, 0, 55, 42, 42, 180, 1, 60]
abbrev dktX0_restore_0 : List UInt8 := dkwX0_restore_0 ++ dktX0_restore_1
theorem dksX0_restore_0 : cX0_restore.data.toList.drop 0 = dktX0_restore_0 := by decide +kernel
theorem dksX0_restore_1 : cX0_restore.data.toList.drop 23 = dktX0_restore_1 := dk_seg dksX0_restore_0 23 rfl rfl
theorem dX0_restore_0 : decode cX0_restore 0 = .ok (.aload_n 0, 1) := dk_42 (dk_at dksX0_restore_0 0 rfl rfl)
theorem dX0_restore_1 : decode cX0_restore 1 = .ok (.getfield 316, 3) := dk_180 1 60 (dk_at dksX0_restore_0 1 rfl rfl)
theorem dX0_restore_4 : decode cX0_restore 4 = .ok (.ifnonnull 6, 3) := dk_199 0 6 (dk_at dksX0_restore_0 4 rfl rfl)
theorem dX0_restore_7 : decode cX0_restore 7 = .ok (.bipush (-2), 2) := dk_16 254 (dk_at dksX0_restore_0 7 rfl rfl)
theorem dX0_restore_9 : decode cX0_restore 9 = .ok (.ireturn, 1) := dk_172 (dk_at dksX0_restore_0 9 rfl rfl)
theorem dX0_restore_10 : decode cX0_restore 10 = .ok (.aload_n 0, 1) := dk_42 (dk_at dksX0_restore_0 10 rfl rfl)
theorem dX0_restore_11 : decode cX0_restore 11 = .ok (.aload_n 0, 1) := dk_42 (dk_at dksX0_restore_0 11 rfl rfl)
theorem dX0_restore_12 : decode cX0_restore 12 = .ok (.getfield 16, 3) := dk_180 0 16 (dk_at dksX0_restore_0 12 rfl rfl)
theorem dX0_restore_15 : decode cX0_restore 15 = .ok (.invokevirtual 55, 3) := dk_182 0 55 (dk_at dksX0_restore_0 15 rfl rfl)
theorem dX0_restore_18 : decode cX0_restore 18 = .ok (.aload_n 0, 1) := dk_42 (dk_at dksX0_restore_0 18 rfl rfl)
theorem dX0_restore_19 : decode cX0_restore 19 = .ok (.aload_n 0, 1) := dk_42 (dk_at dksX0_restore_0 19 rfl rfl)
theorem dX0_restore_20 : decode cX0_restore 20 = .ok (.getfield 316, 3) := dk_180 1 60 (dk_at dksX0_restore_0 20 rfl rfl)
theorem dX0_restore_23 : decode cX0_restore 23 = .ok (.invokevirtual 48, 3) := dk_182 0 48 (dk_at dksX0_restore_1 0 rfl rfl)
theorem dX0_restore_26 : decode cX0_restore 26 = .ok (.putfield 16, 3) := dk_181 0 16 (dk_at dksX0_restore_1 3 rfl rfl)
theorem dX0_restore_29 : decode cX0_restore 29 = .ok (.aload_n 0, 1) := dk_42 (dk_at dksX0_restore_1 6 rfl rfl)
theorem dX0_restore_30 : decode cX0_restore 30 = .ok (.getfield 16, 3) := dk_180 0 16 (dk_at dksX0_restore_1 7 rfl rfl)
theorem dX0_restore_33 : decode cX0_restore 33 = .ok (.getfield 255, 3) := dk_180 0 255 (dk_at dksX0_restore_1 10 rfl rfl)
theorem dX0_restore_36 : decode cX0_restore 36 = .ok (.ireturn, 1) := dk_172 (dk_at dksX0_restore_1 13 rfl rfl)
theorem q82 : (Jvm.Cond.initialized "PedalLayers") ∈ lw_all := lw_g (lw_at lw_m1 1 rfl) rfl
theorem q124 : (Jvm.Cond.instantiable "PedalLayers" (5 : Nat)) ∈ lw_all := lw_g (lw_at lw_m1 43 rfl) rfl
theorem q126 : (Jvm.Cond.instanceMethod ({ cls := "PedalLayers", name := "<init>", desc := "()V" } : Jvm.MethodName)) ∈ lw_all := lw_g (lw_at lw_m1 45 rfl) rfl
theorem q127 : (Jvm.Cond.code ({ cls := "PedalLayers", name := "<init>", desc := "()V" } : Jvm.MethodName) prog_1_method_4_code (1 : Nat) (Option.none : Option Jvm.ClassFile.FieldType)) ∈ lw_all := lw_g (lw_at lw_m1 46 rfl) rfl
theorem q128 : (Jvm.Cond.methodLink "PedalLayers" (10 : Nat) ({ cls := "java/lang/Object", name := "<init>", desc := "()V" } : Jvm.MethodName)) ∈ lw_all := lw_g (lw_at lw_m1 47 rfl) rfl
theorem q131 : (Jvm.Cond.classLink "PedalLayers" (13 : Nat) "PedalLayers$Pedal") ∈ lw_all := lw_g (lw_at lw_m1 50 rfl) rfl
theorem q133 : (Jvm.Cond.methodLinkNest "PedalLayers" (15 : Nat) ({ cls := "PedalLayers$Pedal", name := "<init>", desc := "()V" } : Jvm.MethodName) "PedalLayers") ∈ lw_tbl := lw_at lw_m1 52 rfl
theorem q192 : (Jvm.Cond.fieldLinkNest "PedalLayers" (255 : Nat) "PedalLayers$Pedal" "mode" "I" "PedalLayers") ∈ lw_tbl := lw_at lw_m1 111 rfl
theorem q194 : (Jvm.Cond.fieldLinkNest "PedalLayers" (181 : Nat) "PedalLayers$Pedal" "layers" "Ljava/util/ArrayList;" "PedalLayers") ∈ lw_tbl := lw_at lw_m1 113 rfl
theorem q196 : (Jvm.Cond.fieldLinkNest "PedalLayers" (261 : Nat) "PedalLayers$Pedal" "drawer" "Ljava/util/LinkedList;" "PedalLayers") ∈ lw_tbl := lw_at lw_m1 115 rfl
theorem q198 : (Jvm.Cond.fieldLinkNest "PedalLayers" (264 : Nat) "PedalLayers$Pedal" "place" "I" "PedalLayers") ∈ lw_tbl := lw_at lw_m1 117 rfl
theorem q200 : (Jvm.Cond.fieldLinkNest "PedalLayers" (267 : Nat) "PedalLayers$Pedal" "passes" "I" "PedalLayers") ∈ lw_tbl := lw_at lw_m1 119 rfl
theorem q202 : (Jvm.Cond.fieldLinkNest "PedalLayers" (294 : Nat) "PedalLayers$Pedal" "played" "I" "PedalLayers") ∈ lw_tbl := lw_at lw_m1 121 rfl
theorem q204 : (Jvm.Cond.fieldLinkNest "PedalLayers" (278 : Nat) "PedalLayers$Pedal" "isHalf" "I" "PedalLayers") ∈ lw_tbl := lw_at lw_m1 123 rfl
theorem q206 : (Jvm.Cond.fieldLinkNest "PedalLayers" (285 : Nat) "PedalLayers$Pedal" "laid" "I" "PedalLayers") ∈ lw_tbl := lw_at lw_m1 125 rfl
theorem q208 : (Jvm.Cond.fieldLinkNest "PedalLayers" (281 : Nat) "PedalLayers$Pedal" "settings" "[I" "PedalLayers") ∈ lw_tbl := lw_at lw_m1 127 rfl
theorem q211 : (Jvm.Cond.fieldLinkNest "PedalLayers" (268 : Nat) "PedalLayers$Pedal" "halves" "I" "PedalLayers") ∈ lw_tbl := lw_at lw_m1 130 rfl
theorem q213 : (Jvm.Cond.fieldLinkNest "PedalLayers" (274 : Nat) "PedalLayers$Pedal" "take" "LPedalLayers$Layer;" "PedalLayers") ∈ lw_tbl := lw_at lw_m1 132 rfl
theorem q240 : (Jvm.Cond.classLink "PedalLayers" (22 : Nat) "java/util/LinkedList") ∈ lw_all := lw_g (lw_at lw_m1 159 rfl) rfl
theorem q241 : (Jvm.Cond.methodLink "PedalLayers" (24 : Nat) ({ cls := "java/util/LinkedList", name := "<init>", desc := "()V" } : Jvm.MethodName)) ∈ lw_all := lw_g (lw_at lw_m1 160 rfl) rfl
theorem q242 : (Jvm.Cond.classLink "PedalLayers" (29 : Nat) "java/lang/StringBuilder") ∈ lw_all := lw_g (lw_at lw_m1 161 rfl) rfl
theorem q244 : (Jvm.Cond.methodLink "PedalLayers" (31 : Nat) ({ cls := "java/lang/StringBuilder", name := "<init>", desc := "()V" } : Jvm.MethodName)) ∈ lw_all := lw_g (lw_at lw_m1 163 rfl) rfl
theorem q275 : (Jvm.Cond.fieldLink "PedalLayers" (16 : Nat) "PedalLayers" "now" "LPedalLayers$Pedal;") ∈ lw_all := lw_g (lw_at lw_m1 194 rfl) rfl
theorem q276 : (Jvm.Cond.fieldLink "PedalLayers" (25 : Nat) "PedalLayers" "history" "Ljava/util/LinkedList;") ∈ lw_all := lw_g (lw_at lw_m1 195 rfl) rfl
theorem q277 : (Jvm.Cond.fieldLink "PedalLayers" (316 : Nat) "PedalLayers" "kept" "LPedalLayers$Pedal;") ∈ lw_all := lw_g (lw_at lw_m1 196 rfl) rfl
theorem q278 : (Jvm.Cond.fieldLink "PedalLayers" (32 : Nat) "PedalLayers" "pad" "Ljava/lang/StringBuilder;") ∈ lw_all := lw_g (lw_at lw_m1 197 rfl) rfl
theorem q279 : (Jvm.Cond.fieldLink "PedalLayers" (167 : Nat) "PedalLayers" "stopped" "LPedalLayers$Stopped;") ∈ lw_all := lw_g (lw_at lw_m1 198 rfl) rfl
theorem q280 : (Jvm.Cond.lays "PedalLayers" "PedalLayers" "now" "LPedalLayers$Pedal;") ∈ lw_all := lw_g (lw_at lw_m1 199 rfl) rfl
theorem q281 : (Jvm.Cond.soleField "PedalLayers" "now") ∈ lw_all := lw_g (lw_at lw_m1 200 rfl) rfl
theorem q282 : (Jvm.Cond.laysFinal "PedalLayers" "PedalLayers" "history" "Ljava/util/LinkedList;") ∈ lw_all := lw_g (lw_at lw_m1 201 rfl) rfl
theorem q283 : (Jvm.Cond.soleField "PedalLayers" "history") ∈ lw_all := lw_g (lw_at lw_m1 202 rfl) rfl
theorem q284 : (Jvm.Cond.lays "PedalLayers" "PedalLayers" "kept" "LPedalLayers$Pedal;") ∈ lw_all := lw_g (lw_at lw_m1 203 rfl) rfl
theorem q285 : (Jvm.Cond.soleField "PedalLayers" "kept") ∈ lw_all := lw_g (lw_at lw_m1 204 rfl) rfl
theorem q286 : (Jvm.Cond.laysFinal "PedalLayers" "PedalLayers" "pad" "Ljava/lang/StringBuilder;") ∈ lw_all := lw_g (lw_at lw_m1 205 rfl) rfl
theorem q287 : (Jvm.Cond.soleField "PedalLayers" "pad") ∈ lw_all := lw_g (lw_at lw_m1 206 rfl) rfl
theorem q288 : (Jvm.Cond.lays "PedalLayers" "PedalLayers" "stopped" "LPedalLayers$Stopped;") ∈ lw_all := lw_g (lw_at lw_m1 207 rfl) rfl
theorem q289 : (Jvm.Cond.soleField "PedalLayers" "stopped") ∈ lw_all := lw_g (lw_at lw_m1 208 rfl) rfl
theorem q290 : (Jvm.Cond.superclass "PedalLayers" "java/lang/Object") ∈ lw_all := lw_g (lw_at lw_m1 209 rfl) rfl
theorem q292 : (Jvm.Cond.instanceMethod ({ cls := "PedalLayers", name := "press", desc := "()I" } : Jvm.MethodName)) ∈ lw_all := lw_g (lw_at lw_m1 211 rfl) rfl
theorem q293 : (Jvm.Cond.selects "PedalLayers" ({ cls := "PedalLayers", name := "press", desc := "()I" } : Jvm.MethodName) ({ cls := "PedalLayers", name := "press", desc := "()I" } : Jvm.MethodName)) ∈ lw_all := lw_g (lw_at lw_m1 212 rfl) rfl
theorem q294 : (Jvm.Cond.codeWith ({ cls := "PedalLayers", name := "press", desc := "()I" } : Jvm.MethodName) prog_1_method_6_code (3 : Nat) (Option.some Jvm.ClassFile.FieldType.int) [((8 : Nat), (22 : Nat), (23 : Nat), (7 : Nat)), ((8 : Nat), (22 : Nat), (23 : Nat), (59 : Nat))]) ∈ lw_all := lw_g (lw_at lw_m1 213 rfl) rfl
theorem q295 : (Jvm.Cond.classLink "PedalLayers" (7 : Nat) "PedalLayers$Impossible") ∈ lw_all := lw_g (lw_at lw_m1 214 rfl) rfl
theorem q296 : (Jvm.Cond.classLink "PedalLayers" (59 : Nat) "PedalLayers$Limited") ∈ lw_all := lw_g (lw_at lw_m1 215 rfl) rfl
theorem q297 : (Jvm.Cond.methodLink "PedalLayers" (48 : Nat) ({ cls := "PedalLayers$Pedal", name := "copy", desc := "()LPedalLayers$Pedal;" } : Jvm.MethodName)) ∈ lw_all := lw_g (lw_at lw_m1 216 rfl) rfl
theorem q476 : (Jvm.Cond.selects "PedalLayers" ({ cls := "java/lang/Object", name := "getClass", desc := "()Ljava/lang/Class;" } : Jvm.MethodName) ({ cls := "java/lang/Object", name := "getClass", desc := "()Ljava/lang/Class;" } : Jvm.MethodName)) ∈ lw_all := lw_g (lw_at lw_m2 155 rfl) rfl
theorem q752 : (Jvm.Cond.fieldLinkNest "PedalLayers" (213 : Nat) "PedalLayers$Layer" "forces" "[[I" "PedalLayers") ∈ lw_tbl := lw_at lw_m3 191 rfl
theorem q755 : (Jvm.Cond.fieldLinkNest "PedalLayers" (206 : Nat) "PedalLayers$Layer" "isMuted" "Z" "PedalLayers") ∈ lw_tbl := lw_at lw_m3 194 rfl
theorem q758 : (Jvm.Cond.fieldLinkNest "PedalLayers" (210 : Nat) "PedalLayers$Layer" "passes" "I" "PedalLayers") ∈ lw_tbl := lw_at lw_m3 197 rfl
theorem q902 : (Jvm.Cond.methodLink "PedalLayers" (52 : Nat) ({ cls := "PedalLayers$Pedal", name := "presses", desc := "()I" } : Jvm.MethodName)) ∈ lw_all := lw_g (lw_at lw_m4 101 rfl) rfl
theorem q911 : (Jvm.Cond.static ({ cls := "PedalLayers", name := "needs", desc := "(Z)V" } : Jvm.MethodName)) ∈ lw_all := lw_g (lw_at lw_m4 110 rfl) rfl
theorem q912 : (Jvm.Cond.code ({ cls := "PedalLayers", name := "needs", desc := "(Z)V" } : Jvm.MethodName) prog_1_method_3_code (1 : Nat) (Option.none : Option Jvm.ClassFile.FieldType)) ∈ lw_all := lw_g (lw_at lw_m4 111 rfl) rfl
theorem q921 : (Jvm.Cond.methodLink "PedalLayers" (9 : Nat) ({ cls := "PedalLayers$Impossible", name := "<init>", desc := "()V" } : Jvm.MethodName)) ∈ lw_all := lw_g (lw_at lw_m4 120 rfl) rfl
theorem q933 : (Jvm.Cond.fieldLinkNest "PedalLayers" (65 : Nat) "PedalLayers$Refused" "error" "I" "PedalLayers") ∈ lw_tbl := lw_at lw_m4 132 rfl
theorem q1028 : (Jvm.Cond.methodLink "PedalLayers" (55 : Nat) ({ cls := "PedalLayers", name := "records", desc := "(LPedalLayers$Pedal;)V" } : Jvm.MethodName)) ∈ lw_all := lw_g (lw_at lw_m4 227 rfl) rfl
theorem q1029 : (Jvm.Cond.privateMethod ({ cls := "PedalLayers", name := "records", desc := "(LPedalLayers$Pedal;)V" } : Jvm.MethodName)) ∈ lw_tbl := lw_at lw_m4 228 rfl
theorem q1030 : (Jvm.Cond.instanceMethod ({ cls := "PedalLayers", name := "records", desc := "(LPedalLayers$Pedal;)V" } : Jvm.MethodName)) ∈ lw_all := lw_g (lw_at lw_m4 229 rfl) rfl
theorem q1031 : (Jvm.Cond.code ({ cls := "PedalLayers", name := "records", desc := "(LPedalLayers$Pedal;)V" } : Jvm.MethodName) prog_1_method_5_code (2 : Nat) (Option.none : Option Jvm.ClassFile.FieldType)) ∈ lw_all := lw_g (lw_at lw_m4 230 rfl) rfl
theorem q1032 : (Jvm.Cond.methodLink "PedalLayers" (36 : Nat) ({ cls := "java/util/LinkedList", name := "size", desc := "()I" } : Jvm.MethodName)) ∈ lw_all := lw_g (lw_at lw_m4 231 rfl) rfl
theorem q1033 : (Jvm.Cond.methodLink "PedalLayers" (40 : Nat) ({ cls := "java/util/LinkedList", name := "removeFirst", desc := "()Ljava/lang/Object;" } : Jvm.MethodName)) ∈ lw_all := lw_g (lw_at lw_m4 232 rfl) rfl
theorem q1041 : (Jvm.Cond.methodLink "PedalLayers" (44 : Nat) ({ cls := "java/util/LinkedList", name := "addLast", desc := "(Ljava/lang/Object;)V" } : Jvm.MethodName)) ∈ lw_all := lw_g (lw_at lw_m5 0 rfl) rfl
theorem q1042 : (Jvm.Cond.methodLink "PedalLayers" (61 : Nat) ({ cls := "PedalLayers", name := "errorOf", desc := "(LPedalLayers$Refused;)I" } : Jvm.MethodName)) ∈ lw_all := lw_g (lw_at lw_m5 1 rfl) rfl
theorem q1043 : (Jvm.Cond.static ({ cls := "PedalLayers", name := "errorOf", desc := "(LPedalLayers$Refused;)I" } : Jvm.MethodName)) ∈ lw_all := lw_g (lw_at lw_m5 2 rfl) rfl
theorem q1044 : (Jvm.Cond.code ({ cls := "PedalLayers", name := "errorOf", desc := "(LPedalLayers$Refused;)I" } : Jvm.MethodName) prog_1_method_7_code (1 : Nat) (Option.some Jvm.ClassFile.FieldType.int)) ∈ lw_all := lw_g (lw_at lw_m5 3 rfl) rfl
theorem q1046 : (Jvm.Cond.instanceMethod ({ cls := "PedalLayers", name := "stop", desc := "()I" } : Jvm.MethodName)) ∈ lw_all := lw_g (lw_at lw_m5 5 rfl) rfl
theorem q1047 : (Jvm.Cond.selects "PedalLayers" ({ cls := "PedalLayers", name := "stop", desc := "()I" } : Jvm.MethodName) ({ cls := "PedalLayers", name := "stop", desc := "()I" } : Jvm.MethodName)) ∈ lw_all := lw_g (lw_at lw_m5 6 rfl) rfl
theorem q1048 : (Jvm.Cond.codeWith ({ cls := "PedalLayers", name := "stop", desc := "()I" } : Jvm.MethodName) prog_1_method_8_code (3 : Nat) (Option.some Jvm.ClassFile.FieldType.int) [((8 : Nat), (22 : Nat), (23 : Nat), (7 : Nat))]) ∈ lw_all := lw_g (lw_at lw_m5 7 rfl) rfl
theorem q1049 : (Jvm.Cond.methodLink "PedalLayers" (71 : Nat) ({ cls := "PedalLayers$Pedal", name := "stops", desc := "()I" } : Jvm.MethodName)) ∈ lw_all := lw_g (lw_at lw_m5 8 rfl) rfl
theorem q1054 : (Jvm.Cond.instanceMethod ({ cls := "PedalLayers", name := "empty", desc := "()I" } : Jvm.MethodName)) ∈ lw_all := lw_g (lw_at lw_m5 13 rfl) rfl
theorem q1055 : (Jvm.Cond.selects "PedalLayers" ({ cls := "PedalLayers", name := "empty", desc := "()I" } : Jvm.MethodName) ({ cls := "PedalLayers", name := "empty", desc := "()I" } : Jvm.MethodName)) ∈ lw_all := lw_g (lw_at lw_m5 14 rfl) rfl
theorem q1056 : (Jvm.Cond.codeWith ({ cls := "PedalLayers", name := "empty", desc := "()I" } : Jvm.MethodName) prog_1_method_9_code (3 : Nat) (Option.some Jvm.ClassFile.FieldType.int) [((8 : Nat), (22 : Nat), (23 : Nat), (7 : Nat))]) ∈ lw_all := lw_g (lw_at lw_m5 15 rfl) rfl
theorem q1057 : (Jvm.Cond.methodLink "PedalLayers" (74 : Nat) ({ cls := "PedalLayers$Pedal", name := "empties", desc := "()I" } : Jvm.MethodName)) ∈ lw_all := lw_g (lw_at lw_m5 16 rfl) rfl
theorem q1066 : (Jvm.Cond.instanceMethod ({ cls := "PedalLayers", name := "hit", desc := "(II)I" } : Jvm.MethodName)) ∈ lw_all := lw_g (lw_at lw_m5 25 rfl) rfl
theorem q1067 : (Jvm.Cond.selects "PedalLayers" ({ cls := "PedalLayers", name := "hit", desc := "(II)I" } : Jvm.MethodName) ({ cls := "PedalLayers", name := "hit", desc := "(II)I" } : Jvm.MethodName)) ∈ lw_all := lw_g (lw_at lw_m5 26 rfl) rfl
theorem q1068 : (Jvm.Cond.codeWith ({ cls := "PedalLayers", name := "hit", desc := "(II)I" } : Jvm.MethodName) prog_1_method_10_code (5 : Nat) (Option.some Jvm.ClassFile.FieldType.int) [((8 : Nat), (26 : Nat), (27 : Nat), (1 : Nat)), ((8 : Nat), (26 : Nat), (27 : Nat), (7 : Nat))]) ∈ lw_all := lw_g (lw_at lw_m5 27 rfl) rfl
theorem q1069 : (Jvm.Cond.classLink "PedalLayers" (1 : Nat) "PedalLayers$Wrong") ∈ lw_all := lw_g (lw_at lw_m5 28 rfl) rfl
theorem q1070 : (Jvm.Cond.methodLink "PedalLayers" (77 : Nat) ({ cls := "PedalLayers$Pedal", name := "hits", desc := "(II)I" } : Jvm.MethodName)) ∈ lw_all := lw_g (lw_at lw_m5 29 rfl) rfl
theorem q1075 : (Jvm.Cond.static ({ cls := "PedalLayers", name := "inRange", desc := "(III)Z" } : Jvm.MethodName)) ∈ lw_all := lw_g (lw_at lw_m5 34 rfl) rfl
theorem q1076 : (Jvm.Cond.code ({ cls := "PedalLayers", name := "inRange", desc := "(III)Z" } : Jvm.MethodName) prog_1_method_1_code (3 : Nat) (Option.some Jvm.ClassFile.FieldType.boolean)) ∈ lw_all := lw_g (lw_at lw_m5 35 rfl) rfl
theorem q1078 : (Jvm.Cond.static ({ cls := "PedalLayers", name := "wants", desc := "(Z)V" } : Jvm.MethodName)) ∈ lw_all := lw_g (lw_at lw_m5 37 rfl) rfl
theorem q1079 : (Jvm.Cond.code ({ cls := "PedalLayers", name := "wants", desc := "(Z)V" } : Jvm.MethodName) prog_1_method_2_code (1 : Nat) (Option.none : Option Jvm.ClassFile.FieldType)) ∈ lw_all := lw_g (lw_at lw_m5 38 rfl) rfl
theorem q1088 : (Jvm.Cond.methodLink "PedalLayers" (3 : Nat) ({ cls := "PedalLayers$Wrong", name := "<init>", desc := "()V" } : Jvm.MethodName)) ∈ lw_all := lw_g (lw_at lw_m5 47 rfl) rfl
theorem q1097 : (Jvm.Cond.instanceMethod ({ cls := "PedalLayers", name := "pass", desc := "(I)I" } : Jvm.MethodName)) ∈ lw_all := lw_g (lw_at lw_m5 56 rfl) rfl
theorem q1098 : (Jvm.Cond.selects "PedalLayers" ({ cls := "PedalLayers", name := "pass", desc := "(I)I" } : Jvm.MethodName) ({ cls := "PedalLayers", name := "pass", desc := "(I)I" } : Jvm.MethodName)) ∈ lw_all := lw_g (lw_at lw_m5 57 rfl) rfl
theorem q1099 : (Jvm.Cond.codeWith ({ cls := "PedalLayers", name := "pass", desc := "(I)I" } : Jvm.MethodName) prog_1_method_11_code (4 : Nat) (Option.some Jvm.ClassFile.FieldType.int) [((8 : Nat), (23 : Nat), (24 : Nat), (1 : Nat))]) ∈ lw_all := lw_g (lw_at lw_m5 58 rfl) rfl
theorem q1100 : (Jvm.Cond.methodLink "PedalLayers" (81 : Nat) ({ cls := "PedalLayers$Pedal", name := "ticks", desc := "(I)I" } : Jvm.MethodName)) ∈ lw_all := lw_g (lw_at lw_m5 59 rfl) rfl
theorem q1117 : (Jvm.Cond.instanceMethod ({ cls := "PedalLayers", name := "peel", desc := "()I" } : Jvm.MethodName)) ∈ lw_all := lw_g (lw_at lw_m5 76 rfl) rfl
theorem q1118 : (Jvm.Cond.selects "PedalLayers" ({ cls := "PedalLayers", name := "peel", desc := "()I" } : Jvm.MethodName) ({ cls := "PedalLayers", name := "peel", desc := "()I" } : Jvm.MethodName)) ∈ lw_all := lw_g (lw_at lw_m5 77 rfl) rfl
theorem q1119 : (Jvm.Cond.codeWith ({ cls := "PedalLayers", name := "peel", desc := "()I" } : Jvm.MethodName) prog_1_method_12_code (3 : Nat) (Option.some Jvm.ClassFile.FieldType.int) [((8 : Nat), (22 : Nat), (23 : Nat), (7 : Nat))]) ∈ lw_all := lw_g (lw_at lw_m5 78 rfl) rfl
theorem q1120 : (Jvm.Cond.methodLink "PedalLayers" (85 : Nat) ({ cls := "PedalLayers$Pedal", name := "peels", desc := "()I" } : Jvm.MethodName)) ∈ lw_all := lw_g (lw_at lw_m5 79 rfl) rfl
theorem q1142 : (Jvm.Cond.instanceMethod ({ cls := "PedalLayers", name := "back", desc := "()I" } : Jvm.MethodName)) ∈ lw_all := lw_g (lw_at lw_m5 101 rfl) rfl
theorem q1143 : (Jvm.Cond.selects "PedalLayers" ({ cls := "PedalLayers", name := "back", desc := "()I" } : Jvm.MethodName) ({ cls := "PedalLayers", name := "back", desc := "()I" } : Jvm.MethodName)) ∈ lw_all := lw_g (lw_at lw_m5 102 rfl) rfl
theorem q1144 : (Jvm.Cond.codeWith ({ cls := "PedalLayers", name := "back", desc := "()I" } : Jvm.MethodName) prog_1_method_13_code (3 : Nat) (Option.some Jvm.ClassFile.FieldType.int) [((8 : Nat), (22 : Nat), (23 : Nat), (7 : Nat))]) ∈ lw_all := lw_g (lw_at lw_m5 103 rfl) rfl
theorem q1145 : (Jvm.Cond.methodLink "PedalLayers" (88 : Nat) ({ cls := "PedalLayers$Pedal", name := "putsBack", desc := "()I" } : Jvm.MethodName)) ∈ lw_all := lw_g (lw_at lw_m5 104 rfl) rfl
theorem q1158 : (Jvm.Cond.instanceMethod ({ cls := "PedalLayers", name := "mute", desc := "(I)I" } : Jvm.MethodName)) ∈ lw_all := lw_g (lw_at lw_m5 117 rfl) rfl
theorem q1159 : (Jvm.Cond.selects "PedalLayers" ({ cls := "PedalLayers", name := "mute", desc := "(I)I" } : Jvm.MethodName) ({ cls := "PedalLayers", name := "mute", desc := "(I)I" } : Jvm.MethodName)) ∈ lw_all := lw_g (lw_at lw_m5 118 rfl) rfl
theorem q1160 : (Jvm.Cond.codeWith ({ cls := "PedalLayers", name := "mute", desc := "(I)I" } : Jvm.MethodName) prog_1_method_14_code (4 : Nat) (Option.some Jvm.ClassFile.FieldType.int) [((8 : Nat), (23 : Nat), (24 : Nat), (1 : Nat))]) ∈ lw_all := lw_g (lw_at lw_m5 119 rfl) rfl
theorem q1161 : (Jvm.Cond.methodLink "PedalLayers" (91 : Nat) ({ cls := "PedalLayers$Pedal", name := "mutes", desc := "(I)I" } : Jvm.MethodName)) ∈ lw_all := lw_g (lw_at lw_m5 120 rfl) rfl
theorem q1166 : (Jvm.Cond.instanceMethod ({ cls := "PedalLayers", name := "speed", desc := "()I" } : Jvm.MethodName)) ∈ lw_all := lw_g (lw_at lw_m5 125 rfl) rfl
theorem q1167 : (Jvm.Cond.selects "PedalLayers" ({ cls := "PedalLayers", name := "speed", desc := "()I" } : Jvm.MethodName) ({ cls := "PedalLayers", name := "speed", desc := "()I" } : Jvm.MethodName)) ∈ lw_all := lw_g (lw_at lw_m5 126 rfl) rfl
theorem q1168 : (Jvm.Cond.code ({ cls := "PedalLayers", name := "speed", desc := "()I" } : Jvm.MethodName) prog_1_method_15_code (1 : Nat) (Option.some Jvm.ClassFile.FieldType.int)) ∈ lw_all := lw_g (lw_at lw_m5 127 rfl) rfl
theorem q1169 : (Jvm.Cond.methodLink "PedalLayers" (94 : Nat) ({ cls := "PedalLayers$Pedal", name := "changesSpeed", desc := "()I" } : Jvm.MethodName)) ∈ lw_all := lw_g (lw_at lw_m5 128 rfl) rfl
theorem q1174 : (Jvm.Cond.instanceMethod ({ cls := "PedalLayers", name := "set", desc := "(II)I" } : Jvm.MethodName)) ∈ lw_all := lw_g (lw_at lw_m5 133 rfl) rfl
theorem q1175 : (Jvm.Cond.selects "PedalLayers" ({ cls := "PedalLayers", name := "set", desc := "(II)I" } : Jvm.MethodName) ({ cls := "PedalLayers", name := "set", desc := "(II)I" } : Jvm.MethodName)) ∈ lw_all := lw_g (lw_at lw_m5 134 rfl) rfl
theorem q1176 : (Jvm.Cond.codeWith ({ cls := "PedalLayers", name := "set", desc := "(II)I" } : Jvm.MethodName) prog_1_method_16_code (5 : Nat) (Option.some Jvm.ClassFile.FieldType.int) [((8 : Nat), (26 : Nat), (27 : Nat), (1 : Nat))]) ∈ lw_all := lw_g (lw_at lw_m5 135 rfl) rfl
theorem q1177 : (Jvm.Cond.methodLink "PedalLayers" (97 : Nat) ({ cls := "PedalLayers$Pedal", name := "sets", desc := "(II)I" } : Jvm.MethodName)) ∈ lw_all := lw_g (lw_at lw_m5 136 rfl) rfl
theorem q1182 : (Jvm.Cond.instanceMethod ({ cls := "PedalLayers", name := "append", desc := "(I)I" } : Jvm.MethodName)) ∈ lw_all := lw_g (lw_at lw_m5 141 rfl) rfl
theorem q1183 : (Jvm.Cond.selects "PedalLayers" ({ cls := "PedalLayers", name := "append", desc := "(I)I" } : Jvm.MethodName) ({ cls := "PedalLayers", name := "append", desc := "(I)I" } : Jvm.MethodName)) ∈ lw_all := lw_g (lw_at lw_m5 142 rfl) rfl
theorem q1184 : (Jvm.Cond.code ({ cls := "PedalLayers", name := "append", desc := "(I)I" } : Jvm.MethodName) prog_1_method_17_code (2 : Nat) (Option.some Jvm.ClassFile.FieldType.int)) ∈ lw_all := lw_g (lw_at lw_m5 143 rfl) rfl
theorem q1185 : (Jvm.Cond.methodLink "PedalLayers" (100 : Nat) ({ cls := "PedalLayers", name := "inRange", desc := "(III)Z" } : Jvm.MethodName)) ∈ lw_all := lw_g (lw_at lw_m5 144 rfl) rfl
theorem q1186 : (Jvm.Cond.methodLink "PedalLayers" (104 : Nat) ({ cls := "java/lang/StringBuilder", name := "length", desc := "()I" } : Jvm.MethodName)) ∈ lw_all := lw_g (lw_at lw_m5 145 rfl) rfl
theorem q1187 : (Jvm.Cond.methodLink "PedalLayers" (107 : Nat) ({ cls := "java/lang/StringBuilder", name := "append", desc := "(C)Ljava/lang/StringBuilder;" } : Jvm.MethodName)) ∈ lw_all := lw_g (lw_at lw_m5 146 rfl) rfl
theorem q1208 : (Jvm.Cond.instanceMethod ({ cls := "PedalLayers", name := "erase", desc := "()I" } : Jvm.MethodName)) ∈ lw_all := lw_g (lw_at lw_m5 167 rfl) rfl
theorem q1209 : (Jvm.Cond.selects "PedalLayers" ({ cls := "PedalLayers", name := "erase", desc := "()I" } : Jvm.MethodName) ({ cls := "PedalLayers", name := "erase", desc := "()I" } : Jvm.MethodName)) ∈ lw_all := lw_g (lw_at lw_m5 168 rfl) rfl
theorem q1210 : (Jvm.Cond.code ({ cls := "PedalLayers", name := "erase", desc := "()I" } : Jvm.MethodName) prog_1_method_18_code (2 : Nat) (Option.some Jvm.ClassFile.FieldType.int)) ∈ lw_all := lw_g (lw_at lw_m5 169 rfl) rfl
theorem q1211 : (Jvm.Cond.methodLink "PedalLayers" (111 : Nat) ({ cls := "java/lang/StringBuilder", name := "setLength", desc := "(I)V" } : Jvm.MethodName)) ∈ lw_all := lw_g (lw_at lw_m5 170 rfl) rfl
theorem q1232 : (Jvm.Cond.instanceMethod ({ cls := "PedalLayers", name := "fault", desc := "(I)I" } : Jvm.MethodName)) ∈ lw_all := lw_g (lw_at lw_m5 191 rfl) rfl
theorem q1233 : (Jvm.Cond.selects "PedalLayers" ({ cls := "PedalLayers", name := "fault", desc := "(I)I" } : Jvm.MethodName) ({ cls := "PedalLayers", name := "fault", desc := "(I)I" } : Jvm.MethodName)) ∈ lw_all := lw_g (lw_at lw_m5 192 rfl) rfl
theorem q1234 : (Jvm.Cond.codeWith ({ cls := "PedalLayers", name := "fault", desc := "(I)I" } : Jvm.MethodName) prog_1_method_19_code (3 : Nat) (Option.some Jvm.ClassFile.FieldType.int) [((11 : Nat), (50 : Nat), (51 : Nat), (127 : Nat))]) ∈ lw_all := lw_g (lw_at lw_m5 193 rfl) rfl
theorem q1235 : (Jvm.Cond.classLink "PedalLayers" (127 : Nat) "PedalLayers$Unread") ∈ lw_all := lw_g (lw_at lw_m5 194 rfl) rfl
theorem q1236 : (Jvm.Cond.classLink "PedalLayers" (115 : Nat) "PedalLayers$Reader") ∈ lw_all := lw_g (lw_at lw_m5 195 rfl) rfl
theorem q1238 : (Jvm.Cond.methodLink "PedalLayers" (117 : Nat) ({ cls := "PedalLayers$Reader", name := "<init>", desc := "(Ljava/lang/StringBuilder;)V" } : Jvm.MethodName)) ∈ lw_all := lw_g (lw_at lw_m5 197 rfl) rfl
theorem q1249 : (Jvm.Cond.methodLink "PedalLayers" (120 : Nat) ({ cls := "PedalLayers$Reader", name := "orders", desc := "()Ljava/util/ArrayList;" } : Jvm.MethodName)) ∈ lw_all := lw_g (lw_at lw_m5 208 rfl) rfl
theorem q1278 : (Jvm.Cond.fieldLinkNest "PedalLayers" (140 : Nat) "PedalLayers$Order" "at" "I" "PedalLayers") ∈ lw_tbl := lw_at lw_m5 237 rfl
theorem q1318 : (Jvm.Cond.fieldLinkNest "PedalLayers" (129 : Nat) "PedalLayers$Unread" "at" "I" "PedalLayers") ∈ lw_tbl := lw_at lw_m6 37 rfl
theorem q1324 : (Jvm.Cond.methodLink "PedalLayers" (124 : Nat) ({ cls := "PedalLayers$Reader", name := "tune", desc := "()Ljava/util/ArrayList;" } : Jvm.MethodName)) ∈ lw_all := lw_g (lw_at lw_m6 43 rfl) rfl
theorem q1349 : (Jvm.Cond.instanceMethod ({ cls := "PedalLayers", name := "play", desc := "()I" } : Jvm.MethodName)) ∈ lw_all := lw_g (lw_at lw_m6 68 rfl) rfl
theorem q1350 : (Jvm.Cond.selects "PedalLayers" ({ cls := "PedalLayers", name := "play", desc := "()I" } : Jvm.MethodName) ({ cls := "PedalLayers", name := "play", desc := "()I" } : Jvm.MethodName)) ∈ lw_all := lw_g (lw_at lw_m6 69 rfl) rfl
theorem q1351 : (Jvm.Cond.codeWith ({ cls := "PedalLayers", name := "play", desc := "()I" } : Jvm.MethodName) prog_1_method_22_code (3 : Nat) (Option.some Jvm.ClassFile.FieldType.int) [((0 : Nat), (15 : Nat), (18 : Nat), (127 : Nat))]) ∈ lw_all := lw_g (lw_at lw_m6 70 rfl) rfl
theorem q1352 : (Jvm.Cond.methodLink "PedalLayers" (171 : Nat) ({ cls := "PedalLayers", name := "plays", desc := "(Ljava/util/ArrayList;)I" } : Jvm.MethodName)) ∈ lw_all := lw_g (lw_at lw_m6 71 rfl) rfl
theorem q1353 : (Jvm.Cond.privateMethod ({ cls := "PedalLayers", name := "plays", desc := "(Ljava/util/ArrayList;)I" } : Jvm.MethodName)) ∈ lw_tbl := lw_at lw_m6 72 rfl
theorem q1354 : (Jvm.Cond.instanceMethod ({ cls := "PedalLayers", name := "plays", desc := "(Ljava/util/ArrayList;)I" } : Jvm.MethodName)) ∈ lw_all := lw_g (lw_at lw_m6 73 rfl) rfl
theorem q1355 : (Jvm.Cond.codeWith ({ cls := "PedalLayers", name := "plays", desc := "(Ljava/util/ArrayList;)I" } : Jvm.MethodName) prog_1_method_21_code (6 : Nat) (Option.some Jvm.ClassFile.FieldType.int) [((2 : Nat), (40 : Nat), (51 : Nat), (138 : Nat)), ((2 : Nat), (40 : Nat), (68 : Nat), (0 : Nat)), ((51 : Nat), (57 : Nat), (68 : Nat), (0 : Nat)), ((68 : Nat), (70 : Nat), (68 : Nat), (0 : Nat))]) ∈ lw_all := lw_g (lw_at lw_m6 74 rfl) rfl
theorem q1356 : (Jvm.Cond.classLink "PedalLayers" (138 : Nat) "PedalLayers$Stopped") ∈ lw_all := lw_g (lw_at lw_m6 75 rfl) rfl
theorem q1357 : (Jvm.Cond.methodLink "PedalLayers" (148 : Nat) ({ cls := "java/util/ArrayList", name := "iterator", desc := "()Ljava/util/Iterator;" } : Jvm.MethodName)) ∈ lw_all := lw_g (lw_at lw_m6 76 rfl) rfl
theorem q1358 : (Jvm.Cond.interfaceEntry "PedalLayers" (154 : Nat)) ∈ lw_tbl := lw_at lw_m6 77 rfl
theorem q1359 : (Jvm.Cond.methodLink "PedalLayers" (154 : Nat) ({ cls := "java/util/Iterator", name := "hasNext", desc := "()Z" } : Jvm.MethodName)) ∈ lw_all := lw_g (lw_at lw_m6 78 rfl) rfl
theorem q1360 : (Jvm.Cond.interfaceEntry "PedalLayers" (160 : Nat)) ∈ lw_tbl := lw_at lw_m6 79 rfl
theorem q1361 : (Jvm.Cond.methodLink "PedalLayers" (160 : Nat) ({ cls := "java/util/Iterator", name := "next", desc := "()Ljava/lang/Object;" } : Jvm.MethodName)) ∈ lw_all := lw_g (lw_at lw_m6 80 rfl) rfl
theorem q1362 : (Jvm.Cond.classLink "PedalLayers" (133 : Nat) "PedalLayers$Order") ∈ lw_all := lw_g (lw_at lw_m6 81 rfl) rfl
theorem q1363 : (Jvm.Cond.methodLink "PedalLayers" (163 : Nat) ({ cls := "PedalLayers", name := "carriesOut", desc := "(LPedalLayers$Order;I)V" } : Jvm.MethodName)) ∈ lw_all := lw_g (lw_at lw_m6 82 rfl) rfl
theorem q1364 : (Jvm.Cond.privateMethod ({ cls := "PedalLayers", name := "carriesOut", desc := "(LPedalLayers$Order;I)V" } : Jvm.MethodName)) ∈ lw_tbl := lw_at lw_m6 83 rfl
theorem q1365 : (Jvm.Cond.instanceMethod ({ cls := "PedalLayers", name := "carriesOut", desc := "(LPedalLayers$Order;I)V" } : Jvm.MethodName)) ∈ lw_all := lw_g (lw_at lw_m6 84 rfl) rfl
theorem q1366 : (Jvm.Cond.codeWith ({ cls := "PedalLayers", name := "carriesOut", desc := "(LPedalLayers$Order;I)V" } : Jvm.MethodName) prog_1_method_20_code (5 : Nat) (Option.none : Option Jvm.ClassFile.FieldType) [((0 : Nat), (9 : Nat), (12 : Nat), (1 : Nat)), ((0 : Nat), (9 : Nat), (12 : Nat), (7 : Nat)), ((0 : Nat), (9 : Nat), (12 : Nat), (59 : Nat))]) ∈ lw_all := lw_g (lw_at lw_m6 85 rfl) rfl
theorem q1367 : (Jvm.Cond.methodLinkNest "PedalLayers" (132 : Nat) ({ cls := "PedalLayers$Order", name := "runs", desc := "(LPedalLayers$Pedal;)I" } : Jvm.MethodName) "PedalLayers") ∈ lw_tbl := lw_at lw_m6 86 rfl
theorem q1386 : (Jvm.Cond.methodLink "PedalLayers" (141 : Nat) ({ cls := "PedalLayers$Stopped", name := "<init>", desc := "(II)V" } : Jvm.MethodName)) ∈ lw_all := lw_g (lw_at lw_m6 105 rfl) rfl
theorem q1391 : (Jvm.Cond.fieldLinkNest "PedalLayers" (177 : Nat) "PedalLayers$Stopped" "number" "I" "PedalLayers") ∈ lw_tbl := lw_at lw_m6 110 rfl
theorem q1393 : (Jvm.Cond.fieldLinkNest "PedalLayers" (180 : Nat) "PedalLayers$Stopped" "at" "I" "PedalLayers") ∈ lw_tbl := lw_at lw_m6 112 rfl
theorem q1400 : (Jvm.Cond.methodLink "PedalLayers" (144 : Nat) ({ cls := "PedalLayers$Stopped", name := "initCause", desc := "(Ljava/lang/Throwable;)Ljava/lang/Throwable;" } : Jvm.MethodName)) ∈ lw_all := lw_g (lw_at lw_m6 119 rfl) rfl
theorem q1407 : (Jvm.Cond.instanceMethod ({ cls := "PedalLayers", name := "why", desc := "(I)I" } : Jvm.MethodName)) ∈ lw_all := lw_g (lw_at lw_m6 126 rfl) rfl
theorem q1408 : (Jvm.Cond.selects "PedalLayers" ({ cls := "PedalLayers", name := "why", desc := "(I)I" } : Jvm.MethodName) ({ cls := "PedalLayers", name := "why", desc := "(I)I" } : Jvm.MethodName)) ∈ lw_all := lw_g (lw_at lw_m6 127 rfl) rfl
theorem q1409 : (Jvm.Cond.code ({ cls := "PedalLayers", name := "why", desc := "(I)I" } : Jvm.MethodName) prog_1_method_23_code (2 : Nat) (Option.some Jvm.ClassFile.FieldType.int)) ∈ lw_all := lw_g (lw_at lw_m6 128 rfl) rfl
theorem q1410 : (Jvm.Cond.methodLink "PedalLayers" (175 : Nat) ({ cls := "PedalLayers$Stopped", name := "error", desc := "()I" } : Jvm.MethodName)) ∈ lw_all := lw_g (lw_at lw_m6 129 rfl) rfl
theorem q1422 : (Jvm.Cond.instanceMethod ({ cls := "PedalLayers", name := "layer", desc := "(II)I" } : Jvm.MethodName)) ∈ lw_all := lw_g (lw_at lw_m6 141 rfl) rfl
theorem q1423 : (Jvm.Cond.selects "PedalLayers" ({ cls := "PedalLayers", name := "layer", desc := "(II)I" } : Jvm.MethodName) ({ cls := "PedalLayers", name := "layer", desc := "(II)I" } : Jvm.MethodName)) ∈ lw_all := lw_g (lw_at lw_m6 142 rfl) rfl
theorem q1424 : (Jvm.Cond.code ({ cls := "PedalLayers", name := "layer", desc := "(II)I" } : Jvm.MethodName) prog_1_method_25_code (4 : Nat) (Option.some Jvm.ClassFile.FieldType.int)) ∈ lw_all := lw_g (lw_at lw_m6 143 rfl) rfl
theorem q1425 : (Jvm.Cond.methodLink "PedalLayers" (186 : Nat) ({ cls := "PedalLayers", name := "isLayer", desc := "(I)Z" } : Jvm.MethodName)) ∈ lw_all := lw_g (lw_at lw_m6 144 rfl) rfl
theorem q1426 : (Jvm.Cond.privateMethod ({ cls := "PedalLayers", name := "isLayer", desc := "(I)Z" } : Jvm.MethodName)) ∈ lw_tbl := lw_at lw_m6 145 rfl
theorem q1427 : (Jvm.Cond.instanceMethod ({ cls := "PedalLayers", name := "isLayer", desc := "(I)Z" } : Jvm.MethodName)) ∈ lw_all := lw_g (lw_at lw_m6 146 rfl) rfl
theorem q1428 : (Jvm.Cond.code ({ cls := "PedalLayers", name := "isLayer", desc := "(I)Z" } : Jvm.MethodName) prog_1_method_24_code (2 : Nat) (Option.some Jvm.ClassFile.FieldType.boolean)) ∈ lw_all := lw_g (lw_at lw_m6 147 rfl) rfl
theorem q1429 : (Jvm.Cond.methodLink "PedalLayers" (185 : Nat) ({ cls := "java/util/ArrayList", name := "size", desc := "()I" } : Jvm.MethodName)) ∈ lw_all := lw_g (lw_at lw_m6 148 rfl) rfl
theorem q1430 : (Jvm.Cond.methodLink "PedalLayers" (190 : Nat) ({ cls := "java/util/ArrayList", name := "get", desc := "(I)Ljava/lang/Object;" } : Jvm.MethodName)) ∈ lw_all := lw_g (lw_at lw_m6 149 rfl) rfl
theorem q1431 : (Jvm.Cond.classLink "PedalLayers" (194 : Nat) "PedalLayers$Layer") ∈ lw_all := lw_g (lw_at lw_m6 150 rfl) rfl
theorem q1432 : (Jvm.Cond.methodLink "PedalLayers" (196 : Nat) ({ cls := "PedalLayers$Layer", name := "length", desc := "()I" } : Jvm.MethodName)) ∈ lw_all := lw_g (lw_at lw_m6 151 rfl) rfl
theorem q1433 : (Jvm.Cond.methodLink "PedalLayers" (197 : Nat) ({ cls := "PedalLayers$Layer", name := "notes", desc := "()I" } : Jvm.MethodName)) ∈ lw_all := lw_g (lw_at lw_m6 152 rfl) rfl
theorem q1437 : (Jvm.Cond.methodLink "PedalLayers" (200 : Nat) ({ cls := "PedalLayers$Layer", name := "sum", desc := "()I" } : Jvm.MethodName)) ∈ lw_all := lw_g (lw_at lw_m6 156 rfl) rfl
theorem q1441 : (Jvm.Cond.methodLink "PedalLayers" (203 : Nat) ({ cls := "PedalLayers$Layer", name := "greatest", desc := "()I" } : Jvm.MethodName)) ∈ lw_all := lw_g (lw_at lw_m6 160 rfl) rfl
theorem q1447 : (Jvm.Cond.instanceMethod ({ cls := "PedalLayers", name := "note", desc := "(III)I" } : Jvm.MethodName)) ∈ lw_all := lw_g (lw_at lw_m6 166 rfl) rfl
theorem q1448 : (Jvm.Cond.selects "PedalLayers" ({ cls := "PedalLayers", name := "note", desc := "(III)I" } : Jvm.MethodName) ({ cls := "PedalLayers", name := "note", desc := "(III)I" } : Jvm.MethodName)) ∈ lw_all := lw_g (lw_at lw_m6 167 rfl) rfl
theorem q1449 : (Jvm.Cond.code ({ cls := "PedalLayers", name := "note", desc := "(III)I" } : Jvm.MethodName) prog_1_method_26_code (4 : Nat) (Option.some Jvm.ClassFile.FieldType.int)) ∈ lw_all := lw_g (lw_at lw_m6 168 rfl) rfl
theorem q1451 : (Jvm.Cond.instanceMethod ({ cls := "PedalLayers", name := "ring", desc := "(II)I" } : Jvm.MethodName)) ∈ lw_all := lw_g (lw_at lw_m6 170 rfl) rfl
theorem q1452 : (Jvm.Cond.selects "PedalLayers" ({ cls := "PedalLayers", name := "ring", desc := "(II)I" } : Jvm.MethodName) ({ cls := "PedalLayers", name := "ring", desc := "(II)I" } : Jvm.MethodName)) ∈ lw_all := lw_g (lw_at lw_m6 171 rfl) rfl
theorem q1453 : (Jvm.Cond.code ({ cls := "PedalLayers", name := "ring", desc := "(II)I" } : Jvm.MethodName) prog_1_method_28_code (3 : Nat) (Option.some Jvm.ClassFile.FieldType.int)) ∈ lw_all := lw_g (lw_at lw_m6 172 rfl) rfl
theorem q1454 : (Jvm.Cond.methodLink "PedalLayers" (218 : Nat) ({ cls := "PedalLayers", name := "isCell", desc := "(I)Z" } : Jvm.MethodName)) ∈ lw_all := lw_g (lw_at lw_m6 173 rfl) rfl
theorem q1455 : (Jvm.Cond.privateMethod ({ cls := "PedalLayers", name := "isCell", desc := "(I)Z" } : Jvm.MethodName)) ∈ lw_tbl := lw_at lw_m6 174 rfl
theorem q1456 : (Jvm.Cond.instanceMethod ({ cls := "PedalLayers", name := "isCell", desc := "(I)Z" } : Jvm.MethodName)) ∈ lw_all := lw_g (lw_at lw_m6 175 rfl) rfl
theorem q1457 : (Jvm.Cond.code ({ cls := "PedalLayers", name := "isCell", desc := "(I)Z" } : Jvm.MethodName) prog_1_method_27_code (2 : Nat) (Option.some Jvm.ClassFile.FieldType.boolean)) ∈ lw_all := lw_g (lw_at lw_m6 176 rfl) rfl
theorem q1458 : (Jvm.Cond.methodLink "PedalLayers" (217 : Nat) ({ cls := "PedalLayers$Pedal", name := "length", desc := "()I" } : Jvm.MethodName)) ∈ lw_all := lw_g (lw_at lw_m6 177 rfl) rfl
theorem q1459 : (Jvm.Cond.methodLink "PedalLayers" (221 : Nat) ({ cls := "PedalLayers$Pedal", name := "ring", desc := "(III)I" } : Jvm.MethodName)) ∈ lw_all := lw_g (lw_at lw_m6 178 rfl) rfl
theorem q1472 : (Jvm.Cond.instanceMethod ({ cls := "PedalLayers", name := "heard", desc := "(II)I" } : Jvm.MethodName)) ∈ lw_all := lw_g (lw_at lw_m6 191 rfl) rfl
theorem q1473 : (Jvm.Cond.selects "PedalLayers" ({ cls := "PedalLayers", name := "heard", desc := "(II)I" } : Jvm.MethodName) ({ cls := "PedalLayers", name := "heard", desc := "(II)I" } : Jvm.MethodName)) ∈ lw_all := lw_g (lw_at lw_m6 192 rfl) rfl
theorem q1474 : (Jvm.Cond.code ({ cls := "PedalLayers", name := "heard", desc := "(II)I" } : Jvm.MethodName) prog_1_method_29_code (3 : Nat) (Option.some Jvm.ClassFile.FieldType.int)) ∈ lw_all := lw_g (lw_at lw_m6 193 rfl) rfl
theorem q1475 : (Jvm.Cond.methodLink "PedalLayers" (225 : Nat) ({ cls := "PedalLayers$Pedal", name := "heardKeys", desc := "(I)I" } : Jvm.MethodName)) ∈ lw_all := lw_g (lw_at lw_m6 194 rfl) rfl
theorem q1480 : (Jvm.Cond.methodLink "PedalLayers" (228 : Nat) ({ cls := "PedalLayers$Pedal", name := "rings", desc := "(II)I" } : Jvm.MethodName)) ∈ lw_all := lw_g (lw_at lw_m6 199 rfl) rfl
theorem q1484 : (Jvm.Cond.methodLink "PedalLayers" (231 : Nat) ({ cls := "PedalLayers$Pedal", name := "highest", desc := "(I)I" } : Jvm.MethodName)) ∈ lw_all := lw_g (lw_at lw_m6 203 rfl) rfl
theorem q1488 : (Jvm.Cond.methodLink "PedalLayers" (234 : Nat) ({ cls := "PedalLayers$Pedal", name := "lowest", desc := "(I)I" } : Jvm.MethodName)) ∈ lw_all := lw_g (lw_at lw_m6 207 rfl) rfl
theorem q1492 : (Jvm.Cond.methodLink "PedalLayers" (237 : Nat) ({ cls := "PedalLayers$Pedal", name := "strongest", desc := "(I)I" } : Jvm.MethodName)) ∈ lw_all := lw_g (lw_at lw_m6 211 rfl) rfl
theorem q1497 : (Jvm.Cond.instanceMethod ({ cls := "PedalLayers", name := "loudest", desc := "()I" } : Jvm.MethodName)) ∈ lw_all := lw_g (lw_at lw_m6 216 rfl) rfl
theorem q1498 : (Jvm.Cond.selects "PedalLayers" ({ cls := "PedalLayers", name := "loudest", desc := "()I" } : Jvm.MethodName) ({ cls := "PedalLayers", name := "loudest", desc := "()I" } : Jvm.MethodName)) ∈ lw_all := lw_g (lw_at lw_m6 217 rfl) rfl
theorem q1499 : (Jvm.Cond.code ({ cls := "PedalLayers", name := "loudest", desc := "()I" } : Jvm.MethodName) prog_1_method_30_code (5 : Nat) (Option.some Jvm.ClassFile.FieldType.int)) ∈ lw_all := lw_g (lw_at lw_m6 218 rfl) rfl
theorem q1500 : (Jvm.Cond.methodLink "PedalLayers" (240 : Nat) ({ cls := "java/util/ArrayList", name := "isEmpty", desc := "()Z" } : Jvm.MethodName)) ∈ lw_all := lw_g (lw_at lw_m6 219 rfl) rfl
theorem q1501 : (Jvm.Cond.methodLink "PedalLayers" (243 : Nat) ({ cls := "java/lang/Math", name := "max", desc := "(II)I" } : Jvm.MethodName)) ∈ lw_all := lw_g (lw_at lw_m6 220 rfl) rfl
theorem q1503 : (Jvm.Cond.instanceMethod ({ cls := "PedalLayers", name := "buried", desc := "()I" } : Jvm.MethodName)) ∈ lw_all := lw_g (lw_at lw_m6 222 rfl) rfl
theorem q1504 : (Jvm.Cond.selects "PedalLayers" ({ cls := "PedalLayers", name := "buried", desc := "()I" } : Jvm.MethodName) ({ cls := "PedalLayers", name := "buried", desc := "()I" } : Jvm.MethodName)) ∈ lw_all := lw_g (lw_at lw_m6 223 rfl) rfl
theorem q1505 : (Jvm.Cond.code ({ cls := "PedalLayers", name := "buried", desc := "()I" } : Jvm.MethodName) prog_1_method_31_code (5 : Nat) (Option.some Jvm.ClassFile.FieldType.int)) ∈ lw_all := lw_g (lw_at lw_m6 224 rfl) rfl
theorem q1506 : (Jvm.Cond.methodLink "PedalLayers" (248 : Nat) ({ cls := "PedalLayers$Pedal", name := "buriedNotes", desc := "(I)I" } : Jvm.MethodName)) ∈ lw_all := lw_g (lw_at lw_m6 225 rfl) rfl
theorem q1511 : (Jvm.Cond.instanceMethod ({ cls := "PedalLayers", name := "tunes", desc := "()I" } : Jvm.MethodName)) ∈ lw_all := lw_g (lw_at lw_m6 230 rfl) rfl
theorem q1512 : (Jvm.Cond.selects "PedalLayers" ({ cls := "PedalLayers", name := "tunes", desc := "()I" } : Jvm.MethodName) ({ cls := "PedalLayers", name := "tunes", desc := "()I" } : Jvm.MethodName)) ∈ lw_all := lw_g (lw_at lw_m6 231 rfl) rfl
theorem q1513 : (Jvm.Cond.codeWith ({ cls := "PedalLayers", name := "tunes", desc := "()I" } : Jvm.MethodName) prog_1_method_32_code (4 : Nat) (Option.some Jvm.ClassFile.FieldType.int) [((0 : Nat), (15 : Nat), (18 : Nat), (127 : Nat))]) ∈ lw_all := lw_g (lw_at lw_m6 232 rfl) rfl
theorem q1514 : (Jvm.Cond.methodLink "PedalLayers" (251 : Nat) ({ cls := "PedalLayers$Pedal", name := "begins", desc := "(Ljava/util/ArrayList;I)Z" } : Jvm.MethodName)) ∈ lw_all := lw_g (lw_at lw_m6 233 rfl) rfl
theorem q1525 : (Jvm.Cond.instanceMethod ({ cls := "PedalLayers", name := "count", desc := "(I)I" } : Jvm.MethodName)) ∈ lw_all := lw_g (lw_at lw_m7 4 rfl) rfl
theorem q1526 : (Jvm.Cond.selects "PedalLayers" ({ cls := "PedalLayers", name := "count", desc := "(I)I" } : Jvm.MethodName) ({ cls := "PedalLayers", name := "count", desc := "(I)I" } : Jvm.MethodName)) ∈ lw_all := lw_g (lw_at lw_m7 5 rfl) rfl
theorem q1527 : (Jvm.Cond.code ({ cls := "PedalLayers", name := "count", desc := "(I)I" } : Jvm.MethodName) prog_1_method_33_code (2 : Nat) (Option.some Jvm.ClassFile.FieldType.int)) ∈ lw_all := lw_g (lw_at lw_m7 6 rfl) rfl
theorem q1528 : (Jvm.Cond.methodLink "PedalLayers" (258 : Nat) ({ cls := "PedalLayers$Pedal", name := "firstLength", desc := "()I" } : Jvm.MethodName)) ∈ lw_all := lw_g (lw_at lw_m7 7 rfl) rfl
theorem q1529 : (Jvm.Cond.methodLink "PedalLayers" (271 : Nat) ({ cls := "PedalLayers$Pedal", name := "inRun", desc := "()Z" } : Jvm.MethodName)) ∈ lw_all := lw_g (lw_at lw_m7 8 rfl) rfl
theorem q1531 : (Jvm.Cond.instanceMethod ({ cls := "PedalLayers", name := "loudness", desc := "()D" } : Jvm.MethodName)) ∈ lw_all := lw_g (lw_at lw_m7 10 rfl) rfl
theorem q1532 : (Jvm.Cond.selects "PedalLayers" ({ cls := "PedalLayers", name := "loudness", desc := "()D" } : Jvm.MethodName) ({ cls := "PedalLayers", name := "loudness", desc := "()D" } : Jvm.MethodName)) ∈ lw_all := lw_g (lw_at lw_m7 11 rfl) rfl
theorem q1533 : (Jvm.Cond.code ({ cls := "PedalLayers", name := "loudness", desc := "()D" } : Jvm.MethodName) prog_1_method_34_code (1 : Nat) (Option.some Jvm.ClassFile.FieldType.double)) ∈ lw_all := lw_g (lw_at lw_m7 12 rfl) rfl
theorem q1534 : (Jvm.Cond.methodLink "PedalLayers" (288 : Nat) ({ cls := "PedalLayers$Pedal", name := "allRings", desc := "(I)I" } : Jvm.MethodName)) ∈ lw_all := lw_g (lw_at lw_m7 13 rfl) rfl
theorem q1540 : (Jvm.Cond.instanceMethod ({ cls := "PedalLayers", name := "barIn", desc := "()I" } : Jvm.MethodName)) ∈ lw_all := lw_g (lw_at lw_m7 19 rfl) rfl
theorem q1541 : (Jvm.Cond.selects "PedalLayers" ({ cls := "PedalLayers", name := "barIn", desc := "()I" } : Jvm.MethodName) ({ cls := "PedalLayers", name := "barIn", desc := "()I" } : Jvm.MethodName)) ∈ lw_all := lw_g (lw_at lw_m7 20 rfl) rfl
theorem q1542 : (Jvm.Cond.code ({ cls := "PedalLayers", name := "barIn", desc := "()I" } : Jvm.MethodName) prog_1_method_36_code (2 : Nat) (Option.some Jvm.ClassFile.FieldType.int)) ∈ lw_all := lw_g (lw_at lw_m7 21 rfl) rfl
theorem q1543 : (Jvm.Cond.methodLink "PedalLayers" (291 : Nat) ({ cls := "PedalLayers", name := "doesPlay", desc := "()Z" } : Jvm.MethodName)) ∈ lw_all := lw_g (lw_at lw_m7 22 rfl) rfl
theorem q1544 : (Jvm.Cond.privateMethod ({ cls := "PedalLayers", name := "doesPlay", desc := "()Z" } : Jvm.MethodName)) ∈ lw_tbl := lw_at lw_m7 23 rfl
theorem q1545 : (Jvm.Cond.instanceMethod ({ cls := "PedalLayers", name := "doesPlay", desc := "()Z" } : Jvm.MethodName)) ∈ lw_all := lw_g (lw_at lw_m7 24 rfl) rfl
theorem q1546 : (Jvm.Cond.code ({ cls := "PedalLayers", name := "doesPlay", desc := "()Z" } : Jvm.MethodName) prog_1_method_35_code (1 : Nat) (Option.some Jvm.ClassFile.FieldType.boolean)) ∈ lw_all := lw_g (lw_at lw_m7 25 rfl) rfl
theorem q1548 : (Jvm.Cond.instanceMethod ({ cls := "PedalLayers", name := "drift", desc := "(I)I" } : Jvm.MethodName)) ∈ lw_all := lw_g (lw_at lw_m7 27 rfl) rfl
theorem q1549 : (Jvm.Cond.selects "PedalLayers" ({ cls := "PedalLayers", name := "drift", desc := "(I)I" } : Jvm.MethodName) ({ cls := "PedalLayers", name := "drift", desc := "(I)I" } : Jvm.MethodName)) ∈ lw_all := lw_g (lw_at lw_m7 28 rfl) rfl
theorem q1550 : (Jvm.Cond.code ({ cls := "PedalLayers", name := "drift", desc := "(I)I" } : Jvm.MethodName) prog_1_method_37_code (4 : Nat) (Option.some Jvm.ClassFile.FieldType.int)) ∈ lw_all := lw_g (lw_at lw_m7 29 rfl) rfl
theorem q1552 : (Jvm.Cond.instanceMethod ({ cls := "PedalLayers", name := "meets", desc := "()I" } : Jvm.MethodName)) ∈ lw_all := lw_g (lw_at lw_m7 31 rfl) rfl
theorem q1553 : (Jvm.Cond.selects "PedalLayers" ({ cls := "PedalLayers", name := "meets", desc := "()I" } : Jvm.MethodName) ({ cls := "PedalLayers", name := "meets", desc := "()I" } : Jvm.MethodName)) ∈ lw_all := lw_g (lw_at lw_m7 32 rfl) rfl
theorem q1554 : (Jvm.Cond.code ({ cls := "PedalLayers", name := "meets", desc := "()I" } : Jvm.MethodName) prog_1_method_38_code (2 : Nat) (Option.some Jvm.ClassFile.FieldType.int)) ∈ lw_all := lw_g (lw_at lw_m7 33 rfl) rfl
theorem q1556 : (Jvm.Cond.instanceMethod ({ cls := "PedalLayers", name := "rounded", desc := "(I)I" } : Jvm.MethodName)) ∈ lw_all := lw_g (lw_at lw_m7 35 rfl) rfl
theorem q1557 : (Jvm.Cond.selects "PedalLayers" ({ cls := "PedalLayers", name := "rounded", desc := "(I)I" } : Jvm.MethodName) ({ cls := "PedalLayers", name := "rounded", desc := "(I)I" } : Jvm.MethodName)) ∈ lw_all := lw_g (lw_at lw_m7 36 rfl) rfl
theorem q1558 : (Jvm.Cond.code ({ cls := "PedalLayers", name := "rounded", desc := "(I)I" } : Jvm.MethodName) prog_1_method_39_code (2 : Nat) (Option.some Jvm.ClassFile.FieldType.int)) ∈ lw_all := lw_g (lw_at lw_m7 37 rfl) rfl
theorem q1559 : (Jvm.Cond.methodLink "PedalLayers" (297 : Nat) ({ cls := "PedalLayers$Pedal", name := "rounded", desc := "(I)I" } : Jvm.MethodName)) ∈ lw_all := lw_g (lw_at lw_m7 38 rfl) rfl
theorem q1561 : (Jvm.Cond.instanceMethod ({ cls := "PedalLayers", name := "silentIn", desc := "()I" } : Jvm.MethodName)) ∈ lw_all := lw_g (lw_at lw_m7 40 rfl) rfl
theorem q1562 : (Jvm.Cond.selects "PedalLayers" ({ cls := "PedalLayers", name := "silentIn", desc := "()I" } : Jvm.MethodName) ({ cls := "PedalLayers", name := "silentIn", desc := "()I" } : Jvm.MethodName)) ∈ lw_all := lw_g (lw_at lw_m7 41 rfl) rfl
theorem q1563 : (Jvm.Cond.code ({ cls := "PedalLayers", name := "silentIn", desc := "()I" } : Jvm.MethodName) prog_1_method_40_code (3 : Nat) (Option.some Jvm.ClassFile.FieldType.int)) ∈ lw_all := lw_g (lw_at lw_m7 42 rfl) rfl
theorem q1564 : (Jvm.Cond.methodLink "PedalLayers" (300 : Nat) ({ cls := "PedalLayers$Pedal", name := "isSilent", desc := "()Z" } : Jvm.MethodName)) ∈ lw_all := lw_g (lw_at lw_m7 43 rfl) rfl
theorem q1572 : (Jvm.Cond.methodLink "PedalLayers" (303 : Nat) ({ cls := "PedalLayers$Pedal", name := "fadesAll", desc := "()V" } : Jvm.MethodName)) ∈ lw_all := lw_g (lw_at lw_m7 51 rfl) rfl
theorem q1577 : (Jvm.Cond.instanceMethod ({ cls := "PedalLayers", name := "ifPeeled", desc := "(II)I" } : Jvm.MethodName)) ∈ lw_all := lw_g (lw_at lw_m7 56 rfl) rfl
theorem q1578 : (Jvm.Cond.selects "PedalLayers" ({ cls := "PedalLayers", name := "ifPeeled", desc := "(II)I" } : Jvm.MethodName) ({ cls := "PedalLayers", name := "ifPeeled", desc := "(II)I" } : Jvm.MethodName)) ∈ lw_all := lw_g (lw_at lw_m7 57 rfl) rfl
theorem q1579 : (Jvm.Cond.code ({ cls := "PedalLayers", name := "ifPeeled", desc := "(II)I" } : Jvm.MethodName) prog_1_method_41_code (3 : Nat) (Option.some Jvm.ClassFile.FieldType.int)) ∈ lw_all := lw_g (lw_at lw_m7 58 rfl) rfl
theorem q1580 : (Jvm.Cond.methodLink "PedalLayers" (306 : Nat) ({ cls := "PedalLayers$Pedal", name := "lengthOf", desc := "(I)I" } : Jvm.MethodName)) ∈ lw_all := lw_g (lw_at lw_m7 59 rfl) rfl
theorem q1581 : (Jvm.Cond.methodLink "PedalLayers" (309 : Nat) ({ cls := "PedalLayers$Pedal", name := "silentCells", desc := "(I)I" } : Jvm.MethodName)) ∈ lw_all := lw_g (lw_at lw_m7 60 rfl) rfl
theorem q1583 : (Jvm.Cond.instanceMethod ({ cls := "PedalLayers", name := "undo", desc := "()I" } : Jvm.MethodName)) ∈ lw_all := lw_g (lw_at lw_m7 62 rfl) rfl
theorem q1584 : (Jvm.Cond.selects "PedalLayers" ({ cls := "PedalLayers", name := "undo", desc := "()I" } : Jvm.MethodName) ({ cls := "PedalLayers", name := "undo", desc := "()I" } : Jvm.MethodName)) ∈ lw_all := lw_g (lw_at lw_m7 63 rfl) rfl
theorem q1585 : (Jvm.Cond.code ({ cls := "PedalLayers", name := "undo", desc := "()I" } : Jvm.MethodName) prog_1_method_42_code (1 : Nat) (Option.some Jvm.ClassFile.FieldType.int)) ∈ lw_all := lw_g (lw_at lw_m7 64 rfl) rfl
theorem q1586 : (Jvm.Cond.methodLink "PedalLayers" (312 : Nat) ({ cls := "java/util/LinkedList", name := "isEmpty", desc := "()Z" } : Jvm.MethodName)) ∈ lw_all := lw_g (lw_at lw_m7 65 rfl) rfl
theorem q1587 : (Jvm.Cond.methodLink "PedalLayers" (313 : Nat) ({ cls := "java/util/LinkedList", name := "removeLast", desc := "()Ljava/lang/Object;" } : Jvm.MethodName)) ∈ lw_all := lw_g (lw_at lw_m7 66 rfl) rfl
theorem q1596 : (Jvm.Cond.instanceMethod ({ cls := "PedalLayers", name := "save", desc := "()I" } : Jvm.MethodName)) ∈ lw_all := lw_g (lw_at lw_m7 75 rfl) rfl
theorem q1597 : (Jvm.Cond.selects "PedalLayers" ({ cls := "PedalLayers", name := "save", desc := "()I" } : Jvm.MethodName) ({ cls := "PedalLayers", name := "save", desc := "()I" } : Jvm.MethodName)) ∈ lw_all := lw_g (lw_at lw_m7 76 rfl) rfl
theorem q1598 : (Jvm.Cond.code ({ cls := "PedalLayers", name := "save", desc := "()I" } : Jvm.MethodName) prog_1_method_43_code (1 : Nat) (Option.some Jvm.ClassFile.FieldType.int)) ∈ lw_all := lw_g (lw_at lw_m7 77 rfl) rfl
theorem q1600 : (Jvm.Cond.instanceMethod ({ cls := "PedalLayers", name := "restore", desc := "()I" } : Jvm.MethodName)) ∈ lw_all := lw_g (lw_at lw_m7 79 rfl) rfl
theorem q1601 : (Jvm.Cond.selects "PedalLayers" ({ cls := "PedalLayers", name := "restore", desc := "()I" } : Jvm.MethodName) ({ cls := "PedalLayers", name := "restore", desc := "()I" } : Jvm.MethodName)) ∈ lw_all := lw_g (lw_at lw_m7 80 rfl) rfl
theorem q1602 : (Jvm.Cond.code ({ cls := "PedalLayers", name := "restore", desc := "()I" } : Jvm.MethodName) prog_1_method_44_code (1 : Nat) (Option.some Jvm.ClassFile.FieldType.int)) ∈ lw_all := lw_g (lw_at lw_m7 81 rfl) rfl
theorem q1998 : (Jvm.Cond.castable "PedalLayers" "java/lang/Object") ∈ lw_tbl := lw_at lw_m8 237 rfl
theorem in_X0 : ∀ w ∈ wsX00, w ∈ lw_all := lw_in wsX00 [280, 282, 284, 286, 288] (by decide +kernel) (by decide +kernel)
/-! PedalLayers$Pedal -/
set_option maxRecDepth 100000
def RX1 : String := "PedalLayers$Pedal"
def TX1 : u_T := fun k => match k with
  | 0 => ("PedalLayers$Pedal", "mode", "I", false)
  | 1 => ("PedalLayers$Pedal", "layers", "Ljava/util/ArrayList;", false)
  | 2 => ("PedalLayers$Pedal", "drawer", "Ljava/util/LinkedList;", false)
  | 3 => ("PedalLayers$Pedal", "place", "I", false)
  | 4 => ("PedalLayers$Pedal", "passes", "I", false)
  | 5 => ("PedalLayers$Pedal", "played", "I", false)
  | 6 => ("PedalLayers$Pedal", "isHalf", "I", false)
  | 7 => ("PedalLayers$Pedal", "laid", "I", false)
  | 8 => ("PedalLayers$Pedal", "settings", "[I", false)
  | 9 => ("PedalLayers$Pedal", "begin", "I", false)
  | 10 => ("PedalLayers$Pedal", "halves", "I", false)
  | _ => ("PedalLayers$Pedal", "take", "LPedalLayers$Layer;", false)
def tyX1 : Nat → FieldType := fun k => match k with
  | 0 => .int
  | 1 => .object "java/util/ArrayList"
  | 2 => .object "java/util/LinkedList"
  | 3 => .int
  | 4 => .int
  | 5 => .int
  | 6 => .int
  | 7 => .int
  | 8 => .array .int
  | 9 => .int
  | 10 => .int
  | _ => .object "PedalLayers$Layer"
abbrev wsX10 : List Cond := u_ws RX1 TX1 12
theorem nmX1 : ∀ a, a < 12 → ∀ b, b < 12 → a ≠ b → (TX1 a).2.1 ≠ (TX1 b).2.1 := by decide +kernel
theorem tyX1_ok : ∀ k, k < 12 → parseFieldDescriptor (TX1 k).2.2.1 = some (tyX1 k) := by decide +kernel
abbrev cX1_init : ByteArray := prog_6_method_1_code
def yX1_init : MethodName := ⟨RX1, "<init>", "()V"⟩
def dkwX1_init_2 : List UInt8 := [181, 0, 29, 177]
abbrev dktX1_init_2 : List UInt8 := dkwX1_init_2 ++ []
def dkwX1_init_1 : List UInt8 := [89, 183, 0, 24, 181, 0, 25, 42, 6, 188, 10, 89, 3, 16, 8, 79, 89, 4, 4, 79, 89, 5, 3, 79]
abbrev dktX1_init_1 : List UInt8 := dkwX1_init_1 ++ dktX1_init_2
def dkwX1_init_0 : List UInt8 := [42, 183, 0, 3, 42, 3, 181, 0, 9, 42, 187, 0, 15, 89, 183, 0, 17, 181, 0, 18, 42, 187, 0, 22]
abbrev dktX1_init_0 : List UInt8 := dkwX1_init_0 ++ dktX1_init_1
theorem dksX1_init_0 : cX1_init.data.toList.drop 0 = dktX1_init_0 := by decide +kernel
theorem dksX1_init_1 : cX1_init.data.toList.drop 24 = dktX1_init_1 := dk_seg dksX1_init_0 24 rfl rfl
theorem dksX1_init_2 : cX1_init.data.toList.drop 48 = dktX1_init_2 := dk_seg dksX1_init_1 24 rfl rfl
theorem dX1_init_0 : decode cX1_init 0 = .ok (.aload_n 0, 1) := dk_42 (dk_at dksX1_init_0 0 rfl rfl)
theorem dX1_init_1 : decode cX1_init 1 = .ok (.invokespecial 3, 3) := dk_183 0 3 (dk_at dksX1_init_0 1 rfl rfl)
theorem dX1_init_4 : decode cX1_init 4 = .ok (.aload_n 0, 1) := dk_42 (dk_at dksX1_init_0 4 rfl rfl)
theorem dX1_init_5 : decode cX1_init 5 = .ok (.iconst 0, 1) := dk_3 (dk_at dksX1_init_0 5 rfl rfl)
theorem dX1_init_6 : decode cX1_init 6 = .ok (.putfield 9, 3) := dk_181 0 9 (dk_at dksX1_init_0 6 rfl rfl)
theorem dX1_init_9 : decode cX1_init 9 = .ok (.aload_n 0, 1) := dk_42 (dk_at dksX1_init_0 9 rfl rfl)
theorem dX1_init_10 : decode cX1_init 10 = .ok (.new 15, 3) := dk_187 0 15 (dk_at dksX1_init_0 10 rfl rfl)
theorem dX1_init_13 : decode cX1_init 13 = .ok (.dup, 1) := dk_89 (dk_at dksX1_init_0 13 rfl rfl)
theorem dX1_init_14 : decode cX1_init 14 = .ok (.invokespecial 17, 3) := dk_183 0 17 (dk_at dksX1_init_0 14 rfl rfl)
theorem dX1_init_17 : decode cX1_init 17 = .ok (.putfield 18, 3) := dk_181 0 18 (dk_at dksX1_init_0 17 rfl rfl)
theorem dX1_init_20 : decode cX1_init 20 = .ok (.aload_n 0, 1) := dk_42 (dk_at dksX1_init_0 20 rfl rfl)
theorem dX1_init_21 : decode cX1_init 21 = .ok (.new 22, 3) := dk_187 0 22 (dk_at dksX1_init_0 21 rfl rfl)
theorem dX1_init_24 : decode cX1_init 24 = .ok (.dup, 1) := dk_89 (dk_at dksX1_init_1 0 rfl rfl)
theorem dX1_init_25 : decode cX1_init 25 = .ok (.invokespecial 24, 3) := dk_183 0 24 (dk_at dksX1_init_1 1 rfl rfl)
theorem dX1_init_28 : decode cX1_init 28 = .ok (.putfield 25, 3) := dk_181 0 25 (dk_at dksX1_init_1 4 rfl rfl)
theorem dX1_init_31 : decode cX1_init 31 = .ok (.aload_n 0, 1) := dk_42 (dk_at dksX1_init_1 7 rfl rfl)
theorem dX1_init_32 : decode cX1_init 32 = .ok (.iconst 3, 1) := dk_6 (dk_at dksX1_init_1 8 rfl rfl)
theorem dX1_init_33 : decode cX1_init 33 = .ok (.newarray .int, 2) := dk_188_10 (dk_at dksX1_init_1 9 rfl rfl)
theorem dX1_init_35 : decode cX1_init 35 = .ok (.dup, 1) := dk_89 (dk_at dksX1_init_1 11 rfl rfl)
theorem dX1_init_36 : decode cX1_init 36 = .ok (.iconst 0, 1) := dk_3 (dk_at dksX1_init_1 12 rfl rfl)
theorem dX1_init_37 : decode cX1_init 37 = .ok (.bipush 8, 2) := dk_16 8 (dk_at dksX1_init_1 13 rfl rfl)
theorem dX1_init_39 : decode cX1_init 39 = .ok (.iastore, 1) := dk_79 (dk_at dksX1_init_1 15 rfl rfl)
theorem dX1_init_40 : decode cX1_init 40 = .ok (.dup, 1) := dk_89 (dk_at dksX1_init_1 16 rfl rfl)
theorem dX1_init_41 : decode cX1_init 41 = .ok (.iconst 1, 1) := dk_4 (dk_at dksX1_init_1 17 rfl rfl)
theorem dX1_init_42 : decode cX1_init 42 = .ok (.iconst 1, 1) := dk_4 (dk_at dksX1_init_1 18 rfl rfl)
theorem dX1_init_43 : decode cX1_init 43 = .ok (.iastore, 1) := dk_79 (dk_at dksX1_init_1 19 rfl rfl)
theorem dX1_init_44 : decode cX1_init 44 = .ok (.dup, 1) := dk_89 (dk_at dksX1_init_1 20 rfl rfl)
theorem dX1_init_45 : decode cX1_init 45 = .ok (.iconst 2, 1) := dk_5 (dk_at dksX1_init_1 21 rfl rfl)
theorem dX1_init_46 : decode cX1_init 46 = .ok (.iconst 0, 1) := dk_3 (dk_at dksX1_init_1 22 rfl rfl)
theorem dX1_init_47 : decode cX1_init 47 = .ok (.iastore, 1) := dk_79 (dk_at dksX1_init_1 23 rfl rfl)
theorem dX1_init_48 : decode cX1_init 48 = .ok (.putfield 29, 3) := dk_181 0 29 (dk_at dksX1_init_2 0 rfl rfl)
theorem dX1_init_51 : decode cX1_init 51 = .ok (.return_, 1) := dk_177 (dk_at dksX1_init_2 3 rfl rfl)
abbrev cX1_copy : ByteArray := prog_6_method_2_code
def yX1_copy : MethodName := ⟨RX1, "copy", "()LPedalLayers$Pedal;"⟩
def dkwX1_copy_8 : List UInt8 := [181, 0, 88, 43, 176]
abbrev dktX1_copy_8 : List UInt8 := dkwX1_copy_8 ++ []
def dkwX1_copy_7 : List UInt8 := [181, 0, 85, 43, 42, 180, 0, 88, 199, 0, 7, 1, 167, 0, 10, 42, 180, 0, 88, 182, 0, 50]
abbrev dktX1_copy_7 : List UInt8 := dkwX1_copy_7 ++ dktX1_copy_8
def dkwX1_copy_6 : List UInt8 := [182, 0, 78, 192, 0, 79, 181, 0, 29, 43, 42, 180, 0, 82, 181, 0, 82, 43, 42, 180, 0, 85]
abbrev dktX1_copy_6 : List UInt8 := dkwX1_copy_6 ++ dktX1_copy_7
def dkwX1_copy_5 : List UInt8 := [181, 0, 69, 43, 42, 180, 0, 72, 181, 0, 72, 43, 42, 180, 0, 75, 181, 0, 75, 43, 42, 180, 0, 29]
abbrev dktX1_copy_5 : List UInt8 := dkwX1_copy_5 ++ dktX1_copy_6
def dkwX1_copy_4 : List UInt8 := [167, 255, 226, 43, 42, 180, 0, 63, 181, 0, 63, 43, 42, 180, 0, 66, 181, 0, 66, 43, 42, 180, 0, 69]
abbrev dktX1_copy_4 : List UInt8 := dkwX1_copy_4 ++ dktX1_copy_5
def dkwX1_copy_3 : List UInt8 := [153, 0, 27, 44, 185, 0, 44, 1, 0, 192, 0, 48, 78, 43, 180, 0, 25, 45, 182, 0, 50, 182, 0, 59]
abbrev dktX1_copy_3 : List UInt8 := dkwX1_copy_3 ++ dktX1_copy_4
def dkwX1_copy_2 : List UInt8 := [182, 0, 50, 182, 0, 54, 87, 167, 255, 225, 42, 180, 0, 25, 182, 0, 58, 77, 44, 185, 0, 38, 1, 0]
abbrev dktX1_copy_2 : List UInt8 := dkwX1_copy_2 ++ dktX1_copy_3
def dkwX1_copy_1 : List UInt8 := [44, 185, 0, 38, 1, 0, 153, 0, 28, 44, 185, 0, 44, 1, 0, 192, 0, 48, 78, 43, 180, 0, 18, 45]
abbrev dktX1_copy_1 : List UInt8 := dkwX1_copy_1 ++ dktX1_copy_2
def dkwX1_copy_0 : List UInt8 := [187, 0, 10, 89, 183, 0, 33, 76, 43, 42, 180, 0, 9, 181, 0, 9, 42, 180, 0, 18, 182, 0, 34, 77]
abbrev dktX1_copy_0 : List UInt8 := dkwX1_copy_0 ++ dktX1_copy_1
theorem dksX1_copy_0 : cX1_copy.data.toList.drop 0 = dktX1_copy_0 := by decide +kernel
theorem dksX1_copy_1 : cX1_copy.data.toList.drop 24 = dktX1_copy_1 := dk_seg dksX1_copy_0 24 rfl rfl
theorem dksX1_copy_2 : cX1_copy.data.toList.drop 48 = dktX1_copy_2 := dk_seg dksX1_copy_1 24 rfl rfl
theorem dksX1_copy_3 : cX1_copy.data.toList.drop 72 = dktX1_copy_3 := dk_seg dksX1_copy_2 24 rfl rfl
theorem dksX1_copy_4 : cX1_copy.data.toList.drop 96 = dktX1_copy_4 := dk_seg dksX1_copy_3 24 rfl rfl
theorem dksX1_copy_5 : cX1_copy.data.toList.drop 120 = dktX1_copy_5 := dk_seg dksX1_copy_4 24 rfl rfl
theorem dksX1_copy_6 : cX1_copy.data.toList.drop 144 = dktX1_copy_6 := dk_seg dksX1_copy_5 24 rfl rfl
theorem dksX1_copy_7 : cX1_copy.data.toList.drop 166 = dktX1_copy_7 := dk_seg dksX1_copy_6 22 rfl rfl
theorem dksX1_copy_8 : cX1_copy.data.toList.drop 188 = dktX1_copy_8 := dk_seg dksX1_copy_7 22 rfl rfl
theorem dX1_copy_0 : decode cX1_copy 0 = .ok (.new 10, 3) := dk_187 0 10 (dk_at dksX1_copy_0 0 rfl rfl)
theorem dX1_copy_3 : decode cX1_copy 3 = .ok (.dup, 1) := dk_89 (dk_at dksX1_copy_0 3 rfl rfl)
theorem dX1_copy_4 : decode cX1_copy 4 = .ok (.invokespecial 33, 3) := dk_183 0 33 (dk_at dksX1_copy_0 4 rfl rfl)
theorem dX1_copy_7 : decode cX1_copy 7 = .ok (.astore_n 1, 1) := dk_76 (dk_at dksX1_copy_0 7 rfl rfl)
theorem dX1_copy_8 : decode cX1_copy 8 = .ok (.aload_n 1, 1) := dk_43 (dk_at dksX1_copy_0 8 rfl rfl)
theorem dX1_copy_9 : decode cX1_copy 9 = .ok (.aload_n 0, 1) := dk_42 (dk_at dksX1_copy_0 9 rfl rfl)
theorem dX1_copy_10 : decode cX1_copy 10 = .ok (.getfield 9, 3) := dk_180 0 9 (dk_at dksX1_copy_0 10 rfl rfl)
theorem dX1_copy_13 : decode cX1_copy 13 = .ok (.putfield 9, 3) := dk_181 0 9 (dk_at dksX1_copy_0 13 rfl rfl)
theorem dX1_copy_16 : decode cX1_copy 16 = .ok (.aload_n 0, 1) := dk_42 (dk_at dksX1_copy_0 16 rfl rfl)
theorem dX1_copy_17 : decode cX1_copy 17 = .ok (.getfield 18, 3) := dk_180 0 18 (dk_at dksX1_copy_0 17 rfl rfl)
theorem dX1_copy_20 : decode cX1_copy 20 = .ok (.invokevirtual 34, 3) := dk_182 0 34 (dk_at dksX1_copy_0 20 rfl rfl)
theorem dX1_copy_23 : decode cX1_copy 23 = .ok (.astore_n 2, 1) := dk_77 (dk_at dksX1_copy_0 23 rfl rfl)
theorem dX1_copy_24 : decode cX1_copy 24 = .ok (.aload_n 2, 1) := dk_44 (dk_at dksX1_copy_1 0 rfl rfl)
theorem dX1_copy_25 : decode cX1_copy 25 = .ok (.invokeinterface 38 1, 5) := by decide +kernel
theorem dX1_copy_30 : decode cX1_copy 30 = .ok (.ifCond .eq 28, 3) := dk_153 0 28 (dk_at dksX1_copy_1 6 rfl rfl)
theorem dX1_copy_33 : decode cX1_copy 33 = .ok (.aload_n 2, 1) := dk_44 (dk_at dksX1_copy_1 9 rfl rfl)
theorem dX1_copy_34 : decode cX1_copy 34 = .ok (.invokeinterface 44 1, 5) := by decide +kernel
theorem dX1_copy_39 : decode cX1_copy 39 = .ok (.checkcast 48, 3) := dk_192 0 48 (dk_at dksX1_copy_1 15 rfl rfl)
theorem dX1_copy_42 : decode cX1_copy 42 = .ok (.astore_n 3, 1) := dk_78 (dk_at dksX1_copy_1 18 rfl rfl)
theorem dX1_copy_43 : decode cX1_copy 43 = .ok (.aload_n 1, 1) := dk_43 (dk_at dksX1_copy_1 19 rfl rfl)
theorem dX1_copy_44 : decode cX1_copy 44 = .ok (.getfield 18, 3) := dk_180 0 18 (dk_at dksX1_copy_1 20 rfl rfl)
theorem dX1_copy_47 : decode cX1_copy 47 = .ok (.aload_n 3, 1) := dk_45 (dk_at dksX1_copy_1 23 rfl rfl)
theorem dX1_copy_48 : decode cX1_copy 48 = .ok (.invokevirtual 50, 3) := dk_182 0 50 (dk_at dksX1_copy_2 0 rfl rfl)
theorem dX1_copy_51 : decode cX1_copy 51 = .ok (.invokevirtual 54, 3) := dk_182 0 54 (dk_at dksX1_copy_2 3 rfl rfl)
theorem dX1_copy_54 : decode cX1_copy 54 = .ok (.pop, 1) := dk_87 (dk_at dksX1_copy_2 6 rfl rfl)
theorem dX1_copy_55 : decode cX1_copy 55 = .ok (.goto (-31), 3) := dk_167 255 225 (dk_at dksX1_copy_2 7 rfl rfl)
theorem dX1_copy_58 : decode cX1_copy 58 = .ok (.aload_n 0, 1) := dk_42 (dk_at dksX1_copy_2 10 rfl rfl)
theorem dX1_copy_59 : decode cX1_copy 59 = .ok (.getfield 25, 3) := dk_180 0 25 (dk_at dksX1_copy_2 11 rfl rfl)
theorem dX1_copy_62 : decode cX1_copy 62 = .ok (.invokevirtual 58, 3) := dk_182 0 58 (dk_at dksX1_copy_2 14 rfl rfl)
theorem dX1_copy_65 : decode cX1_copy 65 = .ok (.astore_n 2, 1) := dk_77 (dk_at dksX1_copy_2 17 rfl rfl)
theorem dX1_copy_66 : decode cX1_copy 66 = .ok (.aload_n 2, 1) := dk_44 (dk_at dksX1_copy_2 18 rfl rfl)
theorem dX1_copy_67 : decode cX1_copy 67 = .ok (.invokeinterface 38 1, 5) := by decide +kernel
theorem dX1_copy_72 : decode cX1_copy 72 = .ok (.ifCond .eq 27, 3) := dk_153 0 27 (dk_at dksX1_copy_3 0 rfl rfl)
theorem dX1_copy_75 : decode cX1_copy 75 = .ok (.aload_n 2, 1) := dk_44 (dk_at dksX1_copy_3 3 rfl rfl)
theorem dX1_copy_76 : decode cX1_copy 76 = .ok (.invokeinterface 44 1, 5) := by decide +kernel
theorem dX1_copy_81 : decode cX1_copy 81 = .ok (.checkcast 48, 3) := dk_192 0 48 (dk_at dksX1_copy_3 9 rfl rfl)
theorem dX1_copy_84 : decode cX1_copy 84 = .ok (.astore_n 3, 1) := dk_78 (dk_at dksX1_copy_3 12 rfl rfl)
theorem dX1_copy_85 : decode cX1_copy 85 = .ok (.aload_n 1, 1) := dk_43 (dk_at dksX1_copy_3 13 rfl rfl)
theorem dX1_copy_86 : decode cX1_copy 86 = .ok (.getfield 25, 3) := dk_180 0 25 (dk_at dksX1_copy_3 14 rfl rfl)
theorem dX1_copy_89 : decode cX1_copy 89 = .ok (.aload_n 3, 1) := dk_45 (dk_at dksX1_copy_3 17 rfl rfl)
theorem dX1_copy_90 : decode cX1_copy 90 = .ok (.invokevirtual 50, 3) := dk_182 0 50 (dk_at dksX1_copy_3 18 rfl rfl)
theorem dX1_copy_93 : decode cX1_copy 93 = .ok (.invokevirtual 59, 3) := dk_182 0 59 (dk_at dksX1_copy_3 21 rfl rfl)
theorem dX1_copy_96 : decode cX1_copy 96 = .ok (.goto (-30), 3) := dk_167 255 226 (dk_at dksX1_copy_4 0 rfl rfl)
theorem dX1_copy_99 : decode cX1_copy 99 = .ok (.aload_n 1, 1) := dk_43 (dk_at dksX1_copy_4 3 rfl rfl)
theorem dX1_copy_100 : decode cX1_copy 100 = .ok (.aload_n 0, 1) := dk_42 (dk_at dksX1_copy_4 4 rfl rfl)
theorem dX1_copy_101 : decode cX1_copy 101 = .ok (.getfield 63, 3) := dk_180 0 63 (dk_at dksX1_copy_4 5 rfl rfl)
theorem dX1_copy_104 : decode cX1_copy 104 = .ok (.putfield 63, 3) := dk_181 0 63 (dk_at dksX1_copy_4 8 rfl rfl)
theorem dX1_copy_107 : decode cX1_copy 107 = .ok (.aload_n 1, 1) := dk_43 (dk_at dksX1_copy_4 11 rfl rfl)
theorem dX1_copy_108 : decode cX1_copy 108 = .ok (.aload_n 0, 1) := dk_42 (dk_at dksX1_copy_4 12 rfl rfl)
theorem dX1_copy_109 : decode cX1_copy 109 = .ok (.getfield 66, 3) := dk_180 0 66 (dk_at dksX1_copy_4 13 rfl rfl)
theorem dX1_copy_112 : decode cX1_copy 112 = .ok (.putfield 66, 3) := dk_181 0 66 (dk_at dksX1_copy_4 16 rfl rfl)
theorem dX1_copy_115 : decode cX1_copy 115 = .ok (.aload_n 1, 1) := dk_43 (dk_at dksX1_copy_4 19 rfl rfl)
theorem dX1_copy_116 : decode cX1_copy 116 = .ok (.aload_n 0, 1) := dk_42 (dk_at dksX1_copy_4 20 rfl rfl)
theorem dX1_copy_117 : decode cX1_copy 117 = .ok (.getfield 69, 3) := dk_180 0 69 (dk_at dksX1_copy_4 21 rfl rfl)
theorem dX1_copy_120 : decode cX1_copy 120 = .ok (.putfield 69, 3) := dk_181 0 69 (dk_at dksX1_copy_5 0 rfl rfl)
theorem dX1_copy_123 : decode cX1_copy 123 = .ok (.aload_n 1, 1) := dk_43 (dk_at dksX1_copy_5 3 rfl rfl)
theorem dX1_copy_124 : decode cX1_copy 124 = .ok (.aload_n 0, 1) := dk_42 (dk_at dksX1_copy_5 4 rfl rfl)
theorem dX1_copy_125 : decode cX1_copy 125 = .ok (.getfield 72, 3) := dk_180 0 72 (dk_at dksX1_copy_5 5 rfl rfl)
theorem dX1_copy_128 : decode cX1_copy 128 = .ok (.putfield 72, 3) := dk_181 0 72 (dk_at dksX1_copy_5 8 rfl rfl)
theorem dX1_copy_131 : decode cX1_copy 131 = .ok (.aload_n 1, 1) := dk_43 (dk_at dksX1_copy_5 11 rfl rfl)
theorem dX1_copy_132 : decode cX1_copy 132 = .ok (.aload_n 0, 1) := dk_42 (dk_at dksX1_copy_5 12 rfl rfl)
theorem dX1_copy_133 : decode cX1_copy 133 = .ok (.getfield 75, 3) := dk_180 0 75 (dk_at dksX1_copy_5 13 rfl rfl)
theorem dX1_copy_136 : decode cX1_copy 136 = .ok (.putfield 75, 3) := dk_181 0 75 (dk_at dksX1_copy_5 16 rfl rfl)
theorem dX1_copy_139 : decode cX1_copy 139 = .ok (.aload_n 1, 1) := dk_43 (dk_at dksX1_copy_5 19 rfl rfl)
theorem dX1_copy_140 : decode cX1_copy 140 = .ok (.aload_n 0, 1) := dk_42 (dk_at dksX1_copy_5 20 rfl rfl)
theorem dX1_copy_141 : decode cX1_copy 141 = .ok (.getfield 29, 3) := dk_180 0 29 (dk_at dksX1_copy_5 21 rfl rfl)
theorem dX1_copy_144 : decode cX1_copy 144 = .ok (.invokevirtual 78, 3) := dk_182 0 78 (dk_at dksX1_copy_6 0 rfl rfl)
theorem dX1_copy_147 : decode cX1_copy 147 = .ok (.checkcast 79, 3) := dk_192 0 79 (dk_at dksX1_copy_6 3 rfl rfl)
theorem dX1_copy_150 : decode cX1_copy 150 = .ok (.putfield 29, 3) := dk_181 0 29 (dk_at dksX1_copy_6 6 rfl rfl)
theorem dX1_copy_153 : decode cX1_copy 153 = .ok (.aload_n 1, 1) := dk_43 (dk_at dksX1_copy_6 9 rfl rfl)
theorem dX1_copy_154 : decode cX1_copy 154 = .ok (.aload_n 0, 1) := dk_42 (dk_at dksX1_copy_6 10 rfl rfl)
theorem dX1_copy_155 : decode cX1_copy 155 = .ok (.getfield 82, 3) := dk_180 0 82 (dk_at dksX1_copy_6 11 rfl rfl)
theorem dX1_copy_158 : decode cX1_copy 158 = .ok (.putfield 82, 3) := dk_181 0 82 (dk_at dksX1_copy_6 14 rfl rfl)
theorem dX1_copy_161 : decode cX1_copy 161 = .ok (.aload_n 1, 1) := dk_43 (dk_at dksX1_copy_6 17 rfl rfl)
theorem dX1_copy_162 : decode cX1_copy 162 = .ok (.aload_n 0, 1) := dk_42 (dk_at dksX1_copy_6 18 rfl rfl)
theorem dX1_copy_163 : decode cX1_copy 163 = .ok (.getfield 85, 3) := dk_180 0 85 (dk_at dksX1_copy_6 19 rfl rfl)
theorem dX1_copy_166 : decode cX1_copy 166 = .ok (.putfield 85, 3) := dk_181 0 85 (dk_at dksX1_copy_7 0 rfl rfl)
theorem dX1_copy_169 : decode cX1_copy 169 = .ok (.aload_n 1, 1) := dk_43 (dk_at dksX1_copy_7 3 rfl rfl)
theorem dX1_copy_170 : decode cX1_copy 170 = .ok (.aload_n 0, 1) := dk_42 (dk_at dksX1_copy_7 4 rfl rfl)
theorem dX1_copy_171 : decode cX1_copy 171 = .ok (.getfield 88, 3) := dk_180 0 88 (dk_at dksX1_copy_7 5 rfl rfl)
theorem dX1_copy_174 : decode cX1_copy 174 = .ok (.ifnonnull 7, 3) := dk_199 0 7 (dk_at dksX1_copy_7 8 rfl rfl)
theorem dX1_copy_177 : decode cX1_copy 177 = .ok (.aconst_null, 1) := dk_1 (dk_at dksX1_copy_7 11 rfl rfl)
theorem dX1_copy_178 : decode cX1_copy 178 = .ok (.goto 10, 3) := dk_167 0 10 (dk_at dksX1_copy_7 12 rfl rfl)
theorem dX1_copy_181 : decode cX1_copy 181 = .ok (.aload_n 0, 1) := dk_42 (dk_at dksX1_copy_7 15 rfl rfl)
theorem dX1_copy_182 : decode cX1_copy 182 = .ok (.getfield 88, 3) := dk_180 0 88 (dk_at dksX1_copy_7 16 rfl rfl)
theorem dX1_copy_185 : decode cX1_copy 185 = .ok (.invokevirtual 50, 3) := dk_182 0 50 (dk_at dksX1_copy_7 19 rfl rfl)
theorem dX1_copy_188 : decode cX1_copy 188 = .ok (.putfield 88, 3) := dk_181 0 88 (dk_at dksX1_copy_8 0 rfl rfl)
theorem dX1_copy_191 : decode cX1_copy 191 = .ok (.aload_n 1, 1) := dk_43 (dk_at dksX1_copy_8 3 rfl rfl)
theorem dX1_copy_192 : decode cX1_copy 192 = .ok (.areturn, 1) := dk_176 (dk_at dksX1_copy_8 4 rfl rfl)
abbrev cX1_presses : ByteArray := prog_6_method_13_code
def yX1_presses : MethodName := ⟨RX1, "presses", "()I"⟩
def dkwX1_presses_6 : List UInt8 := [42, 182, 0, 142, 42, 180, 0, 9, 172]
abbrev dktX1_presses_6 : List UInt8 := dkwX1_presses_6 ++ []
def dkwX1_presses_5 : List UInt8 := [5, 42, 182, 0, 145, 104, 182, 0, 159, 42, 6, 181, 0, 9, 167, 0, 14, 42, 182, 0, 169, 167, 0, 7]
abbrev dktX1_presses_5 : List UInt8 := dkwX1_presses_5 ++ dktX1_presses_6
def dkwX1_presses_4 : List UInt8 := [180, 0, 18, 182, 0, 109, 16, 6, 160, 0, 11, 187, 0, 166, 89, 183, 0, 168, 191, 42, 42, 180, 0, 63]
abbrev dktX1_presses_4 : List UInt8 := dkwX1_presses_4 ++ dktX1_presses_5
def dkwX1_presses_3 : List UInt8 := [42, 3, 16, 24, 182, 0, 159, 42, 4, 181, 0, 9, 167, 0, 63, 42, 182, 0, 163, 167, 0, 56, 42]
abbrev dktX1_presses_3 : List UInt8 := dkwX1_presses_3 ++ dktX1_presses_4
def dkwX1_presses_2 : List UInt8 := [170, 0, 0, 0, 0, 101, 0, 0, 0, 0, 0, 0, 0, 3, 0, 0, 0, 30, 0, 0, 0, 45, 0, 0, 0, 52, 0, 0, 0, 94]
abbrev dktX1_presses_2 : List UInt8 := dkwX1_presses_2 ++ dktX1_presses_3
def dkwX1_presses_1 : List UInt8 := [180, 0, 9]
abbrev dktX1_presses_1 : List UInt8 := dkwX1_presses_1 ++ dktX1_presses_2
def dkwX1_presses_0 : List UInt8 := [42, 182, 0, 152, 153, 0, 10, 42, 180, 0, 85, 158, 0, 7, 4, 167, 0, 4, 3, 184, 0, 155, 42]
abbrev dktX1_presses_0 : List UInt8 := dkwX1_presses_0 ++ dktX1_presses_1
theorem dksX1_presses_0 : cX1_presses.data.toList.drop 0 = dktX1_presses_0 := by decide +kernel
theorem dksX1_presses_1 : cX1_presses.data.toList.drop 23 = dktX1_presses_1 := dk_seg dksX1_presses_0 23 rfl rfl
theorem dksX1_presses_2 : cX1_presses.data.toList.drop 26 = dktX1_presses_2 := dk_seg dksX1_presses_1 3 rfl rfl
theorem dksX1_presses_3 : cX1_presses.data.toList.drop 56 = dktX1_presses_3 := dk_seg dksX1_presses_2 30 rfl rfl
theorem dksX1_presses_4 : cX1_presses.data.toList.drop 79 = dktX1_presses_4 := dk_seg dksX1_presses_3 23 rfl rfl
theorem dksX1_presses_5 : cX1_presses.data.toList.drop 103 = dktX1_presses_5 := dk_seg dksX1_presses_4 24 rfl rfl
theorem dksX1_presses_6 : cX1_presses.data.toList.drop 127 = dktX1_presses_6 := dk_seg dksX1_presses_5 24 rfl rfl
theorem dX1_presses_0 : decode cX1_presses 0 = .ok (.aload_n 0, 1) := dk_42 (dk_at dksX1_presses_0 0 rfl rfl)
theorem dX1_presses_1 : decode cX1_presses 1 = .ok (.invokevirtual 152, 3) := dk_182 0 152 (dk_at dksX1_presses_0 1 rfl rfl)
theorem dX1_presses_4 : decode cX1_presses 4 = .ok (.ifCond .eq 10, 3) := dk_153 0 10 (dk_at dksX1_presses_0 4 rfl rfl)
theorem dX1_presses_7 : decode cX1_presses 7 = .ok (.aload_n 0, 1) := dk_42 (dk_at dksX1_presses_0 7 rfl rfl)
theorem dX1_presses_8 : decode cX1_presses 8 = .ok (.getfield 85, 3) := dk_180 0 85 (dk_at dksX1_presses_0 8 rfl rfl)
theorem dX1_presses_11 : decode cX1_presses 11 = .ok (.ifCond .le 7, 3) := dk_158 0 7 (dk_at dksX1_presses_0 11 rfl rfl)
theorem dX1_presses_14 : decode cX1_presses 14 = .ok (.iconst 1, 1) := dk_4 (dk_at dksX1_presses_0 14 rfl rfl)
theorem dX1_presses_15 : decode cX1_presses 15 = .ok (.goto 4, 3) := dk_167 0 4 (dk_at dksX1_presses_0 15 rfl rfl)
theorem dX1_presses_18 : decode cX1_presses 18 = .ok (.iconst 0, 1) := dk_3 (dk_at dksX1_presses_0 18 rfl rfl)
theorem dX1_presses_19 : decode cX1_presses 19 = .ok (.invokestatic 155, 3) := dk_184 0 155 (dk_at dksX1_presses_0 19 rfl rfl)
theorem dX1_presses_22 : decode cX1_presses 22 = .ok (.aload_n 0, 1) := dk_42 (dk_at dksX1_presses_0 22 rfl rfl)
theorem dX1_presses_23 : decode cX1_presses 23 = .ok (.getfield 9, 3) := dk_180 0 9 (dk_at dksX1_presses_1 0 rfl rfl)
theorem dX1_presses_26 : decode cX1_presses 26 = .ok (.tableswitch 101 0 3 #[30, 45, 52, 94], 30) := by decide +kernel
theorem dX1_presses_56 : decode cX1_presses 56 = .ok (.aload_n 0, 1) := dk_42 (dk_at dksX1_presses_3 0 rfl rfl)
theorem dX1_presses_57 : decode cX1_presses 57 = .ok (.iconst 0, 1) := dk_3 (dk_at dksX1_presses_3 1 rfl rfl)
theorem dX1_presses_58 : decode cX1_presses 58 = .ok (.bipush 24, 2) := dk_16 24 (dk_at dksX1_presses_3 2 rfl rfl)
theorem dX1_presses_60 : decode cX1_presses 60 = .ok (.invokevirtual 159, 3) := dk_182 0 159 (dk_at dksX1_presses_3 4 rfl rfl)
theorem dX1_presses_63 : decode cX1_presses 63 = .ok (.aload_n 0, 1) := dk_42 (dk_at dksX1_presses_3 7 rfl rfl)
theorem dX1_presses_64 : decode cX1_presses 64 = .ok (.iconst 1, 1) := dk_4 (dk_at dksX1_presses_3 8 rfl rfl)
theorem dX1_presses_65 : decode cX1_presses 65 = .ok (.putfield 9, 3) := dk_181 0 9 (dk_at dksX1_presses_3 9 rfl rfl)
theorem dX1_presses_68 : decode cX1_presses 68 = .ok (.goto 63, 3) := dk_167 0 63 (dk_at dksX1_presses_3 12 rfl rfl)
theorem dX1_presses_71 : decode cX1_presses 71 = .ok (.aload_n 0, 1) := dk_42 (dk_at dksX1_presses_3 15 rfl rfl)
theorem dX1_presses_72 : decode cX1_presses 72 = .ok (.invokevirtual 163, 3) := dk_182 0 163 (dk_at dksX1_presses_3 16 rfl rfl)
theorem dX1_presses_75 : decode cX1_presses 75 = .ok (.goto 56, 3) := dk_167 0 56 (dk_at dksX1_presses_3 19 rfl rfl)
theorem dX1_presses_78 : decode cX1_presses 78 = .ok (.aload_n 0, 1) := dk_42 (dk_at dksX1_presses_3 22 rfl rfl)
theorem dX1_presses_79 : decode cX1_presses 79 = .ok (.getfield 18, 3) := dk_180 0 18 (dk_at dksX1_presses_4 0 rfl rfl)
theorem dX1_presses_82 : decode cX1_presses 82 = .ok (.invokevirtual 109, 3) := dk_182 0 109 (dk_at dksX1_presses_4 3 rfl rfl)
theorem dX1_presses_85 : decode cX1_presses 85 = .ok (.bipush 6, 2) := dk_16 6 (dk_at dksX1_presses_4 6 rfl rfl)
theorem dX1_presses_87 : decode cX1_presses 87 = .ok (.if_icmp .ne 11, 3) := dk_160 0 11 (dk_at dksX1_presses_4 8 rfl rfl)
theorem dX1_presses_90 : decode cX1_presses 90 = .ok (.new 166, 3) := dk_187 0 166 (dk_at dksX1_presses_4 11 rfl rfl)
theorem dX1_presses_93 : decode cX1_presses 93 = .ok (.dup, 1) := dk_89 (dk_at dksX1_presses_4 14 rfl rfl)
theorem dX1_presses_94 : decode cX1_presses 94 = .ok (.invokespecial 168, 3) := dk_183 0 168 (dk_at dksX1_presses_4 15 rfl rfl)
theorem dX1_presses_97 : decode cX1_presses 97 = .ok (.athrow, 1) := dk_191 (dk_at dksX1_presses_4 18 rfl rfl)
theorem dX1_presses_98 : decode cX1_presses 98 = .ok (.aload_n 0, 1) := dk_42 (dk_at dksX1_presses_4 19 rfl rfl)
theorem dX1_presses_99 : decode cX1_presses 99 = .ok (.aload_n 0, 1) := dk_42 (dk_at dksX1_presses_4 20 rfl rfl)
theorem dX1_presses_100 : decode cX1_presses 100 = .ok (.getfield 63, 3) := dk_180 0 63 (dk_at dksX1_presses_4 21 rfl rfl)
theorem dX1_presses_103 : decode cX1_presses 103 = .ok (.iconst 2, 1) := dk_5 (dk_at dksX1_presses_5 0 rfl rfl)
theorem dX1_presses_104 : decode cX1_presses 104 = .ok (.aload_n 0, 1) := dk_42 (dk_at dksX1_presses_5 1 rfl rfl)
theorem dX1_presses_105 : decode cX1_presses 105 = .ok (.invokevirtual 145, 3) := dk_182 0 145 (dk_at dksX1_presses_5 2 rfl rfl)
theorem dX1_presses_108 : decode cX1_presses 108 = .ok (.imul, 1) := dk_104 (dk_at dksX1_presses_5 5 rfl rfl)
theorem dX1_presses_109 : decode cX1_presses 109 = .ok (.invokevirtual 159, 3) := dk_182 0 159 (dk_at dksX1_presses_5 6 rfl rfl)
theorem dX1_presses_112 : decode cX1_presses 112 = .ok (.aload_n 0, 1) := dk_42 (dk_at dksX1_presses_5 9 rfl rfl)
theorem dX1_presses_113 : decode cX1_presses 113 = .ok (.iconst 3, 1) := dk_6 (dk_at dksX1_presses_5 10 rfl rfl)
theorem dX1_presses_114 : decode cX1_presses 114 = .ok (.putfield 9, 3) := dk_181 0 9 (dk_at dksX1_presses_5 11 rfl rfl)
theorem dX1_presses_117 : decode cX1_presses 117 = .ok (.goto 14, 3) := dk_167 0 14 (dk_at dksX1_presses_5 14 rfl rfl)
theorem dX1_presses_120 : decode cX1_presses 120 = .ok (.aload_n 0, 1) := dk_42 (dk_at dksX1_presses_5 17 rfl rfl)
theorem dX1_presses_121 : decode cX1_presses 121 = .ok (.invokevirtual 169, 3) := dk_182 0 169 (dk_at dksX1_presses_5 18 rfl rfl)
theorem dX1_presses_124 : decode cX1_presses 124 = .ok (.goto 7, 3) := dk_167 0 7 (dk_at dksX1_presses_5 21 rfl rfl)
theorem dX1_presses_127 : decode cX1_presses 127 = .ok (.aload_n 0, 1) := dk_42 (dk_at dksX1_presses_6 0 rfl rfl)
theorem dX1_presses_128 : decode cX1_presses 128 = .ok (.invokevirtual 142, 3) := dk_182 0 142 (dk_at dksX1_presses_6 1 rfl rfl)
theorem dX1_presses_131 : decode cX1_presses 131 = .ok (.aload_n 0, 1) := dk_42 (dk_at dksX1_presses_6 4 rfl rfl)
theorem dX1_presses_132 : decode cX1_presses 132 = .ok (.getfield 9, 3) := dk_180 0 9 (dk_at dksX1_presses_6 5 rfl rfl)
theorem dX1_presses_135 : decode cX1_presses 135 = .ok (.ireturn, 1) := dk_172 (dk_at dksX1_presses_6 8 rfl rfl)
abbrev cX1_inRun : ByteArray := prog_6_method_14_code
def yX1_inRun : MethodName := ⟨RX1, "inRun", "()Z"⟩
def dkwX1_inRun_0 : List UInt8 := [42, 180, 0, 88, 198, 0, 7, 4, 167, 0, 4, 3, 172]
abbrev dktX1_inRun_0 : List UInt8 := dkwX1_inRun_0 ++ []
theorem dksX1_inRun_0 : cX1_inRun.data.toList.drop 0 = dktX1_inRun_0 := by decide +kernel
theorem dX1_inRun_0 : decode cX1_inRun 0 = .ok (.aload_n 0, 1) := dk_42 (dk_at dksX1_inRun_0 0 rfl rfl)
theorem dX1_inRun_1 : decode cX1_inRun 1 = .ok (.getfield 88, 3) := dk_180 0 88 (dk_at dksX1_inRun_0 1 rfl rfl)
theorem dX1_inRun_4 : decode cX1_inRun 4 = .ok (.ifnull 7, 3) := dk_198 0 7 (dk_at dksX1_inRun_0 4 rfl rfl)
theorem dX1_inRun_7 : decode cX1_inRun 7 = .ok (.iconst 1, 1) := dk_4 (dk_at dksX1_inRun_0 7 rfl rfl)
theorem dX1_inRun_8 : decode cX1_inRun 8 = .ok (.goto 4, 3) := dk_167 0 4 (dk_at dksX1_inRun_0 8 rfl rfl)
theorem dX1_inRun_11 : decode cX1_inRun 11 = .ok (.iconst 0, 1) := dk_3 (dk_at dksX1_inRun_0 11 rfl rfl)
theorem dX1_inRun_12 : decode cX1_inRun 12 = .ok (.ireturn, 1) := dk_172 (dk_at dksX1_inRun_0 12 rfl rfl)
abbrev cX1_beginsTake : ByteArray := prog_6_method_6_code
def yX1_beginsTake : MethodName := ⟨RX1, "beginsTake", "(II)V"⟩
def dkwX1_beginsTake_0 : List UInt8 := [42, 27, 181, 0, 82, 42, 3, 181, 0, 85, 42, 187, 0, 48, 89, 28, 183, 0, 116, 181, 0, 88, 177]
abbrev dktX1_beginsTake_0 : List UInt8 := dkwX1_beginsTake_0 ++ []
theorem dksX1_beginsTake_0 : cX1_beginsTake.data.toList.drop 0 = dktX1_beginsTake_0 := by decide +kernel
theorem dX1_beginsTake_0 : decode cX1_beginsTake 0 = .ok (.aload_n 0, 1) := dk_42 (dk_at dksX1_beginsTake_0 0 rfl rfl)
theorem dX1_beginsTake_1 : decode cX1_beginsTake 1 = .ok (.iload_n 1, 1) := dk_27 (dk_at dksX1_beginsTake_0 1 rfl rfl)
theorem dX1_beginsTake_2 : decode cX1_beginsTake 2 = .ok (.putfield 82, 3) := dk_181 0 82 (dk_at dksX1_beginsTake_0 2 rfl rfl)
theorem dX1_beginsTake_5 : decode cX1_beginsTake 5 = .ok (.aload_n 0, 1) := dk_42 (dk_at dksX1_beginsTake_0 5 rfl rfl)
theorem dX1_beginsTake_6 : decode cX1_beginsTake 6 = .ok (.iconst 0, 1) := dk_3 (dk_at dksX1_beginsTake_0 6 rfl rfl)
theorem dX1_beginsTake_7 : decode cX1_beginsTake 7 = .ok (.putfield 85, 3) := dk_181 0 85 (dk_at dksX1_beginsTake_0 7 rfl rfl)
theorem dX1_beginsTake_10 : decode cX1_beginsTake 10 = .ok (.aload_n 0, 1) := dk_42 (dk_at dksX1_beginsTake_0 10 rfl rfl)
theorem dX1_beginsTake_11 : decode cX1_beginsTake 11 = .ok (.new 48, 3) := dk_187 0 48 (dk_at dksX1_beginsTake_0 11 rfl rfl)
theorem dX1_beginsTake_14 : decode cX1_beginsTake 14 = .ok (.dup, 1) := dk_89 (dk_at dksX1_beginsTake_0 14 rfl rfl)
theorem dX1_beginsTake_15 : decode cX1_beginsTake 15 = .ok (.iload_n 2, 1) := dk_28 (dk_at dksX1_beginsTake_0 15 rfl rfl)
theorem dX1_beginsTake_16 : decode cX1_beginsTake 16 = .ok (.invokespecial 116, 3) := dk_183 0 116 (dk_at dksX1_beginsTake_0 16 rfl rfl)
theorem dX1_beginsTake_19 : decode cX1_beginsTake 19 = .ok (.putfield 88, 3) := dk_181 0 88 (dk_at dksX1_beginsTake_0 19 rfl rfl)
theorem dX1_beginsTake_22 : decode cX1_beginsTake 22 = .ok (.return_, 1) := dk_177 (dk_at dksX1_beginsTake_0 22 rfl rfl)
abbrev cX1_laysFirst : ByteArray := prog_6_method_11_code
def yX1_laysFirst : MethodName := ⟨RX1, "laysFirst", "()V"⟩
def dkwX1_laysFirst_1 : List UInt8 := [182, 0, 134, 182, 0, 138, 42, 182, 0, 142, 177]
abbrev dktX1_laysFirst_1 : List UInt8 := dkwX1_laysFirst_1 ++ []
def dkwX1_laysFirst_0 : List UInt8 := [16, 24, 42, 180, 0, 85, 4, 96, 5, 108, 184, 0, 128, 60, 42, 42, 180, 0, 88, 42, 27, 182, 0, 131]
abbrev dktX1_laysFirst_0 : List UInt8 := dkwX1_laysFirst_0 ++ dktX1_laysFirst_1
theorem dksX1_laysFirst_0 : cX1_laysFirst.data.toList.drop 0 = dktX1_laysFirst_0 := by decide +kernel
theorem dksX1_laysFirst_1 : cX1_laysFirst.data.toList.drop 24 = dktX1_laysFirst_1 := dk_seg dksX1_laysFirst_0 24 rfl rfl
theorem dX1_laysFirst_0 : decode cX1_laysFirst 0 = .ok (.bipush 24, 2) := dk_16 24 (dk_at dksX1_laysFirst_0 0 rfl rfl)
theorem dX1_laysFirst_2 : decode cX1_laysFirst 2 = .ok (.aload_n 0, 1) := dk_42 (dk_at dksX1_laysFirst_0 2 rfl rfl)
theorem dX1_laysFirst_3 : decode cX1_laysFirst 3 = .ok (.getfield 85, 3) := dk_180 0 85 (dk_at dksX1_laysFirst_0 3 rfl rfl)
theorem dX1_laysFirst_6 : decode cX1_laysFirst 6 = .ok (.iconst 1, 1) := dk_4 (dk_at dksX1_laysFirst_0 6 rfl rfl)
theorem dX1_laysFirst_7 : decode cX1_laysFirst 7 = .ok (.iadd, 1) := dk_96 (dk_at dksX1_laysFirst_0 7 rfl rfl)
theorem dX1_laysFirst_8 : decode cX1_laysFirst 8 = .ok (.iconst 2, 1) := dk_5 (dk_at dksX1_laysFirst_0 8 rfl rfl)
theorem dX1_laysFirst_9 : decode cX1_laysFirst 9 = .ok (.idiv, 1) := dk_108 (dk_at dksX1_laysFirst_0 9 rfl rfl)
theorem dX1_laysFirst_10 : decode cX1_laysFirst 10 = .ok (.invokestatic 128, 3) := dk_184 0 128 (dk_at dksX1_laysFirst_0 10 rfl rfl)
theorem dX1_laysFirst_13 : decode cX1_laysFirst 13 = .ok (.istore_n 1, 1) := dk_60 (dk_at dksX1_laysFirst_0 13 rfl rfl)
theorem dX1_laysFirst_14 : decode cX1_laysFirst 14 = .ok (.aload_n 0, 1) := dk_42 (dk_at dksX1_laysFirst_0 14 rfl rfl)
theorem dX1_laysFirst_15 : decode cX1_laysFirst 15 = .ok (.aload_n 0, 1) := dk_42 (dk_at dksX1_laysFirst_0 15 rfl rfl)
theorem dX1_laysFirst_16 : decode cX1_laysFirst 16 = .ok (.getfield 88, 3) := dk_180 0 88 (dk_at dksX1_laysFirst_0 16 rfl rfl)
theorem dX1_laysFirst_19 : decode cX1_laysFirst 19 = .ok (.aload_n 0, 1) := dk_42 (dk_at dksX1_laysFirst_0 19 rfl rfl)
theorem dX1_laysFirst_20 : decode cX1_laysFirst 20 = .ok (.iload_n 1, 1) := dk_27 (dk_at dksX1_laysFirst_0 20 rfl rfl)
theorem dX1_laysFirst_21 : decode cX1_laysFirst 21 = .ok (.invokevirtual 131, 3) := dk_182 0 131 (dk_at dksX1_laysFirst_0 21 rfl rfl)
theorem dX1_laysFirst_24 : decode cX1_laysFirst 24 = .ok (.invokevirtual 134, 3) := dk_182 0 134 (dk_at dksX1_laysFirst_1 0 rfl rfl)
theorem dX1_laysFirst_27 : decode cX1_laysFirst 27 = .ok (.invokevirtual 138, 3) := dk_182 0 138 (dk_at dksX1_laysFirst_1 3 rfl rfl)
theorem dX1_laysFirst_30 : decode cX1_laysFirst 30 = .ok (.aload_n 0, 1) := dk_42 (dk_at dksX1_laysFirst_1 6 rfl rfl)
theorem dX1_laysFirst_31 : decode cX1_laysFirst 31 = .ok (.invokevirtual 142, 3) := dk_182 0 142 (dk_at dksX1_laysFirst_1 7 rfl rfl)
theorem dX1_laysFirst_34 : decode cX1_laysFirst 34 = .ok (.return_, 1) := dk_177 (dk_at dksX1_laysFirst_1 10 rfl rfl)
abbrev cX1_rounded : ByteArray := prog_6_method_10_code
def yX1_rounded : MethodName := ⟨RX1, "rounded", "(I)I"⟩
def dkwX1_rounded_3 : List UInt8 := [29, 167, 0, 4, 27, 172]
abbrev dktX1_rounded_3 : List UInt8 := dkwX1_rounded_3 ++ []
def dkwX1_rounded_2 : List UInt8 := [21, 4, 28, 96, 54, 4, 167, 255, 216, 29, 27, 100, 184, 0, 125, 42, 180, 0, 29, 4, 46, 163, 0, 7]
abbrev dktX1_rounded_2 : List UInt8 := dkwX1_rounded_2 ++ dktX1_rounded_3
def dkwX1_rounded_1 : List UInt8 := [21, 4, 27, 100, 184, 0, 125, 29, 27, 100, 184, 0, 125, 162, 0, 8, 21, 4, 167, 0, 4, 29, 62]
abbrev dktX1_rounded_1 : List UInt8 := dkwX1_rounded_1 ++ dktX1_rounded_2
def dkwX1_rounded_0 : List UInt8 := [42, 180, 0, 29, 3, 46, 61, 3, 62, 28, 54, 4, 21, 4, 16, 24, 163, 0, 39, 29, 153, 0, 19]
abbrev dktX1_rounded_0 : List UInt8 := dkwX1_rounded_0 ++ dktX1_rounded_1
theorem dksX1_rounded_0 : cX1_rounded.data.toList.drop 0 = dktX1_rounded_0 := by decide +kernel
theorem dksX1_rounded_1 : cX1_rounded.data.toList.drop 23 = dktX1_rounded_1 := dk_seg dksX1_rounded_0 23 rfl rfl
theorem dksX1_rounded_2 : cX1_rounded.data.toList.drop 46 = dktX1_rounded_2 := dk_seg dksX1_rounded_1 23 rfl rfl
theorem dksX1_rounded_3 : cX1_rounded.data.toList.drop 70 = dktX1_rounded_3 := dk_seg dksX1_rounded_2 24 rfl rfl
theorem dX1_rounded_0 : decode cX1_rounded 0 = .ok (.aload_n 0, 1) := dk_42 (dk_at dksX1_rounded_0 0 rfl rfl)
theorem dX1_rounded_1 : decode cX1_rounded 1 = .ok (.getfield 29, 3) := dk_180 0 29 (dk_at dksX1_rounded_0 1 rfl rfl)
theorem dX1_rounded_4 : decode cX1_rounded 4 = .ok (.iconst 0, 1) := dk_3 (dk_at dksX1_rounded_0 4 rfl rfl)
theorem dX1_rounded_5 : decode cX1_rounded 5 = .ok (.iaload, 1) := dk_46 (dk_at dksX1_rounded_0 5 rfl rfl)
theorem dX1_rounded_6 : decode cX1_rounded 6 = .ok (.istore_n 2, 1) := dk_61 (dk_at dksX1_rounded_0 6 rfl rfl)
theorem dX1_rounded_7 : decode cX1_rounded 7 = .ok (.iconst 0, 1) := dk_3 (dk_at dksX1_rounded_0 7 rfl rfl)
theorem dX1_rounded_8 : decode cX1_rounded 8 = .ok (.istore_n 3, 1) := dk_62 (dk_at dksX1_rounded_0 8 rfl rfl)
theorem dX1_rounded_9 : decode cX1_rounded 9 = .ok (.iload_n 2, 1) := dk_28 (dk_at dksX1_rounded_0 9 rfl rfl)
theorem dX1_rounded_10 : decode cX1_rounded 10 = .ok (.istore 4, 2) := dk_54 4 (dk_at dksX1_rounded_0 10 rfl rfl)
theorem dX1_rounded_12 : decode cX1_rounded 12 = .ok (.iload 4, 2) := dk_21 4 (dk_at dksX1_rounded_0 12 rfl rfl)
theorem dX1_rounded_14 : decode cX1_rounded 14 = .ok (.bipush 24, 2) := dk_16 24 (dk_at dksX1_rounded_0 14 rfl rfl)
theorem dX1_rounded_16 : decode cX1_rounded 16 = .ok (.if_icmp .gt 39, 3) := dk_163 0 39 (dk_at dksX1_rounded_0 16 rfl rfl)
theorem dX1_rounded_19 : decode cX1_rounded 19 = .ok (.iload_n 3, 1) := dk_29 (dk_at dksX1_rounded_0 19 rfl rfl)
theorem dX1_rounded_20 : decode cX1_rounded 20 = .ok (.ifCond .eq 19, 3) := dk_153 0 19 (dk_at dksX1_rounded_0 20 rfl rfl)
theorem dX1_rounded_23 : decode cX1_rounded 23 = .ok (.iload 4, 2) := dk_21 4 (dk_at dksX1_rounded_1 0 rfl rfl)
theorem dX1_rounded_25 : decode cX1_rounded 25 = .ok (.iload_n 1, 1) := dk_27 (dk_at dksX1_rounded_1 2 rfl rfl)
theorem dX1_rounded_26 : decode cX1_rounded 26 = .ok (.isub, 1) := dk_100 (dk_at dksX1_rounded_1 3 rfl rfl)
theorem dX1_rounded_27 : decode cX1_rounded 27 = .ok (.invokestatic 125, 3) := dk_184 0 125 (dk_at dksX1_rounded_1 4 rfl rfl)
theorem dX1_rounded_30 : decode cX1_rounded 30 = .ok (.iload_n 3, 1) := dk_29 (dk_at dksX1_rounded_1 7 rfl rfl)
theorem dX1_rounded_31 : decode cX1_rounded 31 = .ok (.iload_n 1, 1) := dk_27 (dk_at dksX1_rounded_1 8 rfl rfl)
theorem dX1_rounded_32 : decode cX1_rounded 32 = .ok (.isub, 1) := dk_100 (dk_at dksX1_rounded_1 9 rfl rfl)
theorem dX1_rounded_33 : decode cX1_rounded 33 = .ok (.invokestatic 125, 3) := dk_184 0 125 (dk_at dksX1_rounded_1 10 rfl rfl)
theorem dX1_rounded_36 : decode cX1_rounded 36 = .ok (.if_icmp .ge 8, 3) := dk_162 0 8 (dk_at dksX1_rounded_1 13 rfl rfl)
theorem dX1_rounded_39 : decode cX1_rounded 39 = .ok (.iload 4, 2) := dk_21 4 (dk_at dksX1_rounded_1 16 rfl rfl)
theorem dX1_rounded_41 : decode cX1_rounded 41 = .ok (.goto 4, 3) := dk_167 0 4 (dk_at dksX1_rounded_1 18 rfl rfl)
theorem dX1_rounded_44 : decode cX1_rounded 44 = .ok (.iload_n 3, 1) := dk_29 (dk_at dksX1_rounded_1 21 rfl rfl)
theorem dX1_rounded_45 : decode cX1_rounded 45 = .ok (.istore_n 3, 1) := dk_62 (dk_at dksX1_rounded_1 22 rfl rfl)
theorem dX1_rounded_46 : decode cX1_rounded 46 = .ok (.iload 4, 2) := dk_21 4 (dk_at dksX1_rounded_2 0 rfl rfl)
theorem dX1_rounded_48 : decode cX1_rounded 48 = .ok (.iload_n 2, 1) := dk_28 (dk_at dksX1_rounded_2 2 rfl rfl)
theorem dX1_rounded_49 : decode cX1_rounded 49 = .ok (.iadd, 1) := dk_96 (dk_at dksX1_rounded_2 3 rfl rfl)
theorem dX1_rounded_50 : decode cX1_rounded 50 = .ok (.istore 4, 2) := dk_54 4 (dk_at dksX1_rounded_2 4 rfl rfl)
theorem dX1_rounded_52 : decode cX1_rounded 52 = .ok (.goto (-40), 3) := dk_167 255 216 (dk_at dksX1_rounded_2 6 rfl rfl)
theorem dX1_rounded_55 : decode cX1_rounded 55 = .ok (.iload_n 3, 1) := dk_29 (dk_at dksX1_rounded_2 9 rfl rfl)
theorem dX1_rounded_56 : decode cX1_rounded 56 = .ok (.iload_n 1, 1) := dk_27 (dk_at dksX1_rounded_2 10 rfl rfl)
theorem dX1_rounded_57 : decode cX1_rounded 57 = .ok (.isub, 1) := dk_100 (dk_at dksX1_rounded_2 11 rfl rfl)
theorem dX1_rounded_58 : decode cX1_rounded 58 = .ok (.invokestatic 125, 3) := dk_184 0 125 (dk_at dksX1_rounded_2 12 rfl rfl)
theorem dX1_rounded_61 : decode cX1_rounded 61 = .ok (.aload_n 0, 1) := dk_42 (dk_at dksX1_rounded_2 15 rfl rfl)
theorem dX1_rounded_62 : decode cX1_rounded 62 = .ok (.getfield 29, 3) := dk_180 0 29 (dk_at dksX1_rounded_2 16 rfl rfl)
theorem dX1_rounded_65 : decode cX1_rounded 65 = .ok (.iconst 1, 1) := dk_4 (dk_at dksX1_rounded_2 19 rfl rfl)
theorem dX1_rounded_66 : decode cX1_rounded 66 = .ok (.iaload, 1) := dk_46 (dk_at dksX1_rounded_2 20 rfl rfl)
theorem dX1_rounded_67 : decode cX1_rounded 67 = .ok (.if_icmp .gt 7, 3) := dk_163 0 7 (dk_at dksX1_rounded_2 21 rfl rfl)
theorem dX1_rounded_70 : decode cX1_rounded 70 = .ok (.iload_n 3, 1) := dk_29 (dk_at dksX1_rounded_3 0 rfl rfl)
theorem dX1_rounded_71 : decode cX1_rounded 71 = .ok (.goto 4, 3) := dk_167 0 4 (dk_at dksX1_rounded_3 1 rfl rfl)
theorem dX1_rounded_74 : decode cX1_rounded 74 = .ok (.iload_n 1, 1) := dk_27 (dk_at dksX1_rounded_3 4 rfl rfl)
theorem dX1_rounded_75 : decode cX1_rounded 75 = .ok (.ireturn, 1) := dk_172 (dk_at dksX1_rounded_3 5 rfl rfl)
abbrev cX1_lays : ByteArray := prog_6_method_8_code
def yX1_lays : MethodName := ⟨RX1, "lays", "(LPedalLayers$Layer;)V"⟩
def dkwX1_lays_1 : List UInt8 := [181, 0, 75, 42, 182, 0, 122, 42, 5, 181, 0, 9, 177]
abbrev dktX1_lays_1 : List UInt8 := dkwX1_lays_1 ++ []
def dkwX1_lays_0 : List UInt8 := [42, 180, 0, 18, 43, 182, 0, 54, 87, 42, 180, 0, 25, 182, 0, 119, 42, 89, 180, 0, 75, 4, 96]
abbrev dktX1_lays_0 : List UInt8 := dkwX1_lays_0 ++ dktX1_lays_1
theorem dksX1_lays_0 : cX1_lays.data.toList.drop 0 = dktX1_lays_0 := by decide +kernel
theorem dksX1_lays_1 : cX1_lays.data.toList.drop 23 = dktX1_lays_1 := dk_seg dksX1_lays_0 23 rfl rfl
theorem dX1_lays_0 : decode cX1_lays 0 = .ok (.aload_n 0, 1) := dk_42 (dk_at dksX1_lays_0 0 rfl rfl)
theorem dX1_lays_1 : decode cX1_lays 1 = .ok (.getfield 18, 3) := dk_180 0 18 (dk_at dksX1_lays_0 1 rfl rfl)
theorem dX1_lays_4 : decode cX1_lays 4 = .ok (.aload_n 1, 1) := dk_43 (dk_at dksX1_lays_0 4 rfl rfl)
theorem dX1_lays_5 : decode cX1_lays 5 = .ok (.invokevirtual 54, 3) := dk_182 0 54 (dk_at dksX1_lays_0 5 rfl rfl)
theorem dX1_lays_8 : decode cX1_lays 8 = .ok (.pop, 1) := dk_87 (dk_at dksX1_lays_0 8 rfl rfl)
theorem dX1_lays_9 : decode cX1_lays 9 = .ok (.aload_n 0, 1) := dk_42 (dk_at dksX1_lays_0 9 rfl rfl)
theorem dX1_lays_10 : decode cX1_lays 10 = .ok (.getfield 25, 3) := dk_180 0 25 (dk_at dksX1_lays_0 10 rfl rfl)
theorem dX1_lays_13 : decode cX1_lays 13 = .ok (.invokevirtual 119, 3) := dk_182 0 119 (dk_at dksX1_lays_0 13 rfl rfl)
theorem dX1_lays_16 : decode cX1_lays 16 = .ok (.aload_n 0, 1) := dk_42 (dk_at dksX1_lays_0 16 rfl rfl)
theorem dX1_lays_17 : decode cX1_lays 17 = .ok (.dup, 1) := dk_89 (dk_at dksX1_lays_0 17 rfl rfl)
theorem dX1_lays_18 : decode cX1_lays 18 = .ok (.getfield 75, 3) := dk_180 0 75 (dk_at dksX1_lays_0 18 rfl rfl)
theorem dX1_lays_21 : decode cX1_lays 21 = .ok (.iconst 1, 1) := dk_4 (dk_at dksX1_lays_0 21 rfl rfl)
theorem dX1_lays_22 : decode cX1_lays 22 = .ok (.iadd, 1) := dk_96 (dk_at dksX1_lays_0 22 rfl rfl)
theorem dX1_lays_23 : decode cX1_lays 23 = .ok (.putfield 75, 3) := dk_181 0 75 (dk_at dksX1_lays_1 0 rfl rfl)
theorem dX1_lays_26 : decode cX1_lays 26 = .ok (.aload_n 0, 1) := dk_42 (dk_at dksX1_lays_1 3 rfl rfl)
theorem dX1_lays_27 : decode cX1_lays 27 = .ok (.invokevirtual 122, 3) := dk_182 0 122 (dk_at dksX1_lays_1 4 rfl rfl)
theorem dX1_lays_30 : decode cX1_lays 30 = .ok (.aload_n 0, 1) := dk_42 (dk_at dksX1_lays_1 7 rfl rfl)
theorem dX1_lays_31 : decode cX1_lays 31 = .ok (.iconst 2, 1) := dk_5 (dk_at dksX1_lays_1 8 rfl rfl)
theorem dX1_lays_32 : decode cX1_lays 32 = .ok (.putfield 9, 3) := dk_181 0 9 (dk_at dksX1_lays_1 9 rfl rfl)
theorem dX1_lays_35 : decode cX1_lays 35 = .ok (.return_, 1) := dk_177 (dk_at dksX1_lays_1 12 rfl rfl)
abbrev cX1_dropsTake : ByteArray := prog_6_method_7_code
def yX1_dropsTake : MethodName := ⟨RX1, "dropsTake", "()V"⟩
def dkwX1_dropsTake_0 : List UInt8 := [42, 1, 181, 0, 88, 42, 3, 181, 0, 82, 42, 3, 181, 0, 85, 177]
abbrev dktX1_dropsTake_0 : List UInt8 := dkwX1_dropsTake_0 ++ []
theorem dksX1_dropsTake_0 : cX1_dropsTake.data.toList.drop 0 = dktX1_dropsTake_0 := by decide +kernel
theorem dX1_dropsTake_0 : decode cX1_dropsTake 0 = .ok (.aload_n 0, 1) := dk_42 (dk_at dksX1_dropsTake_0 0 rfl rfl)
theorem dX1_dropsTake_1 : decode cX1_dropsTake 1 = .ok (.aconst_null, 1) := dk_1 (dk_at dksX1_dropsTake_0 1 rfl rfl)
theorem dX1_dropsTake_2 : decode cX1_dropsTake 2 = .ok (.putfield 88, 3) := dk_181 0 88 (dk_at dksX1_dropsTake_0 2 rfl rfl)
theorem dX1_dropsTake_5 : decode cX1_dropsTake 5 = .ok (.aload_n 0, 1) := dk_42 (dk_at dksX1_dropsTake_0 5 rfl rfl)
theorem dX1_dropsTake_6 : decode cX1_dropsTake 6 = .ok (.iconst 0, 1) := dk_3 (dk_at dksX1_dropsTake_0 6 rfl rfl)
theorem dX1_dropsTake_7 : decode cX1_dropsTake 7 = .ok (.putfield 82, 3) := dk_181 0 82 (dk_at dksX1_dropsTake_0 7 rfl rfl)
theorem dX1_dropsTake_10 : decode cX1_dropsTake 10 = .ok (.aload_n 0, 1) := dk_42 (dk_at dksX1_dropsTake_0 10 rfl rfl)
theorem dX1_dropsTake_11 : decode cX1_dropsTake 11 = .ok (.iconst 0, 1) := dk_3 (dk_at dksX1_dropsTake_0 11 rfl rfl)
theorem dX1_dropsTake_12 : decode cX1_dropsTake 12 = .ok (.putfield 85, 3) := dk_181 0 85 (dk_at dksX1_dropsTake_0 12 rfl rfl)
theorem dX1_dropsTake_15 : decode cX1_dropsTake 15 = .ok (.return_, 1) := dk_177 (dk_at dksX1_dropsTake_0 15 rfl rfl)
abbrev cX1_starts : ByteArray := prog_6_method_9_code
def yX1_starts : MethodName := ⟨RX1, "starts", "()V"⟩
def dkwX1_starts_0 : List UInt8 := [42, 3, 181, 0, 63, 42, 3, 181, 0, 66, 42, 3, 181, 0, 69, 42, 5, 181, 0, 9, 177]
abbrev dktX1_starts_0 : List UInt8 := dkwX1_starts_0 ++ []
theorem dksX1_starts_0 : cX1_starts.data.toList.drop 0 = dktX1_starts_0 := by decide +kernel
theorem dX1_starts_0 : decode cX1_starts 0 = .ok (.aload_n 0, 1) := dk_42 (dk_at dksX1_starts_0 0 rfl rfl)
theorem dX1_starts_1 : decode cX1_starts 1 = .ok (.iconst 0, 1) := dk_3 (dk_at dksX1_starts_0 1 rfl rfl)
theorem dX1_starts_2 : decode cX1_starts 2 = .ok (.putfield 63, 3) := dk_181 0 63 (dk_at dksX1_starts_0 2 rfl rfl)
theorem dX1_starts_5 : decode cX1_starts 5 = .ok (.aload_n 0, 1) := dk_42 (dk_at dksX1_starts_0 5 rfl rfl)
theorem dX1_starts_6 : decode cX1_starts 6 = .ok (.iconst 0, 1) := dk_3 (dk_at dksX1_starts_0 6 rfl rfl)
theorem dX1_starts_7 : decode cX1_starts 7 = .ok (.putfield 66, 3) := dk_181 0 66 (dk_at dksX1_starts_0 7 rfl rfl)
theorem dX1_starts_10 : decode cX1_starts 10 = .ok (.aload_n 0, 1) := dk_42 (dk_at dksX1_starts_0 10 rfl rfl)
theorem dX1_starts_11 : decode cX1_starts 11 = .ok (.iconst 0, 1) := dk_3 (dk_at dksX1_starts_0 11 rfl rfl)
theorem dX1_starts_12 : decode cX1_starts 12 = .ok (.putfield 69, 3) := dk_181 0 69 (dk_at dksX1_starts_0 12 rfl rfl)
theorem dX1_starts_15 : decode cX1_starts 15 = .ok (.aload_n 0, 1) := dk_42 (dk_at dksX1_starts_0 15 rfl rfl)
theorem dX1_starts_16 : decode cX1_starts 16 = .ok (.iconst 2, 1) := dk_5 (dk_at dksX1_starts_0 16 rfl rfl)
theorem dX1_starts_17 : decode cX1_starts 17 = .ok (.putfield 9, 3) := dk_181 0 9 (dk_at dksX1_starts_0 17 rfl rfl)
theorem dX1_starts_20 : decode cX1_starts 20 = .ok (.return_, 1) := dk_177 (dk_at dksX1_starts_0 20 rfl rfl)
abbrev cX1_firstLength : ByteArray := prog_6_method_3_code
def yX1_firstLength : MethodName := ⟨RX1, "firstLength", "()I"⟩
def dkwX1_firstLength_1 : List UInt8 := [192, 0, 48, 182, 0, 99, 172]
abbrev dktX1_firstLength_1 : List UInt8 := dkwX1_firstLength_1 ++ []
def dkwX1_firstLength_0 : List UInt8 := [42, 180, 0, 18, 182, 0, 92, 153, 0, 7, 3, 167, 0, 17, 42, 180, 0, 18, 3, 182, 0, 95]
abbrev dktX1_firstLength_0 : List UInt8 := dkwX1_firstLength_0 ++ dktX1_firstLength_1
theorem dksX1_firstLength_0 : cX1_firstLength.data.toList.drop 0 = dktX1_firstLength_0 := by decide +kernel
theorem dksX1_firstLength_1 : cX1_firstLength.data.toList.drop 22 = dktX1_firstLength_1 := dk_seg dksX1_firstLength_0 22 rfl rfl
theorem dX1_firstLength_0 : decode cX1_firstLength 0 = .ok (.aload_n 0, 1) := dk_42 (dk_at dksX1_firstLength_0 0 rfl rfl)
theorem dX1_firstLength_1 : decode cX1_firstLength 1 = .ok (.getfield 18, 3) := dk_180 0 18 (dk_at dksX1_firstLength_0 1 rfl rfl)
theorem dX1_firstLength_4 : decode cX1_firstLength 4 = .ok (.invokevirtual 92, 3) := dk_182 0 92 (dk_at dksX1_firstLength_0 4 rfl rfl)
theorem dX1_firstLength_7 : decode cX1_firstLength 7 = .ok (.ifCond .eq 7, 3) := dk_153 0 7 (dk_at dksX1_firstLength_0 7 rfl rfl)
theorem dX1_firstLength_10 : decode cX1_firstLength 10 = .ok (.iconst 0, 1) := dk_3 (dk_at dksX1_firstLength_0 10 rfl rfl)
theorem dX1_firstLength_11 : decode cX1_firstLength 11 = .ok (.goto 17, 3) := dk_167 0 17 (dk_at dksX1_firstLength_0 11 rfl rfl)
theorem dX1_firstLength_14 : decode cX1_firstLength 14 = .ok (.aload_n 0, 1) := dk_42 (dk_at dksX1_firstLength_0 14 rfl rfl)
theorem dX1_firstLength_15 : decode cX1_firstLength 15 = .ok (.getfield 18, 3) := dk_180 0 18 (dk_at dksX1_firstLength_0 15 rfl rfl)
theorem dX1_firstLength_18 : decode cX1_firstLength 18 = .ok (.iconst 0, 1) := dk_3 (dk_at dksX1_firstLength_0 18 rfl rfl)
theorem dX1_firstLength_19 : decode cX1_firstLength 19 = .ok (.invokevirtual 95, 3) := dk_182 0 95 (dk_at dksX1_firstLength_0 19 rfl rfl)
theorem dX1_firstLength_22 : decode cX1_firstLength 22 = .ok (.checkcast 48, 3) := dk_192 0 48 (dk_at dksX1_firstLength_1 0 rfl rfl)
theorem dX1_firstLength_25 : decode cX1_firstLength 25 = .ok (.invokevirtual 99, 3) := dk_182 0 99 (dk_at dksX1_firstLength_1 3 rfl rfl)
theorem dX1_firstLength_28 : decode cX1_firstLength 28 = .ok (.ireturn, 1) := dk_172 (dk_at dksX1_firstLength_1 6 rfl rfl)
abbrev cX1_laysOver : ByteArray := prog_6_method_12_code
def yX1_laysOver : MethodName := ⟨RX1, "laysOver", "()V"⟩
def dkwX1_laysOver_3 : List UInt8 := [182, 0, 149, 182, 0, 138, 42, 29, 181, 0, 63, 177]
abbrev dktX1_laysOver_3 : List UInt8 := dkwX1_laysOver_3 ++ []
def dkwX1_laysOver_2 : List UInt8 := [167, 0, 7, 42, 180, 0, 63, 62, 42, 28, 153, 0, 10, 42, 180, 0, 88, 167, 0, 10, 42, 180, 0, 88]
abbrev dktX1_laysOver_2 : List UInt8 := dkwX1_laysOver_2 ++ dktX1_laysOver_3
def dkwX1_laysOver_1 : List UInt8 := [167, 0, 4, 3, 61, 28, 153, 0, 19, 42, 180, 0, 82, 42, 180, 0, 85, 96, 7, 27, 104, 112]
abbrev dktX1_laysOver_1 : List UInt8 := dkwX1_laysOver_1 ++ dktX1_laysOver_2
def dkwX1_laysOver_0 : List UInt8 := [42, 182, 0, 145, 60, 42, 182, 0, 148, 27, 163, 0, 13, 42, 180, 0, 85, 5, 27, 104, 164, 0, 7, 4]
abbrev dktX1_laysOver_0 : List UInt8 := dkwX1_laysOver_0 ++ dktX1_laysOver_1
theorem dksX1_laysOver_0 : cX1_laysOver.data.toList.drop 0 = dktX1_laysOver_0 := by decide +kernel
theorem dksX1_laysOver_1 : cX1_laysOver.data.toList.drop 24 = dktX1_laysOver_1 := dk_seg dksX1_laysOver_0 24 rfl rfl
theorem dksX1_laysOver_2 : cX1_laysOver.data.toList.drop 46 = dktX1_laysOver_2 := dk_seg dksX1_laysOver_1 22 rfl rfl
theorem dksX1_laysOver_3 : cX1_laysOver.data.toList.drop 70 = dktX1_laysOver_3 := dk_seg dksX1_laysOver_2 24 rfl rfl
theorem dX1_laysOver_0 : decode cX1_laysOver 0 = .ok (.aload_n 0, 1) := dk_42 (dk_at dksX1_laysOver_0 0 rfl rfl)
theorem dX1_laysOver_1 : decode cX1_laysOver 1 = .ok (.invokevirtual 145, 3) := dk_182 0 145 (dk_at dksX1_laysOver_0 1 rfl rfl)
theorem dX1_laysOver_4 : decode cX1_laysOver 4 = .ok (.istore_n 1, 1) := dk_60 (dk_at dksX1_laysOver_0 4 rfl rfl)
theorem dX1_laysOver_5 : decode cX1_laysOver 5 = .ok (.aload_n 0, 1) := dk_42 (dk_at dksX1_laysOver_0 5 rfl rfl)
theorem dX1_laysOver_6 : decode cX1_laysOver 6 = .ok (.invokevirtual 148, 3) := dk_182 0 148 (dk_at dksX1_laysOver_0 6 rfl rfl)
theorem dX1_laysOver_9 : decode cX1_laysOver 9 = .ok (.iload_n 1, 1) := dk_27 (dk_at dksX1_laysOver_0 9 rfl rfl)
theorem dX1_laysOver_10 : decode cX1_laysOver 10 = .ok (.if_icmp .gt 13, 3) := dk_163 0 13 (dk_at dksX1_laysOver_0 10 rfl rfl)
theorem dX1_laysOver_13 : decode cX1_laysOver 13 = .ok (.aload_n 0, 1) := dk_42 (dk_at dksX1_laysOver_0 13 rfl rfl)
theorem dX1_laysOver_14 : decode cX1_laysOver 14 = .ok (.getfield 85, 3) := dk_180 0 85 (dk_at dksX1_laysOver_0 14 rfl rfl)
theorem dX1_laysOver_17 : decode cX1_laysOver 17 = .ok (.iconst 2, 1) := dk_5 (dk_at dksX1_laysOver_0 17 rfl rfl)
theorem dX1_laysOver_18 : decode cX1_laysOver 18 = .ok (.iload_n 1, 1) := dk_27 (dk_at dksX1_laysOver_0 18 rfl rfl)
theorem dX1_laysOver_19 : decode cX1_laysOver 19 = .ok (.imul, 1) := dk_104 (dk_at dksX1_laysOver_0 19 rfl rfl)
theorem dX1_laysOver_20 : decode cX1_laysOver 20 = .ok (.if_icmp .le 7, 3) := dk_164 0 7 (dk_at dksX1_laysOver_0 20 rfl rfl)
theorem dX1_laysOver_23 : decode cX1_laysOver 23 = .ok (.iconst 1, 1) := dk_4 (dk_at dksX1_laysOver_0 23 rfl rfl)
theorem dX1_laysOver_24 : decode cX1_laysOver 24 = .ok (.goto 4, 3) := dk_167 0 4 (dk_at dksX1_laysOver_1 0 rfl rfl)
theorem dX1_laysOver_27 : decode cX1_laysOver 27 = .ok (.iconst 0, 1) := dk_3 (dk_at dksX1_laysOver_1 3 rfl rfl)
theorem dX1_laysOver_28 : decode cX1_laysOver 28 = .ok (.istore_n 2, 1) := dk_61 (dk_at dksX1_laysOver_1 4 rfl rfl)
theorem dX1_laysOver_29 : decode cX1_laysOver 29 = .ok (.iload_n 2, 1) := dk_28 (dk_at dksX1_laysOver_1 5 rfl rfl)
theorem dX1_laysOver_30 : decode cX1_laysOver 30 = .ok (.ifCond .eq 19, 3) := dk_153 0 19 (dk_at dksX1_laysOver_1 6 rfl rfl)
theorem dX1_laysOver_33 : decode cX1_laysOver 33 = .ok (.aload_n 0, 1) := dk_42 (dk_at dksX1_laysOver_1 9 rfl rfl)
theorem dX1_laysOver_34 : decode cX1_laysOver 34 = .ok (.getfield 82, 3) := dk_180 0 82 (dk_at dksX1_laysOver_1 10 rfl rfl)
theorem dX1_laysOver_37 : decode cX1_laysOver 37 = .ok (.aload_n 0, 1) := dk_42 (dk_at dksX1_laysOver_1 13 rfl rfl)
theorem dX1_laysOver_38 : decode cX1_laysOver 38 = .ok (.getfield 85, 3) := dk_180 0 85 (dk_at dksX1_laysOver_1 14 rfl rfl)
theorem dX1_laysOver_41 : decode cX1_laysOver 41 = .ok (.iadd, 1) := dk_96 (dk_at dksX1_laysOver_1 17 rfl rfl)
theorem dX1_laysOver_42 : decode cX1_laysOver 42 = .ok (.iconst 4, 1) := dk_7 (dk_at dksX1_laysOver_1 18 rfl rfl)
theorem dX1_laysOver_43 : decode cX1_laysOver 43 = .ok (.iload_n 1, 1) := dk_27 (dk_at dksX1_laysOver_1 19 rfl rfl)
theorem dX1_laysOver_44 : decode cX1_laysOver 44 = .ok (.imul, 1) := dk_104 (dk_at dksX1_laysOver_1 20 rfl rfl)
theorem dX1_laysOver_45 : decode cX1_laysOver 45 = .ok (.irem, 1) := dk_112 (dk_at dksX1_laysOver_1 21 rfl rfl)
theorem dX1_laysOver_46 : decode cX1_laysOver 46 = .ok (.goto 7, 3) := dk_167 0 7 (dk_at dksX1_laysOver_2 0 rfl rfl)
theorem dX1_laysOver_49 : decode cX1_laysOver 49 = .ok (.aload_n 0, 1) := dk_42 (dk_at dksX1_laysOver_2 3 rfl rfl)
theorem dX1_laysOver_50 : decode cX1_laysOver 50 = .ok (.getfield 63, 3) := dk_180 0 63 (dk_at dksX1_laysOver_2 4 rfl rfl)
theorem dX1_laysOver_53 : decode cX1_laysOver 53 = .ok (.istore_n 3, 1) := dk_62 (dk_at dksX1_laysOver_2 7 rfl rfl)
theorem dX1_laysOver_54 : decode cX1_laysOver 54 = .ok (.aload_n 0, 1) := dk_42 (dk_at dksX1_laysOver_2 8 rfl rfl)
theorem dX1_laysOver_55 : decode cX1_laysOver 55 = .ok (.iload_n 2, 1) := dk_28 (dk_at dksX1_laysOver_2 9 rfl rfl)
theorem dX1_laysOver_56 : decode cX1_laysOver 56 = .ok (.ifCond .eq 10, 3) := dk_153 0 10 (dk_at dksX1_laysOver_2 10 rfl rfl)
theorem dX1_laysOver_59 : decode cX1_laysOver 59 = .ok (.aload_n 0, 1) := dk_42 (dk_at dksX1_laysOver_2 13 rfl rfl)
theorem dX1_laysOver_60 : decode cX1_laysOver 60 = .ok (.getfield 88, 3) := dk_180 0 88 (dk_at dksX1_laysOver_2 14 rfl rfl)
theorem dX1_laysOver_63 : decode cX1_laysOver 63 = .ok (.goto 10, 3) := dk_167 0 10 (dk_at dksX1_laysOver_2 17 rfl rfl)
theorem dX1_laysOver_66 : decode cX1_laysOver 66 = .ok (.aload_n 0, 1) := dk_42 (dk_at dksX1_laysOver_2 20 rfl rfl)
theorem dX1_laysOver_67 : decode cX1_laysOver 67 = .ok (.getfield 88, 3) := dk_180 0 88 (dk_at dksX1_laysOver_2 21 rfl rfl)
theorem dX1_laysOver_70 : decode cX1_laysOver 70 = .ok (.invokevirtual 149, 3) := dk_182 0 149 (dk_at dksX1_laysOver_3 0 rfl rfl)
theorem dX1_laysOver_73 : decode cX1_laysOver 73 = .ok (.invokevirtual 138, 3) := dk_182 0 138 (dk_at dksX1_laysOver_3 3 rfl rfl)
theorem dX1_laysOver_76 : decode cX1_laysOver 76 = .ok (.aload_n 0, 1) := dk_42 (dk_at dksX1_laysOver_3 6 rfl rfl)
theorem dX1_laysOver_77 : decode cX1_laysOver 77 = .ok (.iload_n 3, 1) := dk_29 (dk_at dksX1_laysOver_3 7 rfl rfl)
theorem dX1_laysOver_78 : decode cX1_laysOver 78 = .ok (.putfield 63, 3) := dk_181 0 63 (dk_at dksX1_laysOver_3 8 rfl rfl)
theorem dX1_laysOver_81 : decode cX1_laysOver 81 = .ok (.return_, 1) := dk_177 (dk_at dksX1_laysOver_3 11 rfl rfl)
abbrev cX1_length : ByteArray := prog_6_method_5_code
def yX1_length : MethodName := ⟨RX1, "length", "()I"⟩
def dkwX1_length_0 : List UInt8 := [42, 42, 180, 0, 18, 182, 0, 109, 182, 0, 112, 172]
abbrev dktX1_length_0 : List UInt8 := dkwX1_length_0 ++ []
theorem dksX1_length_0 : cX1_length.data.toList.drop 0 = dktX1_length_0 := by decide +kernel
theorem dX1_length_0 : decode cX1_length 0 = .ok (.aload_n 0, 1) := dk_42 (dk_at dksX1_length_0 0 rfl rfl)
theorem dX1_length_1 : decode cX1_length 1 = .ok (.aload_n 0, 1) := dk_42 (dk_at dksX1_length_0 1 rfl rfl)
theorem dX1_length_2 : decode cX1_length 2 = .ok (.getfield 18, 3) := dk_180 0 18 (dk_at dksX1_length_0 2 rfl rfl)
theorem dX1_length_5 : decode cX1_length 5 = .ok (.invokevirtual 109, 3) := dk_182 0 109 (dk_at dksX1_length_0 5 rfl rfl)
theorem dX1_length_8 : decode cX1_length 8 = .ok (.invokevirtual 112, 3) := dk_182 0 112 (dk_at dksX1_length_0 8 rfl rfl)
theorem dX1_length_11 : decode cX1_length 11 = .ok (.ireturn, 1) := dk_172 (dk_at dksX1_length_0 11 rfl rfl)
abbrev cX1_lengthOf : ByteArray := prog_6_method_4_code
def yX1_lengthOf : MethodName := ⟨RX1, "lengthOf", "(I)I"⟩
def dkwX1_lengthOf_1 : List UInt8 := [184, 0, 103, 61, 132, 3, 1, 167, 255, 229, 28, 172]
abbrev dktX1_lengthOf_1 : List UInt8 := dkwX1_lengthOf_1 ++ []
def dkwX1_lengthOf_0 : List UInt8 := [3, 61, 3, 62, 29, 27, 162, 0, 28, 28, 42, 180, 0, 18, 29, 182, 0, 95, 192, 0, 48, 182, 0, 99]
abbrev dktX1_lengthOf_0 : List UInt8 := dkwX1_lengthOf_0 ++ dktX1_lengthOf_1
theorem dksX1_lengthOf_0 : cX1_lengthOf.data.toList.drop 0 = dktX1_lengthOf_0 := by decide +kernel
theorem dksX1_lengthOf_1 : cX1_lengthOf.data.toList.drop 24 = dktX1_lengthOf_1 := dk_seg dksX1_lengthOf_0 24 rfl rfl
theorem dX1_lengthOf_0 : decode cX1_lengthOf 0 = .ok (.iconst 0, 1) := dk_3 (dk_at dksX1_lengthOf_0 0 rfl rfl)
theorem dX1_lengthOf_1 : decode cX1_lengthOf 1 = .ok (.istore_n 2, 1) := dk_61 (dk_at dksX1_lengthOf_0 1 rfl rfl)
theorem dX1_lengthOf_2 : decode cX1_lengthOf 2 = .ok (.iconst 0, 1) := dk_3 (dk_at dksX1_lengthOf_0 2 rfl rfl)
theorem dX1_lengthOf_3 : decode cX1_lengthOf 3 = .ok (.istore_n 3, 1) := dk_62 (dk_at dksX1_lengthOf_0 3 rfl rfl)
theorem dX1_lengthOf_4 : decode cX1_lengthOf 4 = .ok (.iload_n 3, 1) := dk_29 (dk_at dksX1_lengthOf_0 4 rfl rfl)
theorem dX1_lengthOf_5 : decode cX1_lengthOf 5 = .ok (.iload_n 1, 1) := dk_27 (dk_at dksX1_lengthOf_0 5 rfl rfl)
theorem dX1_lengthOf_6 : decode cX1_lengthOf 6 = .ok (.if_icmp .ge 28, 3) := dk_162 0 28 (dk_at dksX1_lengthOf_0 6 rfl rfl)
theorem dX1_lengthOf_9 : decode cX1_lengthOf 9 = .ok (.iload_n 2, 1) := dk_28 (dk_at dksX1_lengthOf_0 9 rfl rfl)
theorem dX1_lengthOf_10 : decode cX1_lengthOf 10 = .ok (.aload_n 0, 1) := dk_42 (dk_at dksX1_lengthOf_0 10 rfl rfl)
theorem dX1_lengthOf_11 : decode cX1_lengthOf 11 = .ok (.getfield 18, 3) := dk_180 0 18 (dk_at dksX1_lengthOf_0 11 rfl rfl)
theorem dX1_lengthOf_14 : decode cX1_lengthOf 14 = .ok (.iload_n 3, 1) := dk_29 (dk_at dksX1_lengthOf_0 14 rfl rfl)
theorem dX1_lengthOf_15 : decode cX1_lengthOf 15 = .ok (.invokevirtual 95, 3) := dk_182 0 95 (dk_at dksX1_lengthOf_0 15 rfl rfl)
theorem dX1_lengthOf_18 : decode cX1_lengthOf 18 = .ok (.checkcast 48, 3) := dk_192 0 48 (dk_at dksX1_lengthOf_0 18 rfl rfl)
theorem dX1_lengthOf_21 : decode cX1_lengthOf 21 = .ok (.invokevirtual 99, 3) := dk_182 0 99 (dk_at dksX1_lengthOf_0 21 rfl rfl)
theorem dX1_lengthOf_24 : decode cX1_lengthOf 24 = .ok (.invokestatic 103, 3) := dk_184 0 103 (dk_at dksX1_lengthOf_1 0 rfl rfl)
theorem dX1_lengthOf_27 : decode cX1_lengthOf 27 = .ok (.istore_n 2, 1) := dk_61 (dk_at dksX1_lengthOf_1 3 rfl rfl)
theorem dX1_lengthOf_28 : decode cX1_lengthOf 28 = .ok (.iinc 3 1, 3) := dk_132 3 1 (dk_at dksX1_lengthOf_1 4 rfl rfl)
theorem dX1_lengthOf_31 : decode cX1_lengthOf 31 = .ok (.goto (-27), 3) := dk_167 255 229 (dk_at dksX1_lengthOf_1 7 rfl rfl)
theorem dX1_lengthOf_34 : decode cX1_lengthOf 34 = .ok (.iload_n 2, 1) := dk_28 (dk_at dksX1_lengthOf_1 10 rfl rfl)
theorem dX1_lengthOf_35 : decode cX1_lengthOf 35 = .ok (.ireturn, 1) := dk_172 (dk_at dksX1_lengthOf_1 11 rfl rfl)
abbrev cX1_stops : ByteArray := prog_6_method_15_code
def yX1_stops : MethodName := ⟨RX1, "stops", "()I"⟩
def dkwX1_stops_2 : List UInt8 := [181, 0, 63, 42, 180, 0, 9, 172]
abbrev dktX1_stops_2 : List UInt8 := dkwX1_stops_2 ++ []
def dkwX1_stops_1 : List UInt8 := [182, 0, 122, 42, 42, 180, 0, 9, 4, 160, 0, 7, 3, 167, 0, 4, 7, 181, 0, 9, 42, 3]
abbrev dktX1_stops_1 : List UInt8 := dkwX1_stops_1 ++ dktX1_stops_2
def dkwX1_stops_0 : List UInt8 := [42, 180, 0, 9, 153, 0, 15, 42, 180, 0, 9, 7, 159, 0, 7, 4, 167, 0, 4, 3, 184, 0, 155, 42]
abbrev dktX1_stops_0 : List UInt8 := dkwX1_stops_0 ++ dktX1_stops_1
theorem dksX1_stops_0 : cX1_stops.data.toList.drop 0 = dktX1_stops_0 := by decide +kernel
theorem dksX1_stops_1 : cX1_stops.data.toList.drop 24 = dktX1_stops_1 := dk_seg dksX1_stops_0 24 rfl rfl
theorem dksX1_stops_2 : cX1_stops.data.toList.drop 46 = dktX1_stops_2 := dk_seg dksX1_stops_1 22 rfl rfl
theorem dX1_stops_0 : decode cX1_stops 0 = .ok (.aload_n 0, 1) := dk_42 (dk_at dksX1_stops_0 0 rfl rfl)
theorem dX1_stops_1 : decode cX1_stops 1 = .ok (.getfield 9, 3) := dk_180 0 9 (dk_at dksX1_stops_0 1 rfl rfl)
theorem dX1_stops_4 : decode cX1_stops 4 = .ok (.ifCond .eq 15, 3) := dk_153 0 15 (dk_at dksX1_stops_0 4 rfl rfl)
theorem dX1_stops_7 : decode cX1_stops 7 = .ok (.aload_n 0, 1) := dk_42 (dk_at dksX1_stops_0 7 rfl rfl)
theorem dX1_stops_8 : decode cX1_stops 8 = .ok (.getfield 9, 3) := dk_180 0 9 (dk_at dksX1_stops_0 8 rfl rfl)
theorem dX1_stops_11 : decode cX1_stops 11 = .ok (.iconst 4, 1) := dk_7 (dk_at dksX1_stops_0 11 rfl rfl)
theorem dX1_stops_12 : decode cX1_stops 12 = .ok (.if_icmp .eq 7, 3) := dk_159 0 7 (dk_at dksX1_stops_0 12 rfl rfl)
theorem dX1_stops_15 : decode cX1_stops 15 = .ok (.iconst 1, 1) := dk_4 (dk_at dksX1_stops_0 15 rfl rfl)
theorem dX1_stops_16 : decode cX1_stops 16 = .ok (.goto 4, 3) := dk_167 0 4 (dk_at dksX1_stops_0 16 rfl rfl)
theorem dX1_stops_19 : decode cX1_stops 19 = .ok (.iconst 0, 1) := dk_3 (dk_at dksX1_stops_0 19 rfl rfl)
theorem dX1_stops_20 : decode cX1_stops 20 = .ok (.invokestatic 155, 3) := dk_184 0 155 (dk_at dksX1_stops_0 20 rfl rfl)
theorem dX1_stops_23 : decode cX1_stops 23 = .ok (.aload_n 0, 1) := dk_42 (dk_at dksX1_stops_0 23 rfl rfl)
theorem dX1_stops_24 : decode cX1_stops 24 = .ok (.invokevirtual 122, 3) := dk_182 0 122 (dk_at dksX1_stops_1 0 rfl rfl)
theorem dX1_stops_27 : decode cX1_stops 27 = .ok (.aload_n 0, 1) := dk_42 (dk_at dksX1_stops_1 3 rfl rfl)
theorem dX1_stops_28 : decode cX1_stops 28 = .ok (.aload_n 0, 1) := dk_42 (dk_at dksX1_stops_1 4 rfl rfl)
theorem dX1_stops_29 : decode cX1_stops 29 = .ok (.getfield 9, 3) := dk_180 0 9 (dk_at dksX1_stops_1 5 rfl rfl)
theorem dX1_stops_32 : decode cX1_stops 32 = .ok (.iconst 1, 1) := dk_4 (dk_at dksX1_stops_1 8 rfl rfl)
theorem dX1_stops_33 : decode cX1_stops 33 = .ok (.if_icmp .ne 7, 3) := dk_160 0 7 (dk_at dksX1_stops_1 9 rfl rfl)
theorem dX1_stops_36 : decode cX1_stops 36 = .ok (.iconst 0, 1) := dk_3 (dk_at dksX1_stops_1 12 rfl rfl)
theorem dX1_stops_37 : decode cX1_stops 37 = .ok (.goto 4, 3) := dk_167 0 4 (dk_at dksX1_stops_1 13 rfl rfl)
theorem dX1_stops_40 : decode cX1_stops 40 = .ok (.iconst 4, 1) := dk_7 (dk_at dksX1_stops_1 16 rfl rfl)
theorem dX1_stops_41 : decode cX1_stops 41 = .ok (.putfield 9, 3) := dk_181 0 9 (dk_at dksX1_stops_1 17 rfl rfl)
theorem dX1_stops_44 : decode cX1_stops 44 = .ok (.aload_n 0, 1) := dk_42 (dk_at dksX1_stops_1 20 rfl rfl)
theorem dX1_stops_45 : decode cX1_stops 45 = .ok (.iconst 0, 1) := dk_3 (dk_at dksX1_stops_1 21 rfl rfl)
theorem dX1_stops_46 : decode cX1_stops 46 = .ok (.putfield 63, 3) := dk_181 0 63 (dk_at dksX1_stops_2 0 rfl rfl)
theorem dX1_stops_49 : decode cX1_stops 49 = .ok (.aload_n 0, 1) := dk_42 (dk_at dksX1_stops_2 3 rfl rfl)
theorem dX1_stops_50 : decode cX1_stops 50 = .ok (.getfield 9, 3) := dk_180 0 9 (dk_at dksX1_stops_2 4 rfl rfl)
theorem dX1_stops_53 : decode cX1_stops 53 = .ok (.ireturn, 1) := dk_172 (dk_at dksX1_stops_2 7 rfl rfl)
abbrev cX1_empties : ByteArray := prog_6_method_16_code
def yX1_empties : MethodName := ⟨RX1, "empties", "()I"⟩
def dkwX1_empties_2 : List UInt8 := [181, 0, 63, 42, 3, 181, 0, 66, 42, 3, 181, 0, 69, 27, 172]
abbrev dktX1_empties_2 : List UInt8 := dkwX1_empties_2 ++ []
def dkwX1_empties_1 : List UInt8 := [180, 0, 18, 182, 0, 172, 42, 180, 0, 25, 182, 0, 119, 42, 182, 0, 122, 42, 3, 181, 0, 9, 42, 3]
abbrev dktX1_empties_1 : List UInt8 := dkwX1_empties_1 ++ dktX1_empties_2
def dkwX1_empties_0 : List UInt8 := [42, 180, 0, 9, 153, 0, 7, 4, 167, 0, 4, 3, 184, 0, 155, 42, 180, 0, 18, 182, 0, 109, 60, 42]
abbrev dktX1_empties_0 : List UInt8 := dkwX1_empties_0 ++ dktX1_empties_1
theorem dksX1_empties_0 : cX1_empties.data.toList.drop 0 = dktX1_empties_0 := by decide +kernel
theorem dksX1_empties_1 : cX1_empties.data.toList.drop 24 = dktX1_empties_1 := dk_seg dksX1_empties_0 24 rfl rfl
theorem dksX1_empties_2 : cX1_empties.data.toList.drop 48 = dktX1_empties_2 := dk_seg dksX1_empties_1 24 rfl rfl
theorem dX1_empties_0 : decode cX1_empties 0 = .ok (.aload_n 0, 1) := dk_42 (dk_at dksX1_empties_0 0 rfl rfl)
theorem dX1_empties_1 : decode cX1_empties 1 = .ok (.getfield 9, 3) := dk_180 0 9 (dk_at dksX1_empties_0 1 rfl rfl)
theorem dX1_empties_4 : decode cX1_empties 4 = .ok (.ifCond .eq 7, 3) := dk_153 0 7 (dk_at dksX1_empties_0 4 rfl rfl)
theorem dX1_empties_7 : decode cX1_empties 7 = .ok (.iconst 1, 1) := dk_4 (dk_at dksX1_empties_0 7 rfl rfl)
theorem dX1_empties_8 : decode cX1_empties 8 = .ok (.goto 4, 3) := dk_167 0 4 (dk_at dksX1_empties_0 8 rfl rfl)
theorem dX1_empties_11 : decode cX1_empties 11 = .ok (.iconst 0, 1) := dk_3 (dk_at dksX1_empties_0 11 rfl rfl)
theorem dX1_empties_12 : decode cX1_empties 12 = .ok (.invokestatic 155, 3) := dk_184 0 155 (dk_at dksX1_empties_0 12 rfl rfl)
theorem dX1_empties_15 : decode cX1_empties 15 = .ok (.aload_n 0, 1) := dk_42 (dk_at dksX1_empties_0 15 rfl rfl)
theorem dX1_empties_16 : decode cX1_empties 16 = .ok (.getfield 18, 3) := dk_180 0 18 (dk_at dksX1_empties_0 16 rfl rfl)
theorem dX1_empties_19 : decode cX1_empties 19 = .ok (.invokevirtual 109, 3) := dk_182 0 109 (dk_at dksX1_empties_0 19 rfl rfl)
theorem dX1_empties_22 : decode cX1_empties 22 = .ok (.istore_n 1, 1) := dk_60 (dk_at dksX1_empties_0 22 rfl rfl)
theorem dX1_empties_23 : decode cX1_empties 23 = .ok (.aload_n 0, 1) := dk_42 (dk_at dksX1_empties_0 23 rfl rfl)
theorem dX1_empties_24 : decode cX1_empties 24 = .ok (.getfield 18, 3) := dk_180 0 18 (dk_at dksX1_empties_1 0 rfl rfl)
theorem dX1_empties_27 : decode cX1_empties 27 = .ok (.invokevirtual 172, 3) := dk_182 0 172 (dk_at dksX1_empties_1 3 rfl rfl)
theorem dX1_empties_30 : decode cX1_empties 30 = .ok (.aload_n 0, 1) := dk_42 (dk_at dksX1_empties_1 6 rfl rfl)
theorem dX1_empties_31 : decode cX1_empties 31 = .ok (.getfield 25, 3) := dk_180 0 25 (dk_at dksX1_empties_1 7 rfl rfl)
theorem dX1_empties_34 : decode cX1_empties 34 = .ok (.invokevirtual 119, 3) := dk_182 0 119 (dk_at dksX1_empties_1 10 rfl rfl)
theorem dX1_empties_37 : decode cX1_empties 37 = .ok (.aload_n 0, 1) := dk_42 (dk_at dksX1_empties_1 13 rfl rfl)
theorem dX1_empties_38 : decode cX1_empties 38 = .ok (.invokevirtual 122, 3) := dk_182 0 122 (dk_at dksX1_empties_1 14 rfl rfl)
theorem dX1_empties_41 : decode cX1_empties 41 = .ok (.aload_n 0, 1) := dk_42 (dk_at dksX1_empties_1 17 rfl rfl)
theorem dX1_empties_42 : decode cX1_empties 42 = .ok (.iconst 0, 1) := dk_3 (dk_at dksX1_empties_1 18 rfl rfl)
theorem dX1_empties_43 : decode cX1_empties 43 = .ok (.putfield 9, 3) := dk_181 0 9 (dk_at dksX1_empties_1 19 rfl rfl)
theorem dX1_empties_46 : decode cX1_empties 46 = .ok (.aload_n 0, 1) := dk_42 (dk_at dksX1_empties_1 22 rfl rfl)
theorem dX1_empties_47 : decode cX1_empties 47 = .ok (.iconst 0, 1) := dk_3 (dk_at dksX1_empties_1 23 rfl rfl)
theorem dX1_empties_48 : decode cX1_empties 48 = .ok (.putfield 63, 3) := dk_181 0 63 (dk_at dksX1_empties_2 0 rfl rfl)
theorem dX1_empties_51 : decode cX1_empties 51 = .ok (.aload_n 0, 1) := dk_42 (dk_at dksX1_empties_2 3 rfl rfl)
theorem dX1_empties_52 : decode cX1_empties 52 = .ok (.iconst 0, 1) := dk_3 (dk_at dksX1_empties_2 4 rfl rfl)
theorem dX1_empties_53 : decode cX1_empties 53 = .ok (.putfield 66, 3) := dk_181 0 66 (dk_at dksX1_empties_2 5 rfl rfl)
theorem dX1_empties_56 : decode cX1_empties 56 = .ok (.aload_n 0, 1) := dk_42 (dk_at dksX1_empties_2 8 rfl rfl)
theorem dX1_empties_57 : decode cX1_empties 57 = .ok (.iconst 0, 1) := dk_3 (dk_at dksX1_empties_2 9 rfl rfl)
theorem dX1_empties_58 : decode cX1_empties 58 = .ok (.putfield 69, 3) := dk_181 0 69 (dk_at dksX1_empties_2 10 rfl rfl)
theorem dX1_empties_61 : decode cX1_empties 61 = .ok (.iload_n 1, 1) := dk_27 (dk_at dksX1_empties_2 13 rfl rfl)
theorem dX1_empties_62 : decode cX1_empties 62 = .ok (.ireturn, 1) := dk_172 (dk_at dksX1_empties_2 14 rfl rfl)
abbrev cX1_hits : ByteArray := prog_6_method_17_code
def yX1_hits : MethodName := ⟨RX1, "hits", "(II)I"⟩
def dkwX1_hits_3 : List UInt8 := [182, 0, 180, 172]
abbrev dktX1_hits_3 : List UInt8 := dkwX1_hits_3 ++ []
def dkwX1_hits_2 : List UInt8 := [180, 0, 88, 182, 0, 99, 112, 62, 42, 180, 0, 88, 29, 27, 16, 12, 42, 180, 0, 72, 104, 96, 28]
abbrev dktX1_hits_2 : List UInt8 := dkwX1_hits_2 ++ dktX1_hits_3
def dkwX1_hits_1 : List UInt8 := [3, 184, 0, 177, 42, 182, 0, 152, 184, 0, 155, 42, 180, 0, 82, 42, 180, 0, 85, 96, 5, 108, 42]
abbrev dktX1_hits_1 : List UInt8 := dkwX1_hits_1 ++ dktX1_hits_2
def dkwX1_hits_0 : List UInt8 := [27, 3, 16, 23, 184, 0, 173, 153, 0, 17, 28, 4, 16, 99, 184, 0, 173, 153, 0, 7, 4, 167, 0, 4]
abbrev dktX1_hits_0 : List UInt8 := dkwX1_hits_0 ++ dktX1_hits_1
theorem dksX1_hits_0 : cX1_hits.data.toList.drop 0 = dktX1_hits_0 := by decide +kernel
theorem dksX1_hits_1 : cX1_hits.data.toList.drop 24 = dktX1_hits_1 := dk_seg dksX1_hits_0 24 rfl rfl
theorem dksX1_hits_2 : cX1_hits.data.toList.drop 47 = dktX1_hits_2 := dk_seg dksX1_hits_1 23 rfl rfl
theorem dksX1_hits_3 : cX1_hits.data.toList.drop 70 = dktX1_hits_3 := dk_seg dksX1_hits_2 23 rfl rfl
theorem dX1_hits_0 : decode cX1_hits 0 = .ok (.iload_n 1, 1) := dk_27 (dk_at dksX1_hits_0 0 rfl rfl)
theorem dX1_hits_1 : decode cX1_hits 1 = .ok (.iconst 0, 1) := dk_3 (dk_at dksX1_hits_0 1 rfl rfl)
theorem dX1_hits_2 : decode cX1_hits 2 = .ok (.bipush 23, 2) := dk_16 23 (dk_at dksX1_hits_0 2 rfl rfl)
theorem dX1_hits_4 : decode cX1_hits 4 = .ok (.invokestatic 173, 3) := dk_184 0 173 (dk_at dksX1_hits_0 4 rfl rfl)
theorem dX1_hits_7 : decode cX1_hits 7 = .ok (.ifCond .eq 17, 3) := dk_153 0 17 (dk_at dksX1_hits_0 7 rfl rfl)
theorem dX1_hits_10 : decode cX1_hits 10 = .ok (.iload_n 2, 1) := dk_28 (dk_at dksX1_hits_0 10 rfl rfl)
theorem dX1_hits_11 : decode cX1_hits 11 = .ok (.iconst 1, 1) := dk_4 (dk_at dksX1_hits_0 11 rfl rfl)
theorem dX1_hits_12 : decode cX1_hits 12 = .ok (.bipush 99, 2) := dk_16 99 (dk_at dksX1_hits_0 12 rfl rfl)
theorem dX1_hits_14 : decode cX1_hits 14 = .ok (.invokestatic 173, 3) := dk_184 0 173 (dk_at dksX1_hits_0 14 rfl rfl)
theorem dX1_hits_17 : decode cX1_hits 17 = .ok (.ifCond .eq 7, 3) := dk_153 0 7 (dk_at dksX1_hits_0 17 rfl rfl)
theorem dX1_hits_20 : decode cX1_hits 20 = .ok (.iconst 1, 1) := dk_4 (dk_at dksX1_hits_0 20 rfl rfl)
theorem dX1_hits_21 : decode cX1_hits 21 = .ok (.goto 4, 3) := dk_167 0 4 (dk_at dksX1_hits_0 21 rfl rfl)
theorem dX1_hits_24 : decode cX1_hits 24 = .ok (.iconst 0, 1) := dk_3 (dk_at dksX1_hits_1 0 rfl rfl)
theorem dX1_hits_25 : decode cX1_hits 25 = .ok (.invokestatic 177, 3) := dk_184 0 177 (dk_at dksX1_hits_1 1 rfl rfl)
theorem dX1_hits_28 : decode cX1_hits 28 = .ok (.aload_n 0, 1) := dk_42 (dk_at dksX1_hits_1 4 rfl rfl)
theorem dX1_hits_29 : decode cX1_hits 29 = .ok (.invokevirtual 152, 3) := dk_182 0 152 (dk_at dksX1_hits_1 5 rfl rfl)
theorem dX1_hits_32 : decode cX1_hits 32 = .ok (.invokestatic 155, 3) := dk_184 0 155 (dk_at dksX1_hits_1 8 rfl rfl)
theorem dX1_hits_35 : decode cX1_hits 35 = .ok (.aload_n 0, 1) := dk_42 (dk_at dksX1_hits_1 11 rfl rfl)
theorem dX1_hits_36 : decode cX1_hits 36 = .ok (.getfield 82, 3) := dk_180 0 82 (dk_at dksX1_hits_1 12 rfl rfl)
theorem dX1_hits_39 : decode cX1_hits 39 = .ok (.aload_n 0, 1) := dk_42 (dk_at dksX1_hits_1 15 rfl rfl)
theorem dX1_hits_40 : decode cX1_hits 40 = .ok (.getfield 85, 3) := dk_180 0 85 (dk_at dksX1_hits_1 16 rfl rfl)
theorem dX1_hits_43 : decode cX1_hits 43 = .ok (.iadd, 1) := dk_96 (dk_at dksX1_hits_1 19 rfl rfl)
theorem dX1_hits_44 : decode cX1_hits 44 = .ok (.iconst 2, 1) := dk_5 (dk_at dksX1_hits_1 20 rfl rfl)
theorem dX1_hits_45 : decode cX1_hits 45 = .ok (.idiv, 1) := dk_108 (dk_at dksX1_hits_1 21 rfl rfl)
theorem dX1_hits_46 : decode cX1_hits 46 = .ok (.aload_n 0, 1) := dk_42 (dk_at dksX1_hits_1 22 rfl rfl)
theorem dX1_hits_47 : decode cX1_hits 47 = .ok (.getfield 88, 3) := dk_180 0 88 (dk_at dksX1_hits_2 0 rfl rfl)
theorem dX1_hits_50 : decode cX1_hits 50 = .ok (.invokevirtual 99, 3) := dk_182 0 99 (dk_at dksX1_hits_2 3 rfl rfl)
theorem dX1_hits_53 : decode cX1_hits 53 = .ok (.irem, 1) := dk_112 (dk_at dksX1_hits_2 6 rfl rfl)
theorem dX1_hits_54 : decode cX1_hits 54 = .ok (.istore_n 3, 1) := dk_62 (dk_at dksX1_hits_2 7 rfl rfl)
theorem dX1_hits_55 : decode cX1_hits 55 = .ok (.aload_n 0, 1) := dk_42 (dk_at dksX1_hits_2 8 rfl rfl)
theorem dX1_hits_56 : decode cX1_hits 56 = .ok (.getfield 88, 3) := dk_180 0 88 (dk_at dksX1_hits_2 9 rfl rfl)
theorem dX1_hits_59 : decode cX1_hits 59 = .ok (.iload_n 3, 1) := dk_29 (dk_at dksX1_hits_2 12 rfl rfl)
theorem dX1_hits_60 : decode cX1_hits 60 = .ok (.iload_n 1, 1) := dk_27 (dk_at dksX1_hits_2 13 rfl rfl)
theorem dX1_hits_61 : decode cX1_hits 61 = .ok (.bipush 12, 2) := dk_16 12 (dk_at dksX1_hits_2 14 rfl rfl)
theorem dX1_hits_63 : decode cX1_hits 63 = .ok (.aload_n 0, 1) := dk_42 (dk_at dksX1_hits_2 16 rfl rfl)
theorem dX1_hits_64 : decode cX1_hits 64 = .ok (.getfield 72, 3) := dk_180 0 72 (dk_at dksX1_hits_2 17 rfl rfl)
theorem dX1_hits_67 : decode cX1_hits 67 = .ok (.imul, 1) := dk_104 (dk_at dksX1_hits_2 20 rfl rfl)
theorem dX1_hits_68 : decode cX1_hits 68 = .ok (.iadd, 1) := dk_96 (dk_at dksX1_hits_2 21 rfl rfl)
theorem dX1_hits_69 : decode cX1_hits 69 = .ok (.iload_n 2, 1) := dk_28 (dk_at dksX1_hits_2 22 rfl rfl)
theorem dX1_hits_70 : decode cX1_hits 70 = .ok (.invokevirtual 180, 3) := dk_182 0 180 (dk_at dksX1_hits_3 0 rfl rfl)
theorem dX1_hits_73 : decode cX1_hits 73 = .ok (.ireturn, 1) := dk_172 (dk_at dksX1_hits_3 3 rfl rfl)
abbrev cX1_ticks : ByteArray := prog_6_method_20_code
def yX1_ticks : MethodName := ⟨RX1, "ticks", "(I)I"⟩
def dkwX1_ticks_2 : List UInt8 := [132, 3, 1, 167, 255, 221, 28, 172]
abbrev dktX1_ticks_2 : List UInt8 := dkwX1_ticks_2 ++ []
def dkwX1_ticks_1 : List UInt8 := [54, 4, 42, 182, 0, 191, 28, 42, 180, 0, 66, 21, 4, 164, 0, 7, 4, 167, 0, 4, 3, 96, 61]
abbrev dktX1_ticks_1 : List UInt8 := dkwX1_ticks_1 ++ dktX1_ticks_2
def dkwX1_ticks_0 : List UInt8 := [27, 4, 16, 99, 184, 0, 173, 184, 0, 177, 3, 61, 3, 62, 29, 27, 162, 0, 36, 42, 180, 0, 66]
abbrev dktX1_ticks_0 : List UInt8 := dkwX1_ticks_0 ++ dktX1_ticks_1
theorem dksX1_ticks_0 : cX1_ticks.data.toList.drop 0 = dktX1_ticks_0 := by decide +kernel
theorem dksX1_ticks_1 : cX1_ticks.data.toList.drop 23 = dktX1_ticks_1 := dk_seg dksX1_ticks_0 23 rfl rfl
theorem dksX1_ticks_2 : cX1_ticks.data.toList.drop 46 = dktX1_ticks_2 := dk_seg dksX1_ticks_1 23 rfl rfl
theorem dX1_ticks_0 : decode cX1_ticks 0 = .ok (.iload_n 1, 1) := dk_27 (dk_at dksX1_ticks_0 0 rfl rfl)
theorem dX1_ticks_1 : decode cX1_ticks 1 = .ok (.iconst 1, 1) := dk_4 (dk_at dksX1_ticks_0 1 rfl rfl)
theorem dX1_ticks_2 : decode cX1_ticks 2 = .ok (.bipush 99, 2) := dk_16 99 (dk_at dksX1_ticks_0 2 rfl rfl)
theorem dX1_ticks_4 : decode cX1_ticks 4 = .ok (.invokestatic 173, 3) := dk_184 0 173 (dk_at dksX1_ticks_0 4 rfl rfl)
theorem dX1_ticks_7 : decode cX1_ticks 7 = .ok (.invokestatic 177, 3) := dk_184 0 177 (dk_at dksX1_ticks_0 7 rfl rfl)
theorem dX1_ticks_10 : decode cX1_ticks 10 = .ok (.iconst 0, 1) := dk_3 (dk_at dksX1_ticks_0 10 rfl rfl)
theorem dX1_ticks_11 : decode cX1_ticks 11 = .ok (.istore_n 2, 1) := dk_61 (dk_at dksX1_ticks_0 11 rfl rfl)
theorem dX1_ticks_12 : decode cX1_ticks 12 = .ok (.iconst 0, 1) := dk_3 (dk_at dksX1_ticks_0 12 rfl rfl)
theorem dX1_ticks_13 : decode cX1_ticks 13 = .ok (.istore_n 3, 1) := dk_62 (dk_at dksX1_ticks_0 13 rfl rfl)
theorem dX1_ticks_14 : decode cX1_ticks 14 = .ok (.iload_n 3, 1) := dk_29 (dk_at dksX1_ticks_0 14 rfl rfl)
theorem dX1_ticks_15 : decode cX1_ticks 15 = .ok (.iload_n 1, 1) := dk_27 (dk_at dksX1_ticks_0 15 rfl rfl)
theorem dX1_ticks_16 : decode cX1_ticks 16 = .ok (.if_icmp .ge 36, 3) := dk_162 0 36 (dk_at dksX1_ticks_0 16 rfl rfl)
theorem dX1_ticks_19 : decode cX1_ticks 19 = .ok (.aload_n 0, 1) := dk_42 (dk_at dksX1_ticks_0 19 rfl rfl)
theorem dX1_ticks_20 : decode cX1_ticks 20 = .ok (.getfield 66, 3) := dk_180 0 66 (dk_at dksX1_ticks_0 20 rfl rfl)
theorem dX1_ticks_23 : decode cX1_ticks 23 = .ok (.istore 4, 2) := dk_54 4 (dk_at dksX1_ticks_1 0 rfl rfl)
theorem dX1_ticks_25 : decode cX1_ticks 25 = .ok (.aload_n 0, 1) := dk_42 (dk_at dksX1_ticks_1 2 rfl rfl)
theorem dX1_ticks_26 : decode cX1_ticks 26 = .ok (.invokevirtual 191, 3) := dk_182 0 191 (dk_at dksX1_ticks_1 3 rfl rfl)
theorem dX1_ticks_29 : decode cX1_ticks 29 = .ok (.iload_n 2, 1) := dk_28 (dk_at dksX1_ticks_1 6 rfl rfl)
theorem dX1_ticks_30 : decode cX1_ticks 30 = .ok (.aload_n 0, 1) := dk_42 (dk_at dksX1_ticks_1 7 rfl rfl)
theorem dX1_ticks_31 : decode cX1_ticks 31 = .ok (.getfield 66, 3) := dk_180 0 66 (dk_at dksX1_ticks_1 8 rfl rfl)
theorem dX1_ticks_34 : decode cX1_ticks 34 = .ok (.iload 4, 2) := dk_21 4 (dk_at dksX1_ticks_1 11 rfl rfl)
theorem dX1_ticks_36 : decode cX1_ticks 36 = .ok (.if_icmp .le 7, 3) := dk_164 0 7 (dk_at dksX1_ticks_1 13 rfl rfl)
theorem dX1_ticks_39 : decode cX1_ticks 39 = .ok (.iconst 1, 1) := dk_4 (dk_at dksX1_ticks_1 16 rfl rfl)
theorem dX1_ticks_40 : decode cX1_ticks 40 = .ok (.goto 4, 3) := dk_167 0 4 (dk_at dksX1_ticks_1 17 rfl rfl)
theorem dX1_ticks_43 : decode cX1_ticks 43 = .ok (.iconst 0, 1) := dk_3 (dk_at dksX1_ticks_1 20 rfl rfl)
theorem dX1_ticks_44 : decode cX1_ticks 44 = .ok (.iadd, 1) := dk_96 (dk_at dksX1_ticks_1 21 rfl rfl)
theorem dX1_ticks_45 : decode cX1_ticks 45 = .ok (.istore_n 2, 1) := dk_61 (dk_at dksX1_ticks_1 22 rfl rfl)
theorem dX1_ticks_46 : decode cX1_ticks 46 = .ok (.iinc 3 1, 3) := dk_132 3 1 (dk_at dksX1_ticks_2 0 rfl rfl)
theorem dX1_ticks_49 : decode cX1_ticks 49 = .ok (.goto (-35), 3) := dk_167 255 221 (dk_at dksX1_ticks_2 3 rfl rfl)
theorem dX1_ticks_52 : decode cX1_ticks 52 = .ok (.iload_n 2, 1) := dk_28 (dk_at dksX1_ticks_2 6 rfl rfl)
theorem dX1_ticks_53 : decode cX1_ticks 53 = .ok (.ireturn, 1) := dk_172 (dk_at dksX1_ticks_2 7 rfl rfl)
abbrev cX1_tick : ByteArray := prog_6_method_19_code
def yX1_tick : MethodName := ⟨RX1, "tick", "()V"⟩
def dkwX1_tick_5 : List UInt8 := [42, 182, 0, 145, 104, 161, 0, 7, 42, 182, 0, 169, 177]
abbrev dktX1_tick_5 : List UInt8 := dkwX1_tick_5 ++ []
def dkwX1_tick_4 : List UInt8 := [182, 0, 148, 104, 161, 0, 7, 42, 182, 0, 188, 42, 180, 0, 9, 6, 160, 0, 20, 42, 180, 0, 85, 7]
abbrev dktX1_tick_4 : List UInt8 := dkwX1_tick_4 ++ dktX1_tick_5
def dkwX1_tick_3 : List UInt8 := [180, 0, 63, 27, 96, 181, 0, 63, 42, 89, 180, 0, 69, 27, 96, 181, 0, 69, 42, 180, 0, 63, 5, 42]
abbrev dktX1_tick_3 : List UInt8 := dkwX1_tick_3 ++ dktX1_tick_4
def dkwX1_tick_2 : List UInt8 := [182, 0, 163, 167, 0, 81, 42, 180, 0, 9, 5, 159, 0, 11, 42, 180, 0, 9, 6, 160, 0, 65, 42, 89]
abbrev dktX1_tick_2 : List UInt8 := dkwX1_tick_2 ++ dktX1_tick_3
def dkwX1_tick_1 : List UInt8 := [96, 181, 0, 85, 42, 180, 0, 9, 4, 160, 0, 19, 42, 180, 0, 85, 16, 48, 161, 0, 88, 42]
abbrev dktX1_tick_1 : List UInt8 := dkwX1_tick_1 ++ dktX1_tick_2
def dkwX1_tick_0 : List UInt8 := [5, 42, 180, 0, 72, 100, 60, 42, 89, 180, 0, 85, 42, 182, 0, 152, 153, 0, 7, 27, 167, 0, 4, 3]
abbrev dktX1_tick_0 : List UInt8 := dkwX1_tick_0 ++ dktX1_tick_1
theorem dksX1_tick_0 : cX1_tick.data.toList.drop 0 = dktX1_tick_0 := by decide +kernel
theorem dksX1_tick_1 : cX1_tick.data.toList.drop 24 = dktX1_tick_1 := dk_seg dksX1_tick_0 24 rfl rfl
theorem dksX1_tick_2 : cX1_tick.data.toList.drop 46 = dktX1_tick_2 := dk_seg dksX1_tick_1 22 rfl rfl
theorem dksX1_tick_3 : cX1_tick.data.toList.drop 70 = dktX1_tick_3 := dk_seg dksX1_tick_2 24 rfl rfl
theorem dksX1_tick_4 : cX1_tick.data.toList.drop 94 = dktX1_tick_4 := dk_seg dksX1_tick_3 24 rfl rfl
theorem dksX1_tick_5 : cX1_tick.data.toList.drop 118 = dktX1_tick_5 := dk_seg dksX1_tick_4 24 rfl rfl
theorem dX1_tick_0 : decode cX1_tick 0 = .ok (.iconst 2, 1) := dk_5 (dk_at dksX1_tick_0 0 rfl rfl)
theorem dX1_tick_1 : decode cX1_tick 1 = .ok (.aload_n 0, 1) := dk_42 (dk_at dksX1_tick_0 1 rfl rfl)
theorem dX1_tick_2 : decode cX1_tick 2 = .ok (.getfield 72, 3) := dk_180 0 72 (dk_at dksX1_tick_0 2 rfl rfl)
theorem dX1_tick_5 : decode cX1_tick 5 = .ok (.isub, 1) := dk_100 (dk_at dksX1_tick_0 5 rfl rfl)
theorem dX1_tick_6 : decode cX1_tick 6 = .ok (.istore_n 1, 1) := dk_60 (dk_at dksX1_tick_0 6 rfl rfl)
theorem dX1_tick_7 : decode cX1_tick 7 = .ok (.aload_n 0, 1) := dk_42 (dk_at dksX1_tick_0 7 rfl rfl)
theorem dX1_tick_8 : decode cX1_tick 8 = .ok (.dup, 1) := dk_89 (dk_at dksX1_tick_0 8 rfl rfl)
theorem dX1_tick_9 : decode cX1_tick 9 = .ok (.getfield 85, 3) := dk_180 0 85 (dk_at dksX1_tick_0 9 rfl rfl)
theorem dX1_tick_12 : decode cX1_tick 12 = .ok (.aload_n 0, 1) := dk_42 (dk_at dksX1_tick_0 12 rfl rfl)
theorem dX1_tick_13 : decode cX1_tick 13 = .ok (.invokevirtual 152, 3) := dk_182 0 152 (dk_at dksX1_tick_0 13 rfl rfl)
theorem dX1_tick_16 : decode cX1_tick 16 = .ok (.ifCond .eq 7, 3) := dk_153 0 7 (dk_at dksX1_tick_0 16 rfl rfl)
theorem dX1_tick_19 : decode cX1_tick 19 = .ok (.iload_n 1, 1) := dk_27 (dk_at dksX1_tick_0 19 rfl rfl)
theorem dX1_tick_20 : decode cX1_tick 20 = .ok (.goto 4, 3) := dk_167 0 4 (dk_at dksX1_tick_0 20 rfl rfl)
theorem dX1_tick_23 : decode cX1_tick 23 = .ok (.iconst 0, 1) := dk_3 (dk_at dksX1_tick_0 23 rfl rfl)
theorem dX1_tick_24 : decode cX1_tick 24 = .ok (.iadd, 1) := dk_96 (dk_at dksX1_tick_1 0 rfl rfl)
theorem dX1_tick_25 : decode cX1_tick 25 = .ok (.putfield 85, 3) := dk_181 0 85 (dk_at dksX1_tick_1 1 rfl rfl)
theorem dX1_tick_28 : decode cX1_tick 28 = .ok (.aload_n 0, 1) := dk_42 (dk_at dksX1_tick_1 4 rfl rfl)
theorem dX1_tick_29 : decode cX1_tick 29 = .ok (.getfield 9, 3) := dk_180 0 9 (dk_at dksX1_tick_1 5 rfl rfl)
theorem dX1_tick_32 : decode cX1_tick 32 = .ok (.iconst 1, 1) := dk_4 (dk_at dksX1_tick_1 8 rfl rfl)
theorem dX1_tick_33 : decode cX1_tick 33 = .ok (.if_icmp .ne 19, 3) := dk_160 0 19 (dk_at dksX1_tick_1 9 rfl rfl)
theorem dX1_tick_36 : decode cX1_tick 36 = .ok (.aload_n 0, 1) := dk_42 (dk_at dksX1_tick_1 12 rfl rfl)
theorem dX1_tick_37 : decode cX1_tick 37 = .ok (.getfield 85, 3) := dk_180 0 85 (dk_at dksX1_tick_1 13 rfl rfl)
theorem dX1_tick_40 : decode cX1_tick 40 = .ok (.bipush 48, 2) := dk_16 48 (dk_at dksX1_tick_1 16 rfl rfl)
theorem dX1_tick_42 : decode cX1_tick 42 = .ok (.if_icmp .lt 88, 3) := dk_161 0 88 (dk_at dksX1_tick_1 18 rfl rfl)
theorem dX1_tick_45 : decode cX1_tick 45 = .ok (.aload_n 0, 1) := dk_42 (dk_at dksX1_tick_1 21 rfl rfl)
theorem dX1_tick_46 : decode cX1_tick 46 = .ok (.invokevirtual 163, 3) := dk_182 0 163 (dk_at dksX1_tick_2 0 rfl rfl)
theorem dX1_tick_49 : decode cX1_tick 49 = .ok (.goto 81, 3) := dk_167 0 81 (dk_at dksX1_tick_2 3 rfl rfl)
theorem dX1_tick_52 : decode cX1_tick 52 = .ok (.aload_n 0, 1) := dk_42 (dk_at dksX1_tick_2 6 rfl rfl)
theorem dX1_tick_53 : decode cX1_tick 53 = .ok (.getfield 9, 3) := dk_180 0 9 (dk_at dksX1_tick_2 7 rfl rfl)
theorem dX1_tick_56 : decode cX1_tick 56 = .ok (.iconst 2, 1) := dk_5 (dk_at dksX1_tick_2 10 rfl rfl)
theorem dX1_tick_57 : decode cX1_tick 57 = .ok (.if_icmp .eq 11, 3) := dk_159 0 11 (dk_at dksX1_tick_2 11 rfl rfl)
theorem dX1_tick_60 : decode cX1_tick 60 = .ok (.aload_n 0, 1) := dk_42 (dk_at dksX1_tick_2 14 rfl rfl)
theorem dX1_tick_61 : decode cX1_tick 61 = .ok (.getfield 9, 3) := dk_180 0 9 (dk_at dksX1_tick_2 15 rfl rfl)
theorem dX1_tick_64 : decode cX1_tick 64 = .ok (.iconst 3, 1) := dk_6 (dk_at dksX1_tick_2 18 rfl rfl)
theorem dX1_tick_65 : decode cX1_tick 65 = .ok (.if_icmp .ne 65, 3) := dk_160 0 65 (dk_at dksX1_tick_2 19 rfl rfl)
theorem dX1_tick_68 : decode cX1_tick 68 = .ok (.aload_n 0, 1) := dk_42 (dk_at dksX1_tick_2 22 rfl rfl)
theorem dX1_tick_69 : decode cX1_tick 69 = .ok (.dup, 1) := dk_89 (dk_at dksX1_tick_2 23 rfl rfl)
theorem dX1_tick_70 : decode cX1_tick 70 = .ok (.getfield 63, 3) := dk_180 0 63 (dk_at dksX1_tick_3 0 rfl rfl)
theorem dX1_tick_73 : decode cX1_tick 73 = .ok (.iload_n 1, 1) := dk_27 (dk_at dksX1_tick_3 3 rfl rfl)
theorem dX1_tick_74 : decode cX1_tick 74 = .ok (.iadd, 1) := dk_96 (dk_at dksX1_tick_3 4 rfl rfl)
theorem dX1_tick_75 : decode cX1_tick 75 = .ok (.putfield 63, 3) := dk_181 0 63 (dk_at dksX1_tick_3 5 rfl rfl)
theorem dX1_tick_78 : decode cX1_tick 78 = .ok (.aload_n 0, 1) := dk_42 (dk_at dksX1_tick_3 8 rfl rfl)
theorem dX1_tick_79 : decode cX1_tick 79 = .ok (.dup, 1) := dk_89 (dk_at dksX1_tick_3 9 rfl rfl)
theorem dX1_tick_80 : decode cX1_tick 80 = .ok (.getfield 69, 3) := dk_180 0 69 (dk_at dksX1_tick_3 10 rfl rfl)
theorem dX1_tick_83 : decode cX1_tick 83 = .ok (.iload_n 1, 1) := dk_27 (dk_at dksX1_tick_3 13 rfl rfl)
theorem dX1_tick_84 : decode cX1_tick 84 = .ok (.iadd, 1) := dk_96 (dk_at dksX1_tick_3 14 rfl rfl)
theorem dX1_tick_85 : decode cX1_tick 85 = .ok (.putfield 69, 3) := dk_181 0 69 (dk_at dksX1_tick_3 15 rfl rfl)
theorem dX1_tick_88 : decode cX1_tick 88 = .ok (.aload_n 0, 1) := dk_42 (dk_at dksX1_tick_3 18 rfl rfl)
theorem dX1_tick_89 : decode cX1_tick 89 = .ok (.getfield 63, 3) := dk_180 0 63 (dk_at dksX1_tick_3 19 rfl rfl)
theorem dX1_tick_92 : decode cX1_tick 92 = .ok (.iconst 2, 1) := dk_5 (dk_at dksX1_tick_3 22 rfl rfl)
theorem dX1_tick_93 : decode cX1_tick 93 = .ok (.aload_n 0, 1) := dk_42 (dk_at dksX1_tick_3 23 rfl rfl)
theorem dX1_tick_94 : decode cX1_tick 94 = .ok (.invokevirtual 148, 3) := dk_182 0 148 (dk_at dksX1_tick_4 0 rfl rfl)
theorem dX1_tick_97 : decode cX1_tick 97 = .ok (.imul, 1) := dk_104 (dk_at dksX1_tick_4 3 rfl rfl)
theorem dX1_tick_98 : decode cX1_tick 98 = .ok (.if_icmp .lt 7, 3) := dk_161 0 7 (dk_at dksX1_tick_4 4 rfl rfl)
theorem dX1_tick_101 : decode cX1_tick 101 = .ok (.aload_n 0, 1) := dk_42 (dk_at dksX1_tick_4 7 rfl rfl)
theorem dX1_tick_102 : decode cX1_tick 102 = .ok (.invokevirtual 188, 3) := dk_182 0 188 (dk_at dksX1_tick_4 8 rfl rfl)
theorem dX1_tick_105 : decode cX1_tick 105 = .ok (.aload_n 0, 1) := dk_42 (dk_at dksX1_tick_4 11 rfl rfl)
theorem dX1_tick_106 : decode cX1_tick 106 = .ok (.getfield 9, 3) := dk_180 0 9 (dk_at dksX1_tick_4 12 rfl rfl)
theorem dX1_tick_109 : decode cX1_tick 109 = .ok (.iconst 3, 1) := dk_6 (dk_at dksX1_tick_4 15 rfl rfl)
theorem dX1_tick_110 : decode cX1_tick 110 = .ok (.if_icmp .ne 20, 3) := dk_160 0 20 (dk_at dksX1_tick_4 16 rfl rfl)
theorem dX1_tick_113 : decode cX1_tick 113 = .ok (.aload_n 0, 1) := dk_42 (dk_at dksX1_tick_4 19 rfl rfl)
theorem dX1_tick_114 : decode cX1_tick 114 = .ok (.getfield 85, 3) := dk_180 0 85 (dk_at dksX1_tick_4 20 rfl rfl)
theorem dX1_tick_117 : decode cX1_tick 117 = .ok (.iconst 4, 1) := dk_7 (dk_at dksX1_tick_4 23 rfl rfl)
theorem dX1_tick_118 : decode cX1_tick 118 = .ok (.aload_n 0, 1) := dk_42 (dk_at dksX1_tick_5 0 rfl rfl)
theorem dX1_tick_119 : decode cX1_tick 119 = .ok (.invokevirtual 145, 3) := dk_182 0 145 (dk_at dksX1_tick_5 1 rfl rfl)
theorem dX1_tick_122 : decode cX1_tick 122 = .ok (.imul, 1) := dk_104 (dk_at dksX1_tick_5 4 rfl rfl)
theorem dX1_tick_123 : decode cX1_tick 123 = .ok (.if_icmp .lt 7, 3) := dk_161 0 7 (dk_at dksX1_tick_5 5 rfl rfl)
theorem dX1_tick_126 : decode cX1_tick 126 = .ok (.aload_n 0, 1) := dk_42 (dk_at dksX1_tick_5 8 rfl rfl)
theorem dX1_tick_127 : decode cX1_tick 127 = .ok (.invokevirtual 169, 3) := dk_182 0 169 (dk_at dksX1_tick_5 9 rfl rfl)
theorem dX1_tick_130 : decode cX1_tick 130 = .ok (.return_, 1) := dk_177 (dk_at dksX1_tick_5 12 rfl rfl)
abbrev cX1_endsPass : ByteArray := prog_6_method_18_code
def yX1_endsPass : MethodName := ⟨RX1, "endsPass", "()V"⟩
def dkwX1_endsPass_3 : List UInt8 := [4, 96, 181, 0, 187, 167, 255, 217, 177]
abbrev dktX1_endsPass_3 : List UInt8 := dkwX1_endsPass_3 ++ []
def dkwX1_endsPass_2 : List UInt8 := [185, 0, 44, 1, 0, 192, 0, 48, 77, 44, 42, 180, 0, 29, 5, 46, 182, 0, 184, 44, 89, 180, 0, 187]
abbrev dktX1_endsPass_2 : List UInt8 := dkwX1_endsPass_2 ++ dktX1_endsPass_3
def dkwX1_endsPass_1 : List UInt8 := [181, 0, 66, 42, 180, 0, 18, 182, 0, 34, 76, 43, 185, 0, 38, 1, 0, 153, 0, 36, 43]
abbrev dktX1_endsPass_1 : List UInt8 := dkwX1_endsPass_1 ++ dktX1_endsPass_2
def dkwX1_endsPass_0 : List UInt8 := [42, 89, 180, 0, 63, 5, 42, 182, 0, 148, 104, 100, 181, 0, 63, 42, 89, 180, 0, 66, 4, 96]
abbrev dktX1_endsPass_0 : List UInt8 := dkwX1_endsPass_0 ++ dktX1_endsPass_1
theorem dksX1_endsPass_0 : cX1_endsPass.data.toList.drop 0 = dktX1_endsPass_0 := by decide +kernel
theorem dksX1_endsPass_1 : cX1_endsPass.data.toList.drop 22 = dktX1_endsPass_1 := dk_seg dksX1_endsPass_0 22 rfl rfl
theorem dksX1_endsPass_2 : cX1_endsPass.data.toList.drop 43 = dktX1_endsPass_2 := dk_seg dksX1_endsPass_1 21 rfl rfl
theorem dksX1_endsPass_3 : cX1_endsPass.data.toList.drop 67 = dktX1_endsPass_3 := dk_seg dksX1_endsPass_2 24 rfl rfl
theorem dX1_endsPass_0 : decode cX1_endsPass 0 = .ok (.aload_n 0, 1) := dk_42 (dk_at dksX1_endsPass_0 0 rfl rfl)
theorem dX1_endsPass_1 : decode cX1_endsPass 1 = .ok (.dup, 1) := dk_89 (dk_at dksX1_endsPass_0 1 rfl rfl)
theorem dX1_endsPass_2 : decode cX1_endsPass 2 = .ok (.getfield 63, 3) := dk_180 0 63 (dk_at dksX1_endsPass_0 2 rfl rfl)
theorem dX1_endsPass_5 : decode cX1_endsPass 5 = .ok (.iconst 2, 1) := dk_5 (dk_at dksX1_endsPass_0 5 rfl rfl)
theorem dX1_endsPass_6 : decode cX1_endsPass 6 = .ok (.aload_n 0, 1) := dk_42 (dk_at dksX1_endsPass_0 6 rfl rfl)
theorem dX1_endsPass_7 : decode cX1_endsPass 7 = .ok (.invokevirtual 148, 3) := dk_182 0 148 (dk_at dksX1_endsPass_0 7 rfl rfl)
theorem dX1_endsPass_10 : decode cX1_endsPass 10 = .ok (.imul, 1) := dk_104 (dk_at dksX1_endsPass_0 10 rfl rfl)
theorem dX1_endsPass_11 : decode cX1_endsPass 11 = .ok (.isub, 1) := dk_100 (dk_at dksX1_endsPass_0 11 rfl rfl)
theorem dX1_endsPass_12 : decode cX1_endsPass 12 = .ok (.putfield 63, 3) := dk_181 0 63 (dk_at dksX1_endsPass_0 12 rfl rfl)
theorem dX1_endsPass_15 : decode cX1_endsPass 15 = .ok (.aload_n 0, 1) := dk_42 (dk_at dksX1_endsPass_0 15 rfl rfl)
theorem dX1_endsPass_16 : decode cX1_endsPass 16 = .ok (.dup, 1) := dk_89 (dk_at dksX1_endsPass_0 16 rfl rfl)
theorem dX1_endsPass_17 : decode cX1_endsPass 17 = .ok (.getfield 66, 3) := dk_180 0 66 (dk_at dksX1_endsPass_0 17 rfl rfl)
theorem dX1_endsPass_20 : decode cX1_endsPass 20 = .ok (.iconst 1, 1) := dk_4 (dk_at dksX1_endsPass_0 20 rfl rfl)
theorem dX1_endsPass_21 : decode cX1_endsPass 21 = .ok (.iadd, 1) := dk_96 (dk_at dksX1_endsPass_0 21 rfl rfl)
theorem dX1_endsPass_22 : decode cX1_endsPass 22 = .ok (.putfield 66, 3) := dk_181 0 66 (dk_at dksX1_endsPass_1 0 rfl rfl)
theorem dX1_endsPass_25 : decode cX1_endsPass 25 = .ok (.aload_n 0, 1) := dk_42 (dk_at dksX1_endsPass_1 3 rfl rfl)
theorem dX1_endsPass_26 : decode cX1_endsPass 26 = .ok (.getfield 18, 3) := dk_180 0 18 (dk_at dksX1_endsPass_1 4 rfl rfl)
theorem dX1_endsPass_29 : decode cX1_endsPass 29 = .ok (.invokevirtual 34, 3) := dk_182 0 34 (dk_at dksX1_endsPass_1 7 rfl rfl)
theorem dX1_endsPass_32 : decode cX1_endsPass 32 = .ok (.astore_n 1, 1) := dk_76 (dk_at dksX1_endsPass_1 10 rfl rfl)
theorem dX1_endsPass_33 : decode cX1_endsPass 33 = .ok (.aload_n 1, 1) := dk_43 (dk_at dksX1_endsPass_1 11 rfl rfl)
theorem dX1_endsPass_34 : decode cX1_endsPass 34 = .ok (.invokeinterface 38 1, 5) := by decide +kernel
theorem dX1_endsPass_39 : decode cX1_endsPass 39 = .ok (.ifCond .eq 36, 3) := dk_153 0 36 (dk_at dksX1_endsPass_1 17 rfl rfl)
theorem dX1_endsPass_42 : decode cX1_endsPass 42 = .ok (.aload_n 1, 1) := dk_43 (dk_at dksX1_endsPass_1 20 rfl rfl)
theorem dX1_endsPass_43 : decode cX1_endsPass 43 = .ok (.invokeinterface 44 1, 5) := by decide +kernel
theorem dX1_endsPass_48 : decode cX1_endsPass 48 = .ok (.checkcast 48, 3) := dk_192 0 48 (dk_at dksX1_endsPass_2 5 rfl rfl)
theorem dX1_endsPass_51 : decode cX1_endsPass 51 = .ok (.astore_n 2, 1) := dk_77 (dk_at dksX1_endsPass_2 8 rfl rfl)
theorem dX1_endsPass_52 : decode cX1_endsPass 52 = .ok (.aload_n 2, 1) := dk_44 (dk_at dksX1_endsPass_2 9 rfl rfl)
theorem dX1_endsPass_53 : decode cX1_endsPass 53 = .ok (.aload_n 0, 1) := dk_42 (dk_at dksX1_endsPass_2 10 rfl rfl)
theorem dX1_endsPass_54 : decode cX1_endsPass 54 = .ok (.getfield 29, 3) := dk_180 0 29 (dk_at dksX1_endsPass_2 11 rfl rfl)
theorem dX1_endsPass_57 : decode cX1_endsPass 57 = .ok (.iconst 2, 1) := dk_5 (dk_at dksX1_endsPass_2 14 rfl rfl)
theorem dX1_endsPass_58 : decode cX1_endsPass 58 = .ok (.iaload, 1) := dk_46 (dk_at dksX1_endsPass_2 15 rfl rfl)
theorem dX1_endsPass_59 : decode cX1_endsPass 59 = .ok (.invokevirtual 184, 3) := dk_182 0 184 (dk_at dksX1_endsPass_2 16 rfl rfl)
theorem dX1_endsPass_62 : decode cX1_endsPass 62 = .ok (.aload_n 2, 1) := dk_44 (dk_at dksX1_endsPass_2 19 rfl rfl)
theorem dX1_endsPass_63 : decode cX1_endsPass 63 = .ok (.dup, 1) := dk_89 (dk_at dksX1_endsPass_2 20 rfl rfl)
theorem dX1_endsPass_64 : decode cX1_endsPass 64 = .ok (.getfield 187, 3) := dk_180 0 187 (dk_at dksX1_endsPass_2 21 rfl rfl)
theorem dX1_endsPass_67 : decode cX1_endsPass 67 = .ok (.iconst 1, 1) := dk_4 (dk_at dksX1_endsPass_3 0 rfl rfl)
theorem dX1_endsPass_68 : decode cX1_endsPass 68 = .ok (.iadd, 1) := dk_96 (dk_at dksX1_endsPass_3 1 rfl rfl)
theorem dX1_endsPass_69 : decode cX1_endsPass 69 = .ok (.putfield 187, 3) := dk_181 0 187 (dk_at dksX1_endsPass_3 2 rfl rfl)
theorem dX1_endsPass_72 : decode cX1_endsPass 72 = .ok (.goto (-39), 3) := dk_167 255 217 (dk_at dksX1_endsPass_3 5 rfl rfl)
theorem dX1_endsPass_75 : decode cX1_endsPass 75 = .ok (.return_, 1) := dk_177 (dk_at dksX1_endsPass_3 8 rfl rfl)
abbrev cX1_peels : ByteArray := prog_6_method_21_code
def yX1_peels : MethodName := ⟨RX1, "peels", "()I"⟩
def dkwX1_peels_3 : List UInt8 := [180, 0, 18, 182, 0, 109, 172]
abbrev dktX1_peels_3 : List UInt8 := dkwX1_peels_3 ++ []
def dkwX1_peels_2 : List UInt8 := [192, 0, 48, 182, 0, 197, 42, 89, 180, 0, 63, 5, 42, 182, 0, 148, 104, 112, 181, 0, 63, 42]
abbrev dktX1_peels_2 : List UInt8 := dkwX1_peels_2 ++ dktX1_peels_3
def dkwX1_peels_1 : List UInt8 := [184, 0, 155, 42, 180, 0, 25, 42, 180, 0, 18, 42, 180, 0, 18, 182, 0, 109, 4, 100, 182, 0, 194]
abbrev dktX1_peels_1 : List UInt8 := dkwX1_peels_1 ++ dktX1_peels_2
def dkwX1_peels_0 : List UInt8 := [42, 182, 0, 152, 154, 0, 18, 42, 180, 0, 18, 182, 0, 109, 4, 164, 0, 7, 4, 167, 0, 4, 3]
abbrev dktX1_peels_0 : List UInt8 := dkwX1_peels_0 ++ dktX1_peels_1
theorem dksX1_peels_0 : cX1_peels.data.toList.drop 0 = dktX1_peels_0 := by decide +kernel
theorem dksX1_peels_1 : cX1_peels.data.toList.drop 23 = dktX1_peels_1 := dk_seg dksX1_peels_0 23 rfl rfl
theorem dksX1_peels_2 : cX1_peels.data.toList.drop 46 = dktX1_peels_2 := dk_seg dksX1_peels_1 23 rfl rfl
theorem dksX1_peels_3 : cX1_peels.data.toList.drop 68 = dktX1_peels_3 := dk_seg dksX1_peels_2 22 rfl rfl
theorem dX1_peels_0 : decode cX1_peels 0 = .ok (.aload_n 0, 1) := dk_42 (dk_at dksX1_peels_0 0 rfl rfl)
theorem dX1_peels_1 : decode cX1_peels 1 = .ok (.invokevirtual 152, 3) := dk_182 0 152 (dk_at dksX1_peels_0 1 rfl rfl)
theorem dX1_peels_4 : decode cX1_peels 4 = .ok (.ifCond .ne 18, 3) := dk_154 0 18 (dk_at dksX1_peels_0 4 rfl rfl)
theorem dX1_peels_7 : decode cX1_peels 7 = .ok (.aload_n 0, 1) := dk_42 (dk_at dksX1_peels_0 7 rfl rfl)
theorem dX1_peels_8 : decode cX1_peels 8 = .ok (.getfield 18, 3) := dk_180 0 18 (dk_at dksX1_peels_0 8 rfl rfl)
theorem dX1_peels_11 : decode cX1_peels 11 = .ok (.invokevirtual 109, 3) := dk_182 0 109 (dk_at dksX1_peels_0 11 rfl rfl)
theorem dX1_peels_14 : decode cX1_peels 14 = .ok (.iconst 1, 1) := dk_4 (dk_at dksX1_peels_0 14 rfl rfl)
theorem dX1_peels_15 : decode cX1_peels 15 = .ok (.if_icmp .le 7, 3) := dk_164 0 7 (dk_at dksX1_peels_0 15 rfl rfl)
theorem dX1_peels_18 : decode cX1_peels 18 = .ok (.iconst 1, 1) := dk_4 (dk_at dksX1_peels_0 18 rfl rfl)
theorem dX1_peels_19 : decode cX1_peels 19 = .ok (.goto 4, 3) := dk_167 0 4 (dk_at dksX1_peels_0 19 rfl rfl)
theorem dX1_peels_22 : decode cX1_peels 22 = .ok (.iconst 0, 1) := dk_3 (dk_at dksX1_peels_0 22 rfl rfl)
theorem dX1_peels_23 : decode cX1_peels 23 = .ok (.invokestatic 155, 3) := dk_184 0 155 (dk_at dksX1_peels_1 0 rfl rfl)
theorem dX1_peels_26 : decode cX1_peels 26 = .ok (.aload_n 0, 1) := dk_42 (dk_at dksX1_peels_1 3 rfl rfl)
theorem dX1_peels_27 : decode cX1_peels 27 = .ok (.getfield 25, 3) := dk_180 0 25 (dk_at dksX1_peels_1 4 rfl rfl)
theorem dX1_peels_30 : decode cX1_peels 30 = .ok (.aload_n 0, 1) := dk_42 (dk_at dksX1_peels_1 7 rfl rfl)
theorem dX1_peels_31 : decode cX1_peels 31 = .ok (.getfield 18, 3) := dk_180 0 18 (dk_at dksX1_peels_1 8 rfl rfl)
theorem dX1_peels_34 : decode cX1_peels 34 = .ok (.aload_n 0, 1) := dk_42 (dk_at dksX1_peels_1 11 rfl rfl)
theorem dX1_peels_35 : decode cX1_peels 35 = .ok (.getfield 18, 3) := dk_180 0 18 (dk_at dksX1_peels_1 12 rfl rfl)
theorem dX1_peels_38 : decode cX1_peels 38 = .ok (.invokevirtual 109, 3) := dk_182 0 109 (dk_at dksX1_peels_1 15 rfl rfl)
theorem dX1_peels_41 : decode cX1_peels 41 = .ok (.iconst 1, 1) := dk_4 (dk_at dksX1_peels_1 18 rfl rfl)
theorem dX1_peels_42 : decode cX1_peels 42 = .ok (.isub, 1) := dk_100 (dk_at dksX1_peels_1 19 rfl rfl)
theorem dX1_peels_43 : decode cX1_peels 43 = .ok (.invokevirtual 194, 3) := dk_182 0 194 (dk_at dksX1_peels_1 20 rfl rfl)
theorem dX1_peels_46 : decode cX1_peels 46 = .ok (.checkcast 48, 3) := dk_192 0 48 (dk_at dksX1_peels_2 0 rfl rfl)
theorem dX1_peels_49 : decode cX1_peels 49 = .ok (.invokevirtual 197, 3) := dk_182 0 197 (dk_at dksX1_peels_2 3 rfl rfl)
theorem dX1_peels_52 : decode cX1_peels 52 = .ok (.aload_n 0, 1) := dk_42 (dk_at dksX1_peels_2 6 rfl rfl)
theorem dX1_peels_53 : decode cX1_peels 53 = .ok (.dup, 1) := dk_89 (dk_at dksX1_peels_2 7 rfl rfl)
theorem dX1_peels_54 : decode cX1_peels 54 = .ok (.getfield 63, 3) := dk_180 0 63 (dk_at dksX1_peels_2 8 rfl rfl)
theorem dX1_peels_57 : decode cX1_peels 57 = .ok (.iconst 2, 1) := dk_5 (dk_at dksX1_peels_2 11 rfl rfl)
theorem dX1_peels_58 : decode cX1_peels 58 = .ok (.aload_n 0, 1) := dk_42 (dk_at dksX1_peels_2 12 rfl rfl)
theorem dX1_peels_59 : decode cX1_peels 59 = .ok (.invokevirtual 148, 3) := dk_182 0 148 (dk_at dksX1_peels_2 13 rfl rfl)
theorem dX1_peels_62 : decode cX1_peels 62 = .ok (.imul, 1) := dk_104 (dk_at dksX1_peels_2 16 rfl rfl)
theorem dX1_peels_63 : decode cX1_peels 63 = .ok (.irem, 1) := dk_112 (dk_at dksX1_peels_2 17 rfl rfl)
theorem dX1_peels_64 : decode cX1_peels 64 = .ok (.putfield 63, 3) := dk_181 0 63 (dk_at dksX1_peels_2 18 rfl rfl)
theorem dX1_peels_67 : decode cX1_peels 67 = .ok (.aload_n 0, 1) := dk_42 (dk_at dksX1_peels_2 21 rfl rfl)
theorem dX1_peels_68 : decode cX1_peels 68 = .ok (.getfield 18, 3) := dk_180 0 18 (dk_at dksX1_peels_3 0 rfl rfl)
theorem dX1_peels_71 : decode cX1_peels 71 = .ok (.invokevirtual 109, 3) := dk_182 0 109 (dk_at dksX1_peels_3 3 rfl rfl)
theorem dX1_peels_74 : decode cX1_peels 74 = .ok (.ireturn, 1) := dk_172 (dk_at dksX1_peels_3 6 rfl rfl)
abbrev cX1_putsBack : ByteArray := prog_6_method_22_code
def yX1_putsBack : MethodName := ⟨RX1, "putsBack", "()I"⟩
def dkwX1_putsBack_2 : List UInt8 := [180, 0, 18, 182, 0, 109, 172]
abbrev dktX1_putsBack_2 : List UInt8 := dkwX1_putsBack_2 ++ []
def dkwX1_putsBack_1 : List UInt8 := [184, 0, 155, 42, 180, 0, 18, 42, 180, 0, 25, 182, 0, 201, 192, 0, 48, 182, 0, 54, 87, 42]
abbrev dktX1_putsBack_1 : List UInt8 := dkwX1_putsBack_1 ++ dktX1_putsBack_2
def dkwX1_putsBack_0 : List UInt8 := [42, 182, 0, 152, 154, 0, 17, 42, 180, 0, 25, 182, 0, 200, 154, 0, 7, 4, 167, 0, 4, 3]
abbrev dktX1_putsBack_0 : List UInt8 := dkwX1_putsBack_0 ++ dktX1_putsBack_1
theorem dksX1_putsBack_0 : cX1_putsBack.data.toList.drop 0 = dktX1_putsBack_0 := by decide +kernel
theorem dksX1_putsBack_1 : cX1_putsBack.data.toList.drop 22 = dktX1_putsBack_1 := dk_seg dksX1_putsBack_0 22 rfl rfl
theorem dksX1_putsBack_2 : cX1_putsBack.data.toList.drop 44 = dktX1_putsBack_2 := dk_seg dksX1_putsBack_1 22 rfl rfl
theorem dX1_putsBack_0 : decode cX1_putsBack 0 = .ok (.aload_n 0, 1) := dk_42 (dk_at dksX1_putsBack_0 0 rfl rfl)
theorem dX1_putsBack_1 : decode cX1_putsBack 1 = .ok (.invokevirtual 152, 3) := dk_182 0 152 (dk_at dksX1_putsBack_0 1 rfl rfl)
theorem dX1_putsBack_4 : decode cX1_putsBack 4 = .ok (.ifCond .ne 17, 3) := dk_154 0 17 (dk_at dksX1_putsBack_0 4 rfl rfl)
theorem dX1_putsBack_7 : decode cX1_putsBack 7 = .ok (.aload_n 0, 1) := dk_42 (dk_at dksX1_putsBack_0 7 rfl rfl)
theorem dX1_putsBack_8 : decode cX1_putsBack 8 = .ok (.getfield 25, 3) := dk_180 0 25 (dk_at dksX1_putsBack_0 8 rfl rfl)
theorem dX1_putsBack_11 : decode cX1_putsBack 11 = .ok (.invokevirtual 200, 3) := dk_182 0 200 (dk_at dksX1_putsBack_0 11 rfl rfl)
theorem dX1_putsBack_14 : decode cX1_putsBack 14 = .ok (.ifCond .ne 7, 3) := dk_154 0 7 (dk_at dksX1_putsBack_0 14 rfl rfl)
theorem dX1_putsBack_17 : decode cX1_putsBack 17 = .ok (.iconst 1, 1) := dk_4 (dk_at dksX1_putsBack_0 17 rfl rfl)
theorem dX1_putsBack_18 : decode cX1_putsBack 18 = .ok (.goto 4, 3) := dk_167 0 4 (dk_at dksX1_putsBack_0 18 rfl rfl)
theorem dX1_putsBack_21 : decode cX1_putsBack 21 = .ok (.iconst 0, 1) := dk_3 (dk_at dksX1_putsBack_0 21 rfl rfl)
theorem dX1_putsBack_22 : decode cX1_putsBack 22 = .ok (.invokestatic 155, 3) := dk_184 0 155 (dk_at dksX1_putsBack_1 0 rfl rfl)
theorem dX1_putsBack_25 : decode cX1_putsBack 25 = .ok (.aload_n 0, 1) := dk_42 (dk_at dksX1_putsBack_1 3 rfl rfl)
theorem dX1_putsBack_26 : decode cX1_putsBack 26 = .ok (.getfield 18, 3) := dk_180 0 18 (dk_at dksX1_putsBack_1 4 rfl rfl)
theorem dX1_putsBack_29 : decode cX1_putsBack 29 = .ok (.aload_n 0, 1) := dk_42 (dk_at dksX1_putsBack_1 7 rfl rfl)
theorem dX1_putsBack_30 : decode cX1_putsBack 30 = .ok (.getfield 25, 3) := dk_180 0 25 (dk_at dksX1_putsBack_1 8 rfl rfl)
theorem dX1_putsBack_33 : decode cX1_putsBack 33 = .ok (.invokevirtual 201, 3) := dk_182 0 201 (dk_at dksX1_putsBack_1 11 rfl rfl)
theorem dX1_putsBack_36 : decode cX1_putsBack 36 = .ok (.checkcast 48, 3) := dk_192 0 48 (dk_at dksX1_putsBack_1 14 rfl rfl)
theorem dX1_putsBack_39 : decode cX1_putsBack 39 = .ok (.invokevirtual 54, 3) := dk_182 0 54 (dk_at dksX1_putsBack_1 17 rfl rfl)
theorem dX1_putsBack_42 : decode cX1_putsBack 42 = .ok (.pop, 1) := dk_87 (dk_at dksX1_putsBack_1 20 rfl rfl)
theorem dX1_putsBack_43 : decode cX1_putsBack 43 = .ok (.aload_n 0, 1) := dk_42 (dk_at dksX1_putsBack_1 21 rfl rfl)
theorem dX1_putsBack_44 : decode cX1_putsBack 44 = .ok (.getfield 18, 3) := dk_180 0 18 (dk_at dksX1_putsBack_2 0 rfl rfl)
theorem dX1_putsBack_47 : decode cX1_putsBack 47 = .ok (.invokevirtual 109, 3) := dk_182 0 109 (dk_at dksX1_putsBack_2 3 rfl rfl)
theorem dX1_putsBack_50 : decode cX1_putsBack 50 = .ok (.ireturn, 1) := dk_172 (dk_at dksX1_putsBack_2 6 rfl rfl)
abbrev cX1_mutes : ByteArray := prog_6_method_23_code
def yX1_mutes : MethodName := ⟨RX1, "mutes", "(I)I"⟩
def dkwX1_mutes_3 : List UInt8 := [4, 167, 0, 4, 3, 172]
abbrev dktX1_mutes_3 : List UInt8 := dkwX1_mutes_3 ++ []
def dkwX1_mutes_2 : List UInt8 := [167, 0, 4, 3, 181, 0, 204, 42, 180, 0, 18, 27, 182, 0, 95, 192, 0, 48, 180, 0, 204, 153, 0, 7]
abbrev dktX1_mutes_2 : List UInt8 := dkwX1_mutes_2 ++ dktX1_mutes_3
def dkwX1_mutes_1 : List UInt8 := [182, 0, 95, 192, 0, 48, 42, 180, 0, 18, 27, 182, 0, 95, 192, 0, 48, 180, 0, 204, 154, 0, 7, 4]
abbrev dktX1_mutes_1 : List UInt8 := dkwX1_mutes_1 ++ dktX1_mutes_2
def dkwX1_mutes_0 : List UInt8 := [27, 3, 42, 180, 0, 18, 182, 0, 109, 4, 100, 184, 0, 173, 184, 0, 177, 42, 180, 0, 18, 27]
abbrev dktX1_mutes_0 : List UInt8 := dkwX1_mutes_0 ++ dktX1_mutes_1
theorem dksX1_mutes_0 : cX1_mutes.data.toList.drop 0 = dktX1_mutes_0 := by decide +kernel
theorem dksX1_mutes_1 : cX1_mutes.data.toList.drop 22 = dktX1_mutes_1 := dk_seg dksX1_mutes_0 22 rfl rfl
theorem dksX1_mutes_2 : cX1_mutes.data.toList.drop 46 = dktX1_mutes_2 := dk_seg dksX1_mutes_1 24 rfl rfl
theorem dksX1_mutes_3 : cX1_mutes.data.toList.drop 70 = dktX1_mutes_3 := dk_seg dksX1_mutes_2 24 rfl rfl
theorem dX1_mutes_0 : decode cX1_mutes 0 = .ok (.iload_n 1, 1) := dk_27 (dk_at dksX1_mutes_0 0 rfl rfl)
theorem dX1_mutes_1 : decode cX1_mutes 1 = .ok (.iconst 0, 1) := dk_3 (dk_at dksX1_mutes_0 1 rfl rfl)
theorem dX1_mutes_2 : decode cX1_mutes 2 = .ok (.aload_n 0, 1) := dk_42 (dk_at dksX1_mutes_0 2 rfl rfl)
theorem dX1_mutes_3 : decode cX1_mutes 3 = .ok (.getfield 18, 3) := dk_180 0 18 (dk_at dksX1_mutes_0 3 rfl rfl)
theorem dX1_mutes_6 : decode cX1_mutes 6 = .ok (.invokevirtual 109, 3) := dk_182 0 109 (dk_at dksX1_mutes_0 6 rfl rfl)
theorem dX1_mutes_9 : decode cX1_mutes 9 = .ok (.iconst 1, 1) := dk_4 (dk_at dksX1_mutes_0 9 rfl rfl)
theorem dX1_mutes_10 : decode cX1_mutes 10 = .ok (.isub, 1) := dk_100 (dk_at dksX1_mutes_0 10 rfl rfl)
theorem dX1_mutes_11 : decode cX1_mutes 11 = .ok (.invokestatic 173, 3) := dk_184 0 173 (dk_at dksX1_mutes_0 11 rfl rfl)
theorem dX1_mutes_14 : decode cX1_mutes 14 = .ok (.invokestatic 177, 3) := dk_184 0 177 (dk_at dksX1_mutes_0 14 rfl rfl)
theorem dX1_mutes_17 : decode cX1_mutes 17 = .ok (.aload_n 0, 1) := dk_42 (dk_at dksX1_mutes_0 17 rfl rfl)
theorem dX1_mutes_18 : decode cX1_mutes 18 = .ok (.getfield 18, 3) := dk_180 0 18 (dk_at dksX1_mutes_0 18 rfl rfl)
theorem dX1_mutes_21 : decode cX1_mutes 21 = .ok (.iload_n 1, 1) := dk_27 (dk_at dksX1_mutes_0 21 rfl rfl)
theorem dX1_mutes_22 : decode cX1_mutes 22 = .ok (.invokevirtual 95, 3) := dk_182 0 95 (dk_at dksX1_mutes_1 0 rfl rfl)
theorem dX1_mutes_25 : decode cX1_mutes 25 = .ok (.checkcast 48, 3) := dk_192 0 48 (dk_at dksX1_mutes_1 3 rfl rfl)
theorem dX1_mutes_28 : decode cX1_mutes 28 = .ok (.aload_n 0, 1) := dk_42 (dk_at dksX1_mutes_1 6 rfl rfl)
theorem dX1_mutes_29 : decode cX1_mutes 29 = .ok (.getfield 18, 3) := dk_180 0 18 (dk_at dksX1_mutes_1 7 rfl rfl)
theorem dX1_mutes_32 : decode cX1_mutes 32 = .ok (.iload_n 1, 1) := dk_27 (dk_at dksX1_mutes_1 10 rfl rfl)
theorem dX1_mutes_33 : decode cX1_mutes 33 = .ok (.invokevirtual 95, 3) := dk_182 0 95 (dk_at dksX1_mutes_1 11 rfl rfl)
theorem dX1_mutes_36 : decode cX1_mutes 36 = .ok (.checkcast 48, 3) := dk_192 0 48 (dk_at dksX1_mutes_1 14 rfl rfl)
theorem dX1_mutes_39 : decode cX1_mutes 39 = .ok (.getfield 204, 3) := dk_180 0 204 (dk_at dksX1_mutes_1 17 rfl rfl)
theorem dX1_mutes_42 : decode cX1_mutes 42 = .ok (.ifCond .ne 7, 3) := dk_154 0 7 (dk_at dksX1_mutes_1 20 rfl rfl)
theorem dX1_mutes_45 : decode cX1_mutes 45 = .ok (.iconst 1, 1) := dk_4 (dk_at dksX1_mutes_1 23 rfl rfl)
theorem dX1_mutes_46 : decode cX1_mutes 46 = .ok (.goto 4, 3) := dk_167 0 4 (dk_at dksX1_mutes_2 0 rfl rfl)
theorem dX1_mutes_49 : decode cX1_mutes 49 = .ok (.iconst 0, 1) := dk_3 (dk_at dksX1_mutes_2 3 rfl rfl)
theorem dX1_mutes_50 : decode cX1_mutes 50 = .ok (.putfield 204, 3) := dk_181 0 204 (dk_at dksX1_mutes_2 4 rfl rfl)
theorem dX1_mutes_53 : decode cX1_mutes 53 = .ok (.aload_n 0, 1) := dk_42 (dk_at dksX1_mutes_2 7 rfl rfl)
theorem dX1_mutes_54 : decode cX1_mutes 54 = .ok (.getfield 18, 3) := dk_180 0 18 (dk_at dksX1_mutes_2 8 rfl rfl)
theorem dX1_mutes_57 : decode cX1_mutes 57 = .ok (.iload_n 1, 1) := dk_27 (dk_at dksX1_mutes_2 11 rfl rfl)
theorem dX1_mutes_58 : decode cX1_mutes 58 = .ok (.invokevirtual 95, 3) := dk_182 0 95 (dk_at dksX1_mutes_2 12 rfl rfl)
theorem dX1_mutes_61 : decode cX1_mutes 61 = .ok (.checkcast 48, 3) := dk_192 0 48 (dk_at dksX1_mutes_2 15 rfl rfl)
theorem dX1_mutes_64 : decode cX1_mutes 64 = .ok (.getfield 204, 3) := dk_180 0 204 (dk_at dksX1_mutes_2 18 rfl rfl)
theorem dX1_mutes_67 : decode cX1_mutes 67 = .ok (.ifCond .eq 7, 3) := dk_153 0 7 (dk_at dksX1_mutes_2 21 rfl rfl)
theorem dX1_mutes_70 : decode cX1_mutes 70 = .ok (.iconst 1, 1) := dk_4 (dk_at dksX1_mutes_3 0 rfl rfl)
theorem dX1_mutes_71 : decode cX1_mutes 71 = .ok (.goto 4, 3) := dk_167 0 4 (dk_at dksX1_mutes_3 1 rfl rfl)
theorem dX1_mutes_74 : decode cX1_mutes 74 = .ok (.iconst 0, 1) := dk_3 (dk_at dksX1_mutes_3 4 rfl rfl)
theorem dX1_mutes_75 : decode cX1_mutes 75 = .ok (.ireturn, 1) := dk_172 (dk_at dksX1_mutes_3 5 rfl rfl)
abbrev cX1_changesSpeed : ByteArray := prog_6_method_24_code
def yX1_changesSpeed : MethodName := ⟨RX1, "changesSpeed", "()I"⟩
def dkwX1_changesSpeed_0 : List UInt8 := [42, 4, 42, 180, 0, 72, 100, 181, 0, 72, 42, 180, 0, 72, 172]
abbrev dktX1_changesSpeed_0 : List UInt8 := dkwX1_changesSpeed_0 ++ []
theorem dksX1_changesSpeed_0 : cX1_changesSpeed.data.toList.drop 0 = dktX1_changesSpeed_0 := by decide +kernel
theorem dX1_changesSpeed_0 : decode cX1_changesSpeed 0 = .ok (.aload_n 0, 1) := dk_42 (dk_at dksX1_changesSpeed_0 0 rfl rfl)
theorem dX1_changesSpeed_1 : decode cX1_changesSpeed 1 = .ok (.iconst 1, 1) := dk_4 (dk_at dksX1_changesSpeed_0 1 rfl rfl)
theorem dX1_changesSpeed_2 : decode cX1_changesSpeed 2 = .ok (.aload_n 0, 1) := dk_42 (dk_at dksX1_changesSpeed_0 2 rfl rfl)
theorem dX1_changesSpeed_3 : decode cX1_changesSpeed 3 = .ok (.getfield 72, 3) := dk_180 0 72 (dk_at dksX1_changesSpeed_0 3 rfl rfl)
theorem dX1_changesSpeed_6 : decode cX1_changesSpeed 6 = .ok (.isub, 1) := dk_100 (dk_at dksX1_changesSpeed_0 6 rfl rfl)
theorem dX1_changesSpeed_7 : decode cX1_changesSpeed 7 = .ok (.putfield 72, 3) := dk_181 0 72 (dk_at dksX1_changesSpeed_0 7 rfl rfl)
theorem dX1_changesSpeed_10 : decode cX1_changesSpeed 10 = .ok (.aload_n 0, 1) := dk_42 (dk_at dksX1_changesSpeed_0 10 rfl rfl)
theorem dX1_changesSpeed_11 : decode cX1_changesSpeed 11 = .ok (.getfield 72, 3) := dk_180 0 72 (dk_at dksX1_changesSpeed_0 11 rfl rfl)
theorem dX1_changesSpeed_14 : decode cX1_changesSpeed 14 = .ok (.ireturn, 1) := dk_172 (dk_at dksX1_changesSpeed_0 14 rfl rfl)
abbrev cX1_sets : ByteArray := prog_6_method_25_code
def yX1_sets : MethodName := ⟨RX1, "sets", "(II)I"⟩
def dkwX1_sets_2 : List UInt8 := [167, 0, 4, 3, 184, 0, 177, 42, 180, 0, 29, 27, 46, 62, 42, 180, 0, 29, 27, 28, 79, 29, 172]
abbrev dktX1_sets_2 : List UInt8 := dkwX1_sets_2 ++ []
def dkwX1_sets_1 : List UInt8 := [16, 16, 167, 0, 15, 27, 4, 160, 0, 8, 16, 8, 167, 0, 5, 16, 100, 184, 0, 173, 153, 0, 7, 4]
abbrev dktX1_sets_1 : List UInt8 := dkwX1_sets_1 ++ dktX1_sets_2
def dkwX1_sets_0 : List UInt8 := [27, 3, 5, 184, 0, 173, 153, 0, 44, 28, 27, 154, 0, 7, 5, 167, 0, 4, 3, 27, 154, 0, 8]
abbrev dktX1_sets_0 : List UInt8 := dkwX1_sets_0 ++ dktX1_sets_1
theorem dksX1_sets_0 : cX1_sets.data.toList.drop 0 = dktX1_sets_0 := by decide +kernel
theorem dksX1_sets_1 : cX1_sets.data.toList.drop 23 = dktX1_sets_1 := dk_seg dksX1_sets_0 23 rfl rfl
theorem dksX1_sets_2 : cX1_sets.data.toList.drop 47 = dktX1_sets_2 := dk_seg dksX1_sets_1 24 rfl rfl
theorem dX1_sets_0 : decode cX1_sets 0 = .ok (.iload_n 1, 1) := dk_27 (dk_at dksX1_sets_0 0 rfl rfl)
theorem dX1_sets_1 : decode cX1_sets 1 = .ok (.iconst 0, 1) := dk_3 (dk_at dksX1_sets_0 1 rfl rfl)
theorem dX1_sets_2 : decode cX1_sets 2 = .ok (.iconst 2, 1) := dk_5 (dk_at dksX1_sets_0 2 rfl rfl)
theorem dX1_sets_3 : decode cX1_sets 3 = .ok (.invokestatic 173, 3) := dk_184 0 173 (dk_at dksX1_sets_0 3 rfl rfl)
theorem dX1_sets_6 : decode cX1_sets 6 = .ok (.ifCond .eq 44, 3) := dk_153 0 44 (dk_at dksX1_sets_0 6 rfl rfl)
theorem dX1_sets_9 : decode cX1_sets 9 = .ok (.iload_n 2, 1) := dk_28 (dk_at dksX1_sets_0 9 rfl rfl)
theorem dX1_sets_10 : decode cX1_sets 10 = .ok (.iload_n 1, 1) := dk_27 (dk_at dksX1_sets_0 10 rfl rfl)
theorem dX1_sets_11 : decode cX1_sets 11 = .ok (.ifCond .ne 7, 3) := dk_154 0 7 (dk_at dksX1_sets_0 11 rfl rfl)
theorem dX1_sets_14 : decode cX1_sets 14 = .ok (.iconst 2, 1) := dk_5 (dk_at dksX1_sets_0 14 rfl rfl)
theorem dX1_sets_15 : decode cX1_sets 15 = .ok (.goto 4, 3) := dk_167 0 4 (dk_at dksX1_sets_0 15 rfl rfl)
theorem dX1_sets_18 : decode cX1_sets 18 = .ok (.iconst 0, 1) := dk_3 (dk_at dksX1_sets_0 18 rfl rfl)
theorem dX1_sets_19 : decode cX1_sets 19 = .ok (.iload_n 1, 1) := dk_27 (dk_at dksX1_sets_0 19 rfl rfl)
theorem dX1_sets_20 : decode cX1_sets 20 = .ok (.ifCond .ne 8, 3) := dk_154 0 8 (dk_at dksX1_sets_0 20 rfl rfl)
theorem dX1_sets_23 : decode cX1_sets 23 = .ok (.bipush 16, 2) := dk_16 16 (dk_at dksX1_sets_1 0 rfl rfl)
theorem dX1_sets_25 : decode cX1_sets 25 = .ok (.goto 15, 3) := dk_167 0 15 (dk_at dksX1_sets_1 2 rfl rfl)
theorem dX1_sets_28 : decode cX1_sets 28 = .ok (.iload_n 1, 1) := dk_27 (dk_at dksX1_sets_1 5 rfl rfl)
theorem dX1_sets_29 : decode cX1_sets 29 = .ok (.iconst 1, 1) := dk_4 (dk_at dksX1_sets_1 6 rfl rfl)
theorem dX1_sets_30 : decode cX1_sets 30 = .ok (.if_icmp .ne 8, 3) := dk_160 0 8 (dk_at dksX1_sets_1 7 rfl rfl)
theorem dX1_sets_33 : decode cX1_sets 33 = .ok (.bipush 8, 2) := dk_16 8 (dk_at dksX1_sets_1 10 rfl rfl)
theorem dX1_sets_35 : decode cX1_sets 35 = .ok (.goto 5, 3) := dk_167 0 5 (dk_at dksX1_sets_1 12 rfl rfl)
theorem dX1_sets_38 : decode cX1_sets 38 = .ok (.bipush 100, 2) := dk_16 100 (dk_at dksX1_sets_1 15 rfl rfl)
theorem dX1_sets_40 : decode cX1_sets 40 = .ok (.invokestatic 173, 3) := dk_184 0 173 (dk_at dksX1_sets_1 17 rfl rfl)
theorem dX1_sets_43 : decode cX1_sets 43 = .ok (.ifCond .eq 7, 3) := dk_153 0 7 (dk_at dksX1_sets_1 20 rfl rfl)
theorem dX1_sets_46 : decode cX1_sets 46 = .ok (.iconst 1, 1) := dk_4 (dk_at dksX1_sets_1 23 rfl rfl)
theorem dX1_sets_47 : decode cX1_sets 47 = .ok (.goto 4, 3) := dk_167 0 4 (dk_at dksX1_sets_2 0 rfl rfl)
theorem dX1_sets_50 : decode cX1_sets 50 = .ok (.iconst 0, 1) := dk_3 (dk_at dksX1_sets_2 3 rfl rfl)
theorem dX1_sets_51 : decode cX1_sets 51 = .ok (.invokestatic 177, 3) := dk_184 0 177 (dk_at dksX1_sets_2 4 rfl rfl)
theorem dX1_sets_54 : decode cX1_sets 54 = .ok (.aload_n 0, 1) := dk_42 (dk_at dksX1_sets_2 7 rfl rfl)
theorem dX1_sets_55 : decode cX1_sets 55 = .ok (.getfield 29, 3) := dk_180 0 29 (dk_at dksX1_sets_2 8 rfl rfl)
theorem dX1_sets_58 : decode cX1_sets 58 = .ok (.iload_n 1, 1) := dk_27 (dk_at dksX1_sets_2 11 rfl rfl)
theorem dX1_sets_59 : decode cX1_sets 59 = .ok (.iaload, 1) := dk_46 (dk_at dksX1_sets_2 12 rfl rfl)
theorem dX1_sets_60 : decode cX1_sets 60 = .ok (.istore_n 3, 1) := dk_62 (dk_at dksX1_sets_2 13 rfl rfl)
theorem dX1_sets_61 : decode cX1_sets 61 = .ok (.aload_n 0, 1) := dk_42 (dk_at dksX1_sets_2 14 rfl rfl)
theorem dX1_sets_62 : decode cX1_sets 62 = .ok (.getfield 29, 3) := dk_180 0 29 (dk_at dksX1_sets_2 15 rfl rfl)
theorem dX1_sets_65 : decode cX1_sets 65 = .ok (.iload_n 1, 1) := dk_27 (dk_at dksX1_sets_2 18 rfl rfl)
theorem dX1_sets_66 : decode cX1_sets 66 = .ok (.iload_n 2, 1) := dk_28 (dk_at dksX1_sets_2 19 rfl rfl)
theorem dX1_sets_67 : decode cX1_sets 67 = .ok (.iastore, 1) := dk_79 (dk_at dksX1_sets_2 20 rfl rfl)
theorem dX1_sets_68 : decode cX1_sets 68 = .ok (.iload_n 3, 1) := dk_29 (dk_at dksX1_sets_2 21 rfl rfl)
theorem dX1_sets_69 : decode cX1_sets 69 = .ok (.ireturn, 1) := dk_172 (dk_at dksX1_sets_2 22 rfl rfl)
abbrev cX1_ring : ByteArray := prog_6_method_27_code
def yX1_ring : MethodName := ⟨RX1, "ring", "(III)I"⟩
def dkwX1_ring_1 : List UInt8 := [182, 0, 211, 167, 0, 4, 3, 172]
abbrev dktX1_ring_1 : List UInt8 := dkwX1_ring_1 ++ []
def dkwX1_ring_0 : List UInt8 := [28, 16, 12, 42, 180, 0, 72, 104, 96, 54, 4, 21, 4, 16, 36, 162, 0, 14, 42, 27, 21, 4, 29]
abbrev dktX1_ring_0 : List UInt8 := dkwX1_ring_0 ++ dktX1_ring_1
theorem dksX1_ring_0 : cX1_ring.data.toList.drop 0 = dktX1_ring_0 := by decide +kernel
theorem dksX1_ring_1 : cX1_ring.data.toList.drop 23 = dktX1_ring_1 := dk_seg dksX1_ring_0 23 rfl rfl
theorem dX1_ring_0 : decode cX1_ring 0 = .ok (.iload_n 2, 1) := dk_28 (dk_at dksX1_ring_0 0 rfl rfl)
theorem dX1_ring_1 : decode cX1_ring 1 = .ok (.bipush 12, 2) := dk_16 12 (dk_at dksX1_ring_0 1 rfl rfl)
theorem dX1_ring_3 : decode cX1_ring 3 = .ok (.aload_n 0, 1) := dk_42 (dk_at dksX1_ring_0 3 rfl rfl)
theorem dX1_ring_4 : decode cX1_ring 4 = .ok (.getfield 72, 3) := dk_180 0 72 (dk_at dksX1_ring_0 4 rfl rfl)
theorem dX1_ring_7 : decode cX1_ring 7 = .ok (.imul, 1) := dk_104 (dk_at dksX1_ring_0 7 rfl rfl)
theorem dX1_ring_8 : decode cX1_ring 8 = .ok (.iadd, 1) := dk_96 (dk_at dksX1_ring_0 8 rfl rfl)
theorem dX1_ring_9 : decode cX1_ring 9 = .ok (.istore 4, 2) := dk_54 4 (dk_at dksX1_ring_0 9 rfl rfl)
theorem dX1_ring_11 : decode cX1_ring 11 = .ok (.iload 4, 2) := dk_21 4 (dk_at dksX1_ring_0 11 rfl rfl)
theorem dX1_ring_13 : decode cX1_ring 13 = .ok (.bipush 36, 2) := dk_16 36 (dk_at dksX1_ring_0 13 rfl rfl)
theorem dX1_ring_15 : decode cX1_ring 15 = .ok (.if_icmp .ge 14, 3) := dk_162 0 14 (dk_at dksX1_ring_0 15 rfl rfl)
theorem dX1_ring_18 : decode cX1_ring 18 = .ok (.aload_n 0, 1) := dk_42 (dk_at dksX1_ring_0 18 rfl rfl)
theorem dX1_ring_19 : decode cX1_ring 19 = .ok (.iload_n 1, 1) := dk_27 (dk_at dksX1_ring_0 19 rfl rfl)
theorem dX1_ring_20 : decode cX1_ring 20 = .ok (.iload 4, 2) := dk_21 4 (dk_at dksX1_ring_0 20 rfl rfl)
theorem dX1_ring_22 : decode cX1_ring 22 = .ok (.iload_n 3, 1) := dk_29 (dk_at dksX1_ring_0 22 rfl rfl)
theorem dX1_ring_23 : decode cX1_ring 23 = .ok (.invokevirtual 211, 3) := dk_182 0 211 (dk_at dksX1_ring_1 0 rfl rfl)
theorem dX1_ring_26 : decode cX1_ring 26 = .ok (.goto 4, 3) := dk_167 0 4 (dk_at dksX1_ring_1 3 rfl rfl)
theorem dX1_ring_29 : decode cX1_ring 29 = .ok (.iconst 0, 1) := dk_3 (dk_at dksX1_ring_1 6 rfl rfl)
theorem dX1_ring_30 : decode cX1_ring 30 = .ok (.ireturn, 1) := dk_172 (dk_at dksX1_ring_1 7 rfl rfl)
abbrev cX1_keptRing : ByteArray := prog_6_method_26_code
def yX1_keptRing : MethodName := ⟨RX1, "keptRing", "(III)I"⟩
def dkwX1_keptRing_2 : List UInt8 := [192, 0, 48, 27, 28, 182, 0, 208, 96, 54, 4, 132, 5, 1, 167, 255, 203, 21, 4, 172]
abbrev dktX1_keptRing_2 : List UInt8 := dkwX1_keptRing_2 ++ []
def dkwX1_keptRing_1 : List UInt8 := [192, 0, 48, 180, 0, 204, 153, 0, 7, 3, 167, 0, 20, 42, 180, 0, 18, 21, 5, 182, 0, 95]
abbrev dktX1_keptRing_1 : List UInt8 := dkwX1_keptRing_1 ++ dktX1_keptRing_2
def dkwX1_keptRing_0 : List UInt8 := [3, 54, 4, 3, 54, 5, 21, 5, 29, 162, 0, 53, 21, 4, 42, 180, 0, 18, 21, 5, 182, 0, 95]
abbrev dktX1_keptRing_0 : List UInt8 := dkwX1_keptRing_0 ++ dktX1_keptRing_1
theorem dksX1_keptRing_0 : cX1_keptRing.data.toList.drop 0 = dktX1_keptRing_0 := by decide +kernel
theorem dksX1_keptRing_1 : cX1_keptRing.data.toList.drop 23 = dktX1_keptRing_1 := dk_seg dksX1_keptRing_0 23 rfl rfl
theorem dksX1_keptRing_2 : cX1_keptRing.data.toList.drop 45 = dktX1_keptRing_2 := dk_seg dksX1_keptRing_1 22 rfl rfl
theorem dX1_keptRing_0 : decode cX1_keptRing 0 = .ok (.iconst 0, 1) := dk_3 (dk_at dksX1_keptRing_0 0 rfl rfl)
theorem dX1_keptRing_1 : decode cX1_keptRing 1 = .ok (.istore 4, 2) := dk_54 4 (dk_at dksX1_keptRing_0 1 rfl rfl)
theorem dX1_keptRing_3 : decode cX1_keptRing 3 = .ok (.iconst 0, 1) := dk_3 (dk_at dksX1_keptRing_0 3 rfl rfl)
theorem dX1_keptRing_4 : decode cX1_keptRing 4 = .ok (.istore 5, 2) := dk_54 5 (dk_at dksX1_keptRing_0 4 rfl rfl)
theorem dX1_keptRing_6 : decode cX1_keptRing 6 = .ok (.iload 5, 2) := dk_21 5 (dk_at dksX1_keptRing_0 6 rfl rfl)
theorem dX1_keptRing_8 : decode cX1_keptRing 8 = .ok (.iload_n 3, 1) := dk_29 (dk_at dksX1_keptRing_0 8 rfl rfl)
theorem dX1_keptRing_9 : decode cX1_keptRing 9 = .ok (.if_icmp .ge 53, 3) := dk_162 0 53 (dk_at dksX1_keptRing_0 9 rfl rfl)
theorem dX1_keptRing_12 : decode cX1_keptRing 12 = .ok (.iload 4, 2) := dk_21 4 (dk_at dksX1_keptRing_0 12 rfl rfl)
theorem dX1_keptRing_14 : decode cX1_keptRing 14 = .ok (.aload_n 0, 1) := dk_42 (dk_at dksX1_keptRing_0 14 rfl rfl)
theorem dX1_keptRing_15 : decode cX1_keptRing 15 = .ok (.getfield 18, 3) := dk_180 0 18 (dk_at dksX1_keptRing_0 15 rfl rfl)
theorem dX1_keptRing_18 : decode cX1_keptRing 18 = .ok (.iload 5, 2) := dk_21 5 (dk_at dksX1_keptRing_0 18 rfl rfl)
theorem dX1_keptRing_20 : decode cX1_keptRing 20 = .ok (.invokevirtual 95, 3) := dk_182 0 95 (dk_at dksX1_keptRing_0 20 rfl rfl)
theorem dX1_keptRing_23 : decode cX1_keptRing 23 = .ok (.checkcast 48, 3) := dk_192 0 48 (dk_at dksX1_keptRing_1 0 rfl rfl)
theorem dX1_keptRing_26 : decode cX1_keptRing 26 = .ok (.getfield 204, 3) := dk_180 0 204 (dk_at dksX1_keptRing_1 3 rfl rfl)
theorem dX1_keptRing_29 : decode cX1_keptRing 29 = .ok (.ifCond .eq 7, 3) := dk_153 0 7 (dk_at dksX1_keptRing_1 6 rfl rfl)
theorem dX1_keptRing_32 : decode cX1_keptRing 32 = .ok (.iconst 0, 1) := dk_3 (dk_at dksX1_keptRing_1 9 rfl rfl)
theorem dX1_keptRing_33 : decode cX1_keptRing 33 = .ok (.goto 20, 3) := dk_167 0 20 (dk_at dksX1_keptRing_1 10 rfl rfl)
theorem dX1_keptRing_36 : decode cX1_keptRing 36 = .ok (.aload_n 0, 1) := dk_42 (dk_at dksX1_keptRing_1 13 rfl rfl)
theorem dX1_keptRing_37 : decode cX1_keptRing 37 = .ok (.getfield 18, 3) := dk_180 0 18 (dk_at dksX1_keptRing_1 14 rfl rfl)
theorem dX1_keptRing_40 : decode cX1_keptRing 40 = .ok (.iload 5, 2) := dk_21 5 (dk_at dksX1_keptRing_1 17 rfl rfl)
theorem dX1_keptRing_42 : decode cX1_keptRing 42 = .ok (.invokevirtual 95, 3) := dk_182 0 95 (dk_at dksX1_keptRing_1 19 rfl rfl)
theorem dX1_keptRing_45 : decode cX1_keptRing 45 = .ok (.checkcast 48, 3) := dk_192 0 48 (dk_at dksX1_keptRing_2 0 rfl rfl)
theorem dX1_keptRing_48 : decode cX1_keptRing 48 = .ok (.iload_n 1, 1) := dk_27 (dk_at dksX1_keptRing_2 3 rfl rfl)
theorem dX1_keptRing_49 : decode cX1_keptRing 49 = .ok (.iload_n 2, 1) := dk_28 (dk_at dksX1_keptRing_2 4 rfl rfl)
theorem dX1_keptRing_50 : decode cX1_keptRing 50 = .ok (.invokevirtual 208, 3) := dk_182 0 208 (dk_at dksX1_keptRing_2 5 rfl rfl)
theorem dX1_keptRing_53 : decode cX1_keptRing 53 = .ok (.iadd, 1) := dk_96 (dk_at dksX1_keptRing_2 8 rfl rfl)
theorem dX1_keptRing_54 : decode cX1_keptRing 54 = .ok (.istore 4, 2) := dk_54 4 (dk_at dksX1_keptRing_2 9 rfl rfl)
theorem dX1_keptRing_56 : decode cX1_keptRing 56 = .ok (.iinc 5 1, 3) := dk_132 5 1 (dk_at dksX1_keptRing_2 11 rfl rfl)
theorem dX1_keptRing_59 : decode cX1_keptRing 59 = .ok (.goto (-53), 3) := dk_167 255 203 (dk_at dksX1_keptRing_2 14 rfl rfl)
theorem dX1_keptRing_62 : decode cX1_keptRing 62 = .ok (.iload 4, 2) := dk_21 4 (dk_at dksX1_keptRing_2 17 rfl rfl)
theorem dX1_keptRing_64 : decode cX1_keptRing 64 = .ok (.ireturn, 1) := dk_172 (dk_at dksX1_keptRing_2 19 rfl rfl)
abbrev cX1_heardKeys : ByteArray := prog_6_method_31_code
def yX1_heardKeys : MethodName := ⟨RX1, "heardKeys", "(I)I"⟩
def dkwX1_heardKeys_1 : List UInt8 := [158, 0, 7, 4, 167, 0, 4, 3, 96, 61, 132, 3, 1, 167, 255, 223, 28, 172]
abbrev dktX1_heardKeys_1 : List UInt8 := dkwX1_heardKeys_1 ++ []
def dkwX1_heardKeys_0 : List UInt8 := [3, 61, 3, 62, 29, 16, 36, 162, 0, 33, 28, 42, 27, 29, 42, 180, 0, 18, 182, 0, 109, 182, 0, 214]
abbrev dktX1_heardKeys_0 : List UInt8 := dkwX1_heardKeys_0 ++ dktX1_heardKeys_1
theorem dksX1_heardKeys_0 : cX1_heardKeys.data.toList.drop 0 = dktX1_heardKeys_0 := by decide +kernel
theorem dksX1_heardKeys_1 : cX1_heardKeys.data.toList.drop 24 = dktX1_heardKeys_1 := dk_seg dksX1_heardKeys_0 24 rfl rfl
theorem dX1_heardKeys_0 : decode cX1_heardKeys 0 = .ok (.iconst 0, 1) := dk_3 (dk_at dksX1_heardKeys_0 0 rfl rfl)
theorem dX1_heardKeys_1 : decode cX1_heardKeys 1 = .ok (.istore_n 2, 1) := dk_61 (dk_at dksX1_heardKeys_0 1 rfl rfl)
theorem dX1_heardKeys_2 : decode cX1_heardKeys 2 = .ok (.iconst 0, 1) := dk_3 (dk_at dksX1_heardKeys_0 2 rfl rfl)
theorem dX1_heardKeys_3 : decode cX1_heardKeys 3 = .ok (.istore_n 3, 1) := dk_62 (dk_at dksX1_heardKeys_0 3 rfl rfl)
theorem dX1_heardKeys_4 : decode cX1_heardKeys 4 = .ok (.iload_n 3, 1) := dk_29 (dk_at dksX1_heardKeys_0 4 rfl rfl)
theorem dX1_heardKeys_5 : decode cX1_heardKeys 5 = .ok (.bipush 36, 2) := dk_16 36 (dk_at dksX1_heardKeys_0 5 rfl rfl)
theorem dX1_heardKeys_7 : decode cX1_heardKeys 7 = .ok (.if_icmp .ge 33, 3) := dk_162 0 33 (dk_at dksX1_heardKeys_0 7 rfl rfl)
theorem dX1_heardKeys_10 : decode cX1_heardKeys 10 = .ok (.iload_n 2, 1) := dk_28 (dk_at dksX1_heardKeys_0 10 rfl rfl)
theorem dX1_heardKeys_11 : decode cX1_heardKeys 11 = .ok (.aload_n 0, 1) := dk_42 (dk_at dksX1_heardKeys_0 11 rfl rfl)
theorem dX1_heardKeys_12 : decode cX1_heardKeys 12 = .ok (.iload_n 1, 1) := dk_27 (dk_at dksX1_heardKeys_0 12 rfl rfl)
theorem dX1_heardKeys_13 : decode cX1_heardKeys 13 = .ok (.iload_n 3, 1) := dk_29 (dk_at dksX1_heardKeys_0 13 rfl rfl)
theorem dX1_heardKeys_14 : decode cX1_heardKeys 14 = .ok (.aload_n 0, 1) := dk_42 (dk_at dksX1_heardKeys_0 14 rfl rfl)
theorem dX1_heardKeys_15 : decode cX1_heardKeys 15 = .ok (.getfield 18, 3) := dk_180 0 18 (dk_at dksX1_heardKeys_0 15 rfl rfl)
theorem dX1_heardKeys_18 : decode cX1_heardKeys 18 = .ok (.invokevirtual 109, 3) := dk_182 0 109 (dk_at dksX1_heardKeys_0 18 rfl rfl)
theorem dX1_heardKeys_21 : decode cX1_heardKeys 21 = .ok (.invokevirtual 214, 3) := dk_182 0 214 (dk_at dksX1_heardKeys_0 21 rfl rfl)
theorem dX1_heardKeys_24 : decode cX1_heardKeys 24 = .ok (.ifCond .le 7, 3) := dk_158 0 7 (dk_at dksX1_heardKeys_1 0 rfl rfl)
theorem dX1_heardKeys_27 : decode cX1_heardKeys 27 = .ok (.iconst 1, 1) := dk_4 (dk_at dksX1_heardKeys_1 3 rfl rfl)
theorem dX1_heardKeys_28 : decode cX1_heardKeys 28 = .ok (.goto 4, 3) := dk_167 0 4 (dk_at dksX1_heardKeys_1 4 rfl rfl)
theorem dX1_heardKeys_31 : decode cX1_heardKeys 31 = .ok (.iconst 0, 1) := dk_3 (dk_at dksX1_heardKeys_1 7 rfl rfl)
theorem dX1_heardKeys_32 : decode cX1_heardKeys 32 = .ok (.iadd, 1) := dk_96 (dk_at dksX1_heardKeys_1 8 rfl rfl)
theorem dX1_heardKeys_33 : decode cX1_heardKeys 33 = .ok (.istore_n 2, 1) := dk_61 (dk_at dksX1_heardKeys_1 9 rfl rfl)
theorem dX1_heardKeys_34 : decode cX1_heardKeys 34 = .ok (.iinc 3 1, 3) := dk_132 3 1 (dk_at dksX1_heardKeys_1 10 rfl rfl)
theorem dX1_heardKeys_37 : decode cX1_heardKeys 37 = .ok (.goto (-33), 3) := dk_167 255 223 (dk_at dksX1_heardKeys_1 13 rfl rfl)
theorem dX1_heardKeys_40 : decode cX1_heardKeys 40 = .ok (.iload_n 2, 1) := dk_28 (dk_at dksX1_heardKeys_1 16 rfl rfl)
theorem dX1_heardKeys_41 : decode cX1_heardKeys 41 = .ok (.ireturn, 1) := dk_172 (dk_at dksX1_heardKeys_1 17 rfl rfl)
abbrev cX1_rings : ByteArray := prog_6_method_28_code
def yX1_rings : MethodName := ⟨RX1, "rings", "(II)I"⟩
def dkwX1_rings_1 : List UInt8 := [132, 4, 1, 167, 255, 235, 29, 172]
abbrev dktX1_rings_1 : List UInt8 := dkwX1_rings_1 ++ []
def dkwX1_rings_0 : List UInt8 := [3, 62, 3, 54, 4, 21, 4, 16, 36, 162, 0, 20, 29, 42, 27, 21, 4, 28, 182, 0, 214, 96, 62]
abbrev dktX1_rings_0 : List UInt8 := dkwX1_rings_0 ++ dktX1_rings_1
theorem dksX1_rings_0 : cX1_rings.data.toList.drop 0 = dktX1_rings_0 := by decide +kernel
theorem dksX1_rings_1 : cX1_rings.data.toList.drop 23 = dktX1_rings_1 := dk_seg dksX1_rings_0 23 rfl rfl
theorem dX1_rings_0 : decode cX1_rings 0 = .ok (.iconst 0, 1) := dk_3 (dk_at dksX1_rings_0 0 rfl rfl)
theorem dX1_rings_1 : decode cX1_rings 1 = .ok (.istore_n 3, 1) := dk_62 (dk_at dksX1_rings_0 1 rfl rfl)
theorem dX1_rings_2 : decode cX1_rings 2 = .ok (.iconst 0, 1) := dk_3 (dk_at dksX1_rings_0 2 rfl rfl)
theorem dX1_rings_3 : decode cX1_rings 3 = .ok (.istore 4, 2) := dk_54 4 (dk_at dksX1_rings_0 3 rfl rfl)
theorem dX1_rings_5 : decode cX1_rings 5 = .ok (.iload 4, 2) := dk_21 4 (dk_at dksX1_rings_0 5 rfl rfl)
theorem dX1_rings_7 : decode cX1_rings 7 = .ok (.bipush 36, 2) := dk_16 36 (dk_at dksX1_rings_0 7 rfl rfl)
theorem dX1_rings_9 : decode cX1_rings 9 = .ok (.if_icmp .ge 20, 3) := dk_162 0 20 (dk_at dksX1_rings_0 9 rfl rfl)
theorem dX1_rings_12 : decode cX1_rings 12 = .ok (.iload_n 3, 1) := dk_29 (dk_at dksX1_rings_0 12 rfl rfl)
theorem dX1_rings_13 : decode cX1_rings 13 = .ok (.aload_n 0, 1) := dk_42 (dk_at dksX1_rings_0 13 rfl rfl)
theorem dX1_rings_14 : decode cX1_rings 14 = .ok (.iload_n 1, 1) := dk_27 (dk_at dksX1_rings_0 14 rfl rfl)
theorem dX1_rings_15 : decode cX1_rings 15 = .ok (.iload 4, 2) := dk_21 4 (dk_at dksX1_rings_0 15 rfl rfl)
theorem dX1_rings_17 : decode cX1_rings 17 = .ok (.iload_n 2, 1) := dk_28 (dk_at dksX1_rings_0 17 rfl rfl)
theorem dX1_rings_18 : decode cX1_rings 18 = .ok (.invokevirtual 214, 3) := dk_182 0 214 (dk_at dksX1_rings_0 18 rfl rfl)
theorem dX1_rings_21 : decode cX1_rings 21 = .ok (.iadd, 1) := dk_96 (dk_at dksX1_rings_0 21 rfl rfl)
theorem dX1_rings_22 : decode cX1_rings 22 = .ok (.istore_n 3, 1) := dk_62 (dk_at dksX1_rings_0 22 rfl rfl)
theorem dX1_rings_23 : decode cX1_rings 23 = .ok (.iinc 4 1, 3) := dk_132 4 1 (dk_at dksX1_rings_1 0 rfl rfl)
theorem dX1_rings_26 : decode cX1_rings 26 = .ok (.goto (-21), 3) := dk_167 255 235 (dk_at dksX1_rings_1 3 rfl rfl)
theorem dX1_rings_29 : decode cX1_rings 29 = .ok (.iload_n 3, 1) := dk_29 (dk_at dksX1_rings_1 6 rfl rfl)
theorem dX1_rings_30 : decode cX1_rings 30 = .ok (.ireturn, 1) := dk_172 (dk_at dksX1_rings_1 7 rfl rfl)
abbrev cX1_highest : ByteArray := prog_6_method_32_code
def yX1_highest : MethodName := ⟨RX1, "highest", "(I)I"⟩
def dkwX1_highest_1 : List UInt8 := [158, 0, 7, 29, 167, 0, 4, 28, 61, 132, 3, 1, 167, 255, 225, 28, 172]
abbrev dktX1_highest_1 : List UInt8 := dkwX1_highest_1 ++ []
def dkwX1_highest_0 : List UInt8 := [16, 252, 61, 3, 62, 29, 16, 36, 162, 0, 31, 42, 27, 29, 42, 180, 0, 18, 182, 0, 109, 182, 0, 214]
abbrev dktX1_highest_0 : List UInt8 := dkwX1_highest_0 ++ dktX1_highest_1
theorem dksX1_highest_0 : cX1_highest.data.toList.drop 0 = dktX1_highest_0 := by decide +kernel
theorem dksX1_highest_1 : cX1_highest.data.toList.drop 24 = dktX1_highest_1 := dk_seg dksX1_highest_0 24 rfl rfl
theorem dX1_highest_0 : decode cX1_highest 0 = .ok (.bipush (-4), 2) := dk_16 252 (dk_at dksX1_highest_0 0 rfl rfl)
theorem dX1_highest_2 : decode cX1_highest 2 = .ok (.istore_n 2, 1) := dk_61 (dk_at dksX1_highest_0 2 rfl rfl)
theorem dX1_highest_3 : decode cX1_highest 3 = .ok (.iconst 0, 1) := dk_3 (dk_at dksX1_highest_0 3 rfl rfl)
theorem dX1_highest_4 : decode cX1_highest 4 = .ok (.istore_n 3, 1) := dk_62 (dk_at dksX1_highest_0 4 rfl rfl)
theorem dX1_highest_5 : decode cX1_highest 5 = .ok (.iload_n 3, 1) := dk_29 (dk_at dksX1_highest_0 5 rfl rfl)
theorem dX1_highest_6 : decode cX1_highest 6 = .ok (.bipush 36, 2) := dk_16 36 (dk_at dksX1_highest_0 6 rfl rfl)
theorem dX1_highest_8 : decode cX1_highest 8 = .ok (.if_icmp .ge 31, 3) := dk_162 0 31 (dk_at dksX1_highest_0 8 rfl rfl)
theorem dX1_highest_11 : decode cX1_highest 11 = .ok (.aload_n 0, 1) := dk_42 (dk_at dksX1_highest_0 11 rfl rfl)
theorem dX1_highest_12 : decode cX1_highest 12 = .ok (.iload_n 1, 1) := dk_27 (dk_at dksX1_highest_0 12 rfl rfl)
theorem dX1_highest_13 : decode cX1_highest 13 = .ok (.iload_n 3, 1) := dk_29 (dk_at dksX1_highest_0 13 rfl rfl)
theorem dX1_highest_14 : decode cX1_highest 14 = .ok (.aload_n 0, 1) := dk_42 (dk_at dksX1_highest_0 14 rfl rfl)
theorem dX1_highest_15 : decode cX1_highest 15 = .ok (.getfield 18, 3) := dk_180 0 18 (dk_at dksX1_highest_0 15 rfl rfl)
theorem dX1_highest_18 : decode cX1_highest 18 = .ok (.invokevirtual 109, 3) := dk_182 0 109 (dk_at dksX1_highest_0 18 rfl rfl)
theorem dX1_highest_21 : decode cX1_highest 21 = .ok (.invokevirtual 214, 3) := dk_182 0 214 (dk_at dksX1_highest_0 21 rfl rfl)
theorem dX1_highest_24 : decode cX1_highest 24 = .ok (.ifCond .le 7, 3) := dk_158 0 7 (dk_at dksX1_highest_1 0 rfl rfl)
theorem dX1_highest_27 : decode cX1_highest 27 = .ok (.iload_n 3, 1) := dk_29 (dk_at dksX1_highest_1 3 rfl rfl)
theorem dX1_highest_28 : decode cX1_highest 28 = .ok (.goto 4, 3) := dk_167 0 4 (dk_at dksX1_highest_1 4 rfl rfl)
theorem dX1_highest_31 : decode cX1_highest 31 = .ok (.iload_n 2, 1) := dk_28 (dk_at dksX1_highest_1 7 rfl rfl)
theorem dX1_highest_32 : decode cX1_highest 32 = .ok (.istore_n 2, 1) := dk_61 (dk_at dksX1_highest_1 8 rfl rfl)
theorem dX1_highest_33 : decode cX1_highest 33 = .ok (.iinc 3 1, 3) := dk_132 3 1 (dk_at dksX1_highest_1 9 rfl rfl)
theorem dX1_highest_36 : decode cX1_highest 36 = .ok (.goto (-31), 3) := dk_167 255 225 (dk_at dksX1_highest_1 12 rfl rfl)
theorem dX1_highest_39 : decode cX1_highest 39 = .ok (.iload_n 2, 1) := dk_28 (dk_at dksX1_highest_1 15 rfl rfl)
theorem dX1_highest_40 : decode cX1_highest 40 = .ok (.ireturn, 1) := dk_172 (dk_at dksX1_highest_1 16 rfl rfl)
abbrev cX1_lowest : ByteArray := prog_6_method_33_code
def yX1_lowest : MethodName := ⟨RX1, "lowest", "(I)I"⟩
def dkwX1_lowest_1 : List UInt8 := [158, 0, 7, 29, 167, 0, 4, 28, 61, 132, 3, 255, 167, 255, 227, 28, 172]
abbrev dktX1_lowest_1 : List UInt8 := dkwX1_lowest_1 ++ []
def dkwX1_lowest_0 : List UInt8 := [16, 252, 61, 16, 35, 62, 29, 155, 0, 31, 42, 27, 29, 42, 180, 0, 18, 182, 0, 109, 182, 0, 214]
abbrev dktX1_lowest_0 : List UInt8 := dkwX1_lowest_0 ++ dktX1_lowest_1
theorem dksX1_lowest_0 : cX1_lowest.data.toList.drop 0 = dktX1_lowest_0 := by decide +kernel
theorem dksX1_lowest_1 : cX1_lowest.data.toList.drop 23 = dktX1_lowest_1 := dk_seg dksX1_lowest_0 23 rfl rfl
theorem dX1_lowest_0 : decode cX1_lowest 0 = .ok (.bipush (-4), 2) := dk_16 252 (dk_at dksX1_lowest_0 0 rfl rfl)
theorem dX1_lowest_2 : decode cX1_lowest 2 = .ok (.istore_n 2, 1) := dk_61 (dk_at dksX1_lowest_0 2 rfl rfl)
theorem dX1_lowest_3 : decode cX1_lowest 3 = .ok (.bipush 35, 2) := dk_16 35 (dk_at dksX1_lowest_0 3 rfl rfl)
theorem dX1_lowest_5 : decode cX1_lowest 5 = .ok (.istore_n 3, 1) := dk_62 (dk_at dksX1_lowest_0 5 rfl rfl)
theorem dX1_lowest_6 : decode cX1_lowest 6 = .ok (.iload_n 3, 1) := dk_29 (dk_at dksX1_lowest_0 6 rfl rfl)
theorem dX1_lowest_7 : decode cX1_lowest 7 = .ok (.ifCond .lt 31, 3) := dk_155 0 31 (dk_at dksX1_lowest_0 7 rfl rfl)
theorem dX1_lowest_10 : decode cX1_lowest 10 = .ok (.aload_n 0, 1) := dk_42 (dk_at dksX1_lowest_0 10 rfl rfl)
theorem dX1_lowest_11 : decode cX1_lowest 11 = .ok (.iload_n 1, 1) := dk_27 (dk_at dksX1_lowest_0 11 rfl rfl)
theorem dX1_lowest_12 : decode cX1_lowest 12 = .ok (.iload_n 3, 1) := dk_29 (dk_at dksX1_lowest_0 12 rfl rfl)
theorem dX1_lowest_13 : decode cX1_lowest 13 = .ok (.aload_n 0, 1) := dk_42 (dk_at dksX1_lowest_0 13 rfl rfl)
theorem dX1_lowest_14 : decode cX1_lowest 14 = .ok (.getfield 18, 3) := dk_180 0 18 (dk_at dksX1_lowest_0 14 rfl rfl)
theorem dX1_lowest_17 : decode cX1_lowest 17 = .ok (.invokevirtual 109, 3) := dk_182 0 109 (dk_at dksX1_lowest_0 17 rfl rfl)
theorem dX1_lowest_20 : decode cX1_lowest 20 = .ok (.invokevirtual 214, 3) := dk_182 0 214 (dk_at dksX1_lowest_0 20 rfl rfl)
theorem dX1_lowest_23 : decode cX1_lowest 23 = .ok (.ifCond .le 7, 3) := dk_158 0 7 (dk_at dksX1_lowest_1 0 rfl rfl)
theorem dX1_lowest_26 : decode cX1_lowest 26 = .ok (.iload_n 3, 1) := dk_29 (dk_at dksX1_lowest_1 3 rfl rfl)
theorem dX1_lowest_27 : decode cX1_lowest 27 = .ok (.goto 4, 3) := dk_167 0 4 (dk_at dksX1_lowest_1 4 rfl rfl)
theorem dX1_lowest_30 : decode cX1_lowest 30 = .ok (.iload_n 2, 1) := dk_28 (dk_at dksX1_lowest_1 7 rfl rfl)
theorem dX1_lowest_31 : decode cX1_lowest 31 = .ok (.istore_n 2, 1) := dk_61 (dk_at dksX1_lowest_1 8 rfl rfl)
theorem dX1_lowest_32 : decode cX1_lowest 32 = .ok (.iinc 3 (-1), 3) := dk_132 3 255 (dk_at dksX1_lowest_1 9 rfl rfl)
theorem dX1_lowest_35 : decode cX1_lowest 35 = .ok (.goto (-29), 3) := dk_167 255 227 (dk_at dksX1_lowest_1 12 rfl rfl)
theorem dX1_lowest_38 : decode cX1_lowest 38 = .ok (.iload_n 2, 1) := dk_28 (dk_at dksX1_lowest_1 15 rfl rfl)
theorem dX1_lowest_39 : decode cX1_lowest 39 = .ok (.ireturn, 1) := dk_172 (dk_at dksX1_lowest_1 16 rfl rfl)
abbrev cX1_strongest : ByteArray := prog_6_method_34_code
def yX1_strongest : MethodName := ⟨RX1, "strongest", "(I)I"⟩
def dkwX1_strongest_2 : List UInt8 := [184, 0, 103, 62, 132, 4, 1, 167, 255, 210, 28, 172]
abbrev dktX1_strongest_2 : List UInt8 := dkwX1_strongest_2 ++ []
def dkwX1_strongest_1 : List UInt8 := [182, 0, 109, 182, 0, 214, 54, 5, 21, 5, 29, 164, 0, 8, 21, 4, 167, 0, 4, 28, 61, 29, 21, 5]
abbrev dktX1_strongest_1 : List UInt8 := dkwX1_strongest_1 ++ dktX1_strongest_2
def dkwX1_strongest_0 : List UInt8 := [16, 252, 61, 3, 62, 3, 54, 4, 21, 4, 16, 36, 162, 0, 45, 42, 27, 21, 4, 42, 180, 0, 18]
abbrev dktX1_strongest_0 : List UInt8 := dkwX1_strongest_0 ++ dktX1_strongest_1
theorem dksX1_strongest_0 : cX1_strongest.data.toList.drop 0 = dktX1_strongest_0 := by decide +kernel
theorem dksX1_strongest_1 : cX1_strongest.data.toList.drop 23 = dktX1_strongest_1 := dk_seg dksX1_strongest_0 23 rfl rfl
theorem dksX1_strongest_2 : cX1_strongest.data.toList.drop 47 = dktX1_strongest_2 := dk_seg dksX1_strongest_1 24 rfl rfl
theorem dX1_strongest_0 : decode cX1_strongest 0 = .ok (.bipush (-4), 2) := dk_16 252 (dk_at dksX1_strongest_0 0 rfl rfl)
theorem dX1_strongest_2 : decode cX1_strongest 2 = .ok (.istore_n 2, 1) := dk_61 (dk_at dksX1_strongest_0 2 rfl rfl)
theorem dX1_strongest_3 : decode cX1_strongest 3 = .ok (.iconst 0, 1) := dk_3 (dk_at dksX1_strongest_0 3 rfl rfl)
theorem dX1_strongest_4 : decode cX1_strongest 4 = .ok (.istore_n 3, 1) := dk_62 (dk_at dksX1_strongest_0 4 rfl rfl)
theorem dX1_strongest_5 : decode cX1_strongest 5 = .ok (.iconst 0, 1) := dk_3 (dk_at dksX1_strongest_0 5 rfl rfl)
theorem dX1_strongest_6 : decode cX1_strongest 6 = .ok (.istore 4, 2) := dk_54 4 (dk_at dksX1_strongest_0 6 rfl rfl)
theorem dX1_strongest_8 : decode cX1_strongest 8 = .ok (.iload 4, 2) := dk_21 4 (dk_at dksX1_strongest_0 8 rfl rfl)
theorem dX1_strongest_10 : decode cX1_strongest 10 = .ok (.bipush 36, 2) := dk_16 36 (dk_at dksX1_strongest_0 10 rfl rfl)
theorem dX1_strongest_12 : decode cX1_strongest 12 = .ok (.if_icmp .ge 45, 3) := dk_162 0 45 (dk_at dksX1_strongest_0 12 rfl rfl)
theorem dX1_strongest_15 : decode cX1_strongest 15 = .ok (.aload_n 0, 1) := dk_42 (dk_at dksX1_strongest_0 15 rfl rfl)
theorem dX1_strongest_16 : decode cX1_strongest 16 = .ok (.iload_n 1, 1) := dk_27 (dk_at dksX1_strongest_0 16 rfl rfl)
theorem dX1_strongest_17 : decode cX1_strongest 17 = .ok (.iload 4, 2) := dk_21 4 (dk_at dksX1_strongest_0 17 rfl rfl)
theorem dX1_strongest_19 : decode cX1_strongest 19 = .ok (.aload_n 0, 1) := dk_42 (dk_at dksX1_strongest_0 19 rfl rfl)
theorem dX1_strongest_20 : decode cX1_strongest 20 = .ok (.getfield 18, 3) := dk_180 0 18 (dk_at dksX1_strongest_0 20 rfl rfl)
theorem dX1_strongest_23 : decode cX1_strongest 23 = .ok (.invokevirtual 109, 3) := dk_182 0 109 (dk_at dksX1_strongest_1 0 rfl rfl)
theorem dX1_strongest_26 : decode cX1_strongest 26 = .ok (.invokevirtual 214, 3) := dk_182 0 214 (dk_at dksX1_strongest_1 3 rfl rfl)
theorem dX1_strongest_29 : decode cX1_strongest 29 = .ok (.istore 5, 2) := dk_54 5 (dk_at dksX1_strongest_1 6 rfl rfl)
theorem dX1_strongest_31 : decode cX1_strongest 31 = .ok (.iload 5, 2) := dk_21 5 (dk_at dksX1_strongest_1 8 rfl rfl)
theorem dX1_strongest_33 : decode cX1_strongest 33 = .ok (.iload_n 3, 1) := dk_29 (dk_at dksX1_strongest_1 10 rfl rfl)
theorem dX1_strongest_34 : decode cX1_strongest 34 = .ok (.if_icmp .le 8, 3) := dk_164 0 8 (dk_at dksX1_strongest_1 11 rfl rfl)
theorem dX1_strongest_37 : decode cX1_strongest 37 = .ok (.iload 4, 2) := dk_21 4 (dk_at dksX1_strongest_1 14 rfl rfl)
theorem dX1_strongest_39 : decode cX1_strongest 39 = .ok (.goto 4, 3) := dk_167 0 4 (dk_at dksX1_strongest_1 16 rfl rfl)
theorem dX1_strongest_42 : decode cX1_strongest 42 = .ok (.iload_n 2, 1) := dk_28 (dk_at dksX1_strongest_1 19 rfl rfl)
theorem dX1_strongest_43 : decode cX1_strongest 43 = .ok (.istore_n 2, 1) := dk_61 (dk_at dksX1_strongest_1 20 rfl rfl)
theorem dX1_strongest_44 : decode cX1_strongest 44 = .ok (.iload_n 3, 1) := dk_29 (dk_at dksX1_strongest_1 21 rfl rfl)
theorem dX1_strongest_45 : decode cX1_strongest 45 = .ok (.iload 5, 2) := dk_21 5 (dk_at dksX1_strongest_1 22 rfl rfl)
theorem dX1_strongest_47 : decode cX1_strongest 47 = .ok (.invokestatic 103, 3) := dk_184 0 103 (dk_at dksX1_strongest_2 0 rfl rfl)
theorem dX1_strongest_50 : decode cX1_strongest 50 = .ok (.istore_n 3, 1) := dk_62 (dk_at dksX1_strongest_2 3 rfl rfl)
theorem dX1_strongest_51 : decode cX1_strongest 51 = .ok (.iinc 4 1, 3) := dk_132 4 1 (dk_at dksX1_strongest_2 4 rfl rfl)
theorem dX1_strongest_54 : decode cX1_strongest 54 = .ok (.goto (-46), 3) := dk_167 255 210 (dk_at dksX1_strongest_2 7 rfl rfl)
theorem dX1_strongest_57 : decode cX1_strongest 57 = .ok (.iload_n 2, 1) := dk_28 (dk_at dksX1_strongest_2 10 rfl rfl)
theorem dX1_strongest_58 : decode cX1_strongest 58 = .ok (.ireturn, 1) := dk_172 (dk_at dksX1_strongest_2 11 rfl rfl)
abbrev cX1_buriedNotes : ByteArray := prog_6_method_35_code
def yX1_buriedNotes : MethodName := ⟨RX1, "buriedNotes", "(I)I"⟩
def dkwX1_buriedNotes_5 : List UInt8 := [132, 4, 1, 167, 255, 166, 132, 3, 1, 167, 255, 132, 28, 172]
abbrev dktX1_buriedNotes_5 : List UInt8 := dkwX1_buriedNotes_5 ++ []
def dkwX1_buriedNotes_4 : List UInt8 := [54, 7, 28, 21, 7, 158, 0, 16, 5, 21, 7, 104, 21, 5, 162, 0, 7, 4, 167, 0, 4, 3, 96, 61]
abbrev dktX1_buriedNotes_4 : List UInt8 := dkwX1_buriedNotes_4 ++ dktX1_buriedNotes_5
def dkwX1_buriedNotes_3 : List UInt8 := [162, 0, 23, 42, 180, 0, 18, 27, 182, 0, 95, 192, 0, 48, 29, 21, 6, 182, 0, 208, 167, 0, 4, 3]
abbrev dktX1_buriedNotes_3 : List UInt8 := dkwX1_buriedNotes_3 ++ dktX1_buriedNotes_4
def dkwX1_buriedNotes_2 : List UInt8 := [182, 0, 109, 182, 0, 214, 54, 5, 21, 4, 16, 12, 42, 180, 0, 72, 104, 96, 54, 6, 21, 6, 16, 36]
abbrev dktX1_buriedNotes_2 : List UInt8 := dkwX1_buriedNotes_2 ++ dktX1_buriedNotes_3
def dkwX1_buriedNotes_1 : List UInt8 := [180, 0, 204, 154, 0, 105, 3, 54, 4, 21, 4, 16, 36, 162, 0, 89, 42, 29, 21, 4, 42, 180, 0, 18]
abbrev dktX1_buriedNotes_1 : List UInt8 := dkwX1_buriedNotes_1 ++ dktX1_buriedNotes_2
def dkwX1_buriedNotes_0 : List UInt8 := [3, 61, 3, 62, 29, 42, 182, 0, 148, 162, 0, 122, 42, 180, 0, 18, 27, 182, 0, 95, 192, 0, 48]
abbrev dktX1_buriedNotes_0 : List UInt8 := dkwX1_buriedNotes_0 ++ dktX1_buriedNotes_1
theorem dksX1_buriedNotes_0 : cX1_buriedNotes.data.toList.drop 0 = dktX1_buriedNotes_0 := by decide +kernel
theorem dksX1_buriedNotes_1 : cX1_buriedNotes.data.toList.drop 23 = dktX1_buriedNotes_1 := dk_seg dksX1_buriedNotes_0 23 rfl rfl
theorem dksX1_buriedNotes_2 : cX1_buriedNotes.data.toList.drop 47 = dktX1_buriedNotes_2 := dk_seg dksX1_buriedNotes_1 24 rfl rfl
theorem dksX1_buriedNotes_3 : cX1_buriedNotes.data.toList.drop 71 = dktX1_buriedNotes_3 := dk_seg dksX1_buriedNotes_2 24 rfl rfl
theorem dksX1_buriedNotes_4 : cX1_buriedNotes.data.toList.drop 95 = dktX1_buriedNotes_4 := dk_seg dksX1_buriedNotes_3 24 rfl rfl
theorem dksX1_buriedNotes_5 : cX1_buriedNotes.data.toList.drop 119 = dktX1_buriedNotes_5 := dk_seg dksX1_buriedNotes_4 24 rfl rfl
theorem dX1_buriedNotes_0 : decode cX1_buriedNotes 0 = .ok (.iconst 0, 1) := dk_3 (dk_at dksX1_buriedNotes_0 0 rfl rfl)
theorem dX1_buriedNotes_1 : decode cX1_buriedNotes 1 = .ok (.istore_n 2, 1) := dk_61 (dk_at dksX1_buriedNotes_0 1 rfl rfl)
theorem dX1_buriedNotes_2 : decode cX1_buriedNotes 2 = .ok (.iconst 0, 1) := dk_3 (dk_at dksX1_buriedNotes_0 2 rfl rfl)
theorem dX1_buriedNotes_3 : decode cX1_buriedNotes 3 = .ok (.istore_n 3, 1) := dk_62 (dk_at dksX1_buriedNotes_0 3 rfl rfl)
theorem dX1_buriedNotes_4 : decode cX1_buriedNotes 4 = .ok (.iload_n 3, 1) := dk_29 (dk_at dksX1_buriedNotes_0 4 rfl rfl)
theorem dX1_buriedNotes_5 : decode cX1_buriedNotes 5 = .ok (.aload_n 0, 1) := dk_42 (dk_at dksX1_buriedNotes_0 5 rfl rfl)
theorem dX1_buriedNotes_6 : decode cX1_buriedNotes 6 = .ok (.invokevirtual 148, 3) := dk_182 0 148 (dk_at dksX1_buriedNotes_0 6 rfl rfl)
theorem dX1_buriedNotes_9 : decode cX1_buriedNotes 9 = .ok (.if_icmp .ge 122, 3) := dk_162 0 122 (dk_at dksX1_buriedNotes_0 9 rfl rfl)
theorem dX1_buriedNotes_12 : decode cX1_buriedNotes 12 = .ok (.aload_n 0, 1) := dk_42 (dk_at dksX1_buriedNotes_0 12 rfl rfl)
theorem dX1_buriedNotes_13 : decode cX1_buriedNotes 13 = .ok (.getfield 18, 3) := dk_180 0 18 (dk_at dksX1_buriedNotes_0 13 rfl rfl)
theorem dX1_buriedNotes_16 : decode cX1_buriedNotes 16 = .ok (.iload_n 1, 1) := dk_27 (dk_at dksX1_buriedNotes_0 16 rfl rfl)
theorem dX1_buriedNotes_17 : decode cX1_buriedNotes 17 = .ok (.invokevirtual 95, 3) := dk_182 0 95 (dk_at dksX1_buriedNotes_0 17 rfl rfl)
theorem dX1_buriedNotes_20 : decode cX1_buriedNotes 20 = .ok (.checkcast 48, 3) := dk_192 0 48 (dk_at dksX1_buriedNotes_0 20 rfl rfl)
theorem dX1_buriedNotes_23 : decode cX1_buriedNotes 23 = .ok (.getfield 204, 3) := dk_180 0 204 (dk_at dksX1_buriedNotes_1 0 rfl rfl)
theorem dX1_buriedNotes_26 : decode cX1_buriedNotes 26 = .ok (.ifCond .ne 105, 3) := dk_154 0 105 (dk_at dksX1_buriedNotes_1 3 rfl rfl)
theorem dX1_buriedNotes_29 : decode cX1_buriedNotes 29 = .ok (.iconst 0, 1) := dk_3 (dk_at dksX1_buriedNotes_1 6 rfl rfl)
theorem dX1_buriedNotes_30 : decode cX1_buriedNotes 30 = .ok (.istore 4, 2) := dk_54 4 (dk_at dksX1_buriedNotes_1 7 rfl rfl)
theorem dX1_buriedNotes_32 : decode cX1_buriedNotes 32 = .ok (.iload 4, 2) := dk_21 4 (dk_at dksX1_buriedNotes_1 9 rfl rfl)
theorem dX1_buriedNotes_34 : decode cX1_buriedNotes 34 = .ok (.bipush 36, 2) := dk_16 36 (dk_at dksX1_buriedNotes_1 11 rfl rfl)
theorem dX1_buriedNotes_36 : decode cX1_buriedNotes 36 = .ok (.if_icmp .ge 89, 3) := dk_162 0 89 (dk_at dksX1_buriedNotes_1 13 rfl rfl)
theorem dX1_buriedNotes_39 : decode cX1_buriedNotes 39 = .ok (.aload_n 0, 1) := dk_42 (dk_at dksX1_buriedNotes_1 16 rfl rfl)
theorem dX1_buriedNotes_40 : decode cX1_buriedNotes 40 = .ok (.iload_n 3, 1) := dk_29 (dk_at dksX1_buriedNotes_1 17 rfl rfl)
theorem dX1_buriedNotes_41 : decode cX1_buriedNotes 41 = .ok (.iload 4, 2) := dk_21 4 (dk_at dksX1_buriedNotes_1 18 rfl rfl)
theorem dX1_buriedNotes_43 : decode cX1_buriedNotes 43 = .ok (.aload_n 0, 1) := dk_42 (dk_at dksX1_buriedNotes_1 20 rfl rfl)
theorem dX1_buriedNotes_44 : decode cX1_buriedNotes 44 = .ok (.getfield 18, 3) := dk_180 0 18 (dk_at dksX1_buriedNotes_1 21 rfl rfl)
theorem dX1_buriedNotes_47 : decode cX1_buriedNotes 47 = .ok (.invokevirtual 109, 3) := dk_182 0 109 (dk_at dksX1_buriedNotes_2 0 rfl rfl)
theorem dX1_buriedNotes_50 : decode cX1_buriedNotes 50 = .ok (.invokevirtual 214, 3) := dk_182 0 214 (dk_at dksX1_buriedNotes_2 3 rfl rfl)
theorem dX1_buriedNotes_53 : decode cX1_buriedNotes 53 = .ok (.istore 5, 2) := dk_54 5 (dk_at dksX1_buriedNotes_2 6 rfl rfl)
theorem dX1_buriedNotes_55 : decode cX1_buriedNotes 55 = .ok (.iload 4, 2) := dk_21 4 (dk_at dksX1_buriedNotes_2 8 rfl rfl)
theorem dX1_buriedNotes_57 : decode cX1_buriedNotes 57 = .ok (.bipush 12, 2) := dk_16 12 (dk_at dksX1_buriedNotes_2 10 rfl rfl)
theorem dX1_buriedNotes_59 : decode cX1_buriedNotes 59 = .ok (.aload_n 0, 1) := dk_42 (dk_at dksX1_buriedNotes_2 12 rfl rfl)
theorem dX1_buriedNotes_60 : decode cX1_buriedNotes 60 = .ok (.getfield 72, 3) := dk_180 0 72 (dk_at dksX1_buriedNotes_2 13 rfl rfl)
theorem dX1_buriedNotes_63 : decode cX1_buriedNotes 63 = .ok (.imul, 1) := dk_104 (dk_at dksX1_buriedNotes_2 16 rfl rfl)
theorem dX1_buriedNotes_64 : decode cX1_buriedNotes 64 = .ok (.iadd, 1) := dk_96 (dk_at dksX1_buriedNotes_2 17 rfl rfl)
theorem dX1_buriedNotes_65 : decode cX1_buriedNotes 65 = .ok (.istore 6, 2) := dk_54 6 (dk_at dksX1_buriedNotes_2 18 rfl rfl)
theorem dX1_buriedNotes_67 : decode cX1_buriedNotes 67 = .ok (.iload 6, 2) := dk_21 6 (dk_at dksX1_buriedNotes_2 20 rfl rfl)
theorem dX1_buriedNotes_69 : decode cX1_buriedNotes 69 = .ok (.bipush 36, 2) := dk_16 36 (dk_at dksX1_buriedNotes_2 22 rfl rfl)
theorem dX1_buriedNotes_71 : decode cX1_buriedNotes 71 = .ok (.if_icmp .ge 23, 3) := dk_162 0 23 (dk_at dksX1_buriedNotes_3 0 rfl rfl)
theorem dX1_buriedNotes_74 : decode cX1_buriedNotes 74 = .ok (.aload_n 0, 1) := dk_42 (dk_at dksX1_buriedNotes_3 3 rfl rfl)
theorem dX1_buriedNotes_75 : decode cX1_buriedNotes 75 = .ok (.getfield 18, 3) := dk_180 0 18 (dk_at dksX1_buriedNotes_3 4 rfl rfl)
theorem dX1_buriedNotes_78 : decode cX1_buriedNotes 78 = .ok (.iload_n 1, 1) := dk_27 (dk_at dksX1_buriedNotes_3 7 rfl rfl)
theorem dX1_buriedNotes_79 : decode cX1_buriedNotes 79 = .ok (.invokevirtual 95, 3) := dk_182 0 95 (dk_at dksX1_buriedNotes_3 8 rfl rfl)
theorem dX1_buriedNotes_82 : decode cX1_buriedNotes 82 = .ok (.checkcast 48, 3) := dk_192 0 48 (dk_at dksX1_buriedNotes_3 11 rfl rfl)
theorem dX1_buriedNotes_85 : decode cX1_buriedNotes 85 = .ok (.iload_n 3, 1) := dk_29 (dk_at dksX1_buriedNotes_3 14 rfl rfl)
theorem dX1_buriedNotes_86 : decode cX1_buriedNotes 86 = .ok (.iload 6, 2) := dk_21 6 (dk_at dksX1_buriedNotes_3 15 rfl rfl)
theorem dX1_buriedNotes_88 : decode cX1_buriedNotes 88 = .ok (.invokevirtual 208, 3) := dk_182 0 208 (dk_at dksX1_buriedNotes_3 17 rfl rfl)
theorem dX1_buriedNotes_91 : decode cX1_buriedNotes 91 = .ok (.goto 4, 3) := dk_167 0 4 (dk_at dksX1_buriedNotes_3 20 rfl rfl)
theorem dX1_buriedNotes_94 : decode cX1_buriedNotes 94 = .ok (.iconst 0, 1) := dk_3 (dk_at dksX1_buriedNotes_3 23 rfl rfl)
theorem dX1_buriedNotes_95 : decode cX1_buriedNotes 95 = .ok (.istore 7, 2) := dk_54 7 (dk_at dksX1_buriedNotes_4 0 rfl rfl)
theorem dX1_buriedNotes_97 : decode cX1_buriedNotes 97 = .ok (.iload_n 2, 1) := dk_28 (dk_at dksX1_buriedNotes_4 2 rfl rfl)
theorem dX1_buriedNotes_98 : decode cX1_buriedNotes 98 = .ok (.iload 7, 2) := dk_21 7 (dk_at dksX1_buriedNotes_4 3 rfl rfl)
theorem dX1_buriedNotes_100 : decode cX1_buriedNotes 100 = .ok (.ifCond .le 16, 3) := dk_158 0 16 (dk_at dksX1_buriedNotes_4 5 rfl rfl)
theorem dX1_buriedNotes_103 : decode cX1_buriedNotes 103 = .ok (.iconst 2, 1) := dk_5 (dk_at dksX1_buriedNotes_4 8 rfl rfl)
theorem dX1_buriedNotes_104 : decode cX1_buriedNotes 104 = .ok (.iload 7, 2) := dk_21 7 (dk_at dksX1_buriedNotes_4 9 rfl rfl)
theorem dX1_buriedNotes_106 : decode cX1_buriedNotes 106 = .ok (.imul, 1) := dk_104 (dk_at dksX1_buriedNotes_4 11 rfl rfl)
theorem dX1_buriedNotes_107 : decode cX1_buriedNotes 107 = .ok (.iload 5, 2) := dk_21 5 (dk_at dksX1_buriedNotes_4 12 rfl rfl)
theorem dX1_buriedNotes_109 : decode cX1_buriedNotes 109 = .ok (.if_icmp .ge 7, 3) := dk_162 0 7 (dk_at dksX1_buriedNotes_4 14 rfl rfl)
theorem dX1_buriedNotes_112 : decode cX1_buriedNotes 112 = .ok (.iconst 1, 1) := dk_4 (dk_at dksX1_buriedNotes_4 17 rfl rfl)
theorem dX1_buriedNotes_113 : decode cX1_buriedNotes 113 = .ok (.goto 4, 3) := dk_167 0 4 (dk_at dksX1_buriedNotes_4 18 rfl rfl)
theorem dX1_buriedNotes_116 : decode cX1_buriedNotes 116 = .ok (.iconst 0, 1) := dk_3 (dk_at dksX1_buriedNotes_4 21 rfl rfl)
theorem dX1_buriedNotes_117 : decode cX1_buriedNotes 117 = .ok (.iadd, 1) := dk_96 (dk_at dksX1_buriedNotes_4 22 rfl rfl)
theorem dX1_buriedNotes_118 : decode cX1_buriedNotes 118 = .ok (.istore_n 2, 1) := dk_61 (dk_at dksX1_buriedNotes_4 23 rfl rfl)
theorem dX1_buriedNotes_119 : decode cX1_buriedNotes 119 = .ok (.iinc 4 1, 3) := dk_132 4 1 (dk_at dksX1_buriedNotes_5 0 rfl rfl)
theorem dX1_buriedNotes_122 : decode cX1_buriedNotes 122 = .ok (.goto (-90), 3) := dk_167 255 166 (dk_at dksX1_buriedNotes_5 3 rfl rfl)
theorem dX1_buriedNotes_125 : decode cX1_buriedNotes 125 = .ok (.iinc 3 1, 3) := dk_132 3 1 (dk_at dksX1_buriedNotes_5 6 rfl rfl)
theorem dX1_buriedNotes_128 : decode cX1_buriedNotes 128 = .ok (.goto (-124), 3) := dk_167 255 132 (dk_at dksX1_buriedNotes_5 9 rfl rfl)
theorem dX1_buriedNotes_131 : decode cX1_buriedNotes 131 = .ok (.iload_n 2, 1) := dk_28 (dk_at dksX1_buriedNotes_5 12 rfl rfl)
theorem dX1_buriedNotes_132 : decode cX1_buriedNotes 132 = .ok (.ireturn, 1) := dk_172 (dk_at dksX1_buriedNotes_5 13 rfl rfl)
abbrev cX1_begins : ByteArray := prog_6_method_36_code
def yX1_begins : MethodName := ⟨RX1, "begins", "(Ljava/util/ArrayList;I)Z"⟩
def dkwX1_begins_1 : List UInt8 := [182, 0, 95, 192, 0, 223, 182, 0, 225, 159, 0, 5, 3, 172, 132, 3, 1, 167, 255, 217, 4, 172]
abbrev dktX1_begins_1 : List UInt8 := dkwX1_begins_1 ++ []
def dkwX1_begins_0 : List UInt8 := [3, 62, 29, 43, 182, 0, 109, 162, 0, 37, 42, 28, 29, 96, 42, 182, 0, 148, 112, 182, 0, 220, 43, 29]
abbrev dktX1_begins_0 : List UInt8 := dkwX1_begins_0 ++ dktX1_begins_1
theorem dksX1_begins_0 : cX1_begins.data.toList.drop 0 = dktX1_begins_0 := by decide +kernel
theorem dksX1_begins_1 : cX1_begins.data.toList.drop 24 = dktX1_begins_1 := dk_seg dksX1_begins_0 24 rfl rfl
theorem dX1_begins_0 : decode cX1_begins 0 = .ok (.iconst 0, 1) := dk_3 (dk_at dksX1_begins_0 0 rfl rfl)
theorem dX1_begins_1 : decode cX1_begins 1 = .ok (.istore_n 3, 1) := dk_62 (dk_at dksX1_begins_0 1 rfl rfl)
theorem dX1_begins_2 : decode cX1_begins 2 = .ok (.iload_n 3, 1) := dk_29 (dk_at dksX1_begins_0 2 rfl rfl)
theorem dX1_begins_3 : decode cX1_begins 3 = .ok (.aload_n 1, 1) := dk_43 (dk_at dksX1_begins_0 3 rfl rfl)
theorem dX1_begins_4 : decode cX1_begins 4 = .ok (.invokevirtual 109, 3) := dk_182 0 109 (dk_at dksX1_begins_0 4 rfl rfl)
theorem dX1_begins_7 : decode cX1_begins 7 = .ok (.if_icmp .ge 37, 3) := dk_162 0 37 (dk_at dksX1_begins_0 7 rfl rfl)
theorem dX1_begins_10 : decode cX1_begins 10 = .ok (.aload_n 0, 1) := dk_42 (dk_at dksX1_begins_0 10 rfl rfl)
theorem dX1_begins_11 : decode cX1_begins 11 = .ok (.iload_n 2, 1) := dk_28 (dk_at dksX1_begins_0 11 rfl rfl)
theorem dX1_begins_12 : decode cX1_begins 12 = .ok (.iload_n 3, 1) := dk_29 (dk_at dksX1_begins_0 12 rfl rfl)
theorem dX1_begins_13 : decode cX1_begins 13 = .ok (.iadd, 1) := dk_96 (dk_at dksX1_begins_0 13 rfl rfl)
theorem dX1_begins_14 : decode cX1_begins 14 = .ok (.aload_n 0, 1) := dk_42 (dk_at dksX1_begins_0 14 rfl rfl)
theorem dX1_begins_15 : decode cX1_begins 15 = .ok (.invokevirtual 148, 3) := dk_182 0 148 (dk_at dksX1_begins_0 15 rfl rfl)
theorem dX1_begins_18 : decode cX1_begins 18 = .ok (.irem, 1) := dk_112 (dk_at dksX1_begins_0 18 rfl rfl)
theorem dX1_begins_19 : decode cX1_begins 19 = .ok (.invokevirtual 220, 3) := dk_182 0 220 (dk_at dksX1_begins_0 19 rfl rfl)
theorem dX1_begins_22 : decode cX1_begins 22 = .ok (.aload_n 1, 1) := dk_43 (dk_at dksX1_begins_0 22 rfl rfl)
theorem dX1_begins_23 : decode cX1_begins 23 = .ok (.iload_n 3, 1) := dk_29 (dk_at dksX1_begins_0 23 rfl rfl)
theorem dX1_begins_24 : decode cX1_begins 24 = .ok (.invokevirtual 95, 3) := dk_182 0 95 (dk_at dksX1_begins_1 0 rfl rfl)
theorem dX1_begins_27 : decode cX1_begins 27 = .ok (.checkcast 223, 3) := dk_192 0 223 (dk_at dksX1_begins_1 3 rfl rfl)
theorem dX1_begins_30 : decode cX1_begins 30 = .ok (.invokevirtual 225, 3) := dk_182 0 225 (dk_at dksX1_begins_1 6 rfl rfl)
theorem dX1_begins_33 : decode cX1_begins 33 = .ok (.if_icmp .eq 5, 3) := dk_159 0 5 (dk_at dksX1_begins_1 9 rfl rfl)
theorem dX1_begins_36 : decode cX1_begins 36 = .ok (.iconst 0, 1) := dk_3 (dk_at dksX1_begins_1 12 rfl rfl)
theorem dX1_begins_37 : decode cX1_begins 37 = .ok (.ireturn, 1) := dk_172 (dk_at dksX1_begins_1 13 rfl rfl)
theorem dX1_begins_38 : decode cX1_begins 38 = .ok (.iinc 3 1, 3) := dk_132 3 1 (dk_at dksX1_begins_1 14 rfl rfl)
theorem dX1_begins_41 : decode cX1_begins 41 = .ok (.goto (-39), 3) := dk_167 255 217 (dk_at dksX1_begins_1 17 rfl rfl)
theorem dX1_begins_44 : decode cX1_begins 44 = .ok (.iconst 1, 1) := dk_4 (dk_at dksX1_begins_1 20 rfl rfl)
theorem dX1_begins_45 : decode cX1_begins 45 = .ok (.ireturn, 1) := dk_172 (dk_at dksX1_begins_1 21 rfl rfl)
abbrev cX1_allRings : ByteArray := prog_6_method_29_code
def yX1_allRings : MethodName := ⟨RX1, "allRings", "(I)I"⟩
def dkwX1_allRings_1 : List UInt8 := [132, 3, 1, 167, 255, 235, 28, 172]
abbrev dktX1_allRings_1 : List UInt8 := dkwX1_allRings_1 ++ []
def dkwX1_allRings_0 : List UInt8 := [3, 61, 3, 62, 29, 42, 27, 182, 0, 112, 162, 0, 18, 28, 42, 29, 27, 182, 0, 217, 96, 61]
abbrev dktX1_allRings_0 : List UInt8 := dkwX1_allRings_0 ++ dktX1_allRings_1
theorem dksX1_allRings_0 : cX1_allRings.data.toList.drop 0 = dktX1_allRings_0 := by decide +kernel
theorem dksX1_allRings_1 : cX1_allRings.data.toList.drop 22 = dktX1_allRings_1 := dk_seg dksX1_allRings_0 22 rfl rfl
theorem dX1_allRings_0 : decode cX1_allRings 0 = .ok (.iconst 0, 1) := dk_3 (dk_at dksX1_allRings_0 0 rfl rfl)
theorem dX1_allRings_1 : decode cX1_allRings 1 = .ok (.istore_n 2, 1) := dk_61 (dk_at dksX1_allRings_0 1 rfl rfl)
theorem dX1_allRings_2 : decode cX1_allRings 2 = .ok (.iconst 0, 1) := dk_3 (dk_at dksX1_allRings_0 2 rfl rfl)
theorem dX1_allRings_3 : decode cX1_allRings 3 = .ok (.istore_n 3, 1) := dk_62 (dk_at dksX1_allRings_0 3 rfl rfl)
theorem dX1_allRings_4 : decode cX1_allRings 4 = .ok (.iload_n 3, 1) := dk_29 (dk_at dksX1_allRings_0 4 rfl rfl)
theorem dX1_allRings_5 : decode cX1_allRings 5 = .ok (.aload_n 0, 1) := dk_42 (dk_at dksX1_allRings_0 5 rfl rfl)
theorem dX1_allRings_6 : decode cX1_allRings 6 = .ok (.iload_n 1, 1) := dk_27 (dk_at dksX1_allRings_0 6 rfl rfl)
theorem dX1_allRings_7 : decode cX1_allRings 7 = .ok (.invokevirtual 112, 3) := dk_182 0 112 (dk_at dksX1_allRings_0 7 rfl rfl)
theorem dX1_allRings_10 : decode cX1_allRings 10 = .ok (.if_icmp .ge 18, 3) := dk_162 0 18 (dk_at dksX1_allRings_0 10 rfl rfl)
theorem dX1_allRings_13 : decode cX1_allRings 13 = .ok (.iload_n 2, 1) := dk_28 (dk_at dksX1_allRings_0 13 rfl rfl)
theorem dX1_allRings_14 : decode cX1_allRings 14 = .ok (.aload_n 0, 1) := dk_42 (dk_at dksX1_allRings_0 14 rfl rfl)
theorem dX1_allRings_15 : decode cX1_allRings 15 = .ok (.iload_n 3, 1) := dk_29 (dk_at dksX1_allRings_0 15 rfl rfl)
theorem dX1_allRings_16 : decode cX1_allRings 16 = .ok (.iload_n 1, 1) := dk_27 (dk_at dksX1_allRings_0 16 rfl rfl)
theorem dX1_allRings_17 : decode cX1_allRings 17 = .ok (.invokevirtual 217, 3) := dk_182 0 217 (dk_at dksX1_allRings_0 17 rfl rfl)
theorem dX1_allRings_20 : decode cX1_allRings 20 = .ok (.iadd, 1) := dk_96 (dk_at dksX1_allRings_0 20 rfl rfl)
theorem dX1_allRings_21 : decode cX1_allRings 21 = .ok (.istore_n 2, 1) := dk_61 (dk_at dksX1_allRings_0 21 rfl rfl)
theorem dX1_allRings_22 : decode cX1_allRings 22 = .ok (.iinc 3 1, 3) := dk_132 3 1 (dk_at dksX1_allRings_1 0 rfl rfl)
theorem dX1_allRings_25 : decode cX1_allRings 25 = .ok (.goto (-21), 3) := dk_167 255 235 (dk_at dksX1_allRings_1 3 rfl rfl)
theorem dX1_allRings_28 : decode cX1_allRings 28 = .ok (.iload_n 2, 1) := dk_28 (dk_at dksX1_allRings_1 6 rfl rfl)
theorem dX1_allRings_29 : decode cX1_allRings 29 = .ok (.ireturn, 1) := dk_172 (dk_at dksX1_allRings_1 7 rfl rfl)
abbrev cX1_isSilent : ByteArray := prog_6_method_37_code
def yX1_isSilent : MethodName := ⟨RX1, "isSilent", "()Z"⟩
def dkwX1_isSilent_0 : List UInt8 := [42, 42, 180, 0, 18, 182, 0, 109, 182, 0, 228, 42, 182, 0, 148, 160, 0, 7, 4, 167, 0, 4, 3, 172]
abbrev dktX1_isSilent_0 : List UInt8 := dkwX1_isSilent_0 ++ []
theorem dksX1_isSilent_0 : cX1_isSilent.data.toList.drop 0 = dktX1_isSilent_0 := by decide +kernel
theorem dX1_isSilent_0 : decode cX1_isSilent 0 = .ok (.aload_n 0, 1) := dk_42 (dk_at dksX1_isSilent_0 0 rfl rfl)
theorem dX1_isSilent_1 : decode cX1_isSilent 1 = .ok (.aload_n 0, 1) := dk_42 (dk_at dksX1_isSilent_0 1 rfl rfl)
theorem dX1_isSilent_2 : decode cX1_isSilent 2 = .ok (.getfield 18, 3) := dk_180 0 18 (dk_at dksX1_isSilent_0 2 rfl rfl)
theorem dX1_isSilent_5 : decode cX1_isSilent 5 = .ok (.invokevirtual 109, 3) := dk_182 0 109 (dk_at dksX1_isSilent_0 5 rfl rfl)
theorem dX1_isSilent_8 : decode cX1_isSilent 8 = .ok (.invokevirtual 228, 3) := dk_182 0 228 (dk_at dksX1_isSilent_0 8 rfl rfl)
theorem dX1_isSilent_11 : decode cX1_isSilent 11 = .ok (.aload_n 0, 1) := dk_42 (dk_at dksX1_isSilent_0 11 rfl rfl)
theorem dX1_isSilent_12 : decode cX1_isSilent 12 = .ok (.invokevirtual 148, 3) := dk_182 0 148 (dk_at dksX1_isSilent_0 12 rfl rfl)
theorem dX1_isSilent_15 : decode cX1_isSilent 15 = .ok (.if_icmp .ne 7, 3) := dk_160 0 7 (dk_at dksX1_isSilent_0 15 rfl rfl)
theorem dX1_isSilent_18 : decode cX1_isSilent 18 = .ok (.iconst 1, 1) := dk_4 (dk_at dksX1_isSilent_0 18 rfl rfl)
theorem dX1_isSilent_19 : decode cX1_isSilent 19 = .ok (.goto 4, 3) := dk_167 0 4 (dk_at dksX1_isSilent_0 19 rfl rfl)
theorem dX1_isSilent_22 : decode cX1_isSilent 22 = .ok (.iconst 0, 1) := dk_3 (dk_at dksX1_isSilent_0 22 rfl rfl)
theorem dX1_isSilent_23 : decode cX1_isSilent 23 = .ok (.ireturn, 1) := dk_172 (dk_at dksX1_isSilent_0 23 rfl rfl)
abbrev cX1_silentCells : ByteArray := prog_6_method_30_code
def yX1_silentCells : MethodName := ⟨RX1, "silentCells", "(I)I"⟩
def dkwX1_silentCells_1 : List UInt8 := [167, 0, 4, 3, 96, 61, 132, 3, 1, 167, 255, 227, 28, 172]
abbrev dktX1_silentCells_1 : List UInt8 := dkwX1_silentCells_1 ++ []
def dkwX1_silentCells_0 : List UInt8 := [3, 61, 3, 62, 29, 42, 27, 182, 0, 112, 162, 0, 26, 28, 42, 29, 27, 182, 0, 217, 154, 0, 7, 4]
abbrev dktX1_silentCells_0 : List UInt8 := dkwX1_silentCells_0 ++ dktX1_silentCells_1
theorem dksX1_silentCells_0 : cX1_silentCells.data.toList.drop 0 = dktX1_silentCells_0 := by decide +kernel
theorem dksX1_silentCells_1 : cX1_silentCells.data.toList.drop 24 = dktX1_silentCells_1 := dk_seg dksX1_silentCells_0 24 rfl rfl
theorem dX1_silentCells_0 : decode cX1_silentCells 0 = .ok (.iconst 0, 1) := dk_3 (dk_at dksX1_silentCells_0 0 rfl rfl)
theorem dX1_silentCells_1 : decode cX1_silentCells 1 = .ok (.istore_n 2, 1) := dk_61 (dk_at dksX1_silentCells_0 1 rfl rfl)
theorem dX1_silentCells_2 : decode cX1_silentCells 2 = .ok (.iconst 0, 1) := dk_3 (dk_at dksX1_silentCells_0 2 rfl rfl)
theorem dX1_silentCells_3 : decode cX1_silentCells 3 = .ok (.istore_n 3, 1) := dk_62 (dk_at dksX1_silentCells_0 3 rfl rfl)
theorem dX1_silentCells_4 : decode cX1_silentCells 4 = .ok (.iload_n 3, 1) := dk_29 (dk_at dksX1_silentCells_0 4 rfl rfl)
theorem dX1_silentCells_5 : decode cX1_silentCells 5 = .ok (.aload_n 0, 1) := dk_42 (dk_at dksX1_silentCells_0 5 rfl rfl)
theorem dX1_silentCells_6 : decode cX1_silentCells 6 = .ok (.iload_n 1, 1) := dk_27 (dk_at dksX1_silentCells_0 6 rfl rfl)
theorem dX1_silentCells_7 : decode cX1_silentCells 7 = .ok (.invokevirtual 112, 3) := dk_182 0 112 (dk_at dksX1_silentCells_0 7 rfl rfl)
theorem dX1_silentCells_10 : decode cX1_silentCells 10 = .ok (.if_icmp .ge 26, 3) := dk_162 0 26 (dk_at dksX1_silentCells_0 10 rfl rfl)
theorem dX1_silentCells_13 : decode cX1_silentCells 13 = .ok (.iload_n 2, 1) := dk_28 (dk_at dksX1_silentCells_0 13 rfl rfl)
theorem dX1_silentCells_14 : decode cX1_silentCells 14 = .ok (.aload_n 0, 1) := dk_42 (dk_at dksX1_silentCells_0 14 rfl rfl)
theorem dX1_silentCells_15 : decode cX1_silentCells 15 = .ok (.iload_n 3, 1) := dk_29 (dk_at dksX1_silentCells_0 15 rfl rfl)
theorem dX1_silentCells_16 : decode cX1_silentCells 16 = .ok (.iload_n 1, 1) := dk_27 (dk_at dksX1_silentCells_0 16 rfl rfl)
theorem dX1_silentCells_17 : decode cX1_silentCells 17 = .ok (.invokevirtual 217, 3) := dk_182 0 217 (dk_at dksX1_silentCells_0 17 rfl rfl)
theorem dX1_silentCells_20 : decode cX1_silentCells 20 = .ok (.ifCond .ne 7, 3) := dk_154 0 7 (dk_at dksX1_silentCells_0 20 rfl rfl)
theorem dX1_silentCells_23 : decode cX1_silentCells 23 = .ok (.iconst 1, 1) := dk_4 (dk_at dksX1_silentCells_0 23 rfl rfl)
theorem dX1_silentCells_24 : decode cX1_silentCells 24 = .ok (.goto 4, 3) := dk_167 0 4 (dk_at dksX1_silentCells_1 0 rfl rfl)
theorem dX1_silentCells_27 : decode cX1_silentCells 27 = .ok (.iconst 0, 1) := dk_3 (dk_at dksX1_silentCells_1 3 rfl rfl)
theorem dX1_silentCells_28 : decode cX1_silentCells 28 = .ok (.iadd, 1) := dk_96 (dk_at dksX1_silentCells_1 4 rfl rfl)
theorem dX1_silentCells_29 : decode cX1_silentCells 29 = .ok (.istore_n 2, 1) := dk_61 (dk_at dksX1_silentCells_1 5 rfl rfl)
theorem dX1_silentCells_30 : decode cX1_silentCells 30 = .ok (.iinc 3 1, 3) := dk_132 3 1 (dk_at dksX1_silentCells_1 6 rfl rfl)
theorem dX1_silentCells_33 : decode cX1_silentCells 33 = .ok (.goto (-29), 3) := dk_167 255 227 (dk_at dksX1_silentCells_1 9 rfl rfl)
theorem dX1_silentCells_36 : decode cX1_silentCells 36 = .ok (.iload_n 2, 1) := dk_28 (dk_at dksX1_silentCells_1 12 rfl rfl)
theorem dX1_silentCells_37 : decode cX1_silentCells 37 = .ok (.ireturn, 1) := dk_172 (dk_at dksX1_silentCells_1 13 rfl rfl)
abbrev cX1_fadesAll : ByteArray := prog_6_method_38_code
def yX1_fadesAll : MethodName := ⟨RX1, "fadesAll", "()V"⟩
def dkwX1_fadesAll_1 : List UInt8 := [192, 0, 48, 77, 44, 42, 180, 0, 29, 5, 46, 182, 0, 184, 167, 255, 227, 177]
abbrev dktX1_fadesAll_1 : List UInt8 := dkwX1_fadesAll_1 ++ []
def dkwX1_fadesAll_0 : List UInt8 := [42, 180, 0, 18, 182, 0, 34, 76, 43, 185, 0, 38, 1, 0, 153, 0, 26, 43, 185, 0, 44, 1, 0]
abbrev dktX1_fadesAll_0 : List UInt8 := dkwX1_fadesAll_0 ++ dktX1_fadesAll_1
theorem dksX1_fadesAll_0 : cX1_fadesAll.data.toList.drop 0 = dktX1_fadesAll_0 := by decide +kernel
theorem dksX1_fadesAll_1 : cX1_fadesAll.data.toList.drop 23 = dktX1_fadesAll_1 := dk_seg dksX1_fadesAll_0 23 rfl rfl
theorem dX1_fadesAll_0 : decode cX1_fadesAll 0 = .ok (.aload_n 0, 1) := dk_42 (dk_at dksX1_fadesAll_0 0 rfl rfl)
theorem dX1_fadesAll_1 : decode cX1_fadesAll 1 = .ok (.getfield 18, 3) := dk_180 0 18 (dk_at dksX1_fadesAll_0 1 rfl rfl)
theorem dX1_fadesAll_4 : decode cX1_fadesAll 4 = .ok (.invokevirtual 34, 3) := dk_182 0 34 (dk_at dksX1_fadesAll_0 4 rfl rfl)
theorem dX1_fadesAll_7 : decode cX1_fadesAll 7 = .ok (.astore_n 1, 1) := dk_76 (dk_at dksX1_fadesAll_0 7 rfl rfl)
theorem dX1_fadesAll_8 : decode cX1_fadesAll 8 = .ok (.aload_n 1, 1) := dk_43 (dk_at dksX1_fadesAll_0 8 rfl rfl)
theorem dX1_fadesAll_9 : decode cX1_fadesAll 9 = .ok (.invokeinterface 38 1, 5) := by decide +kernel
theorem dX1_fadesAll_14 : decode cX1_fadesAll 14 = .ok (.ifCond .eq 26, 3) := dk_153 0 26 (dk_at dksX1_fadesAll_0 14 rfl rfl)
theorem dX1_fadesAll_17 : decode cX1_fadesAll 17 = .ok (.aload_n 1, 1) := dk_43 (dk_at dksX1_fadesAll_0 17 rfl rfl)
theorem dX1_fadesAll_18 : decode cX1_fadesAll 18 = .ok (.invokeinterface 44 1, 5) := by decide +kernel
theorem dX1_fadesAll_23 : decode cX1_fadesAll 23 = .ok (.checkcast 48, 3) := dk_192 0 48 (dk_at dksX1_fadesAll_1 0 rfl rfl)
theorem dX1_fadesAll_26 : decode cX1_fadesAll 26 = .ok (.astore_n 2, 1) := dk_77 (dk_at dksX1_fadesAll_1 3 rfl rfl)
theorem dX1_fadesAll_27 : decode cX1_fadesAll 27 = .ok (.aload_n 2, 1) := dk_44 (dk_at dksX1_fadesAll_1 4 rfl rfl)
theorem dX1_fadesAll_28 : decode cX1_fadesAll 28 = .ok (.aload_n 0, 1) := dk_42 (dk_at dksX1_fadesAll_1 5 rfl rfl)
theorem dX1_fadesAll_29 : decode cX1_fadesAll 29 = .ok (.getfield 29, 3) := dk_180 0 29 (dk_at dksX1_fadesAll_1 6 rfl rfl)
theorem dX1_fadesAll_32 : decode cX1_fadesAll 32 = .ok (.iconst 2, 1) := dk_5 (dk_at dksX1_fadesAll_1 9 rfl rfl)
theorem dX1_fadesAll_33 : decode cX1_fadesAll 33 = .ok (.iaload, 1) := dk_46 (dk_at dksX1_fadesAll_1 10 rfl rfl)
theorem dX1_fadesAll_34 : decode cX1_fadesAll 34 = .ok (.invokevirtual 184, 3) := dk_182 0 184 (dk_at dksX1_fadesAll_1 11 rfl rfl)
theorem dX1_fadesAll_37 : decode cX1_fadesAll 37 = .ok (.goto (-29), 3) := dk_167 255 227 (dk_at dksX1_fadesAll_1 14 rfl rfl)
theorem dX1_fadesAll_40 : decode cX1_fadesAll 40 = .ok (.return_, 1) := dk_177 (dk_at dksX1_fadesAll_1 17 rfl rfl)
theorem q83 : (Jvm.Cond.initialized "PedalLayers$Pedal") ∈ lw_all := lw_g (lw_at lw_m1 2 rfl) rfl
theorem q132 : (Jvm.Cond.instantiable "PedalLayers$Pedal" (12 : Nat)) ∈ lw_all := lw_g (lw_at lw_m1 51 rfl) rfl
theorem q134 : (Jvm.Cond.instanceMethod ({ cls := "PedalLayers$Pedal", name := "<init>", desc := "()V" } : Jvm.MethodName)) ∈ lw_all := lw_g (lw_at lw_m1 53 rfl) rfl
theorem q135 : (Jvm.Cond.code ({ cls := "PedalLayers$Pedal", name := "<init>", desc := "()V" } : Jvm.MethodName) prog_6_method_1_code (1 : Nat) (Option.none : Option Jvm.ClassFile.FieldType)) ∈ lw_all := lw_g (lw_at lw_m1 54 rfl) rfl
theorem q136 : (Jvm.Cond.methodLink "PedalLayers$Pedal" (3 : Nat) ({ cls := "java/lang/Object", name := "<init>", desc := "()V" } : Jvm.MethodName)) ∈ lw_all := lw_g (lw_at lw_m1 55 rfl) rfl
theorem q137 : (Jvm.Cond.classLink "PedalLayers$Pedal" (15 : Nat) "java/util/ArrayList") ∈ lw_all := lw_g (lw_at lw_m1 56 rfl) rfl
theorem q139 : (Jvm.Cond.methodLink "PedalLayers$Pedal" (17 : Nat) ({ cls := "java/util/ArrayList", name := "<init>", desc := "()V" } : Jvm.MethodName)) ∈ lw_all := lw_g (lw_at lw_m1 58 rfl) rfl
theorem q170 : (Jvm.Cond.classLink "PedalLayers$Pedal" (22 : Nat) "java/util/LinkedList") ∈ lw_all := lw_g (lw_at lw_m1 89 rfl) rfl
theorem q172 : (Jvm.Cond.methodLink "PedalLayers$Pedal" (24 : Nat) ({ cls := "java/util/LinkedList", name := "<init>", desc := "()V" } : Jvm.MethodName)) ∈ lw_all := lw_g (lw_at lw_m1 91 rfl) rfl
theorem q191 : (Jvm.Cond.fieldLink "PedalLayers$Pedal" (9 : Nat) "PedalLayers$Pedal" "mode" "I") ∈ lw_all := lw_g (lw_at lw_m1 110 rfl) rfl
theorem q193 : (Jvm.Cond.fieldLink "PedalLayers$Pedal" (18 : Nat) "PedalLayers$Pedal" "layers" "Ljava/util/ArrayList;") ∈ lw_all := lw_g (lw_at lw_m1 112 rfl) rfl
theorem q195 : (Jvm.Cond.fieldLink "PedalLayers$Pedal" (25 : Nat) "PedalLayers$Pedal" "drawer" "Ljava/util/LinkedList;") ∈ lw_all := lw_g (lw_at lw_m1 114 rfl) rfl
theorem q197 : (Jvm.Cond.fieldLink "PedalLayers$Pedal" (63 : Nat) "PedalLayers$Pedal" "place" "I") ∈ lw_all := lw_g (lw_at lw_m1 116 rfl) rfl
theorem q199 : (Jvm.Cond.fieldLink "PedalLayers$Pedal" (66 : Nat) "PedalLayers$Pedal" "passes" "I") ∈ lw_all := lw_g (lw_at lw_m1 118 rfl) rfl
theorem q201 : (Jvm.Cond.fieldLink "PedalLayers$Pedal" (69 : Nat) "PedalLayers$Pedal" "played" "I") ∈ lw_all := lw_g (lw_at lw_m1 120 rfl) rfl
theorem q203 : (Jvm.Cond.fieldLink "PedalLayers$Pedal" (72 : Nat) "PedalLayers$Pedal" "isHalf" "I") ∈ lw_all := lw_g (lw_at lw_m1 122 rfl) rfl
theorem q205 : (Jvm.Cond.fieldLink "PedalLayers$Pedal" (75 : Nat) "PedalLayers$Pedal" "laid" "I") ∈ lw_all := lw_g (lw_at lw_m1 124 rfl) rfl
theorem q207 : (Jvm.Cond.fieldLink "PedalLayers$Pedal" (29 : Nat) "PedalLayers$Pedal" "settings" "[I") ∈ lw_all := lw_g (lw_at lw_m1 126 rfl) rfl
theorem q209 : (Jvm.Cond.fieldLink "PedalLayers$Pedal" (82 : Nat) "PedalLayers$Pedal" "begin" "I") ∈ lw_all := lw_g (lw_at lw_m1 128 rfl) rfl
theorem q210 : (Jvm.Cond.fieldLink "PedalLayers$Pedal" (85 : Nat) "PedalLayers$Pedal" "halves" "I") ∈ lw_all := lw_g (lw_at lw_m1 129 rfl) rfl
theorem q212 : (Jvm.Cond.fieldLink "PedalLayers$Pedal" (88 : Nat) "PedalLayers$Pedal" "take" "LPedalLayers$Layer;") ∈ lw_all := lw_g (lw_at lw_m1 131 rfl) rfl
theorem q214 : (Jvm.Cond.lays "PedalLayers$Pedal" "PedalLayers$Pedal" "mode" "I") ∈ lw_all := lw_g (lw_at lw_m1 133 rfl) rfl
theorem q215 : (Jvm.Cond.soleField "PedalLayers$Pedal" "mode") ∈ lw_all := lw_g (lw_at lw_m1 134 rfl) rfl
theorem q216 : (Jvm.Cond.lays "PedalLayers$Pedal" "PedalLayers$Pedal" "layers" "Ljava/util/ArrayList;") ∈ lw_all := lw_g (lw_at lw_m1 135 rfl) rfl
theorem q217 : (Jvm.Cond.soleField "PedalLayers$Pedal" "layers") ∈ lw_all := lw_g (lw_at lw_m1 136 rfl) rfl
theorem q218 : (Jvm.Cond.lays "PedalLayers$Pedal" "PedalLayers$Pedal" "drawer" "Ljava/util/LinkedList;") ∈ lw_all := lw_g (lw_at lw_m1 137 rfl) rfl
theorem q219 : (Jvm.Cond.soleField "PedalLayers$Pedal" "drawer") ∈ lw_all := lw_g (lw_at lw_m1 138 rfl) rfl
theorem q220 : (Jvm.Cond.lays "PedalLayers$Pedal" "PedalLayers$Pedal" "place" "I") ∈ lw_all := lw_g (lw_at lw_m1 139 rfl) rfl
theorem q221 : (Jvm.Cond.soleField "PedalLayers$Pedal" "place") ∈ lw_all := lw_g (lw_at lw_m1 140 rfl) rfl
theorem q222 : (Jvm.Cond.lays "PedalLayers$Pedal" "PedalLayers$Pedal" "passes" "I") ∈ lw_all := lw_g (lw_at lw_m1 141 rfl) rfl
theorem q223 : (Jvm.Cond.soleField "PedalLayers$Pedal" "passes") ∈ lw_all := lw_g (lw_at lw_m1 142 rfl) rfl
theorem q224 : (Jvm.Cond.lays "PedalLayers$Pedal" "PedalLayers$Pedal" "played" "I") ∈ lw_all := lw_g (lw_at lw_m1 143 rfl) rfl
theorem q225 : (Jvm.Cond.soleField "PedalLayers$Pedal" "played") ∈ lw_all := lw_g (lw_at lw_m1 144 rfl) rfl
theorem q226 : (Jvm.Cond.lays "PedalLayers$Pedal" "PedalLayers$Pedal" "isHalf" "I") ∈ lw_all := lw_g (lw_at lw_m1 145 rfl) rfl
theorem q227 : (Jvm.Cond.soleField "PedalLayers$Pedal" "isHalf") ∈ lw_all := lw_g (lw_at lw_m1 146 rfl) rfl
theorem q228 : (Jvm.Cond.lays "PedalLayers$Pedal" "PedalLayers$Pedal" "laid" "I") ∈ lw_all := lw_g (lw_at lw_m1 147 rfl) rfl
theorem q229 : (Jvm.Cond.soleField "PedalLayers$Pedal" "laid") ∈ lw_all := lw_g (lw_at lw_m1 148 rfl) rfl
theorem q230 : (Jvm.Cond.lays "PedalLayers$Pedal" "PedalLayers$Pedal" "settings" "[I") ∈ lw_all := lw_g (lw_at lw_m1 149 rfl) rfl
theorem q231 : (Jvm.Cond.soleField "PedalLayers$Pedal" "settings") ∈ lw_all := lw_g (lw_at lw_m1 150 rfl) rfl
theorem q232 : (Jvm.Cond.lays "PedalLayers$Pedal" "PedalLayers$Pedal" "begin" "I") ∈ lw_all := lw_g (lw_at lw_m1 151 rfl) rfl
theorem q233 : (Jvm.Cond.soleField "PedalLayers$Pedal" "begin") ∈ lw_all := lw_g (lw_at lw_m1 152 rfl) rfl
theorem q234 : (Jvm.Cond.lays "PedalLayers$Pedal" "PedalLayers$Pedal" "halves" "I") ∈ lw_all := lw_g (lw_at lw_m1 153 rfl) rfl
theorem q235 : (Jvm.Cond.soleField "PedalLayers$Pedal" "halves") ∈ lw_all := lw_g (lw_at lw_m1 154 rfl) rfl
theorem q236 : (Jvm.Cond.lays "PedalLayers$Pedal" "PedalLayers$Pedal" "take" "LPedalLayers$Layer;") ∈ lw_all := lw_g (lw_at lw_m1 155 rfl) rfl
theorem q237 : (Jvm.Cond.soleField "PedalLayers$Pedal" "take") ∈ lw_all := lw_g (lw_at lw_m1 156 rfl) rfl
theorem q238 : (Jvm.Cond.superclass "PedalLayers$Pedal" "java/lang/Object") ∈ lw_all := lw_g (lw_at lw_m1 157 rfl) rfl
theorem q298 : (Jvm.Cond.instanceMethod ({ cls := "PedalLayers$Pedal", name := "copy", desc := "()LPedalLayers$Pedal;" } : Jvm.MethodName)) ∈ lw_all := lw_g (lw_at lw_m1 217 rfl) rfl
theorem q299 : (Jvm.Cond.selects "PedalLayers$Pedal" ({ cls := "PedalLayers$Pedal", name := "copy", desc := "()LPedalLayers$Pedal;" } : Jvm.MethodName) ({ cls := "PedalLayers$Pedal", name := "copy", desc := "()LPedalLayers$Pedal;" } : Jvm.MethodName)) ∈ lw_all := lw_g (lw_at lw_m1 218 rfl) rfl
theorem q300 : (Jvm.Cond.code ({ cls := "PedalLayers$Pedal", name := "copy", desc := "()LPedalLayers$Pedal;" } : Jvm.MethodName) prog_6_method_2_code (4 : Nat) (Option.some (Jvm.ClassFile.FieldType.object "PedalLayers$Pedal"))) ∈ lw_all := lw_g (lw_at lw_m1 219 rfl) rfl
theorem q301 : (Jvm.Cond.classLink "PedalLayers$Pedal" (10 : Nat) "PedalLayers$Pedal") ∈ lw_all := lw_g (lw_at lw_m1 220 rfl) rfl
theorem q302 : (Jvm.Cond.methodLink "PedalLayers$Pedal" (33 : Nat) ({ cls := "PedalLayers$Pedal", name := "<init>", desc := "()V" } : Jvm.MethodName)) ∈ lw_all := lw_g (lw_at lw_m1 221 rfl) rfl
theorem q303 : (Jvm.Cond.methodLink "PedalLayers$Pedal" (34 : Nat) ({ cls := "java/util/ArrayList", name := "iterator", desc := "()Ljava/util/Iterator;" } : Jvm.MethodName)) ∈ lw_all := lw_g (lw_at lw_m1 222 rfl) rfl
theorem q328 : (Jvm.Cond.interfaceEntry "PedalLayers$Pedal" (38 : Nat)) ∈ lw_tbl := lw_at lw_m2 7 rfl
theorem q329 : (Jvm.Cond.methodLink "PedalLayers$Pedal" (38 : Nat) ({ cls := "java/util/Iterator", name := "hasNext", desc := "()Z" } : Jvm.MethodName)) ∈ lw_all := lw_g (lw_at lw_m2 8 rfl) rfl
theorem q362 : (Jvm.Cond.interfaceEntry "PedalLayers$Pedal" (44 : Nat)) ∈ lw_tbl := lw_at lw_m2 41 rfl
theorem q363 : (Jvm.Cond.methodLink "PedalLayers$Pedal" (44 : Nat) ({ cls := "java/util/Iterator", name := "next", desc := "()Ljava/lang/Object;" } : Jvm.MethodName)) ∈ lw_all := lw_g (lw_at lw_m2 42 rfl) rfl
theorem q481 : (Jvm.Cond.selects "PedalLayers$Pedal" ({ cls := "java/lang/Object", name := "getClass", desc := "()Ljava/lang/Class;" } : Jvm.MethodName) ({ cls := "java/lang/Object", name := "getClass", desc := "()Ljava/lang/Class;" } : Jvm.MethodName)) ∈ lw_all := lw_g (lw_at lw_m2 160 rfl) rfl
theorem q738 : (Jvm.Cond.classLink "PedalLayers$Pedal" (48 : Nat) "PedalLayers$Layer") ∈ lw_all := lw_g (lw_at lw_m3 177 rfl) rfl
theorem q739 : (Jvm.Cond.methodLink "PedalLayers$Pedal" (50 : Nat) ({ cls := "PedalLayers$Layer", name := "copy", desc := "()LPedalLayers$Layer;" } : Jvm.MethodName)) ∈ lw_all := lw_g (lw_at lw_m3 178 rfl) rfl
theorem q754 : (Jvm.Cond.fieldLinkNest "PedalLayers$Pedal" (204 : Nat) "PedalLayers$Layer" "isMuted" "Z" "PedalLayers") ∈ lw_tbl := lw_at lw_m3 193 rfl
theorem q757 : (Jvm.Cond.fieldLinkNest "PedalLayers$Pedal" (187 : Nat) "PedalLayers$Layer" "passes" "I" "PedalLayers") ∈ lw_tbl := lw_at lw_m3 196 rfl
theorem q771 : (Jvm.Cond.methodLink "PedalLayers$Pedal" (54 : Nat) ({ cls := "java/util/ArrayList", name := "add", desc := "(Ljava/lang/Object;)Z" } : Jvm.MethodName)) ∈ lw_all := lw_g (lw_at lw_m3 210 rfl) rfl
theorem q800 : (Jvm.Cond.methodLink "PedalLayers$Pedal" (58 : Nat) ({ cls := "java/util/LinkedList", name := "iterator", desc := "()Ljava/util/Iterator;" } : Jvm.MethodName)) ∈ lw_all := lw_g (lw_at lw_m3 239 rfl) rfl
theorem q871 : (Jvm.Cond.methodLink "PedalLayers$Pedal" (59 : Nat) ({ cls := "java/util/LinkedList", name := "addLast", desc := "(Ljava/lang/Object;)V" } : Jvm.MethodName)) ∈ lw_all := lw_g (lw_at lw_m4 70 rfl) rfl
theorem q900 : (Jvm.Cond.methodLink "PedalLayers$Pedal" (78 : Nat) ({ cls := "[I", name := "clone", desc := "()Ljava/lang/Object;" } : Jvm.MethodName)) ∈ lw_all := lw_g (lw_at lw_m4 99 rfl) rfl
theorem q901 : (Jvm.Cond.classLink "PedalLayers$Pedal" (79 : Nat) "[I") ∈ lw_all := lw_g (lw_at lw_m4 100 rfl) rfl
theorem q903 : (Jvm.Cond.instanceMethod ({ cls := "PedalLayers$Pedal", name := "presses", desc := "()I" } : Jvm.MethodName)) ∈ lw_all := lw_g (lw_at lw_m4 102 rfl) rfl
theorem q904 : (Jvm.Cond.selects "PedalLayers$Pedal" ({ cls := "PedalLayers$Pedal", name := "presses", desc := "()I" } : Jvm.MethodName) ({ cls := "PedalLayers$Pedal", name := "presses", desc := "()I" } : Jvm.MethodName)) ∈ lw_all := lw_g (lw_at lw_m4 103 rfl) rfl
theorem q905 : (Jvm.Cond.code ({ cls := "PedalLayers$Pedal", name := "presses", desc := "()I" } : Jvm.MethodName) prog_6_method_13_code (1 : Nat) (Option.some Jvm.ClassFile.FieldType.int)) ∈ lw_all := lw_g (lw_at lw_m4 104 rfl) rfl
theorem q906 : (Jvm.Cond.methodLink "PedalLayers$Pedal" (152 : Nat) ({ cls := "PedalLayers$Pedal", name := "inRun", desc := "()Z" } : Jvm.MethodName)) ∈ lw_all := lw_g (lw_at lw_m4 105 rfl) rfl
theorem q907 : (Jvm.Cond.instanceMethod ({ cls := "PedalLayers$Pedal", name := "inRun", desc := "()Z" } : Jvm.MethodName)) ∈ lw_all := lw_g (lw_at lw_m4 106 rfl) rfl
theorem q908 : (Jvm.Cond.selects "PedalLayers$Pedal" ({ cls := "PedalLayers$Pedal", name := "inRun", desc := "()Z" } : Jvm.MethodName) ({ cls := "PedalLayers$Pedal", name := "inRun", desc := "()Z" } : Jvm.MethodName)) ∈ lw_all := lw_g (lw_at lw_m4 107 rfl) rfl
theorem q909 : (Jvm.Cond.code ({ cls := "PedalLayers$Pedal", name := "inRun", desc := "()Z" } : Jvm.MethodName) prog_6_method_14_code (1 : Nat) (Option.some Jvm.ClassFile.FieldType.boolean)) ∈ lw_all := lw_g (lw_at lw_m4 108 rfl) rfl
theorem q910 : (Jvm.Cond.methodLinkNest "PedalLayers$Pedal" (155 : Nat) ({ cls := "PedalLayers", name := "needs", desc := "(Z)V" } : Jvm.MethodName) "PedalLayers") ∈ lw_tbl := lw_at lw_m4 109 rfl
theorem q938 : (Jvm.Cond.methodLink "PedalLayers$Pedal" (159 : Nat) ({ cls := "PedalLayers$Pedal", name := "beginsTake", desc := "(II)V" } : Jvm.MethodName)) ∈ lw_all := lw_g (lw_at lw_m4 137 rfl) rfl
theorem q939 : (Jvm.Cond.privateMethod ({ cls := "PedalLayers$Pedal", name := "beginsTake", desc := "(II)V" } : Jvm.MethodName)) ∈ lw_tbl := lw_at lw_m4 138 rfl
theorem q940 : (Jvm.Cond.instanceMethod ({ cls := "PedalLayers$Pedal", name := "beginsTake", desc := "(II)V" } : Jvm.MethodName)) ∈ lw_all := lw_g (lw_at lw_m4 139 rfl) rfl
theorem q941 : (Jvm.Cond.code ({ cls := "PedalLayers$Pedal", name := "beginsTake", desc := "(II)V" } : Jvm.MethodName) prog_6_method_6_code (3 : Nat) (Option.none : Option Jvm.ClassFile.FieldType)) ∈ lw_all := lw_g (lw_at lw_m4 140 rfl) rfl
theorem q942 : (Jvm.Cond.methodLink "PedalLayers$Pedal" (116 : Nat) ({ cls := "PedalLayers$Layer", name := "<init>", desc := "(I)V" } : Jvm.MethodName)) ∈ lw_all := lw_g (lw_at lw_m4 141 rfl) rfl
theorem q943 : (Jvm.Cond.methodLink "PedalLayers$Pedal" (163 : Nat) ({ cls := "PedalLayers$Pedal", name := "laysFirst", desc := "()V" } : Jvm.MethodName)) ∈ lw_all := lw_g (lw_at lw_m4 142 rfl) rfl
theorem q944 : (Jvm.Cond.privateMethod ({ cls := "PedalLayers$Pedal", name := "laysFirst", desc := "()V" } : Jvm.MethodName)) ∈ lw_tbl := lw_at lw_m4 143 rfl
theorem q945 : (Jvm.Cond.instanceMethod ({ cls := "PedalLayers$Pedal", name := "laysFirst", desc := "()V" } : Jvm.MethodName)) ∈ lw_all := lw_g (lw_at lw_m4 144 rfl) rfl
theorem q946 : (Jvm.Cond.code ({ cls := "PedalLayers$Pedal", name := "laysFirst", desc := "()V" } : Jvm.MethodName) prog_6_method_11_code (2 : Nat) (Option.none : Option Jvm.ClassFile.FieldType)) ∈ lw_all := lw_g (lw_at lw_m4 145 rfl) rfl
theorem q947 : (Jvm.Cond.methodLink "PedalLayers$Pedal" (128 : Nat) ({ cls := "java/lang/Math", name := "min", desc := "(II)I" } : Jvm.MethodName)) ∈ lw_all := lw_g (lw_at lw_m4 146 rfl) rfl
theorem q948 : (Jvm.Cond.methodLink "PedalLayers$Pedal" (131 : Nat) ({ cls := "PedalLayers$Pedal", name := "rounded", desc := "(I)I" } : Jvm.MethodName)) ∈ lw_all := lw_g (lw_at lw_m4 147 rfl) rfl
theorem q949 : (Jvm.Cond.instanceMethod ({ cls := "PedalLayers$Pedal", name := "rounded", desc := "(I)I" } : Jvm.MethodName)) ∈ lw_all := lw_g (lw_at lw_m4 148 rfl) rfl
theorem q950 : (Jvm.Cond.selects "PedalLayers$Pedal" ({ cls := "PedalLayers$Pedal", name := "rounded", desc := "(I)I" } : Jvm.MethodName) ({ cls := "PedalLayers$Pedal", name := "rounded", desc := "(I)I" } : Jvm.MethodName)) ∈ lw_all := lw_g (lw_at lw_m4 149 rfl) rfl
theorem q951 : (Jvm.Cond.code ({ cls := "PedalLayers$Pedal", name := "rounded", desc := "(I)I" } : Jvm.MethodName) prog_6_method_10_code (5 : Nat) (Option.some Jvm.ClassFile.FieldType.int)) ∈ lw_all := lw_g (lw_at lw_m4 150 rfl) rfl
theorem q952 : (Jvm.Cond.methodLink "PedalLayers$Pedal" (125 : Nat) ({ cls := "java/lang/Math", name := "abs", desc := "(I)I" } : Jvm.MethodName)) ∈ lw_all := lw_g (lw_at lw_m4 151 rfl) rfl
theorem q955 : (Jvm.Cond.methodLink "PedalLayers$Pedal" (134 : Nat) ({ cls := "PedalLayers$Layer", name := "ofLength", desc := "(I)LPedalLayers$Layer;" } : Jvm.MethodName)) ∈ lw_all := lw_g (lw_at lw_m4 154 rfl) rfl
theorem q960 : (Jvm.Cond.methodLink "PedalLayers$Pedal" (138 : Nat) ({ cls := "PedalLayers$Pedal", name := "lays", desc := "(LPedalLayers$Layer;)V" } : Jvm.MethodName)) ∈ lw_all := lw_g (lw_at lw_m4 159 rfl) rfl
theorem q961 : (Jvm.Cond.privateMethod ({ cls := "PedalLayers$Pedal", name := "lays", desc := "(LPedalLayers$Layer;)V" } : Jvm.MethodName)) ∈ lw_tbl := lw_at lw_m4 160 rfl
theorem q962 : (Jvm.Cond.instanceMethod ({ cls := "PedalLayers$Pedal", name := "lays", desc := "(LPedalLayers$Layer;)V" } : Jvm.MethodName)) ∈ lw_all := lw_g (lw_at lw_m4 161 rfl) rfl
theorem q963 : (Jvm.Cond.code ({ cls := "PedalLayers$Pedal", name := "lays", desc := "(LPedalLayers$Layer;)V" } : Jvm.MethodName) prog_6_method_8_code (2 : Nat) (Option.none : Option Jvm.ClassFile.FieldType)) ∈ lw_all := lw_g (lw_at lw_m4 162 rfl) rfl
theorem q964 : (Jvm.Cond.methodLink "PedalLayers$Pedal" (119 : Nat) ({ cls := "java/util/LinkedList", name := "clear", desc := "()V" } : Jvm.MethodName)) ∈ lw_all := lw_g (lw_at lw_m4 163 rfl) rfl
theorem q968 : (Jvm.Cond.methodLink "PedalLayers$Pedal" (122 : Nat) ({ cls := "PedalLayers$Pedal", name := "dropsTake", desc := "()V" } : Jvm.MethodName)) ∈ lw_all := lw_g (lw_at lw_m4 167 rfl) rfl
theorem q969 : (Jvm.Cond.privateMethod ({ cls := "PedalLayers$Pedal", name := "dropsTake", desc := "()V" } : Jvm.MethodName)) ∈ lw_tbl := lw_at lw_m4 168 rfl
theorem q970 : (Jvm.Cond.instanceMethod ({ cls := "PedalLayers$Pedal", name := "dropsTake", desc := "()V" } : Jvm.MethodName)) ∈ lw_all := lw_g (lw_at lw_m4 169 rfl) rfl
theorem q971 : (Jvm.Cond.code ({ cls := "PedalLayers$Pedal", name := "dropsTake", desc := "()V" } : Jvm.MethodName) prog_6_method_7_code (1 : Nat) (Option.none : Option Jvm.ClassFile.FieldType)) ∈ lw_all := lw_g (lw_at lw_m4 170 rfl) rfl
theorem q972 : (Jvm.Cond.methodLink "PedalLayers$Pedal" (142 : Nat) ({ cls := "PedalLayers$Pedal", name := "starts", desc := "()V" } : Jvm.MethodName)) ∈ lw_all := lw_g (lw_at lw_m4 171 rfl) rfl
theorem q973 : (Jvm.Cond.privateMethod ({ cls := "PedalLayers$Pedal", name := "starts", desc := "()V" } : Jvm.MethodName)) ∈ lw_tbl := lw_at lw_m4 172 rfl
theorem q974 : (Jvm.Cond.instanceMethod ({ cls := "PedalLayers$Pedal", name := "starts", desc := "()V" } : Jvm.MethodName)) ∈ lw_all := lw_g (lw_at lw_m4 173 rfl) rfl
theorem q975 : (Jvm.Cond.code ({ cls := "PedalLayers$Pedal", name := "starts", desc := "()V" } : Jvm.MethodName) prog_6_method_9_code (1 : Nat) (Option.none : Option Jvm.ClassFile.FieldType)) ∈ lw_all := lw_g (lw_at lw_m4 174 rfl) rfl
theorem q976 : (Jvm.Cond.methodLink "PedalLayers$Pedal" (109 : Nat) ({ cls := "java/util/ArrayList", name := "size", desc := "()I" } : Jvm.MethodName)) ∈ lw_all := lw_g (lw_at lw_m4 175 rfl) rfl
theorem q977 : (Jvm.Cond.classLink "PedalLayers$Pedal" (166 : Nat) "PedalLayers$Limited") ∈ lw_all := lw_g (lw_at lw_m4 176 rfl) rfl
theorem q986 : (Jvm.Cond.methodLink "PedalLayers$Pedal" (168 : Nat) ({ cls := "PedalLayers$Limited", name := "<init>", desc := "()V" } : Jvm.MethodName)) ∈ lw_all := lw_g (lw_at lw_m4 185 rfl) rfl
theorem q993 : (Jvm.Cond.methodLink "PedalLayers$Pedal" (145 : Nat) ({ cls := "PedalLayers$Pedal", name := "firstLength", desc := "()I" } : Jvm.MethodName)) ∈ lw_all := lw_g (lw_at lw_m4 192 rfl) rfl
theorem q994 : (Jvm.Cond.instanceMethod ({ cls := "PedalLayers$Pedal", name := "firstLength", desc := "()I" } : Jvm.MethodName)) ∈ lw_all := lw_g (lw_at lw_m4 193 rfl) rfl
theorem q995 : (Jvm.Cond.selects "PedalLayers$Pedal" ({ cls := "PedalLayers$Pedal", name := "firstLength", desc := "()I" } : Jvm.MethodName) ({ cls := "PedalLayers$Pedal", name := "firstLength", desc := "()I" } : Jvm.MethodName)) ∈ lw_all := lw_g (lw_at lw_m4 194 rfl) rfl
theorem q996 : (Jvm.Cond.code ({ cls := "PedalLayers$Pedal", name := "firstLength", desc := "()I" } : Jvm.MethodName) prog_6_method_3_code (1 : Nat) (Option.some Jvm.ClassFile.FieldType.int)) ∈ lw_all := lw_g (lw_at lw_m4 195 rfl) rfl
theorem q997 : (Jvm.Cond.methodLink "PedalLayers$Pedal" (92 : Nat) ({ cls := "java/util/ArrayList", name := "isEmpty", desc := "()Z" } : Jvm.MethodName)) ∈ lw_all := lw_g (lw_at lw_m4 196 rfl) rfl
theorem q1001 : (Jvm.Cond.methodLink "PedalLayers$Pedal" (95 : Nat) ({ cls := "java/util/ArrayList", name := "get", desc := "(I)Ljava/lang/Object;" } : Jvm.MethodName)) ∈ lw_all := lw_g (lw_at lw_m4 200 rfl) rfl
theorem q1002 : (Jvm.Cond.methodLink "PedalLayers$Pedal" (99 : Nat) ({ cls := "PedalLayers$Layer", name := "length", desc := "()I" } : Jvm.MethodName)) ∈ lw_all := lw_g (lw_at lw_m4 201 rfl) rfl
theorem q1006 : (Jvm.Cond.methodLink "PedalLayers$Pedal" (169 : Nat) ({ cls := "PedalLayers$Pedal", name := "laysOver", desc := "()V" } : Jvm.MethodName)) ∈ lw_all := lw_g (lw_at lw_m4 205 rfl) rfl
theorem q1007 : (Jvm.Cond.privateMethod ({ cls := "PedalLayers$Pedal", name := "laysOver", desc := "()V" } : Jvm.MethodName)) ∈ lw_tbl := lw_at lw_m4 206 rfl
theorem q1008 : (Jvm.Cond.instanceMethod ({ cls := "PedalLayers$Pedal", name := "laysOver", desc := "()V" } : Jvm.MethodName)) ∈ lw_all := lw_g (lw_at lw_m4 207 rfl) rfl
theorem q1009 : (Jvm.Cond.code ({ cls := "PedalLayers$Pedal", name := "laysOver", desc := "()V" } : Jvm.MethodName) prog_6_method_12_code (4 : Nat) (Option.none : Option Jvm.ClassFile.FieldType)) ∈ lw_all := lw_g (lw_at lw_m4 208 rfl) rfl
theorem q1010 : (Jvm.Cond.methodLink "PedalLayers$Pedal" (148 : Nat) ({ cls := "PedalLayers$Pedal", name := "length", desc := "()I" } : Jvm.MethodName)) ∈ lw_all := lw_g (lw_at lw_m4 209 rfl) rfl
theorem q1011 : (Jvm.Cond.instanceMethod ({ cls := "PedalLayers$Pedal", name := "length", desc := "()I" } : Jvm.MethodName)) ∈ lw_all := lw_g (lw_at lw_m4 210 rfl) rfl
theorem q1012 : (Jvm.Cond.selects "PedalLayers$Pedal" ({ cls := "PedalLayers$Pedal", name := "length", desc := "()I" } : Jvm.MethodName) ({ cls := "PedalLayers$Pedal", name := "length", desc := "()I" } : Jvm.MethodName)) ∈ lw_all := lw_g (lw_at lw_m4 211 rfl) rfl
theorem q1013 : (Jvm.Cond.code ({ cls := "PedalLayers$Pedal", name := "length", desc := "()I" } : Jvm.MethodName) prog_6_method_5_code (1 : Nat) (Option.some Jvm.ClassFile.FieldType.int)) ∈ lw_all := lw_g (lw_at lw_m4 212 rfl) rfl
theorem q1014 : (Jvm.Cond.methodLink "PedalLayers$Pedal" (112 : Nat) ({ cls := "PedalLayers$Pedal", name := "lengthOf", desc := "(I)I" } : Jvm.MethodName)) ∈ lw_all := lw_g (lw_at lw_m4 213 rfl) rfl
theorem q1015 : (Jvm.Cond.instanceMethod ({ cls := "PedalLayers$Pedal", name := "lengthOf", desc := "(I)I" } : Jvm.MethodName)) ∈ lw_all := lw_g (lw_at lw_m4 214 rfl) rfl
theorem q1016 : (Jvm.Cond.selects "PedalLayers$Pedal" ({ cls := "PedalLayers$Pedal", name := "lengthOf", desc := "(I)I" } : Jvm.MethodName) ({ cls := "PedalLayers$Pedal", name := "lengthOf", desc := "(I)I" } : Jvm.MethodName)) ∈ lw_all := lw_g (lw_at lw_m4 215 rfl) rfl
theorem q1017 : (Jvm.Cond.code ({ cls := "PedalLayers$Pedal", name := "lengthOf", desc := "(I)I" } : Jvm.MethodName) prog_6_method_4_code (4 : Nat) (Option.some Jvm.ClassFile.FieldType.int)) ∈ lw_all := lw_g (lw_at lw_m4 216 rfl) rfl
theorem q1018 : (Jvm.Cond.methodLink "PedalLayers$Pedal" (103 : Nat) ({ cls := "java/lang/Math", name := "max", desc := "(II)I" } : Jvm.MethodName)) ∈ lw_all := lw_g (lw_at lw_m4 217 rfl) rfl
theorem q1019 : (Jvm.Cond.methodLink "PedalLayers$Pedal" (149 : Nat) ({ cls := "PedalLayers$Layer", name := "folded", desc := "()LPedalLayers$Layer;" } : Jvm.MethodName)) ∈ lw_all := lw_g (lw_at lw_m4 218 rfl) rfl
theorem q1050 : (Jvm.Cond.instanceMethod ({ cls := "PedalLayers$Pedal", name := "stops", desc := "()I" } : Jvm.MethodName)) ∈ lw_all := lw_g (lw_at lw_m5 9 rfl) rfl
theorem q1051 : (Jvm.Cond.selects "PedalLayers$Pedal" ({ cls := "PedalLayers$Pedal", name := "stops", desc := "()I" } : Jvm.MethodName) ({ cls := "PedalLayers$Pedal", name := "stops", desc := "()I" } : Jvm.MethodName)) ∈ lw_all := lw_g (lw_at lw_m5 10 rfl) rfl
theorem q1052 : (Jvm.Cond.code ({ cls := "PedalLayers$Pedal", name := "stops", desc := "()I" } : Jvm.MethodName) prog_6_method_15_code (1 : Nat) (Option.some Jvm.ClassFile.FieldType.int)) ∈ lw_all := lw_g (lw_at lw_m5 11 rfl) rfl
theorem q1058 : (Jvm.Cond.instanceMethod ({ cls := "PedalLayers$Pedal", name := "empties", desc := "()I" } : Jvm.MethodName)) ∈ lw_all := lw_g (lw_at lw_m5 17 rfl) rfl
theorem q1059 : (Jvm.Cond.selects "PedalLayers$Pedal" ({ cls := "PedalLayers$Pedal", name := "empties", desc := "()I" } : Jvm.MethodName) ({ cls := "PedalLayers$Pedal", name := "empties", desc := "()I" } : Jvm.MethodName)) ∈ lw_all := lw_g (lw_at lw_m5 18 rfl) rfl
theorem q1060 : (Jvm.Cond.code ({ cls := "PedalLayers$Pedal", name := "empties", desc := "()I" } : Jvm.MethodName) prog_6_method_16_code (2 : Nat) (Option.some Jvm.ClassFile.FieldType.int)) ∈ lw_all := lw_g (lw_at lw_m5 19 rfl) rfl
theorem q1061 : (Jvm.Cond.methodLink "PedalLayers$Pedal" (172 : Nat) ({ cls := "java/util/ArrayList", name := "clear", desc := "()V" } : Jvm.MethodName)) ∈ lw_all := lw_g (lw_at lw_m5 20 rfl) rfl
theorem q1071 : (Jvm.Cond.instanceMethod ({ cls := "PedalLayers$Pedal", name := "hits", desc := "(II)I" } : Jvm.MethodName)) ∈ lw_all := lw_g (lw_at lw_m5 30 rfl) rfl
theorem q1072 : (Jvm.Cond.selects "PedalLayers$Pedal" ({ cls := "PedalLayers$Pedal", name := "hits", desc := "(II)I" } : Jvm.MethodName) ({ cls := "PedalLayers$Pedal", name := "hits", desc := "(II)I" } : Jvm.MethodName)) ∈ lw_all := lw_g (lw_at lw_m5 31 rfl) rfl
theorem q1073 : (Jvm.Cond.code ({ cls := "PedalLayers$Pedal", name := "hits", desc := "(II)I" } : Jvm.MethodName) prog_6_method_17_code (4 : Nat) (Option.some Jvm.ClassFile.FieldType.int)) ∈ lw_all := lw_g (lw_at lw_m5 32 rfl) rfl
theorem q1074 : (Jvm.Cond.methodLinkNest "PedalLayers$Pedal" (173 : Nat) ({ cls := "PedalLayers", name := "inRange", desc := "(III)Z" } : Jvm.MethodName) "PedalLayers") ∈ lw_tbl := lw_at lw_m5 33 rfl
theorem q1077 : (Jvm.Cond.methodLinkNest "PedalLayers$Pedal" (177 : Nat) ({ cls := "PedalLayers", name := "wants", desc := "(Z)V" } : Jvm.MethodName) "PedalLayers") ∈ lw_tbl := lw_at lw_m5 36 rfl
theorem q1095 : (Jvm.Cond.methodLink "PedalLayers$Pedal" (180 : Nat) ({ cls := "PedalLayers$Layer", name := "adds", desc := "(III)I" } : Jvm.MethodName)) ∈ lw_all := lw_g (lw_at lw_m5 54 rfl) rfl
theorem q1101 : (Jvm.Cond.instanceMethod ({ cls := "PedalLayers$Pedal", name := "ticks", desc := "(I)I" } : Jvm.MethodName)) ∈ lw_all := lw_g (lw_at lw_m5 60 rfl) rfl
theorem q1102 : (Jvm.Cond.selects "PedalLayers$Pedal" ({ cls := "PedalLayers$Pedal", name := "ticks", desc := "(I)I" } : Jvm.MethodName) ({ cls := "PedalLayers$Pedal", name := "ticks", desc := "(I)I" } : Jvm.MethodName)) ∈ lw_all := lw_g (lw_at lw_m5 61 rfl) rfl
theorem q1103 : (Jvm.Cond.code ({ cls := "PedalLayers$Pedal", name := "ticks", desc := "(I)I" } : Jvm.MethodName) prog_6_method_20_code (5 : Nat) (Option.some Jvm.ClassFile.FieldType.int)) ∈ lw_all := lw_g (lw_at lw_m5 62 rfl) rfl
theorem q1104 : (Jvm.Cond.methodLink "PedalLayers$Pedal" (191 : Nat) ({ cls := "PedalLayers$Pedal", name := "tick", desc := "()V" } : Jvm.MethodName)) ∈ lw_all := lw_g (lw_at lw_m5 63 rfl) rfl
theorem q1105 : (Jvm.Cond.privateMethod ({ cls := "PedalLayers$Pedal", name := "tick", desc := "()V" } : Jvm.MethodName)) ∈ lw_tbl := lw_at lw_m5 64 rfl
theorem q1106 : (Jvm.Cond.instanceMethod ({ cls := "PedalLayers$Pedal", name := "tick", desc := "()V" } : Jvm.MethodName)) ∈ lw_all := lw_g (lw_at lw_m5 65 rfl) rfl
theorem q1107 : (Jvm.Cond.code ({ cls := "PedalLayers$Pedal", name := "tick", desc := "()V" } : Jvm.MethodName) prog_6_method_19_code (2 : Nat) (Option.none : Option Jvm.ClassFile.FieldType)) ∈ lw_all := lw_g (lw_at lw_m5 66 rfl) rfl
theorem q1108 : (Jvm.Cond.methodLink "PedalLayers$Pedal" (188 : Nat) ({ cls := "PedalLayers$Pedal", name := "endsPass", desc := "()V" } : Jvm.MethodName)) ∈ lw_all := lw_g (lw_at lw_m5 67 rfl) rfl
theorem q1109 : (Jvm.Cond.privateMethod ({ cls := "PedalLayers$Pedal", name := "endsPass", desc := "()V" } : Jvm.MethodName)) ∈ lw_tbl := lw_at lw_m5 68 rfl
theorem q1110 : (Jvm.Cond.instanceMethod ({ cls := "PedalLayers$Pedal", name := "endsPass", desc := "()V" } : Jvm.MethodName)) ∈ lw_all := lw_g (lw_at lw_m5 69 rfl) rfl
theorem q1111 : (Jvm.Cond.code ({ cls := "PedalLayers$Pedal", name := "endsPass", desc := "()V" } : Jvm.MethodName) prog_6_method_18_code (3 : Nat) (Option.none : Option Jvm.ClassFile.FieldType)) ∈ lw_all := lw_g (lw_at lw_m5 70 rfl) rfl
theorem q1112 : (Jvm.Cond.methodLink "PedalLayers$Pedal" (184 : Nat) ({ cls := "PedalLayers$Layer", name := "fades", desc := "(I)V" } : Jvm.MethodName)) ∈ lw_all := lw_g (lw_at lw_m5 71 rfl) rfl
theorem q1121 : (Jvm.Cond.instanceMethod ({ cls := "PedalLayers$Pedal", name := "peels", desc := "()I" } : Jvm.MethodName)) ∈ lw_all := lw_g (lw_at lw_m5 80 rfl) rfl
theorem q1122 : (Jvm.Cond.selects "PedalLayers$Pedal" ({ cls := "PedalLayers$Pedal", name := "peels", desc := "()I" } : Jvm.MethodName) ({ cls := "PedalLayers$Pedal", name := "peels", desc := "()I" } : Jvm.MethodName)) ∈ lw_all := lw_g (lw_at lw_m5 81 rfl) rfl
theorem q1123 : (Jvm.Cond.code ({ cls := "PedalLayers$Pedal", name := "peels", desc := "()I" } : Jvm.MethodName) prog_6_method_21_code (1 : Nat) (Option.some Jvm.ClassFile.FieldType.int)) ∈ lw_all := lw_g (lw_at lw_m5 82 rfl) rfl
theorem q1124 : (Jvm.Cond.methodLink "PedalLayers$Pedal" (194 : Nat) ({ cls := "java/util/ArrayList", name := "remove", desc := "(I)Ljava/lang/Object;" } : Jvm.MethodName)) ∈ lw_all := lw_g (lw_at lw_m5 83 rfl) rfl
theorem q1133 : (Jvm.Cond.methodLink "PedalLayers$Pedal" (197 : Nat) ({ cls := "java/util/LinkedList", name := "addFirst", desc := "(Ljava/lang/Object;)V" } : Jvm.MethodName)) ∈ lw_all := lw_g (lw_at lw_m5 92 rfl) rfl
theorem q1146 : (Jvm.Cond.instanceMethod ({ cls := "PedalLayers$Pedal", name := "putsBack", desc := "()I" } : Jvm.MethodName)) ∈ lw_all := lw_g (lw_at lw_m5 105 rfl) rfl
theorem q1147 : (Jvm.Cond.selects "PedalLayers$Pedal" ({ cls := "PedalLayers$Pedal", name := "putsBack", desc := "()I" } : Jvm.MethodName) ({ cls := "PedalLayers$Pedal", name := "putsBack", desc := "()I" } : Jvm.MethodName)) ∈ lw_all := lw_g (lw_at lw_m5 106 rfl) rfl
theorem q1148 : (Jvm.Cond.code ({ cls := "PedalLayers$Pedal", name := "putsBack", desc := "()I" } : Jvm.MethodName) prog_6_method_22_code (1 : Nat) (Option.some Jvm.ClassFile.FieldType.int)) ∈ lw_all := lw_g (lw_at lw_m5 107 rfl) rfl
theorem q1149 : (Jvm.Cond.methodLink "PedalLayers$Pedal" (200 : Nat) ({ cls := "java/util/LinkedList", name := "isEmpty", desc := "()Z" } : Jvm.MethodName)) ∈ lw_all := lw_g (lw_at lw_m5 108 rfl) rfl
theorem q1156 : (Jvm.Cond.methodLink "PedalLayers$Pedal" (201 : Nat) ({ cls := "java/util/LinkedList", name := "removeFirst", desc := "()Ljava/lang/Object;" } : Jvm.MethodName)) ∈ lw_all := lw_g (lw_at lw_m5 115 rfl) rfl
theorem q1162 : (Jvm.Cond.instanceMethod ({ cls := "PedalLayers$Pedal", name := "mutes", desc := "(I)I" } : Jvm.MethodName)) ∈ lw_all := lw_g (lw_at lw_m5 121 rfl) rfl
theorem q1163 : (Jvm.Cond.selects "PedalLayers$Pedal" ({ cls := "PedalLayers$Pedal", name := "mutes", desc := "(I)I" } : Jvm.MethodName) ({ cls := "PedalLayers$Pedal", name := "mutes", desc := "(I)I" } : Jvm.MethodName)) ∈ lw_all := lw_g (lw_at lw_m5 122 rfl) rfl
theorem q1164 : (Jvm.Cond.code ({ cls := "PedalLayers$Pedal", name := "mutes", desc := "(I)I" } : Jvm.MethodName) prog_6_method_23_code (2 : Nat) (Option.some Jvm.ClassFile.FieldType.int)) ∈ lw_all := lw_g (lw_at lw_m5 123 rfl) rfl
theorem q1170 : (Jvm.Cond.instanceMethod ({ cls := "PedalLayers$Pedal", name := "changesSpeed", desc := "()I" } : Jvm.MethodName)) ∈ lw_all := lw_g (lw_at lw_m5 129 rfl) rfl
theorem q1171 : (Jvm.Cond.selects "PedalLayers$Pedal" ({ cls := "PedalLayers$Pedal", name := "changesSpeed", desc := "()I" } : Jvm.MethodName) ({ cls := "PedalLayers$Pedal", name := "changesSpeed", desc := "()I" } : Jvm.MethodName)) ∈ lw_all := lw_g (lw_at lw_m5 130 rfl) rfl
theorem q1172 : (Jvm.Cond.code ({ cls := "PedalLayers$Pedal", name := "changesSpeed", desc := "()I" } : Jvm.MethodName) prog_6_method_24_code (1 : Nat) (Option.some Jvm.ClassFile.FieldType.int)) ∈ lw_all := lw_g (lw_at lw_m5 131 rfl) rfl
theorem q1178 : (Jvm.Cond.instanceMethod ({ cls := "PedalLayers$Pedal", name := "sets", desc := "(II)I" } : Jvm.MethodName)) ∈ lw_all := lw_g (lw_at lw_m5 137 rfl) rfl
theorem q1179 : (Jvm.Cond.selects "PedalLayers$Pedal" ({ cls := "PedalLayers$Pedal", name := "sets", desc := "(II)I" } : Jvm.MethodName) ({ cls := "PedalLayers$Pedal", name := "sets", desc := "(II)I" } : Jvm.MethodName)) ∈ lw_all := lw_g (lw_at lw_m5 138 rfl) rfl
theorem q1180 : (Jvm.Cond.code ({ cls := "PedalLayers$Pedal", name := "sets", desc := "(II)I" } : Jvm.MethodName) prog_6_method_25_code (4 : Nat) (Option.some Jvm.ClassFile.FieldType.int)) ∈ lw_all := lw_g (lw_at lw_m5 139 rfl) rfl
theorem q1460 : (Jvm.Cond.instanceMethod ({ cls := "PedalLayers$Pedal", name := "ring", desc := "(III)I" } : Jvm.MethodName)) ∈ lw_all := lw_g (lw_at lw_m6 179 rfl) rfl
theorem q1461 : (Jvm.Cond.selects "PedalLayers$Pedal" ({ cls := "PedalLayers$Pedal", name := "ring", desc := "(III)I" } : Jvm.MethodName) ({ cls := "PedalLayers$Pedal", name := "ring", desc := "(III)I" } : Jvm.MethodName)) ∈ lw_all := lw_g (lw_at lw_m6 180 rfl) rfl
theorem q1462 : (Jvm.Cond.code ({ cls := "PedalLayers$Pedal", name := "ring", desc := "(III)I" } : Jvm.MethodName) prog_6_method_27_code (5 : Nat) (Option.some Jvm.ClassFile.FieldType.int)) ∈ lw_all := lw_g (lw_at lw_m6 181 rfl) rfl
theorem q1463 : (Jvm.Cond.methodLink "PedalLayers$Pedal" (211 : Nat) ({ cls := "PedalLayers$Pedal", name := "keptRing", desc := "(III)I" } : Jvm.MethodName)) ∈ lw_all := lw_g (lw_at lw_m6 182 rfl) rfl
theorem q1464 : (Jvm.Cond.privateMethod ({ cls := "PedalLayers$Pedal", name := "keptRing", desc := "(III)I" } : Jvm.MethodName)) ∈ lw_tbl := lw_at lw_m6 183 rfl
theorem q1465 : (Jvm.Cond.instanceMethod ({ cls := "PedalLayers$Pedal", name := "keptRing", desc := "(III)I" } : Jvm.MethodName)) ∈ lw_all := lw_g (lw_at lw_m6 184 rfl) rfl
theorem q1466 : (Jvm.Cond.code ({ cls := "PedalLayers$Pedal", name := "keptRing", desc := "(III)I" } : Jvm.MethodName) prog_6_method_26_code (6 : Nat) (Option.some Jvm.ClassFile.FieldType.int)) ∈ lw_all := lw_g (lw_at lw_m6 185 rfl) rfl
theorem q1467 : (Jvm.Cond.methodLink "PedalLayers$Pedal" (208 : Nat) ({ cls := "PedalLayers$Layer", name := "force", desc := "(II)I" } : Jvm.MethodName)) ∈ lw_all := lw_g (lw_at lw_m6 186 rfl) rfl
theorem q1476 : (Jvm.Cond.instanceMethod ({ cls := "PedalLayers$Pedal", name := "heardKeys", desc := "(I)I" } : Jvm.MethodName)) ∈ lw_all := lw_g (lw_at lw_m6 195 rfl) rfl
theorem q1477 : (Jvm.Cond.selects "PedalLayers$Pedal" ({ cls := "PedalLayers$Pedal", name := "heardKeys", desc := "(I)I" } : Jvm.MethodName) ({ cls := "PedalLayers$Pedal", name := "heardKeys", desc := "(I)I" } : Jvm.MethodName)) ∈ lw_all := lw_g (lw_at lw_m6 196 rfl) rfl
theorem q1478 : (Jvm.Cond.code ({ cls := "PedalLayers$Pedal", name := "heardKeys", desc := "(I)I" } : Jvm.MethodName) prog_6_method_31_code (4 : Nat) (Option.some Jvm.ClassFile.FieldType.int)) ∈ lw_all := lw_g (lw_at lw_m6 197 rfl) rfl
theorem q1479 : (Jvm.Cond.methodLink "PedalLayers$Pedal" (214 : Nat) ({ cls := "PedalLayers$Pedal", name := "ring", desc := "(III)I" } : Jvm.MethodName)) ∈ lw_all := lw_g (lw_at lw_m6 198 rfl) rfl
theorem q1481 : (Jvm.Cond.instanceMethod ({ cls := "PedalLayers$Pedal", name := "rings", desc := "(II)I" } : Jvm.MethodName)) ∈ lw_all := lw_g (lw_at lw_m6 200 rfl) rfl
theorem q1482 : (Jvm.Cond.selects "PedalLayers$Pedal" ({ cls := "PedalLayers$Pedal", name := "rings", desc := "(II)I" } : Jvm.MethodName) ({ cls := "PedalLayers$Pedal", name := "rings", desc := "(II)I" } : Jvm.MethodName)) ∈ lw_all := lw_g (lw_at lw_m6 201 rfl) rfl
theorem q1483 : (Jvm.Cond.code ({ cls := "PedalLayers$Pedal", name := "rings", desc := "(II)I" } : Jvm.MethodName) prog_6_method_28_code (5 : Nat) (Option.some Jvm.ClassFile.FieldType.int)) ∈ lw_all := lw_g (lw_at lw_m6 202 rfl) rfl
theorem q1485 : (Jvm.Cond.instanceMethod ({ cls := "PedalLayers$Pedal", name := "highest", desc := "(I)I" } : Jvm.MethodName)) ∈ lw_all := lw_g (lw_at lw_m6 204 rfl) rfl
theorem q1486 : (Jvm.Cond.selects "PedalLayers$Pedal" ({ cls := "PedalLayers$Pedal", name := "highest", desc := "(I)I" } : Jvm.MethodName) ({ cls := "PedalLayers$Pedal", name := "highest", desc := "(I)I" } : Jvm.MethodName)) ∈ lw_all := lw_g (lw_at lw_m6 205 rfl) rfl
theorem q1487 : (Jvm.Cond.code ({ cls := "PedalLayers$Pedal", name := "highest", desc := "(I)I" } : Jvm.MethodName) prog_6_method_32_code (4 : Nat) (Option.some Jvm.ClassFile.FieldType.int)) ∈ lw_all := lw_g (lw_at lw_m6 206 rfl) rfl
theorem q1489 : (Jvm.Cond.instanceMethod ({ cls := "PedalLayers$Pedal", name := "lowest", desc := "(I)I" } : Jvm.MethodName)) ∈ lw_all := lw_g (lw_at lw_m6 208 rfl) rfl
theorem q1490 : (Jvm.Cond.selects "PedalLayers$Pedal" ({ cls := "PedalLayers$Pedal", name := "lowest", desc := "(I)I" } : Jvm.MethodName) ({ cls := "PedalLayers$Pedal", name := "lowest", desc := "(I)I" } : Jvm.MethodName)) ∈ lw_all := lw_g (lw_at lw_m6 209 rfl) rfl
theorem q1491 : (Jvm.Cond.code ({ cls := "PedalLayers$Pedal", name := "lowest", desc := "(I)I" } : Jvm.MethodName) prog_6_method_33_code (4 : Nat) (Option.some Jvm.ClassFile.FieldType.int)) ∈ lw_all := lw_g (lw_at lw_m6 210 rfl) rfl
theorem q1493 : (Jvm.Cond.instanceMethod ({ cls := "PedalLayers$Pedal", name := "strongest", desc := "(I)I" } : Jvm.MethodName)) ∈ lw_all := lw_g (lw_at lw_m6 212 rfl) rfl
theorem q1494 : (Jvm.Cond.selects "PedalLayers$Pedal" ({ cls := "PedalLayers$Pedal", name := "strongest", desc := "(I)I" } : Jvm.MethodName) ({ cls := "PedalLayers$Pedal", name := "strongest", desc := "(I)I" } : Jvm.MethodName)) ∈ lw_all := lw_g (lw_at lw_m6 213 rfl) rfl
theorem q1495 : (Jvm.Cond.code ({ cls := "PedalLayers$Pedal", name := "strongest", desc := "(I)I" } : Jvm.MethodName) prog_6_method_34_code (6 : Nat) (Option.some Jvm.ClassFile.FieldType.int)) ∈ lw_all := lw_g (lw_at lw_m6 214 rfl) rfl
theorem q1507 : (Jvm.Cond.instanceMethod ({ cls := "PedalLayers$Pedal", name := "buriedNotes", desc := "(I)I" } : Jvm.MethodName)) ∈ lw_all := lw_g (lw_at lw_m6 226 rfl) rfl
theorem q1508 : (Jvm.Cond.selects "PedalLayers$Pedal" ({ cls := "PedalLayers$Pedal", name := "buriedNotes", desc := "(I)I" } : Jvm.MethodName) ({ cls := "PedalLayers$Pedal", name := "buriedNotes", desc := "(I)I" } : Jvm.MethodName)) ∈ lw_all := lw_g (lw_at lw_m6 227 rfl) rfl
theorem q1509 : (Jvm.Cond.code ({ cls := "PedalLayers$Pedal", name := "buriedNotes", desc := "(I)I" } : Jvm.MethodName) prog_6_method_35_code (8 : Nat) (Option.some Jvm.ClassFile.FieldType.int)) ∈ lw_all := lw_g (lw_at lw_m6 228 rfl) rfl
theorem q1515 : (Jvm.Cond.instanceMethod ({ cls := "PedalLayers$Pedal", name := "begins", desc := "(Ljava/util/ArrayList;I)Z" } : Jvm.MethodName)) ∈ lw_all := lw_g (lw_at lw_m6 234 rfl) rfl
theorem q1516 : (Jvm.Cond.selects "PedalLayers$Pedal" ({ cls := "PedalLayers$Pedal", name := "begins", desc := "(Ljava/util/ArrayList;I)Z" } : Jvm.MethodName) ({ cls := "PedalLayers$Pedal", name := "begins", desc := "(Ljava/util/ArrayList;I)Z" } : Jvm.MethodName)) ∈ lw_all := lw_g (lw_at lw_m6 235 rfl) rfl
theorem q1517 : (Jvm.Cond.code ({ cls := "PedalLayers$Pedal", name := "begins", desc := "(Ljava/util/ArrayList;I)Z" } : Jvm.MethodName) prog_6_method_36_code (4 : Nat) (Option.some Jvm.ClassFile.FieldType.boolean)) ∈ lw_all := lw_g (lw_at lw_m6 236 rfl) rfl
theorem q1518 : (Jvm.Cond.methodLink "PedalLayers$Pedal" (220 : Nat) ({ cls := "PedalLayers$Pedal", name := "highest", desc := "(I)I" } : Jvm.MethodName)) ∈ lw_all := lw_g (lw_at lw_m6 237 rfl) rfl
theorem q1519 : (Jvm.Cond.classLink "PedalLayers$Pedal" (223 : Nat) "java/lang/Integer") ∈ lw_all := lw_g (lw_at lw_m6 238 rfl) rfl
theorem q1520 : (Jvm.Cond.methodLink "PedalLayers$Pedal" (225 : Nat) ({ cls := "java/lang/Integer", name := "intValue", desc := "()I" } : Jvm.MethodName)) ∈ lw_all := lw_g (lw_at lw_m6 239 rfl) rfl
theorem q1535 : (Jvm.Cond.instanceMethod ({ cls := "PedalLayers$Pedal", name := "allRings", desc := "(I)I" } : Jvm.MethodName)) ∈ lw_all := lw_g (lw_at lw_m7 14 rfl) rfl
theorem q1536 : (Jvm.Cond.selects "PedalLayers$Pedal" ({ cls := "PedalLayers$Pedal", name := "allRings", desc := "(I)I" } : Jvm.MethodName) ({ cls := "PedalLayers$Pedal", name := "allRings", desc := "(I)I" } : Jvm.MethodName)) ∈ lw_all := lw_g (lw_at lw_m7 15 rfl) rfl
theorem q1537 : (Jvm.Cond.code ({ cls := "PedalLayers$Pedal", name := "allRings", desc := "(I)I" } : Jvm.MethodName) prog_6_method_29_code (4 : Nat) (Option.some Jvm.ClassFile.FieldType.int)) ∈ lw_all := lw_g (lw_at lw_m7 16 rfl) rfl
theorem q1538 : (Jvm.Cond.methodLink "PedalLayers$Pedal" (217 : Nat) ({ cls := "PedalLayers$Pedal", name := "rings", desc := "(II)I" } : Jvm.MethodName)) ∈ lw_all := lw_g (lw_at lw_m7 17 rfl) rfl
theorem q1565 : (Jvm.Cond.instanceMethod ({ cls := "PedalLayers$Pedal", name := "isSilent", desc := "()Z" } : Jvm.MethodName)) ∈ lw_all := lw_g (lw_at lw_m7 44 rfl) rfl
theorem q1566 : (Jvm.Cond.selects "PedalLayers$Pedal" ({ cls := "PedalLayers$Pedal", name := "isSilent", desc := "()Z" } : Jvm.MethodName) ({ cls := "PedalLayers$Pedal", name := "isSilent", desc := "()Z" } : Jvm.MethodName)) ∈ lw_all := lw_g (lw_at lw_m7 45 rfl) rfl
theorem q1567 : (Jvm.Cond.code ({ cls := "PedalLayers$Pedal", name := "isSilent", desc := "()Z" } : Jvm.MethodName) prog_6_method_37_code (1 : Nat) (Option.some Jvm.ClassFile.FieldType.boolean)) ∈ lw_all := lw_g (lw_at lw_m7 46 rfl) rfl
theorem q1568 : (Jvm.Cond.methodLink "PedalLayers$Pedal" (228 : Nat) ({ cls := "PedalLayers$Pedal", name := "silentCells", desc := "(I)I" } : Jvm.MethodName)) ∈ lw_all := lw_g (lw_at lw_m7 47 rfl) rfl
theorem q1569 : (Jvm.Cond.instanceMethod ({ cls := "PedalLayers$Pedal", name := "silentCells", desc := "(I)I" } : Jvm.MethodName)) ∈ lw_all := lw_g (lw_at lw_m7 48 rfl) rfl
theorem q1570 : (Jvm.Cond.selects "PedalLayers$Pedal" ({ cls := "PedalLayers$Pedal", name := "silentCells", desc := "(I)I" } : Jvm.MethodName) ({ cls := "PedalLayers$Pedal", name := "silentCells", desc := "(I)I" } : Jvm.MethodName)) ∈ lw_all := lw_g (lw_at lw_m7 49 rfl) rfl
theorem q1571 : (Jvm.Cond.code ({ cls := "PedalLayers$Pedal", name := "silentCells", desc := "(I)I" } : Jvm.MethodName) prog_6_method_30_code (4 : Nat) (Option.some Jvm.ClassFile.FieldType.int)) ∈ lw_all := lw_g (lw_at lw_m7 50 rfl) rfl
theorem q1573 : (Jvm.Cond.instanceMethod ({ cls := "PedalLayers$Pedal", name := "fadesAll", desc := "()V" } : Jvm.MethodName)) ∈ lw_all := lw_g (lw_at lw_m7 52 rfl) rfl
theorem q1574 : (Jvm.Cond.selects "PedalLayers$Pedal" ({ cls := "PedalLayers$Pedal", name := "fadesAll", desc := "()V" } : Jvm.MethodName) ({ cls := "PedalLayers$Pedal", name := "fadesAll", desc := "()V" } : Jvm.MethodName)) ∈ lw_all := lw_g (lw_at lw_m7 53 rfl) rfl
theorem q1575 : (Jvm.Cond.code ({ cls := "PedalLayers$Pedal", name := "fadesAll", desc := "()V" } : Jvm.MethodName) prog_6_method_38_code (3 : Nat) (Option.none : Option Jvm.ClassFile.FieldType)) ∈ lw_all := lw_g (lw_at lw_m7 54 rfl) rfl
theorem q1999 : (Jvm.Cond.castable "PedalLayers$Pedal" "java/lang/Object") ∈ lw_tbl := lw_at lw_m8 238 rfl
theorem in_X1 : ∀ w ∈ wsX10, w ∈ lw_all := lw_in wsX10 [214, 216, 218, 220, 222, 224, 226, 228, 230, 232, 234, 236] (by decide +kernel) (by decide +kernel)
/-! PedalLayers$Layer -/
set_option maxRecDepth 100000
def RX3 : String := "PedalLayers$Layer"
def TX3 : u_T := fun k => match k with
  | 0 => ("PedalLayers$Layer", "forces", "[[I", false)
  | 1 => ("PedalLayers$Layer", "isMuted", "Z", false)
  | _ => ("PedalLayers$Layer", "passes", "I", false)
def tyX3 : Nat → FieldType := fun k => match k with
  | 0 => .array (.array .int)
  | 1 => .boolean
  | _ => .int
abbrev wsX30 : List Cond := u_ws RX3 TX3 3
theorem nmX3 : ∀ a, a < 3 → ∀ b, b < 3 → a ≠ b → (TX3 a).2.1 ≠ (TX3 b).2.1 := by decide +kernel
theorem tyX3_ok : ∀ k, k < 3 → parseFieldDescriptor (TX3 k).2.2.1 = some (tyX3 k) := by decide +kernel
abbrev cX3_copy : ByteArray := prog_3_method_2_code
def yX3_copy : MethodName := ⟨RX3, "copy", "()LPedalLayers$Layer;"⟩
def dkwX3_copy_3 : List UInt8 := [181, 0, 29, 43, 176]
abbrev dktX3_copy_3 : List UInt8 := dkwX3_copy_3 ++ []
def dkwX3_copy_2 : List UInt8 := [192, 0, 19, 83, 132, 2, 1, 167, 255, 226, 43, 42, 180, 0, 25, 181, 0, 25, 43, 42, 180, 0, 29]
abbrev dktX3_copy_2 : List UInt8 := dkwX3_copy_2 ++ dktX3_copy_3
def dkwX3_copy_1 : List UInt8 := [42, 180, 0, 11, 190, 162, 0, 27, 43, 180, 0, 11, 28, 42, 180, 0, 11, 28, 50, 182, 0, 21]
abbrev dktX3_copy_1 : List UInt8 := dkwX3_copy_1 ++ dktX3_copy_2
def dkwX3_copy_0 : List UInt8 := [187, 0, 12, 89, 3, 183, 0, 16, 76, 43, 42, 180, 0, 11, 190, 189, 0, 19, 181, 0, 11, 3, 61, 28]
abbrev dktX3_copy_0 : List UInt8 := dkwX3_copy_0 ++ dktX3_copy_1
theorem dksX3_copy_0 : cX3_copy.data.toList.drop 0 = dktX3_copy_0 := by decide +kernel
theorem dksX3_copy_1 : cX3_copy.data.toList.drop 24 = dktX3_copy_1 := dk_seg dksX3_copy_0 24 rfl rfl
theorem dksX3_copy_2 : cX3_copy.data.toList.drop 46 = dktX3_copy_2 := dk_seg dksX3_copy_1 22 rfl rfl
theorem dksX3_copy_3 : cX3_copy.data.toList.drop 69 = dktX3_copy_3 := dk_seg dksX3_copy_2 23 rfl rfl
theorem dX3_copy_0 : decode cX3_copy 0 = .ok (.new 12, 3) := dk_187 0 12 (dk_at dksX3_copy_0 0 rfl rfl)
theorem dX3_copy_3 : decode cX3_copy 3 = .ok (.dup, 1) := dk_89 (dk_at dksX3_copy_0 3 rfl rfl)
theorem dX3_copy_4 : decode cX3_copy 4 = .ok (.iconst 0, 1) := dk_3 (dk_at dksX3_copy_0 4 rfl rfl)
theorem dX3_copy_5 : decode cX3_copy 5 = .ok (.invokespecial 16, 3) := dk_183 0 16 (dk_at dksX3_copy_0 5 rfl rfl)
theorem dX3_copy_8 : decode cX3_copy 8 = .ok (.astore_n 1, 1) := dk_76 (dk_at dksX3_copy_0 8 rfl rfl)
theorem dX3_copy_9 : decode cX3_copy 9 = .ok (.aload_n 1, 1) := dk_43 (dk_at dksX3_copy_0 9 rfl rfl)
theorem dX3_copy_10 : decode cX3_copy 10 = .ok (.aload_n 0, 1) := dk_42 (dk_at dksX3_copy_0 10 rfl rfl)
theorem dX3_copy_11 : decode cX3_copy 11 = .ok (.getfield 11, 3) := dk_180 0 11 (dk_at dksX3_copy_0 11 rfl rfl)
theorem dX3_copy_14 : decode cX3_copy 14 = .ok (.arraylength, 1) := dk_190 (dk_at dksX3_copy_0 14 rfl rfl)
theorem dX3_copy_15 : decode cX3_copy 15 = .ok (.anewarray 19, 3) := dk_189 0 19 (dk_at dksX3_copy_0 15 rfl rfl)
theorem dX3_copy_18 : decode cX3_copy 18 = .ok (.putfield 11, 3) := dk_181 0 11 (dk_at dksX3_copy_0 18 rfl rfl)
theorem dX3_copy_21 : decode cX3_copy 21 = .ok (.iconst 0, 1) := dk_3 (dk_at dksX3_copy_0 21 rfl rfl)
theorem dX3_copy_22 : decode cX3_copy 22 = .ok (.istore_n 2, 1) := dk_61 (dk_at dksX3_copy_0 22 rfl rfl)
theorem dX3_copy_23 : decode cX3_copy 23 = .ok (.iload_n 2, 1) := dk_28 (dk_at dksX3_copy_0 23 rfl rfl)
theorem dX3_copy_24 : decode cX3_copy 24 = .ok (.aload_n 0, 1) := dk_42 (dk_at dksX3_copy_1 0 rfl rfl)
theorem dX3_copy_25 : decode cX3_copy 25 = .ok (.getfield 11, 3) := dk_180 0 11 (dk_at dksX3_copy_1 1 rfl rfl)
theorem dX3_copy_28 : decode cX3_copy 28 = .ok (.arraylength, 1) := dk_190 (dk_at dksX3_copy_1 4 rfl rfl)
theorem dX3_copy_29 : decode cX3_copy 29 = .ok (.if_icmp .ge 27, 3) := dk_162 0 27 (dk_at dksX3_copy_1 5 rfl rfl)
theorem dX3_copy_32 : decode cX3_copy 32 = .ok (.aload_n 1, 1) := dk_43 (dk_at dksX3_copy_1 8 rfl rfl)
theorem dX3_copy_33 : decode cX3_copy 33 = .ok (.getfield 11, 3) := dk_180 0 11 (dk_at dksX3_copy_1 9 rfl rfl)
theorem dX3_copy_36 : decode cX3_copy 36 = .ok (.iload_n 2, 1) := dk_28 (dk_at dksX3_copy_1 12 rfl rfl)
theorem dX3_copy_37 : decode cX3_copy 37 = .ok (.aload_n 0, 1) := dk_42 (dk_at dksX3_copy_1 13 rfl rfl)
theorem dX3_copy_38 : decode cX3_copy 38 = .ok (.getfield 11, 3) := dk_180 0 11 (dk_at dksX3_copy_1 14 rfl rfl)
theorem dX3_copy_41 : decode cX3_copy 41 = .ok (.iload_n 2, 1) := dk_28 (dk_at dksX3_copy_1 17 rfl rfl)
theorem dX3_copy_42 : decode cX3_copy 42 = .ok (.aaload, 1) := dk_50 (dk_at dksX3_copy_1 18 rfl rfl)
theorem dX3_copy_43 : decode cX3_copy 43 = .ok (.invokevirtual 21, 3) := dk_182 0 21 (dk_at dksX3_copy_1 19 rfl rfl)
theorem dX3_copy_46 : decode cX3_copy 46 = .ok (.checkcast 19, 3) := dk_192 0 19 (dk_at dksX3_copy_2 0 rfl rfl)
theorem dX3_copy_49 : decode cX3_copy 49 = .ok (.aastore, 1) := dk_83 (dk_at dksX3_copy_2 3 rfl rfl)
theorem dX3_copy_50 : decode cX3_copy 50 = .ok (.iinc 2 1, 3) := dk_132 2 1 (dk_at dksX3_copy_2 4 rfl rfl)
theorem dX3_copy_53 : decode cX3_copy 53 = .ok (.goto (-30), 3) := dk_167 255 226 (dk_at dksX3_copy_2 7 rfl rfl)
theorem dX3_copy_56 : decode cX3_copy 56 = .ok (.aload_n 1, 1) := dk_43 (dk_at dksX3_copy_2 10 rfl rfl)
theorem dX3_copy_57 : decode cX3_copy 57 = .ok (.aload_n 0, 1) := dk_42 (dk_at dksX3_copy_2 11 rfl rfl)
theorem dX3_copy_58 : decode cX3_copy 58 = .ok (.getfield 25, 3) := dk_180 0 25 (dk_at dksX3_copy_2 12 rfl rfl)
theorem dX3_copy_61 : decode cX3_copy 61 = .ok (.putfield 25, 3) := dk_181 0 25 (dk_at dksX3_copy_2 15 rfl rfl)
theorem dX3_copy_64 : decode cX3_copy 64 = .ok (.aload_n 1, 1) := dk_43 (dk_at dksX3_copy_2 18 rfl rfl)
theorem dX3_copy_65 : decode cX3_copy 65 = .ok (.aload_n 0, 1) := dk_42 (dk_at dksX3_copy_2 19 rfl rfl)
theorem dX3_copy_66 : decode cX3_copy 66 = .ok (.getfield 29, 3) := dk_180 0 29 (dk_at dksX3_copy_2 20 rfl rfl)
theorem dX3_copy_69 : decode cX3_copy 69 = .ok (.putfield 29, 3) := dk_181 0 29 (dk_at dksX3_copy_3 0 rfl rfl)
theorem dX3_copy_72 : decode cX3_copy 72 = .ok (.aload_n 1, 1) := dk_43 (dk_at dksX3_copy_3 3 rfl rfl)
theorem dX3_copy_73 : decode cX3_copy 73 = .ok (.areturn, 1) := dk_176 (dk_at dksX3_copy_3 4 rfl rfl)
abbrev cX3_init : ByteArray := prog_3_method_1_code
def yX3_init : MethodName := ⟨RX3, "<init>", "(I)V"⟩
def dkwX3_init_0 : List UInt8 := [42, 183, 0, 3, 42, 27, 16, 36, 197, 0, 9, 2, 181, 0, 11, 177]
abbrev dktX3_init_0 : List UInt8 := dkwX3_init_0 ++ []
theorem dksX3_init_0 : cX3_init.data.toList.drop 0 = dktX3_init_0 := by decide +kernel
theorem dX3_init_0 : decode cX3_init 0 = .ok (.aload_n 0, 1) := dk_42 (dk_at dksX3_init_0 0 rfl rfl)
theorem dX3_init_1 : decode cX3_init 1 = .ok (.invokespecial 3, 3) := dk_183 0 3 (dk_at dksX3_init_0 1 rfl rfl)
theorem dX3_init_4 : decode cX3_init 4 = .ok (.aload_n 0, 1) := dk_42 (dk_at dksX3_init_0 4 rfl rfl)
theorem dX3_init_5 : decode cX3_init 5 = .ok (.iload_n 1, 1) := dk_27 (dk_at dksX3_init_0 5 rfl rfl)
theorem dX3_init_6 : decode cX3_init 6 = .ok (.bipush 36, 2) := dk_16 36 (dk_at dksX3_init_0 6 rfl rfl)
theorem dX3_init_8 : decode cX3_init 8 = .ok (.multianewarray 9 2, 4) := by decide +kernel
theorem dX3_init_12 : decode cX3_init 12 = .ok (.putfield 11, 3) := dk_181 0 11 (dk_at dksX3_init_0 12 rfl rfl)
theorem dX3_init_15 : decode cX3_init 15 = .ok (.return_, 1) := dk_177 (dk_at dksX3_init_0 15 rfl rfl)
abbrev cX3_ofLength : ByteArray := prog_3_method_10_code
def yX3_ofLength : MethodName := ⟨RX3, "ofLength", "(I)LPedalLayers$Layer;"⟩
def dkwX3_ofLength_2 : List UInt8 := [44, 176]
abbrev dktX3_ofLength_2 : List UInt8 := dkwX3_ofLength_2 ++ []
def dkwX3_ofLength_1 : List UInt8 := [44, 180, 0, 11, 29, 42, 180, 0, 11, 29, 50, 182, 0, 21, 192, 0, 19, 83, 132, 3, 1, 167, 255, 222]
abbrev dktX3_ofLength_1 : List UInt8 := dkwX3_ofLength_1 ++ dktX3_ofLength_2
def dkwX3_ofLength_0 : List UInt8 := [187, 0, 12, 89, 27, 183, 0, 16, 77, 3, 62, 29, 27, 42, 180, 0, 11, 190, 184, 0, 33, 162, 0, 27]
abbrev dktX3_ofLength_0 : List UInt8 := dkwX3_ofLength_0 ++ dktX3_ofLength_1
theorem dksX3_ofLength_0 : cX3_ofLength.data.toList.drop 0 = dktX3_ofLength_0 := by decide +kernel
theorem dksX3_ofLength_1 : cX3_ofLength.data.toList.drop 24 = dktX3_ofLength_1 := dk_seg dksX3_ofLength_0 24 rfl rfl
theorem dksX3_ofLength_2 : cX3_ofLength.data.toList.drop 48 = dktX3_ofLength_2 := dk_seg dksX3_ofLength_1 24 rfl rfl
theorem dX3_ofLength_0 : decode cX3_ofLength 0 = .ok (.new 12, 3) := dk_187 0 12 (dk_at dksX3_ofLength_0 0 rfl rfl)
theorem dX3_ofLength_3 : decode cX3_ofLength 3 = .ok (.dup, 1) := dk_89 (dk_at dksX3_ofLength_0 3 rfl rfl)
theorem dX3_ofLength_4 : decode cX3_ofLength 4 = .ok (.iload_n 1, 1) := dk_27 (dk_at dksX3_ofLength_0 4 rfl rfl)
theorem dX3_ofLength_5 : decode cX3_ofLength 5 = .ok (.invokespecial 16, 3) := dk_183 0 16 (dk_at dksX3_ofLength_0 5 rfl rfl)
theorem dX3_ofLength_8 : decode cX3_ofLength 8 = .ok (.astore_n 2, 1) := dk_77 (dk_at dksX3_ofLength_0 8 rfl rfl)
theorem dX3_ofLength_9 : decode cX3_ofLength 9 = .ok (.iconst 0, 1) := dk_3 (dk_at dksX3_ofLength_0 9 rfl rfl)
theorem dX3_ofLength_10 : decode cX3_ofLength 10 = .ok (.istore_n 3, 1) := dk_62 (dk_at dksX3_ofLength_0 10 rfl rfl)
theorem dX3_ofLength_11 : decode cX3_ofLength 11 = .ok (.iload_n 3, 1) := dk_29 (dk_at dksX3_ofLength_0 11 rfl rfl)
theorem dX3_ofLength_12 : decode cX3_ofLength 12 = .ok (.iload_n 1, 1) := dk_27 (dk_at dksX3_ofLength_0 12 rfl rfl)
theorem dX3_ofLength_13 : decode cX3_ofLength 13 = .ok (.aload_n 0, 1) := dk_42 (dk_at dksX3_ofLength_0 13 rfl rfl)
theorem dX3_ofLength_14 : decode cX3_ofLength 14 = .ok (.getfield 11, 3) := dk_180 0 11 (dk_at dksX3_ofLength_0 14 rfl rfl)
theorem dX3_ofLength_17 : decode cX3_ofLength 17 = .ok (.arraylength, 1) := dk_190 (dk_at dksX3_ofLength_0 17 rfl rfl)
theorem dX3_ofLength_18 : decode cX3_ofLength 18 = .ok (.invokestatic 33, 3) := dk_184 0 33 (dk_at dksX3_ofLength_0 18 rfl rfl)
theorem dX3_ofLength_21 : decode cX3_ofLength 21 = .ok (.if_icmp .ge 27, 3) := dk_162 0 27 (dk_at dksX3_ofLength_0 21 rfl rfl)
theorem dX3_ofLength_24 : decode cX3_ofLength 24 = .ok (.aload_n 2, 1) := dk_44 (dk_at dksX3_ofLength_1 0 rfl rfl)
theorem dX3_ofLength_25 : decode cX3_ofLength 25 = .ok (.getfield 11, 3) := dk_180 0 11 (dk_at dksX3_ofLength_1 1 rfl rfl)
theorem dX3_ofLength_28 : decode cX3_ofLength 28 = .ok (.iload_n 3, 1) := dk_29 (dk_at dksX3_ofLength_1 4 rfl rfl)
theorem dX3_ofLength_29 : decode cX3_ofLength 29 = .ok (.aload_n 0, 1) := dk_42 (dk_at dksX3_ofLength_1 5 rfl rfl)
theorem dX3_ofLength_30 : decode cX3_ofLength 30 = .ok (.getfield 11, 3) := dk_180 0 11 (dk_at dksX3_ofLength_1 6 rfl rfl)
theorem dX3_ofLength_33 : decode cX3_ofLength 33 = .ok (.iload_n 3, 1) := dk_29 (dk_at dksX3_ofLength_1 9 rfl rfl)
theorem dX3_ofLength_34 : decode cX3_ofLength 34 = .ok (.aaload, 1) := dk_50 (dk_at dksX3_ofLength_1 10 rfl rfl)
theorem dX3_ofLength_35 : decode cX3_ofLength 35 = .ok (.invokevirtual 21, 3) := dk_182 0 21 (dk_at dksX3_ofLength_1 11 rfl rfl)
theorem dX3_ofLength_38 : decode cX3_ofLength 38 = .ok (.checkcast 19, 3) := dk_192 0 19 (dk_at dksX3_ofLength_1 14 rfl rfl)
theorem dX3_ofLength_41 : decode cX3_ofLength 41 = .ok (.aastore, 1) := dk_83 (dk_at dksX3_ofLength_1 17 rfl rfl)
theorem dX3_ofLength_42 : decode cX3_ofLength 42 = .ok (.iinc 3 1, 3) := dk_132 3 1 (dk_at dksX3_ofLength_1 18 rfl rfl)
theorem dX3_ofLength_45 : decode cX3_ofLength 45 = .ok (.goto (-34), 3) := dk_167 255 222 (dk_at dksX3_ofLength_1 21 rfl rfl)
theorem dX3_ofLength_48 : decode cX3_ofLength 48 = .ok (.aload_n 2, 1) := dk_44 (dk_at dksX3_ofLength_2 0 rfl rfl)
theorem dX3_ofLength_49 : decode cX3_ofLength 49 = .ok (.areturn, 1) := dk_176 (dk_at dksX3_ofLength_2 1 rfl rfl)
abbrev cX3_length : ByteArray := prog_3_method_3_code
def yX3_length : MethodName := ⟨RX3, "length", "()I"⟩
def dkwX3_length_0 : List UInt8 := [42, 180, 0, 11, 190, 172]
abbrev dktX3_length_0 : List UInt8 := dkwX3_length_0 ++ []
theorem dksX3_length_0 : cX3_length.data.toList.drop 0 = dktX3_length_0 := by decide +kernel
theorem dX3_length_0 : decode cX3_length 0 = .ok (.aload_n 0, 1) := dk_42 (dk_at dksX3_length_0 0 rfl rfl)
theorem dX3_length_1 : decode cX3_length 1 = .ok (.getfield 11, 3) := dk_180 0 11 (dk_at dksX3_length_0 1 rfl rfl)
theorem dX3_length_4 : decode cX3_length 4 = .ok (.arraylength, 1) := dk_190 (dk_at dksX3_length_0 4 rfl rfl)
theorem dX3_length_5 : decode cX3_length 5 = .ok (.ireturn, 1) := dk_172 (dk_at dksX3_length_0 5 rfl rfl)
abbrev cX3_folded : ByteArray := prog_3_method_11_code
def yX3_folded : MethodName := ⟨RX3, "folded", "()LPedalLayers$Layer;"⟩
def dkwX3_folded_2 : List UInt8 := [182, 0, 46, 87, 132, 4, 1, 167, 255, 227, 132, 3, 1, 167, 255, 213, 44, 176]
abbrev dktX3_folded_2 : List UInt8 := dkwX3_folded_2 ++ []
def dkwX3_folded_1 : List UInt8 := [21, 4, 16, 36, 162, 0, 28, 44, 29, 21, 4, 42, 180, 0, 11, 29, 27, 96, 50, 21, 4, 46]
abbrev dktX3_folded_1 : List UInt8 := dkwX3_folded_1 ++ dktX3_folded_2
def dkwX3_folded_0 : List UInt8 := [42, 180, 0, 11, 190, 5, 108, 60, 42, 27, 182, 0, 42, 77, 3, 62, 29, 27, 162, 0, 44, 3, 54, 4]
abbrev dktX3_folded_0 : List UInt8 := dkwX3_folded_0 ++ dktX3_folded_1
theorem dksX3_folded_0 : cX3_folded.data.toList.drop 0 = dktX3_folded_0 := by decide +kernel
theorem dksX3_folded_1 : cX3_folded.data.toList.drop 24 = dktX3_folded_1 := dk_seg dksX3_folded_0 24 rfl rfl
theorem dksX3_folded_2 : cX3_folded.data.toList.drop 46 = dktX3_folded_2 := dk_seg dksX3_folded_1 22 rfl rfl
theorem dX3_folded_0 : decode cX3_folded 0 = .ok (.aload_n 0, 1) := dk_42 (dk_at dksX3_folded_0 0 rfl rfl)
theorem dX3_folded_1 : decode cX3_folded 1 = .ok (.getfield 11, 3) := dk_180 0 11 (dk_at dksX3_folded_0 1 rfl rfl)
theorem dX3_folded_4 : decode cX3_folded 4 = .ok (.arraylength, 1) := dk_190 (dk_at dksX3_folded_0 4 rfl rfl)
theorem dX3_folded_5 : decode cX3_folded 5 = .ok (.iconst 2, 1) := dk_5 (dk_at dksX3_folded_0 5 rfl rfl)
theorem dX3_folded_6 : decode cX3_folded 6 = .ok (.idiv, 1) := dk_108 (dk_at dksX3_folded_0 6 rfl rfl)
theorem dX3_folded_7 : decode cX3_folded 7 = .ok (.istore_n 1, 1) := dk_60 (dk_at dksX3_folded_0 7 rfl rfl)
theorem dX3_folded_8 : decode cX3_folded 8 = .ok (.aload_n 0, 1) := dk_42 (dk_at dksX3_folded_0 8 rfl rfl)
theorem dX3_folded_9 : decode cX3_folded 9 = .ok (.iload_n 1, 1) := dk_27 (dk_at dksX3_folded_0 9 rfl rfl)
theorem dX3_folded_10 : decode cX3_folded 10 = .ok (.invokevirtual 42, 3) := dk_182 0 42 (dk_at dksX3_folded_0 10 rfl rfl)
theorem dX3_folded_13 : decode cX3_folded 13 = .ok (.astore_n 2, 1) := dk_77 (dk_at dksX3_folded_0 13 rfl rfl)
theorem dX3_folded_14 : decode cX3_folded 14 = .ok (.iconst 0, 1) := dk_3 (dk_at dksX3_folded_0 14 rfl rfl)
theorem dX3_folded_15 : decode cX3_folded 15 = .ok (.istore_n 3, 1) := dk_62 (dk_at dksX3_folded_0 15 rfl rfl)
theorem dX3_folded_16 : decode cX3_folded 16 = .ok (.iload_n 3, 1) := dk_29 (dk_at dksX3_folded_0 16 rfl rfl)
theorem dX3_folded_17 : decode cX3_folded 17 = .ok (.iload_n 1, 1) := dk_27 (dk_at dksX3_folded_0 17 rfl rfl)
theorem dX3_folded_18 : decode cX3_folded 18 = .ok (.if_icmp .ge 44, 3) := dk_162 0 44 (dk_at dksX3_folded_0 18 rfl rfl)
theorem dX3_folded_21 : decode cX3_folded 21 = .ok (.iconst 0, 1) := dk_3 (dk_at dksX3_folded_0 21 rfl rfl)
theorem dX3_folded_22 : decode cX3_folded 22 = .ok (.istore 4, 2) := dk_54 4 (dk_at dksX3_folded_0 22 rfl rfl)
theorem dX3_folded_24 : decode cX3_folded 24 = .ok (.iload 4, 2) := dk_21 4 (dk_at dksX3_folded_1 0 rfl rfl)
theorem dX3_folded_26 : decode cX3_folded 26 = .ok (.bipush 36, 2) := dk_16 36 (dk_at dksX3_folded_1 2 rfl rfl)
theorem dX3_folded_28 : decode cX3_folded 28 = .ok (.if_icmp .ge 28, 3) := dk_162 0 28 (dk_at dksX3_folded_1 4 rfl rfl)
theorem dX3_folded_31 : decode cX3_folded 31 = .ok (.aload_n 2, 1) := dk_44 (dk_at dksX3_folded_1 7 rfl rfl)
theorem dX3_folded_32 : decode cX3_folded 32 = .ok (.iload_n 3, 1) := dk_29 (dk_at dksX3_folded_1 8 rfl rfl)
theorem dX3_folded_33 : decode cX3_folded 33 = .ok (.iload 4, 2) := dk_21 4 (dk_at dksX3_folded_1 9 rfl rfl)
theorem dX3_folded_35 : decode cX3_folded 35 = .ok (.aload_n 0, 1) := dk_42 (dk_at dksX3_folded_1 11 rfl rfl)
theorem dX3_folded_36 : decode cX3_folded 36 = .ok (.getfield 11, 3) := dk_180 0 11 (dk_at dksX3_folded_1 12 rfl rfl)
theorem dX3_folded_39 : decode cX3_folded 39 = .ok (.iload_n 3, 1) := dk_29 (dk_at dksX3_folded_1 15 rfl rfl)
theorem dX3_folded_40 : decode cX3_folded 40 = .ok (.iload_n 1, 1) := dk_27 (dk_at dksX3_folded_1 16 rfl rfl)
theorem dX3_folded_41 : decode cX3_folded 41 = .ok (.iadd, 1) := dk_96 (dk_at dksX3_folded_1 17 rfl rfl)
theorem dX3_folded_42 : decode cX3_folded 42 = .ok (.aaload, 1) := dk_50 (dk_at dksX3_folded_1 18 rfl rfl)
theorem dX3_folded_43 : decode cX3_folded 43 = .ok (.iload 4, 2) := dk_21 4 (dk_at dksX3_folded_1 19 rfl rfl)
theorem dX3_folded_45 : decode cX3_folded 45 = .ok (.iaload, 1) := dk_46 (dk_at dksX3_folded_1 21 rfl rfl)
theorem dX3_folded_46 : decode cX3_folded 46 = .ok (.invokevirtual 46, 3) := dk_182 0 46 (dk_at dksX3_folded_2 0 rfl rfl)
theorem dX3_folded_49 : decode cX3_folded 49 = .ok (.pop, 1) := dk_87 (dk_at dksX3_folded_2 3 rfl rfl)
theorem dX3_folded_50 : decode cX3_folded 50 = .ok (.iinc 4 1, 3) := dk_132 4 1 (dk_at dksX3_folded_2 4 rfl rfl)
theorem dX3_folded_53 : decode cX3_folded 53 = .ok (.goto (-29), 3) := dk_167 255 227 (dk_at dksX3_folded_2 7 rfl rfl)
theorem dX3_folded_56 : decode cX3_folded 56 = .ok (.iinc 3 1, 3) := dk_132 3 1 (dk_at dksX3_folded_2 10 rfl rfl)
theorem dX3_folded_59 : decode cX3_folded 59 = .ok (.goto (-43), 3) := dk_167 255 213 (dk_at dksX3_folded_2 13 rfl rfl)
theorem dX3_folded_62 : decode cX3_folded 62 = .ok (.aload_n 2, 1) := dk_44 (dk_at dksX3_folded_2 16 rfl rfl)
theorem dX3_folded_63 : decode cX3_folded 63 = .ok (.areturn, 1) := dk_176 (dk_at dksX3_folded_2 17 rfl rfl)
abbrev cX3_adds : ByteArray := prog_3_method_4_code
def yX3_adds : MethodName := ⟨RX3, "adds", "(III)I"⟩
def dkwX3_adds_1 : List UInt8 := [180, 0, 11, 27, 50, 28, 46, 172]
abbrev dktX3_adds_1 : List UInt8 := dkwX3_adds_1 ++ []
def dkwX3_adds_0 : List UInt8 := [42, 180, 0, 11, 27, 50, 28, 16, 99, 42, 180, 0, 11, 27, 50, 28, 46, 29, 96, 184, 0, 33, 79, 42]
abbrev dktX3_adds_0 : List UInt8 := dkwX3_adds_0 ++ dktX3_adds_1
theorem dksX3_adds_0 : cX3_adds.data.toList.drop 0 = dktX3_adds_0 := by decide +kernel
theorem dksX3_adds_1 : cX3_adds.data.toList.drop 24 = dktX3_adds_1 := dk_seg dksX3_adds_0 24 rfl rfl
theorem dX3_adds_0 : decode cX3_adds 0 = .ok (.aload_n 0, 1) := dk_42 (dk_at dksX3_adds_0 0 rfl rfl)
theorem dX3_adds_1 : decode cX3_adds 1 = .ok (.getfield 11, 3) := dk_180 0 11 (dk_at dksX3_adds_0 1 rfl rfl)
theorem dX3_adds_4 : decode cX3_adds 4 = .ok (.iload_n 1, 1) := dk_27 (dk_at dksX3_adds_0 4 rfl rfl)
theorem dX3_adds_5 : decode cX3_adds 5 = .ok (.aaload, 1) := dk_50 (dk_at dksX3_adds_0 5 rfl rfl)
theorem dX3_adds_6 : decode cX3_adds 6 = .ok (.iload_n 2, 1) := dk_28 (dk_at dksX3_adds_0 6 rfl rfl)
theorem dX3_adds_7 : decode cX3_adds 7 = .ok (.bipush 99, 2) := dk_16 99 (dk_at dksX3_adds_0 7 rfl rfl)
theorem dX3_adds_9 : decode cX3_adds 9 = .ok (.aload_n 0, 1) := dk_42 (dk_at dksX3_adds_0 9 rfl rfl)
theorem dX3_adds_10 : decode cX3_adds 10 = .ok (.getfield 11, 3) := dk_180 0 11 (dk_at dksX3_adds_0 10 rfl rfl)
theorem dX3_adds_13 : decode cX3_adds 13 = .ok (.iload_n 1, 1) := dk_27 (dk_at dksX3_adds_0 13 rfl rfl)
theorem dX3_adds_14 : decode cX3_adds 14 = .ok (.aaload, 1) := dk_50 (dk_at dksX3_adds_0 14 rfl rfl)
theorem dX3_adds_15 : decode cX3_adds 15 = .ok (.iload_n 2, 1) := dk_28 (dk_at dksX3_adds_0 15 rfl rfl)
theorem dX3_adds_16 : decode cX3_adds 16 = .ok (.iaload, 1) := dk_46 (dk_at dksX3_adds_0 16 rfl rfl)
theorem dX3_adds_17 : decode cX3_adds 17 = .ok (.iload_n 3, 1) := dk_29 (dk_at dksX3_adds_0 17 rfl rfl)
theorem dX3_adds_18 : decode cX3_adds 18 = .ok (.iadd, 1) := dk_96 (dk_at dksX3_adds_0 18 rfl rfl)
theorem dX3_adds_19 : decode cX3_adds 19 = .ok (.invokestatic 33, 3) := dk_184 0 33 (dk_at dksX3_adds_0 19 rfl rfl)
theorem dX3_adds_22 : decode cX3_adds 22 = .ok (.iastore, 1) := dk_79 (dk_at dksX3_adds_0 22 rfl rfl)
theorem dX3_adds_23 : decode cX3_adds 23 = .ok (.aload_n 0, 1) := dk_42 (dk_at dksX3_adds_0 23 rfl rfl)
theorem dX3_adds_24 : decode cX3_adds 24 = .ok (.getfield 11, 3) := dk_180 0 11 (dk_at dksX3_adds_1 0 rfl rfl)
theorem dX3_adds_27 : decode cX3_adds 27 = .ok (.iload_n 1, 1) := dk_27 (dk_at dksX3_adds_1 3 rfl rfl)
theorem dX3_adds_28 : decode cX3_adds 28 = .ok (.aaload, 1) := dk_50 (dk_at dksX3_adds_1 4 rfl rfl)
theorem dX3_adds_29 : decode cX3_adds 29 = .ok (.iload_n 2, 1) := dk_28 (dk_at dksX3_adds_1 5 rfl rfl)
theorem dX3_adds_30 : decode cX3_adds 30 = .ok (.iaload, 1) := dk_46 (dk_at dksX3_adds_1 6 rfl rfl)
theorem dX3_adds_31 : decode cX3_adds 31 = .ok (.ireturn, 1) := dk_172 (dk_at dksX3_adds_1 7 rfl rfl)
abbrev cX3_fades : ByteArray := prog_3_method_9_code
def yX3_fades : MethodName := ⟨RX3, "fades", "(I)V"⟩
def dkwX3_fades_2 : List UInt8 := [16, 100, 108, 79, 132, 6, 1, 167, 255, 228, 132, 4, 1, 167, 255, 207, 177]
abbrev dktX3_fades_2 : List UInt8 := dkwX3_fades_2 ++ []
def dkwX3_fades_1 : List UInt8 := [54, 6, 21, 6, 16, 36, 162, 0, 27, 25, 5, 21, 6, 25, 5, 21, 6, 46, 16, 100, 27, 100, 104]
abbrev dktX3_fades_1 : List UInt8 := dkwX3_fades_1 ++ dktX3_fades_2
def dkwX3_fades_0 : List UInt8 := [42, 180, 0, 11, 77, 44, 190, 62, 3, 54, 4, 21, 4, 29, 162, 0, 49, 44, 21, 4, 50, 58, 5, 3]
abbrev dktX3_fades_0 : List UInt8 := dkwX3_fades_0 ++ dktX3_fades_1
theorem dksX3_fades_0 : cX3_fades.data.toList.drop 0 = dktX3_fades_0 := by decide +kernel
theorem dksX3_fades_1 : cX3_fades.data.toList.drop 24 = dktX3_fades_1 := dk_seg dksX3_fades_0 24 rfl rfl
theorem dksX3_fades_2 : cX3_fades.data.toList.drop 47 = dktX3_fades_2 := dk_seg dksX3_fades_1 23 rfl rfl
theorem dX3_fades_0 : decode cX3_fades 0 = .ok (.aload_n 0, 1) := dk_42 (dk_at dksX3_fades_0 0 rfl rfl)
theorem dX3_fades_1 : decode cX3_fades 1 = .ok (.getfield 11, 3) := dk_180 0 11 (dk_at dksX3_fades_0 1 rfl rfl)
theorem dX3_fades_4 : decode cX3_fades 4 = .ok (.astore_n 2, 1) := dk_77 (dk_at dksX3_fades_0 4 rfl rfl)
theorem dX3_fades_5 : decode cX3_fades 5 = .ok (.aload_n 2, 1) := dk_44 (dk_at dksX3_fades_0 5 rfl rfl)
theorem dX3_fades_6 : decode cX3_fades 6 = .ok (.arraylength, 1) := dk_190 (dk_at dksX3_fades_0 6 rfl rfl)
theorem dX3_fades_7 : decode cX3_fades 7 = .ok (.istore_n 3, 1) := dk_62 (dk_at dksX3_fades_0 7 rfl rfl)
theorem dX3_fades_8 : decode cX3_fades 8 = .ok (.iconst 0, 1) := dk_3 (dk_at dksX3_fades_0 8 rfl rfl)
theorem dX3_fades_9 : decode cX3_fades 9 = .ok (.istore 4, 2) := dk_54 4 (dk_at dksX3_fades_0 9 rfl rfl)
theorem dX3_fades_11 : decode cX3_fades 11 = .ok (.iload 4, 2) := dk_21 4 (dk_at dksX3_fades_0 11 rfl rfl)
theorem dX3_fades_13 : decode cX3_fades 13 = .ok (.iload_n 3, 1) := dk_29 (dk_at dksX3_fades_0 13 rfl rfl)
theorem dX3_fades_14 : decode cX3_fades 14 = .ok (.if_icmp .ge 49, 3) := dk_162 0 49 (dk_at dksX3_fades_0 14 rfl rfl)
theorem dX3_fades_17 : decode cX3_fades 17 = .ok (.aload_n 2, 1) := dk_44 (dk_at dksX3_fades_0 17 rfl rfl)
theorem dX3_fades_18 : decode cX3_fades 18 = .ok (.iload 4, 2) := dk_21 4 (dk_at dksX3_fades_0 18 rfl rfl)
theorem dX3_fades_20 : decode cX3_fades 20 = .ok (.aaload, 1) := dk_50 (dk_at dksX3_fades_0 20 rfl rfl)
theorem dX3_fades_21 : decode cX3_fades 21 = .ok (.astore 5, 2) := dk_58 5 (dk_at dksX3_fades_0 21 rfl rfl)
theorem dX3_fades_23 : decode cX3_fades 23 = .ok (.iconst 0, 1) := dk_3 (dk_at dksX3_fades_0 23 rfl rfl)
theorem dX3_fades_24 : decode cX3_fades 24 = .ok (.istore 6, 2) := dk_54 6 (dk_at dksX3_fades_1 0 rfl rfl)
theorem dX3_fades_26 : decode cX3_fades 26 = .ok (.iload 6, 2) := dk_21 6 (dk_at dksX3_fades_1 2 rfl rfl)
theorem dX3_fades_28 : decode cX3_fades 28 = .ok (.bipush 36, 2) := dk_16 36 (dk_at dksX3_fades_1 4 rfl rfl)
theorem dX3_fades_30 : decode cX3_fades 30 = .ok (.if_icmp .ge 27, 3) := dk_162 0 27 (dk_at dksX3_fades_1 6 rfl rfl)
theorem dX3_fades_33 : decode cX3_fades 33 = .ok (.aload 5, 2) := dk_25 5 (dk_at dksX3_fades_1 9 rfl rfl)
theorem dX3_fades_35 : decode cX3_fades 35 = .ok (.iload 6, 2) := dk_21 6 (dk_at dksX3_fades_1 11 rfl rfl)
theorem dX3_fades_37 : decode cX3_fades 37 = .ok (.aload 5, 2) := dk_25 5 (dk_at dksX3_fades_1 13 rfl rfl)
theorem dX3_fades_39 : decode cX3_fades 39 = .ok (.iload 6, 2) := dk_21 6 (dk_at dksX3_fades_1 15 rfl rfl)
theorem dX3_fades_41 : decode cX3_fades 41 = .ok (.iaload, 1) := dk_46 (dk_at dksX3_fades_1 17 rfl rfl)
theorem dX3_fades_42 : decode cX3_fades 42 = .ok (.bipush 100, 2) := dk_16 100 (dk_at dksX3_fades_1 18 rfl rfl)
theorem dX3_fades_44 : decode cX3_fades 44 = .ok (.iload_n 1, 1) := dk_27 (dk_at dksX3_fades_1 20 rfl rfl)
theorem dX3_fades_45 : decode cX3_fades 45 = .ok (.isub, 1) := dk_100 (dk_at dksX3_fades_1 21 rfl rfl)
theorem dX3_fades_46 : decode cX3_fades 46 = .ok (.imul, 1) := dk_104 (dk_at dksX3_fades_1 22 rfl rfl)
theorem dX3_fades_47 : decode cX3_fades 47 = .ok (.bipush 100, 2) := dk_16 100 (dk_at dksX3_fades_2 0 rfl rfl)
theorem dX3_fades_49 : decode cX3_fades 49 = .ok (.idiv, 1) := dk_108 (dk_at dksX3_fades_2 2 rfl rfl)
theorem dX3_fades_50 : decode cX3_fades 50 = .ok (.iastore, 1) := dk_79 (dk_at dksX3_fades_2 3 rfl rfl)
theorem dX3_fades_51 : decode cX3_fades 51 = .ok (.iinc 6 1, 3) := dk_132 6 1 (dk_at dksX3_fades_2 4 rfl rfl)
theorem dX3_fades_54 : decode cX3_fades 54 = .ok (.goto (-28), 3) := dk_167 255 228 (dk_at dksX3_fades_2 7 rfl rfl)
theorem dX3_fades_57 : decode cX3_fades 57 = .ok (.iinc 4 1, 3) := dk_132 4 1 (dk_at dksX3_fades_2 10 rfl rfl)
theorem dX3_fades_60 : decode cX3_fades 60 = .ok (.goto (-49), 3) := dk_167 255 207 (dk_at dksX3_fades_2 13 rfl rfl)
theorem dX3_fades_63 : decode cX3_fades 63 = .ok (.return_, 1) := dk_177 (dk_at dksX3_fades_2 16 rfl rfl)
abbrev cX3_notes : ByteArray := prog_3_method_6_code
def yX3_notes : MethodName := ⟨RX3, "notes", "()I"⟩
def dkwX3_notes_3 : List UInt8 := [132, 4, 1, 167, 255, 196, 27, 172]
abbrev dktX3_notes_3 : List UInt8 := dkwX3_notes_3 ++ []
def dkwX3_notes_2 : List UInt8 := [21, 8, 46, 54, 9, 27, 21, 9, 158, 0, 7, 4, 167, 0, 4, 3, 96, 60, 132, 8, 1, 167, 255, 226]
abbrev dktX3_notes_2 : List UInt8 := dkwX3_notes_2 ++ dktX3_notes_3
def dkwX3_notes_1 : List UInt8 := [58, 5, 25, 5, 58, 6, 25, 6, 190, 54, 7, 3, 54, 8, 21, 8, 21, 7, 162, 0, 29, 25, 6]
abbrev dktX3_notes_1 : List UInt8 := dkwX3_notes_1 ++ dktX3_notes_2
def dkwX3_notes_0 : List UInt8 := [3, 60, 42, 180, 0, 11, 77, 44, 190, 62, 3, 54, 4, 21, 4, 29, 162, 0, 60, 44, 21, 4, 50]
abbrev dktX3_notes_0 : List UInt8 := dkwX3_notes_0 ++ dktX3_notes_1
theorem dksX3_notes_0 : cX3_notes.data.toList.drop 0 = dktX3_notes_0 := by decide +kernel
theorem dksX3_notes_1 : cX3_notes.data.toList.drop 23 = dktX3_notes_1 := dk_seg dksX3_notes_0 23 rfl rfl
theorem dksX3_notes_2 : cX3_notes.data.toList.drop 46 = dktX3_notes_2 := dk_seg dksX3_notes_1 23 rfl rfl
theorem dksX3_notes_3 : cX3_notes.data.toList.drop 70 = dktX3_notes_3 := dk_seg dksX3_notes_2 24 rfl rfl
theorem dX3_notes_0 : decode cX3_notes 0 = .ok (.iconst 0, 1) := dk_3 (dk_at dksX3_notes_0 0 rfl rfl)
theorem dX3_notes_1 : decode cX3_notes 1 = .ok (.istore_n 1, 1) := dk_60 (dk_at dksX3_notes_0 1 rfl rfl)
theorem dX3_notes_2 : decode cX3_notes 2 = .ok (.aload_n 0, 1) := dk_42 (dk_at dksX3_notes_0 2 rfl rfl)
theorem dX3_notes_3 : decode cX3_notes 3 = .ok (.getfield 11, 3) := dk_180 0 11 (dk_at dksX3_notes_0 3 rfl rfl)
theorem dX3_notes_6 : decode cX3_notes 6 = .ok (.astore_n 2, 1) := dk_77 (dk_at dksX3_notes_0 6 rfl rfl)
theorem dX3_notes_7 : decode cX3_notes 7 = .ok (.aload_n 2, 1) := dk_44 (dk_at dksX3_notes_0 7 rfl rfl)
theorem dX3_notes_8 : decode cX3_notes 8 = .ok (.arraylength, 1) := dk_190 (dk_at dksX3_notes_0 8 rfl rfl)
theorem dX3_notes_9 : decode cX3_notes 9 = .ok (.istore_n 3, 1) := dk_62 (dk_at dksX3_notes_0 9 rfl rfl)
theorem dX3_notes_10 : decode cX3_notes 10 = .ok (.iconst 0, 1) := dk_3 (dk_at dksX3_notes_0 10 rfl rfl)
theorem dX3_notes_11 : decode cX3_notes 11 = .ok (.istore 4, 2) := dk_54 4 (dk_at dksX3_notes_0 11 rfl rfl)
theorem dX3_notes_13 : decode cX3_notes 13 = .ok (.iload 4, 2) := dk_21 4 (dk_at dksX3_notes_0 13 rfl rfl)
theorem dX3_notes_15 : decode cX3_notes 15 = .ok (.iload_n 3, 1) := dk_29 (dk_at dksX3_notes_0 15 rfl rfl)
theorem dX3_notes_16 : decode cX3_notes 16 = .ok (.if_icmp .ge 60, 3) := dk_162 0 60 (dk_at dksX3_notes_0 16 rfl rfl)
theorem dX3_notes_19 : decode cX3_notes 19 = .ok (.aload_n 2, 1) := dk_44 (dk_at dksX3_notes_0 19 rfl rfl)
theorem dX3_notes_20 : decode cX3_notes 20 = .ok (.iload 4, 2) := dk_21 4 (dk_at dksX3_notes_0 20 rfl rfl)
theorem dX3_notes_22 : decode cX3_notes 22 = .ok (.aaload, 1) := dk_50 (dk_at dksX3_notes_0 22 rfl rfl)
theorem dX3_notes_23 : decode cX3_notes 23 = .ok (.astore 5, 2) := dk_58 5 (dk_at dksX3_notes_1 0 rfl rfl)
theorem dX3_notes_25 : decode cX3_notes 25 = .ok (.aload 5, 2) := dk_25 5 (dk_at dksX3_notes_1 2 rfl rfl)
theorem dX3_notes_27 : decode cX3_notes 27 = .ok (.astore 6, 2) := dk_58 6 (dk_at dksX3_notes_1 4 rfl rfl)
theorem dX3_notes_29 : decode cX3_notes 29 = .ok (.aload 6, 2) := dk_25 6 (dk_at dksX3_notes_1 6 rfl rfl)
theorem dX3_notes_31 : decode cX3_notes 31 = .ok (.arraylength, 1) := dk_190 (dk_at dksX3_notes_1 8 rfl rfl)
theorem dX3_notes_32 : decode cX3_notes 32 = .ok (.istore 7, 2) := dk_54 7 (dk_at dksX3_notes_1 9 rfl rfl)
theorem dX3_notes_34 : decode cX3_notes 34 = .ok (.iconst 0, 1) := dk_3 (dk_at dksX3_notes_1 11 rfl rfl)
theorem dX3_notes_35 : decode cX3_notes 35 = .ok (.istore 8, 2) := dk_54 8 (dk_at dksX3_notes_1 12 rfl rfl)
theorem dX3_notes_37 : decode cX3_notes 37 = .ok (.iload 8, 2) := dk_21 8 (dk_at dksX3_notes_1 14 rfl rfl)
theorem dX3_notes_39 : decode cX3_notes 39 = .ok (.iload 7, 2) := dk_21 7 (dk_at dksX3_notes_1 16 rfl rfl)
theorem dX3_notes_41 : decode cX3_notes 41 = .ok (.if_icmp .ge 29, 3) := dk_162 0 29 (dk_at dksX3_notes_1 18 rfl rfl)
theorem dX3_notes_44 : decode cX3_notes 44 = .ok (.aload 6, 2) := dk_25 6 (dk_at dksX3_notes_1 21 rfl rfl)
theorem dX3_notes_46 : decode cX3_notes 46 = .ok (.iload 8, 2) := dk_21 8 (dk_at dksX3_notes_2 0 rfl rfl)
theorem dX3_notes_48 : decode cX3_notes 48 = .ok (.iaload, 1) := dk_46 (dk_at dksX3_notes_2 2 rfl rfl)
theorem dX3_notes_49 : decode cX3_notes 49 = .ok (.istore 9, 2) := dk_54 9 (dk_at dksX3_notes_2 3 rfl rfl)
theorem dX3_notes_51 : decode cX3_notes 51 = .ok (.iload_n 1, 1) := dk_27 (dk_at dksX3_notes_2 5 rfl rfl)
theorem dX3_notes_52 : decode cX3_notes 52 = .ok (.iload 9, 2) := dk_21 9 (dk_at dksX3_notes_2 6 rfl rfl)
theorem dX3_notes_54 : decode cX3_notes 54 = .ok (.ifCond .le 7, 3) := dk_158 0 7 (dk_at dksX3_notes_2 8 rfl rfl)
theorem dX3_notes_57 : decode cX3_notes 57 = .ok (.iconst 1, 1) := dk_4 (dk_at dksX3_notes_2 11 rfl rfl)
theorem dX3_notes_58 : decode cX3_notes 58 = .ok (.goto 4, 3) := dk_167 0 4 (dk_at dksX3_notes_2 12 rfl rfl)
theorem dX3_notes_61 : decode cX3_notes 61 = .ok (.iconst 0, 1) := dk_3 (dk_at dksX3_notes_2 15 rfl rfl)
theorem dX3_notes_62 : decode cX3_notes 62 = .ok (.iadd, 1) := dk_96 (dk_at dksX3_notes_2 16 rfl rfl)
theorem dX3_notes_63 : decode cX3_notes 63 = .ok (.istore_n 1, 1) := dk_60 (dk_at dksX3_notes_2 17 rfl rfl)
theorem dX3_notes_64 : decode cX3_notes 64 = .ok (.iinc 8 1, 3) := dk_132 8 1 (dk_at dksX3_notes_2 18 rfl rfl)
theorem dX3_notes_67 : decode cX3_notes 67 = .ok (.goto (-30), 3) := dk_167 255 226 (dk_at dksX3_notes_2 21 rfl rfl)
theorem dX3_notes_70 : decode cX3_notes 70 = .ok (.iinc 4 1, 3) := dk_132 4 1 (dk_at dksX3_notes_3 0 rfl rfl)
theorem dX3_notes_73 : decode cX3_notes 73 = .ok (.goto (-60), 3) := dk_167 255 196 (dk_at dksX3_notes_3 3 rfl rfl)
theorem dX3_notes_76 : decode cX3_notes 76 = .ok (.iload_n 1, 1) := dk_27 (dk_at dksX3_notes_3 6 rfl rfl)
theorem dX3_notes_77 : decode cX3_notes 77 = .ok (.ireturn, 1) := dk_172 (dk_at dksX3_notes_3 7 rfl rfl)
abbrev cX3_sum : ByteArray := prog_3_method_7_code
def yX3_sum : MethodName := ⟨RX3, "sum", "()I"⟩
def dkwX3_sum_2 : List UInt8 := [21, 8, 46, 54, 9, 27, 21, 9, 96, 60, 132, 8, 1, 167, 255, 234, 132, 4, 1, 167, 255, 204, 27, 172]
abbrev dktX3_sum_2 : List UInt8 := dkwX3_sum_2 ++ []
def dkwX3_sum_1 : List UInt8 := [58, 5, 25, 5, 58, 6, 25, 6, 190, 54, 7, 3, 54, 8, 21, 8, 21, 7, 162, 0, 21, 25, 6]
abbrev dktX3_sum_1 : List UInt8 := dkwX3_sum_1 ++ dktX3_sum_2
def dkwX3_sum_0 : List UInt8 := [3, 60, 42, 180, 0, 11, 77, 44, 190, 62, 3, 54, 4, 21, 4, 29, 162, 0, 52, 44, 21, 4, 50]
abbrev dktX3_sum_0 : List UInt8 := dkwX3_sum_0 ++ dktX3_sum_1
theorem dksX3_sum_0 : cX3_sum.data.toList.drop 0 = dktX3_sum_0 := by decide +kernel
theorem dksX3_sum_1 : cX3_sum.data.toList.drop 23 = dktX3_sum_1 := dk_seg dksX3_sum_0 23 rfl rfl
theorem dksX3_sum_2 : cX3_sum.data.toList.drop 46 = dktX3_sum_2 := dk_seg dksX3_sum_1 23 rfl rfl
theorem dX3_sum_0 : decode cX3_sum 0 = .ok (.iconst 0, 1) := dk_3 (dk_at dksX3_sum_0 0 rfl rfl)
theorem dX3_sum_1 : decode cX3_sum 1 = .ok (.istore_n 1, 1) := dk_60 (dk_at dksX3_sum_0 1 rfl rfl)
theorem dX3_sum_2 : decode cX3_sum 2 = .ok (.aload_n 0, 1) := dk_42 (dk_at dksX3_sum_0 2 rfl rfl)
theorem dX3_sum_3 : decode cX3_sum 3 = .ok (.getfield 11, 3) := dk_180 0 11 (dk_at dksX3_sum_0 3 rfl rfl)
theorem dX3_sum_6 : decode cX3_sum 6 = .ok (.astore_n 2, 1) := dk_77 (dk_at dksX3_sum_0 6 rfl rfl)
theorem dX3_sum_7 : decode cX3_sum 7 = .ok (.aload_n 2, 1) := dk_44 (dk_at dksX3_sum_0 7 rfl rfl)
theorem dX3_sum_8 : decode cX3_sum 8 = .ok (.arraylength, 1) := dk_190 (dk_at dksX3_sum_0 8 rfl rfl)
theorem dX3_sum_9 : decode cX3_sum 9 = .ok (.istore_n 3, 1) := dk_62 (dk_at dksX3_sum_0 9 rfl rfl)
theorem dX3_sum_10 : decode cX3_sum 10 = .ok (.iconst 0, 1) := dk_3 (dk_at dksX3_sum_0 10 rfl rfl)
theorem dX3_sum_11 : decode cX3_sum 11 = .ok (.istore 4, 2) := dk_54 4 (dk_at dksX3_sum_0 11 rfl rfl)
theorem dX3_sum_13 : decode cX3_sum 13 = .ok (.iload 4, 2) := dk_21 4 (dk_at dksX3_sum_0 13 rfl rfl)
theorem dX3_sum_15 : decode cX3_sum 15 = .ok (.iload_n 3, 1) := dk_29 (dk_at dksX3_sum_0 15 rfl rfl)
theorem dX3_sum_16 : decode cX3_sum 16 = .ok (.if_icmp .ge 52, 3) := dk_162 0 52 (dk_at dksX3_sum_0 16 rfl rfl)
theorem dX3_sum_19 : decode cX3_sum 19 = .ok (.aload_n 2, 1) := dk_44 (dk_at dksX3_sum_0 19 rfl rfl)
theorem dX3_sum_20 : decode cX3_sum 20 = .ok (.iload 4, 2) := dk_21 4 (dk_at dksX3_sum_0 20 rfl rfl)
theorem dX3_sum_22 : decode cX3_sum 22 = .ok (.aaload, 1) := dk_50 (dk_at dksX3_sum_0 22 rfl rfl)
theorem dX3_sum_23 : decode cX3_sum 23 = .ok (.astore 5, 2) := dk_58 5 (dk_at dksX3_sum_1 0 rfl rfl)
theorem dX3_sum_25 : decode cX3_sum 25 = .ok (.aload 5, 2) := dk_25 5 (dk_at dksX3_sum_1 2 rfl rfl)
theorem dX3_sum_27 : decode cX3_sum 27 = .ok (.astore 6, 2) := dk_58 6 (dk_at dksX3_sum_1 4 rfl rfl)
theorem dX3_sum_29 : decode cX3_sum 29 = .ok (.aload 6, 2) := dk_25 6 (dk_at dksX3_sum_1 6 rfl rfl)
theorem dX3_sum_31 : decode cX3_sum 31 = .ok (.arraylength, 1) := dk_190 (dk_at dksX3_sum_1 8 rfl rfl)
theorem dX3_sum_32 : decode cX3_sum 32 = .ok (.istore 7, 2) := dk_54 7 (dk_at dksX3_sum_1 9 rfl rfl)
theorem dX3_sum_34 : decode cX3_sum 34 = .ok (.iconst 0, 1) := dk_3 (dk_at dksX3_sum_1 11 rfl rfl)
theorem dX3_sum_35 : decode cX3_sum 35 = .ok (.istore 8, 2) := dk_54 8 (dk_at dksX3_sum_1 12 rfl rfl)
theorem dX3_sum_37 : decode cX3_sum 37 = .ok (.iload 8, 2) := dk_21 8 (dk_at dksX3_sum_1 14 rfl rfl)
theorem dX3_sum_39 : decode cX3_sum 39 = .ok (.iload 7, 2) := dk_21 7 (dk_at dksX3_sum_1 16 rfl rfl)
theorem dX3_sum_41 : decode cX3_sum 41 = .ok (.if_icmp .ge 21, 3) := dk_162 0 21 (dk_at dksX3_sum_1 18 rfl rfl)
theorem dX3_sum_44 : decode cX3_sum 44 = .ok (.aload 6, 2) := dk_25 6 (dk_at dksX3_sum_1 21 rfl rfl)
theorem dX3_sum_46 : decode cX3_sum 46 = .ok (.iload 8, 2) := dk_21 8 (dk_at dksX3_sum_2 0 rfl rfl)
theorem dX3_sum_48 : decode cX3_sum 48 = .ok (.iaload, 1) := dk_46 (dk_at dksX3_sum_2 2 rfl rfl)
theorem dX3_sum_49 : decode cX3_sum 49 = .ok (.istore 9, 2) := dk_54 9 (dk_at dksX3_sum_2 3 rfl rfl)
theorem dX3_sum_51 : decode cX3_sum 51 = .ok (.iload_n 1, 1) := dk_27 (dk_at dksX3_sum_2 5 rfl rfl)
theorem dX3_sum_52 : decode cX3_sum 52 = .ok (.iload 9, 2) := dk_21 9 (dk_at dksX3_sum_2 6 rfl rfl)
theorem dX3_sum_54 : decode cX3_sum 54 = .ok (.iadd, 1) := dk_96 (dk_at dksX3_sum_2 8 rfl rfl)
theorem dX3_sum_55 : decode cX3_sum 55 = .ok (.istore_n 1, 1) := dk_60 (dk_at dksX3_sum_2 9 rfl rfl)
theorem dX3_sum_56 : decode cX3_sum 56 = .ok (.iinc 8 1, 3) := dk_132 8 1 (dk_at dksX3_sum_2 10 rfl rfl)
theorem dX3_sum_59 : decode cX3_sum 59 = .ok (.goto (-22), 3) := dk_167 255 234 (dk_at dksX3_sum_2 13 rfl rfl)
theorem dX3_sum_62 : decode cX3_sum 62 = .ok (.iinc 4 1, 3) := dk_132 4 1 (dk_at dksX3_sum_2 16 rfl rfl)
theorem dX3_sum_65 : decode cX3_sum 65 = .ok (.goto (-52), 3) := dk_167 255 204 (dk_at dksX3_sum_2 19 rfl rfl)
theorem dX3_sum_68 : decode cX3_sum 68 = .ok (.iload_n 1, 1) := dk_27 (dk_at dksX3_sum_2 22 rfl rfl)
theorem dX3_sum_69 : decode cX3_sum 69 = .ok (.ireturn, 1) := dk_172 (dk_at dksX3_sum_2 23 rfl rfl)
abbrev cX3_greatest : ByteArray := prog_3_method_8_code
def yX3_greatest : MethodName := ⟨RX3, "greatest", "()I"⟩
def dkwX3_greatest_3 : List UInt8 := [27, 172]
abbrev dktX3_greatest_3 : List UInt8 := dkwX3_greatest_3 ++ []
def dkwX3_greatest_2 : List UInt8 := [21, 8, 46, 54, 9, 27, 21, 9, 184, 0, 39, 60, 132, 8, 1, 167, 255, 232, 132, 4, 1, 167, 255, 202]
abbrev dktX3_greatest_2 : List UInt8 := dkwX3_greatest_2 ++ dktX3_greatest_3
def dkwX3_greatest_1 : List UInt8 := [58, 5, 25, 5, 58, 6, 25, 6, 190, 54, 7, 3, 54, 8, 21, 8, 21, 7, 162, 0, 23, 25, 6]
abbrev dktX3_greatest_1 : List UInt8 := dkwX3_greatest_1 ++ dktX3_greatest_2
def dkwX3_greatest_0 : List UInt8 := [3, 60, 42, 180, 0, 11, 77, 44, 190, 62, 3, 54, 4, 21, 4, 29, 162, 0, 54, 44, 21, 4, 50]
abbrev dktX3_greatest_0 : List UInt8 := dkwX3_greatest_0 ++ dktX3_greatest_1
theorem dksX3_greatest_0 : cX3_greatest.data.toList.drop 0 = dktX3_greatest_0 := by decide +kernel
theorem dksX3_greatest_1 : cX3_greatest.data.toList.drop 23 = dktX3_greatest_1 := dk_seg dksX3_greatest_0 23 rfl rfl
theorem dksX3_greatest_2 : cX3_greatest.data.toList.drop 46 = dktX3_greatest_2 := dk_seg dksX3_greatest_1 23 rfl rfl
theorem dksX3_greatest_3 : cX3_greatest.data.toList.drop 70 = dktX3_greatest_3 := dk_seg dksX3_greatest_2 24 rfl rfl
theorem dX3_greatest_0 : decode cX3_greatest 0 = .ok (.iconst 0, 1) := dk_3 (dk_at dksX3_greatest_0 0 rfl rfl)
theorem dX3_greatest_1 : decode cX3_greatest 1 = .ok (.istore_n 1, 1) := dk_60 (dk_at dksX3_greatest_0 1 rfl rfl)
theorem dX3_greatest_2 : decode cX3_greatest 2 = .ok (.aload_n 0, 1) := dk_42 (dk_at dksX3_greatest_0 2 rfl rfl)
theorem dX3_greatest_3 : decode cX3_greatest 3 = .ok (.getfield 11, 3) := dk_180 0 11 (dk_at dksX3_greatest_0 3 rfl rfl)
theorem dX3_greatest_6 : decode cX3_greatest 6 = .ok (.astore_n 2, 1) := dk_77 (dk_at dksX3_greatest_0 6 rfl rfl)
theorem dX3_greatest_7 : decode cX3_greatest 7 = .ok (.aload_n 2, 1) := dk_44 (dk_at dksX3_greatest_0 7 rfl rfl)
theorem dX3_greatest_8 : decode cX3_greatest 8 = .ok (.arraylength, 1) := dk_190 (dk_at dksX3_greatest_0 8 rfl rfl)
theorem dX3_greatest_9 : decode cX3_greatest 9 = .ok (.istore_n 3, 1) := dk_62 (dk_at dksX3_greatest_0 9 rfl rfl)
theorem dX3_greatest_10 : decode cX3_greatest 10 = .ok (.iconst 0, 1) := dk_3 (dk_at dksX3_greatest_0 10 rfl rfl)
theorem dX3_greatest_11 : decode cX3_greatest 11 = .ok (.istore 4, 2) := dk_54 4 (dk_at dksX3_greatest_0 11 rfl rfl)
theorem dX3_greatest_13 : decode cX3_greatest 13 = .ok (.iload 4, 2) := dk_21 4 (dk_at dksX3_greatest_0 13 rfl rfl)
theorem dX3_greatest_15 : decode cX3_greatest 15 = .ok (.iload_n 3, 1) := dk_29 (dk_at dksX3_greatest_0 15 rfl rfl)
theorem dX3_greatest_16 : decode cX3_greatest 16 = .ok (.if_icmp .ge 54, 3) := dk_162 0 54 (dk_at dksX3_greatest_0 16 rfl rfl)
theorem dX3_greatest_19 : decode cX3_greatest 19 = .ok (.aload_n 2, 1) := dk_44 (dk_at dksX3_greatest_0 19 rfl rfl)
theorem dX3_greatest_20 : decode cX3_greatest 20 = .ok (.iload 4, 2) := dk_21 4 (dk_at dksX3_greatest_0 20 rfl rfl)
theorem dX3_greatest_22 : decode cX3_greatest 22 = .ok (.aaload, 1) := dk_50 (dk_at dksX3_greatest_0 22 rfl rfl)
theorem dX3_greatest_23 : decode cX3_greatest 23 = .ok (.astore 5, 2) := dk_58 5 (dk_at dksX3_greatest_1 0 rfl rfl)
theorem dX3_greatest_25 : decode cX3_greatest 25 = .ok (.aload 5, 2) := dk_25 5 (dk_at dksX3_greatest_1 2 rfl rfl)
theorem dX3_greatest_27 : decode cX3_greatest 27 = .ok (.astore 6, 2) := dk_58 6 (dk_at dksX3_greatest_1 4 rfl rfl)
theorem dX3_greatest_29 : decode cX3_greatest 29 = .ok (.aload 6, 2) := dk_25 6 (dk_at dksX3_greatest_1 6 rfl rfl)
theorem dX3_greatest_31 : decode cX3_greatest 31 = .ok (.arraylength, 1) := dk_190 (dk_at dksX3_greatest_1 8 rfl rfl)
theorem dX3_greatest_32 : decode cX3_greatest 32 = .ok (.istore 7, 2) := dk_54 7 (dk_at dksX3_greatest_1 9 rfl rfl)
theorem dX3_greatest_34 : decode cX3_greatest 34 = .ok (.iconst 0, 1) := dk_3 (dk_at dksX3_greatest_1 11 rfl rfl)
theorem dX3_greatest_35 : decode cX3_greatest 35 = .ok (.istore 8, 2) := dk_54 8 (dk_at dksX3_greatest_1 12 rfl rfl)
theorem dX3_greatest_37 : decode cX3_greatest 37 = .ok (.iload 8, 2) := dk_21 8 (dk_at dksX3_greatest_1 14 rfl rfl)
theorem dX3_greatest_39 : decode cX3_greatest 39 = .ok (.iload 7, 2) := dk_21 7 (dk_at dksX3_greatest_1 16 rfl rfl)
theorem dX3_greatest_41 : decode cX3_greatest 41 = .ok (.if_icmp .ge 23, 3) := dk_162 0 23 (dk_at dksX3_greatest_1 18 rfl rfl)
theorem dX3_greatest_44 : decode cX3_greatest 44 = .ok (.aload 6, 2) := dk_25 6 (dk_at dksX3_greatest_1 21 rfl rfl)
theorem dX3_greatest_46 : decode cX3_greatest 46 = .ok (.iload 8, 2) := dk_21 8 (dk_at dksX3_greatest_2 0 rfl rfl)
theorem dX3_greatest_48 : decode cX3_greatest 48 = .ok (.iaload, 1) := dk_46 (dk_at dksX3_greatest_2 2 rfl rfl)
theorem dX3_greatest_49 : decode cX3_greatest 49 = .ok (.istore 9, 2) := dk_54 9 (dk_at dksX3_greatest_2 3 rfl rfl)
theorem dX3_greatest_51 : decode cX3_greatest 51 = .ok (.iload_n 1, 1) := dk_27 (dk_at dksX3_greatest_2 5 rfl rfl)
theorem dX3_greatest_52 : decode cX3_greatest 52 = .ok (.iload 9, 2) := dk_21 9 (dk_at dksX3_greatest_2 6 rfl rfl)
theorem dX3_greatest_54 : decode cX3_greatest 54 = .ok (.invokestatic 39, 3) := dk_184 0 39 (dk_at dksX3_greatest_2 8 rfl rfl)
theorem dX3_greatest_57 : decode cX3_greatest 57 = .ok (.istore_n 1, 1) := dk_60 (dk_at dksX3_greatest_2 11 rfl rfl)
theorem dX3_greatest_58 : decode cX3_greatest 58 = .ok (.iinc 8 1, 3) := dk_132 8 1 (dk_at dksX3_greatest_2 12 rfl rfl)
theorem dX3_greatest_61 : decode cX3_greatest 61 = .ok (.goto (-24), 3) := dk_167 255 232 (dk_at dksX3_greatest_2 15 rfl rfl)
theorem dX3_greatest_64 : decode cX3_greatest 64 = .ok (.iinc 4 1, 3) := dk_132 4 1 (dk_at dksX3_greatest_2 18 rfl rfl)
theorem dX3_greatest_67 : decode cX3_greatest 67 = .ok (.goto (-54), 3) := dk_167 255 202 (dk_at dksX3_greatest_2 21 rfl rfl)
theorem dX3_greatest_70 : decode cX3_greatest 70 = .ok (.iload_n 1, 1) := dk_27 (dk_at dksX3_greatest_3 0 rfl rfl)
theorem dX3_greatest_71 : decode cX3_greatest 71 = .ok (.ireturn, 1) := dk_172 (dk_at dksX3_greatest_3 1 rfl rfl)
abbrev cX3_force : ByteArray := prog_3_method_5_code
def yX3_force : MethodName := ⟨RX3, "force", "(II)I"⟩
def dkwX3_force_0 : List UInt8 := [42, 180, 0, 11, 27, 42, 180, 0, 11, 190, 112, 50, 28, 46, 172]
abbrev dktX3_force_0 : List UInt8 := dkwX3_force_0 ++ []
theorem dksX3_force_0 : cX3_force.data.toList.drop 0 = dktX3_force_0 := by decide +kernel
theorem dX3_force_0 : decode cX3_force 0 = .ok (.aload_n 0, 1) := dk_42 (dk_at dksX3_force_0 0 rfl rfl)
theorem dX3_force_1 : decode cX3_force 1 = .ok (.getfield 11, 3) := dk_180 0 11 (dk_at dksX3_force_0 1 rfl rfl)
theorem dX3_force_4 : decode cX3_force 4 = .ok (.iload_n 1, 1) := dk_27 (dk_at dksX3_force_0 4 rfl rfl)
theorem dX3_force_5 : decode cX3_force 5 = .ok (.aload_n 0, 1) := dk_42 (dk_at dksX3_force_0 5 rfl rfl)
theorem dX3_force_6 : decode cX3_force 6 = .ok (.getfield 11, 3) := dk_180 0 11 (dk_at dksX3_force_0 6 rfl rfl)
theorem dX3_force_9 : decode cX3_force 9 = .ok (.arraylength, 1) := dk_190 (dk_at dksX3_force_0 9 rfl rfl)
theorem dX3_force_10 : decode cX3_force 10 = .ok (.irem, 1) := dk_112 (dk_at dksX3_force_0 10 rfl rfl)
theorem dX3_force_11 : decode cX3_force 11 = .ok (.aaload, 1) := dk_50 (dk_at dksX3_force_0 11 rfl rfl)
theorem dX3_force_12 : decode cX3_force 12 = .ok (.iload_n 2, 1) := dk_28 (dk_at dksX3_force_0 12 rfl rfl)
theorem dX3_force_13 : decode cX3_force 13 = .ok (.iaload, 1) := dk_46 (dk_at dksX3_force_0 13 rfl rfl)
theorem dX3_force_14 : decode cX3_force 14 = .ok (.ireturn, 1) := dk_172 (dk_at dksX3_force_0 14 rfl rfl)
theorem q106 : (Jvm.Cond.initialized "PedalLayers$Layer") ∈ lw_all := lw_g (lw_at lw_m1 25 rfl) rfl
theorem q478 : (Jvm.Cond.selects "PedalLayers$Layer" ({ cls := "java/lang/Object", name := "getClass", desc := "()Ljava/lang/Class;" } : Jvm.MethodName) ({ cls := "java/lang/Object", name := "getClass", desc := "()Ljava/lang/Class;" } : Jvm.MethodName)) ∈ lw_all := lw_g (lw_at lw_m2 157 rfl) rfl
theorem q740 : (Jvm.Cond.instanceMethod ({ cls := "PedalLayers$Layer", name := "copy", desc := "()LPedalLayers$Layer;" } : Jvm.MethodName)) ∈ lw_all := lw_g (lw_at lw_m3 179 rfl) rfl
theorem q741 : (Jvm.Cond.selects "PedalLayers$Layer" ({ cls := "PedalLayers$Layer", name := "copy", desc := "()LPedalLayers$Layer;" } : Jvm.MethodName) ({ cls := "PedalLayers$Layer", name := "copy", desc := "()LPedalLayers$Layer;" } : Jvm.MethodName)) ∈ lw_all := lw_g (lw_at lw_m3 180 rfl) rfl
theorem q742 : (Jvm.Cond.code ({ cls := "PedalLayers$Layer", name := "copy", desc := "()LPedalLayers$Layer;" } : Jvm.MethodName) prog_3_method_2_code (3 : Nat) (Option.some (Jvm.ClassFile.FieldType.object "PedalLayers$Layer"))) ∈ lw_all := lw_g (lw_at lw_m3 181 rfl) rfl
theorem q743 : (Jvm.Cond.classLink "PedalLayers$Layer" (12 : Nat) "PedalLayers$Layer") ∈ lw_all := lw_g (lw_at lw_m3 182 rfl) rfl
theorem q744 : (Jvm.Cond.instantiable "PedalLayers$Layer" (3 : Nat)) ∈ lw_all := lw_g (lw_at lw_m3 183 rfl) rfl
theorem q745 : (Jvm.Cond.methodLink "PedalLayers$Layer" (16 : Nat) ({ cls := "PedalLayers$Layer", name := "<init>", desc := "(I)V" } : Jvm.MethodName)) ∈ lw_all := lw_g (lw_at lw_m3 184 rfl) rfl
theorem q746 : (Jvm.Cond.instanceMethod ({ cls := "PedalLayers$Layer", name := "<init>", desc := "(I)V" } : Jvm.MethodName)) ∈ lw_all := lw_g (lw_at lw_m3 185 rfl) rfl
theorem q747 : (Jvm.Cond.code ({ cls := "PedalLayers$Layer", name := "<init>", desc := "(I)V" } : Jvm.MethodName) prog_3_method_1_code (2 : Nat) (Option.none : Option Jvm.ClassFile.FieldType)) ∈ lw_all := lw_g (lw_at lw_m3 186 rfl) rfl
theorem q748 : (Jvm.Cond.methodLink "PedalLayers$Layer" (3 : Nat) ({ cls := "java/lang/Object", name := "<init>", desc := "()V" } : Jvm.MethodName)) ∈ lw_all := lw_g (lw_at lw_m3 187 rfl) rfl
theorem q749 : (Jvm.Cond.classLink "PedalLayers$Layer" (9 : Nat) "[[I") ∈ lw_all := lw_g (lw_at lw_m3 188 rfl) rfl
theorem q751 : (Jvm.Cond.fieldLink "PedalLayers$Layer" (11 : Nat) "PedalLayers$Layer" "forces" "[[I") ∈ lw_all := lw_g (lw_at lw_m3 190 rfl) rfl
theorem q753 : (Jvm.Cond.fieldLink "PedalLayers$Layer" (25 : Nat) "PedalLayers$Layer" "isMuted" "Z") ∈ lw_all := lw_g (lw_at lw_m3 192 rfl) rfl
theorem q756 : (Jvm.Cond.fieldLink "PedalLayers$Layer" (29 : Nat) "PedalLayers$Layer" "passes" "I") ∈ lw_all := lw_g (lw_at lw_m3 195 rfl) rfl
theorem q759 : (Jvm.Cond.lays "PedalLayers$Layer" "PedalLayers$Layer" "forces" "[[I") ∈ lw_all := lw_g (lw_at lw_m3 198 rfl) rfl
theorem q760 : (Jvm.Cond.soleField "PedalLayers$Layer" "forces") ∈ lw_all := lw_g (lw_at lw_m3 199 rfl) rfl
theorem q761 : (Jvm.Cond.lays "PedalLayers$Layer" "PedalLayers$Layer" "isMuted" "Z") ∈ lw_all := lw_g (lw_at lw_m3 200 rfl) rfl
theorem q762 : (Jvm.Cond.soleField "PedalLayers$Layer" "isMuted") ∈ lw_all := lw_g (lw_at lw_m3 201 rfl) rfl
theorem q763 : (Jvm.Cond.lays "PedalLayers$Layer" "PedalLayers$Layer" "passes" "I") ∈ lw_all := lw_g (lw_at lw_m3 202 rfl) rfl
theorem q764 : (Jvm.Cond.soleField "PedalLayers$Layer" "passes") ∈ lw_all := lw_g (lw_at lw_m3 203 rfl) rfl
theorem q765 : (Jvm.Cond.superclass "PedalLayers$Layer" "java/lang/Object") ∈ lw_all := lw_g (lw_at lw_m3 204 rfl) rfl
theorem q766 : (Jvm.Cond.classLink "PedalLayers$Layer" (19 : Nat) "[I") ∈ lw_all := lw_g (lw_at lw_m3 205 rfl) rfl
theorem q767 : (Jvm.Cond.methodLink "PedalLayers$Layer" (21 : Nat) ({ cls := "[I", name := "clone", desc := "()Ljava/lang/Object;" } : Jvm.MethodName)) ∈ lw_all := lw_g (lw_at lw_m3 206 rfl) rfl
theorem q956 : (Jvm.Cond.instanceMethod ({ cls := "PedalLayers$Layer", name := "ofLength", desc := "(I)LPedalLayers$Layer;" } : Jvm.MethodName)) ∈ lw_all := lw_g (lw_at lw_m4 155 rfl) rfl
theorem q957 : (Jvm.Cond.selects "PedalLayers$Layer" ({ cls := "PedalLayers$Layer", name := "ofLength", desc := "(I)LPedalLayers$Layer;" } : Jvm.MethodName) ({ cls := "PedalLayers$Layer", name := "ofLength", desc := "(I)LPedalLayers$Layer;" } : Jvm.MethodName)) ∈ lw_all := lw_g (lw_at lw_m4 156 rfl) rfl
theorem q958 : (Jvm.Cond.code ({ cls := "PedalLayers$Layer", name := "ofLength", desc := "(I)LPedalLayers$Layer;" } : Jvm.MethodName) prog_3_method_10_code (4 : Nat) (Option.some (Jvm.ClassFile.FieldType.object "PedalLayers$Layer"))) ∈ lw_all := lw_g (lw_at lw_m4 157 rfl) rfl
theorem q959 : (Jvm.Cond.methodLink "PedalLayers$Layer" (33 : Nat) ({ cls := "java/lang/Math", name := "min", desc := "(II)I" } : Jvm.MethodName)) ∈ lw_all := lw_g (lw_at lw_m4 158 rfl) rfl
theorem q1003 : (Jvm.Cond.instanceMethod ({ cls := "PedalLayers$Layer", name := "length", desc := "()I" } : Jvm.MethodName)) ∈ lw_all := lw_g (lw_at lw_m4 202 rfl) rfl
theorem q1004 : (Jvm.Cond.selects "PedalLayers$Layer" ({ cls := "PedalLayers$Layer", name := "length", desc := "()I" } : Jvm.MethodName) ({ cls := "PedalLayers$Layer", name := "length", desc := "()I" } : Jvm.MethodName)) ∈ lw_all := lw_g (lw_at lw_m4 203 rfl) rfl
theorem q1005 : (Jvm.Cond.code ({ cls := "PedalLayers$Layer", name := "length", desc := "()I" } : Jvm.MethodName) prog_3_method_3_code (1 : Nat) (Option.some Jvm.ClassFile.FieldType.int)) ∈ lw_all := lw_g (lw_at lw_m4 204 rfl) rfl
theorem q1020 : (Jvm.Cond.instanceMethod ({ cls := "PedalLayers$Layer", name := "folded", desc := "()LPedalLayers$Layer;" } : Jvm.MethodName)) ∈ lw_all := lw_g (lw_at lw_m4 219 rfl) rfl
theorem q1021 : (Jvm.Cond.selects "PedalLayers$Layer" ({ cls := "PedalLayers$Layer", name := "folded", desc := "()LPedalLayers$Layer;" } : Jvm.MethodName) ({ cls := "PedalLayers$Layer", name := "folded", desc := "()LPedalLayers$Layer;" } : Jvm.MethodName)) ∈ lw_all := lw_g (lw_at lw_m4 220 rfl) rfl
theorem q1022 : (Jvm.Cond.code ({ cls := "PedalLayers$Layer", name := "folded", desc := "()LPedalLayers$Layer;" } : Jvm.MethodName) prog_3_method_11_code (5 : Nat) (Option.some (Jvm.ClassFile.FieldType.object "PedalLayers$Layer"))) ∈ lw_all := lw_g (lw_at lw_m4 221 rfl) rfl
theorem q1023 : (Jvm.Cond.methodLink "PedalLayers$Layer" (42 : Nat) ({ cls := "PedalLayers$Layer", name := "ofLength", desc := "(I)LPedalLayers$Layer;" } : Jvm.MethodName)) ∈ lw_all := lw_g (lw_at lw_m4 222 rfl) rfl
theorem q1024 : (Jvm.Cond.methodLink "PedalLayers$Layer" (46 : Nat) ({ cls := "PedalLayers$Layer", name := "adds", desc := "(III)I" } : Jvm.MethodName)) ∈ lw_all := lw_g (lw_at lw_m4 223 rfl) rfl
theorem q1025 : (Jvm.Cond.instanceMethod ({ cls := "PedalLayers$Layer", name := "adds", desc := "(III)I" } : Jvm.MethodName)) ∈ lw_all := lw_g (lw_at lw_m4 224 rfl) rfl
theorem q1026 : (Jvm.Cond.selects "PedalLayers$Layer" ({ cls := "PedalLayers$Layer", name := "adds", desc := "(III)I" } : Jvm.MethodName) ({ cls := "PedalLayers$Layer", name := "adds", desc := "(III)I" } : Jvm.MethodName)) ∈ lw_all := lw_g (lw_at lw_m4 225 rfl) rfl
theorem q1027 : (Jvm.Cond.code ({ cls := "PedalLayers$Layer", name := "adds", desc := "(III)I" } : Jvm.MethodName) prog_3_method_4_code (4 : Nat) (Option.some Jvm.ClassFile.FieldType.int)) ∈ lw_all := lw_g (lw_at lw_m4 226 rfl) rfl
theorem q1113 : (Jvm.Cond.instanceMethod ({ cls := "PedalLayers$Layer", name := "fades", desc := "(I)V" } : Jvm.MethodName)) ∈ lw_all := lw_g (lw_at lw_m5 72 rfl) rfl
theorem q1114 : (Jvm.Cond.selects "PedalLayers$Layer" ({ cls := "PedalLayers$Layer", name := "fades", desc := "(I)V" } : Jvm.MethodName) ({ cls := "PedalLayers$Layer", name := "fades", desc := "(I)V" } : Jvm.MethodName)) ∈ lw_all := lw_g (lw_at lw_m5 73 rfl) rfl
theorem q1115 : (Jvm.Cond.code ({ cls := "PedalLayers$Layer", name := "fades", desc := "(I)V" } : Jvm.MethodName) prog_3_method_9_code (7 : Nat) (Option.none : Option Jvm.ClassFile.FieldType)) ∈ lw_all := lw_g (lw_at lw_m5 74 rfl) rfl
theorem q1434 : (Jvm.Cond.instanceMethod ({ cls := "PedalLayers$Layer", name := "notes", desc := "()I" } : Jvm.MethodName)) ∈ lw_all := lw_g (lw_at lw_m6 153 rfl) rfl
theorem q1435 : (Jvm.Cond.selects "PedalLayers$Layer" ({ cls := "PedalLayers$Layer", name := "notes", desc := "()I" } : Jvm.MethodName) ({ cls := "PedalLayers$Layer", name := "notes", desc := "()I" } : Jvm.MethodName)) ∈ lw_all := lw_g (lw_at lw_m6 154 rfl) rfl
theorem q1436 : (Jvm.Cond.code ({ cls := "PedalLayers$Layer", name := "notes", desc := "()I" } : Jvm.MethodName) prog_3_method_6_code (10 : Nat) (Option.some Jvm.ClassFile.FieldType.int)) ∈ lw_all := lw_g (lw_at lw_m6 155 rfl) rfl
theorem q1438 : (Jvm.Cond.instanceMethod ({ cls := "PedalLayers$Layer", name := "sum", desc := "()I" } : Jvm.MethodName)) ∈ lw_all := lw_g (lw_at lw_m6 157 rfl) rfl
theorem q1439 : (Jvm.Cond.selects "PedalLayers$Layer" ({ cls := "PedalLayers$Layer", name := "sum", desc := "()I" } : Jvm.MethodName) ({ cls := "PedalLayers$Layer", name := "sum", desc := "()I" } : Jvm.MethodName)) ∈ lw_all := lw_g (lw_at lw_m6 158 rfl) rfl
theorem q1440 : (Jvm.Cond.code ({ cls := "PedalLayers$Layer", name := "sum", desc := "()I" } : Jvm.MethodName) prog_3_method_7_code (10 : Nat) (Option.some Jvm.ClassFile.FieldType.int)) ∈ lw_all := lw_g (lw_at lw_m6 159 rfl) rfl
theorem q1442 : (Jvm.Cond.instanceMethod ({ cls := "PedalLayers$Layer", name := "greatest", desc := "()I" } : Jvm.MethodName)) ∈ lw_all := lw_g (lw_at lw_m6 161 rfl) rfl
theorem q1443 : (Jvm.Cond.selects "PedalLayers$Layer" ({ cls := "PedalLayers$Layer", name := "greatest", desc := "()I" } : Jvm.MethodName) ({ cls := "PedalLayers$Layer", name := "greatest", desc := "()I" } : Jvm.MethodName)) ∈ lw_all := lw_g (lw_at lw_m6 162 rfl) rfl
theorem q1444 : (Jvm.Cond.code ({ cls := "PedalLayers$Layer", name := "greatest", desc := "()I" } : Jvm.MethodName) prog_3_method_8_code (10 : Nat) (Option.some Jvm.ClassFile.FieldType.int)) ∈ lw_all := lw_g (lw_at lw_m6 163 rfl) rfl
theorem q1445 : (Jvm.Cond.methodLink "PedalLayers$Layer" (39 : Nat) ({ cls := "java/lang/Math", name := "max", desc := "(II)I" } : Jvm.MethodName)) ∈ lw_all := lw_g (lw_at lw_m6 164 rfl) rfl
theorem q1468 : (Jvm.Cond.instanceMethod ({ cls := "PedalLayers$Layer", name := "force", desc := "(II)I" } : Jvm.MethodName)) ∈ lw_all := lw_g (lw_at lw_m6 187 rfl) rfl
theorem q1469 : (Jvm.Cond.selects "PedalLayers$Layer" ({ cls := "PedalLayers$Layer", name := "force", desc := "(II)I" } : Jvm.MethodName) ({ cls := "PedalLayers$Layer", name := "force", desc := "(II)I" } : Jvm.MethodName)) ∈ lw_all := lw_g (lw_at lw_m6 188 rfl) rfl
theorem q1470 : (Jvm.Cond.code ({ cls := "PedalLayers$Layer", name := "force", desc := "(II)I" } : Jvm.MethodName) prog_3_method_5_code (3 : Nat) (Option.some Jvm.ClassFile.FieldType.int)) ∈ lw_all := lw_g (lw_at lw_m6 189 rfl) rfl
theorem q2005 : (Jvm.Cond.castable "PedalLayers$Layer" "java/lang/Object") ∈ lw_tbl := lw_at lw_m9 4 rfl
theorem in_X3 : ∀ w ∈ wsX30, w ∈ lw_all := lw_in wsX30 [759, 761, 763] (by decide +kernel) (by decide +kernel)
/-! PedalLayers$Refused -/
set_option maxRecDepth 100000
def RX4 : String := "PedalLayers$Refused"
abbrev cX4_init : ByteArray := prog_8_method_1_code
def yX4_init : MethodName := ⟨RX4, "<init>", "(I)V"⟩
def dkwX4_init_0 : List UInt8 := [42, 183, 0, 1, 42, 27, 181, 0, 7, 177]
abbrev dktX4_init_0 : List UInt8 := dkwX4_init_0 ++ []
theorem dksX4_init_0 : cX4_init.data.toList.drop 0 = dktX4_init_0 := by decide +kernel
theorem dX4_init_0 : decode cX4_init 0 = .ok (.aload_n 0, 1) := dk_42 (dk_at dksX4_init_0 0 rfl rfl)
theorem dX4_init_1 : decode cX4_init 1 = .ok (.invokespecial 1, 3) := dk_183 0 1 (dk_at dksX4_init_0 1 rfl rfl)
theorem dX4_init_4 : decode cX4_init 4 = .ok (.aload_n 0, 1) := dk_42 (dk_at dksX4_init_0 4 rfl rfl)
theorem dX4_init_5 : decode cX4_init 5 = .ok (.iload_n 1, 1) := dk_27 (dk_at dksX4_init_0 5 rfl rfl)
theorem dX4_init_6 : decode cX4_init 6 = .ok (.putfield 7, 3) := dk_181 0 7 (dk_at dksX4_init_0 6 rfl rfl)
theorem dX4_init_9 : decode cX4_init 9 = .ok (.return_, 1) := dk_177 (dk_at dksX4_init_0 9 rfl rfl)
theorem q112 : (Jvm.Cond.initialized "PedalLayers$Refused") ∈ lw_all := lw_g (lw_at lw_m1 31 rfl) rfl
theorem q925 : (Jvm.Cond.instanceMethod ({ cls := "PedalLayers$Refused", name := "<init>", desc := "(I)V" } : Jvm.MethodName)) ∈ lw_all := lw_g (lw_at lw_m4 124 rfl) rfl
theorem q926 : (Jvm.Cond.code ({ cls := "PedalLayers$Refused", name := "<init>", desc := "(I)V" } : Jvm.MethodName) prog_8_method_1_code (2 : Nat) (Option.none : Option Jvm.ClassFile.FieldType)) ∈ lw_all := lw_g (lw_at lw_m4 125 rfl) rfl
theorem q927 : (Jvm.Cond.methodLink "PedalLayers$Refused" (1 : Nat) ({ cls := "java/lang/Exception", name := "<init>", desc := "()V" } : Jvm.MethodName)) ∈ lw_all := lw_g (lw_at lw_m4 126 rfl) rfl
theorem q931 : (Jvm.Cond.fieldLink "PedalLayers$Refused" (7 : Nat) "PedalLayers$Refused" "error" "I") ∈ lw_all := lw_g (lw_at lw_m4 130 rfl) rfl
theorem q935 : (Jvm.Cond.soleField "PedalLayers$Refused" "error") ∈ lw_all := lw_g (lw_at lw_m4 134 rfl) rfl
/-! PedalLayers$Impossible -/
set_option maxRecDepth 100000
def RX5 : String := "PedalLayers$Impossible"
def TX5 : u_T := fun k => match k with
  | 0 => ("PedalLayers$Refused", "error", "I", true)
  | 1 => ("java/lang/Throwable", "cause", "Ljava/lang/Throwable;", false)
  | 2 => ("java/lang/Throwable", "stackTrace", "[Ljava/lang/StackTraceElement;", false)
  | 3 => ("java/lang/Throwable", "suppressedExceptions", "Ljava/util/List;", false)
  | 4 => ("java/lang/Throwable", "detailMessage", "Ljava/lang/String;", false)
  | 5 => ("java/lang/Throwable", "backtrace", "Ljava/lang/Object;", false)
  | _ => ("java/lang/Throwable", "depth", "I", false)
def tyX5 : Nat → FieldType := fun k => match k with
  | 0 => .int
  | 1 => .object "java/lang/Throwable"
  | 2 => .array (.object "java/lang/StackTraceElement")
  | 3 => .object "java/util/List"
  | 4 => .object "java/lang/String"
  | 5 => .object "java/lang/Object"
  | _ => .int
abbrev wsX50 : List Cond := u_ws RX5 TX5 7
theorem nmX5 : ∀ a, a < 7 → ∀ b, b < 7 → a ≠ b → (TX5 a).2.1 ≠ (TX5 b).2.1 := by decide +kernel
theorem tyX5_ok : ∀ k, k < 7 → parseFieldDescriptor (TX5 k).2.2.1 = some (tyX5 k) := by decide +kernel
abbrev cX5_init : ByteArray := prog_2_method_1_code
def yX5_init : MethodName := ⟨RX5, "<init>", "()V"⟩
def dkwX5_init_0 : List UInt8 := [42, 16, 254, 183, 0, 3, 177]
abbrev dktX5_init_0 : List UInt8 := dkwX5_init_0 ++ []
theorem dksX5_init_0 : cX5_init.data.toList.drop 0 = dktX5_init_0 := by decide +kernel
theorem dX5_init_0 : decode cX5_init 0 = .ok (.aload_n 0, 1) := dk_42 (dk_at dksX5_init_0 0 rfl rfl)
theorem dX5_init_1 : decode cX5_init 1 = .ok (.bipush (-2), 2) := dk_16 254 (dk_at dksX5_init_0 1 rfl rfl)
theorem dX5_init_3 : decode cX5_init 3 = .ok (.invokespecial 3, 3) := dk_183 0 3 (dk_at dksX5_init_0 3 rfl rfl)
theorem dX5_init_6 : decode cX5_init 6 = .ok (.return_, 1) := dk_177 (dk_at dksX5_init_0 6 rfl rfl)
theorem q113 : (Jvm.Cond.initialized "PedalLayers$Impossible") ∈ lw_all := lw_g (lw_at lw_m1 32 rfl) rfl
theorem q440 : (Jvm.Cond.selects "PedalLayers$Impossible" ({ cls := "java/lang/Throwable", name := "fillInStackTrace", desc := "()Ljava/lang/Throwable;" } : Jvm.MethodName) ({ cls := "java/lang/Throwable", name := "fillInStackTrace", desc := "()Ljava/lang/Throwable;" } : Jvm.MethodName)) ∈ lw_all := lw_g (lw_at lw_m2 119 rfl) rfl
theorem q466 : (Jvm.Cond.selects "PedalLayers$Impossible" ({ cls := "java/lang/Throwable", name := "toString", desc := "()Ljava/lang/String;" } : Jvm.MethodName) ({ cls := "java/lang/Throwable", name := "toString", desc := "()Ljava/lang/String;" } : Jvm.MethodName)) ∈ lw_all := lw_g (lw_at lw_m2 145 rfl) rfl
theorem q477 : (Jvm.Cond.selects "PedalLayers$Impossible" ({ cls := "java/lang/Object", name := "getClass", desc := "()Ljava/lang/Class;" } : Jvm.MethodName) ({ cls := "java/lang/Object", name := "getClass", desc := "()Ljava/lang/Class;" } : Jvm.MethodName)) ∈ lw_all := lw_g (lw_at lw_m2 156 rfl) rfl
theorem q502 : (Jvm.Cond.selects "PedalLayers$Impossible" ({ cls := "java/lang/Throwable", name := "getLocalizedMessage", desc := "()Ljava/lang/String;" } : Jvm.MethodName) ({ cls := "java/lang/Throwable", name := "getLocalizedMessage", desc := "()Ljava/lang/String;" } : Jvm.MethodName)) ∈ lw_all := lw_g (lw_at lw_m2 181 rfl) rfl
theorem q512 : (Jvm.Cond.selects "PedalLayers$Impossible" ({ cls := "java/lang/Throwable", name := "getMessage", desc := "()Ljava/lang/String;" } : Jvm.MethodName) ({ cls := "java/lang/Throwable", name := "getMessage", desc := "()Ljava/lang/String;" } : Jvm.MethodName)) ∈ lw_all := lw_g (lw_at lw_m2 191 rfl) rfl
theorem q913 : (Jvm.Cond.instantiable "PedalLayers$Impossible" (7 : Nat)) ∈ lw_all := lw_g (lw_at lw_m4 112 rfl) rfl
theorem q914 : (Jvm.Cond.castable "PedalLayers$Impossible" "PedalLayers$Impossible") ∈ lw_tbl := lw_at lw_m4 113 rfl
theorem q915 : (Jvm.Cond.selects "PedalLayers$Impossible" ({ cls := "java/lang/Throwable", name := "fillInStackTrace", desc := "(I)Ljava/lang/Throwable;" } : Jvm.MethodName) ({ cls := "java/lang/Throwable", name := "fillInStackTrace", desc := "(I)Ljava/lang/Throwable;" } : Jvm.MethodName)) ∈ lw_all := lw_g (lw_at lw_m4 114 rfl) rfl
theorem q916 : (Jvm.Cond.lays "PedalLayers$Impossible" "java/lang/Throwable" "cause" "Ljava/lang/Throwable;") ∈ lw_all := lw_g (lw_at lw_m4 115 rfl) rfl
theorem q917 : (Jvm.Cond.lays "PedalLayers$Impossible" "java/lang/Throwable" "stackTrace" "[Ljava/lang/StackTraceElement;") ∈ lw_all := lw_g (lw_at lw_m4 116 rfl) rfl
theorem q918 : (Jvm.Cond.lays "PedalLayers$Impossible" "java/lang/Throwable" "suppressedExceptions" "Ljava/util/List;") ∈ lw_all := lw_g (lw_at lw_m4 117 rfl) rfl
theorem q919 : (Jvm.Cond.lays "PedalLayers$Impossible" "java/lang/Throwable" "detailMessage" "Ljava/lang/String;") ∈ lw_all := lw_g (lw_at lw_m4 118 rfl) rfl
theorem q920 : (Jvm.Cond.lays "PedalLayers$Impossible" "java/lang/Throwable" "backtrace" "Ljava/lang/Object;") ∈ lw_all := lw_g (lw_at lw_m4 119 rfl) rfl
theorem q922 : (Jvm.Cond.instanceMethod ({ cls := "PedalLayers$Impossible", name := "<init>", desc := "()V" } : Jvm.MethodName)) ∈ lw_all := lw_g (lw_at lw_m4 121 rfl) rfl
theorem q923 : (Jvm.Cond.code ({ cls := "PedalLayers$Impossible", name := "<init>", desc := "()V" } : Jvm.MethodName) prog_2_method_1_code (1 : Nat) (Option.none : Option Jvm.ClassFile.FieldType)) ∈ lw_all := lw_g (lw_at lw_m4 122 rfl) rfl
theorem q924 : (Jvm.Cond.methodLink "PedalLayers$Impossible" (3 : Nat) ({ cls := "PedalLayers$Refused", name := "<init>", desc := "(I)V" } : Jvm.MethodName)) ∈ lw_all := lw_g (lw_at lw_m4 123 rfl) rfl
theorem q934 : (Jvm.Cond.laysFinal "PedalLayers$Impossible" "PedalLayers$Refused" "error" "I") ∈ lw_all := lw_g (lw_at lw_m4 133 rfl) rfl
theorem q936 : (Jvm.Cond.lays "PedalLayers$Impossible" "java/lang/Throwable" "depth" "I") ∈ lw_all := lw_g (lw_at lw_m4 135 rfl) rfl
theorem q937 : (Jvm.Cond.superclass "PedalLayers$Impossible" "PedalLayers$Refused") ∈ lw_all := lw_g (lw_at lw_m4 136 rfl) rfl
theorem q1995 : (Jvm.Cond.castable "PedalLayers$Impossible" "PedalLayers$Refused") ∈ lw_tbl := lw_at lw_m8 234 rfl
theorem q2012 : (Jvm.Cond.castable "PedalLayers$Impossible" "java/lang/Object") ∈ lw_tbl := lw_at lw_m9 11 rfl
theorem in_X5 : ∀ w ∈ wsX50, w ∈ lw_all := lw_in wsX50 [934, 916, 917, 918, 919, 920, 936] (by decide +kernel) (by decide +kernel)
/-! PedalLayers$Limited -/
set_option maxRecDepth 100000
def RX6 : String := "PedalLayers$Limited"
def TX6 : u_T := fun k => match k with
  | 0 => ("PedalLayers$Refused", "error", "I", true)
  | 1 => ("java/lang/Throwable", "cause", "Ljava/lang/Throwable;", false)
  | 2 => ("java/lang/Throwable", "stackTrace", "[Ljava/lang/StackTraceElement;", false)
  | 3 => ("java/lang/Throwable", "suppressedExceptions", "Ljava/util/List;", false)
  | 4 => ("java/lang/Throwable", "detailMessage", "Ljava/lang/String;", false)
  | 5 => ("java/lang/Throwable", "backtrace", "Ljava/lang/Object;", false)
  | _ => ("java/lang/Throwable", "depth", "I", false)
def tyX6 : Nat → FieldType := fun k => match k with
  | 0 => .int
  | 1 => .object "java/lang/Throwable"
  | 2 => .array (.object "java/lang/StackTraceElement")
  | 3 => .object "java/util/List"
  | 4 => .object "java/lang/String"
  | 5 => .object "java/lang/Object"
  | _ => .int
abbrev wsX60 : List Cond := u_ws RX6 TX6 7
theorem nmX6 : ∀ a, a < 7 → ∀ b, b < 7 → a ≠ b → (TX6 a).2.1 ≠ (TX6 b).2.1 := by decide +kernel
theorem tyX6_ok : ∀ k, k < 7 → parseFieldDescriptor (TX6 k).2.2.1 = some (tyX6 k) := by decide +kernel
abbrev cX6_init : ByteArray := prog_4_method_1_code
def yX6_init : MethodName := ⟨RX6, "<init>", "()V"⟩
def dkwX6_init_0 : List UInt8 := [42, 16, 253, 183, 0, 3, 177]
abbrev dktX6_init_0 : List UInt8 := dkwX6_init_0 ++ []
theorem dksX6_init_0 : cX6_init.data.toList.drop 0 = dktX6_init_0 := by decide +kernel
theorem dX6_init_0 : decode cX6_init 0 = .ok (.aload_n 0, 1) := dk_42 (dk_at dksX6_init_0 0 rfl rfl)
theorem dX6_init_1 : decode cX6_init 1 = .ok (.bipush (-3), 2) := dk_16 253 (dk_at dksX6_init_0 1 rfl rfl)
theorem dX6_init_3 : decode cX6_init 3 = .ok (.invokespecial 3, 3) := dk_183 0 3 (dk_at dksX6_init_0 3 rfl rfl)
theorem dX6_init_6 : decode cX6_init 6 = .ok (.return_, 1) := dk_177 (dk_at dksX6_init_0 6 rfl rfl)
theorem q114 : (Jvm.Cond.initialized "PedalLayers$Limited") ∈ lw_all := lw_g (lw_at lw_m1 33 rfl) rfl
theorem q441 : (Jvm.Cond.selects "PedalLayers$Limited" ({ cls := "java/lang/Throwable", name := "fillInStackTrace", desc := "()Ljava/lang/Throwable;" } : Jvm.MethodName) ({ cls := "java/lang/Throwable", name := "fillInStackTrace", desc := "()Ljava/lang/Throwable;" } : Jvm.MethodName)) ∈ lw_all := lw_g (lw_at lw_m2 120 rfl) rfl
theorem q467 : (Jvm.Cond.selects "PedalLayers$Limited" ({ cls := "java/lang/Throwable", name := "toString", desc := "()Ljava/lang/String;" } : Jvm.MethodName) ({ cls := "java/lang/Throwable", name := "toString", desc := "()Ljava/lang/String;" } : Jvm.MethodName)) ∈ lw_all := lw_g (lw_at lw_m2 146 rfl) rfl
theorem q479 : (Jvm.Cond.selects "PedalLayers$Limited" ({ cls := "java/lang/Object", name := "getClass", desc := "()Ljava/lang/Class;" } : Jvm.MethodName) ({ cls := "java/lang/Object", name := "getClass", desc := "()Ljava/lang/Class;" } : Jvm.MethodName)) ∈ lw_all := lw_g (lw_at lw_m2 158 rfl) rfl
theorem q503 : (Jvm.Cond.selects "PedalLayers$Limited" ({ cls := "java/lang/Throwable", name := "getLocalizedMessage", desc := "()Ljava/lang/String;" } : Jvm.MethodName) ({ cls := "java/lang/Throwable", name := "getLocalizedMessage", desc := "()Ljava/lang/String;" } : Jvm.MethodName)) ∈ lw_all := lw_g (lw_at lw_m2 182 rfl) rfl
theorem q513 : (Jvm.Cond.selects "PedalLayers$Limited" ({ cls := "java/lang/Throwable", name := "getMessage", desc := "()Ljava/lang/String;" } : Jvm.MethodName) ({ cls := "java/lang/Throwable", name := "getMessage", desc := "()Ljava/lang/String;" } : Jvm.MethodName)) ∈ lw_all := lw_g (lw_at lw_m2 192 rfl) rfl
theorem q978 : (Jvm.Cond.instantiable "PedalLayers$Limited" (7 : Nat)) ∈ lw_all := lw_g (lw_at lw_m4 177 rfl) rfl
theorem q979 : (Jvm.Cond.castable "PedalLayers$Limited" "PedalLayers$Limited") ∈ lw_tbl := lw_at lw_m4 178 rfl
theorem q980 : (Jvm.Cond.selects "PedalLayers$Limited" ({ cls := "java/lang/Throwable", name := "fillInStackTrace", desc := "(I)Ljava/lang/Throwable;" } : Jvm.MethodName) ({ cls := "java/lang/Throwable", name := "fillInStackTrace", desc := "(I)Ljava/lang/Throwable;" } : Jvm.MethodName)) ∈ lw_all := lw_g (lw_at lw_m4 179 rfl) rfl
theorem q981 : (Jvm.Cond.lays "PedalLayers$Limited" "java/lang/Throwable" "cause" "Ljava/lang/Throwable;") ∈ lw_all := lw_g (lw_at lw_m4 180 rfl) rfl
theorem q982 : (Jvm.Cond.lays "PedalLayers$Limited" "java/lang/Throwable" "stackTrace" "[Ljava/lang/StackTraceElement;") ∈ lw_all := lw_g (lw_at lw_m4 181 rfl) rfl
theorem q983 : (Jvm.Cond.lays "PedalLayers$Limited" "java/lang/Throwable" "suppressedExceptions" "Ljava/util/List;") ∈ lw_all := lw_g (lw_at lw_m4 182 rfl) rfl
theorem q984 : (Jvm.Cond.lays "PedalLayers$Limited" "java/lang/Throwable" "detailMessage" "Ljava/lang/String;") ∈ lw_all := lw_g (lw_at lw_m4 183 rfl) rfl
theorem q985 : (Jvm.Cond.lays "PedalLayers$Limited" "java/lang/Throwable" "backtrace" "Ljava/lang/Object;") ∈ lw_all := lw_g (lw_at lw_m4 184 rfl) rfl
theorem q987 : (Jvm.Cond.instanceMethod ({ cls := "PedalLayers$Limited", name := "<init>", desc := "()V" } : Jvm.MethodName)) ∈ lw_all := lw_g (lw_at lw_m4 186 rfl) rfl
theorem q988 : (Jvm.Cond.code ({ cls := "PedalLayers$Limited", name := "<init>", desc := "()V" } : Jvm.MethodName) prog_4_method_1_code (1 : Nat) (Option.none : Option Jvm.ClassFile.FieldType)) ∈ lw_all := lw_g (lw_at lw_m4 187 rfl) rfl
theorem q989 : (Jvm.Cond.methodLink "PedalLayers$Limited" (3 : Nat) ({ cls := "PedalLayers$Refused", name := "<init>", desc := "(I)V" } : Jvm.MethodName)) ∈ lw_all := lw_g (lw_at lw_m4 188 rfl) rfl
theorem q990 : (Jvm.Cond.laysFinal "PedalLayers$Limited" "PedalLayers$Refused" "error" "I") ∈ lw_all := lw_g (lw_at lw_m4 189 rfl) rfl
theorem q991 : (Jvm.Cond.lays "PedalLayers$Limited" "java/lang/Throwable" "depth" "I") ∈ lw_all := lw_g (lw_at lw_m4 190 rfl) rfl
theorem q992 : (Jvm.Cond.superclass "PedalLayers$Limited" "PedalLayers$Refused") ∈ lw_all := lw_g (lw_at lw_m4 191 rfl) rfl
theorem q1996 : (Jvm.Cond.castable "PedalLayers$Limited" "PedalLayers$Refused") ∈ lw_tbl := lw_at lw_m8 235 rfl
theorem q2013 : (Jvm.Cond.castable "PedalLayers$Limited" "java/lang/Object") ∈ lw_tbl := lw_at lw_m9 12 rfl
theorem in_X6 : ∀ w ∈ wsX60, w ∈ lw_all := lw_in wsX60 [990, 981, 982, 983, 984, 985, 991] (by decide +kernel) (by decide +kernel)
/-! PedalLayers$Wrong -/
set_option maxRecDepth 100000
def RX7 : String := "PedalLayers$Wrong"
def TX7 : u_T := fun k => match k with
  | 0 => ("PedalLayers$Refused", "error", "I", true)
  | 1 => ("java/lang/Throwable", "cause", "Ljava/lang/Throwable;", false)
  | 2 => ("java/lang/Throwable", "stackTrace", "[Ljava/lang/StackTraceElement;", false)
  | 3 => ("java/lang/Throwable", "suppressedExceptions", "Ljava/util/List;", false)
  | 4 => ("java/lang/Throwable", "detailMessage", "Ljava/lang/String;", false)
  | 5 => ("java/lang/Throwable", "backtrace", "Ljava/lang/Object;", false)
  | _ => ("java/lang/Throwable", "depth", "I", false)
def tyX7 : Nat → FieldType := fun k => match k with
  | 0 => .int
  | 1 => .object "java/lang/Throwable"
  | 2 => .array (.object "java/lang/StackTraceElement")
  | 3 => .object "java/util/List"
  | 4 => .object "java/lang/String"
  | 5 => .object "java/lang/Object"
  | _ => .int
abbrev wsX70 : List Cond := u_ws RX7 TX7 7
theorem nmX7 : ∀ a, a < 7 → ∀ b, b < 7 → a ≠ b → (TX7 a).2.1 ≠ (TX7 b).2.1 := by decide +kernel
theorem tyX7_ok : ∀ k, k < 7 → parseFieldDescriptor (TX7 k).2.2.1 = some (tyX7 k) := by decide +kernel
abbrev cX7_init : ByteArray := prog_11_method_1_code
def yX7_init : MethodName := ⟨RX7, "<init>", "()V"⟩
def dkwX7_init_0 : List UInt8 := [42, 2, 183, 0, 3, 177]
abbrev dktX7_init_0 : List UInt8 := dkwX7_init_0 ++ []
theorem dksX7_init_0 : cX7_init.data.toList.drop 0 = dktX7_init_0 := by decide +kernel
theorem dX7_init_0 : decode cX7_init 0 = .ok (.aload_n 0, 1) := dk_42 (dk_at dksX7_init_0 0 rfl rfl)
theorem dX7_init_1 : decode cX7_init 1 = .ok (.iconst (-1), 1) := dk_2 (dk_at dksX7_init_0 1 rfl rfl)
theorem dX7_init_2 : decode cX7_init 2 = .ok (.invokespecial 3, 3) := dk_183 0 3 (dk_at dksX7_init_0 2 rfl rfl)
theorem dX7_init_5 : decode cX7_init 5 = .ok (.return_, 1) := dk_177 (dk_at dksX7_init_0 5 rfl rfl)
theorem q115 : (Jvm.Cond.initialized "PedalLayers$Wrong") ∈ lw_all := lw_g (lw_at lw_m1 34 rfl) rfl
theorem q444 : (Jvm.Cond.selects "PedalLayers$Wrong" ({ cls := "java/lang/Throwable", name := "fillInStackTrace", desc := "()Ljava/lang/Throwable;" } : Jvm.MethodName) ({ cls := "java/lang/Throwable", name := "fillInStackTrace", desc := "()Ljava/lang/Throwable;" } : Jvm.MethodName)) ∈ lw_all := lw_g (lw_at lw_m2 123 rfl) rfl
theorem q470 : (Jvm.Cond.selects "PedalLayers$Wrong" ({ cls := "java/lang/Throwable", name := "toString", desc := "()Ljava/lang/String;" } : Jvm.MethodName) ({ cls := "java/lang/Throwable", name := "toString", desc := "()Ljava/lang/String;" } : Jvm.MethodName)) ∈ lw_all := lw_g (lw_at lw_m2 149 rfl) rfl
theorem q485 : (Jvm.Cond.selects "PedalLayers$Wrong" ({ cls := "java/lang/Object", name := "getClass", desc := "()Ljava/lang/Class;" } : Jvm.MethodName) ({ cls := "java/lang/Object", name := "getClass", desc := "()Ljava/lang/Class;" } : Jvm.MethodName)) ∈ lw_all := lw_g (lw_at lw_m2 164 rfl) rfl
theorem q506 : (Jvm.Cond.selects "PedalLayers$Wrong" ({ cls := "java/lang/Throwable", name := "getLocalizedMessage", desc := "()Ljava/lang/String;" } : Jvm.MethodName) ({ cls := "java/lang/Throwable", name := "getLocalizedMessage", desc := "()Ljava/lang/String;" } : Jvm.MethodName)) ∈ lw_all := lw_g (lw_at lw_m2 185 rfl) rfl
theorem q516 : (Jvm.Cond.selects "PedalLayers$Wrong" ({ cls := "java/lang/Throwable", name := "getMessage", desc := "()Ljava/lang/String;" } : Jvm.MethodName) ({ cls := "java/lang/Throwable", name := "getMessage", desc := "()Ljava/lang/String;" } : Jvm.MethodName)) ∈ lw_all := lw_g (lw_at lw_m2 195 rfl) rfl
theorem q1080 : (Jvm.Cond.instantiable "PedalLayers$Wrong" (7 : Nat)) ∈ lw_all := lw_g (lw_at lw_m5 39 rfl) rfl
theorem q1081 : (Jvm.Cond.castable "PedalLayers$Wrong" "PedalLayers$Wrong") ∈ lw_tbl := lw_at lw_m5 40 rfl
theorem q1082 : (Jvm.Cond.selects "PedalLayers$Wrong" ({ cls := "java/lang/Throwable", name := "fillInStackTrace", desc := "(I)Ljava/lang/Throwable;" } : Jvm.MethodName) ({ cls := "java/lang/Throwable", name := "fillInStackTrace", desc := "(I)Ljava/lang/Throwable;" } : Jvm.MethodName)) ∈ lw_all := lw_g (lw_at lw_m5 41 rfl) rfl
theorem q1083 : (Jvm.Cond.lays "PedalLayers$Wrong" "java/lang/Throwable" "cause" "Ljava/lang/Throwable;") ∈ lw_all := lw_g (lw_at lw_m5 42 rfl) rfl
theorem q1084 : (Jvm.Cond.lays "PedalLayers$Wrong" "java/lang/Throwable" "stackTrace" "[Ljava/lang/StackTraceElement;") ∈ lw_all := lw_g (lw_at lw_m5 43 rfl) rfl
theorem q1085 : (Jvm.Cond.lays "PedalLayers$Wrong" "java/lang/Throwable" "suppressedExceptions" "Ljava/util/List;") ∈ lw_all := lw_g (lw_at lw_m5 44 rfl) rfl
theorem q1086 : (Jvm.Cond.lays "PedalLayers$Wrong" "java/lang/Throwable" "detailMessage" "Ljava/lang/String;") ∈ lw_all := lw_g (lw_at lw_m5 45 rfl) rfl
theorem q1087 : (Jvm.Cond.lays "PedalLayers$Wrong" "java/lang/Throwable" "backtrace" "Ljava/lang/Object;") ∈ lw_all := lw_g (lw_at lw_m5 46 rfl) rfl
theorem q1089 : (Jvm.Cond.instanceMethod ({ cls := "PedalLayers$Wrong", name := "<init>", desc := "()V" } : Jvm.MethodName)) ∈ lw_all := lw_g (lw_at lw_m5 48 rfl) rfl
theorem q1090 : (Jvm.Cond.code ({ cls := "PedalLayers$Wrong", name := "<init>", desc := "()V" } : Jvm.MethodName) prog_11_method_1_code (1 : Nat) (Option.none : Option Jvm.ClassFile.FieldType)) ∈ lw_all := lw_g (lw_at lw_m5 49 rfl) rfl
theorem q1091 : (Jvm.Cond.methodLink "PedalLayers$Wrong" (3 : Nat) ({ cls := "PedalLayers$Refused", name := "<init>", desc := "(I)V" } : Jvm.MethodName)) ∈ lw_all := lw_g (lw_at lw_m5 50 rfl) rfl
theorem q1092 : (Jvm.Cond.laysFinal "PedalLayers$Wrong" "PedalLayers$Refused" "error" "I") ∈ lw_all := lw_g (lw_at lw_m5 51 rfl) rfl
theorem q1093 : (Jvm.Cond.lays "PedalLayers$Wrong" "java/lang/Throwable" "depth" "I") ∈ lw_all := lw_g (lw_at lw_m5 52 rfl) rfl
theorem q1094 : (Jvm.Cond.superclass "PedalLayers$Wrong" "PedalLayers$Refused") ∈ lw_all := lw_g (lw_at lw_m5 53 rfl) rfl
theorem q1997 : (Jvm.Cond.castable "PedalLayers$Wrong" "PedalLayers$Refused") ∈ lw_tbl := lw_at lw_m8 236 rfl
theorem q2014 : (Jvm.Cond.castable "PedalLayers$Wrong" "java/lang/Object") ∈ lw_tbl := lw_at lw_m9 13 rfl
theorem in_X7 : ∀ w ∈ wsX70, w ∈ lw_all := lw_in wsX70 [1092, 1083, 1084, 1085, 1086, 1087, 1093] (by decide +kernel) (by decide +kernel)
/-! PedalLayers$Reader -/
set_option maxRecDepth 100000
def RX8 : String := "PedalLayers$Reader"
def TX8 : u_T := fun k => match k with
  | 0 => ("PedalLayers$Reader", "text", "Ljava/lang/StringBuilder;", true)
  | _ => ("PedalLayers$Reader", "at", "I", false)
def tyX8 : Nat → FieldType := fun k => match k with
  | 0 => .object "java/lang/StringBuilder"
  | _ => .int
abbrev wsX80 : List Cond := u_ws RX8 TX8 2
theorem nmX8 : ∀ a, a < 2 → ∀ b, b < 2 → a ≠ b → (TX8 a).2.1 ≠ (TX8 b).2.1 := by decide +kernel
theorem tyX8_ok : ∀ k, k < 2 → parseFieldDescriptor (TX8 k).2.2.1 = some (tyX8 k) := by decide +kernel
abbrev cX8_init : ByteArray := prog_7_method_1_code
def yX8_init : MethodName := ⟨RX8, "<init>", "(Ljava/lang/StringBuilder;)V"⟩
def dkwX8_init_0 : List UInt8 := [42, 183, 0, 3, 42, 43, 181, 0, 9, 177]
abbrev dktX8_init_0 : List UInt8 := dkwX8_init_0 ++ []
theorem dksX8_init_0 : cX8_init.data.toList.drop 0 = dktX8_init_0 := by decide +kernel
theorem dX8_init_0 : decode cX8_init 0 = .ok (.aload_n 0, 1) := dk_42 (dk_at dksX8_init_0 0 rfl rfl)
theorem dX8_init_1 : decode cX8_init 1 = .ok (.invokespecial 3, 3) := dk_183 0 3 (dk_at dksX8_init_0 1 rfl rfl)
theorem dX8_init_4 : decode cX8_init 4 = .ok (.aload_n 0, 1) := dk_42 (dk_at dksX8_init_0 4 rfl rfl)
theorem dX8_init_5 : decode cX8_init 5 = .ok (.aload_n 1, 1) := dk_43 (dk_at dksX8_init_0 5 rfl rfl)
theorem dX8_init_6 : decode cX8_init 6 = .ok (.putfield 9, 3) := dk_181 0 9 (dk_at dksX8_init_0 6 rfl rfl)
theorem dX8_init_9 : decode cX8_init 9 = .ok (.return_, 1) := dk_177 (dk_at dksX8_init_0 9 rfl rfl)
abbrev cX8_orders : ByteArray := prog_7_method_6_code
def yX8_orders : MethodName := ⟨RX8, "orders", "()Ljava/util/ArrayList;"⟩
def dkwX8_orders_1 : List UInt8 := [180, 0, 9, 182, 0, 19, 161, 255, 236, 43, 176]
abbrev dktX8_orders_1 : List UInt8 := dkwX8_orders_1 ++ []
def dkwX8_orders_0 : List UInt8 := [187, 0, 57, 89, 183, 0, 59, 76, 43, 42, 182, 0, 60, 182, 0, 64, 87, 42, 180, 0, 15, 42]
abbrev dktX8_orders_0 : List UInt8 := dkwX8_orders_0 ++ dktX8_orders_1
theorem dksX8_orders_0 : cX8_orders.data.toList.drop 0 = dktX8_orders_0 := by decide +kernel
theorem dksX8_orders_1 : cX8_orders.data.toList.drop 22 = dktX8_orders_1 := dk_seg dksX8_orders_0 22 rfl rfl
theorem dX8_orders_0 : decode cX8_orders 0 = .ok (.new 57, 3) := dk_187 0 57 (dk_at dksX8_orders_0 0 rfl rfl)
theorem dX8_orders_3 : decode cX8_orders 3 = .ok (.dup, 1) := dk_89 (dk_at dksX8_orders_0 3 rfl rfl)
theorem dX8_orders_4 : decode cX8_orders 4 = .ok (.invokespecial 59, 3) := dk_183 0 59 (dk_at dksX8_orders_0 4 rfl rfl)
theorem dX8_orders_7 : decode cX8_orders 7 = .ok (.astore_n 1, 1) := dk_76 (dk_at dksX8_orders_0 7 rfl rfl)
theorem dX8_orders_8 : decode cX8_orders 8 = .ok (.aload_n 1, 1) := dk_43 (dk_at dksX8_orders_0 8 rfl rfl)
theorem dX8_orders_9 : decode cX8_orders 9 = .ok (.aload_n 0, 1) := dk_42 (dk_at dksX8_orders_0 9 rfl rfl)
theorem dX8_orders_10 : decode cX8_orders 10 = .ok (.invokevirtual 60, 3) := dk_182 0 60 (dk_at dksX8_orders_0 10 rfl rfl)
theorem dX8_orders_13 : decode cX8_orders 13 = .ok (.invokevirtual 64, 3) := dk_182 0 64 (dk_at dksX8_orders_0 13 rfl rfl)
theorem dX8_orders_16 : decode cX8_orders 16 = .ok (.pop, 1) := dk_87 (dk_at dksX8_orders_0 16 rfl rfl)
theorem dX8_orders_17 : decode cX8_orders 17 = .ok (.aload_n 0, 1) := dk_42 (dk_at dksX8_orders_0 17 rfl rfl)
theorem dX8_orders_18 : decode cX8_orders 18 = .ok (.getfield 15, 3) := dk_180 0 15 (dk_at dksX8_orders_0 18 rfl rfl)
theorem dX8_orders_21 : decode cX8_orders 21 = .ok (.aload_n 0, 1) := dk_42 (dk_at dksX8_orders_0 21 rfl rfl)
theorem dX8_orders_22 : decode cX8_orders 22 = .ok (.getfield 9, 3) := dk_180 0 9 (dk_at dksX8_orders_1 0 rfl rfl)
theorem dX8_orders_25 : decode cX8_orders 25 = .ok (.invokevirtual 19, 3) := dk_182 0 19 (dk_at dksX8_orders_1 3 rfl rfl)
theorem dX8_orders_28 : decode cX8_orders 28 = .ok (.if_icmp .lt (-20), 3) := dk_161 255 236 (dk_at dksX8_orders_1 6 rfl rfl)
theorem dX8_orders_31 : decode cX8_orders 31 = .ok (.aload_n 1, 1) := dk_43 (dk_at dksX8_orders_1 9 rfl rfl)
theorem dX8_orders_32 : decode cX8_orders 32 = .ok (.areturn, 1) := dk_176 (dk_at dksX8_orders_1 10 rfl rfl)
abbrev cX8_order : ByteArray := prog_7_method_5_code
def yX8_order : MethodName := ⟨RX8, "order", "()LPedalLayers$Order;"⟩
def dkwX8_order_7 : List UInt8 := [187, 0, 29, 89, 42, 180, 0, 15, 183, 0, 31, 191, 44, 176]
abbrev dktX8_order_7 : List UInt8 := dkwX8_order_7 ++ []
def dkwX8_order_6 : List UInt8 := [89, 180, 0, 15, 4, 96, 181, 0, 15, 44, 42, 4, 16, 99, 182, 0, 47, 181, 0, 51, 167, 0, 15]
abbrev dktX8_order_6 : List UInt8 := dkwX8_order_6 ++ dktX8_order_7
def dkwX8_order_5 : List UInt8 := [180, 0, 15, 4, 96, 181, 0, 15, 44, 42, 3, 17, 3, 231, 182, 0, 47, 181, 0, 54, 167, 0, 39, 42]
abbrev dktX8_order_5 : List UInt8 := dkwX8_order_5 ++ dktX8_order_6
def dkwX8_order_4 : List UInt8 := [42, 3, 16, 99, 182, 0, 47, 181, 0, 51, 42, 42, 16, 46, 16, 46, 182, 0, 34, 182, 0, 38, 42, 89]
abbrev dktX8_order_4 : List UInt8 := dkwX8_order_4 ++ dktX8_order_5
def dkwX8_order_3 : List UInt8 := [42, 89, 180, 0, 15, 4, 96, 181, 0, 15, 167, 0, 97, 42, 89, 180, 0, 15, 4, 96, 181, 0, 15, 44]
abbrev dktX8_order_3 : List UInt8 := dkwX8_order_3 ++ dktX8_order_4
def dkwX8_order_2 : List UInt8 := [170, 0, 0, 0, 0, 0, 182, 0, 0, 0, 104, 0, 0, 0, 121, 0, 0, 0, 100, 0, 0, 0, 182, 0, 0, 0, 182, 0, 0, 0, 182, 0, 0, 0, 182, 0, 0, 0, 182, 0, 0, 0, 182, 0, 0, 0, 182, 0, 0, 0, 87, 0, 0, 0, 182, 0, 0, 0, 182, 0, 0, 0, 87, 0, 0, 0, 158, 0, 0, 0, 182, 0, 0, 0, 87, 0, 0, 0, 182, 0, 0, 0, 87, 0, 0, 0, 87]
abbrev dktX8_order_2 : List UInt8 := dkwX8_order_2 ++ dktX8_order_3
def dkwX8_order_1 : List UInt8 := [182, 0, 25, 167, 0, 5, 16, 32, 60, 187, 0, 42, 89, 27, 42, 180, 0, 15, 183, 0, 44, 77, 27]
abbrev dktX8_order_1 : List UInt8 := dkwX8_order_1 ++ dktX8_order_2
def dkwX8_order_0 : List UInt8 := [42, 180, 0, 15, 42, 180, 0, 9, 182, 0, 19, 162, 0, 17, 42, 180, 0, 9, 42, 180, 0, 15]
abbrev dktX8_order_0 : List UInt8 := dkwX8_order_0 ++ dktX8_order_1
theorem dksX8_order_0 : cX8_order.data.toList.drop 0 = dktX8_order_0 := by decide +kernel
theorem dksX8_order_1 : cX8_order.data.toList.drop 22 = dktX8_order_1 := dk_seg dksX8_order_0 22 rfl rfl
theorem dksX8_order_2 : cX8_order.data.toList.drop 45 = dktX8_order_2 := dk_seg dksX8_order_1 23 rfl rfl
theorem dksX8_order_3 : cX8_order.data.toList.drop 132 = dktX8_order_3 := dk_seg dksX8_order_2 87 rfl rfl
theorem dksX8_order_4 : cX8_order.data.toList.drop 156 = dktX8_order_4 := dk_seg dksX8_order_3 24 rfl rfl
theorem dksX8_order_5 : cX8_order.data.toList.drop 180 = dktX8_order_5 := dk_seg dksX8_order_4 24 rfl rfl
theorem dksX8_order_6 : cX8_order.data.toList.drop 204 = dktX8_order_6 := dk_seg dksX8_order_5 24 rfl rfl
theorem dksX8_order_7 : cX8_order.data.toList.drop 227 = dktX8_order_7 := dk_seg dksX8_order_6 23 rfl rfl
theorem dX8_order_0 : decode cX8_order 0 = .ok (.aload_n 0, 1) := dk_42 (dk_at dksX8_order_0 0 rfl rfl)
theorem dX8_order_1 : decode cX8_order 1 = .ok (.getfield 15, 3) := dk_180 0 15 (dk_at dksX8_order_0 1 rfl rfl)
theorem dX8_order_4 : decode cX8_order 4 = .ok (.aload_n 0, 1) := dk_42 (dk_at dksX8_order_0 4 rfl rfl)
theorem dX8_order_5 : decode cX8_order 5 = .ok (.getfield 9, 3) := dk_180 0 9 (dk_at dksX8_order_0 5 rfl rfl)
theorem dX8_order_8 : decode cX8_order 8 = .ok (.invokevirtual 19, 3) := dk_182 0 19 (dk_at dksX8_order_0 8 rfl rfl)
theorem dX8_order_11 : decode cX8_order 11 = .ok (.if_icmp .ge 17, 3) := dk_162 0 17 (dk_at dksX8_order_0 11 rfl rfl)
theorem dX8_order_14 : decode cX8_order 14 = .ok (.aload_n 0, 1) := dk_42 (dk_at dksX8_order_0 14 rfl rfl)
theorem dX8_order_15 : decode cX8_order 15 = .ok (.getfield 9, 3) := dk_180 0 9 (dk_at dksX8_order_0 15 rfl rfl)
theorem dX8_order_18 : decode cX8_order 18 = .ok (.aload_n 0, 1) := dk_42 (dk_at dksX8_order_0 18 rfl rfl)
theorem dX8_order_19 : decode cX8_order 19 = .ok (.getfield 15, 3) := dk_180 0 15 (dk_at dksX8_order_0 19 rfl rfl)
theorem dX8_order_22 : decode cX8_order 22 = .ok (.invokevirtual 25, 3) := dk_182 0 25 (dk_at dksX8_order_1 0 rfl rfl)
theorem dX8_order_25 : decode cX8_order 25 = .ok (.goto 5, 3) := dk_167 0 5 (dk_at dksX8_order_1 3 rfl rfl)
theorem dX8_order_28 : decode cX8_order 28 = .ok (.bipush 32, 2) := dk_16 32 (dk_at dksX8_order_1 6 rfl rfl)
theorem dX8_order_30 : decode cX8_order 30 = .ok (.istore_n 1, 1) := dk_60 (dk_at dksX8_order_1 8 rfl rfl)
theorem dX8_order_31 : decode cX8_order 31 = .ok (.new 42, 3) := dk_187 0 42 (dk_at dksX8_order_1 9 rfl rfl)
theorem dX8_order_34 : decode cX8_order 34 = .ok (.dup, 1) := dk_89 (dk_at dksX8_order_1 12 rfl rfl)
theorem dX8_order_35 : decode cX8_order 35 = .ok (.iload_n 1, 1) := dk_27 (dk_at dksX8_order_1 13 rfl rfl)
theorem dX8_order_36 : decode cX8_order 36 = .ok (.aload_n 0, 1) := dk_42 (dk_at dksX8_order_1 14 rfl rfl)
theorem dX8_order_37 : decode cX8_order 37 = .ok (.getfield 15, 3) := dk_180 0 15 (dk_at dksX8_order_1 15 rfl rfl)
theorem dX8_order_40 : decode cX8_order 40 = .ok (.invokespecial 44, 3) := dk_183 0 44 (dk_at dksX8_order_1 18 rfl rfl)
theorem dX8_order_43 : decode cX8_order 43 = .ok (.astore_n 2, 1) := dk_77 (dk_at dksX8_order_1 21 rfl rfl)
theorem dX8_order_44 : decode cX8_order 44 = .ok (.iload_n 1, 1) := dk_27 (dk_at dksX8_order_1 22 rfl rfl)
theorem dX8_order_45 : decode cX8_order 45 = .ok (.tableswitch 182 104 121 #[100, 182, 182, 182, 182, 182, 182, 182, 87, 182, 182, 87, 158, 182, 87, 182, 87, 87], 87) := by decide +kernel
theorem dX8_order_132 : decode cX8_order 132 = .ok (.aload_n 0, 1) := dk_42 (dk_at dksX8_order_3 0 rfl rfl)
theorem dX8_order_133 : decode cX8_order 133 = .ok (.dup, 1) := dk_89 (dk_at dksX8_order_3 1 rfl rfl)
theorem dX8_order_134 : decode cX8_order 134 = .ok (.getfield 15, 3) := dk_180 0 15 (dk_at dksX8_order_3 2 rfl rfl)
theorem dX8_order_137 : decode cX8_order 137 = .ok (.iconst 1, 1) := dk_4 (dk_at dksX8_order_3 5 rfl rfl)
theorem dX8_order_138 : decode cX8_order 138 = .ok (.iadd, 1) := dk_96 (dk_at dksX8_order_3 6 rfl rfl)
theorem dX8_order_139 : decode cX8_order 139 = .ok (.putfield 15, 3) := dk_181 0 15 (dk_at dksX8_order_3 7 rfl rfl)
theorem dX8_order_142 : decode cX8_order 142 = .ok (.goto 97, 3) := dk_167 0 97 (dk_at dksX8_order_3 10 rfl rfl)
theorem dX8_order_145 : decode cX8_order 145 = .ok (.aload_n 0, 1) := dk_42 (dk_at dksX8_order_3 13 rfl rfl)
theorem dX8_order_146 : decode cX8_order 146 = .ok (.dup, 1) := dk_89 (dk_at dksX8_order_3 14 rfl rfl)
theorem dX8_order_147 : decode cX8_order 147 = .ok (.getfield 15, 3) := dk_180 0 15 (dk_at dksX8_order_3 15 rfl rfl)
theorem dX8_order_150 : decode cX8_order 150 = .ok (.iconst 1, 1) := dk_4 (dk_at dksX8_order_3 18 rfl rfl)
theorem dX8_order_151 : decode cX8_order 151 = .ok (.iadd, 1) := dk_96 (dk_at dksX8_order_3 19 rfl rfl)
theorem dX8_order_152 : decode cX8_order 152 = .ok (.putfield 15, 3) := dk_181 0 15 (dk_at dksX8_order_3 20 rfl rfl)
theorem dX8_order_155 : decode cX8_order 155 = .ok (.aload_n 2, 1) := dk_44 (dk_at dksX8_order_3 23 rfl rfl)
theorem dX8_order_156 : decode cX8_order 156 = .ok (.aload_n 0, 1) := dk_42 (dk_at dksX8_order_4 0 rfl rfl)
theorem dX8_order_157 : decode cX8_order 157 = .ok (.iconst 0, 1) := dk_3 (dk_at dksX8_order_4 1 rfl rfl)
theorem dX8_order_158 : decode cX8_order 158 = .ok (.bipush 99, 2) := dk_16 99 (dk_at dksX8_order_4 2 rfl rfl)
theorem dX8_order_160 : decode cX8_order 160 = .ok (.invokevirtual 47, 3) := dk_182 0 47 (dk_at dksX8_order_4 4 rfl rfl)
theorem dX8_order_163 : decode cX8_order 163 = .ok (.putfield 51, 3) := dk_181 0 51 (dk_at dksX8_order_4 7 rfl rfl)
theorem dX8_order_166 : decode cX8_order 166 = .ok (.aload_n 0, 1) := dk_42 (dk_at dksX8_order_4 10 rfl rfl)
theorem dX8_order_167 : decode cX8_order 167 = .ok (.aload_n 0, 1) := dk_42 (dk_at dksX8_order_4 11 rfl rfl)
theorem dX8_order_168 : decode cX8_order 168 = .ok (.bipush 46, 2) := dk_16 46 (dk_at dksX8_order_4 12 rfl rfl)
theorem dX8_order_170 : decode cX8_order 170 = .ok (.bipush 46, 2) := dk_16 46 (dk_at dksX8_order_4 14 rfl rfl)
theorem dX8_order_172 : decode cX8_order 172 = .ok (.invokevirtual 34, 3) := dk_182 0 34 (dk_at dksX8_order_4 16 rfl rfl)
theorem dX8_order_175 : decode cX8_order 175 = .ok (.invokevirtual 38, 3) := dk_182 0 38 (dk_at dksX8_order_4 19 rfl rfl)
theorem dX8_order_178 : decode cX8_order 178 = .ok (.aload_n 0, 1) := dk_42 (dk_at dksX8_order_4 22 rfl rfl)
theorem dX8_order_179 : decode cX8_order 179 = .ok (.dup, 1) := dk_89 (dk_at dksX8_order_4 23 rfl rfl)
theorem dX8_order_180 : decode cX8_order 180 = .ok (.getfield 15, 3) := dk_180 0 15 (dk_at dksX8_order_5 0 rfl rfl)
theorem dX8_order_183 : decode cX8_order 183 = .ok (.iconst 1, 1) := dk_4 (dk_at dksX8_order_5 3 rfl rfl)
theorem dX8_order_184 : decode cX8_order 184 = .ok (.iadd, 1) := dk_96 (dk_at dksX8_order_5 4 rfl rfl)
theorem dX8_order_185 : decode cX8_order 185 = .ok (.putfield 15, 3) := dk_181 0 15 (dk_at dksX8_order_5 5 rfl rfl)
theorem dX8_order_188 : decode cX8_order 188 = .ok (.aload_n 2, 1) := dk_44 (dk_at dksX8_order_5 8 rfl rfl)
theorem dX8_order_189 : decode cX8_order 189 = .ok (.aload_n 0, 1) := dk_42 (dk_at dksX8_order_5 9 rfl rfl)
theorem dX8_order_190 : decode cX8_order 190 = .ok (.iconst 0, 1) := dk_3 (dk_at dksX8_order_5 10 rfl rfl)
theorem dX8_order_191 : decode cX8_order 191 = .ok (.sipush 999, 3) := dk_17 3 231 (dk_at dksX8_order_5 11 rfl rfl)
theorem dX8_order_194 : decode cX8_order 194 = .ok (.invokevirtual 47, 3) := dk_182 0 47 (dk_at dksX8_order_5 14 rfl rfl)
theorem dX8_order_197 : decode cX8_order 197 = .ok (.putfield 54, 3) := dk_181 0 54 (dk_at dksX8_order_5 17 rfl rfl)
theorem dX8_order_200 : decode cX8_order 200 = .ok (.goto 39, 3) := dk_167 0 39 (dk_at dksX8_order_5 20 rfl rfl)
theorem dX8_order_203 : decode cX8_order 203 = .ok (.aload_n 0, 1) := dk_42 (dk_at dksX8_order_5 23 rfl rfl)
theorem dX8_order_204 : decode cX8_order 204 = .ok (.dup, 1) := dk_89 (dk_at dksX8_order_6 0 rfl rfl)
theorem dX8_order_205 : decode cX8_order 205 = .ok (.getfield 15, 3) := dk_180 0 15 (dk_at dksX8_order_6 1 rfl rfl)
theorem dX8_order_208 : decode cX8_order 208 = .ok (.iconst 1, 1) := dk_4 (dk_at dksX8_order_6 4 rfl rfl)
theorem dX8_order_209 : decode cX8_order 209 = .ok (.iadd, 1) := dk_96 (dk_at dksX8_order_6 5 rfl rfl)
theorem dX8_order_210 : decode cX8_order 210 = .ok (.putfield 15, 3) := dk_181 0 15 (dk_at dksX8_order_6 6 rfl rfl)
theorem dX8_order_213 : decode cX8_order 213 = .ok (.aload_n 2, 1) := dk_44 (dk_at dksX8_order_6 9 rfl rfl)
theorem dX8_order_214 : decode cX8_order 214 = .ok (.aload_n 0, 1) := dk_42 (dk_at dksX8_order_6 10 rfl rfl)
theorem dX8_order_215 : decode cX8_order 215 = .ok (.iconst 1, 1) := dk_4 (dk_at dksX8_order_6 11 rfl rfl)
theorem dX8_order_216 : decode cX8_order 216 = .ok (.bipush 99, 2) := dk_16 99 (dk_at dksX8_order_6 12 rfl rfl)
theorem dX8_order_218 : decode cX8_order 218 = .ok (.invokevirtual 47, 3) := dk_182 0 47 (dk_at dksX8_order_6 14 rfl rfl)
theorem dX8_order_221 : decode cX8_order 221 = .ok (.putfield 51, 3) := dk_181 0 51 (dk_at dksX8_order_6 17 rfl rfl)
theorem dX8_order_224 : decode cX8_order 224 = .ok (.goto 15, 3) := dk_167 0 15 (dk_at dksX8_order_6 20 rfl rfl)
theorem dX8_order_227 : decode cX8_order 227 = .ok (.new 29, 3) := dk_187 0 29 (dk_at dksX8_order_7 0 rfl rfl)
theorem dX8_order_230 : decode cX8_order 230 = .ok (.dup, 1) := dk_89 (dk_at dksX8_order_7 3 rfl rfl)
theorem dX8_order_231 : decode cX8_order 231 = .ok (.aload_n 0, 1) := dk_42 (dk_at dksX8_order_7 4 rfl rfl)
theorem dX8_order_232 : decode cX8_order 232 = .ok (.getfield 15, 3) := dk_180 0 15 (dk_at dksX8_order_7 5 rfl rfl)
theorem dX8_order_235 : decode cX8_order 235 = .ok (.invokespecial 31, 3) := dk_183 0 31 (dk_at dksX8_order_7 8 rfl rfl)
theorem dX8_order_238 : decode cX8_order 238 = .ok (.athrow, 1) := dk_191 (dk_at dksX8_order_7 11 rfl rfl)
theorem dX8_order_239 : decode cX8_order 239 = .ok (.aload_n 2, 1) := dk_44 (dk_at dksX8_order_7 12 rfl rfl)
theorem dX8_order_240 : decode cX8_order 240 = .ok (.areturn, 1) := dk_176 (dk_at dksX8_order_7 13 rfl rfl)
abbrev cX8_number : ByteArray := prog_7_method_4_code
def yX8_number : MethodName := ⟨RX8, "number", "(II)I"⟩
def dkwX8_number_5 : List UInt8 := [29, 172]
abbrev dktX8_number_5 : List UInt8 := dkwX8_number_5 ++ []
def dkwX8_number_4 : List UInt8 := [180, 0, 15, 182, 0, 25, 96, 16, 48, 100, 62, 42, 89, 180, 0, 15, 4, 96, 181, 0, 15, 167, 255, 188]
abbrev dktX8_number_4 : List UInt8 := dkwX8_number_4 ++ dktX8_number_5
def dkwX8_number_3 : List UInt8 := [180, 0, 15, 182, 0, 25, 96, 16, 48, 100, 28, 163, 0, 36, 16, 10, 29, 104, 42, 180, 0, 9, 42]
abbrev dktX8_number_3 : List UInt8 := dkwX8_number_3 ++ dktX8_number_4
def dkwX8_number_2 : List UInt8 := [29, 158, 0, 70, 42, 16, 48, 16, 57, 182, 0, 34, 153, 0, 59, 16, 10, 29, 104, 42, 180, 0, 9, 42]
abbrev dktX8_number_2 : List UInt8 := dkwX8_number_2 ++ dktX8_number_3
def dkwX8_number_1 : List UInt8 := [180, 0, 9, 42, 180, 0, 15, 182, 0, 25, 16, 48, 100, 62, 42, 89, 180, 0, 15, 4, 96, 181, 0, 15]
abbrev dktX8_number_1 : List UInt8 := dkwX8_number_1 ++ dktX8_number_2
def dkwX8_number_0 : List UInt8 := [42, 42, 27, 154, 0, 8, 16, 48, 167, 0, 5, 16, 49, 16, 57, 182, 0, 34, 182, 0, 38, 42]
abbrev dktX8_number_0 : List UInt8 := dkwX8_number_0 ++ dktX8_number_1
theorem dksX8_number_0 : cX8_number.data.toList.drop 0 = dktX8_number_0 := by decide +kernel
theorem dksX8_number_1 : cX8_number.data.toList.drop 22 = dktX8_number_1 := dk_seg dksX8_number_0 22 rfl rfl
theorem dksX8_number_2 : cX8_number.data.toList.drop 46 = dktX8_number_2 := dk_seg dksX8_number_1 24 rfl rfl
theorem dksX8_number_3 : cX8_number.data.toList.drop 70 = dktX8_number_3 := dk_seg dksX8_number_2 24 rfl rfl
theorem dksX8_number_4 : cX8_number.data.toList.drop 93 = dktX8_number_4 := dk_seg dksX8_number_3 23 rfl rfl
theorem dksX8_number_5 : cX8_number.data.toList.drop 117 = dktX8_number_5 := dk_seg dksX8_number_4 24 rfl rfl
theorem dX8_number_0 : decode cX8_number 0 = .ok (.aload_n 0, 1) := dk_42 (dk_at dksX8_number_0 0 rfl rfl)
theorem dX8_number_1 : decode cX8_number 1 = .ok (.aload_n 0, 1) := dk_42 (dk_at dksX8_number_0 1 rfl rfl)
theorem dX8_number_2 : decode cX8_number 2 = .ok (.iload_n 1, 1) := dk_27 (dk_at dksX8_number_0 2 rfl rfl)
theorem dX8_number_3 : decode cX8_number 3 = .ok (.ifCond .ne 8, 3) := dk_154 0 8 (dk_at dksX8_number_0 3 rfl rfl)
theorem dX8_number_6 : decode cX8_number 6 = .ok (.bipush 48, 2) := dk_16 48 (dk_at dksX8_number_0 6 rfl rfl)
theorem dX8_number_8 : decode cX8_number 8 = .ok (.goto 5, 3) := dk_167 0 5 (dk_at dksX8_number_0 8 rfl rfl)
theorem dX8_number_11 : decode cX8_number 11 = .ok (.bipush 49, 2) := dk_16 49 (dk_at dksX8_number_0 11 rfl rfl)
theorem dX8_number_13 : decode cX8_number 13 = .ok (.bipush 57, 2) := dk_16 57 (dk_at dksX8_number_0 13 rfl rfl)
theorem dX8_number_15 : decode cX8_number 15 = .ok (.invokevirtual 34, 3) := dk_182 0 34 (dk_at dksX8_number_0 15 rfl rfl)
theorem dX8_number_18 : decode cX8_number 18 = .ok (.invokevirtual 38, 3) := dk_182 0 38 (dk_at dksX8_number_0 18 rfl rfl)
theorem dX8_number_21 : decode cX8_number 21 = .ok (.aload_n 0, 1) := dk_42 (dk_at dksX8_number_0 21 rfl rfl)
theorem dX8_number_22 : decode cX8_number 22 = .ok (.getfield 9, 3) := dk_180 0 9 (dk_at dksX8_number_1 0 rfl rfl)
theorem dX8_number_25 : decode cX8_number 25 = .ok (.aload_n 0, 1) := dk_42 (dk_at dksX8_number_1 3 rfl rfl)
theorem dX8_number_26 : decode cX8_number 26 = .ok (.getfield 15, 3) := dk_180 0 15 (dk_at dksX8_number_1 4 rfl rfl)
theorem dX8_number_29 : decode cX8_number 29 = .ok (.invokevirtual 25, 3) := dk_182 0 25 (dk_at dksX8_number_1 7 rfl rfl)
theorem dX8_number_32 : decode cX8_number 32 = .ok (.bipush 48, 2) := dk_16 48 (dk_at dksX8_number_1 10 rfl rfl)
theorem dX8_number_34 : decode cX8_number 34 = .ok (.isub, 1) := dk_100 (dk_at dksX8_number_1 12 rfl rfl)
theorem dX8_number_35 : decode cX8_number 35 = .ok (.istore_n 3, 1) := dk_62 (dk_at dksX8_number_1 13 rfl rfl)
theorem dX8_number_36 : decode cX8_number 36 = .ok (.aload_n 0, 1) := dk_42 (dk_at dksX8_number_1 14 rfl rfl)
theorem dX8_number_37 : decode cX8_number 37 = .ok (.dup, 1) := dk_89 (dk_at dksX8_number_1 15 rfl rfl)
theorem dX8_number_38 : decode cX8_number 38 = .ok (.getfield 15, 3) := dk_180 0 15 (dk_at dksX8_number_1 16 rfl rfl)
theorem dX8_number_41 : decode cX8_number 41 = .ok (.iconst 1, 1) := dk_4 (dk_at dksX8_number_1 19 rfl rfl)
theorem dX8_number_42 : decode cX8_number 42 = .ok (.iadd, 1) := dk_96 (dk_at dksX8_number_1 20 rfl rfl)
theorem dX8_number_43 : decode cX8_number 43 = .ok (.putfield 15, 3) := dk_181 0 15 (dk_at dksX8_number_1 21 rfl rfl)
theorem dX8_number_46 : decode cX8_number 46 = .ok (.iload_n 3, 1) := dk_29 (dk_at dksX8_number_2 0 rfl rfl)
theorem dX8_number_47 : decode cX8_number 47 = .ok (.ifCond .le 70, 3) := dk_158 0 70 (dk_at dksX8_number_2 1 rfl rfl)
theorem dX8_number_50 : decode cX8_number 50 = .ok (.aload_n 0, 1) := dk_42 (dk_at dksX8_number_2 4 rfl rfl)
theorem dX8_number_51 : decode cX8_number 51 = .ok (.bipush 48, 2) := dk_16 48 (dk_at dksX8_number_2 5 rfl rfl)
theorem dX8_number_53 : decode cX8_number 53 = .ok (.bipush 57, 2) := dk_16 57 (dk_at dksX8_number_2 7 rfl rfl)
theorem dX8_number_55 : decode cX8_number 55 = .ok (.invokevirtual 34, 3) := dk_182 0 34 (dk_at dksX8_number_2 9 rfl rfl)
theorem dX8_number_58 : decode cX8_number 58 = .ok (.ifCond .eq 59, 3) := dk_153 0 59 (dk_at dksX8_number_2 12 rfl rfl)
theorem dX8_number_61 : decode cX8_number 61 = .ok (.bipush 10, 2) := dk_16 10 (dk_at dksX8_number_2 15 rfl rfl)
theorem dX8_number_63 : decode cX8_number 63 = .ok (.iload_n 3, 1) := dk_29 (dk_at dksX8_number_2 17 rfl rfl)
theorem dX8_number_64 : decode cX8_number 64 = .ok (.imul, 1) := dk_104 (dk_at dksX8_number_2 18 rfl rfl)
theorem dX8_number_65 : decode cX8_number 65 = .ok (.aload_n 0, 1) := dk_42 (dk_at dksX8_number_2 19 rfl rfl)
theorem dX8_number_66 : decode cX8_number 66 = .ok (.getfield 9, 3) := dk_180 0 9 (dk_at dksX8_number_2 20 rfl rfl)
theorem dX8_number_69 : decode cX8_number 69 = .ok (.aload_n 0, 1) := dk_42 (dk_at dksX8_number_2 23 rfl rfl)
theorem dX8_number_70 : decode cX8_number 70 = .ok (.getfield 15, 3) := dk_180 0 15 (dk_at dksX8_number_3 0 rfl rfl)
theorem dX8_number_73 : decode cX8_number 73 = .ok (.invokevirtual 25, 3) := dk_182 0 25 (dk_at dksX8_number_3 3 rfl rfl)
theorem dX8_number_76 : decode cX8_number 76 = .ok (.iadd, 1) := dk_96 (dk_at dksX8_number_3 6 rfl rfl)
theorem dX8_number_77 : decode cX8_number 77 = .ok (.bipush 48, 2) := dk_16 48 (dk_at dksX8_number_3 7 rfl rfl)
theorem dX8_number_79 : decode cX8_number 79 = .ok (.isub, 1) := dk_100 (dk_at dksX8_number_3 9 rfl rfl)
theorem dX8_number_80 : decode cX8_number 80 = .ok (.iload_n 2, 1) := dk_28 (dk_at dksX8_number_3 10 rfl rfl)
theorem dX8_number_81 : decode cX8_number 81 = .ok (.if_icmp .gt 36, 3) := dk_163 0 36 (dk_at dksX8_number_3 11 rfl rfl)
theorem dX8_number_84 : decode cX8_number 84 = .ok (.bipush 10, 2) := dk_16 10 (dk_at dksX8_number_3 14 rfl rfl)
theorem dX8_number_86 : decode cX8_number 86 = .ok (.iload_n 3, 1) := dk_29 (dk_at dksX8_number_3 16 rfl rfl)
theorem dX8_number_87 : decode cX8_number 87 = .ok (.imul, 1) := dk_104 (dk_at dksX8_number_3 17 rfl rfl)
theorem dX8_number_88 : decode cX8_number 88 = .ok (.aload_n 0, 1) := dk_42 (dk_at dksX8_number_3 18 rfl rfl)
theorem dX8_number_89 : decode cX8_number 89 = .ok (.getfield 9, 3) := dk_180 0 9 (dk_at dksX8_number_3 19 rfl rfl)
theorem dX8_number_92 : decode cX8_number 92 = .ok (.aload_n 0, 1) := dk_42 (dk_at dksX8_number_3 22 rfl rfl)
theorem dX8_number_93 : decode cX8_number 93 = .ok (.getfield 15, 3) := dk_180 0 15 (dk_at dksX8_number_4 0 rfl rfl)
theorem dX8_number_96 : decode cX8_number 96 = .ok (.invokevirtual 25, 3) := dk_182 0 25 (dk_at dksX8_number_4 3 rfl rfl)
theorem dX8_number_99 : decode cX8_number 99 = .ok (.iadd, 1) := dk_96 (dk_at dksX8_number_4 6 rfl rfl)
theorem dX8_number_100 : decode cX8_number 100 = .ok (.bipush 48, 2) := dk_16 48 (dk_at dksX8_number_4 7 rfl rfl)
theorem dX8_number_102 : decode cX8_number 102 = .ok (.isub, 1) := dk_100 (dk_at dksX8_number_4 9 rfl rfl)
theorem dX8_number_103 : decode cX8_number 103 = .ok (.istore_n 3, 1) := dk_62 (dk_at dksX8_number_4 10 rfl rfl)
theorem dX8_number_104 : decode cX8_number 104 = .ok (.aload_n 0, 1) := dk_42 (dk_at dksX8_number_4 11 rfl rfl)
theorem dX8_number_105 : decode cX8_number 105 = .ok (.dup, 1) := dk_89 (dk_at dksX8_number_4 12 rfl rfl)
theorem dX8_number_106 : decode cX8_number 106 = .ok (.getfield 15, 3) := dk_180 0 15 (dk_at dksX8_number_4 13 rfl rfl)
theorem dX8_number_109 : decode cX8_number 109 = .ok (.iconst 1, 1) := dk_4 (dk_at dksX8_number_4 16 rfl rfl)
theorem dX8_number_110 : decode cX8_number 110 = .ok (.iadd, 1) := dk_96 (dk_at dksX8_number_4 17 rfl rfl)
theorem dX8_number_111 : decode cX8_number 111 = .ok (.putfield 15, 3) := dk_181 0 15 (dk_at dksX8_number_4 18 rfl rfl)
theorem dX8_number_114 : decode cX8_number 114 = .ok (.goto (-68), 3) := dk_167 255 188 (dk_at dksX8_number_4 21 rfl rfl)
theorem dX8_number_117 : decode cX8_number 117 = .ok (.iload_n 3, 1) := dk_29 (dk_at dksX8_number_5 0 rfl rfl)
theorem dX8_number_118 : decode cX8_number 118 = .ok (.ireturn, 1) := dk_172 (dk_at dksX8_number_5 1 rfl rfl)
abbrev cX8_isNow : ByteArray := prog_7_method_2_code
def yX8_isNow : MethodName := ⟨RX8, "isNow", "(CC)Z"⟩
def dkwX8_isNow_2 : List UInt8 := [167, 0, 4, 3, 172]
abbrev dktX8_isNow_2 : List UInt8 := dkwX8_isNow_2 ++ []
def dkwX8_isNow_1 : List UInt8 := [182, 0, 25, 27, 161, 0, 22, 42, 180, 0, 9, 42, 180, 0, 15, 182, 0, 25, 28, 163, 0, 7, 4]
abbrev dktX8_isNow_1 : List UInt8 := dkwX8_isNow_1 ++ dktX8_isNow_2
def dkwX8_isNow_0 : List UInt8 := [42, 180, 0, 15, 42, 180, 0, 9, 182, 0, 19, 162, 0, 37, 42, 180, 0, 9, 42, 180, 0, 15]
abbrev dktX8_isNow_0 : List UInt8 := dkwX8_isNow_0 ++ dktX8_isNow_1
theorem dksX8_isNow_0 : cX8_isNow.data.toList.drop 0 = dktX8_isNow_0 := by decide +kernel
theorem dksX8_isNow_1 : cX8_isNow.data.toList.drop 22 = dktX8_isNow_1 := dk_seg dksX8_isNow_0 22 rfl rfl
theorem dksX8_isNow_2 : cX8_isNow.data.toList.drop 45 = dktX8_isNow_2 := dk_seg dksX8_isNow_1 23 rfl rfl
theorem dX8_isNow_0 : decode cX8_isNow 0 = .ok (.aload_n 0, 1) := dk_42 (dk_at dksX8_isNow_0 0 rfl rfl)
theorem dX8_isNow_1 : decode cX8_isNow 1 = .ok (.getfield 15, 3) := dk_180 0 15 (dk_at dksX8_isNow_0 1 rfl rfl)
theorem dX8_isNow_4 : decode cX8_isNow 4 = .ok (.aload_n 0, 1) := dk_42 (dk_at dksX8_isNow_0 4 rfl rfl)
theorem dX8_isNow_5 : decode cX8_isNow 5 = .ok (.getfield 9, 3) := dk_180 0 9 (dk_at dksX8_isNow_0 5 rfl rfl)
theorem dX8_isNow_8 : decode cX8_isNow 8 = .ok (.invokevirtual 19, 3) := dk_182 0 19 (dk_at dksX8_isNow_0 8 rfl rfl)
theorem dX8_isNow_11 : decode cX8_isNow 11 = .ok (.if_icmp .ge 37, 3) := dk_162 0 37 (dk_at dksX8_isNow_0 11 rfl rfl)
theorem dX8_isNow_14 : decode cX8_isNow 14 = .ok (.aload_n 0, 1) := dk_42 (dk_at dksX8_isNow_0 14 rfl rfl)
theorem dX8_isNow_15 : decode cX8_isNow 15 = .ok (.getfield 9, 3) := dk_180 0 9 (dk_at dksX8_isNow_0 15 rfl rfl)
theorem dX8_isNow_18 : decode cX8_isNow 18 = .ok (.aload_n 0, 1) := dk_42 (dk_at dksX8_isNow_0 18 rfl rfl)
theorem dX8_isNow_19 : decode cX8_isNow 19 = .ok (.getfield 15, 3) := dk_180 0 15 (dk_at dksX8_isNow_0 19 rfl rfl)
theorem dX8_isNow_22 : decode cX8_isNow 22 = .ok (.invokevirtual 25, 3) := dk_182 0 25 (dk_at dksX8_isNow_1 0 rfl rfl)
theorem dX8_isNow_25 : decode cX8_isNow 25 = .ok (.iload_n 1, 1) := dk_27 (dk_at dksX8_isNow_1 3 rfl rfl)
theorem dX8_isNow_26 : decode cX8_isNow 26 = .ok (.if_icmp .lt 22, 3) := dk_161 0 22 (dk_at dksX8_isNow_1 4 rfl rfl)
theorem dX8_isNow_29 : decode cX8_isNow 29 = .ok (.aload_n 0, 1) := dk_42 (dk_at dksX8_isNow_1 7 rfl rfl)
theorem dX8_isNow_30 : decode cX8_isNow 30 = .ok (.getfield 9, 3) := dk_180 0 9 (dk_at dksX8_isNow_1 8 rfl rfl)
theorem dX8_isNow_33 : decode cX8_isNow 33 = .ok (.aload_n 0, 1) := dk_42 (dk_at dksX8_isNow_1 11 rfl rfl)
theorem dX8_isNow_34 : decode cX8_isNow 34 = .ok (.getfield 15, 3) := dk_180 0 15 (dk_at dksX8_isNow_1 12 rfl rfl)
theorem dX8_isNow_37 : decode cX8_isNow 37 = .ok (.invokevirtual 25, 3) := dk_182 0 25 (dk_at dksX8_isNow_1 15 rfl rfl)
theorem dX8_isNow_40 : decode cX8_isNow 40 = .ok (.iload_n 2, 1) := dk_28 (dk_at dksX8_isNow_1 18 rfl rfl)
theorem dX8_isNow_41 : decode cX8_isNow 41 = .ok (.if_icmp .gt 7, 3) := dk_163 0 7 (dk_at dksX8_isNow_1 19 rfl rfl)
theorem dX8_isNow_44 : decode cX8_isNow 44 = .ok (.iconst 1, 1) := dk_4 (dk_at dksX8_isNow_1 22 rfl rfl)
theorem dX8_isNow_45 : decode cX8_isNow 45 = .ok (.goto 4, 3) := dk_167 0 4 (dk_at dksX8_isNow_2 0 rfl rfl)
theorem dX8_isNow_48 : decode cX8_isNow 48 = .ok (.iconst 0, 1) := dk_3 (dk_at dksX8_isNow_2 3 rfl rfl)
theorem dX8_isNow_49 : decode cX8_isNow 49 = .ok (.ireturn, 1) := dk_172 (dk_at dksX8_isNow_2 4 rfl rfl)
abbrev cX8_reads : ByteArray := prog_7_method_3_code
def yX8_reads : MethodName := ⟨RX8, "reads", "(Z)V"⟩
def dkwX8_reads_0 : List UInt8 := [27, 154, 0, 15, 187, 0, 29, 89, 42, 180, 0, 15, 183, 0, 31, 191, 177]
abbrev dktX8_reads_0 : List UInt8 := dkwX8_reads_0 ++ []
theorem dksX8_reads_0 : cX8_reads.data.toList.drop 0 = dktX8_reads_0 := by decide +kernel
theorem dX8_reads_0 : decode cX8_reads 0 = .ok (.iload_n 1, 1) := dk_27 (dk_at dksX8_reads_0 0 rfl rfl)
theorem dX8_reads_1 : decode cX8_reads 1 = .ok (.ifCond .ne 15, 3) := dk_154 0 15 (dk_at dksX8_reads_0 1 rfl rfl)
theorem dX8_reads_4 : decode cX8_reads 4 = .ok (.new 29, 3) := dk_187 0 29 (dk_at dksX8_reads_0 4 rfl rfl)
theorem dX8_reads_7 : decode cX8_reads 7 = .ok (.dup, 1) := dk_89 (dk_at dksX8_reads_0 7 rfl rfl)
theorem dX8_reads_8 : decode cX8_reads 8 = .ok (.aload_n 0, 1) := dk_42 (dk_at dksX8_reads_0 8 rfl rfl)
theorem dX8_reads_9 : decode cX8_reads 9 = .ok (.getfield 15, 3) := dk_180 0 15 (dk_at dksX8_reads_0 9 rfl rfl)
theorem dX8_reads_12 : decode cX8_reads 12 = .ok (.invokespecial 31, 3) := dk_183 0 31 (dk_at dksX8_reads_0 12 rfl rfl)
theorem dX8_reads_15 : decode cX8_reads 15 = .ok (.athrow, 1) := dk_191 (dk_at dksX8_reads_0 15 rfl rfl)
theorem dX8_reads_16 : decode cX8_reads 16 = .ok (.return_, 1) := dk_177 (dk_at dksX8_reads_0 16 rfl rfl)
abbrev cX8_tune : ByteArray := prog_7_method_7_code
def yX8_tune : MethodName := ⟨RX8, "tune", "()Ljava/util/ArrayList;"⟩
def dkwX8_tune_3 : List UInt8 := [182, 0, 64, 87, 167, 255, 205, 43, 176]
abbrev dktX8_tune_3 : List UInt8 := dkwX8_tune_3 ++ []
def dkwX8_tune_2 : List UInt8 := [182, 0, 38, 42, 89, 180, 0, 15, 4, 96, 181, 0, 15, 43, 42, 3, 16, 35, 182, 0, 47, 184, 0, 68]
abbrev dktX8_tune_2 : List UInt8 := dkwX8_tune_2 ++ dktX8_tune_3
def dkwX8_tune_1 : List UInt8 := [180, 0, 15, 42, 180, 0, 9, 182, 0, 19, 162, 0, 43, 42, 42, 16, 44, 16, 44, 182, 0, 34]
abbrev dktX8_tune_1 : List UInt8 := dkwX8_tune_1 ++ dktX8_tune_2
def dkwX8_tune_0 : List UInt8 := [187, 0, 57, 89, 183, 0, 59, 76, 43, 42, 3, 16, 35, 182, 0, 47, 184, 0, 68, 182, 0, 64, 87, 42]
abbrev dktX8_tune_0 : List UInt8 := dkwX8_tune_0 ++ dktX8_tune_1
theorem dksX8_tune_0 : cX8_tune.data.toList.drop 0 = dktX8_tune_0 := by decide +kernel
theorem dksX8_tune_1 : cX8_tune.data.toList.drop 24 = dktX8_tune_1 := dk_seg dksX8_tune_0 24 rfl rfl
theorem dksX8_tune_2 : cX8_tune.data.toList.drop 46 = dktX8_tune_2 := dk_seg dksX8_tune_1 22 rfl rfl
theorem dksX8_tune_3 : cX8_tune.data.toList.drop 70 = dktX8_tune_3 := dk_seg dksX8_tune_2 24 rfl rfl
theorem dX8_tune_0 : decode cX8_tune 0 = .ok (.new 57, 3) := dk_187 0 57 (dk_at dksX8_tune_0 0 rfl rfl)
theorem dX8_tune_3 : decode cX8_tune 3 = .ok (.dup, 1) := dk_89 (dk_at dksX8_tune_0 3 rfl rfl)
theorem dX8_tune_4 : decode cX8_tune 4 = .ok (.invokespecial 59, 3) := dk_183 0 59 (dk_at dksX8_tune_0 4 rfl rfl)
theorem dX8_tune_7 : decode cX8_tune 7 = .ok (.astore_n 1, 1) := dk_76 (dk_at dksX8_tune_0 7 rfl rfl)
theorem dX8_tune_8 : decode cX8_tune 8 = .ok (.aload_n 1, 1) := dk_43 (dk_at dksX8_tune_0 8 rfl rfl)
theorem dX8_tune_9 : decode cX8_tune 9 = .ok (.aload_n 0, 1) := dk_42 (dk_at dksX8_tune_0 9 rfl rfl)
theorem dX8_tune_10 : decode cX8_tune 10 = .ok (.iconst 0, 1) := dk_3 (dk_at dksX8_tune_0 10 rfl rfl)
theorem dX8_tune_11 : decode cX8_tune 11 = .ok (.bipush 35, 2) := dk_16 35 (dk_at dksX8_tune_0 11 rfl rfl)
theorem dX8_tune_13 : decode cX8_tune 13 = .ok (.invokevirtual 47, 3) := dk_182 0 47 (dk_at dksX8_tune_0 13 rfl rfl)
theorem dX8_tune_16 : decode cX8_tune 16 = .ok (.invokestatic 68, 3) := dk_184 0 68 (dk_at dksX8_tune_0 16 rfl rfl)
theorem dX8_tune_19 : decode cX8_tune 19 = .ok (.invokevirtual 64, 3) := dk_182 0 64 (dk_at dksX8_tune_0 19 rfl rfl)
theorem dX8_tune_22 : decode cX8_tune 22 = .ok (.pop, 1) := dk_87 (dk_at dksX8_tune_0 22 rfl rfl)
theorem dX8_tune_23 : decode cX8_tune 23 = .ok (.aload_n 0, 1) := dk_42 (dk_at dksX8_tune_0 23 rfl rfl)
theorem dX8_tune_24 : decode cX8_tune 24 = .ok (.getfield 15, 3) := dk_180 0 15 (dk_at dksX8_tune_1 0 rfl rfl)
theorem dX8_tune_27 : decode cX8_tune 27 = .ok (.aload_n 0, 1) := dk_42 (dk_at dksX8_tune_1 3 rfl rfl)
theorem dX8_tune_28 : decode cX8_tune 28 = .ok (.getfield 9, 3) := dk_180 0 9 (dk_at dksX8_tune_1 4 rfl rfl)
theorem dX8_tune_31 : decode cX8_tune 31 = .ok (.invokevirtual 19, 3) := dk_182 0 19 (dk_at dksX8_tune_1 7 rfl rfl)
theorem dX8_tune_34 : decode cX8_tune 34 = .ok (.if_icmp .ge 43, 3) := dk_162 0 43 (dk_at dksX8_tune_1 10 rfl rfl)
theorem dX8_tune_37 : decode cX8_tune 37 = .ok (.aload_n 0, 1) := dk_42 (dk_at dksX8_tune_1 13 rfl rfl)
theorem dX8_tune_38 : decode cX8_tune 38 = .ok (.aload_n 0, 1) := dk_42 (dk_at dksX8_tune_1 14 rfl rfl)
theorem dX8_tune_39 : decode cX8_tune 39 = .ok (.bipush 44, 2) := dk_16 44 (dk_at dksX8_tune_1 15 rfl rfl)
theorem dX8_tune_41 : decode cX8_tune 41 = .ok (.bipush 44, 2) := dk_16 44 (dk_at dksX8_tune_1 17 rfl rfl)
theorem dX8_tune_43 : decode cX8_tune 43 = .ok (.invokevirtual 34, 3) := dk_182 0 34 (dk_at dksX8_tune_1 19 rfl rfl)
theorem dX8_tune_46 : decode cX8_tune 46 = .ok (.invokevirtual 38, 3) := dk_182 0 38 (dk_at dksX8_tune_2 0 rfl rfl)
theorem dX8_tune_49 : decode cX8_tune 49 = .ok (.aload_n 0, 1) := dk_42 (dk_at dksX8_tune_2 3 rfl rfl)
theorem dX8_tune_50 : decode cX8_tune 50 = .ok (.dup, 1) := dk_89 (dk_at dksX8_tune_2 4 rfl rfl)
theorem dX8_tune_51 : decode cX8_tune 51 = .ok (.getfield 15, 3) := dk_180 0 15 (dk_at dksX8_tune_2 5 rfl rfl)
theorem dX8_tune_54 : decode cX8_tune 54 = .ok (.iconst 1, 1) := dk_4 (dk_at dksX8_tune_2 8 rfl rfl)
theorem dX8_tune_55 : decode cX8_tune 55 = .ok (.iadd, 1) := dk_96 (dk_at dksX8_tune_2 9 rfl rfl)
theorem dX8_tune_56 : decode cX8_tune 56 = .ok (.putfield 15, 3) := dk_181 0 15 (dk_at dksX8_tune_2 10 rfl rfl)
theorem dX8_tune_59 : decode cX8_tune 59 = .ok (.aload_n 1, 1) := dk_43 (dk_at dksX8_tune_2 13 rfl rfl)
theorem dX8_tune_60 : decode cX8_tune 60 = .ok (.aload_n 0, 1) := dk_42 (dk_at dksX8_tune_2 14 rfl rfl)
theorem dX8_tune_61 : decode cX8_tune 61 = .ok (.iconst 0, 1) := dk_3 (dk_at dksX8_tune_2 15 rfl rfl)
theorem dX8_tune_62 : decode cX8_tune 62 = .ok (.bipush 35, 2) := dk_16 35 (dk_at dksX8_tune_2 16 rfl rfl)
theorem dX8_tune_64 : decode cX8_tune 64 = .ok (.invokevirtual 47, 3) := dk_182 0 47 (dk_at dksX8_tune_2 18 rfl rfl)
theorem dX8_tune_67 : decode cX8_tune 67 = .ok (.invokestatic 68, 3) := dk_184 0 68 (dk_at dksX8_tune_2 21 rfl rfl)
theorem dX8_tune_70 : decode cX8_tune 70 = .ok (.invokevirtual 64, 3) := dk_182 0 64 (dk_at dksX8_tune_3 0 rfl rfl)
theorem dX8_tune_73 : decode cX8_tune 73 = .ok (.pop, 1) := dk_87 (dk_at dksX8_tune_3 3 rfl rfl)
theorem dX8_tune_74 : decode cX8_tune 74 = .ok (.goto (-51), 3) := dk_167 255 205 (dk_at dksX8_tune_3 4 rfl rfl)
theorem dX8_tune_77 : decode cX8_tune 77 = .ok (.aload_n 1, 1) := dk_43 (dk_at dksX8_tune_3 7 rfl rfl)
theorem dX8_tune_78 : decode cX8_tune 78 = .ok (.areturn, 1) := dk_176 (dk_at dksX8_tune_3 8 rfl rfl)
theorem q116 : (Jvm.Cond.initialized "PedalLayers$Reader") ∈ lw_all := lw_g (lw_at lw_m1 35 rfl) rfl
theorem q482 : (Jvm.Cond.selects "PedalLayers$Reader" ({ cls := "java/lang/Object", name := "getClass", desc := "()Ljava/lang/Class;" } : Jvm.MethodName) ({ cls := "java/lang/Object", name := "getClass", desc := "()Ljava/lang/Class;" } : Jvm.MethodName)) ∈ lw_all := lw_g (lw_at lw_m2 161 rfl) rfl
theorem q1237 : (Jvm.Cond.instantiable "PedalLayers$Reader" (2 : Nat)) ∈ lw_all := lw_g (lw_at lw_m5 196 rfl) rfl
theorem q1239 : (Jvm.Cond.instanceMethod ({ cls := "PedalLayers$Reader", name := "<init>", desc := "(Ljava/lang/StringBuilder;)V" } : Jvm.MethodName)) ∈ lw_all := lw_g (lw_at lw_m5 198 rfl) rfl
theorem q1240 : (Jvm.Cond.code ({ cls := "PedalLayers$Reader", name := "<init>", desc := "(Ljava/lang/StringBuilder;)V" } : Jvm.MethodName) prog_7_method_1_code (2 : Nat) (Option.none : Option Jvm.ClassFile.FieldType)) ∈ lw_all := lw_g (lw_at lw_m5 199 rfl) rfl
theorem q1241 : (Jvm.Cond.methodLink "PedalLayers$Reader" (3 : Nat) ({ cls := "java/lang/Object", name := "<init>", desc := "()V" } : Jvm.MethodName)) ∈ lw_all := lw_g (lw_at lw_m5 200 rfl) rfl
theorem q1242 : (Jvm.Cond.fieldLink "PedalLayers$Reader" (9 : Nat) "PedalLayers$Reader" "text" "Ljava/lang/StringBuilder;") ∈ lw_all := lw_g (lw_at lw_m5 201 rfl) rfl
theorem q1243 : (Jvm.Cond.fieldLink "PedalLayers$Reader" (15 : Nat) "PedalLayers$Reader" "at" "I") ∈ lw_all := lw_g (lw_at lw_m5 202 rfl) rfl
theorem q1244 : (Jvm.Cond.laysFinal "PedalLayers$Reader" "PedalLayers$Reader" "text" "Ljava/lang/StringBuilder;") ∈ lw_all := lw_g (lw_at lw_m5 203 rfl) rfl
theorem q1245 : (Jvm.Cond.soleField "PedalLayers$Reader" "text") ∈ lw_all := lw_g (lw_at lw_m5 204 rfl) rfl
theorem q1246 : (Jvm.Cond.lays "PedalLayers$Reader" "PedalLayers$Reader" "at" "I") ∈ lw_all := lw_g (lw_at lw_m5 205 rfl) rfl
theorem q1247 : (Jvm.Cond.soleField "PedalLayers$Reader" "at") ∈ lw_all := lw_g (lw_at lw_m5 206 rfl) rfl
theorem q1248 : (Jvm.Cond.superclass "PedalLayers$Reader" "java/lang/Object") ∈ lw_all := lw_g (lw_at lw_m5 207 rfl) rfl
theorem q1250 : (Jvm.Cond.instanceMethod ({ cls := "PedalLayers$Reader", name := "orders", desc := "()Ljava/util/ArrayList;" } : Jvm.MethodName)) ∈ lw_all := lw_g (lw_at lw_m5 209 rfl) rfl
theorem q1251 : (Jvm.Cond.selects "PedalLayers$Reader" ({ cls := "PedalLayers$Reader", name := "orders", desc := "()Ljava/util/ArrayList;" } : Jvm.MethodName) ({ cls := "PedalLayers$Reader", name := "orders", desc := "()Ljava/util/ArrayList;" } : Jvm.MethodName)) ∈ lw_all := lw_g (lw_at lw_m5 210 rfl) rfl
theorem q1252 : (Jvm.Cond.code ({ cls := "PedalLayers$Reader", name := "orders", desc := "()Ljava/util/ArrayList;" } : Jvm.MethodName) prog_7_method_6_code (2 : Nat) (Option.some (Jvm.ClassFile.FieldType.object "java/util/ArrayList"))) ∈ lw_all := lw_g (lw_at lw_m5 211 rfl) rfl
theorem q1253 : (Jvm.Cond.classLink "PedalLayers$Reader" (57 : Nat) "java/util/ArrayList") ∈ lw_all := lw_g (lw_at lw_m5 212 rfl) rfl
theorem q1254 : (Jvm.Cond.methodLink "PedalLayers$Reader" (59 : Nat) ({ cls := "java/util/ArrayList", name := "<init>", desc := "()V" } : Jvm.MethodName)) ∈ lw_all := lw_g (lw_at lw_m5 213 rfl) rfl
theorem q1255 : (Jvm.Cond.methodLink "PedalLayers$Reader" (60 : Nat) ({ cls := "PedalLayers$Reader", name := "order", desc := "()LPedalLayers$Order;" } : Jvm.MethodName)) ∈ lw_all := lw_g (lw_at lw_m5 214 rfl) rfl
theorem q1256 : (Jvm.Cond.privateMethod ({ cls := "PedalLayers$Reader", name := "order", desc := "()LPedalLayers$Order;" } : Jvm.MethodName)) ∈ lw_tbl := lw_at lw_m5 215 rfl
theorem q1257 : (Jvm.Cond.instanceMethod ({ cls := "PedalLayers$Reader", name := "order", desc := "()LPedalLayers$Order;" } : Jvm.MethodName)) ∈ lw_all := lw_g (lw_at lw_m5 216 rfl) rfl
theorem q1258 : (Jvm.Cond.code ({ cls := "PedalLayers$Reader", name := "order", desc := "()LPedalLayers$Order;" } : Jvm.MethodName) prog_7_method_5_code (3 : Nat) (Option.some (Jvm.ClassFile.FieldType.object "PedalLayers$Order"))) ∈ lw_all := lw_g (lw_at lw_m5 217 rfl) rfl
theorem q1259 : (Jvm.Cond.methodLink "PedalLayers$Reader" (19 : Nat) ({ cls := "java/lang/StringBuilder", name := "length", desc := "()I" } : Jvm.MethodName)) ∈ lw_all := lw_g (lw_at lw_m5 218 rfl) rfl
theorem q1260 : (Jvm.Cond.methodLink "PedalLayers$Reader" (25 : Nat) ({ cls := "java/lang/StringBuilder", name := "charAt", desc := "(I)C" } : Jvm.MethodName)) ∈ lw_all := lw_g (lw_at lw_m5 219 rfl) rfl
theorem q1270 : (Jvm.Cond.classLink "PedalLayers$Reader" (42 : Nat) "PedalLayers$Order") ∈ lw_all := lw_g (lw_at lw_m5 229 rfl) rfl
theorem q1272 : (Jvm.Cond.methodLink "PedalLayers$Reader" (44 : Nat) ({ cls := "PedalLayers$Order", name := "<init>", desc := "(CI)V" } : Jvm.MethodName)) ∈ lw_all := lw_g (lw_at lw_m5 231 rfl) rfl
theorem q1280 : (Jvm.Cond.fieldLinkNest "PedalLayers$Reader" (51 : Nat) "PedalLayers$Order" "one" "I" "PedalLayers") ∈ lw_tbl := lw_at lw_m5 239 rfl
theorem q1282 : (Jvm.Cond.fieldLinkNest "PedalLayers$Reader" (54 : Nat) "PedalLayers$Order" "two" "I" "PedalLayers") ∈ lw_tbl := lw_at lw_m6 1 rfl
theorem q1292 : (Jvm.Cond.methodLink "PedalLayers$Reader" (47 : Nat) ({ cls := "PedalLayers$Reader", name := "number", desc := "(II)I" } : Jvm.MethodName)) ∈ lw_all := lw_g (lw_at lw_m6 11 rfl) rfl
theorem q1293 : (Jvm.Cond.privateMethod ({ cls := "PedalLayers$Reader", name := "number", desc := "(II)I" } : Jvm.MethodName)) ∈ lw_tbl := lw_at lw_m6 12 rfl
theorem q1294 : (Jvm.Cond.instanceMethod ({ cls := "PedalLayers$Reader", name := "number", desc := "(II)I" } : Jvm.MethodName)) ∈ lw_all := lw_g (lw_at lw_m6 13 rfl) rfl
theorem q1295 : (Jvm.Cond.code ({ cls := "PedalLayers$Reader", name := "number", desc := "(II)I" } : Jvm.MethodName) prog_7_method_4_code (4 : Nat) (Option.some Jvm.ClassFile.FieldType.int)) ∈ lw_all := lw_g (lw_at lw_m6 14 rfl) rfl
theorem q1296 : (Jvm.Cond.methodLink "PedalLayers$Reader" (34 : Nat) ({ cls := "PedalLayers$Reader", name := "isNow", desc := "(CC)Z" } : Jvm.MethodName)) ∈ lw_all := lw_g (lw_at lw_m6 15 rfl) rfl
theorem q1297 : (Jvm.Cond.privateMethod ({ cls := "PedalLayers$Reader", name := "isNow", desc := "(CC)Z" } : Jvm.MethodName)) ∈ lw_tbl := lw_at lw_m6 16 rfl
theorem q1298 : (Jvm.Cond.instanceMethod ({ cls := "PedalLayers$Reader", name := "isNow", desc := "(CC)Z" } : Jvm.MethodName)) ∈ lw_all := lw_g (lw_at lw_m6 17 rfl) rfl
theorem q1299 : (Jvm.Cond.code ({ cls := "PedalLayers$Reader", name := "isNow", desc := "(CC)Z" } : Jvm.MethodName) prog_7_method_2_code (3 : Nat) (Option.some Jvm.ClassFile.FieldType.boolean)) ∈ lw_all := lw_g (lw_at lw_m6 18 rfl) rfl
theorem q1300 : (Jvm.Cond.methodLink "PedalLayers$Reader" (38 : Nat) ({ cls := "PedalLayers$Reader", name := "reads", desc := "(Z)V" } : Jvm.MethodName)) ∈ lw_all := lw_g (lw_at lw_m6 19 rfl) rfl
theorem q1301 : (Jvm.Cond.privateMethod ({ cls := "PedalLayers$Reader", name := "reads", desc := "(Z)V" } : Jvm.MethodName)) ∈ lw_tbl := lw_at lw_m6 20 rfl
theorem q1302 : (Jvm.Cond.instanceMethod ({ cls := "PedalLayers$Reader", name := "reads", desc := "(Z)V" } : Jvm.MethodName)) ∈ lw_all := lw_g (lw_at lw_m6 21 rfl) rfl
theorem q1303 : (Jvm.Cond.code ({ cls := "PedalLayers$Reader", name := "reads", desc := "(Z)V" } : Jvm.MethodName) prog_7_method_3_code (2 : Nat) (Option.none : Option Jvm.ClassFile.FieldType)) ∈ lw_all := lw_g (lw_at lw_m6 22 rfl) rfl
theorem q1304 : (Jvm.Cond.classLink "PedalLayers$Reader" (29 : Nat) "PedalLayers$Unread") ∈ lw_all := lw_g (lw_at lw_m6 23 rfl) rfl
theorem q1313 : (Jvm.Cond.methodLink "PedalLayers$Reader" (31 : Nat) ({ cls := "PedalLayers$Unread", name := "<init>", desc := "(I)V" } : Jvm.MethodName)) ∈ lw_all := lw_g (lw_at lw_m6 32 rfl) rfl
theorem q1323 : (Jvm.Cond.methodLink "PedalLayers$Reader" (64 : Nat) ({ cls := "java/util/ArrayList", name := "add", desc := "(Ljava/lang/Object;)Z" } : Jvm.MethodName)) ∈ lw_all := lw_g (lw_at lw_m6 42 rfl) rfl
theorem q1325 : (Jvm.Cond.instanceMethod ({ cls := "PedalLayers$Reader", name := "tune", desc := "()Ljava/util/ArrayList;" } : Jvm.MethodName)) ∈ lw_all := lw_g (lw_at lw_m6 44 rfl) rfl
theorem q1326 : (Jvm.Cond.selects "PedalLayers$Reader" ({ cls := "PedalLayers$Reader", name := "tune", desc := "()Ljava/util/ArrayList;" } : Jvm.MethodName) ({ cls := "PedalLayers$Reader", name := "tune", desc := "()Ljava/util/ArrayList;" } : Jvm.MethodName)) ∈ lw_all := lw_g (lw_at lw_m6 45 rfl) rfl
theorem q1327 : (Jvm.Cond.code ({ cls := "PedalLayers$Reader", name := "tune", desc := "()Ljava/util/ArrayList;" } : Jvm.MethodName) prog_7_method_7_code (2 : Nat) (Option.some (Jvm.ClassFile.FieldType.object "java/util/ArrayList"))) ∈ lw_all := lw_g (lw_at lw_m6 46 rfl) rfl
theorem q1328 : (Jvm.Cond.methodLink "PedalLayers$Reader" (68 : Nat) ({ cls := "java/lang/Integer", name := "valueOf", desc := "(I)Ljava/lang/Integer;" } : Jvm.MethodName)) ∈ lw_all := lw_g (lw_at lw_m6 47 rfl) rfl
theorem q2015 : (Jvm.Cond.castable "PedalLayers$Reader" "java/lang/Object") ∈ lw_tbl := lw_at lw_m9 14 rfl
theorem in_X8 : ∀ w ∈ wsX80, w ∈ lw_all := lw_in wsX80 [1244, 1246] (by decide +kernel) (by decide +kernel)
/-! PedalLayers$Order -/
set_option maxRecDepth 100000
def RX9 : String := "PedalLayers$Order"
def TX9 : u_T := fun k => match k with
  | 0 => ("PedalLayers$Order", "letter", "C", true)
  | 1 => ("PedalLayers$Order", "at", "I", true)
  | 2 => ("PedalLayers$Order", "one", "I", false)
  | _ => ("PedalLayers$Order", "two", "I", false)
def tyX9 : Nat → FieldType := fun k => match k with
  | 0 => .char
  | 1 => .int
  | 2 => .int
  | _ => .int
abbrev wsX90 : List Cond := u_ws RX9 TX9 4
theorem nmX9 : ∀ a, a < 4 → ∀ b, b < 4 → a ≠ b → (TX9 a).2.1 ≠ (TX9 b).2.1 := by decide +kernel
theorem tyX9_ok : ∀ k, k < 4 → parseFieldDescriptor (TX9 k).2.2.1 = some (tyX9 k) := by decide +kernel
abbrev cX9_init : ByteArray := prog_5_method_1_code
def yX9_init : MethodName := ⟨RX9, "<init>", "(CI)V"⟩
def dkwX9_init_0 : List UInt8 := [42, 183, 0, 1, 42, 27, 181, 0, 7, 42, 28, 181, 0, 13, 177]
abbrev dktX9_init_0 : List UInt8 := dkwX9_init_0 ++ []
theorem dksX9_init_0 : cX9_init.data.toList.drop 0 = dktX9_init_0 := by decide +kernel
theorem dX9_init_0 : decode cX9_init 0 = .ok (.aload_n 0, 1) := dk_42 (dk_at dksX9_init_0 0 rfl rfl)
theorem dX9_init_1 : decode cX9_init 1 = .ok (.invokespecial 1, 3) := dk_183 0 1 (dk_at dksX9_init_0 1 rfl rfl)
theorem dX9_init_4 : decode cX9_init 4 = .ok (.aload_n 0, 1) := dk_42 (dk_at dksX9_init_0 4 rfl rfl)
theorem dX9_init_5 : decode cX9_init 5 = .ok (.iload_n 1, 1) := dk_27 (dk_at dksX9_init_0 5 rfl rfl)
theorem dX9_init_6 : decode cX9_init 6 = .ok (.putfield 7, 3) := dk_181 0 7 (dk_at dksX9_init_0 6 rfl rfl)
theorem dX9_init_9 : decode cX9_init 9 = .ok (.aload_n 0, 1) := dk_42 (dk_at dksX9_init_0 9 rfl rfl)
theorem dX9_init_10 : decode cX9_init 10 = .ok (.iload_n 2, 1) := dk_28 (dk_at dksX9_init_0 10 rfl rfl)
theorem dX9_init_11 : decode cX9_init 11 = .ok (.putfield 13, 3) := dk_181 0 13 (dk_at dksX9_init_0 11 rfl rfl)
theorem dX9_init_14 : decode cX9_init 14 = .ok (.return_, 1) := dk_177 (dk_at dksX9_init_0 14 rfl rfl)
abbrev cX9_runs : ByteArray := prog_5_method_2_code
def yX9_runs : MethodName := ⟨RX9, "runs", "(LPedalLayers$Pedal;)I"⟩
def dkwX9_runs_3 : List UInt8 := [172, 43, 42, 180, 0, 35, 42, 180, 0, 38, 182, 0, 41, 172, 43, 42, 180, 0, 35, 182, 0, 45, 172]
abbrev dktX9_runs_3 : List UInt8 := dkwX9_runs_3 ++ []
def dkwX9_runs_2 : List UInt8 := [43, 182, 0, 17, 172, 43, 182, 0, 23, 172, 43, 182, 0, 26, 172, 43, 182, 0, 29, 172, 43, 182, 0, 32]
abbrev dktX9_runs_2 : List UInt8 := dkwX9_runs_2 ++ dktX9_runs_3
def dkwX9_runs_1 : List UInt8 := [170, 0, 0, 0, 0, 0, 0, 126, 0, 0, 0, 104, 0, 0, 0, 121, 0, 0, 0, 113, 0, 0, 0, 126, 0, 0, 0, 126, 0, 0, 0, 126, 0, 0, 0, 126, 0, 0, 0, 126, 0, 0, 0, 126, 0, 0, 0, 126, 0, 0, 0, 88, 0, 0, 0, 126, 0, 0, 0, 126, 0, 0, 0, 93, 0, 0, 0, 126, 0, 0, 0, 126, 0, 0, 0, 98, 0, 0, 0, 126, 0, 0, 0, 103, 0, 0, 0, 108]
abbrev dktX9_runs_1 : List UInt8 := dkwX9_runs_1 ++ dktX9_runs_2
def dkwX9_runs_0 : List UInt8 := [42, 180, 0, 7]
abbrev dktX9_runs_0 : List UInt8 := dkwX9_runs_0 ++ dktX9_runs_1
theorem dksX9_runs_0 : cX9_runs.data.toList.drop 0 = dktX9_runs_0 := by decide +kernel
theorem dksX9_runs_1 : cX9_runs.data.toList.drop 4 = dktX9_runs_1 := dk_seg dksX9_runs_0 4 rfl rfl
theorem dksX9_runs_2 : cX9_runs.data.toList.drop 92 = dktX9_runs_2 := dk_seg dksX9_runs_1 88 rfl rfl
theorem dksX9_runs_3 : cX9_runs.data.toList.drop 116 = dktX9_runs_3 := dk_seg dksX9_runs_2 24 rfl rfl
theorem dX9_runs_0 : decode cX9_runs 0 = .ok (.aload_n 0, 1) := dk_42 (dk_at dksX9_runs_0 0 rfl rfl)
theorem dX9_runs_1 : decode cX9_runs 1 = .ok (.getfield 7, 3) := dk_180 0 7 (dk_at dksX9_runs_0 1 rfl rfl)
theorem dX9_runs_4 : decode cX9_runs 4 = .ok (.tableswitch 126 104 121 #[113, 126, 126, 126, 126, 126, 126, 126, 88, 126, 126, 93, 126, 126, 98, 126, 103, 108], 88) := by decide +kernel
theorem dX9_runs_92 : decode cX9_runs 92 = .ok (.aload_n 1, 1) := dk_43 (dk_at dksX9_runs_2 0 rfl rfl)
theorem dX9_runs_93 : decode cX9_runs 93 = .ok (.invokevirtual 17, 3) := dk_182 0 17 (dk_at dksX9_runs_2 1 rfl rfl)
theorem dX9_runs_96 : decode cX9_runs 96 = .ok (.ireturn, 1) := dk_172 (dk_at dksX9_runs_2 4 rfl rfl)
theorem dX9_runs_97 : decode cX9_runs 97 = .ok (.aload_n 1, 1) := dk_43 (dk_at dksX9_runs_2 5 rfl rfl)
theorem dX9_runs_98 : decode cX9_runs 98 = .ok (.invokevirtual 23, 3) := dk_182 0 23 (dk_at dksX9_runs_2 6 rfl rfl)
theorem dX9_runs_101 : decode cX9_runs 101 = .ok (.ireturn, 1) := dk_172 (dk_at dksX9_runs_2 9 rfl rfl)
theorem dX9_runs_102 : decode cX9_runs 102 = .ok (.aload_n 1, 1) := dk_43 (dk_at dksX9_runs_2 10 rfl rfl)
theorem dX9_runs_103 : decode cX9_runs 103 = .ok (.invokevirtual 26, 3) := dk_182 0 26 (dk_at dksX9_runs_2 11 rfl rfl)
theorem dX9_runs_106 : decode cX9_runs 106 = .ok (.ireturn, 1) := dk_172 (dk_at dksX9_runs_2 14 rfl rfl)
theorem dX9_runs_107 : decode cX9_runs 107 = .ok (.aload_n 1, 1) := dk_43 (dk_at dksX9_runs_2 15 rfl rfl)
theorem dX9_runs_108 : decode cX9_runs 108 = .ok (.invokevirtual 29, 3) := dk_182 0 29 (dk_at dksX9_runs_2 16 rfl rfl)
theorem dX9_runs_111 : decode cX9_runs 111 = .ok (.ireturn, 1) := dk_172 (dk_at dksX9_runs_2 19 rfl rfl)
theorem dX9_runs_112 : decode cX9_runs 112 = .ok (.aload_n 1, 1) := dk_43 (dk_at dksX9_runs_2 20 rfl rfl)
theorem dX9_runs_113 : decode cX9_runs 113 = .ok (.invokevirtual 32, 3) := dk_182 0 32 (dk_at dksX9_runs_2 21 rfl rfl)
theorem dX9_runs_116 : decode cX9_runs 116 = .ok (.ireturn, 1) := dk_172 (dk_at dksX9_runs_3 0 rfl rfl)
theorem dX9_runs_117 : decode cX9_runs 117 = .ok (.aload_n 1, 1) := dk_43 (dk_at dksX9_runs_3 1 rfl rfl)
theorem dX9_runs_118 : decode cX9_runs 118 = .ok (.aload_n 0, 1) := dk_42 (dk_at dksX9_runs_3 2 rfl rfl)
theorem dX9_runs_119 : decode cX9_runs 119 = .ok (.getfield 35, 3) := dk_180 0 35 (dk_at dksX9_runs_3 3 rfl rfl)
theorem dX9_runs_122 : decode cX9_runs 122 = .ok (.aload_n 0, 1) := dk_42 (dk_at dksX9_runs_3 6 rfl rfl)
theorem dX9_runs_123 : decode cX9_runs 123 = .ok (.getfield 38, 3) := dk_180 0 38 (dk_at dksX9_runs_3 7 rfl rfl)
theorem dX9_runs_126 : decode cX9_runs 126 = .ok (.invokevirtual 41, 3) := dk_182 0 41 (dk_at dksX9_runs_3 10 rfl rfl)
theorem dX9_runs_129 : decode cX9_runs 129 = .ok (.ireturn, 1) := dk_172 (dk_at dksX9_runs_3 13 rfl rfl)
theorem dX9_runs_130 : decode cX9_runs 130 = .ok (.aload_n 1, 1) := dk_43 (dk_at dksX9_runs_3 14 rfl rfl)
theorem dX9_runs_131 : decode cX9_runs 131 = .ok (.aload_n 0, 1) := dk_42 (dk_at dksX9_runs_3 15 rfl rfl)
theorem dX9_runs_132 : decode cX9_runs 132 = .ok (.getfield 35, 3) := dk_180 0 35 (dk_at dksX9_runs_3 16 rfl rfl)
theorem dX9_runs_135 : decode cX9_runs 135 = .ok (.invokevirtual 45, 3) := dk_182 0 45 (dk_at dksX9_runs_3 19 rfl rfl)
theorem dX9_runs_138 : decode cX9_runs 138 = .ok (.ireturn, 1) := dk_172 (dk_at dksX9_runs_3 22 rfl rfl)
theorem q117 : (Jvm.Cond.initialized "PedalLayers$Order") ∈ lw_all := lw_g (lw_at lw_m1 36 rfl) rfl
theorem q480 : (Jvm.Cond.selects "PedalLayers$Order" ({ cls := "java/lang/Object", name := "getClass", desc := "()Ljava/lang/Class;" } : Jvm.MethodName) ({ cls := "java/lang/Object", name := "getClass", desc := "()Ljava/lang/Class;" } : Jvm.MethodName)) ∈ lw_all := lw_g (lw_at lw_m2 159 rfl) rfl
theorem q1271 : (Jvm.Cond.instantiable "PedalLayers$Order" (4 : Nat)) ∈ lw_all := lw_g (lw_at lw_m5 230 rfl) rfl
theorem q1273 : (Jvm.Cond.instanceMethod ({ cls := "PedalLayers$Order", name := "<init>", desc := "(CI)V" } : Jvm.MethodName)) ∈ lw_all := lw_g (lw_at lw_m5 232 rfl) rfl
theorem q1274 : (Jvm.Cond.code ({ cls := "PedalLayers$Order", name := "<init>", desc := "(CI)V" } : Jvm.MethodName) prog_5_method_1_code (3 : Nat) (Option.none : Option Jvm.ClassFile.FieldType)) ∈ lw_all := lw_g (lw_at lw_m5 233 rfl) rfl
theorem q1275 : (Jvm.Cond.methodLink "PedalLayers$Order" (1 : Nat) ({ cls := "java/lang/Object", name := "<init>", desc := "()V" } : Jvm.MethodName)) ∈ lw_all := lw_g (lw_at lw_m5 234 rfl) rfl
theorem q1276 : (Jvm.Cond.fieldLink "PedalLayers$Order" (7 : Nat) "PedalLayers$Order" "letter" "C") ∈ lw_all := lw_g (lw_at lw_m5 235 rfl) rfl
theorem q1277 : (Jvm.Cond.fieldLink "PedalLayers$Order" (13 : Nat) "PedalLayers$Order" "at" "I") ∈ lw_all := lw_g (lw_at lw_m5 236 rfl) rfl
theorem q1279 : (Jvm.Cond.fieldLink "PedalLayers$Order" (35 : Nat) "PedalLayers$Order" "one" "I") ∈ lw_all := lw_g (lw_at lw_m5 238 rfl) rfl
theorem q1281 : (Jvm.Cond.fieldLink "PedalLayers$Order" (38 : Nat) "PedalLayers$Order" "two" "I") ∈ lw_all := lw_g (lw_at lw_m6 0 rfl) rfl
theorem q1283 : (Jvm.Cond.laysFinal "PedalLayers$Order" "PedalLayers$Order" "letter" "C") ∈ lw_all := lw_g (lw_at lw_m6 2 rfl) rfl
theorem q1284 : (Jvm.Cond.soleField "PedalLayers$Order" "letter") ∈ lw_all := lw_g (lw_at lw_m6 3 rfl) rfl
theorem q1285 : (Jvm.Cond.laysFinal "PedalLayers$Order" "PedalLayers$Order" "at" "I") ∈ lw_all := lw_g (lw_at lw_m6 4 rfl) rfl
theorem q1286 : (Jvm.Cond.soleField "PedalLayers$Order" "at") ∈ lw_all := lw_g (lw_at lw_m6 5 rfl) rfl
theorem q1287 : (Jvm.Cond.lays "PedalLayers$Order" "PedalLayers$Order" "one" "I") ∈ lw_all := lw_g (lw_at lw_m6 6 rfl) rfl
theorem q1288 : (Jvm.Cond.soleField "PedalLayers$Order" "one") ∈ lw_all := lw_g (lw_at lw_m6 7 rfl) rfl
theorem q1289 : (Jvm.Cond.lays "PedalLayers$Order" "PedalLayers$Order" "two" "I") ∈ lw_all := lw_g (lw_at lw_m6 8 rfl) rfl
theorem q1290 : (Jvm.Cond.soleField "PedalLayers$Order" "two") ∈ lw_all := lw_g (lw_at lw_m6 9 rfl) rfl
theorem q1291 : (Jvm.Cond.superclass "PedalLayers$Order" "java/lang/Object") ∈ lw_all := lw_g (lw_at lw_m6 10 rfl) rfl
theorem q1368 : (Jvm.Cond.privateMethod ({ cls := "PedalLayers$Order", name := "runs", desc := "(LPedalLayers$Pedal;)I" } : Jvm.MethodName)) ∈ lw_tbl := lw_at lw_m6 87 rfl
theorem q1369 : (Jvm.Cond.instanceMethod ({ cls := "PedalLayers$Order", name := "runs", desc := "(LPedalLayers$Pedal;)I" } : Jvm.MethodName)) ∈ lw_all := lw_g (lw_at lw_m6 88 rfl) rfl
theorem q1370 : (Jvm.Cond.code ({ cls := "PedalLayers$Order", name := "runs", desc := "(LPedalLayers$Pedal;)I" } : Jvm.MethodName) prog_5_method_2_code (2 : Nat) (Option.some Jvm.ClassFile.FieldType.int)) ∈ lw_all := lw_g (lw_at lw_m6 89 rfl) rfl
theorem q1371 : (Jvm.Cond.methodLink "PedalLayers$Order" (17 : Nat) ({ cls := "PedalLayers$Pedal", name := "presses", desc := "()I" } : Jvm.MethodName)) ∈ lw_all := lw_g (lw_at lw_m6 90 rfl) rfl
theorem q1372 : (Jvm.Cond.methodLink "PedalLayers$Order" (23 : Nat) ({ cls := "PedalLayers$Pedal", name := "stops", desc := "()I" } : Jvm.MethodName)) ∈ lw_all := lw_g (lw_at lw_m6 91 rfl) rfl
theorem q1373 : (Jvm.Cond.methodLink "PedalLayers$Order" (26 : Nat) ({ cls := "PedalLayers$Pedal", name := "changesSpeed", desc := "()I" } : Jvm.MethodName)) ∈ lw_all := lw_g (lw_at lw_m6 92 rfl) rfl
theorem q1374 : (Jvm.Cond.methodLink "PedalLayers$Order" (29 : Nat) ({ cls := "PedalLayers$Pedal", name := "peels", desc := "()I" } : Jvm.MethodName)) ∈ lw_all := lw_g (lw_at lw_m6 93 rfl) rfl
theorem q1375 : (Jvm.Cond.methodLink "PedalLayers$Order" (32 : Nat) ({ cls := "PedalLayers$Pedal", name := "putsBack", desc := "()I" } : Jvm.MethodName)) ∈ lw_all := lw_g (lw_at lw_m6 94 rfl) rfl
theorem q1376 : (Jvm.Cond.methodLink "PedalLayers$Order" (41 : Nat) ({ cls := "PedalLayers$Pedal", name := "hits", desc := "(II)I" } : Jvm.MethodName)) ∈ lw_all := lw_g (lw_at lw_m6 95 rfl) rfl
theorem q1377 : (Jvm.Cond.methodLink "PedalLayers$Order" (45 : Nat) ({ cls := "PedalLayers$Pedal", name := "ticks", desc := "(I)I" } : Jvm.MethodName)) ∈ lw_all := lw_g (lw_at lw_m6 96 rfl) rfl
theorem q2016 : (Jvm.Cond.castable "PedalLayers$Order" "java/lang/Object") ∈ lw_tbl := lw_at lw_m9 15 rfl
theorem in_X9 : ∀ w ∈ wsX90, w ∈ lw_all := lw_in wsX90 [1283, 1285, 1287, 1289] (by decide +kernel) (by decide +kernel)
/-! PedalLayers$Unread -/
set_option maxRecDepth 100000
def RX10 : String := "PedalLayers$Unread"
def TX10 : u_T := fun k => match k with
  | 0 => ("java/lang/Throwable", "cause", "Ljava/lang/Throwable;", false)
  | 1 => ("java/lang/Throwable", "stackTrace", "[Ljava/lang/StackTraceElement;", false)
  | 2 => ("java/lang/Throwable", "suppressedExceptions", "Ljava/util/List;", false)
  | 3 => ("java/lang/Throwable", "detailMessage", "Ljava/lang/String;", false)
  | 4 => ("java/lang/Throwable", "backtrace", "Ljava/lang/Object;", false)
  | 5 => ("java/lang/Throwable", "depth", "I", false)
  | _ => ("PedalLayers$Unread", "at", "I", true)
def tyX10 : Nat → FieldType := fun k => match k with
  | 0 => .object "java/lang/Throwable"
  | 1 => .array (.object "java/lang/StackTraceElement")
  | 2 => .object "java/util/List"
  | 3 => .object "java/lang/String"
  | 4 => .object "java/lang/Object"
  | 5 => .int
  | _ => .int
abbrev wsX100 : List Cond := u_ws RX10 TX10 7
theorem nmX10 : ∀ a, a < 7 → ∀ b, b < 7 → a ≠ b → (TX10 a).2.1 ≠ (TX10 b).2.1 := by decide +kernel
theorem tyX10_ok : ∀ k, k < 7 → parseFieldDescriptor (TX10 k).2.2.1 = some (tyX10 k) := by decide +kernel
abbrev cX10_init : ByteArray := prog_10_method_1_code
def yX10_init : MethodName := ⟨RX10, "<init>", "(I)V"⟩
def dkwX10_init_0 : List UInt8 := [42, 183, 0, 1, 42, 27, 181, 0, 7, 177]
abbrev dktX10_init_0 : List UInt8 := dkwX10_init_0 ++ []
theorem dksX10_init_0 : cX10_init.data.toList.drop 0 = dktX10_init_0 := by decide +kernel
theorem dX10_init_0 : decode cX10_init 0 = .ok (.aload_n 0, 1) := dk_42 (dk_at dksX10_init_0 0 rfl rfl)
theorem dX10_init_1 : decode cX10_init 1 = .ok (.invokespecial 1, 3) := dk_183 0 1 (dk_at dksX10_init_0 1 rfl rfl)
theorem dX10_init_4 : decode cX10_init 4 = .ok (.aload_n 0, 1) := dk_42 (dk_at dksX10_init_0 4 rfl rfl)
theorem dX10_init_5 : decode cX10_init 5 = .ok (.iload_n 1, 1) := dk_27 (dk_at dksX10_init_0 5 rfl rfl)
theorem dX10_init_6 : decode cX10_init 6 = .ok (.putfield 7, 3) := dk_181 0 7 (dk_at dksX10_init_0 6 rfl rfl)
theorem dX10_init_9 : decode cX10_init 9 = .ok (.return_, 1) := dk_177 (dk_at dksX10_init_0 9 rfl rfl)
theorem q118 : (Jvm.Cond.initialized "PedalLayers$Unread") ∈ lw_all := lw_g (lw_at lw_m1 37 rfl) rfl
theorem q443 : (Jvm.Cond.selects "PedalLayers$Unread" ({ cls := "java/lang/Throwable", name := "fillInStackTrace", desc := "()Ljava/lang/Throwable;" } : Jvm.MethodName) ({ cls := "java/lang/Throwable", name := "fillInStackTrace", desc := "()Ljava/lang/Throwable;" } : Jvm.MethodName)) ∈ lw_all := lw_g (lw_at lw_m2 122 rfl) rfl
theorem q469 : (Jvm.Cond.selects "PedalLayers$Unread" ({ cls := "java/lang/Throwable", name := "toString", desc := "()Ljava/lang/String;" } : Jvm.MethodName) ({ cls := "java/lang/Throwable", name := "toString", desc := "()Ljava/lang/String;" } : Jvm.MethodName)) ∈ lw_all := lw_g (lw_at lw_m2 148 rfl) rfl
theorem q484 : (Jvm.Cond.selects "PedalLayers$Unread" ({ cls := "java/lang/Object", name := "getClass", desc := "()Ljava/lang/Class;" } : Jvm.MethodName) ({ cls := "java/lang/Object", name := "getClass", desc := "()Ljava/lang/Class;" } : Jvm.MethodName)) ∈ lw_all := lw_g (lw_at lw_m2 163 rfl) rfl
theorem q505 : (Jvm.Cond.selects "PedalLayers$Unread" ({ cls := "java/lang/Throwable", name := "getLocalizedMessage", desc := "()Ljava/lang/String;" } : Jvm.MethodName) ({ cls := "java/lang/Throwable", name := "getLocalizedMessage", desc := "()Ljava/lang/String;" } : Jvm.MethodName)) ∈ lw_all := lw_g (lw_at lw_m2 184 rfl) rfl
theorem q515 : (Jvm.Cond.selects "PedalLayers$Unread" ({ cls := "java/lang/Throwable", name := "getMessage", desc := "()Ljava/lang/String;" } : Jvm.MethodName) ({ cls := "java/lang/Throwable", name := "getMessage", desc := "()Ljava/lang/String;" } : Jvm.MethodName)) ∈ lw_all := lw_g (lw_at lw_m2 194 rfl) rfl
theorem q1305 : (Jvm.Cond.instantiable "PedalLayers$Unread" (7 : Nat)) ∈ lw_all := lw_g (lw_at lw_m6 24 rfl) rfl
theorem q1306 : (Jvm.Cond.castable "PedalLayers$Unread" "PedalLayers$Unread") ∈ lw_tbl := lw_at lw_m6 25 rfl
theorem q1307 : (Jvm.Cond.selects "PedalLayers$Unread" ({ cls := "java/lang/Throwable", name := "fillInStackTrace", desc := "(I)Ljava/lang/Throwable;" } : Jvm.MethodName) ({ cls := "java/lang/Throwable", name := "fillInStackTrace", desc := "(I)Ljava/lang/Throwable;" } : Jvm.MethodName)) ∈ lw_all := lw_g (lw_at lw_m6 26 rfl) rfl
theorem q1308 : (Jvm.Cond.lays "PedalLayers$Unread" "java/lang/Throwable" "cause" "Ljava/lang/Throwable;") ∈ lw_all := lw_g (lw_at lw_m6 27 rfl) rfl
theorem q1309 : (Jvm.Cond.lays "PedalLayers$Unread" "java/lang/Throwable" "stackTrace" "[Ljava/lang/StackTraceElement;") ∈ lw_all := lw_g (lw_at lw_m6 28 rfl) rfl
theorem q1310 : (Jvm.Cond.lays "PedalLayers$Unread" "java/lang/Throwable" "suppressedExceptions" "Ljava/util/List;") ∈ lw_all := lw_g (lw_at lw_m6 29 rfl) rfl
theorem q1311 : (Jvm.Cond.lays "PedalLayers$Unread" "java/lang/Throwable" "detailMessage" "Ljava/lang/String;") ∈ lw_all := lw_g (lw_at lw_m6 30 rfl) rfl
theorem q1312 : (Jvm.Cond.lays "PedalLayers$Unread" "java/lang/Throwable" "backtrace" "Ljava/lang/Object;") ∈ lw_all := lw_g (lw_at lw_m6 31 rfl) rfl
theorem q1314 : (Jvm.Cond.instanceMethod ({ cls := "PedalLayers$Unread", name := "<init>", desc := "(I)V" } : Jvm.MethodName)) ∈ lw_all := lw_g (lw_at lw_m6 33 rfl) rfl
theorem q1315 : (Jvm.Cond.code ({ cls := "PedalLayers$Unread", name := "<init>", desc := "(I)V" } : Jvm.MethodName) prog_10_method_1_code (2 : Nat) (Option.none : Option Jvm.ClassFile.FieldType)) ∈ lw_all := lw_g (lw_at lw_m6 34 rfl) rfl
theorem q1316 : (Jvm.Cond.methodLink "PedalLayers$Unread" (1 : Nat) ({ cls := "java/lang/Exception", name := "<init>", desc := "()V" } : Jvm.MethodName)) ∈ lw_all := lw_g (lw_at lw_m6 35 rfl) rfl
theorem q1317 : (Jvm.Cond.fieldLink "PedalLayers$Unread" (7 : Nat) "PedalLayers$Unread" "at" "I") ∈ lw_all := lw_g (lw_at lw_m6 36 rfl) rfl
theorem q1319 : (Jvm.Cond.laysFinal "PedalLayers$Unread" "PedalLayers$Unread" "at" "I") ∈ lw_all := lw_g (lw_at lw_m6 38 rfl) rfl
theorem q1320 : (Jvm.Cond.soleField "PedalLayers$Unread" "at") ∈ lw_all := lw_g (lw_at lw_m6 39 rfl) rfl
theorem q1321 : (Jvm.Cond.lays "PedalLayers$Unread" "java/lang/Throwable" "depth" "I") ∈ lw_all := lw_g (lw_at lw_m6 40 rfl) rfl
theorem q1322 : (Jvm.Cond.superclass "PedalLayers$Unread" "java/lang/Exception") ∈ lw_all := lw_g (lw_at lw_m6 41 rfl) rfl
theorem q2017 : (Jvm.Cond.castable "PedalLayers$Unread" "java/lang/Object") ∈ lw_tbl := lw_at lw_m9 16 rfl
theorem in_X10 : ∀ w ∈ wsX100, w ∈ lw_all := lw_in wsX100 [1308, 1309, 1310, 1311, 1312, 1321, 1319] (by decide +kernel) (by decide +kernel)
/-! PedalLayers$Stopped -/
set_option maxRecDepth 100000
def RX11 : String := "PedalLayers$Stopped"
def TX11 : u_T := fun k => match k with
  | 0 => ("java/lang/Throwable", "cause", "Ljava/lang/Throwable;", false)
  | 1 => ("java/lang/Throwable", "stackTrace", "[Ljava/lang/StackTraceElement;", false)
  | 2 => ("java/lang/Throwable", "suppressedExceptions", "Ljava/util/List;", false)
  | 3 => ("java/lang/Throwable", "detailMessage", "Ljava/lang/String;", false)
  | 4 => ("java/lang/Throwable", "backtrace", "Ljava/lang/Object;", false)
  | 5 => ("java/lang/Throwable", "depth", "I", false)
  | 6 => ("PedalLayers$Stopped", "number", "I", true)
  | _ => ("PedalLayers$Stopped", "at", "I", true)
def tyX11 : Nat → FieldType := fun k => match k with
  | 0 => .object "java/lang/Throwable"
  | 1 => .array (.object "java/lang/StackTraceElement")
  | 2 => .object "java/util/List"
  | 3 => .object "java/lang/String"
  | 4 => .object "java/lang/Object"
  | 5 => .int
  | 6 => .int
  | _ => .int
abbrev wsX110 : List Cond := u_ws RX11 TX11 8
theorem nmX11 : ∀ a, a < 8 → ∀ b, b < 8 → a ≠ b → (TX11 a).2.1 ≠ (TX11 b).2.1 := by decide +kernel
theorem tyX11_ok : ∀ k, k < 8 → parseFieldDescriptor (TX11 k).2.2.1 = some (tyX11 k) := by decide +kernel
abbrev cX11_init : ByteArray := prog_9_method_1_code
def yX11_init : MethodName := ⟨RX11, "<init>", "(II)V"⟩
def dkwX11_init_0 : List UInt8 := [42, 183, 0, 3, 42, 27, 181, 0, 9, 42, 28, 181, 0, 15, 177]
abbrev dktX11_init_0 : List UInt8 := dkwX11_init_0 ++ []
theorem dksX11_init_0 : cX11_init.data.toList.drop 0 = dktX11_init_0 := by decide +kernel
theorem dX11_init_0 : decode cX11_init 0 = .ok (.aload_n 0, 1) := dk_42 (dk_at dksX11_init_0 0 rfl rfl)
theorem dX11_init_1 : decode cX11_init 1 = .ok (.invokespecial 3, 3) := dk_183 0 3 (dk_at dksX11_init_0 1 rfl rfl)
theorem dX11_init_4 : decode cX11_init 4 = .ok (.aload_n 0, 1) := dk_42 (dk_at dksX11_init_0 4 rfl rfl)
theorem dX11_init_5 : decode cX11_init 5 = .ok (.iload_n 1, 1) := dk_27 (dk_at dksX11_init_0 5 rfl rfl)
theorem dX11_init_6 : decode cX11_init 6 = .ok (.putfield 9, 3) := dk_181 0 9 (dk_at dksX11_init_0 6 rfl rfl)
theorem dX11_init_9 : decode cX11_init 9 = .ok (.aload_n 0, 1) := dk_42 (dk_at dksX11_init_0 9 rfl rfl)
theorem dX11_init_10 : decode cX11_init 10 = .ok (.iload_n 2, 1) := dk_28 (dk_at dksX11_init_0 10 rfl rfl)
theorem dX11_init_11 : decode cX11_init 11 = .ok (.putfield 15, 3) := dk_181 0 15 (dk_at dksX11_init_0 11 rfl rfl)
theorem dX11_init_14 : decode cX11_init 14 = .ok (.return_, 1) := dk_177 (dk_at dksX11_init_0 14 rfl rfl)
abbrev cX11_error : ByteArray := prog_9_method_2_code
def yX11_error : MethodName := ⟨RX11, "error", "()I"⟩
def dkwX11_error_1 : List UInt8 := [16, 254, 172]
abbrev dktX11_error_1 : List UInt8 := dkwX11_error_1 ++ []
def dkwX11_error_0 : List UInt8 := [42, 182, 0, 18, 77, 44, 193, 0, 22, 153, 0, 15, 44, 192, 0, 22, 76, 43, 180, 0, 24, 167, 0, 5]
abbrev dktX11_error_0 : List UInt8 := dkwX11_error_0 ++ dktX11_error_1
theorem dksX11_error_0 : cX11_error.data.toList.drop 0 = dktX11_error_0 := by decide +kernel
theorem dksX11_error_1 : cX11_error.data.toList.drop 24 = dktX11_error_1 := dk_seg dksX11_error_0 24 rfl rfl
theorem dX11_error_0 : decode cX11_error 0 = .ok (.aload_n 0, 1) := dk_42 (dk_at dksX11_error_0 0 rfl rfl)
theorem dX11_error_1 : decode cX11_error 1 = .ok (.invokevirtual 18, 3) := dk_182 0 18 (dk_at dksX11_error_0 1 rfl rfl)
theorem dX11_error_4 : decode cX11_error 4 = .ok (.astore_n 2, 1) := dk_77 (dk_at dksX11_error_0 4 rfl rfl)
theorem dX11_error_5 : decode cX11_error 5 = .ok (.aload_n 2, 1) := dk_44 (dk_at dksX11_error_0 5 rfl rfl)
theorem dX11_error_6 : decode cX11_error 6 = .ok (.instanceof 22, 3) := dk_193 0 22 (dk_at dksX11_error_0 6 rfl rfl)
theorem dX11_error_9 : decode cX11_error 9 = .ok (.ifCond .eq 15, 3) := dk_153 0 15 (dk_at dksX11_error_0 9 rfl rfl)
theorem dX11_error_12 : decode cX11_error 12 = .ok (.aload_n 2, 1) := dk_44 (dk_at dksX11_error_0 12 rfl rfl)
theorem dX11_error_13 : decode cX11_error 13 = .ok (.checkcast 22, 3) := dk_192 0 22 (dk_at dksX11_error_0 13 rfl rfl)
theorem dX11_error_16 : decode cX11_error 16 = .ok (.astore_n 1, 1) := dk_76 (dk_at dksX11_error_0 16 rfl rfl)
theorem dX11_error_17 : decode cX11_error 17 = .ok (.aload_n 1, 1) := dk_43 (dk_at dksX11_error_0 17 rfl rfl)
theorem dX11_error_18 : decode cX11_error 18 = .ok (.getfield 24, 3) := dk_180 0 24 (dk_at dksX11_error_0 18 rfl rfl)
theorem dX11_error_21 : decode cX11_error 21 = .ok (.goto 5, 3) := dk_167 0 5 (dk_at dksX11_error_0 21 rfl rfl)
theorem dX11_error_24 : decode cX11_error 24 = .ok (.bipush (-2), 2) := dk_16 254 (dk_at dksX11_error_1 0 rfl rfl)
theorem dX11_error_26 : decode cX11_error 26 = .ok (.ireturn, 1) := dk_172 (dk_at dksX11_error_1 2 rfl rfl)
theorem q122 : (Jvm.Cond.initialized "PedalLayers$Stopped") ∈ lw_all := lw_g (lw_at lw_m1 41 rfl) rfl
theorem q442 : (Jvm.Cond.selects "PedalLayers$Stopped" ({ cls := "java/lang/Throwable", name := "fillInStackTrace", desc := "()Ljava/lang/Throwable;" } : Jvm.MethodName) ({ cls := "java/lang/Throwable", name := "fillInStackTrace", desc := "()Ljava/lang/Throwable;" } : Jvm.MethodName)) ∈ lw_all := lw_g (lw_at lw_m2 121 rfl) rfl
theorem q468 : (Jvm.Cond.selects "PedalLayers$Stopped" ({ cls := "java/lang/Throwable", name := "toString", desc := "()Ljava/lang/String;" } : Jvm.MethodName) ({ cls := "java/lang/Throwable", name := "toString", desc := "()Ljava/lang/String;" } : Jvm.MethodName)) ∈ lw_all := lw_g (lw_at lw_m2 147 rfl) rfl
theorem q483 : (Jvm.Cond.selects "PedalLayers$Stopped" ({ cls := "java/lang/Object", name := "getClass", desc := "()Ljava/lang/Class;" } : Jvm.MethodName) ({ cls := "java/lang/Object", name := "getClass", desc := "()Ljava/lang/Class;" } : Jvm.MethodName)) ∈ lw_all := lw_g (lw_at lw_m2 162 rfl) rfl
theorem q504 : (Jvm.Cond.selects "PedalLayers$Stopped" ({ cls := "java/lang/Throwable", name := "getLocalizedMessage", desc := "()Ljava/lang/String;" } : Jvm.MethodName) ({ cls := "java/lang/Throwable", name := "getLocalizedMessage", desc := "()Ljava/lang/String;" } : Jvm.MethodName)) ∈ lw_all := lw_g (lw_at lw_m2 183 rfl) rfl
theorem q514 : (Jvm.Cond.selects "PedalLayers$Stopped" ({ cls := "java/lang/Throwable", name := "getMessage", desc := "()Ljava/lang/String;" } : Jvm.MethodName) ({ cls := "java/lang/Throwable", name := "getMessage", desc := "()Ljava/lang/String;" } : Jvm.MethodName)) ∈ lw_all := lw_g (lw_at lw_m2 193 rfl) rfl
theorem q932 : (Jvm.Cond.fieldLinkNest "PedalLayers$Stopped" (24 : Nat) "PedalLayers$Refused" "error" "I" "PedalLayers") ∈ lw_tbl := lw_at lw_m4 131 rfl
theorem q1378 : (Jvm.Cond.instantiable "PedalLayers$Stopped" (8 : Nat)) ∈ lw_all := lw_g (lw_at lw_m6 97 rfl) rfl
theorem q1379 : (Jvm.Cond.castable "PedalLayers$Stopped" "PedalLayers$Stopped") ∈ lw_tbl := lw_at lw_m6 98 rfl
theorem q1380 : (Jvm.Cond.selects "PedalLayers$Stopped" ({ cls := "java/lang/Throwable", name := "fillInStackTrace", desc := "(I)Ljava/lang/Throwable;" } : Jvm.MethodName) ({ cls := "java/lang/Throwable", name := "fillInStackTrace", desc := "(I)Ljava/lang/Throwable;" } : Jvm.MethodName)) ∈ lw_all := lw_g (lw_at lw_m6 99 rfl) rfl
theorem q1381 : (Jvm.Cond.lays "PedalLayers$Stopped" "java/lang/Throwable" "cause" "Ljava/lang/Throwable;") ∈ lw_all := lw_g (lw_at lw_m6 100 rfl) rfl
theorem q1382 : (Jvm.Cond.lays "PedalLayers$Stopped" "java/lang/Throwable" "stackTrace" "[Ljava/lang/StackTraceElement;") ∈ lw_all := lw_g (lw_at lw_m6 101 rfl) rfl
theorem q1383 : (Jvm.Cond.lays "PedalLayers$Stopped" "java/lang/Throwable" "suppressedExceptions" "Ljava/util/List;") ∈ lw_all := lw_g (lw_at lw_m6 102 rfl) rfl
theorem q1384 : (Jvm.Cond.lays "PedalLayers$Stopped" "java/lang/Throwable" "detailMessage" "Ljava/lang/String;") ∈ lw_all := lw_g (lw_at lw_m6 103 rfl) rfl
theorem q1385 : (Jvm.Cond.lays "PedalLayers$Stopped" "java/lang/Throwable" "backtrace" "Ljava/lang/Object;") ∈ lw_all := lw_g (lw_at lw_m6 104 rfl) rfl
theorem q1387 : (Jvm.Cond.instanceMethod ({ cls := "PedalLayers$Stopped", name := "<init>", desc := "(II)V" } : Jvm.MethodName)) ∈ lw_all := lw_g (lw_at lw_m6 106 rfl) rfl
theorem q1388 : (Jvm.Cond.code ({ cls := "PedalLayers$Stopped", name := "<init>", desc := "(II)V" } : Jvm.MethodName) prog_9_method_1_code (3 : Nat) (Option.none : Option Jvm.ClassFile.FieldType)) ∈ lw_all := lw_g (lw_at lw_m6 107 rfl) rfl
theorem q1389 : (Jvm.Cond.methodLink "PedalLayers$Stopped" (3 : Nat) ({ cls := "java/lang/Exception", name := "<init>", desc := "()V" } : Jvm.MethodName)) ∈ lw_all := lw_g (lw_at lw_m6 108 rfl) rfl
theorem q1390 : (Jvm.Cond.fieldLink "PedalLayers$Stopped" (9 : Nat) "PedalLayers$Stopped" "number" "I") ∈ lw_all := lw_g (lw_at lw_m6 109 rfl) rfl
theorem q1392 : (Jvm.Cond.fieldLink "PedalLayers$Stopped" (15 : Nat) "PedalLayers$Stopped" "at" "I") ∈ lw_all := lw_g (lw_at lw_m6 111 rfl) rfl
theorem q1394 : (Jvm.Cond.laysFinal "PedalLayers$Stopped" "PedalLayers$Stopped" "number" "I") ∈ lw_all := lw_g (lw_at lw_m6 113 rfl) rfl
theorem q1395 : (Jvm.Cond.soleField "PedalLayers$Stopped" "number") ∈ lw_all := lw_g (lw_at lw_m6 114 rfl) rfl
theorem q1396 : (Jvm.Cond.laysFinal "PedalLayers$Stopped" "PedalLayers$Stopped" "at" "I") ∈ lw_all := lw_g (lw_at lw_m6 115 rfl) rfl
theorem q1397 : (Jvm.Cond.soleField "PedalLayers$Stopped" "at") ∈ lw_all := lw_g (lw_at lw_m6 116 rfl) rfl
theorem q1398 : (Jvm.Cond.lays "PedalLayers$Stopped" "java/lang/Throwable" "depth" "I") ∈ lw_all := lw_g (lw_at lw_m6 117 rfl) rfl
theorem q1399 : (Jvm.Cond.superclass "PedalLayers$Stopped" "java/lang/Exception") ∈ lw_all := lw_g (lw_at lw_m6 118 rfl) rfl
theorem q1401 : (Jvm.Cond.sameMethod "PedalLayers$Stopped" "java/lang/Throwable" "initCause" "(Ljava/lang/Throwable;)Ljava/lang/Throwable;") ∈ lw_all := lw_g (lw_at lw_m6 120 rfl) rfl
theorem q1403 : (Jvm.Cond.selects "PedalLayers$Stopped" ({ cls := "PedalLayers$Stopped", name := "initCause", desc := "(Ljava/lang/Throwable;)Ljava/lang/Throwable;" } : Jvm.MethodName) ({ cls := "java/lang/Throwable", name := "initCause", desc := "(Ljava/lang/Throwable;)Ljava/lang/Throwable;" } : Jvm.MethodName)) ∈ lw_all := lw_g (lw_at lw_m6 122 rfl) rfl
theorem q1411 : (Jvm.Cond.instanceMethod ({ cls := "PedalLayers$Stopped", name := "error", desc := "()I" } : Jvm.MethodName)) ∈ lw_all := lw_g (lw_at lw_m6 130 rfl) rfl
theorem q1412 : (Jvm.Cond.selects "PedalLayers$Stopped" ({ cls := "PedalLayers$Stopped", name := "error", desc := "()I" } : Jvm.MethodName) ({ cls := "PedalLayers$Stopped", name := "error", desc := "()I" } : Jvm.MethodName)) ∈ lw_all := lw_g (lw_at lw_m6 131 rfl) rfl
theorem q1413 : (Jvm.Cond.code ({ cls := "PedalLayers$Stopped", name := "error", desc := "()I" } : Jvm.MethodName) prog_9_method_2_code (3 : Nat) (Option.some Jvm.ClassFile.FieldType.int)) ∈ lw_all := lw_g (lw_at lw_m6 132 rfl) rfl
theorem q1414 : (Jvm.Cond.methodLink "PedalLayers$Stopped" (18 : Nat) ({ cls := "PedalLayers$Stopped", name := "getCause", desc := "()Ljava/lang/Throwable;" } : Jvm.MethodName)) ∈ lw_all := lw_g (lw_at lw_m6 133 rfl) rfl
theorem q1415 : (Jvm.Cond.sameMethod "PedalLayers$Stopped" "java/lang/Throwable" "getCause" "()Ljava/lang/Throwable;") ∈ lw_all := lw_g (lw_at lw_m6 134 rfl) rfl
theorem q1417 : (Jvm.Cond.selects "PedalLayers$Stopped" ({ cls := "PedalLayers$Stopped", name := "getCause", desc := "()Ljava/lang/Throwable;" } : Jvm.MethodName) ({ cls := "java/lang/Throwable", name := "getCause", desc := "()Ljava/lang/Throwable;" } : Jvm.MethodName)) ∈ lw_all := lw_g (lw_at lw_m6 136 rfl) rfl
theorem q1420 : (Jvm.Cond.classLink "PedalLayers$Stopped" (22 : Nat) "PedalLayers$Refused") ∈ lw_all := lw_g (lw_at lw_m6 139 rfl) rfl
theorem q2019 : (Jvm.Cond.castable "PedalLayers$Stopped" "java/lang/Object") ∈ lw_tbl := lw_at lw_m9 18 rfl
theorem in_X11 : ∀ w ∈ wsX110, w ∈ lw_all := lw_in wsX110 [1381, 1382, 1383, 1384, 1385, 1398, 1394, 1396] (by decide +kernel) (by decide +kernel)
