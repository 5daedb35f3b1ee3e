/-! PedalLayersModel -/
set_option maxRecDepth 100000
def RX2 : String := "PedalLayersModel"
def TX2 : u_T := fun k => match k with
  | 0 => ("PedalLayersModel", "s", "[J", true)
  | 1 => ("PedalLayersModel", "past", "[J", true)
  | 2 => ("PedalLayersModel", "known", "I", false)
  | 3 => ("PedalLayersModel", "snap", "[J", true)
  | 4 => ("PedalLayersModel", "isSaved", "Z", false)
  | 5 => ("PedalLayersModel", "pad", "[I", true)
  | 6 => ("PedalLayersModel", "length", "I", false)
  | 7 => ("PedalLayersModel", "stopped", "[I", true)
  | _ => ("PedalLayersModel", "isStopped", "Z", false)
def tyX2 : Nat → FieldType := fun k => match k with
  | 0 => .array .long
  | 1 => .array .long
  | 2 => .int
  | 3 => .array .long
  | 4 => .boolean
  | 5 => .array .int
  | 6 => .int
  | 7 => .array .int
  | _ => .boolean
abbrev wsX20 : List Cond := u_ws RX2 TX2 9
theorem nmX2 : ∀ a, a < 9 → ∀ b, b < 9 → a ≠ b → (TX2 a).2.1 ≠ (TX2 b).2.1 := by decide +kernel
theorem tyX2_ok : ∀ k, k < 9 → parseFieldDescriptor (TX2 k).2.2.1 = some (tyX2 k) := by decide +kernel
abbrev cX2_init : ByteArray := prog_13_method_1_code
def yX2_init : MethodName := ⟨RX2, "<init>", "()V"⟩
def dkwX2_init_2 : List UInt8 := [180, 0, 7, 6, 20, 0, 26, 80, 42, 180, 0, 7, 7, 10, 80, 177]
abbrev dktX2_init_2 : List UInt8 := dkwX2_init_2 ++ []
def dkwX2_init_1 : List UInt8 := [17, 5, 96, 188, 11, 181, 0, 16, 42, 16, 60, 188, 10, 181, 0, 19, 42, 6, 188, 10, 181, 0, 23, 42]
abbrev dktX2_init_1 : List UInt8 := dkwX2_init_1 ++ dktX2_init_2
def dkwX2_init_0 : List UInt8 := [42, 183, 0, 1, 42, 17, 5, 96, 188, 11, 181, 0, 7, 42, 17, 21, 128, 188, 11, 181, 0, 13, 42]
abbrev dktX2_init_0 : List UInt8 := dkwX2_init_0 ++ dktX2_init_1
theorem dksX2_init_0 : cX2_init.data.toList.drop 0 = dktX2_init_0 := by decide +kernel
theorem dksX2_init_1 : cX2_init.data.toList.drop 23 = dktX2_init_1 := dk_seg dksX2_init_0 23 rfl rfl
theorem dksX2_init_2 : cX2_init.data.toList.drop 47 = dktX2_init_2 := dk_seg dksX2_init_1 24 rfl rfl
theorem dX2_init_0 : decode cX2_init 0 = .ok (.aload_n 0, 1) := dk_42 (dk_at dksX2_init_0 0 rfl rfl)
theorem dX2_init_1 : decode cX2_init 1 = .ok (.invokespecial 1, 3) := dk_183 0 1 (dk_at dksX2_init_0 1 rfl rfl)
theorem dX2_init_4 : decode cX2_init 4 = .ok (.aload_n 0, 1) := dk_42 (dk_at dksX2_init_0 4 rfl rfl)
theorem dX2_init_5 : decode cX2_init 5 = .ok (.sipush 1376, 3) := dk_17 5 96 (dk_at dksX2_init_0 5 rfl rfl)
theorem dX2_init_8 : decode cX2_init 8 = .ok (.newarray .long, 2) := dk_188_11 (dk_at dksX2_init_0 8 rfl rfl)
theorem dX2_init_10 : decode cX2_init 10 = .ok (.putfield 7, 3) := dk_181 0 7 (dk_at dksX2_init_0 10 rfl rfl)
theorem dX2_init_13 : decode cX2_init 13 = .ok (.aload_n 0, 1) := dk_42 (dk_at dksX2_init_0 13 rfl rfl)
theorem dX2_init_14 : decode cX2_init 14 = .ok (.sipush 5504, 3) := dk_17 21 128 (dk_at dksX2_init_0 14 rfl rfl)
theorem dX2_init_17 : decode cX2_init 17 = .ok (.newarray .long, 2) := dk_188_11 (dk_at dksX2_init_0 17 rfl rfl)
theorem dX2_init_19 : decode cX2_init 19 = .ok (.putfield 13, 3) := dk_181 0 13 (dk_at dksX2_init_0 19 rfl rfl)
theorem dX2_init_22 : decode cX2_init 22 = .ok (.aload_n 0, 1) := dk_42 (dk_at dksX2_init_0 22 rfl rfl)
theorem dX2_init_23 : decode cX2_init 23 = .ok (.sipush 1376, 3) := dk_17 5 96 (dk_at dksX2_init_1 0 rfl rfl)
theorem dX2_init_26 : decode cX2_init 26 = .ok (.newarray .long, 2) := dk_188_11 (dk_at dksX2_init_1 3 rfl rfl)
theorem dX2_init_28 : decode cX2_init 28 = .ok (.putfield 16, 3) := dk_181 0 16 (dk_at dksX2_init_1 5 rfl rfl)
theorem dX2_init_31 : decode cX2_init 31 = .ok (.aload_n 0, 1) := dk_42 (dk_at dksX2_init_1 8 rfl rfl)
theorem dX2_init_32 : decode cX2_init 32 = .ok (.bipush 60, 2) := dk_16 60 (dk_at dksX2_init_1 9 rfl rfl)
theorem dX2_init_34 : decode cX2_init 34 = .ok (.newarray .int, 2) := dk_188_10 (dk_at dksX2_init_1 11 rfl rfl)
theorem dX2_init_36 : decode cX2_init 36 = .ok (.putfield 19, 3) := dk_181 0 19 (dk_at dksX2_init_1 13 rfl rfl)
theorem dX2_init_39 : decode cX2_init 39 = .ok (.aload_n 0, 1) := dk_42 (dk_at dksX2_init_1 16 rfl rfl)
theorem dX2_init_40 : decode cX2_init 40 = .ok (.iconst 3, 1) := dk_6 (dk_at dksX2_init_1 17 rfl rfl)
theorem dX2_init_41 : decode cX2_init 41 = .ok (.newarray .int, 2) := dk_188_10 (dk_at dksX2_init_1 18 rfl rfl)
theorem dX2_init_43 : decode cX2_init 43 = .ok (.putfield 23, 3) := dk_181 0 23 (dk_at dksX2_init_1 20 rfl rfl)
theorem dX2_init_46 : decode cX2_init 46 = .ok (.aload_n 0, 1) := dk_42 (dk_at dksX2_init_1 23 rfl rfl)
theorem dX2_init_47 : decode cX2_init 47 = .ok (.getfield 7, 3) := dk_180 0 7 (dk_at dksX2_init_2 0 rfl rfl)
theorem dX2_init_50 : decode cX2_init 50 = .ok (.iconst 3, 1) := dk_6 (dk_at dksX2_init_2 3 rfl rfl)
theorem dX2_init_51 : decode cX2_init 51 = .ok (.ldc2_w 26, 3) := dk_20 0 26 (dk_at dksX2_init_2 4 rfl rfl)
theorem dX2_init_54 : decode cX2_init 54 = .ok (.lastore, 1) := dk_80 (dk_at dksX2_init_2 7 rfl rfl)
theorem dX2_init_55 : decode cX2_init 55 = .ok (.aload_n 0, 1) := dk_42 (dk_at dksX2_init_2 8 rfl rfl)
theorem dX2_init_56 : decode cX2_init 56 = .ok (.getfield 7, 3) := dk_180 0 7 (dk_at dksX2_init_2 9 rfl rfl)
theorem dX2_init_59 : decode cX2_init 59 = .ok (.iconst 4, 1) := dk_7 (dk_at dksX2_init_2 12 rfl rfl)
theorem dX2_init_60 : decode cX2_init 60 = .ok (.lconst 1, 1) := dk_10 (dk_at dksX2_init_2 13 rfl rfl)
theorem dX2_init_61 : decode cX2_init 61 = .ok (.lastore, 1) := dk_80 (dk_at dksX2_init_2 14 rfl rfl)
theorem dX2_init_62 : decode cX2_init 62 = .ok (.return_, 1) := dk_177 (dk_at dksX2_init_2 15 rfl rfl)
abbrev cX2_press : ByteArray := prog_13_method_34_code
def yX2_press : MethodName := ⟨RX2, "press", "()I"⟩
def dkwX2_press_1 : List UInt8 := [172]
abbrev dktX2_press_1 : List UInt8 := dkwX2_press_1 ++ []
def dkwX2_press_0 : List UInt8 := [42, 182, 0, 107, 60, 27, 156, 0, 5, 27, 172, 42, 182, 0, 110, 42, 182, 0, 113, 42, 3, 182, 0, 36]
abbrev dktX2_press_0 : List UInt8 := dkwX2_press_0 ++ dktX2_press_1
theorem dksX2_press_0 : cX2_press.data.toList.drop 0 = dktX2_press_0 := by decide +kernel
theorem dksX2_press_1 : cX2_press.data.toList.drop 24 = dktX2_press_1 := dk_seg dksX2_press_0 24 rfl rfl
theorem dX2_press_0 : decode cX2_press 0 = .ok (.aload_n 0, 1) := dk_42 (dk_at dksX2_press_0 0 rfl rfl)
theorem dX2_press_1 : decode cX2_press 1 = .ok (.invokevirtual 107, 3) := dk_182 0 107 (dk_at dksX2_press_0 1 rfl rfl)
theorem dX2_press_4 : decode cX2_press 4 = .ok (.istore_n 1, 1) := dk_60 (dk_at dksX2_press_0 4 rfl rfl)
theorem dX2_press_5 : decode cX2_press 5 = .ok (.iload_n 1, 1) := dk_27 (dk_at dksX2_press_0 5 rfl rfl)
theorem dX2_press_6 : decode cX2_press 6 = .ok (.ifCond .ge 5, 3) := dk_156 0 5 (dk_at dksX2_press_0 6 rfl rfl)
theorem dX2_press_9 : decode cX2_press 9 = .ok (.iload_n 1, 1) := dk_27 (dk_at dksX2_press_0 9 rfl rfl)
theorem dX2_press_10 : decode cX2_press 10 = .ok (.ireturn, 1) := dk_172 (dk_at dksX2_press_0 10 rfl rfl)
theorem dX2_press_11 : decode cX2_press 11 = .ok (.aload_n 0, 1) := dk_42 (dk_at dksX2_press_0 11 rfl rfl)
theorem dX2_press_12 : decode cX2_press 12 = .ok (.invokevirtual 110, 3) := dk_182 0 110 (dk_at dksX2_press_0 12 rfl rfl)
theorem dX2_press_15 : decode cX2_press 15 = .ok (.aload_n 0, 1) := dk_42 (dk_at dksX2_press_0 15 rfl rfl)
theorem dX2_press_16 : decode cX2_press 16 = .ok (.invokevirtual 113, 3) := dk_182 0 113 (dk_at dksX2_press_0 16 rfl rfl)
theorem dX2_press_19 : decode cX2_press 19 = .ok (.aload_n 0, 1) := dk_42 (dk_at dksX2_press_0 19 rfl rfl)
theorem dX2_press_20 : decode cX2_press 20 = .ok (.iconst 0, 1) := dk_3 (dk_at dksX2_press_0 20 rfl rfl)
theorem dX2_press_21 : decode cX2_press 21 = .ok (.invokevirtual 36, 3) := dk_182 0 36 (dk_at dksX2_press_0 21 rfl rfl)
theorem dX2_press_24 : decode cX2_press 24 = .ok (.ireturn, 1) := dk_172 (dk_at dksX2_press_1 0 rfl rfl)
abbrev cX2_whyNotPress : ByteArray := prog_13_method_21_code
def yX2_whyNotPress : MethodName := ⟨RX2, "whyNotPress", "()I"⟩
def dkwX2_whyNotPress_2 : List UInt8 := [16, 6, 160, 0, 8, 16, 253, 167, 0, 4, 3, 172]
abbrev dktX2_whyNotPress_2 : List UInt8 := dkwX2_whyNotPress_2 ++ []
def dkwX2_whyNotPress_1 : List UInt8 := [153, 0, 8, 16, 254, 167, 0, 29, 42, 3, 182, 0, 36, 5, 160, 0, 19, 42, 16, 7, 182, 0, 36]
abbrev dktX2_whyNotPress_1 : List UInt8 := dkwX2_whyNotPress_1 ++ dktX2_whyNotPress_2
def dkwX2_whyNotPress_0 : List UInt8 := [42, 182, 0, 84, 153, 0, 16, 42, 16, 11, 182, 0, 36, 154, 0, 7, 4, 167, 0, 4, 3, 60, 27]
abbrev dktX2_whyNotPress_0 : List UInt8 := dkwX2_whyNotPress_0 ++ dktX2_whyNotPress_1
theorem dksX2_whyNotPress_0 : cX2_whyNotPress.data.toList.drop 0 = dktX2_whyNotPress_0 := by decide +kernel
theorem dksX2_whyNotPress_1 : cX2_whyNotPress.data.toList.drop 23 = dktX2_whyNotPress_1 := dk_seg dksX2_whyNotPress_0 23 rfl rfl
theorem dksX2_whyNotPress_2 : cX2_whyNotPress.data.toList.drop 46 = dktX2_whyNotPress_2 := dk_seg dksX2_whyNotPress_1 23 rfl rfl
theorem dX2_whyNotPress_0 : decode cX2_whyNotPress 0 = .ok (.aload_n 0, 1) := dk_42 (dk_at dksX2_whyNotPress_0 0 rfl rfl)
theorem dX2_whyNotPress_1 : decode cX2_whyNotPress 1 = .ok (.invokevirtual 84, 3) := dk_182 0 84 (dk_at dksX2_whyNotPress_0 1 rfl rfl)
theorem dX2_whyNotPress_4 : decode cX2_whyNotPress 4 = .ok (.ifCond .eq 16, 3) := dk_153 0 16 (dk_at dksX2_whyNotPress_0 4 rfl rfl)
theorem dX2_whyNotPress_7 : decode cX2_whyNotPress 7 = .ok (.aload_n 0, 1) := dk_42 (dk_at dksX2_whyNotPress_0 7 rfl rfl)
theorem dX2_whyNotPress_8 : decode cX2_whyNotPress 8 = .ok (.bipush 11, 2) := dk_16 11 (dk_at dksX2_whyNotPress_0 8 rfl rfl)
theorem dX2_whyNotPress_10 : decode cX2_whyNotPress 10 = .ok (.invokevirtual 36, 3) := dk_182 0 36 (dk_at dksX2_whyNotPress_0 10 rfl rfl)
theorem dX2_whyNotPress_13 : decode cX2_whyNotPress 13 = .ok (.ifCond .ne 7, 3) := dk_154 0 7 (dk_at dksX2_whyNotPress_0 13 rfl rfl)
theorem dX2_whyNotPress_16 : decode cX2_whyNotPress 16 = .ok (.iconst 1, 1) := dk_4 (dk_at dksX2_whyNotPress_0 16 rfl rfl)
theorem dX2_whyNotPress_17 : decode cX2_whyNotPress 17 = .ok (.goto 4, 3) := dk_167 0 4 (dk_at dksX2_whyNotPress_0 17 rfl rfl)
theorem dX2_whyNotPress_20 : decode cX2_whyNotPress 20 = .ok (.iconst 0, 1) := dk_3 (dk_at dksX2_whyNotPress_0 20 rfl rfl)
theorem dX2_whyNotPress_21 : decode cX2_whyNotPress 21 = .ok (.istore_n 1, 1) := dk_60 (dk_at dksX2_whyNotPress_0 21 rfl rfl)
theorem dX2_whyNotPress_22 : decode cX2_whyNotPress 22 = .ok (.iload_n 1, 1) := dk_27 (dk_at dksX2_whyNotPress_0 22 rfl rfl)
theorem dX2_whyNotPress_23 : decode cX2_whyNotPress 23 = .ok (.ifCond .eq 8, 3) := dk_153 0 8 (dk_at dksX2_whyNotPress_1 0 rfl rfl)
theorem dX2_whyNotPress_26 : decode cX2_whyNotPress 26 = .ok (.bipush (-2), 2) := dk_16 254 (dk_at dksX2_whyNotPress_1 3 rfl rfl)
theorem dX2_whyNotPress_28 : decode cX2_whyNotPress 28 = .ok (.goto 29, 3) := dk_167 0 29 (dk_at dksX2_whyNotPress_1 5 rfl rfl)
theorem dX2_whyNotPress_31 : decode cX2_whyNotPress 31 = .ok (.aload_n 0, 1) := dk_42 (dk_at dksX2_whyNotPress_1 8 rfl rfl)
theorem dX2_whyNotPress_32 : decode cX2_whyNotPress 32 = .ok (.iconst 0, 1) := dk_3 (dk_at dksX2_whyNotPress_1 9 rfl rfl)
theorem dX2_whyNotPress_33 : decode cX2_whyNotPress 33 = .ok (.invokevirtual 36, 3) := dk_182 0 36 (dk_at dksX2_whyNotPress_1 10 rfl rfl)
theorem dX2_whyNotPress_36 : decode cX2_whyNotPress 36 = .ok (.iconst 2, 1) := dk_5 (dk_at dksX2_whyNotPress_1 13 rfl rfl)
theorem dX2_whyNotPress_37 : decode cX2_whyNotPress 37 = .ok (.if_icmp .ne 19, 3) := dk_160 0 19 (dk_at dksX2_whyNotPress_1 14 rfl rfl)
theorem dX2_whyNotPress_40 : decode cX2_whyNotPress 40 = .ok (.aload_n 0, 1) := dk_42 (dk_at dksX2_whyNotPress_1 17 rfl rfl)
theorem dX2_whyNotPress_41 : decode cX2_whyNotPress 41 = .ok (.bipush 7, 2) := dk_16 7 (dk_at dksX2_whyNotPress_1 18 rfl rfl)
theorem dX2_whyNotPress_43 : decode cX2_whyNotPress 43 = .ok (.invokevirtual 36, 3) := dk_182 0 36 (dk_at dksX2_whyNotPress_1 20 rfl rfl)
theorem dX2_whyNotPress_46 : decode cX2_whyNotPress 46 = .ok (.bipush 6, 2) := dk_16 6 (dk_at dksX2_whyNotPress_2 0 rfl rfl)
theorem dX2_whyNotPress_48 : decode cX2_whyNotPress 48 = .ok (.if_icmp .ne 8, 3) := dk_160 0 8 (dk_at dksX2_whyNotPress_2 2 rfl rfl)
theorem dX2_whyNotPress_51 : decode cX2_whyNotPress 51 = .ok (.bipush (-3), 2) := dk_16 253 (dk_at dksX2_whyNotPress_2 5 rfl rfl)
theorem dX2_whyNotPress_53 : decode cX2_whyNotPress 53 = .ok (.goto 4, 3) := dk_167 0 4 (dk_at dksX2_whyNotPress_2 7 rfl rfl)
theorem dX2_whyNotPress_56 : decode cX2_whyNotPress 56 = .ok (.iconst 0, 1) := dk_3 (dk_at dksX2_whyNotPress_2 10 rfl rfl)
theorem dX2_whyNotPress_57 : decode cX2_whyNotPress 57 = .ok (.ireturn, 1) := dk_172 (dk_at dksX2_whyNotPress_2 11 rfl rfl)
abbrev cX2_runsTake : ByteArray := prog_13_method_13_code
def yX2_runsTake : MethodName := ⟨RX2, "runsTake", "()Z"⟩
def dkwX2_runsTake_0 : List UInt8 := [42, 3, 182, 0, 36, 4, 159, 0, 12, 42, 3, 182, 0, 36, 6, 160, 0, 7, 4, 167, 0, 4, 3, 172]
abbrev dktX2_runsTake_0 : List UInt8 := dkwX2_runsTake_0 ++ []
theorem dksX2_runsTake_0 : cX2_runsTake.data.toList.drop 0 = dktX2_runsTake_0 := by decide +kernel
theorem dX2_runsTake_0 : decode cX2_runsTake 0 = .ok (.aload_n 0, 1) := dk_42 (dk_at dksX2_runsTake_0 0 rfl rfl)
theorem dX2_runsTake_1 : decode cX2_runsTake 1 = .ok (.iconst 0, 1) := dk_3 (dk_at dksX2_runsTake_0 1 rfl rfl)
theorem dX2_runsTake_2 : decode cX2_runsTake 2 = .ok (.invokevirtual 36, 3) := dk_182 0 36 (dk_at dksX2_runsTake_0 2 rfl rfl)
theorem dX2_runsTake_5 : decode cX2_runsTake 5 = .ok (.iconst 1, 1) := dk_4 (dk_at dksX2_runsTake_0 5 rfl rfl)
theorem dX2_runsTake_6 : decode cX2_runsTake 6 = .ok (.if_icmp .eq 12, 3) := dk_159 0 12 (dk_at dksX2_runsTake_0 6 rfl rfl)
theorem dX2_runsTake_9 : decode cX2_runsTake 9 = .ok (.aload_n 0, 1) := dk_42 (dk_at dksX2_runsTake_0 9 rfl rfl)
theorem dX2_runsTake_10 : decode cX2_runsTake 10 = .ok (.iconst 0, 1) := dk_3 (dk_at dksX2_runsTake_0 10 rfl rfl)
theorem dX2_runsTake_11 : decode cX2_runsTake 11 = .ok (.invokevirtual 36, 3) := dk_182 0 36 (dk_at dksX2_runsTake_0 11 rfl rfl)
theorem dX2_runsTake_14 : decode cX2_runsTake 14 = .ok (.iconst 3, 1) := dk_6 (dk_at dksX2_runsTake_0 14 rfl rfl)
theorem dX2_runsTake_15 : decode cX2_runsTake 15 = .ok (.if_icmp .ne 7, 3) := dk_160 0 7 (dk_at dksX2_runsTake_0 15 rfl rfl)
theorem dX2_runsTake_18 : decode cX2_runsTake 18 = .ok (.iconst 1, 1) := dk_4 (dk_at dksX2_runsTake_0 18 rfl rfl)
theorem dX2_runsTake_19 : decode cX2_runsTake 19 = .ok (.goto 4, 3) := dk_167 0 4 (dk_at dksX2_runsTake_0 19 rfl rfl)
theorem dX2_runsTake_22 : decode cX2_runsTake 22 = .ok (.iconst 0, 1) := dk_3 (dk_at dksX2_runsTake_0 22 rfl rfl)
theorem dX2_runsTake_23 : decode cX2_runsTake 23 = .ok (.ireturn, 1) := dk_172 (dk_at dksX2_runsTake_0 23 rfl rfl)
abbrev cX2_of : ByteArray := prog_13_method_4_code
def yX2_of : MethodName := ⟨RX2, "of", "(I)I"⟩
def dkwX2_of_0 : List UInt8 := [42, 180, 0, 7, 27, 47, 136, 172]
abbrev dktX2_of_0 : List UInt8 := dkwX2_of_0 ++ []
theorem dksX2_of_0 : cX2_of.data.toList.drop 0 = dktX2_of_0 := by decide +kernel
theorem dX2_of_0 : decode cX2_of 0 = .ok (.aload_n 0, 1) := dk_42 (dk_at dksX2_of_0 0 rfl rfl)
theorem dX2_of_1 : decode cX2_of 1 = .ok (.getfield 7, 3) := dk_180 0 7 (dk_at dksX2_of_0 1 rfl rfl)
theorem dX2_of_4 : decode cX2_of 4 = .ok (.iload_n 1, 1) := dk_27 (dk_at dksX2_of_0 4 rfl rfl)
theorem dX2_of_5 : decode cX2_of 5 = .ok (.laload, 1) := dk_47 (dk_at dksX2_of_0 5 rfl rfl)
theorem dX2_of_6 : decode cX2_of 6 = .ok (.l2i, 1) := dk_136 (dk_at dksX2_of_0 6 rfl rfl)
theorem dX2_of_7 : decode cX2_of 7 = .ok (.ireturn, 1) := dk_172 (dk_at dksX2_of_0 7 rfl rfl)
abbrev cX2_remembers : ByteArray := prog_13_method_5_code
def yX2_remembers : MethodName := ⟨RX2, "remembers", "()V"⟩
def dkwX2_remembers_4 : List UInt8 := [181, 0, 28, 177]
abbrev dktX2_remembers_4 : List UInt8 := dkwX2_remembers_4 ++ []
def dkwX2_remembers_3 : List UInt8 := [27, 96, 42, 180, 0, 7, 27, 47, 80, 132, 1, 1, 167, 255, 225, 42, 89, 180, 0, 28, 4, 96]
abbrev dktX2_remembers_3 : List UInt8 := dkwX2_remembers_3 ++ dktX2_remembers_4
def dkwX2_remembers_2 : List UInt8 := [181, 0, 28, 3, 60, 27, 17, 5, 96, 162, 0, 30, 42, 180, 0, 13, 17, 5, 96, 42, 180, 0, 28, 104]
abbrev dktX2_remembers_2 : List UInt8 := dkwX2_remembers_2 ++ dktX2_remembers_3
def dkwX2_remembers_1 : List UInt8 := [180, 0, 13, 17, 5, 96, 27, 96, 47, 80, 132, 1, 1, 167, 255, 230, 42, 89, 180, 0, 28, 4, 100]
abbrev dktX2_remembers_1 : List UInt8 := dkwX2_remembers_1 ++ dktX2_remembers_2
def dkwX2_remembers_0 : List UInt8 := [42, 180, 0, 28, 7, 160, 0, 44, 3, 60, 27, 17, 16, 32, 162, 0, 25, 42, 180, 0, 13, 27, 42]
abbrev dktX2_remembers_0 : List UInt8 := dkwX2_remembers_0 ++ dktX2_remembers_1
theorem dksX2_remembers_0 : cX2_remembers.data.toList.drop 0 = dktX2_remembers_0 := by decide +kernel
theorem dksX2_remembers_1 : cX2_remembers.data.toList.drop 23 = dktX2_remembers_1 := dk_seg dksX2_remembers_0 23 rfl rfl
theorem dksX2_remembers_2 : cX2_remembers.data.toList.drop 46 = dktX2_remembers_2 := dk_seg dksX2_remembers_1 23 rfl rfl
theorem dksX2_remembers_3 : cX2_remembers.data.toList.drop 70 = dktX2_remembers_3 := dk_seg dksX2_remembers_2 24 rfl rfl
theorem dksX2_remembers_4 : cX2_remembers.data.toList.drop 92 = dktX2_remembers_4 := dk_seg dksX2_remembers_3 22 rfl rfl
theorem dX2_remembers_0 : decode cX2_remembers 0 = .ok (.aload_n 0, 1) := dk_42 (dk_at dksX2_remembers_0 0 rfl rfl)
theorem dX2_remembers_1 : decode cX2_remembers 1 = .ok (.getfield 28, 3) := dk_180 0 28 (dk_at dksX2_remembers_0 1 rfl rfl)
theorem dX2_remembers_4 : decode cX2_remembers 4 = .ok (.iconst 4, 1) := dk_7 (dk_at dksX2_remembers_0 4 rfl rfl)
theorem dX2_remembers_5 : decode cX2_remembers 5 = .ok (.if_icmp .ne 44, 3) := dk_160 0 44 (dk_at dksX2_remembers_0 5 rfl rfl)
theorem dX2_remembers_8 : decode cX2_remembers 8 = .ok (.iconst 0, 1) := dk_3 (dk_at dksX2_remembers_0 8 rfl rfl)
theorem dX2_remembers_9 : decode cX2_remembers 9 = .ok (.istore_n 1, 1) := dk_60 (dk_at dksX2_remembers_0 9 rfl rfl)
theorem dX2_remembers_10 : decode cX2_remembers 10 = .ok (.iload_n 1, 1) := dk_27 (dk_at dksX2_remembers_0 10 rfl rfl)
theorem dX2_remembers_11 : decode cX2_remembers 11 = .ok (.sipush 4128, 3) := dk_17 16 32 (dk_at dksX2_remembers_0 11 rfl rfl)
theorem dX2_remembers_14 : decode cX2_remembers 14 = .ok (.if_icmp .ge 25, 3) := dk_162 0 25 (dk_at dksX2_remembers_0 14 rfl rfl)
theorem dX2_remembers_17 : decode cX2_remembers 17 = .ok (.aload_n 0, 1) := dk_42 (dk_at dksX2_remembers_0 17 rfl rfl)
theorem dX2_remembers_18 : decode cX2_remembers 18 = .ok (.getfield 13, 3) := dk_180 0 13 (dk_at dksX2_remembers_0 18 rfl rfl)
theorem dX2_remembers_21 : decode cX2_remembers 21 = .ok (.iload_n 1, 1) := dk_27 (dk_at dksX2_remembers_0 21 rfl rfl)
theorem dX2_remembers_22 : decode cX2_remembers 22 = .ok (.aload_n 0, 1) := dk_42 (dk_at dksX2_remembers_0 22 rfl rfl)
theorem dX2_remembers_23 : decode cX2_remembers 23 = .ok (.getfield 13, 3) := dk_180 0 13 (dk_at dksX2_remembers_1 0 rfl rfl)
theorem dX2_remembers_26 : decode cX2_remembers 26 = .ok (.sipush 1376, 3) := dk_17 5 96 (dk_at dksX2_remembers_1 3 rfl rfl)
theorem dX2_remembers_29 : decode cX2_remembers 29 = .ok (.iload_n 1, 1) := dk_27 (dk_at dksX2_remembers_1 6 rfl rfl)
theorem dX2_remembers_30 : decode cX2_remembers 30 = .ok (.iadd, 1) := dk_96 (dk_at dksX2_remembers_1 7 rfl rfl)
theorem dX2_remembers_31 : decode cX2_remembers 31 = .ok (.laload, 1) := dk_47 (dk_at dksX2_remembers_1 8 rfl rfl)
theorem dX2_remembers_32 : decode cX2_remembers 32 = .ok (.lastore, 1) := dk_80 (dk_at dksX2_remembers_1 9 rfl rfl)
theorem dX2_remembers_33 : decode cX2_remembers 33 = .ok (.iinc 1 1, 3) := dk_132 1 1 (dk_at dksX2_remembers_1 10 rfl rfl)
theorem dX2_remembers_36 : decode cX2_remembers 36 = .ok (.goto (-26), 3) := dk_167 255 230 (dk_at dksX2_remembers_1 13 rfl rfl)
theorem dX2_remembers_39 : decode cX2_remembers 39 = .ok (.aload_n 0, 1) := dk_42 (dk_at dksX2_remembers_1 16 rfl rfl)
theorem dX2_remembers_40 : decode cX2_remembers 40 = .ok (.dup, 1) := dk_89 (dk_at dksX2_remembers_1 17 rfl rfl)
theorem dX2_remembers_41 : decode cX2_remembers 41 = .ok (.getfield 28, 3) := dk_180 0 28 (dk_at dksX2_remembers_1 18 rfl rfl)
theorem dX2_remembers_44 : decode cX2_remembers 44 = .ok (.iconst 1, 1) := dk_4 (dk_at dksX2_remembers_1 21 rfl rfl)
theorem dX2_remembers_45 : decode cX2_remembers 45 = .ok (.isub, 1) := dk_100 (dk_at dksX2_remembers_1 22 rfl rfl)
theorem dX2_remembers_46 : decode cX2_remembers 46 = .ok (.putfield 28, 3) := dk_181 0 28 (dk_at dksX2_remembers_2 0 rfl rfl)
theorem dX2_remembers_49 : decode cX2_remembers 49 = .ok (.iconst 0, 1) := dk_3 (dk_at dksX2_remembers_2 3 rfl rfl)
theorem dX2_remembers_50 : decode cX2_remembers 50 = .ok (.istore_n 1, 1) := dk_60 (dk_at dksX2_remembers_2 4 rfl rfl)
theorem dX2_remembers_51 : decode cX2_remembers 51 = .ok (.iload_n 1, 1) := dk_27 (dk_at dksX2_remembers_2 5 rfl rfl)
theorem dX2_remembers_52 : decode cX2_remembers 52 = .ok (.sipush 1376, 3) := dk_17 5 96 (dk_at dksX2_remembers_2 6 rfl rfl)
theorem dX2_remembers_55 : decode cX2_remembers 55 = .ok (.if_icmp .ge 30, 3) := dk_162 0 30 (dk_at dksX2_remembers_2 9 rfl rfl)
theorem dX2_remembers_58 : decode cX2_remembers 58 = .ok (.aload_n 0, 1) := dk_42 (dk_at dksX2_remembers_2 12 rfl rfl)
theorem dX2_remembers_59 : decode cX2_remembers 59 = .ok (.getfield 13, 3) := dk_180 0 13 (dk_at dksX2_remembers_2 13 rfl rfl)
theorem dX2_remembers_62 : decode cX2_remembers 62 = .ok (.sipush 1376, 3) := dk_17 5 96 (dk_at dksX2_remembers_2 16 rfl rfl)
theorem dX2_remembers_65 : decode cX2_remembers 65 = .ok (.aload_n 0, 1) := dk_42 (dk_at dksX2_remembers_2 19 rfl rfl)
theorem dX2_remembers_66 : decode cX2_remembers 66 = .ok (.getfield 28, 3) := dk_180 0 28 (dk_at dksX2_remembers_2 20 rfl rfl)
theorem dX2_remembers_69 : decode cX2_remembers 69 = .ok (.imul, 1) := dk_104 (dk_at dksX2_remembers_2 23 rfl rfl)
theorem dX2_remembers_70 : decode cX2_remembers 70 = .ok (.iload_n 1, 1) := dk_27 (dk_at dksX2_remembers_3 0 rfl rfl)
theorem dX2_remembers_71 : decode cX2_remembers 71 = .ok (.iadd, 1) := dk_96 (dk_at dksX2_remembers_3 1 rfl rfl)
theorem dX2_remembers_72 : decode cX2_remembers 72 = .ok (.aload_n 0, 1) := dk_42 (dk_at dksX2_remembers_3 2 rfl rfl)
theorem dX2_remembers_73 : decode cX2_remembers 73 = .ok (.getfield 7, 3) := dk_180 0 7 (dk_at dksX2_remembers_3 3 rfl rfl)
theorem dX2_remembers_76 : decode cX2_remembers 76 = .ok (.iload_n 1, 1) := dk_27 (dk_at dksX2_remembers_3 6 rfl rfl)
theorem dX2_remembers_77 : decode cX2_remembers 77 = .ok (.laload, 1) := dk_47 (dk_at dksX2_remembers_3 7 rfl rfl)
theorem dX2_remembers_78 : decode cX2_remembers 78 = .ok (.lastore, 1) := dk_80 (dk_at dksX2_remembers_3 8 rfl rfl)
theorem dX2_remembers_79 : decode cX2_remembers 79 = .ok (.iinc 1 1, 3) := dk_132 1 1 (dk_at dksX2_remembers_3 9 rfl rfl)
theorem dX2_remembers_82 : decode cX2_remembers 82 = .ok (.goto (-31), 3) := dk_167 255 225 (dk_at dksX2_remembers_3 12 rfl rfl)
theorem dX2_remembers_85 : decode cX2_remembers 85 = .ok (.aload_n 0, 1) := dk_42 (dk_at dksX2_remembers_3 15 rfl rfl)
theorem dX2_remembers_86 : decode cX2_remembers 86 = .ok (.dup, 1) := dk_89 (dk_at dksX2_remembers_3 16 rfl rfl)
theorem dX2_remembers_87 : decode cX2_remembers 87 = .ok (.getfield 28, 3) := dk_180 0 28 (dk_at dksX2_remembers_3 17 rfl rfl)
theorem dX2_remembers_90 : decode cX2_remembers 90 = .ok (.iconst 1, 1) := dk_4 (dk_at dksX2_remembers_3 20 rfl rfl)
theorem dX2_remembers_91 : decode cX2_remembers 91 = .ok (.iadd, 1) := dk_96 (dk_at dksX2_remembers_3 21 rfl rfl)
theorem dX2_remembers_92 : decode cX2_remembers 92 = .ok (.putfield 28, 3) := dk_181 0 28 (dk_at dksX2_remembers_4 0 rfl rfl)
theorem dX2_remembers_95 : decode cX2_remembers 95 = .ok (.return_, 1) := dk_177 (dk_at dksX2_remembers_4 3 rfl rfl)
abbrev cX2_presses : ByteArray := prog_13_method_22_code
def yX2_presses : MethodName := ⟨RX2, "presses", "()V"⟩
def dkwX2_presses_3 : List UInt8 := [182, 0, 94, 177]
abbrev dktX2_presses_3 : List UInt8 := dkwX2_presses_3 ++ []
def dkwX2_presses_2 : List UInt8 := [42, 182, 0, 88, 167, 0, 21, 42, 182, 0, 91, 167, 0, 14, 42, 182, 0, 77, 167, 0, 7, 42]
abbrev dktX2_presses_2 : List UInt8 := dkwX2_presses_2 ++ dktX2_presses_3
def dkwX2_presses_1 : List UInt8 := [170, 0, 0, 0, 0, 0, 52, 0, 0, 0, 1, 0, 0, 0, 4, 0, 0, 0, 31, 0, 0, 0, 52, 0, 0, 0, 38, 0, 0, 0, 45]
abbrev dktX2_presses_1 : List UInt8 := dkwX2_presses_1 ++ dktX2_presses_2
def dkwX2_presses_0 : List UInt8 := [42, 3, 182, 0, 36]
abbrev dktX2_presses_0 : List UInt8 := dkwX2_presses_0 ++ dktX2_presses_1
theorem dksX2_presses_0 : cX2_presses.data.toList.drop 0 = dktX2_presses_0 := by decide +kernel
theorem dksX2_presses_1 : cX2_presses.data.toList.drop 5 = dktX2_presses_1 := dk_seg dksX2_presses_0 5 rfl rfl
theorem dksX2_presses_2 : cX2_presses.data.toList.drop 36 = dktX2_presses_2 := dk_seg dksX2_presses_1 31 rfl rfl
theorem dksX2_presses_3 : cX2_presses.data.toList.drop 58 = dktX2_presses_3 := dk_seg dksX2_presses_2 22 rfl rfl
theorem dX2_presses_0 : decode cX2_presses 0 = .ok (.aload_n 0, 1) := dk_42 (dk_at dksX2_presses_0 0 rfl rfl)
theorem dX2_presses_1 : decode cX2_presses 1 = .ok (.iconst 0, 1) := dk_3 (dk_at dksX2_presses_0 1 rfl rfl)
theorem dX2_presses_2 : decode cX2_presses 2 = .ok (.invokevirtual 36, 3) := dk_182 0 36 (dk_at dksX2_presses_0 2 rfl rfl)
theorem dX2_presses_5 : decode cX2_presses 5 = .ok (.tableswitch 52 1 4 #[31, 52, 38, 45], 31) := by decide +kernel
theorem dX2_presses_36 : decode cX2_presses 36 = .ok (.aload_n 0, 1) := dk_42 (dk_at dksX2_presses_2 0 rfl rfl)
theorem dX2_presses_37 : decode cX2_presses 37 = .ok (.invokevirtual 88, 3) := dk_182 0 88 (dk_at dksX2_presses_2 1 rfl rfl)
theorem dX2_presses_40 : decode cX2_presses 40 = .ok (.goto 21, 3) := dk_167 0 21 (dk_at dksX2_presses_2 4 rfl rfl)
theorem dX2_presses_43 : decode cX2_presses 43 = .ok (.aload_n 0, 1) := dk_42 (dk_at dksX2_presses_2 7 rfl rfl)
theorem dX2_presses_44 : decode cX2_presses 44 = .ok (.invokevirtual 91, 3) := dk_182 0 91 (dk_at dksX2_presses_2 8 rfl rfl)
theorem dX2_presses_47 : decode cX2_presses 47 = .ok (.goto 14, 3) := dk_167 0 14 (dk_at dksX2_presses_2 11 rfl rfl)
theorem dX2_presses_50 : decode cX2_presses 50 = .ok (.aload_n 0, 1) := dk_42 (dk_at dksX2_presses_2 14 rfl rfl)
theorem dX2_presses_51 : decode cX2_presses 51 = .ok (.invokevirtual 77, 3) := dk_182 0 77 (dk_at dksX2_presses_2 15 rfl rfl)
theorem dX2_presses_54 : decode cX2_presses 54 = .ok (.goto 7, 3) := dk_167 0 7 (dk_at dksX2_presses_2 18 rfl rfl)
theorem dX2_presses_57 : decode cX2_presses 57 = .ok (.aload_n 0, 1) := dk_42 (dk_at dksX2_presses_2 21 rfl rfl)
theorem dX2_presses_58 : decode cX2_presses 58 = .ok (.invokevirtual 94, 3) := dk_182 0 94 (dk_at dksX2_presses_3 0 rfl rfl)
theorem dX2_presses_61 : decode cX2_presses 61 = .ok (.return_, 1) := dk_177 (dk_at dksX2_presses_3 3 rfl rfl)
abbrev cX2_endsFirst : ByteArray := prog_13_method_19_code
def yX2_endsFirst : MethodName := ⟨RX2, "endsFirst", "()V"⟩
def dkwX2_endsFirst_2 : List UInt8 := [182, 0, 77, 177]
abbrev dktX2_endsFirst_2 : List UInt8 := dkwX2_endsFirst_2 ++ []
def dkwX2_endsFirst_1 : List UInt8 := [182, 0, 67, 61, 42, 28, 3, 182, 0, 70, 42, 180, 0, 7, 16, 6, 28, 133, 80, 42, 182, 0, 74, 42]
abbrev dktX2_endsFirst_1 : List UInt8 := dkwX2_endsFirst_1 ++ dktX2_endsFirst_2
def dkwX2_endsFirst_0 : List UInt8 := [42, 16, 11, 182, 0, 36, 4, 96, 5, 108, 60, 42, 27, 16, 24, 162, 0, 7, 27, 167, 0, 5, 16, 24]
abbrev dktX2_endsFirst_0 : List UInt8 := dkwX2_endsFirst_0 ++ dktX2_endsFirst_1
theorem dksX2_endsFirst_0 : cX2_endsFirst.data.toList.drop 0 = dktX2_endsFirst_0 := by decide +kernel
theorem dksX2_endsFirst_1 : cX2_endsFirst.data.toList.drop 24 = dktX2_endsFirst_1 := dk_seg dksX2_endsFirst_0 24 rfl rfl
theorem dksX2_endsFirst_2 : cX2_endsFirst.data.toList.drop 48 = dktX2_endsFirst_2 := dk_seg dksX2_endsFirst_1 24 rfl rfl
theorem dX2_endsFirst_0 : decode cX2_endsFirst 0 = .ok (.aload_n 0, 1) := dk_42 (dk_at dksX2_endsFirst_0 0 rfl rfl)
theorem dX2_endsFirst_1 : decode cX2_endsFirst 1 = .ok (.bipush 11, 2) := dk_16 11 (dk_at dksX2_endsFirst_0 1 rfl rfl)
theorem dX2_endsFirst_3 : decode cX2_endsFirst 3 = .ok (.invokevirtual 36, 3) := dk_182 0 36 (dk_at dksX2_endsFirst_0 3 rfl rfl)
theorem dX2_endsFirst_6 : decode cX2_endsFirst 6 = .ok (.iconst 1, 1) := dk_4 (dk_at dksX2_endsFirst_0 6 rfl rfl)
theorem dX2_endsFirst_7 : decode cX2_endsFirst 7 = .ok (.iadd, 1) := dk_96 (dk_at dksX2_endsFirst_0 7 rfl rfl)
theorem dX2_endsFirst_8 : decode cX2_endsFirst 8 = .ok (.iconst 2, 1) := dk_5 (dk_at dksX2_endsFirst_0 8 rfl rfl)
theorem dX2_endsFirst_9 : decode cX2_endsFirst 9 = .ok (.idiv, 1) := dk_108 (dk_at dksX2_endsFirst_0 9 rfl rfl)
theorem dX2_endsFirst_10 : decode cX2_endsFirst 10 = .ok (.istore_n 1, 1) := dk_60 (dk_at dksX2_endsFirst_0 10 rfl rfl)
theorem dX2_endsFirst_11 : decode cX2_endsFirst 11 = .ok (.aload_n 0, 1) := dk_42 (dk_at dksX2_endsFirst_0 11 rfl rfl)
theorem dX2_endsFirst_12 : decode cX2_endsFirst 12 = .ok (.iload_n 1, 1) := dk_27 (dk_at dksX2_endsFirst_0 12 rfl rfl)
theorem dX2_endsFirst_13 : decode cX2_endsFirst 13 = .ok (.bipush 24, 2) := dk_16 24 (dk_at dksX2_endsFirst_0 13 rfl rfl)
theorem dX2_endsFirst_15 : decode cX2_endsFirst 15 = .ok (.if_icmp .ge 7, 3) := dk_162 0 7 (dk_at dksX2_endsFirst_0 15 rfl rfl)
theorem dX2_endsFirst_18 : decode cX2_endsFirst 18 = .ok (.iload_n 1, 1) := dk_27 (dk_at dksX2_endsFirst_0 18 rfl rfl)
theorem dX2_endsFirst_19 : decode cX2_endsFirst 19 = .ok (.goto 5, 3) := dk_167 0 5 (dk_at dksX2_endsFirst_0 19 rfl rfl)
theorem dX2_endsFirst_22 : decode cX2_endsFirst 22 = .ok (.bipush 24, 2) := dk_16 24 (dk_at dksX2_endsFirst_0 22 rfl rfl)
theorem dX2_endsFirst_24 : decode cX2_endsFirst 24 = .ok (.invokevirtual 67, 3) := dk_182 0 67 (dk_at dksX2_endsFirst_1 0 rfl rfl)
theorem dX2_endsFirst_27 : decode cX2_endsFirst 27 = .ok (.istore_n 2, 1) := dk_61 (dk_at dksX2_endsFirst_1 3 rfl rfl)
theorem dX2_endsFirst_28 : decode cX2_endsFirst 28 = .ok (.aload_n 0, 1) := dk_42 (dk_at dksX2_endsFirst_1 4 rfl rfl)
theorem dX2_endsFirst_29 : decode cX2_endsFirst 29 = .ok (.iload_n 2, 1) := dk_28 (dk_at dksX2_endsFirst_1 5 rfl rfl)
theorem dX2_endsFirst_30 : decode cX2_endsFirst 30 = .ok (.iconst 0, 1) := dk_3 (dk_at dksX2_endsFirst_1 6 rfl rfl)
theorem dX2_endsFirst_31 : decode cX2_endsFirst 31 = .ok (.invokevirtual 70, 3) := dk_182 0 70 (dk_at dksX2_endsFirst_1 7 rfl rfl)
theorem dX2_endsFirst_34 : decode cX2_endsFirst 34 = .ok (.aload_n 0, 1) := dk_42 (dk_at dksX2_endsFirst_1 10 rfl rfl)
theorem dX2_endsFirst_35 : decode cX2_endsFirst 35 = .ok (.getfield 7, 3) := dk_180 0 7 (dk_at dksX2_endsFirst_1 11 rfl rfl)
theorem dX2_endsFirst_38 : decode cX2_endsFirst 38 = .ok (.bipush 6, 2) := dk_16 6 (dk_at dksX2_endsFirst_1 14 rfl rfl)
theorem dX2_endsFirst_40 : decode cX2_endsFirst 40 = .ok (.iload_n 2, 1) := dk_28 (dk_at dksX2_endsFirst_1 16 rfl rfl)
theorem dX2_endsFirst_41 : decode cX2_endsFirst 41 = .ok (.i2l, 1) := dk_133 (dk_at dksX2_endsFirst_1 17 rfl rfl)
theorem dX2_endsFirst_42 : decode cX2_endsFirst 42 = .ok (.lastore, 1) := dk_80 (dk_at dksX2_endsFirst_1 18 rfl rfl)
theorem dX2_endsFirst_43 : decode cX2_endsFirst 43 = .ok (.aload_n 0, 1) := dk_42 (dk_at dksX2_endsFirst_1 19 rfl rfl)
theorem dX2_endsFirst_44 : decode cX2_endsFirst 44 = .ok (.invokevirtual 74, 3) := dk_182 0 74 (dk_at dksX2_endsFirst_1 20 rfl rfl)
theorem dX2_endsFirst_47 : decode cX2_endsFirst 47 = .ok (.aload_n 0, 1) := dk_42 (dk_at dksX2_endsFirst_1 23 rfl rfl)
theorem dX2_endsFirst_48 : decode cX2_endsFirst 48 = .ok (.invokevirtual 77, 3) := dk_182 0 77 (dk_at dksX2_endsFirst_2 0 rfl rfl)
theorem dX2_endsFirst_51 : decode cX2_endsFirst 51 = .ok (.return_, 1) := dk_177 (dk_at dksX2_endsFirst_2 3 rfl rfl)
abbrev cX2_roundedOf : ByteArray := prog_13_method_18_code
def yX2_roundedOf : MethodName := ⟨RX2, "roundedOf", "(I)I"⟩
def dkwX2_roundedOf_5 : List UInt8 := [172]
abbrev dktX2_roundedOf_5 : List UInt8 := dkwX2_roundedOf_5 ++ []
def dkwX2_roundedOf_4 : List UInt8 := [54, 4, 29, 158, 0, 20, 21, 4, 133, 42, 180, 0, 7, 7, 47, 148, 157, 0, 7, 29, 167, 0, 4, 27]
abbrev dktX2_roundedOf_4 : List UInt8 := dkwX2_roundedOf_4 ++ dktX2_roundedOf_5
def dkwX2_roundedOf_3 : List UInt8 := [21, 4, 28, 96, 54, 4, 167, 255, 190, 29, 27, 164, 0, 9, 29, 27, 100, 167, 0, 6, 27, 29, 100]
abbrev dktX2_roundedOf_3 : List UInt8 := dkwX2_roundedOf_3 ++ dktX2_roundedOf_4
def dkwX2_roundedOf_2 : List UInt8 := [27, 29, 100, 54, 6, 29, 153, 0, 10, 21, 5, 21, 6, 162, 0, 8, 21, 4, 167, 0, 4, 29, 62]
abbrev dktX2_roundedOf_2 : List UInt8 := dkwX2_roundedOf_2 ++ dktX2_roundedOf_3
def dkwX2_roundedOf_1 : List UInt8 := [21, 4, 27, 100, 167, 0, 7, 27, 21, 4, 100, 54, 5, 29, 27, 164, 0, 9, 29, 27, 100, 167, 0, 6]
abbrev dktX2_roundedOf_1 : List UInt8 := dkwX2_roundedOf_1 ++ dktX2_roundedOf_2
def dkwX2_roundedOf_0 : List UInt8 := [42, 6, 182, 0, 36, 61, 3, 62, 28, 54, 4, 21, 4, 16, 24, 163, 0, 65, 21, 4, 27, 164, 0, 10]
abbrev dktX2_roundedOf_0 : List UInt8 := dkwX2_roundedOf_0 ++ dktX2_roundedOf_1
theorem dksX2_roundedOf_0 : cX2_roundedOf.data.toList.drop 0 = dktX2_roundedOf_0 := by decide +kernel
theorem dksX2_roundedOf_1 : cX2_roundedOf.data.toList.drop 24 = dktX2_roundedOf_1 := dk_seg dksX2_roundedOf_0 24 rfl rfl
theorem dksX2_roundedOf_2 : cX2_roundedOf.data.toList.drop 48 = dktX2_roundedOf_2 := dk_seg dksX2_roundedOf_1 24 rfl rfl
theorem dksX2_roundedOf_3 : cX2_roundedOf.data.toList.drop 71 = dktX2_roundedOf_3 := dk_seg dksX2_roundedOf_2 23 rfl rfl
theorem dksX2_roundedOf_4 : cX2_roundedOf.data.toList.drop 94 = dktX2_roundedOf_4 := dk_seg dksX2_roundedOf_3 23 rfl rfl
theorem dksX2_roundedOf_5 : cX2_roundedOf.data.toList.drop 118 = dktX2_roundedOf_5 := dk_seg dksX2_roundedOf_4 24 rfl rfl
theorem dX2_roundedOf_0 : decode cX2_roundedOf 0 = .ok (.aload_n 0, 1) := dk_42 (dk_at dksX2_roundedOf_0 0 rfl rfl)
theorem dX2_roundedOf_1 : decode cX2_roundedOf 1 = .ok (.iconst 3, 1) := dk_6 (dk_at dksX2_roundedOf_0 1 rfl rfl)
theorem dX2_roundedOf_2 : decode cX2_roundedOf 2 = .ok (.invokevirtual 36, 3) := dk_182 0 36 (dk_at dksX2_roundedOf_0 2 rfl rfl)
theorem dX2_roundedOf_5 : decode cX2_roundedOf 5 = .ok (.istore_n 2, 1) := dk_61 (dk_at dksX2_roundedOf_0 5 rfl rfl)
theorem dX2_roundedOf_6 : decode cX2_roundedOf 6 = .ok (.iconst 0, 1) := dk_3 (dk_at dksX2_roundedOf_0 6 rfl rfl)
theorem dX2_roundedOf_7 : decode cX2_roundedOf 7 = .ok (.istore_n 3, 1) := dk_62 (dk_at dksX2_roundedOf_0 7 rfl rfl)
theorem dX2_roundedOf_8 : decode cX2_roundedOf 8 = .ok (.iload_n 2, 1) := dk_28 (dk_at dksX2_roundedOf_0 8 rfl rfl)
theorem dX2_roundedOf_9 : decode cX2_roundedOf 9 = .ok (.istore 4, 2) := dk_54 4 (dk_at dksX2_roundedOf_0 9 rfl rfl)
theorem dX2_roundedOf_11 : decode cX2_roundedOf 11 = .ok (.iload 4, 2) := dk_21 4 (dk_at dksX2_roundedOf_0 11 rfl rfl)
theorem dX2_roundedOf_13 : decode cX2_roundedOf 13 = .ok (.bipush 24, 2) := dk_16 24 (dk_at dksX2_roundedOf_0 13 rfl rfl)
theorem dX2_roundedOf_15 : decode cX2_roundedOf 15 = .ok (.if_icmp .gt 65, 3) := dk_163 0 65 (dk_at dksX2_roundedOf_0 15 rfl rfl)
theorem dX2_roundedOf_18 : decode cX2_roundedOf 18 = .ok (.iload 4, 2) := dk_21 4 (dk_at dksX2_roundedOf_0 18 rfl rfl)
theorem dX2_roundedOf_20 : decode cX2_roundedOf 20 = .ok (.iload_n 1, 1) := dk_27 (dk_at dksX2_roundedOf_0 20 rfl rfl)
theorem dX2_roundedOf_21 : decode cX2_roundedOf 21 = .ok (.if_icmp .le 10, 3) := dk_164 0 10 (dk_at dksX2_roundedOf_0 21 rfl rfl)
theorem dX2_roundedOf_24 : decode cX2_roundedOf 24 = .ok (.iload 4, 2) := dk_21 4 (dk_at dksX2_roundedOf_1 0 rfl rfl)
theorem dX2_roundedOf_26 : decode cX2_roundedOf 26 = .ok (.iload_n 1, 1) := dk_27 (dk_at dksX2_roundedOf_1 2 rfl rfl)
theorem dX2_roundedOf_27 : decode cX2_roundedOf 27 = .ok (.isub, 1) := dk_100 (dk_at dksX2_roundedOf_1 3 rfl rfl)
theorem dX2_roundedOf_28 : decode cX2_roundedOf 28 = .ok (.goto 7, 3) := dk_167 0 7 (dk_at dksX2_roundedOf_1 4 rfl rfl)
theorem dX2_roundedOf_31 : decode cX2_roundedOf 31 = .ok (.iload_n 1, 1) := dk_27 (dk_at dksX2_roundedOf_1 7 rfl rfl)
theorem dX2_roundedOf_32 : decode cX2_roundedOf 32 = .ok (.iload 4, 2) := dk_21 4 (dk_at dksX2_roundedOf_1 8 rfl rfl)
theorem dX2_roundedOf_34 : decode cX2_roundedOf 34 = .ok (.isub, 1) := dk_100 (dk_at dksX2_roundedOf_1 10 rfl rfl)
theorem dX2_roundedOf_35 : decode cX2_roundedOf 35 = .ok (.istore 5, 2) := dk_54 5 (dk_at dksX2_roundedOf_1 11 rfl rfl)
theorem dX2_roundedOf_37 : decode cX2_roundedOf 37 = .ok (.iload_n 3, 1) := dk_29 (dk_at dksX2_roundedOf_1 13 rfl rfl)
theorem dX2_roundedOf_38 : decode cX2_roundedOf 38 = .ok (.iload_n 1, 1) := dk_27 (dk_at dksX2_roundedOf_1 14 rfl rfl)
theorem dX2_roundedOf_39 : decode cX2_roundedOf 39 = .ok (.if_icmp .le 9, 3) := dk_164 0 9 (dk_at dksX2_roundedOf_1 15 rfl rfl)
theorem dX2_roundedOf_42 : decode cX2_roundedOf 42 = .ok (.iload_n 3, 1) := dk_29 (dk_at dksX2_roundedOf_1 18 rfl rfl)
theorem dX2_roundedOf_43 : decode cX2_roundedOf 43 = .ok (.iload_n 1, 1) := dk_27 (dk_at dksX2_roundedOf_1 19 rfl rfl)
theorem dX2_roundedOf_44 : decode cX2_roundedOf 44 = .ok (.isub, 1) := dk_100 (dk_at dksX2_roundedOf_1 20 rfl rfl)
theorem dX2_roundedOf_45 : decode cX2_roundedOf 45 = .ok (.goto 6, 3) := dk_167 0 6 (dk_at dksX2_roundedOf_1 21 rfl rfl)
theorem dX2_roundedOf_48 : decode cX2_roundedOf 48 = .ok (.iload_n 1, 1) := dk_27 (dk_at dksX2_roundedOf_2 0 rfl rfl)
theorem dX2_roundedOf_49 : decode cX2_roundedOf 49 = .ok (.iload_n 3, 1) := dk_29 (dk_at dksX2_roundedOf_2 1 rfl rfl)
theorem dX2_roundedOf_50 : decode cX2_roundedOf 50 = .ok (.isub, 1) := dk_100 (dk_at dksX2_roundedOf_2 2 rfl rfl)
theorem dX2_roundedOf_51 : decode cX2_roundedOf 51 = .ok (.istore 6, 2) := dk_54 6 (dk_at dksX2_roundedOf_2 3 rfl rfl)
theorem dX2_roundedOf_53 : decode cX2_roundedOf 53 = .ok (.iload_n 3, 1) := dk_29 (dk_at dksX2_roundedOf_2 5 rfl rfl)
theorem dX2_roundedOf_54 : decode cX2_roundedOf 54 = .ok (.ifCond .eq 10, 3) := dk_153 0 10 (dk_at dksX2_roundedOf_2 6 rfl rfl)
theorem dX2_roundedOf_57 : decode cX2_roundedOf 57 = .ok (.iload 5, 2) := dk_21 5 (dk_at dksX2_roundedOf_2 9 rfl rfl)
theorem dX2_roundedOf_59 : decode cX2_roundedOf 59 = .ok (.iload 6, 2) := dk_21 6 (dk_at dksX2_roundedOf_2 11 rfl rfl)
theorem dX2_roundedOf_61 : decode cX2_roundedOf 61 = .ok (.if_icmp .ge 8, 3) := dk_162 0 8 (dk_at dksX2_roundedOf_2 13 rfl rfl)
theorem dX2_roundedOf_64 : decode cX2_roundedOf 64 = .ok (.iload 4, 2) := dk_21 4 (dk_at dksX2_roundedOf_2 16 rfl rfl)
theorem dX2_roundedOf_66 : decode cX2_roundedOf 66 = .ok (.goto 4, 3) := dk_167 0 4 (dk_at dksX2_roundedOf_2 18 rfl rfl)
theorem dX2_roundedOf_69 : decode cX2_roundedOf 69 = .ok (.iload_n 3, 1) := dk_29 (dk_at dksX2_roundedOf_2 21 rfl rfl)
theorem dX2_roundedOf_70 : decode cX2_roundedOf 70 = .ok (.istore_n 3, 1) := dk_62 (dk_at dksX2_roundedOf_2 22 rfl rfl)
theorem dX2_roundedOf_71 : decode cX2_roundedOf 71 = .ok (.iload 4, 2) := dk_21 4 (dk_at dksX2_roundedOf_3 0 rfl rfl)
theorem dX2_roundedOf_73 : decode cX2_roundedOf 73 = .ok (.iload_n 2, 1) := dk_28 (dk_at dksX2_roundedOf_3 2 rfl rfl)
theorem dX2_roundedOf_74 : decode cX2_roundedOf 74 = .ok (.iadd, 1) := dk_96 (dk_at dksX2_roundedOf_3 3 rfl rfl)
theorem dX2_roundedOf_75 : decode cX2_roundedOf 75 = .ok (.istore 4, 2) := dk_54 4 (dk_at dksX2_roundedOf_3 4 rfl rfl)
theorem dX2_roundedOf_77 : decode cX2_roundedOf 77 = .ok (.goto (-66), 3) := dk_167 255 190 (dk_at dksX2_roundedOf_3 6 rfl rfl)
theorem dX2_roundedOf_80 : decode cX2_roundedOf 80 = .ok (.iload_n 3, 1) := dk_29 (dk_at dksX2_roundedOf_3 9 rfl rfl)
theorem dX2_roundedOf_81 : decode cX2_roundedOf 81 = .ok (.iload_n 1, 1) := dk_27 (dk_at dksX2_roundedOf_3 10 rfl rfl)
theorem dX2_roundedOf_82 : decode cX2_roundedOf 82 = .ok (.if_icmp .le 9, 3) := dk_164 0 9 (dk_at dksX2_roundedOf_3 11 rfl rfl)
theorem dX2_roundedOf_85 : decode cX2_roundedOf 85 = .ok (.iload_n 3, 1) := dk_29 (dk_at dksX2_roundedOf_3 14 rfl rfl)
theorem dX2_roundedOf_86 : decode cX2_roundedOf 86 = .ok (.iload_n 1, 1) := dk_27 (dk_at dksX2_roundedOf_3 15 rfl rfl)
theorem dX2_roundedOf_87 : decode cX2_roundedOf 87 = .ok (.isub, 1) := dk_100 (dk_at dksX2_roundedOf_3 16 rfl rfl)
theorem dX2_roundedOf_88 : decode cX2_roundedOf 88 = .ok (.goto 6, 3) := dk_167 0 6 (dk_at dksX2_roundedOf_3 17 rfl rfl)
theorem dX2_roundedOf_91 : decode cX2_roundedOf 91 = .ok (.iload_n 1, 1) := dk_27 (dk_at dksX2_roundedOf_3 20 rfl rfl)
theorem dX2_roundedOf_92 : decode cX2_roundedOf 92 = .ok (.iload_n 3, 1) := dk_29 (dk_at dksX2_roundedOf_3 21 rfl rfl)
theorem dX2_roundedOf_93 : decode cX2_roundedOf 93 = .ok (.isub, 1) := dk_100 (dk_at dksX2_roundedOf_3 22 rfl rfl)
theorem dX2_roundedOf_94 : decode cX2_roundedOf 94 = .ok (.istore 4, 2) := dk_54 4 (dk_at dksX2_roundedOf_4 0 rfl rfl)
theorem dX2_roundedOf_96 : decode cX2_roundedOf 96 = .ok (.iload_n 3, 1) := dk_29 (dk_at dksX2_roundedOf_4 2 rfl rfl)
theorem dX2_roundedOf_97 : decode cX2_roundedOf 97 = .ok (.ifCond .le 20, 3) := dk_158 0 20 (dk_at dksX2_roundedOf_4 3 rfl rfl)
theorem dX2_roundedOf_100 : decode cX2_roundedOf 100 = .ok (.iload 4, 2) := dk_21 4 (dk_at dksX2_roundedOf_4 6 rfl rfl)
theorem dX2_roundedOf_102 : decode cX2_roundedOf 102 = .ok (.i2l, 1) := dk_133 (dk_at dksX2_roundedOf_4 8 rfl rfl)
theorem dX2_roundedOf_103 : decode cX2_roundedOf 103 = .ok (.aload_n 0, 1) := dk_42 (dk_at dksX2_roundedOf_4 9 rfl rfl)
theorem dX2_roundedOf_104 : decode cX2_roundedOf 104 = .ok (.getfield 7, 3) := dk_180 0 7 (dk_at dksX2_roundedOf_4 10 rfl rfl)
theorem dX2_roundedOf_107 : decode cX2_roundedOf 107 = .ok (.iconst 4, 1) := dk_7 (dk_at dksX2_roundedOf_4 13 rfl rfl)
theorem dX2_roundedOf_108 : decode cX2_roundedOf 108 = .ok (.laload, 1) := dk_47 (dk_at dksX2_roundedOf_4 14 rfl rfl)
theorem dX2_roundedOf_109 : decode cX2_roundedOf 109 = .ok (.lcmp, 1) := dk_148 (dk_at dksX2_roundedOf_4 15 rfl rfl)
theorem dX2_roundedOf_110 : decode cX2_roundedOf 110 = .ok (.ifCond .gt 7, 3) := dk_157 0 7 (dk_at dksX2_roundedOf_4 16 rfl rfl)
theorem dX2_roundedOf_113 : decode cX2_roundedOf 113 = .ok (.iload_n 3, 1) := dk_29 (dk_at dksX2_roundedOf_4 19 rfl rfl)
theorem dX2_roundedOf_114 : decode cX2_roundedOf 114 = .ok (.goto 4, 3) := dk_167 0 4 (dk_at dksX2_roundedOf_4 20 rfl rfl)
theorem dX2_roundedOf_117 : decode cX2_roundedOf 117 = .ok (.iload_n 1, 1) := dk_27 (dk_at dksX2_roundedOf_4 23 rfl rfl)
theorem dX2_roundedOf_118 : decode cX2_roundedOf 118 = .ok (.ireturn, 1) := dk_172 (dk_at dksX2_roundedOf_5 0 rfl rfl)
abbrev cX2_lays : ByteArray := prog_13_method_17_code
def yX2_lays : MethodName := ⟨RX2, "lays", "(II)V"⟩
def dkwX2_lays_6 : List UInt8 := [180, 0, 7, 16, 8, 9, 80, 42, 180, 0, 7, 16, 13, 92, 47, 10, 97, 80, 177]
abbrev dktX2_lays_6 : List UInt8 := dkwX2_lays_6 ++ []
def dkwX2_lays_5 : List UInt8 := [42, 180, 0, 7, 16, 26, 29, 96, 9, 80, 42, 180, 0, 7, 16, 7, 92, 47, 10, 97, 80, 42]
abbrev dktX2_lays_5 : List UInt8 := dkwX2_lays_5 ++ dktX2_lays_6
def dkwX2_lays_4 : List UInt8 := [167, 255, 176, 42, 180, 0, 7, 16, 14, 29, 96, 27, 133, 80, 42, 180, 0, 7, 16, 20, 29, 96, 9, 80]
abbrev dktX2_lays_4 : List UInt8 := dkwX2_lays_4 ++ dktX2_lays_5
def dkwX2_lays_3 : List UInt8 := [29, 21, 4, 16, 36, 108, 21, 4, 16, 36, 112, 21, 5, 21, 6, 184, 0, 59, 182, 0, 63, 132, 4, 1]
abbrev dktX2_lays_3 : List UInt8 := dkwX2_lays_3 ++ dktX2_lays_4
def dkwX2_lays_2 : List UInt8 := [167, 0, 21, 42, 16, 6, 21, 4, 16, 36, 108, 28, 96, 21, 4, 16, 36, 112, 182, 0, 55, 54, 6, 42]
abbrev dktX2_lays_2 : List UInt8 := dkwX2_lays_2 ++ dktX2_lays_3
def dkwX2_lays_1 : List UInt8 := [42, 16, 6, 21, 4, 16, 36, 108, 21, 4, 16, 36, 112, 182, 0, 55, 54, 5, 28, 154, 0, 7, 3]
abbrev dktX2_lays_1 : List UInt8 := dkwX2_lays_1 ++ dktX2_lays_2
def dkwX2_lays_0 : List UInt8 := [42, 16, 7, 182, 0, 36, 62, 42, 29, 182, 0, 51, 3, 54, 4, 21, 4, 27, 16, 36, 104, 162, 0, 77]
abbrev dktX2_lays_0 : List UInt8 := dkwX2_lays_0 ++ dktX2_lays_1
theorem dksX2_lays_0 : cX2_lays.data.toList.drop 0 = dktX2_lays_0 := by decide +kernel
theorem dksX2_lays_1 : cX2_lays.data.toList.drop 24 = dktX2_lays_1 := dk_seg dksX2_lays_0 24 rfl rfl
theorem dksX2_lays_2 : cX2_lays.data.toList.drop 47 = dktX2_lays_2 := dk_seg dksX2_lays_1 23 rfl rfl
theorem dksX2_lays_3 : cX2_lays.data.toList.drop 71 = dktX2_lays_3 := dk_seg dksX2_lays_2 24 rfl rfl
theorem dksX2_lays_4 : cX2_lays.data.toList.drop 95 = dktX2_lays_4 := dk_seg dksX2_lays_3 24 rfl rfl
theorem dksX2_lays_5 : cX2_lays.data.toList.drop 119 = dktX2_lays_5 := dk_seg dksX2_lays_4 24 rfl rfl
theorem dksX2_lays_6 : cX2_lays.data.toList.drop 141 = dktX2_lays_6 := dk_seg dksX2_lays_5 22 rfl rfl
theorem dX2_lays_0 : decode cX2_lays 0 = .ok (.aload_n 0, 1) := dk_42 (dk_at dksX2_lays_0 0 rfl rfl)
theorem dX2_lays_1 : decode cX2_lays 1 = .ok (.bipush 7, 2) := dk_16 7 (dk_at dksX2_lays_0 1 rfl rfl)
theorem dX2_lays_3 : decode cX2_lays 3 = .ok (.invokevirtual 36, 3) := dk_182 0 36 (dk_at dksX2_lays_0 3 rfl rfl)
theorem dX2_lays_6 : decode cX2_lays 6 = .ok (.istore_n 3, 1) := dk_62 (dk_at dksX2_lays_0 6 rfl rfl)
theorem dX2_lays_7 : decode cX2_lays 7 = .ok (.aload_n 0, 1) := dk_42 (dk_at dksX2_lays_0 7 rfl rfl)
theorem dX2_lays_8 : decode cX2_lays 8 = .ok (.iload_n 3, 1) := dk_29 (dk_at dksX2_lays_0 8 rfl rfl)
theorem dX2_lays_9 : decode cX2_lays 9 = .ok (.invokevirtual 51, 3) := dk_182 0 51 (dk_at dksX2_lays_0 9 rfl rfl)
theorem dX2_lays_12 : decode cX2_lays 12 = .ok (.iconst 0, 1) := dk_3 (dk_at dksX2_lays_0 12 rfl rfl)
theorem dX2_lays_13 : decode cX2_lays 13 = .ok (.istore 4, 2) := dk_54 4 (dk_at dksX2_lays_0 13 rfl rfl)
theorem dX2_lays_15 : decode cX2_lays 15 = .ok (.iload 4, 2) := dk_21 4 (dk_at dksX2_lays_0 15 rfl rfl)
theorem dX2_lays_17 : decode cX2_lays 17 = .ok (.iload_n 1, 1) := dk_27 (dk_at dksX2_lays_0 17 rfl rfl)
theorem dX2_lays_18 : decode cX2_lays 18 = .ok (.bipush 36, 2) := dk_16 36 (dk_at dksX2_lays_0 18 rfl rfl)
theorem dX2_lays_20 : decode cX2_lays 20 = .ok (.imul, 1) := dk_104 (dk_at dksX2_lays_0 20 rfl rfl)
theorem dX2_lays_21 : decode cX2_lays 21 = .ok (.if_icmp .ge 77, 3) := dk_162 0 77 (dk_at dksX2_lays_0 21 rfl rfl)
theorem dX2_lays_24 : decode cX2_lays 24 = .ok (.aload_n 0, 1) := dk_42 (dk_at dksX2_lays_1 0 rfl rfl)
theorem dX2_lays_25 : decode cX2_lays 25 = .ok (.bipush 6, 2) := dk_16 6 (dk_at dksX2_lays_1 1 rfl rfl)
theorem dX2_lays_27 : decode cX2_lays 27 = .ok (.iload 4, 2) := dk_21 4 (dk_at dksX2_lays_1 3 rfl rfl)
theorem dX2_lays_29 : decode cX2_lays 29 = .ok (.bipush 36, 2) := dk_16 36 (dk_at dksX2_lays_1 5 rfl rfl)
theorem dX2_lays_31 : decode cX2_lays 31 = .ok (.idiv, 1) := dk_108 (dk_at dksX2_lays_1 7 rfl rfl)
theorem dX2_lays_32 : decode cX2_lays 32 = .ok (.iload 4, 2) := dk_21 4 (dk_at dksX2_lays_1 8 rfl rfl)
theorem dX2_lays_34 : decode cX2_lays 34 = .ok (.bipush 36, 2) := dk_16 36 (dk_at dksX2_lays_1 10 rfl rfl)
theorem dX2_lays_36 : decode cX2_lays 36 = .ok (.irem, 1) := dk_112 (dk_at dksX2_lays_1 12 rfl rfl)
theorem dX2_lays_37 : decode cX2_lays 37 = .ok (.invokevirtual 55, 3) := dk_182 0 55 (dk_at dksX2_lays_1 13 rfl rfl)
theorem dX2_lays_40 : decode cX2_lays 40 = .ok (.istore 5, 2) := dk_54 5 (dk_at dksX2_lays_1 16 rfl rfl)
theorem dX2_lays_42 : decode cX2_lays 42 = .ok (.iload_n 2, 1) := dk_28 (dk_at dksX2_lays_1 18 rfl rfl)
theorem dX2_lays_43 : decode cX2_lays 43 = .ok (.ifCond .ne 7, 3) := dk_154 0 7 (dk_at dksX2_lays_1 19 rfl rfl)
theorem dX2_lays_46 : decode cX2_lays 46 = .ok (.iconst 0, 1) := dk_3 (dk_at dksX2_lays_1 22 rfl rfl)
theorem dX2_lays_47 : decode cX2_lays 47 = .ok (.goto 21, 3) := dk_167 0 21 (dk_at dksX2_lays_2 0 rfl rfl)
theorem dX2_lays_50 : decode cX2_lays 50 = .ok (.aload_n 0, 1) := dk_42 (dk_at dksX2_lays_2 3 rfl rfl)
theorem dX2_lays_51 : decode cX2_lays 51 = .ok (.bipush 6, 2) := dk_16 6 (dk_at dksX2_lays_2 4 rfl rfl)
theorem dX2_lays_53 : decode cX2_lays 53 = .ok (.iload 4, 2) := dk_21 4 (dk_at dksX2_lays_2 6 rfl rfl)
theorem dX2_lays_55 : decode cX2_lays 55 = .ok (.bipush 36, 2) := dk_16 36 (dk_at dksX2_lays_2 8 rfl rfl)
theorem dX2_lays_57 : decode cX2_lays 57 = .ok (.idiv, 1) := dk_108 (dk_at dksX2_lays_2 10 rfl rfl)
theorem dX2_lays_58 : decode cX2_lays 58 = .ok (.iload_n 2, 1) := dk_28 (dk_at dksX2_lays_2 11 rfl rfl)
theorem dX2_lays_59 : decode cX2_lays 59 = .ok (.iadd, 1) := dk_96 (dk_at dksX2_lays_2 12 rfl rfl)
theorem dX2_lays_60 : decode cX2_lays 60 = .ok (.iload 4, 2) := dk_21 4 (dk_at dksX2_lays_2 13 rfl rfl)
theorem dX2_lays_62 : decode cX2_lays 62 = .ok (.bipush 36, 2) := dk_16 36 (dk_at dksX2_lays_2 15 rfl rfl)
theorem dX2_lays_64 : decode cX2_lays 64 = .ok (.irem, 1) := dk_112 (dk_at dksX2_lays_2 17 rfl rfl)
theorem dX2_lays_65 : decode cX2_lays 65 = .ok (.invokevirtual 55, 3) := dk_182 0 55 (dk_at dksX2_lays_2 18 rfl rfl)
theorem dX2_lays_68 : decode cX2_lays 68 = .ok (.istore 6, 2) := dk_54 6 (dk_at dksX2_lays_2 21 rfl rfl)
theorem dX2_lays_70 : decode cX2_lays 70 = .ok (.aload_n 0, 1) := dk_42 (dk_at dksX2_lays_2 23 rfl rfl)
theorem dX2_lays_71 : decode cX2_lays 71 = .ok (.iload_n 3, 1) := dk_29 (dk_at dksX2_lays_3 0 rfl rfl)
theorem dX2_lays_72 : decode cX2_lays 72 = .ok (.iload 4, 2) := dk_21 4 (dk_at dksX2_lays_3 1 rfl rfl)
theorem dX2_lays_74 : decode cX2_lays 74 = .ok (.bipush 36, 2) := dk_16 36 (dk_at dksX2_lays_3 3 rfl rfl)
theorem dX2_lays_76 : decode cX2_lays 76 = .ok (.idiv, 1) := dk_108 (dk_at dksX2_lays_3 5 rfl rfl)
theorem dX2_lays_77 : decode cX2_lays 77 = .ok (.iload 4, 2) := dk_21 4 (dk_at dksX2_lays_3 6 rfl rfl)
theorem dX2_lays_79 : decode cX2_lays 79 = .ok (.bipush 36, 2) := dk_16 36 (dk_at dksX2_lays_3 8 rfl rfl)
theorem dX2_lays_81 : decode cX2_lays 81 = .ok (.irem, 1) := dk_112 (dk_at dksX2_lays_3 10 rfl rfl)
theorem dX2_lays_82 : decode cX2_lays 82 = .ok (.iload 5, 2) := dk_21 5 (dk_at dksX2_lays_3 11 rfl rfl)
theorem dX2_lays_84 : decode cX2_lays 84 = .ok (.iload 6, 2) := dk_21 6 (dk_at dksX2_lays_3 13 rfl rfl)
theorem dX2_lays_86 : decode cX2_lays 86 = .ok (.invokestatic 59, 3) := dk_184 0 59 (dk_at dksX2_lays_3 15 rfl rfl)
theorem dX2_lays_89 : decode cX2_lays 89 = .ok (.invokevirtual 63, 3) := dk_182 0 63 (dk_at dksX2_lays_3 18 rfl rfl)
theorem dX2_lays_92 : decode cX2_lays 92 = .ok (.iinc 4 1, 3) := dk_132 4 1 (dk_at dksX2_lays_3 21 rfl rfl)
theorem dX2_lays_95 : decode cX2_lays 95 = .ok (.goto (-80), 3) := dk_167 255 176 (dk_at dksX2_lays_4 0 rfl rfl)
theorem dX2_lays_98 : decode cX2_lays 98 = .ok (.aload_n 0, 1) := dk_42 (dk_at dksX2_lays_4 3 rfl rfl)
theorem dX2_lays_99 : decode cX2_lays 99 = .ok (.getfield 7, 3) := dk_180 0 7 (dk_at dksX2_lays_4 4 rfl rfl)
theorem dX2_lays_102 : decode cX2_lays 102 = .ok (.bipush 14, 2) := dk_16 14 (dk_at dksX2_lays_4 7 rfl rfl)
theorem dX2_lays_104 : decode cX2_lays 104 = .ok (.iload_n 3, 1) := dk_29 (dk_at dksX2_lays_4 9 rfl rfl)
theorem dX2_lays_105 : decode cX2_lays 105 = .ok (.iadd, 1) := dk_96 (dk_at dksX2_lays_4 10 rfl rfl)
theorem dX2_lays_106 : decode cX2_lays 106 = .ok (.iload_n 1, 1) := dk_27 (dk_at dksX2_lays_4 11 rfl rfl)
theorem dX2_lays_107 : decode cX2_lays 107 = .ok (.i2l, 1) := dk_133 (dk_at dksX2_lays_4 12 rfl rfl)
theorem dX2_lays_108 : decode cX2_lays 108 = .ok (.lastore, 1) := dk_80 (dk_at dksX2_lays_4 13 rfl rfl)
theorem dX2_lays_109 : decode cX2_lays 109 = .ok (.aload_n 0, 1) := dk_42 (dk_at dksX2_lays_4 14 rfl rfl)
theorem dX2_lays_110 : decode cX2_lays 110 = .ok (.getfield 7, 3) := dk_180 0 7 (dk_at dksX2_lays_4 15 rfl rfl)
theorem dX2_lays_113 : decode cX2_lays 113 = .ok (.bipush 20, 2) := dk_16 20 (dk_at dksX2_lays_4 18 rfl rfl)
theorem dX2_lays_115 : decode cX2_lays 115 = .ok (.iload_n 3, 1) := dk_29 (dk_at dksX2_lays_4 20 rfl rfl)
theorem dX2_lays_116 : decode cX2_lays 116 = .ok (.iadd, 1) := dk_96 (dk_at dksX2_lays_4 21 rfl rfl)
theorem dX2_lays_117 : decode cX2_lays 117 = .ok (.lconst 0, 1) := dk_9 (dk_at dksX2_lays_4 22 rfl rfl)
theorem dX2_lays_118 : decode cX2_lays 118 = .ok (.lastore, 1) := dk_80 (dk_at dksX2_lays_4 23 rfl rfl)
theorem dX2_lays_119 : decode cX2_lays 119 = .ok (.aload_n 0, 1) := dk_42 (dk_at dksX2_lays_5 0 rfl rfl)
theorem dX2_lays_120 : decode cX2_lays 120 = .ok (.getfield 7, 3) := dk_180 0 7 (dk_at dksX2_lays_5 1 rfl rfl)
theorem dX2_lays_123 : decode cX2_lays 123 = .ok (.bipush 26, 2) := dk_16 26 (dk_at dksX2_lays_5 4 rfl rfl)
theorem dX2_lays_125 : decode cX2_lays 125 = .ok (.iload_n 3, 1) := dk_29 (dk_at dksX2_lays_5 6 rfl rfl)
theorem dX2_lays_126 : decode cX2_lays 126 = .ok (.iadd, 1) := dk_96 (dk_at dksX2_lays_5 7 rfl rfl)
theorem dX2_lays_127 : decode cX2_lays 127 = .ok (.lconst 0, 1) := dk_9 (dk_at dksX2_lays_5 8 rfl rfl)
theorem dX2_lays_128 : decode cX2_lays 128 = .ok (.lastore, 1) := dk_80 (dk_at dksX2_lays_5 9 rfl rfl)
theorem dX2_lays_129 : decode cX2_lays 129 = .ok (.aload_n 0, 1) := dk_42 (dk_at dksX2_lays_5 10 rfl rfl)
theorem dX2_lays_130 : decode cX2_lays 130 = .ok (.getfield 7, 3) := dk_180 0 7 (dk_at dksX2_lays_5 11 rfl rfl)
theorem dX2_lays_133 : decode cX2_lays 133 = .ok (.bipush 7, 2) := dk_16 7 (dk_at dksX2_lays_5 14 rfl rfl)
theorem dX2_lays_135 : decode cX2_lays 135 = .ok (.dup2, 1) := dk_92 (dk_at dksX2_lays_5 16 rfl rfl)
theorem dX2_lays_136 : decode cX2_lays 136 = .ok (.laload, 1) := dk_47 (dk_at dksX2_lays_5 17 rfl rfl)
theorem dX2_lays_137 : decode cX2_lays 137 = .ok (.lconst 1, 1) := dk_10 (dk_at dksX2_lays_5 18 rfl rfl)
theorem dX2_lays_138 : decode cX2_lays 138 = .ok (.ladd, 1) := dk_97 (dk_at dksX2_lays_5 19 rfl rfl)
theorem dX2_lays_139 : decode cX2_lays 139 = .ok (.lastore, 1) := dk_80 (dk_at dksX2_lays_5 20 rfl rfl)
theorem dX2_lays_140 : decode cX2_lays 140 = .ok (.aload_n 0, 1) := dk_42 (dk_at dksX2_lays_5 21 rfl rfl)
theorem dX2_lays_141 : decode cX2_lays 141 = .ok (.getfield 7, 3) := dk_180 0 7 (dk_at dksX2_lays_6 0 rfl rfl)
theorem dX2_lays_144 : decode cX2_lays 144 = .ok (.bipush 8, 2) := dk_16 8 (dk_at dksX2_lays_6 3 rfl rfl)
theorem dX2_lays_146 : decode cX2_lays 146 = .ok (.lconst 0, 1) := dk_9 (dk_at dksX2_lays_6 5 rfl rfl)
theorem dX2_lays_147 : decode cX2_lays 147 = .ok (.lastore, 1) := dk_80 (dk_at dksX2_lays_6 6 rfl rfl)
theorem dX2_lays_148 : decode cX2_lays 148 = .ok (.aload_n 0, 1) := dk_42 (dk_at dksX2_lays_6 7 rfl rfl)
theorem dX2_lays_149 : decode cX2_lays 149 = .ok (.getfield 7, 3) := dk_180 0 7 (dk_at dksX2_lays_6 8 rfl rfl)
theorem dX2_lays_152 : decode cX2_lays 152 = .ok (.bipush 13, 2) := dk_16 13 (dk_at dksX2_lays_6 11 rfl rfl)
theorem dX2_lays_154 : decode cX2_lays 154 = .ok (.dup2, 1) := dk_92 (dk_at dksX2_lays_6 13 rfl rfl)
theorem dX2_lays_155 : decode cX2_lays 155 = .ok (.laload, 1) := dk_47 (dk_at dksX2_lays_6 14 rfl rfl)
theorem dX2_lays_156 : decode cX2_lays 156 = .ok (.lconst 1, 1) := dk_10 (dk_at dksX2_lays_6 15 rfl rfl)
theorem dX2_lays_157 : decode cX2_lays 157 = .ok (.ladd, 1) := dk_97 (dk_at dksX2_lays_6 16 rfl rfl)
theorem dX2_lays_158 : decode cX2_lays 158 = .ok (.lastore, 1) := dk_80 (dk_at dksX2_lays_6 17 rfl rfl)
theorem dX2_lays_159 : decode cX2_lays 159 = .ok (.return_, 1) := dk_177 (dk_at dksX2_lays_6 18 rfl rfl)
abbrev cX2_clears : ByteArray := prog_13_method_8_code
def yX2_clears : MethodName := ⟨RX2, "clears", "(I)V"⟩
def dkwX2_clears_1 : List UInt8 := [80, 132, 2, 1, 167, 255, 230, 177]
abbrev dktX2_clears_1 : List UInt8 := dkwX2_clears_1 ++ []
def dkwX2_clears_0 : List UInt8 := [3, 61, 28, 17, 0, 192, 162, 0, 25, 42, 180, 0, 7, 16, 32, 17, 0, 192, 27, 104, 96, 28, 96, 9]
abbrev dktX2_clears_0 : List UInt8 := dkwX2_clears_0 ++ dktX2_clears_1
theorem dksX2_clears_0 : cX2_clears.data.toList.drop 0 = dktX2_clears_0 := by decide +kernel
theorem dksX2_clears_1 : cX2_clears.data.toList.drop 24 = dktX2_clears_1 := dk_seg dksX2_clears_0 24 rfl rfl
theorem dX2_clears_0 : decode cX2_clears 0 = .ok (.iconst 0, 1) := dk_3 (dk_at dksX2_clears_0 0 rfl rfl)
theorem dX2_clears_1 : decode cX2_clears 1 = .ok (.istore_n 2, 1) := dk_61 (dk_at dksX2_clears_0 1 rfl rfl)
theorem dX2_clears_2 : decode cX2_clears 2 = .ok (.iload_n 2, 1) := dk_28 (dk_at dksX2_clears_0 2 rfl rfl)
theorem dX2_clears_3 : decode cX2_clears 3 = .ok (.sipush 192, 3) := dk_17 0 192 (dk_at dksX2_clears_0 3 rfl rfl)
theorem dX2_clears_6 : decode cX2_clears 6 = .ok (.if_icmp .ge 25, 3) := dk_162 0 25 (dk_at dksX2_clears_0 6 rfl rfl)
theorem dX2_clears_9 : decode cX2_clears 9 = .ok (.aload_n 0, 1) := dk_42 (dk_at dksX2_clears_0 9 rfl rfl)
theorem dX2_clears_10 : decode cX2_clears 10 = .ok (.getfield 7, 3) := dk_180 0 7 (dk_at dksX2_clears_0 10 rfl rfl)
theorem dX2_clears_13 : decode cX2_clears 13 = .ok (.bipush 32, 2) := dk_16 32 (dk_at dksX2_clears_0 13 rfl rfl)
theorem dX2_clears_15 : decode cX2_clears 15 = .ok (.sipush 192, 3) := dk_17 0 192 (dk_at dksX2_clears_0 15 rfl rfl)
theorem dX2_clears_18 : decode cX2_clears 18 = .ok (.iload_n 1, 1) := dk_27 (dk_at dksX2_clears_0 18 rfl rfl)
theorem dX2_clears_19 : decode cX2_clears 19 = .ok (.imul, 1) := dk_104 (dk_at dksX2_clears_0 19 rfl rfl)
theorem dX2_clears_20 : decode cX2_clears 20 = .ok (.iadd, 1) := dk_96 (dk_at dksX2_clears_0 20 rfl rfl)
theorem dX2_clears_21 : decode cX2_clears 21 = .ok (.iload_n 2, 1) := dk_28 (dk_at dksX2_clears_0 21 rfl rfl)
theorem dX2_clears_22 : decode cX2_clears 22 = .ok (.iadd, 1) := dk_96 (dk_at dksX2_clears_0 22 rfl rfl)
theorem dX2_clears_23 : decode cX2_clears 23 = .ok (.lconst 0, 1) := dk_9 (dk_at dksX2_clears_0 23 rfl rfl)
theorem dX2_clears_24 : decode cX2_clears 24 = .ok (.lastore, 1) := dk_80 (dk_at dksX2_clears_1 0 rfl rfl)
theorem dX2_clears_25 : decode cX2_clears 25 = .ok (.iinc 2 1, 3) := dk_132 2 1 (dk_at dksX2_clears_1 1 rfl rfl)
theorem dX2_clears_28 : decode cX2_clears 28 = .ok (.goto (-26), 3) := dk_167 255 230 (dk_at dksX2_clears_1 4 rfl rfl)
theorem dX2_clears_31 : decode cX2_clears 31 = .ok (.return_, 1) := dk_177 (dk_at dksX2_clears_1 7 rfl rfl)
abbrev cX2_force : ByteArray := prog_13_method_6_code
def yX2_force : MethodName := ⟨RX2, "force", "(III)I"⟩
def dkwX2_force_1 : List UInt8 := [29, 16, 9, 112, 104, 123, 20, 0, 32, 127, 136, 172]
abbrev dktX2_force_1 : List UInt8 := dkwX2_force_1 ++ []
def dkwX2_force_0 : List UInt8 := [42, 180, 0, 7, 16, 32, 17, 0, 192, 27, 104, 96, 7, 28, 104, 96, 29, 16, 9, 108, 96, 47, 16, 7]
abbrev dktX2_force_0 : List UInt8 := dkwX2_force_0 ++ dktX2_force_1
theorem dksX2_force_0 : cX2_force.data.toList.drop 0 = dktX2_force_0 := by decide +kernel
theorem dksX2_force_1 : cX2_force.data.toList.drop 24 = dktX2_force_1 := dk_seg dksX2_force_0 24 rfl rfl
theorem dX2_force_0 : decode cX2_force 0 = .ok (.aload_n 0, 1) := dk_42 (dk_at dksX2_force_0 0 rfl rfl)
theorem dX2_force_1 : decode cX2_force 1 = .ok (.getfield 7, 3) := dk_180 0 7 (dk_at dksX2_force_0 1 rfl rfl)
theorem dX2_force_4 : decode cX2_force 4 = .ok (.bipush 32, 2) := dk_16 32 (dk_at dksX2_force_0 4 rfl rfl)
theorem dX2_force_6 : decode cX2_force 6 = .ok (.sipush 192, 3) := dk_17 0 192 (dk_at dksX2_force_0 6 rfl rfl)
theorem dX2_force_9 : decode cX2_force 9 = .ok (.iload_n 1, 1) := dk_27 (dk_at dksX2_force_0 9 rfl rfl)
theorem dX2_force_10 : decode cX2_force 10 = .ok (.imul, 1) := dk_104 (dk_at dksX2_force_0 10 rfl rfl)
theorem dX2_force_11 : decode cX2_force 11 = .ok (.iadd, 1) := dk_96 (dk_at dksX2_force_0 11 rfl rfl)
theorem dX2_force_12 : decode cX2_force 12 = .ok (.iconst 4, 1) := dk_7 (dk_at dksX2_force_0 12 rfl rfl)
theorem dX2_force_13 : decode cX2_force 13 = .ok (.iload_n 2, 1) := dk_28 (dk_at dksX2_force_0 13 rfl rfl)
theorem dX2_force_14 : decode cX2_force 14 = .ok (.imul, 1) := dk_104 (dk_at dksX2_force_0 14 rfl rfl)
theorem dX2_force_15 : decode cX2_force 15 = .ok (.iadd, 1) := dk_96 (dk_at dksX2_force_0 15 rfl rfl)
theorem dX2_force_16 : decode cX2_force 16 = .ok (.iload_n 3, 1) := dk_29 (dk_at dksX2_force_0 16 rfl rfl)
theorem dX2_force_17 : decode cX2_force 17 = .ok (.bipush 9, 2) := dk_16 9 (dk_at dksX2_force_0 17 rfl rfl)
theorem dX2_force_19 : decode cX2_force 19 = .ok (.idiv, 1) := dk_108 (dk_at dksX2_force_0 19 rfl rfl)
theorem dX2_force_20 : decode cX2_force 20 = .ok (.iadd, 1) := dk_96 (dk_at dksX2_force_0 20 rfl rfl)
theorem dX2_force_21 : decode cX2_force 21 = .ok (.laload, 1) := dk_47 (dk_at dksX2_force_0 21 rfl rfl)
theorem dX2_force_22 : decode cX2_force 22 = .ok (.bipush 7, 2) := dk_16 7 (dk_at dksX2_force_0 22 rfl rfl)
theorem dX2_force_24 : decode cX2_force 24 = .ok (.iload_n 3, 1) := dk_29 (dk_at dksX2_force_1 0 rfl rfl)
theorem dX2_force_25 : decode cX2_force 25 = .ok (.bipush 9, 2) := dk_16 9 (dk_at dksX2_force_1 1 rfl rfl)
theorem dX2_force_27 : decode cX2_force 27 = .ok (.irem, 1) := dk_112 (dk_at dksX2_force_1 3 rfl rfl)
theorem dX2_force_28 : decode cX2_force 28 = .ok (.imul, 1) := dk_104 (dk_at dksX2_force_1 4 rfl rfl)
theorem dX2_force_29 : decode cX2_force 29 = .ok (.lshr, 1) := dk_123 (dk_at dksX2_force_1 5 rfl rfl)
theorem dX2_force_30 : decode cX2_force 30 = .ok (.ldc2_w 32, 3) := dk_20 0 32 (dk_at dksX2_force_1 6 rfl rfl)
theorem dX2_force_33 : decode cX2_force 33 = .ok (.land, 1) := dk_127 (dk_at dksX2_force_1 9 rfl rfl)
theorem dX2_force_34 : decode cX2_force 34 = .ok (.l2i, 1) := dk_136 (dk_at dksX2_force_1 10 rfl rfl)
theorem dX2_force_35 : decode cX2_force 35 = .ok (.ireturn, 1) := dk_172 (dk_at dksX2_force_1 11 rfl rfl)
abbrev cX2_both : ByteArray := prog_13_method_9_code
def yX2_both : MethodName := ⟨RX2, "both", "(II)I"⟩
def dkwX2_both_0 : List UInt8 := [26, 27, 96, 16, 99, 162, 0, 9, 26, 27, 96, 167, 0, 5, 16, 99, 172]
abbrev dktX2_both_0 : List UInt8 := dkwX2_both_0 ++ []
theorem dksX2_both_0 : cX2_both.data.toList.drop 0 = dktX2_both_0 := by decide +kernel
theorem dX2_both_0 : decode cX2_both 0 = .ok (.iload_n 0, 1) := dk_26 (dk_at dksX2_both_0 0 rfl rfl)
theorem dX2_both_1 : decode cX2_both 1 = .ok (.iload_n 1, 1) := dk_27 (dk_at dksX2_both_0 1 rfl rfl)
theorem dX2_both_2 : decode cX2_both 2 = .ok (.iadd, 1) := dk_96 (dk_at dksX2_both_0 2 rfl rfl)
theorem dX2_both_3 : decode cX2_both 3 = .ok (.bipush 99, 2) := dk_16 99 (dk_at dksX2_both_0 3 rfl rfl)
theorem dX2_both_5 : decode cX2_both 5 = .ok (.if_icmp .ge 9, 3) := dk_162 0 9 (dk_at dksX2_both_0 5 rfl rfl)
theorem dX2_both_8 : decode cX2_both 8 = .ok (.iload_n 0, 1) := dk_26 (dk_at dksX2_both_0 8 rfl rfl)
theorem dX2_both_9 : decode cX2_both 9 = .ok (.iload_n 1, 1) := dk_27 (dk_at dksX2_both_0 9 rfl rfl)
theorem dX2_both_10 : decode cX2_both 10 = .ok (.iadd, 1) := dk_96 (dk_at dksX2_both_0 10 rfl rfl)
theorem dX2_both_11 : decode cX2_both 11 = .ok (.goto 5, 3) := dk_167 0 5 (dk_at dksX2_both_0 11 rfl rfl)
theorem dX2_both_14 : decode cX2_both 14 = .ok (.bipush 99, 2) := dk_16 99 (dk_at dksX2_both_0 14 rfl rfl)
theorem dX2_both_16 : decode cX2_both 16 = .ok (.ireturn, 1) := dk_172 (dk_at dksX2_both_0 16 rfl rfl)
abbrev cX2_sets : ByteArray := prog_13_method_7_code
def yX2_sets : MethodName := ⟨RX2, "sets", "(IIII)V"⟩
def dkwX2_sets_2 : List UInt8 := [20, 0, 34, 131, 127, 21, 4, 133, 21, 6, 121, 129, 80, 177]
abbrev dktX2_sets_2 : List UInt8 := dkwX2_sets_2 ++ []
def dkwX2_sets_1 : List UInt8 := [112, 104, 54, 6, 42, 180, 0, 7, 21, 5, 42, 180, 0, 7, 21, 5, 47, 20, 0, 32, 21, 6, 121]
abbrev dktX2_sets_1 : List UInt8 := dkwX2_sets_1 ++ dktX2_sets_2
def dkwX2_sets_0 : List UInt8 := [16, 32, 17, 0, 192, 27, 104, 96, 7, 28, 104, 96, 29, 16, 9, 108, 96, 54, 5, 16, 7, 29, 16, 9]
abbrev dktX2_sets_0 : List UInt8 := dkwX2_sets_0 ++ dktX2_sets_1
theorem dksX2_sets_0 : cX2_sets.data.toList.drop 0 = dktX2_sets_0 := by decide +kernel
theorem dksX2_sets_1 : cX2_sets.data.toList.drop 24 = dktX2_sets_1 := dk_seg dksX2_sets_0 24 rfl rfl
theorem dksX2_sets_2 : cX2_sets.data.toList.drop 47 = dktX2_sets_2 := dk_seg dksX2_sets_1 23 rfl rfl
theorem dX2_sets_0 : decode cX2_sets 0 = .ok (.bipush 32, 2) := dk_16 32 (dk_at dksX2_sets_0 0 rfl rfl)
theorem dX2_sets_2 : decode cX2_sets 2 = .ok (.sipush 192, 3) := dk_17 0 192 (dk_at dksX2_sets_0 2 rfl rfl)
theorem dX2_sets_5 : decode cX2_sets 5 = .ok (.iload_n 1, 1) := dk_27 (dk_at dksX2_sets_0 5 rfl rfl)
theorem dX2_sets_6 : decode cX2_sets 6 = .ok (.imul, 1) := dk_104 (dk_at dksX2_sets_0 6 rfl rfl)
theorem dX2_sets_7 : decode cX2_sets 7 = .ok (.iadd, 1) := dk_96 (dk_at dksX2_sets_0 7 rfl rfl)
theorem dX2_sets_8 : decode cX2_sets 8 = .ok (.iconst 4, 1) := dk_7 (dk_at dksX2_sets_0 8 rfl rfl)
theorem dX2_sets_9 : decode cX2_sets 9 = .ok (.iload_n 2, 1) := dk_28 (dk_at dksX2_sets_0 9 rfl rfl)
theorem dX2_sets_10 : decode cX2_sets 10 = .ok (.imul, 1) := dk_104 (dk_at dksX2_sets_0 10 rfl rfl)
theorem dX2_sets_11 : decode cX2_sets 11 = .ok (.iadd, 1) := dk_96 (dk_at dksX2_sets_0 11 rfl rfl)
theorem dX2_sets_12 : decode cX2_sets 12 = .ok (.iload_n 3, 1) := dk_29 (dk_at dksX2_sets_0 12 rfl rfl)
theorem dX2_sets_13 : decode cX2_sets 13 = .ok (.bipush 9, 2) := dk_16 9 (dk_at dksX2_sets_0 13 rfl rfl)
theorem dX2_sets_15 : decode cX2_sets 15 = .ok (.idiv, 1) := dk_108 (dk_at dksX2_sets_0 15 rfl rfl)
theorem dX2_sets_16 : decode cX2_sets 16 = .ok (.iadd, 1) := dk_96 (dk_at dksX2_sets_0 16 rfl rfl)
theorem dX2_sets_17 : decode cX2_sets 17 = .ok (.istore 5, 2) := dk_54 5 (dk_at dksX2_sets_0 17 rfl rfl)
theorem dX2_sets_19 : decode cX2_sets 19 = .ok (.bipush 7, 2) := dk_16 7 (dk_at dksX2_sets_0 19 rfl rfl)
theorem dX2_sets_21 : decode cX2_sets 21 = .ok (.iload_n 3, 1) := dk_29 (dk_at dksX2_sets_0 21 rfl rfl)
theorem dX2_sets_22 : decode cX2_sets 22 = .ok (.bipush 9, 2) := dk_16 9 (dk_at dksX2_sets_0 22 rfl rfl)
theorem dX2_sets_24 : decode cX2_sets 24 = .ok (.irem, 1) := dk_112 (dk_at dksX2_sets_1 0 rfl rfl)
theorem dX2_sets_25 : decode cX2_sets 25 = .ok (.imul, 1) := dk_104 (dk_at dksX2_sets_1 1 rfl rfl)
theorem dX2_sets_26 : decode cX2_sets 26 = .ok (.istore 6, 2) := dk_54 6 (dk_at dksX2_sets_1 2 rfl rfl)
theorem dX2_sets_28 : decode cX2_sets 28 = .ok (.aload_n 0, 1) := dk_42 (dk_at dksX2_sets_1 4 rfl rfl)
theorem dX2_sets_29 : decode cX2_sets 29 = .ok (.getfield 7, 3) := dk_180 0 7 (dk_at dksX2_sets_1 5 rfl rfl)
theorem dX2_sets_32 : decode cX2_sets 32 = .ok (.iload 5, 2) := dk_21 5 (dk_at dksX2_sets_1 8 rfl rfl)
theorem dX2_sets_34 : decode cX2_sets 34 = .ok (.aload_n 0, 1) := dk_42 (dk_at dksX2_sets_1 10 rfl rfl)
theorem dX2_sets_35 : decode cX2_sets 35 = .ok (.getfield 7, 3) := dk_180 0 7 (dk_at dksX2_sets_1 11 rfl rfl)
theorem dX2_sets_38 : decode cX2_sets 38 = .ok (.iload 5, 2) := dk_21 5 (dk_at dksX2_sets_1 14 rfl rfl)
theorem dX2_sets_40 : decode cX2_sets 40 = .ok (.laload, 1) := dk_47 (dk_at dksX2_sets_1 16 rfl rfl)
theorem dX2_sets_41 : decode cX2_sets 41 = .ok (.ldc2_w 32, 3) := dk_20 0 32 (dk_at dksX2_sets_1 17 rfl rfl)
theorem dX2_sets_44 : decode cX2_sets 44 = .ok (.iload 6, 2) := dk_21 6 (dk_at dksX2_sets_1 20 rfl rfl)
theorem dX2_sets_46 : decode cX2_sets 46 = .ok (.lshl, 1) := dk_121 (dk_at dksX2_sets_1 22 rfl rfl)
theorem dX2_sets_47 : decode cX2_sets 47 = .ok (.ldc2_w 34, 3) := dk_20 0 34 (dk_at dksX2_sets_2 0 rfl rfl)
theorem dX2_sets_50 : decode cX2_sets 50 = .ok (.lxor, 1) := dk_131 (dk_at dksX2_sets_2 3 rfl rfl)
theorem dX2_sets_51 : decode cX2_sets 51 = .ok (.land, 1) := dk_127 (dk_at dksX2_sets_2 4 rfl rfl)
theorem dX2_sets_52 : decode cX2_sets 52 = .ok (.iload 4, 2) := dk_21 4 (dk_at dksX2_sets_2 5 rfl rfl)
theorem dX2_sets_54 : decode cX2_sets 54 = .ok (.i2l, 1) := dk_133 (dk_at dksX2_sets_2 7 rfl rfl)
theorem dX2_sets_55 : decode cX2_sets 55 = .ok (.iload 6, 2) := dk_21 6 (dk_at dksX2_sets_2 8 rfl rfl)
theorem dX2_sets_57 : decode cX2_sets 57 = .ok (.lshl, 1) := dk_121 (dk_at dksX2_sets_2 10 rfl rfl)
theorem dX2_sets_58 : decode cX2_sets 58 = .ok (.lor, 1) := dk_129 (dk_at dksX2_sets_2 11 rfl rfl)
theorem dX2_sets_59 : decode cX2_sets 59 = .ok (.lastore, 1) := dk_80 (dk_at dksX2_sets_2 12 rfl rfl)
theorem dX2_sets_60 : decode cX2_sets 60 = .ok (.return_, 1) := dk_177 (dk_at dksX2_sets_2 13 rfl rfl)
abbrev cX2_endsTake : ByteArray := prog_13_method_16_code
def yX2_endsTake : MethodName := ⟨RX2, "endsTake", "()V"⟩
def dkwX2_endsTake_0 : List UInt8 := [42, 180, 0, 7, 16, 11, 9, 80, 42, 16, 6, 182, 0, 51, 177]
abbrev dktX2_endsTake_0 : List UInt8 := dkwX2_endsTake_0 ++ []
theorem dksX2_endsTake_0 : cX2_endsTake.data.toList.drop 0 = dktX2_endsTake_0 := by decide +kernel
theorem dX2_endsTake_0 : decode cX2_endsTake 0 = .ok (.aload_n 0, 1) := dk_42 (dk_at dksX2_endsTake_0 0 rfl rfl)
theorem dX2_endsTake_1 : decode cX2_endsTake 1 = .ok (.getfield 7, 3) := dk_180 0 7 (dk_at dksX2_endsTake_0 1 rfl rfl)
theorem dX2_endsTake_4 : decode cX2_endsTake 4 = .ok (.bipush 11, 2) := dk_16 11 (dk_at dksX2_endsTake_0 4 rfl rfl)
theorem dX2_endsTake_6 : decode cX2_endsTake 6 = .ok (.lconst 0, 1) := dk_9 (dk_at dksX2_endsTake_0 6 rfl rfl)
theorem dX2_endsTake_7 : decode cX2_endsTake 7 = .ok (.lastore, 1) := dk_80 (dk_at dksX2_endsTake_0 7 rfl rfl)
theorem dX2_endsTake_8 : decode cX2_endsTake 8 = .ok (.aload_n 0, 1) := dk_42 (dk_at dksX2_endsTake_0 8 rfl rfl)
theorem dX2_endsTake_9 : decode cX2_endsTake 9 = .ok (.bipush 6, 2) := dk_16 6 (dk_at dksX2_endsTake_0 9 rfl rfl)
theorem dX2_endsTake_11 : decode cX2_endsTake 11 = .ok (.invokevirtual 51, 3) := dk_182 0 51 (dk_at dksX2_endsTake_0 11 rfl rfl)
theorem dX2_endsTake_14 : decode cX2_endsTake 14 = .ok (.return_, 1) := dk_177 (dk_at dksX2_endsTake_0 14 rfl rfl)
abbrev cX2_starts : ByteArray := prog_13_method_14_code
def yX2_starts : MethodName := ⟨RX2, "starts", "()V"⟩
def dkwX2_starts_1 : List UInt8 := [42, 180, 0, 7, 16, 10, 9, 80, 177]
abbrev dktX2_starts_1 : List UInt8 := dkwX2_starts_1 ++ []
def dkwX2_starts_0 : List UInt8 := [42, 180, 0, 7, 3, 20, 0, 47, 80, 42, 180, 0, 7, 4, 9, 80, 42, 180, 0, 7, 16, 9, 9, 80]
abbrev dktX2_starts_0 : List UInt8 := dkwX2_starts_0 ++ dktX2_starts_1
theorem dksX2_starts_0 : cX2_starts.data.toList.drop 0 = dktX2_starts_0 := by decide +kernel
theorem dksX2_starts_1 : cX2_starts.data.toList.drop 24 = dktX2_starts_1 := dk_seg dksX2_starts_0 24 rfl rfl
theorem dX2_starts_0 : decode cX2_starts 0 = .ok (.aload_n 0, 1) := dk_42 (dk_at dksX2_starts_0 0 rfl rfl)
theorem dX2_starts_1 : decode cX2_starts 1 = .ok (.getfield 7, 3) := dk_180 0 7 (dk_at dksX2_starts_0 1 rfl rfl)
theorem dX2_starts_4 : decode cX2_starts 4 = .ok (.iconst 0, 1) := dk_3 (dk_at dksX2_starts_0 4 rfl rfl)
theorem dX2_starts_5 : decode cX2_starts 5 = .ok (.ldc2_w 47, 3) := dk_20 0 47 (dk_at dksX2_starts_0 5 rfl rfl)
theorem dX2_starts_8 : decode cX2_starts 8 = .ok (.lastore, 1) := dk_80 (dk_at dksX2_starts_0 8 rfl rfl)
theorem dX2_starts_9 : decode cX2_starts 9 = .ok (.aload_n 0, 1) := dk_42 (dk_at dksX2_starts_0 9 rfl rfl)
theorem dX2_starts_10 : decode cX2_starts 10 = .ok (.getfield 7, 3) := dk_180 0 7 (dk_at dksX2_starts_0 10 rfl rfl)
theorem dX2_starts_13 : decode cX2_starts 13 = .ok (.iconst 1, 1) := dk_4 (dk_at dksX2_starts_0 13 rfl rfl)
theorem dX2_starts_14 : decode cX2_starts 14 = .ok (.lconst 0, 1) := dk_9 (dk_at dksX2_starts_0 14 rfl rfl)
theorem dX2_starts_15 : decode cX2_starts 15 = .ok (.lastore, 1) := dk_80 (dk_at dksX2_starts_0 15 rfl rfl)
theorem dX2_starts_16 : decode cX2_starts 16 = .ok (.aload_n 0, 1) := dk_42 (dk_at dksX2_starts_0 16 rfl rfl)
theorem dX2_starts_17 : decode cX2_starts 17 = .ok (.getfield 7, 3) := dk_180 0 7 (dk_at dksX2_starts_0 17 rfl rfl)
theorem dX2_starts_20 : decode cX2_starts 20 = .ok (.bipush 9, 2) := dk_16 9 (dk_at dksX2_starts_0 20 rfl rfl)
theorem dX2_starts_22 : decode cX2_starts 22 = .ok (.lconst 0, 1) := dk_9 (dk_at dksX2_starts_0 22 rfl rfl)
theorem dX2_starts_23 : decode cX2_starts 23 = .ok (.lastore, 1) := dk_80 (dk_at dksX2_starts_0 23 rfl rfl)
theorem dX2_starts_24 : decode cX2_starts 24 = .ok (.aload_n 0, 1) := dk_42 (dk_at dksX2_starts_1 0 rfl rfl)
theorem dX2_starts_25 : decode cX2_starts 25 = .ok (.getfield 7, 3) := dk_180 0 7 (dk_at dksX2_starts_1 1 rfl rfl)
theorem dX2_starts_28 : decode cX2_starts 28 = .ok (.bipush 10, 2) := dk_16 10 (dk_at dksX2_starts_1 4 rfl rfl)
theorem dX2_starts_30 : decode cX2_starts 30 = .ok (.lconst 0, 1) := dk_9 (dk_at dksX2_starts_1 6 rfl rfl)
theorem dX2_starts_31 : decode cX2_starts 31 = .ok (.lastore, 1) := dk_80 (dk_at dksX2_starts_1 7 rfl rfl)
theorem dX2_starts_32 : decode cX2_starts 32 = .ok (.return_, 1) := dk_177 (dk_at dksX2_starts_1 8 rfl rfl)
abbrev cX2_endsOver : ByteArray := prog_13_method_20_code
def yX2_endsOver : MethodName := ⟨RX2, "endsOver", "()V"⟩
def dkwX2_endsOver_3 : List UInt8 := [42, 182, 0, 74, 42, 180, 0, 7, 3, 20, 0, 47, 80, 177]
abbrev dktX2_endsOver_3 : List UInt8 := dkwX2_endsOver_3 ++ []
def dkwX2_endsOver_2 : List UInt8 := [47, 42, 180, 0, 7, 16, 11, 47, 97, 7, 27, 104, 133, 113, 80, 167, 0, 9, 42, 27, 27, 182, 0, 70]
abbrev dktX2_endsOver_2 : List UInt8 := dkwX2_endsOver_2 ++ dktX2_endsOver_3
def dkwX2_endsOver_1 : List UInt8 := [27, 104, 164, 0, 40, 42, 5, 27, 104, 3, 182, 0, 70, 42, 180, 0, 7, 4, 42, 180, 0, 7, 16, 12]
abbrev dktX2_endsOver_1 : List UInt8 := dkwX2_endsOver_1 ++ dktX2_endsOver_2
def dkwX2_endsOver_0 : List UInt8 := [42, 16, 6, 182, 0, 36, 60, 42, 182, 0, 80, 5, 27, 104, 159, 0, 15, 42, 16, 11, 182, 0, 36, 5]
abbrev dktX2_endsOver_0 : List UInt8 := dkwX2_endsOver_0 ++ dktX2_endsOver_1
theorem dksX2_endsOver_0 : cX2_endsOver.data.toList.drop 0 = dktX2_endsOver_0 := by decide +kernel
theorem dksX2_endsOver_1 : cX2_endsOver.data.toList.drop 24 = dktX2_endsOver_1 := dk_seg dksX2_endsOver_0 24 rfl rfl
theorem dksX2_endsOver_2 : cX2_endsOver.data.toList.drop 48 = dktX2_endsOver_2 := dk_seg dksX2_endsOver_1 24 rfl rfl
theorem dksX2_endsOver_3 : cX2_endsOver.data.toList.drop 72 = dktX2_endsOver_3 := dk_seg dksX2_endsOver_2 24 rfl rfl
theorem dX2_endsOver_0 : decode cX2_endsOver 0 = .ok (.aload_n 0, 1) := dk_42 (dk_at dksX2_endsOver_0 0 rfl rfl)
theorem dX2_endsOver_1 : decode cX2_endsOver 1 = .ok (.bipush 6, 2) := dk_16 6 (dk_at dksX2_endsOver_0 1 rfl rfl)
theorem dX2_endsOver_3 : decode cX2_endsOver 3 = .ok (.invokevirtual 36, 3) := dk_182 0 36 (dk_at dksX2_endsOver_0 3 rfl rfl)
theorem dX2_endsOver_6 : decode cX2_endsOver 6 = .ok (.istore_n 1, 1) := dk_60 (dk_at dksX2_endsOver_0 6 rfl rfl)
theorem dX2_endsOver_7 : decode cX2_endsOver 7 = .ok (.aload_n 0, 1) := dk_42 (dk_at dksX2_endsOver_0 7 rfl rfl)
theorem dX2_endsOver_8 : decode cX2_endsOver 8 = .ok (.invokevirtual 80, 3) := dk_182 0 80 (dk_at dksX2_endsOver_0 8 rfl rfl)
theorem dX2_endsOver_11 : decode cX2_endsOver 11 = .ok (.iconst 2, 1) := dk_5 (dk_at dksX2_endsOver_0 11 rfl rfl)
theorem dX2_endsOver_12 : decode cX2_endsOver 12 = .ok (.iload_n 1, 1) := dk_27 (dk_at dksX2_endsOver_0 12 rfl rfl)
theorem dX2_endsOver_13 : decode cX2_endsOver 13 = .ok (.imul, 1) := dk_104 (dk_at dksX2_endsOver_0 13 rfl rfl)
theorem dX2_endsOver_14 : decode cX2_endsOver 14 = .ok (.if_icmp .eq 15, 3) := dk_159 0 15 (dk_at dksX2_endsOver_0 14 rfl rfl)
theorem dX2_endsOver_17 : decode cX2_endsOver 17 = .ok (.aload_n 0, 1) := dk_42 (dk_at dksX2_endsOver_0 17 rfl rfl)
theorem dX2_endsOver_18 : decode cX2_endsOver 18 = .ok (.bipush 11, 2) := dk_16 11 (dk_at dksX2_endsOver_0 18 rfl rfl)
theorem dX2_endsOver_20 : decode cX2_endsOver 20 = .ok (.invokevirtual 36, 3) := dk_182 0 36 (dk_at dksX2_endsOver_0 20 rfl rfl)
theorem dX2_endsOver_23 : decode cX2_endsOver 23 = .ok (.iconst 2, 1) := dk_5 (dk_at dksX2_endsOver_0 23 rfl rfl)
theorem dX2_endsOver_24 : decode cX2_endsOver 24 = .ok (.iload_n 1, 1) := dk_27 (dk_at dksX2_endsOver_1 0 rfl rfl)
theorem dX2_endsOver_25 : decode cX2_endsOver 25 = .ok (.imul, 1) := dk_104 (dk_at dksX2_endsOver_1 1 rfl rfl)
theorem dX2_endsOver_26 : decode cX2_endsOver 26 = .ok (.if_icmp .le 40, 3) := dk_164 0 40 (dk_at dksX2_endsOver_1 2 rfl rfl)
theorem dX2_endsOver_29 : decode cX2_endsOver 29 = .ok (.aload_n 0, 1) := dk_42 (dk_at dksX2_endsOver_1 5 rfl rfl)
theorem dX2_endsOver_30 : decode cX2_endsOver 30 = .ok (.iconst 2, 1) := dk_5 (dk_at dksX2_endsOver_1 6 rfl rfl)
theorem dX2_endsOver_31 : decode cX2_endsOver 31 = .ok (.iload_n 1, 1) := dk_27 (dk_at dksX2_endsOver_1 7 rfl rfl)
theorem dX2_endsOver_32 : decode cX2_endsOver 32 = .ok (.imul, 1) := dk_104 (dk_at dksX2_endsOver_1 8 rfl rfl)
theorem dX2_endsOver_33 : decode cX2_endsOver 33 = .ok (.iconst 0, 1) := dk_3 (dk_at dksX2_endsOver_1 9 rfl rfl)
theorem dX2_endsOver_34 : decode cX2_endsOver 34 = .ok (.invokevirtual 70, 3) := dk_182 0 70 (dk_at dksX2_endsOver_1 10 rfl rfl)
theorem dX2_endsOver_37 : decode cX2_endsOver 37 = .ok (.aload_n 0, 1) := dk_42 (dk_at dksX2_endsOver_1 13 rfl rfl)
theorem dX2_endsOver_38 : decode cX2_endsOver 38 = .ok (.getfield 7, 3) := dk_180 0 7 (dk_at dksX2_endsOver_1 14 rfl rfl)
theorem dX2_endsOver_41 : decode cX2_endsOver 41 = .ok (.iconst 1, 1) := dk_4 (dk_at dksX2_endsOver_1 17 rfl rfl)
theorem dX2_endsOver_42 : decode cX2_endsOver 42 = .ok (.aload_n 0, 1) := dk_42 (dk_at dksX2_endsOver_1 18 rfl rfl)
theorem dX2_endsOver_43 : decode cX2_endsOver 43 = .ok (.getfield 7, 3) := dk_180 0 7 (dk_at dksX2_endsOver_1 19 rfl rfl)
theorem dX2_endsOver_46 : decode cX2_endsOver 46 = .ok (.bipush 12, 2) := dk_16 12 (dk_at dksX2_endsOver_1 22 rfl rfl)
theorem dX2_endsOver_48 : decode cX2_endsOver 48 = .ok (.laload, 1) := dk_47 (dk_at dksX2_endsOver_2 0 rfl rfl)
theorem dX2_endsOver_49 : decode cX2_endsOver 49 = .ok (.aload_n 0, 1) := dk_42 (dk_at dksX2_endsOver_2 1 rfl rfl)
theorem dX2_endsOver_50 : decode cX2_endsOver 50 = .ok (.getfield 7, 3) := dk_180 0 7 (dk_at dksX2_endsOver_2 2 rfl rfl)
theorem dX2_endsOver_53 : decode cX2_endsOver 53 = .ok (.bipush 11, 2) := dk_16 11 (dk_at dksX2_endsOver_2 5 rfl rfl)
theorem dX2_endsOver_55 : decode cX2_endsOver 55 = .ok (.laload, 1) := dk_47 (dk_at dksX2_endsOver_2 7 rfl rfl)
theorem dX2_endsOver_56 : decode cX2_endsOver 56 = .ok (.ladd, 1) := dk_97 (dk_at dksX2_endsOver_2 8 rfl rfl)
theorem dX2_endsOver_57 : decode cX2_endsOver 57 = .ok (.iconst 4, 1) := dk_7 (dk_at dksX2_endsOver_2 9 rfl rfl)
theorem dX2_endsOver_58 : decode cX2_endsOver 58 = .ok (.iload_n 1, 1) := dk_27 (dk_at dksX2_endsOver_2 10 rfl rfl)
theorem dX2_endsOver_59 : decode cX2_endsOver 59 = .ok (.imul, 1) := dk_104 (dk_at dksX2_endsOver_2 11 rfl rfl)
theorem dX2_endsOver_60 : decode cX2_endsOver 60 = .ok (.i2l, 1) := dk_133 (dk_at dksX2_endsOver_2 12 rfl rfl)
theorem dX2_endsOver_61 : decode cX2_endsOver 61 = .ok (.lrem, 1) := dk_113 (dk_at dksX2_endsOver_2 13 rfl rfl)
theorem dX2_endsOver_62 : decode cX2_endsOver 62 = .ok (.lastore, 1) := dk_80 (dk_at dksX2_endsOver_2 14 rfl rfl)
theorem dX2_endsOver_63 : decode cX2_endsOver 63 = .ok (.goto 9, 3) := dk_167 0 9 (dk_at dksX2_endsOver_2 15 rfl rfl)
theorem dX2_endsOver_66 : decode cX2_endsOver 66 = .ok (.aload_n 0, 1) := dk_42 (dk_at dksX2_endsOver_2 18 rfl rfl)
theorem dX2_endsOver_67 : decode cX2_endsOver 67 = .ok (.iload_n 1, 1) := dk_27 (dk_at dksX2_endsOver_2 19 rfl rfl)
theorem dX2_endsOver_68 : decode cX2_endsOver 68 = .ok (.iload_n 1, 1) := dk_27 (dk_at dksX2_endsOver_2 20 rfl rfl)
theorem dX2_endsOver_69 : decode cX2_endsOver 69 = .ok (.invokevirtual 70, 3) := dk_182 0 70 (dk_at dksX2_endsOver_2 21 rfl rfl)
theorem dX2_endsOver_72 : decode cX2_endsOver 72 = .ok (.aload_n 0, 1) := dk_42 (dk_at dksX2_endsOver_3 0 rfl rfl)
theorem dX2_endsOver_73 : decode cX2_endsOver 73 = .ok (.invokevirtual 74, 3) := dk_182 0 74 (dk_at dksX2_endsOver_3 1 rfl rfl)
theorem dX2_endsOver_76 : decode cX2_endsOver 76 = .ok (.aload_n 0, 1) := dk_42 (dk_at dksX2_endsOver_3 4 rfl rfl)
theorem dX2_endsOver_77 : decode cX2_endsOver 77 = .ok (.getfield 7, 3) := dk_180 0 7 (dk_at dksX2_endsOver_3 5 rfl rfl)
theorem dX2_endsOver_80 : decode cX2_endsOver 80 = .ok (.iconst 0, 1) := dk_3 (dk_at dksX2_endsOver_3 8 rfl rfl)
theorem dX2_endsOver_81 : decode cX2_endsOver 81 = .ok (.ldc2_w 47, 3) := dk_20 0 47 (dk_at dksX2_endsOver_3 9 rfl rfl)
theorem dX2_endsOver_84 : decode cX2_endsOver 84 = .ok (.lastore, 1) := dk_80 (dk_at dksX2_endsOver_3 12 rfl rfl)
theorem dX2_endsOver_85 : decode cX2_endsOver 85 = .ok (.return_, 1) := dk_177 (dk_at dksX2_endsOver_3 13 rfl rfl)
abbrev cX2_loop : ByteArray := prog_13_method_12_code
def yX2_loop : MethodName := ⟨RX2, "loop", "()I"⟩
def dkwX2_loop_0 : List UInt8 := [42, 42, 16, 7, 182, 0, 36, 182, 0, 44, 172]
abbrev dktX2_loop_0 : List UInt8 := dkwX2_loop_0 ++ []
theorem dksX2_loop_0 : cX2_loop.data.toList.drop 0 = dktX2_loop_0 := by decide +kernel
theorem dX2_loop_0 : decode cX2_loop 0 = .ok (.aload_n 0, 1) := dk_42 (dk_at dksX2_loop_0 0 rfl rfl)
theorem dX2_loop_1 : decode cX2_loop 1 = .ok (.aload_n 0, 1) := dk_42 (dk_at dksX2_loop_0 1 rfl rfl)
theorem dX2_loop_2 : decode cX2_loop 2 = .ok (.bipush 7, 2) := dk_16 7 (dk_at dksX2_loop_0 2 rfl rfl)
theorem dX2_loop_4 : decode cX2_loop 4 = .ok (.invokevirtual 36, 3) := dk_182 0 36 (dk_at dksX2_loop_0 4 rfl rfl)
theorem dX2_loop_7 : decode cX2_loop 7 = .ok (.invokevirtual 44, 3) := dk_182 0 44 (dk_at dksX2_loop_0 7 rfl rfl)
theorem dX2_loop_10 : decode cX2_loop 10 = .ok (.ireturn, 1) := dk_172 (dk_at dksX2_loop_0 10 rfl rfl)
abbrev cX2_lengthOf : ByteArray := prog_13_method_11_code
def yX2_lengthOf : MethodName := ⟨RX2, "lengthOf", "(I)I"⟩
def dkwX2_lengthOf_1 : List UInt8 := [29, 96, 182, 0, 36, 167, 0, 4, 28, 61, 132, 3, 1, 167, 255, 223, 28, 172]
abbrev dktX2_lengthOf_1 : List UInt8 := dkwX2_lengthOf_1 ++ []
def dkwX2_lengthOf_0 : List UInt8 := [3, 61, 3, 62, 29, 27, 162, 0, 34, 42, 16, 14, 29, 96, 182, 0, 36, 28, 164, 0, 14, 42, 16, 14]
abbrev dktX2_lengthOf_0 : List UInt8 := dkwX2_lengthOf_0 ++ dktX2_lengthOf_1
theorem dksX2_lengthOf_0 : cX2_lengthOf.data.toList.drop 0 = dktX2_lengthOf_0 := by decide +kernel
theorem dksX2_lengthOf_1 : cX2_lengthOf.data.toList.drop 24 = dktX2_lengthOf_1 := dk_seg dksX2_lengthOf_0 24 rfl rfl
theorem dX2_lengthOf_0 : decode cX2_lengthOf 0 = .ok (.iconst 0, 1) := dk_3 (dk_at dksX2_lengthOf_0 0 rfl rfl)
theorem dX2_lengthOf_1 : decode cX2_lengthOf 1 = .ok (.istore_n 2, 1) := dk_61 (dk_at dksX2_lengthOf_0 1 rfl rfl)
theorem dX2_lengthOf_2 : decode cX2_lengthOf 2 = .ok (.iconst 0, 1) := dk_3 (dk_at dksX2_lengthOf_0 2 rfl rfl)
theorem dX2_lengthOf_3 : decode cX2_lengthOf 3 = .ok (.istore_n 3, 1) := dk_62 (dk_at dksX2_lengthOf_0 3 rfl rfl)
theorem dX2_lengthOf_4 : decode cX2_lengthOf 4 = .ok (.iload_n 3, 1) := dk_29 (dk_at dksX2_lengthOf_0 4 rfl rfl)
theorem dX2_lengthOf_5 : decode cX2_lengthOf 5 = .ok (.iload_n 1, 1) := dk_27 (dk_at dksX2_lengthOf_0 5 rfl rfl)
theorem dX2_lengthOf_6 : decode cX2_lengthOf 6 = .ok (.if_icmp .ge 34, 3) := dk_162 0 34 (dk_at dksX2_lengthOf_0 6 rfl rfl)
theorem dX2_lengthOf_9 : decode cX2_lengthOf 9 = .ok (.aload_n 0, 1) := dk_42 (dk_at dksX2_lengthOf_0 9 rfl rfl)
theorem dX2_lengthOf_10 : decode cX2_lengthOf 10 = .ok (.bipush 14, 2) := dk_16 14 (dk_at dksX2_lengthOf_0 10 rfl rfl)
theorem dX2_lengthOf_12 : decode cX2_lengthOf 12 = .ok (.iload_n 3, 1) := dk_29 (dk_at dksX2_lengthOf_0 12 rfl rfl)
theorem dX2_lengthOf_13 : decode cX2_lengthOf 13 = .ok (.iadd, 1) := dk_96 (dk_at dksX2_lengthOf_0 13 rfl rfl)
theorem dX2_lengthOf_14 : decode cX2_lengthOf 14 = .ok (.invokevirtual 36, 3) := dk_182 0 36 (dk_at dksX2_lengthOf_0 14 rfl rfl)
theorem dX2_lengthOf_17 : decode cX2_lengthOf 17 = .ok (.iload_n 2, 1) := dk_28 (dk_at dksX2_lengthOf_0 17 rfl rfl)
theorem dX2_lengthOf_18 : decode cX2_lengthOf 18 = .ok (.if_icmp .le 14, 3) := dk_164 0 14 (dk_at dksX2_lengthOf_0 18 rfl rfl)
theorem dX2_lengthOf_21 : decode cX2_lengthOf 21 = .ok (.aload_n 0, 1) := dk_42 (dk_at dksX2_lengthOf_0 21 rfl rfl)
theorem dX2_lengthOf_22 : decode cX2_lengthOf 22 = .ok (.bipush 14, 2) := dk_16 14 (dk_at dksX2_lengthOf_0 22 rfl rfl)
theorem dX2_lengthOf_24 : decode cX2_lengthOf 24 = .ok (.iload_n 3, 1) := dk_29 (dk_at dksX2_lengthOf_1 0 rfl rfl)
theorem dX2_lengthOf_25 : decode cX2_lengthOf 25 = .ok (.iadd, 1) := dk_96 (dk_at dksX2_lengthOf_1 1 rfl rfl)
theorem dX2_lengthOf_26 : decode cX2_lengthOf 26 = .ok (.invokevirtual 36, 3) := dk_182 0 36 (dk_at dksX2_lengthOf_1 2 rfl rfl)
theorem dX2_lengthOf_29 : decode cX2_lengthOf 29 = .ok (.goto 4, 3) := dk_167 0 4 (dk_at dksX2_lengthOf_1 5 rfl rfl)
theorem dX2_lengthOf_32 : decode cX2_lengthOf 32 = .ok (.iload_n 2, 1) := dk_28 (dk_at dksX2_lengthOf_1 8 rfl rfl)
theorem dX2_lengthOf_33 : decode cX2_lengthOf 33 = .ok (.istore_n 2, 1) := dk_61 (dk_at dksX2_lengthOf_1 9 rfl rfl)
theorem dX2_lengthOf_34 : decode cX2_lengthOf 34 = .ok (.iinc 3 1, 3) := dk_132 3 1 (dk_at dksX2_lengthOf_1 10 rfl rfl)
theorem dX2_lengthOf_37 : decode cX2_lengthOf 37 = .ok (.goto (-33), 3) := dk_167 255 223 (dk_at dksX2_lengthOf_1 13 rfl rfl)
theorem dX2_lengthOf_40 : decode cX2_lengthOf 40 = .ok (.iload_n 2, 1) := dk_28 (dk_at dksX2_lengthOf_1 16 rfl rfl)
theorem dX2_lengthOf_41 : decode cX2_lengthOf 41 = .ok (.ireturn, 1) := dk_172 (dk_at dksX2_lengthOf_1 17 rfl rfl)
abbrev cX2_beginsTake : ByteArray := prog_13_method_15_code
def yX2_beginsTake : MethodName := ⟨RX2, "beginsTake", "()V"⟩
def dkwX2_beginsTake_2 : List UInt8 := [182, 0, 51, 177]
abbrev dktX2_beginsTake_2 : List UInt8 := dkwX2_beginsTake_2 ++ []
def dkwX2_beginsTake_1 : List UInt8 := [180, 0, 7, 16, 12, 42, 180, 0, 7, 4, 47, 80, 42, 180, 0, 7, 16, 11, 9, 80, 42, 16, 6]
abbrev dktX2_beginsTake_1 : List UInt8 := dkwX2_beginsTake_1 ++ dktX2_beginsTake_2
def dkwX2_beginsTake_0 : List UInt8 := [42, 180, 0, 7, 3, 42, 3, 182, 0, 36, 154, 0, 7, 10, 167, 0, 6, 20, 0, 49, 80, 42]
abbrev dktX2_beginsTake_0 : List UInt8 := dkwX2_beginsTake_0 ++ dktX2_beginsTake_1
theorem dksX2_beginsTake_0 : cX2_beginsTake.data.toList.drop 0 = dktX2_beginsTake_0 := by decide +kernel
theorem dksX2_beginsTake_1 : cX2_beginsTake.data.toList.drop 22 = dktX2_beginsTake_1 := dk_seg dksX2_beginsTake_0 22 rfl rfl
theorem dksX2_beginsTake_2 : cX2_beginsTake.data.toList.drop 45 = dktX2_beginsTake_2 := dk_seg dksX2_beginsTake_1 23 rfl rfl
theorem dX2_beginsTake_0 : decode cX2_beginsTake 0 = .ok (.aload_n 0, 1) := dk_42 (dk_at dksX2_beginsTake_0 0 rfl rfl)
theorem dX2_beginsTake_1 : decode cX2_beginsTake 1 = .ok (.getfield 7, 3) := dk_180 0 7 (dk_at dksX2_beginsTake_0 1 rfl rfl)
theorem dX2_beginsTake_4 : decode cX2_beginsTake 4 = .ok (.iconst 0, 1) := dk_3 (dk_at dksX2_beginsTake_0 4 rfl rfl)
theorem dX2_beginsTake_5 : decode cX2_beginsTake 5 = .ok (.aload_n 0, 1) := dk_42 (dk_at dksX2_beginsTake_0 5 rfl rfl)
theorem dX2_beginsTake_6 : decode cX2_beginsTake 6 = .ok (.iconst 0, 1) := dk_3 (dk_at dksX2_beginsTake_0 6 rfl rfl)
theorem dX2_beginsTake_7 : decode cX2_beginsTake 7 = .ok (.invokevirtual 36, 3) := dk_182 0 36 (dk_at dksX2_beginsTake_0 7 rfl rfl)
theorem dX2_beginsTake_10 : decode cX2_beginsTake 10 = .ok (.ifCond .ne 7, 3) := dk_154 0 7 (dk_at dksX2_beginsTake_0 10 rfl rfl)
theorem dX2_beginsTake_13 : decode cX2_beginsTake 13 = .ok (.lconst 1, 1) := dk_10 (dk_at dksX2_beginsTake_0 13 rfl rfl)
theorem dX2_beginsTake_14 : decode cX2_beginsTake 14 = .ok (.goto 6, 3) := dk_167 0 6 (dk_at dksX2_beginsTake_0 14 rfl rfl)
theorem dX2_beginsTake_17 : decode cX2_beginsTake 17 = .ok (.ldc2_w 49, 3) := dk_20 0 49 (dk_at dksX2_beginsTake_0 17 rfl rfl)
theorem dX2_beginsTake_20 : decode cX2_beginsTake 20 = .ok (.lastore, 1) := dk_80 (dk_at dksX2_beginsTake_0 20 rfl rfl)
theorem dX2_beginsTake_21 : decode cX2_beginsTake 21 = .ok (.aload_n 0, 1) := dk_42 (dk_at dksX2_beginsTake_0 21 rfl rfl)
theorem dX2_beginsTake_22 : decode cX2_beginsTake 22 = .ok (.getfield 7, 3) := dk_180 0 7 (dk_at dksX2_beginsTake_1 0 rfl rfl)
theorem dX2_beginsTake_25 : decode cX2_beginsTake 25 = .ok (.bipush 12, 2) := dk_16 12 (dk_at dksX2_beginsTake_1 3 rfl rfl)
theorem dX2_beginsTake_27 : decode cX2_beginsTake 27 = .ok (.aload_n 0, 1) := dk_42 (dk_at dksX2_beginsTake_1 5 rfl rfl)
theorem dX2_beginsTake_28 : decode cX2_beginsTake 28 = .ok (.getfield 7, 3) := dk_180 0 7 (dk_at dksX2_beginsTake_1 6 rfl rfl)
theorem dX2_beginsTake_31 : decode cX2_beginsTake 31 = .ok (.iconst 1, 1) := dk_4 (dk_at dksX2_beginsTake_1 9 rfl rfl)
theorem dX2_beginsTake_32 : decode cX2_beginsTake 32 = .ok (.laload, 1) := dk_47 (dk_at dksX2_beginsTake_1 10 rfl rfl)
theorem dX2_beginsTake_33 : decode cX2_beginsTake 33 = .ok (.lastore, 1) := dk_80 (dk_at dksX2_beginsTake_1 11 rfl rfl)
theorem dX2_beginsTake_34 : decode cX2_beginsTake 34 = .ok (.aload_n 0, 1) := dk_42 (dk_at dksX2_beginsTake_1 12 rfl rfl)
theorem dX2_beginsTake_35 : decode cX2_beginsTake 35 = .ok (.getfield 7, 3) := dk_180 0 7 (dk_at dksX2_beginsTake_1 13 rfl rfl)
theorem dX2_beginsTake_38 : decode cX2_beginsTake 38 = .ok (.bipush 11, 2) := dk_16 11 (dk_at dksX2_beginsTake_1 16 rfl rfl)
theorem dX2_beginsTake_40 : decode cX2_beginsTake 40 = .ok (.lconst 0, 1) := dk_9 (dk_at dksX2_beginsTake_1 18 rfl rfl)
theorem dX2_beginsTake_41 : decode cX2_beginsTake 41 = .ok (.lastore, 1) := dk_80 (dk_at dksX2_beginsTake_1 19 rfl rfl)
theorem dX2_beginsTake_42 : decode cX2_beginsTake 42 = .ok (.aload_n 0, 1) := dk_42 (dk_at dksX2_beginsTake_1 20 rfl rfl)
theorem dX2_beginsTake_43 : decode cX2_beginsTake 43 = .ok (.bipush 6, 2) := dk_16 6 (dk_at dksX2_beginsTake_1 21 rfl rfl)
theorem dX2_beginsTake_45 : decode cX2_beginsTake 45 = .ok (.invokevirtual 51, 3) := dk_182 0 51 (dk_at dksX2_beginsTake_2 0 rfl rfl)
theorem dX2_beginsTake_48 : decode cX2_beginsTake 48 = .ok (.return_, 1) := dk_177 (dk_at dksX2_beginsTake_2 3 rfl rfl)
abbrev cX2_stop : ByteArray := prog_13_method_35_code
def yX2_stop : MethodName := ⟨RX2, "stop", "()I"⟩
def dkwX2_stop_0 : List UInt8 := [42, 182, 0, 116, 156, 0, 6, 16, 254, 172, 42, 182, 0, 110, 42, 182, 0, 119, 42, 3, 182, 0, 36, 172]
abbrev dktX2_stop_0 : List UInt8 := dkwX2_stop_0 ++ []
theorem dksX2_stop_0 : cX2_stop.data.toList.drop 0 = dktX2_stop_0 := by decide +kernel
theorem dX2_stop_0 : decode cX2_stop 0 = .ok (.aload_n 0, 1) := dk_42 (dk_at dksX2_stop_0 0 rfl rfl)
theorem dX2_stop_1 : decode cX2_stop 1 = .ok (.invokevirtual 116, 3) := dk_182 0 116 (dk_at dksX2_stop_0 1 rfl rfl)
theorem dX2_stop_4 : decode cX2_stop 4 = .ok (.ifCond .ge 6, 3) := dk_156 0 6 (dk_at dksX2_stop_0 4 rfl rfl)
theorem dX2_stop_7 : decode cX2_stop 7 = .ok (.bipush (-2), 2) := dk_16 254 (dk_at dksX2_stop_0 7 rfl rfl)
theorem dX2_stop_9 : decode cX2_stop 9 = .ok (.ireturn, 1) := dk_172 (dk_at dksX2_stop_0 9 rfl rfl)
theorem dX2_stop_10 : decode cX2_stop 10 = .ok (.aload_n 0, 1) := dk_42 (dk_at dksX2_stop_0 10 rfl rfl)
theorem dX2_stop_11 : decode cX2_stop 11 = .ok (.invokevirtual 110, 3) := dk_182 0 110 (dk_at dksX2_stop_0 11 rfl rfl)
theorem dX2_stop_14 : decode cX2_stop 14 = .ok (.aload_n 0, 1) := dk_42 (dk_at dksX2_stop_0 14 rfl rfl)
theorem dX2_stop_15 : decode cX2_stop 15 = .ok (.invokevirtual 119, 3) := dk_182 0 119 (dk_at dksX2_stop_0 15 rfl rfl)
theorem dX2_stop_18 : decode cX2_stop 18 = .ok (.aload_n 0, 1) := dk_42 (dk_at dksX2_stop_0 18 rfl rfl)
theorem dX2_stop_19 : decode cX2_stop 19 = .ok (.iconst 0, 1) := dk_3 (dk_at dksX2_stop_0 19 rfl rfl)
theorem dX2_stop_20 : decode cX2_stop 20 = .ok (.invokevirtual 36, 3) := dk_182 0 36 (dk_at dksX2_stop_0 20 rfl rfl)
theorem dX2_stop_23 : decode cX2_stop 23 = .ok (.ireturn, 1) := dk_172 (dk_at dksX2_stop_0 23 rfl rfl)
abbrev cX2_whyNotStop : ByteArray := prog_13_method_23_code
def yX2_whyNotStop : MethodName := ⟨RX2, "whyNotStop", "()I"⟩
def dkwX2_whyNotStop_0 : List UInt8 := [42, 3, 182, 0, 36, 153, 0, 12, 42, 3, 182, 0, 36, 7, 160, 0, 8, 16, 254, 167, 0, 4, 3, 172]
abbrev dktX2_whyNotStop_0 : List UInt8 := dkwX2_whyNotStop_0 ++ []
theorem dksX2_whyNotStop_0 : cX2_whyNotStop.data.toList.drop 0 = dktX2_whyNotStop_0 := by decide +kernel
theorem dX2_whyNotStop_0 : decode cX2_whyNotStop 0 = .ok (.aload_n 0, 1) := dk_42 (dk_at dksX2_whyNotStop_0 0 rfl rfl)
theorem dX2_whyNotStop_1 : decode cX2_whyNotStop 1 = .ok (.iconst 0, 1) := dk_3 (dk_at dksX2_whyNotStop_0 1 rfl rfl)
theorem dX2_whyNotStop_2 : decode cX2_whyNotStop 2 = .ok (.invokevirtual 36, 3) := dk_182 0 36 (dk_at dksX2_whyNotStop_0 2 rfl rfl)
theorem dX2_whyNotStop_5 : decode cX2_whyNotStop 5 = .ok (.ifCond .eq 12, 3) := dk_153 0 12 (dk_at dksX2_whyNotStop_0 5 rfl rfl)
theorem dX2_whyNotStop_8 : decode cX2_whyNotStop 8 = .ok (.aload_n 0, 1) := dk_42 (dk_at dksX2_whyNotStop_0 8 rfl rfl)
theorem dX2_whyNotStop_9 : decode cX2_whyNotStop 9 = .ok (.iconst 0, 1) := dk_3 (dk_at dksX2_whyNotStop_0 9 rfl rfl)
theorem dX2_whyNotStop_10 : decode cX2_whyNotStop 10 = .ok (.invokevirtual 36, 3) := dk_182 0 36 (dk_at dksX2_whyNotStop_0 10 rfl rfl)
theorem dX2_whyNotStop_13 : decode cX2_whyNotStop 13 = .ok (.iconst 4, 1) := dk_7 (dk_at dksX2_whyNotStop_0 13 rfl rfl)
theorem dX2_whyNotStop_14 : decode cX2_whyNotStop 14 = .ok (.if_icmp .ne 8, 3) := dk_160 0 8 (dk_at dksX2_whyNotStop_0 14 rfl rfl)
theorem dX2_whyNotStop_17 : decode cX2_whyNotStop 17 = .ok (.bipush (-2), 2) := dk_16 254 (dk_at dksX2_whyNotStop_0 17 rfl rfl)
theorem dX2_whyNotStop_19 : decode cX2_whyNotStop 19 = .ok (.goto 4, 3) := dk_167 0 4 (dk_at dksX2_whyNotStop_0 19 rfl rfl)
theorem dX2_whyNotStop_22 : decode cX2_whyNotStop 22 = .ok (.iconst 0, 1) := dk_3 (dk_at dksX2_whyNotStop_0 22 rfl rfl)
theorem dX2_whyNotStop_23 : decode cX2_whyNotStop 23 = .ok (.ireturn, 1) := dk_172 (dk_at dksX2_whyNotStop_0 23 rfl rfl)
abbrev cX2_stops : ByteArray := prog_13_method_24_code
def yX2_stops : MethodName := ⟨RX2, "stops", "()V"⟩
def dkwX2_stops_1 : List UInt8 := [182, 0, 74, 177]
abbrev dktX2_stops_1 : List UInt8 := dkwX2_stops_1 ++ []
def dkwX2_stops_0 : List UInt8 := [42, 180, 0, 7, 3, 42, 3, 182, 0, 36, 4, 160, 0, 7, 9, 167, 0, 6, 20, 0, 97, 80, 42]
abbrev dktX2_stops_0 : List UInt8 := dkwX2_stops_0 ++ dktX2_stops_1
theorem dksX2_stops_0 : cX2_stops.data.toList.drop 0 = dktX2_stops_0 := by decide +kernel
theorem dksX2_stops_1 : cX2_stops.data.toList.drop 23 = dktX2_stops_1 := dk_seg dksX2_stops_0 23 rfl rfl
theorem dX2_stops_0 : decode cX2_stops 0 = .ok (.aload_n 0, 1) := dk_42 (dk_at dksX2_stops_0 0 rfl rfl)
theorem dX2_stops_1 : decode cX2_stops 1 = .ok (.getfield 7, 3) := dk_180 0 7 (dk_at dksX2_stops_0 1 rfl rfl)
theorem dX2_stops_4 : decode cX2_stops 4 = .ok (.iconst 0, 1) := dk_3 (dk_at dksX2_stops_0 4 rfl rfl)
theorem dX2_stops_5 : decode cX2_stops 5 = .ok (.aload_n 0, 1) := dk_42 (dk_at dksX2_stops_0 5 rfl rfl)
theorem dX2_stops_6 : decode cX2_stops 6 = .ok (.iconst 0, 1) := dk_3 (dk_at dksX2_stops_0 6 rfl rfl)
theorem dX2_stops_7 : decode cX2_stops 7 = .ok (.invokevirtual 36, 3) := dk_182 0 36 (dk_at dksX2_stops_0 7 rfl rfl)
theorem dX2_stops_10 : decode cX2_stops 10 = .ok (.iconst 1, 1) := dk_4 (dk_at dksX2_stops_0 10 rfl rfl)
theorem dX2_stops_11 : decode cX2_stops 11 = .ok (.if_icmp .ne 7, 3) := dk_160 0 7 (dk_at dksX2_stops_0 11 rfl rfl)
theorem dX2_stops_14 : decode cX2_stops 14 = .ok (.lconst 0, 1) := dk_9 (dk_at dksX2_stops_0 14 rfl rfl)
theorem dX2_stops_15 : decode cX2_stops 15 = .ok (.goto 6, 3) := dk_167 0 6 (dk_at dksX2_stops_0 15 rfl rfl)
theorem dX2_stops_18 : decode cX2_stops 18 = .ok (.ldc2_w 97, 3) := dk_20 0 97 (dk_at dksX2_stops_0 18 rfl rfl)
theorem dX2_stops_21 : decode cX2_stops 21 = .ok (.lastore, 1) := dk_80 (dk_at dksX2_stops_0 21 rfl rfl)
theorem dX2_stops_22 : decode cX2_stops 22 = .ok (.aload_n 0, 1) := dk_42 (dk_at dksX2_stops_0 22 rfl rfl)
theorem dX2_stops_23 : decode cX2_stops 23 = .ok (.invokevirtual 74, 3) := dk_182 0 74 (dk_at dksX2_stops_1 0 rfl rfl)
theorem dX2_stops_26 : decode cX2_stops 26 = .ok (.return_, 1) := dk_177 (dk_at dksX2_stops_1 3 rfl rfl)
abbrev cX2_empty : ByteArray := prog_13_method_36_code
def yX2_empty : MethodName := ⟨RX2, "empty", "()I"⟩
def dkwX2_empty_2 : List UInt8 := [180, 0, 7, 16, 8, 9, 80, 42, 180, 0, 7, 16, 6, 9, 80, 27, 172]
abbrev dktX2_empty_2 : List UInt8 := dkwX2_empty_2 ++ []
def dkwX2_empty_1 : List UInt8 := [182, 0, 77, 42, 182, 0, 74, 42, 180, 0, 7, 3, 9, 80, 42, 180, 0, 7, 16, 7, 9, 80, 42]
abbrev dktX2_empty_1 : List UInt8 := dkwX2_empty_1 ++ dktX2_empty_2
def dkwX2_empty_0 : List UInt8 := [42, 3, 182, 0, 36, 154, 0, 6, 16, 254, 172, 42, 182, 0, 110, 42, 16, 7, 182, 0, 36, 60, 42]
abbrev dktX2_empty_0 : List UInt8 := dkwX2_empty_0 ++ dktX2_empty_1
theorem dksX2_empty_0 : cX2_empty.data.toList.drop 0 = dktX2_empty_0 := by decide +kernel
theorem dksX2_empty_1 : cX2_empty.data.toList.drop 23 = dktX2_empty_1 := dk_seg dksX2_empty_0 23 rfl rfl
theorem dksX2_empty_2 : cX2_empty.data.toList.drop 46 = dktX2_empty_2 := dk_seg dksX2_empty_1 23 rfl rfl
theorem dX2_empty_0 : decode cX2_empty 0 = .ok (.aload_n 0, 1) := dk_42 (dk_at dksX2_empty_0 0 rfl rfl)
theorem dX2_empty_1 : decode cX2_empty 1 = .ok (.iconst 0, 1) := dk_3 (dk_at dksX2_empty_0 1 rfl rfl)
theorem dX2_empty_2 : decode cX2_empty 2 = .ok (.invokevirtual 36, 3) := dk_182 0 36 (dk_at dksX2_empty_0 2 rfl rfl)
theorem dX2_empty_5 : decode cX2_empty 5 = .ok (.ifCond .ne 6, 3) := dk_154 0 6 (dk_at dksX2_empty_0 5 rfl rfl)
theorem dX2_empty_8 : decode cX2_empty 8 = .ok (.bipush (-2), 2) := dk_16 254 (dk_at dksX2_empty_0 8 rfl rfl)
theorem dX2_empty_10 : decode cX2_empty 10 = .ok (.ireturn, 1) := dk_172 (dk_at dksX2_empty_0 10 rfl rfl)
theorem dX2_empty_11 : decode cX2_empty 11 = .ok (.aload_n 0, 1) := dk_42 (dk_at dksX2_empty_0 11 rfl rfl)
theorem dX2_empty_12 : decode cX2_empty 12 = .ok (.invokevirtual 110, 3) := dk_182 0 110 (dk_at dksX2_empty_0 12 rfl rfl)
theorem dX2_empty_15 : decode cX2_empty 15 = .ok (.aload_n 0, 1) := dk_42 (dk_at dksX2_empty_0 15 rfl rfl)
theorem dX2_empty_16 : decode cX2_empty 16 = .ok (.bipush 7, 2) := dk_16 7 (dk_at dksX2_empty_0 16 rfl rfl)
theorem dX2_empty_18 : decode cX2_empty 18 = .ok (.invokevirtual 36, 3) := dk_182 0 36 (dk_at dksX2_empty_0 18 rfl rfl)
theorem dX2_empty_21 : decode cX2_empty 21 = .ok (.istore_n 1, 1) := dk_60 (dk_at dksX2_empty_0 21 rfl rfl)
theorem dX2_empty_22 : decode cX2_empty 22 = .ok (.aload_n 0, 1) := dk_42 (dk_at dksX2_empty_0 22 rfl rfl)
theorem dX2_empty_23 : decode cX2_empty 23 = .ok (.invokevirtual 77, 3) := dk_182 0 77 (dk_at dksX2_empty_1 0 rfl rfl)
theorem dX2_empty_26 : decode cX2_empty 26 = .ok (.aload_n 0, 1) := dk_42 (dk_at dksX2_empty_1 3 rfl rfl)
theorem dX2_empty_27 : decode cX2_empty 27 = .ok (.invokevirtual 74, 3) := dk_182 0 74 (dk_at dksX2_empty_1 4 rfl rfl)
theorem dX2_empty_30 : decode cX2_empty 30 = .ok (.aload_n 0, 1) := dk_42 (dk_at dksX2_empty_1 7 rfl rfl)
theorem dX2_empty_31 : decode cX2_empty 31 = .ok (.getfield 7, 3) := dk_180 0 7 (dk_at dksX2_empty_1 8 rfl rfl)
theorem dX2_empty_34 : decode cX2_empty 34 = .ok (.iconst 0, 1) := dk_3 (dk_at dksX2_empty_1 11 rfl rfl)
theorem dX2_empty_35 : decode cX2_empty 35 = .ok (.lconst 0, 1) := dk_9 (dk_at dksX2_empty_1 12 rfl rfl)
theorem dX2_empty_36 : decode cX2_empty 36 = .ok (.lastore, 1) := dk_80 (dk_at dksX2_empty_1 13 rfl rfl)
theorem dX2_empty_37 : decode cX2_empty 37 = .ok (.aload_n 0, 1) := dk_42 (dk_at dksX2_empty_1 14 rfl rfl)
theorem dX2_empty_38 : decode cX2_empty 38 = .ok (.getfield 7, 3) := dk_180 0 7 (dk_at dksX2_empty_1 15 rfl rfl)
theorem dX2_empty_41 : decode cX2_empty 41 = .ok (.bipush 7, 2) := dk_16 7 (dk_at dksX2_empty_1 18 rfl rfl)
theorem dX2_empty_43 : decode cX2_empty 43 = .ok (.lconst 0, 1) := dk_9 (dk_at dksX2_empty_1 20 rfl rfl)
theorem dX2_empty_44 : decode cX2_empty 44 = .ok (.lastore, 1) := dk_80 (dk_at dksX2_empty_1 21 rfl rfl)
theorem dX2_empty_45 : decode cX2_empty 45 = .ok (.aload_n 0, 1) := dk_42 (dk_at dksX2_empty_1 22 rfl rfl)
theorem dX2_empty_46 : decode cX2_empty 46 = .ok (.getfield 7, 3) := dk_180 0 7 (dk_at dksX2_empty_2 0 rfl rfl)
theorem dX2_empty_49 : decode cX2_empty 49 = .ok (.bipush 8, 2) := dk_16 8 (dk_at dksX2_empty_2 3 rfl rfl)
theorem dX2_empty_51 : decode cX2_empty 51 = .ok (.lconst 0, 1) := dk_9 (dk_at dksX2_empty_2 5 rfl rfl)
theorem dX2_empty_52 : decode cX2_empty 52 = .ok (.lastore, 1) := dk_80 (dk_at dksX2_empty_2 6 rfl rfl)
theorem dX2_empty_53 : decode cX2_empty 53 = .ok (.aload_n 0, 1) := dk_42 (dk_at dksX2_empty_2 7 rfl rfl)
theorem dX2_empty_54 : decode cX2_empty 54 = .ok (.getfield 7, 3) := dk_180 0 7 (dk_at dksX2_empty_2 8 rfl rfl)
theorem dX2_empty_57 : decode cX2_empty 57 = .ok (.bipush 6, 2) := dk_16 6 (dk_at dksX2_empty_2 11 rfl rfl)
theorem dX2_empty_59 : decode cX2_empty 59 = .ok (.lconst 0, 1) := dk_9 (dk_at dksX2_empty_2 13 rfl rfl)
theorem dX2_empty_60 : decode cX2_empty 60 = .ok (.lastore, 1) := dk_80 (dk_at dksX2_empty_2 14 rfl rfl)
theorem dX2_empty_61 : decode cX2_empty 61 = .ok (.iload_n 1, 1) := dk_27 (dk_at dksX2_empty_2 15 rfl rfl)
theorem dX2_empty_62 : decode cX2_empty 62 = .ok (.ireturn, 1) := dk_172 (dk_at dksX2_empty_2 16 rfl rfl)
abbrev cX2_hit : ByteArray := prog_13_method_37_code
def yX2_hit : MethodName := ⟨RX2, "hit", "(II)I"⟩
def dkwX2_hit_0 : List UInt8 := [42, 27, 28, 182, 0, 122, 62, 29, 156, 0, 5, 29, 172, 42, 182, 0, 110, 42, 27, 28, 182, 0, 125, 172]
abbrev dktX2_hit_0 : List UInt8 := dkwX2_hit_0 ++ []
theorem dksX2_hit_0 : cX2_hit.data.toList.drop 0 = dktX2_hit_0 := by decide +kernel
theorem dX2_hit_0 : decode cX2_hit 0 = .ok (.aload_n 0, 1) := dk_42 (dk_at dksX2_hit_0 0 rfl rfl)
theorem dX2_hit_1 : decode cX2_hit 1 = .ok (.iload_n 1, 1) := dk_27 (dk_at dksX2_hit_0 1 rfl rfl)
theorem dX2_hit_2 : decode cX2_hit 2 = .ok (.iload_n 2, 1) := dk_28 (dk_at dksX2_hit_0 2 rfl rfl)
theorem dX2_hit_3 : decode cX2_hit 3 = .ok (.invokevirtual 122, 3) := dk_182 0 122 (dk_at dksX2_hit_0 3 rfl rfl)
theorem dX2_hit_6 : decode cX2_hit 6 = .ok (.istore_n 3, 1) := dk_62 (dk_at dksX2_hit_0 6 rfl rfl)
theorem dX2_hit_7 : decode cX2_hit 7 = .ok (.iload_n 3, 1) := dk_29 (dk_at dksX2_hit_0 7 rfl rfl)
theorem dX2_hit_8 : decode cX2_hit 8 = .ok (.ifCond .ge 5, 3) := dk_156 0 5 (dk_at dksX2_hit_0 8 rfl rfl)
theorem dX2_hit_11 : decode cX2_hit 11 = .ok (.iload_n 3, 1) := dk_29 (dk_at dksX2_hit_0 11 rfl rfl)
theorem dX2_hit_12 : decode cX2_hit 12 = .ok (.ireturn, 1) := dk_172 (dk_at dksX2_hit_0 12 rfl rfl)
theorem dX2_hit_13 : decode cX2_hit 13 = .ok (.aload_n 0, 1) := dk_42 (dk_at dksX2_hit_0 13 rfl rfl)
theorem dX2_hit_14 : decode cX2_hit 14 = .ok (.invokevirtual 110, 3) := dk_182 0 110 (dk_at dksX2_hit_0 14 rfl rfl)
theorem dX2_hit_17 : decode cX2_hit 17 = .ok (.aload_n 0, 1) := dk_42 (dk_at dksX2_hit_0 17 rfl rfl)
theorem dX2_hit_18 : decode cX2_hit 18 = .ok (.iload_n 1, 1) := dk_27 (dk_at dksX2_hit_0 18 rfl rfl)
theorem dX2_hit_19 : decode cX2_hit 19 = .ok (.iload_n 2, 1) := dk_28 (dk_at dksX2_hit_0 19 rfl rfl)
theorem dX2_hit_20 : decode cX2_hit 20 = .ok (.invokevirtual 125, 3) := dk_182 0 125 (dk_at dksX2_hit_0 20 rfl rfl)
theorem dX2_hit_23 : decode cX2_hit 23 = .ok (.ireturn, 1) := dk_172 (dk_at dksX2_hit_0 23 rfl rfl)
abbrev cX2_whyNotHit : ByteArray := prog_13_method_28_code
def yX2_whyNotHit : MethodName := ⟨RX2, "whyNotHit", "(II)I"⟩
def dkwX2_whyNotHit_1 : List UInt8 := [3, 62, 29, 154, 0, 7, 2, 167, 0, 16, 42, 182, 0, 84, 153, 0, 7, 3, 167, 0, 5, 16, 254, 172]
abbrev dktX2_whyNotHit_1 : List UInt8 := dkwX2_whyNotHit_1 ++ []
def dkwX2_whyNotHit_0 : List UInt8 := [27, 3, 16, 23, 184, 0, 40, 153, 0, 17, 28, 4, 16, 99, 184, 0, 40, 153, 0, 7, 4, 167, 0, 4]
abbrev dktX2_whyNotHit_0 : List UInt8 := dkwX2_whyNotHit_0 ++ dktX2_whyNotHit_1
theorem dksX2_whyNotHit_0 : cX2_whyNotHit.data.toList.drop 0 = dktX2_whyNotHit_0 := by decide +kernel
theorem dksX2_whyNotHit_1 : cX2_whyNotHit.data.toList.drop 24 = dktX2_whyNotHit_1 := dk_seg dksX2_whyNotHit_0 24 rfl rfl
theorem dX2_whyNotHit_0 : decode cX2_whyNotHit 0 = .ok (.iload_n 1, 1) := dk_27 (dk_at dksX2_whyNotHit_0 0 rfl rfl)
theorem dX2_whyNotHit_1 : decode cX2_whyNotHit 1 = .ok (.iconst 0, 1) := dk_3 (dk_at dksX2_whyNotHit_0 1 rfl rfl)
theorem dX2_whyNotHit_2 : decode cX2_whyNotHit 2 = .ok (.bipush 23, 2) := dk_16 23 (dk_at dksX2_whyNotHit_0 2 rfl rfl)
theorem dX2_whyNotHit_4 : decode cX2_whyNotHit 4 = .ok (.invokestatic 40, 3) := dk_184 0 40 (dk_at dksX2_whyNotHit_0 4 rfl rfl)
theorem dX2_whyNotHit_7 : decode cX2_whyNotHit 7 = .ok (.ifCond .eq 17, 3) := dk_153 0 17 (dk_at dksX2_whyNotHit_0 7 rfl rfl)
theorem dX2_whyNotHit_10 : decode cX2_whyNotHit 10 = .ok (.iload_n 2, 1) := dk_28 (dk_at dksX2_whyNotHit_0 10 rfl rfl)
theorem dX2_whyNotHit_11 : decode cX2_whyNotHit 11 = .ok (.iconst 1, 1) := dk_4 (dk_at dksX2_whyNotHit_0 11 rfl rfl)
theorem dX2_whyNotHit_12 : decode cX2_whyNotHit 12 = .ok (.bipush 99, 2) := dk_16 99 (dk_at dksX2_whyNotHit_0 12 rfl rfl)
theorem dX2_whyNotHit_14 : decode cX2_whyNotHit 14 = .ok (.invokestatic 40, 3) := dk_184 0 40 (dk_at dksX2_whyNotHit_0 14 rfl rfl)
theorem dX2_whyNotHit_17 : decode cX2_whyNotHit 17 = .ok (.ifCond .eq 7, 3) := dk_153 0 7 (dk_at dksX2_whyNotHit_0 17 rfl rfl)
theorem dX2_whyNotHit_20 : decode cX2_whyNotHit 20 = .ok (.iconst 1, 1) := dk_4 (dk_at dksX2_whyNotHit_0 20 rfl rfl)
theorem dX2_whyNotHit_21 : decode cX2_whyNotHit 21 = .ok (.goto 4, 3) := dk_167 0 4 (dk_at dksX2_whyNotHit_0 21 rfl rfl)
theorem dX2_whyNotHit_24 : decode cX2_whyNotHit 24 = .ok (.iconst 0, 1) := dk_3 (dk_at dksX2_whyNotHit_1 0 rfl rfl)
theorem dX2_whyNotHit_25 : decode cX2_whyNotHit 25 = .ok (.istore_n 3, 1) := dk_62 (dk_at dksX2_whyNotHit_1 1 rfl rfl)
theorem dX2_whyNotHit_26 : decode cX2_whyNotHit 26 = .ok (.iload_n 3, 1) := dk_29 (dk_at dksX2_whyNotHit_1 2 rfl rfl)
theorem dX2_whyNotHit_27 : decode cX2_whyNotHit 27 = .ok (.ifCond .ne 7, 3) := dk_154 0 7 (dk_at dksX2_whyNotHit_1 3 rfl rfl)
theorem dX2_whyNotHit_30 : decode cX2_whyNotHit 30 = .ok (.iconst (-1), 1) := dk_2 (dk_at dksX2_whyNotHit_1 6 rfl rfl)
theorem dX2_whyNotHit_31 : decode cX2_whyNotHit 31 = .ok (.goto 16, 3) := dk_167 0 16 (dk_at dksX2_whyNotHit_1 7 rfl rfl)
theorem dX2_whyNotHit_34 : decode cX2_whyNotHit 34 = .ok (.aload_n 0, 1) := dk_42 (dk_at dksX2_whyNotHit_1 10 rfl rfl)
theorem dX2_whyNotHit_35 : decode cX2_whyNotHit 35 = .ok (.invokevirtual 84, 3) := dk_182 0 84 (dk_at dksX2_whyNotHit_1 11 rfl rfl)
theorem dX2_whyNotHit_38 : decode cX2_whyNotHit 38 = .ok (.ifCond .eq 7, 3) := dk_153 0 7 (dk_at dksX2_whyNotHit_1 14 rfl rfl)
theorem dX2_whyNotHit_41 : decode cX2_whyNotHit 41 = .ok (.iconst 0, 1) := dk_3 (dk_at dksX2_whyNotHit_1 17 rfl rfl)
theorem dX2_whyNotHit_42 : decode cX2_whyNotHit 42 = .ok (.goto 5, 3) := dk_167 0 5 (dk_at dksX2_whyNotHit_1 18 rfl rfl)
theorem dX2_whyNotHit_45 : decode cX2_whyNotHit 45 = .ok (.bipush (-2), 2) := dk_16 254 (dk_at dksX2_whyNotHit_1 21 rfl rfl)
theorem dX2_whyNotHit_47 : decode cX2_whyNotHit 47 = .ok (.ireturn, 1) := dk_172 (dk_at dksX2_whyNotHit_1 23 rfl rfl)
abbrev cX2_in : ByteArray := prog_13_method_3_code
def yX2_in : MethodName := ⟨RX2, "in", "(III)Z"⟩
def dkwX2_in_0 : List UInt8 := [26, 27, 161, 0, 12, 26, 28, 163, 0, 7, 4, 167, 0, 4, 3, 172]
abbrev dktX2_in_0 : List UInt8 := dkwX2_in_0 ++ []
theorem dksX2_in_0 : cX2_in.data.toList.drop 0 = dktX2_in_0 := by decide +kernel
theorem dX2_in_0 : decode cX2_in 0 = .ok (.iload_n 0, 1) := dk_26 (dk_at dksX2_in_0 0 rfl rfl)
theorem dX2_in_1 : decode cX2_in 1 = .ok (.iload_n 1, 1) := dk_27 (dk_at dksX2_in_0 1 rfl rfl)
theorem dX2_in_2 : decode cX2_in 2 = .ok (.if_icmp .lt 12, 3) := dk_161 0 12 (dk_at dksX2_in_0 2 rfl rfl)
theorem dX2_in_5 : decode cX2_in 5 = .ok (.iload_n 0, 1) := dk_26 (dk_at dksX2_in_0 5 rfl rfl)
theorem dX2_in_6 : decode cX2_in 6 = .ok (.iload_n 2, 1) := dk_28 (dk_at dksX2_in_0 6 rfl rfl)
theorem dX2_in_7 : decode cX2_in 7 = .ok (.if_icmp .gt 7, 3) := dk_163 0 7 (dk_at dksX2_in_0 7 rfl rfl)
theorem dX2_in_10 : decode cX2_in 10 = .ok (.iconst 1, 1) := dk_4 (dk_at dksX2_in_0 10 rfl rfl)
theorem dX2_in_11 : decode cX2_in 11 = .ok (.goto 4, 3) := dk_167 0 4 (dk_at dksX2_in_0 11 rfl rfl)
theorem dX2_in_14 : decode cX2_in 14 = .ok (.iconst 0, 1) := dk_3 (dk_at dksX2_in_0 14 rfl rfl)
theorem dX2_in_15 : decode cX2_in 15 = .ok (.ireturn, 1) := dk_172 (dk_at dksX2_in_0 15 rfl rfl)
abbrev cX2_hits : ByteArray := prog_13_method_29_code
def yX2_hits : MethodName := ⟨RX2, "hits", "(II)I"⟩
def dkwX2_hits_3 : List UInt8 := [54, 5, 42, 16, 6, 29, 21, 4, 21, 5, 182, 0, 63, 21, 5, 172]
abbrev dktX2_hits_3 : List UInt8 := dkwX2_hits_3 ++ []
def dkwX2_hits_2 : List UInt8 := [16, 12, 42, 5, 182, 0, 36, 104, 96, 54, 4, 42, 16, 6, 29, 21, 4, 182, 0, 55, 28, 184, 0, 59]
abbrev dktX2_hits_2 : List UInt8 := dkwX2_hits_2 ++ dktX2_hits_3
def dkwX2_hits_1 : List UInt8 := [182, 0, 36, 42, 16, 11, 182, 0, 36, 96, 5, 108, 5, 42, 16, 6, 182, 0, 36, 104, 112, 62, 27]
abbrev dktX2_hits_1 : List UInt8 := dkwX2_hits_1 ++ dktX2_hits_2
def dkwX2_hits_0 : List UInt8 := [42, 3, 182, 0, 36, 4, 160, 0, 14, 42, 16, 11, 182, 0, 36, 5, 108, 167, 0, 27, 42, 16, 12]
abbrev dktX2_hits_0 : List UInt8 := dkwX2_hits_0 ++ dktX2_hits_1
theorem dksX2_hits_0 : cX2_hits.data.toList.drop 0 = dktX2_hits_0 := by decide +kernel
theorem dksX2_hits_1 : cX2_hits.data.toList.drop 23 = dktX2_hits_1 := dk_seg dksX2_hits_0 23 rfl rfl
theorem dksX2_hits_2 : cX2_hits.data.toList.drop 46 = dktX2_hits_2 := dk_seg dksX2_hits_1 23 rfl rfl
theorem dksX2_hits_3 : cX2_hits.data.toList.drop 70 = dktX2_hits_3 := dk_seg dksX2_hits_2 24 rfl rfl
theorem dX2_hits_0 : decode cX2_hits 0 = .ok (.aload_n 0, 1) := dk_42 (dk_at dksX2_hits_0 0 rfl rfl)
theorem dX2_hits_1 : decode cX2_hits 1 = .ok (.iconst 0, 1) := dk_3 (dk_at dksX2_hits_0 1 rfl rfl)
theorem dX2_hits_2 : decode cX2_hits 2 = .ok (.invokevirtual 36, 3) := dk_182 0 36 (dk_at dksX2_hits_0 2 rfl rfl)
theorem dX2_hits_5 : decode cX2_hits 5 = .ok (.iconst 1, 1) := dk_4 (dk_at dksX2_hits_0 5 rfl rfl)
theorem dX2_hits_6 : decode cX2_hits 6 = .ok (.if_icmp .ne 14, 3) := dk_160 0 14 (dk_at dksX2_hits_0 6 rfl rfl)
theorem dX2_hits_9 : decode cX2_hits 9 = .ok (.aload_n 0, 1) := dk_42 (dk_at dksX2_hits_0 9 rfl rfl)
theorem dX2_hits_10 : decode cX2_hits 10 = .ok (.bipush 11, 2) := dk_16 11 (dk_at dksX2_hits_0 10 rfl rfl)
theorem dX2_hits_12 : decode cX2_hits 12 = .ok (.invokevirtual 36, 3) := dk_182 0 36 (dk_at dksX2_hits_0 12 rfl rfl)
theorem dX2_hits_15 : decode cX2_hits 15 = .ok (.iconst 2, 1) := dk_5 (dk_at dksX2_hits_0 15 rfl rfl)
theorem dX2_hits_16 : decode cX2_hits 16 = .ok (.idiv, 1) := dk_108 (dk_at dksX2_hits_0 16 rfl rfl)
theorem dX2_hits_17 : decode cX2_hits 17 = .ok (.goto 27, 3) := dk_167 0 27 (dk_at dksX2_hits_0 17 rfl rfl)
theorem dX2_hits_20 : decode cX2_hits 20 = .ok (.aload_n 0, 1) := dk_42 (dk_at dksX2_hits_0 20 rfl rfl)
theorem dX2_hits_21 : decode cX2_hits 21 = .ok (.bipush 12, 2) := dk_16 12 (dk_at dksX2_hits_0 21 rfl rfl)
theorem dX2_hits_23 : decode cX2_hits 23 = .ok (.invokevirtual 36, 3) := dk_182 0 36 (dk_at dksX2_hits_1 0 rfl rfl)
theorem dX2_hits_26 : decode cX2_hits 26 = .ok (.aload_n 0, 1) := dk_42 (dk_at dksX2_hits_1 3 rfl rfl)
theorem dX2_hits_27 : decode cX2_hits 27 = .ok (.bipush 11, 2) := dk_16 11 (dk_at dksX2_hits_1 4 rfl rfl)
theorem dX2_hits_29 : decode cX2_hits 29 = .ok (.invokevirtual 36, 3) := dk_182 0 36 (dk_at dksX2_hits_1 6 rfl rfl)
theorem dX2_hits_32 : decode cX2_hits 32 = .ok (.iadd, 1) := dk_96 (dk_at dksX2_hits_1 9 rfl rfl)
theorem dX2_hits_33 : decode cX2_hits 33 = .ok (.iconst 2, 1) := dk_5 (dk_at dksX2_hits_1 10 rfl rfl)
theorem dX2_hits_34 : decode cX2_hits 34 = .ok (.idiv, 1) := dk_108 (dk_at dksX2_hits_1 11 rfl rfl)
theorem dX2_hits_35 : decode cX2_hits 35 = .ok (.iconst 2, 1) := dk_5 (dk_at dksX2_hits_1 12 rfl rfl)
theorem dX2_hits_36 : decode cX2_hits 36 = .ok (.aload_n 0, 1) := dk_42 (dk_at dksX2_hits_1 13 rfl rfl)
theorem dX2_hits_37 : decode cX2_hits 37 = .ok (.bipush 6, 2) := dk_16 6 (dk_at dksX2_hits_1 14 rfl rfl)
theorem dX2_hits_39 : decode cX2_hits 39 = .ok (.invokevirtual 36, 3) := dk_182 0 36 (dk_at dksX2_hits_1 16 rfl rfl)
theorem dX2_hits_42 : decode cX2_hits 42 = .ok (.imul, 1) := dk_104 (dk_at dksX2_hits_1 19 rfl rfl)
theorem dX2_hits_43 : decode cX2_hits 43 = .ok (.irem, 1) := dk_112 (dk_at dksX2_hits_1 20 rfl rfl)
theorem dX2_hits_44 : decode cX2_hits 44 = .ok (.istore_n 3, 1) := dk_62 (dk_at dksX2_hits_1 21 rfl rfl)
theorem dX2_hits_45 : decode cX2_hits 45 = .ok (.iload_n 1, 1) := dk_27 (dk_at dksX2_hits_1 22 rfl rfl)
theorem dX2_hits_46 : decode cX2_hits 46 = .ok (.bipush 12, 2) := dk_16 12 (dk_at dksX2_hits_2 0 rfl rfl)
theorem dX2_hits_48 : decode cX2_hits 48 = .ok (.aload_n 0, 1) := dk_42 (dk_at dksX2_hits_2 2 rfl rfl)
theorem dX2_hits_49 : decode cX2_hits 49 = .ok (.iconst 2, 1) := dk_5 (dk_at dksX2_hits_2 3 rfl rfl)
theorem dX2_hits_50 : decode cX2_hits 50 = .ok (.invokevirtual 36, 3) := dk_182 0 36 (dk_at dksX2_hits_2 4 rfl rfl)
theorem dX2_hits_53 : decode cX2_hits 53 = .ok (.imul, 1) := dk_104 (dk_at dksX2_hits_2 7 rfl rfl)
theorem dX2_hits_54 : decode cX2_hits 54 = .ok (.iadd, 1) := dk_96 (dk_at dksX2_hits_2 8 rfl rfl)
theorem dX2_hits_55 : decode cX2_hits 55 = .ok (.istore 4, 2) := dk_54 4 (dk_at dksX2_hits_2 9 rfl rfl)
theorem dX2_hits_57 : decode cX2_hits 57 = .ok (.aload_n 0, 1) := dk_42 (dk_at dksX2_hits_2 11 rfl rfl)
theorem dX2_hits_58 : decode cX2_hits 58 = .ok (.bipush 6, 2) := dk_16 6 (dk_at dksX2_hits_2 12 rfl rfl)
theorem dX2_hits_60 : decode cX2_hits 60 = .ok (.iload_n 3, 1) := dk_29 (dk_at dksX2_hits_2 14 rfl rfl)
theorem dX2_hits_61 : decode cX2_hits 61 = .ok (.iload 4, 2) := dk_21 4 (dk_at dksX2_hits_2 15 rfl rfl)
theorem dX2_hits_63 : decode cX2_hits 63 = .ok (.invokevirtual 55, 3) := dk_182 0 55 (dk_at dksX2_hits_2 17 rfl rfl)
theorem dX2_hits_66 : decode cX2_hits 66 = .ok (.iload_n 2, 1) := dk_28 (dk_at dksX2_hits_2 20 rfl rfl)
theorem dX2_hits_67 : decode cX2_hits 67 = .ok (.invokestatic 59, 3) := dk_184 0 59 (dk_at dksX2_hits_2 21 rfl rfl)
theorem dX2_hits_70 : decode cX2_hits 70 = .ok (.istore 5, 2) := dk_54 5 (dk_at dksX2_hits_3 0 rfl rfl)
theorem dX2_hits_72 : decode cX2_hits 72 = .ok (.aload_n 0, 1) := dk_42 (dk_at dksX2_hits_3 2 rfl rfl)
theorem dX2_hits_73 : decode cX2_hits 73 = .ok (.bipush 6, 2) := dk_16 6 (dk_at dksX2_hits_3 3 rfl rfl)
theorem dX2_hits_75 : decode cX2_hits 75 = .ok (.iload_n 3, 1) := dk_29 (dk_at dksX2_hits_3 5 rfl rfl)
theorem dX2_hits_76 : decode cX2_hits 76 = .ok (.iload 4, 2) := dk_21 4 (dk_at dksX2_hits_3 6 rfl rfl)
theorem dX2_hits_78 : decode cX2_hits 78 = .ok (.iload 5, 2) := dk_21 5 (dk_at dksX2_hits_3 8 rfl rfl)
theorem dX2_hits_80 : decode cX2_hits 80 = .ok (.invokevirtual 63, 3) := dk_182 0 63 (dk_at dksX2_hits_3 10 rfl rfl)
theorem dX2_hits_83 : decode cX2_hits 83 = .ok (.iload 5, 2) := dk_21 5 (dk_at dksX2_hits_3 13 rfl rfl)
theorem dX2_hits_85 : decode cX2_hits 85 = .ok (.ireturn, 1) := dk_172 (dk_at dksX2_hits_3 15 rfl rfl)
abbrev cX2_pass : ByteArray := prog_13_method_38_code
def yX2_pass : MethodName := ⟨RX2, "pass", "(I)I"⟩
def dkwX2_pass_0 : List UInt8 := [27, 4, 16, 99, 184, 0, 40, 154, 0, 5, 2, 172, 42, 182, 0, 110, 42, 27, 182, 0, 128, 172]
abbrev dktX2_pass_0 : List UInt8 := dkwX2_pass_0 ++ []
theorem dksX2_pass_0 : cX2_pass.data.toList.drop 0 = dktX2_pass_0 := by decide +kernel
theorem dX2_pass_0 : decode cX2_pass 0 = .ok (.iload_n 1, 1) := dk_27 (dk_at dksX2_pass_0 0 rfl rfl)
theorem dX2_pass_1 : decode cX2_pass 1 = .ok (.iconst 1, 1) := dk_4 (dk_at dksX2_pass_0 1 rfl rfl)
theorem dX2_pass_2 : decode cX2_pass 2 = .ok (.bipush 99, 2) := dk_16 99 (dk_at dksX2_pass_0 2 rfl rfl)
theorem dX2_pass_4 : decode cX2_pass 4 = .ok (.invokestatic 40, 3) := dk_184 0 40 (dk_at dksX2_pass_0 4 rfl rfl)
theorem dX2_pass_7 : decode cX2_pass 7 = .ok (.ifCond .ne 5, 3) := dk_154 0 5 (dk_at dksX2_pass_0 7 rfl rfl)
theorem dX2_pass_10 : decode cX2_pass 10 = .ok (.iconst (-1), 1) := dk_2 (dk_at dksX2_pass_0 10 rfl rfl)
theorem dX2_pass_11 : decode cX2_pass 11 = .ok (.ireturn, 1) := dk_172 (dk_at dksX2_pass_0 11 rfl rfl)
theorem dX2_pass_12 : decode cX2_pass 12 = .ok (.aload_n 0, 1) := dk_42 (dk_at dksX2_pass_0 12 rfl rfl)
theorem dX2_pass_13 : decode cX2_pass 13 = .ok (.invokevirtual 110, 3) := dk_182 0 110 (dk_at dksX2_pass_0 13 rfl rfl)
theorem dX2_pass_16 : decode cX2_pass 16 = .ok (.aload_n 0, 1) := dk_42 (dk_at dksX2_pass_0 16 rfl rfl)
theorem dX2_pass_17 : decode cX2_pass 17 = .ok (.iload_n 1, 1) := dk_27 (dk_at dksX2_pass_0 17 rfl rfl)
theorem dX2_pass_18 : decode cX2_pass 18 = .ok (.invokevirtual 128, 3) := dk_182 0 128 (dk_at dksX2_pass_0 18 rfl rfl)
theorem dX2_pass_21 : decode cX2_pass 21 = .ok (.ireturn, 1) := dk_172 (dk_at dksX2_pass_0 21 rfl rfl)
abbrev cX2_passes : ByteArray := prog_13_method_27_code
def yX2_passes : MethodName := ⟨RX2, "passes", "(I)I"⟩
def dkwX2_passes_0 : List UInt8 := [3, 61, 3, 62, 29, 27, 162, 0, 16, 28, 42, 182, 0, 104, 96, 61, 132, 3, 1, 167, 255, 241, 28, 172]
abbrev dktX2_passes_0 : List UInt8 := dkwX2_passes_0 ++ []
theorem dksX2_passes_0 : cX2_passes.data.toList.drop 0 = dktX2_passes_0 := by decide +kernel
theorem dX2_passes_0 : decode cX2_passes 0 = .ok (.iconst 0, 1) := dk_3 (dk_at dksX2_passes_0 0 rfl rfl)
theorem dX2_passes_1 : decode cX2_passes 1 = .ok (.istore_n 2, 1) := dk_61 (dk_at dksX2_passes_0 1 rfl rfl)
theorem dX2_passes_2 : decode cX2_passes 2 = .ok (.iconst 0, 1) := dk_3 (dk_at dksX2_passes_0 2 rfl rfl)
theorem dX2_passes_3 : decode cX2_passes 3 = .ok (.istore_n 3, 1) := dk_62 (dk_at dksX2_passes_0 3 rfl rfl)
theorem dX2_passes_4 : decode cX2_passes 4 = .ok (.iload_n 3, 1) := dk_29 (dk_at dksX2_passes_0 4 rfl rfl)
theorem dX2_passes_5 : decode cX2_passes 5 = .ok (.iload_n 1, 1) := dk_27 (dk_at dksX2_passes_0 5 rfl rfl)
theorem dX2_passes_6 : decode cX2_passes 6 = .ok (.if_icmp .ge 16, 3) := dk_162 0 16 (dk_at dksX2_passes_0 6 rfl rfl)
theorem dX2_passes_9 : decode cX2_passes 9 = .ok (.iload_n 2, 1) := dk_28 (dk_at dksX2_passes_0 9 rfl rfl)
theorem dX2_passes_10 : decode cX2_passes 10 = .ok (.aload_n 0, 1) := dk_42 (dk_at dksX2_passes_0 10 rfl rfl)
theorem dX2_passes_11 : decode cX2_passes 11 = .ok (.invokevirtual 104, 3) := dk_182 0 104 (dk_at dksX2_passes_0 11 rfl rfl)
theorem dX2_passes_14 : decode cX2_passes 14 = .ok (.iadd, 1) := dk_96 (dk_at dksX2_passes_0 14 rfl rfl)
theorem dX2_passes_15 : decode cX2_passes 15 = .ok (.istore_n 2, 1) := dk_61 (dk_at dksX2_passes_0 15 rfl rfl)
theorem dX2_passes_16 : decode cX2_passes 16 = .ok (.iinc 3 1, 3) := dk_132 3 1 (dk_at dksX2_passes_0 16 rfl rfl)
theorem dX2_passes_19 : decode cX2_passes 19 = .ok (.goto (-15), 3) := dk_167 255 241 (dk_at dksX2_passes_0 19 rfl rfl)
theorem dX2_passes_22 : decode cX2_passes 22 = .ok (.iload_n 2, 1) := dk_28 (dk_at dksX2_passes_0 22 rfl rfl)
theorem dX2_passes_23 : decode cX2_passes 23 = .ok (.ireturn, 1) := dk_172 (dk_at dksX2_passes_0 23 rfl rfl)
abbrev cX2_ticks : ByteArray := prog_13_method_26_code
def yX2_ticks : MethodName := ⟨RX2, "ticks", "()I"⟩
def dkwX2_ticks_7 : List UInt8 := [105, 148, 155, 0, 7, 42, 182, 0, 91, 21, 4, 172]
abbrev dktX2_ticks_7 : List UInt8 := dkwX2_ticks_7 ++ []
def dkwX2_ticks_6 : List UInt8 := [54, 4, 29, 6, 160, 0, 29, 42, 180, 0, 7, 16, 11, 47, 20, 0, 97, 42, 180, 0, 7, 16, 6, 47]
abbrev dktX2_ticks_6 : List UInt8 := dkwX2_ticks_6 ++ dktX2_ticks_7
def dkwX2_ticks_5 : List UInt8 := [182, 0, 80, 104, 133, 101, 80, 42, 180, 0, 7, 16, 9, 92, 47, 10, 97, 80, 42, 182, 0, 101, 4]
abbrev dktX2_ticks_5 : List UInt8 := dkwX2_ticks_5 ++ dktX2_ticks_6
def dkwX2_ticks_4 : List UInt8 := [4, 182, 0, 36, 5, 42, 182, 0, 80, 104, 161, 0, 37, 42, 180, 0, 7, 4, 92, 47, 5, 42]
abbrev dktX2_ticks_4 : List UInt8 := dkwX2_ticks_4 ++ dktX2_ticks_5
def dkwX2_ticks_3 : List UInt8 := [180, 0, 7, 4, 92, 47, 31, 97, 80, 42, 180, 0, 7, 16, 10, 92, 47, 31, 97, 80, 3, 54, 4, 42]
abbrev dktX2_ticks_3 : List UInt8 := dkwX2_ticks_3 ++ dktX2_ticks_4
def dkwX2_ticks_2 : List UInt8 := [80, 29, 4, 160, 0, 20, 42, 16, 11, 182, 0, 36, 16, 48, 161, 0, 7, 42, 182, 0, 88, 3, 172, 42]
abbrev dktX2_ticks_2 : List UInt8 := dkwX2_ticks_2 ++ dktX2_ticks_3
def dkwX2_ticks_1 : List UInt8 := [160, 0, 5, 3, 172, 42, 180, 0, 7, 16, 11, 92, 47, 29, 5, 160, 0, 7, 9, 167, 0, 4, 31, 97]
abbrev dktX2_ticks_1 : List UInt8 := dkwX2_ticks_1 ++ dktX2_ticks_2
def dkwX2_ticks_0 : List UInt8 := [20, 0, 47, 42, 180, 0, 7, 5, 47, 101, 64, 42, 3, 182, 0, 36, 62, 29, 153, 0, 8, 29, 7]
abbrev dktX2_ticks_0 : List UInt8 := dkwX2_ticks_0 ++ dktX2_ticks_1
theorem dksX2_ticks_0 : cX2_ticks.data.toList.drop 0 = dktX2_ticks_0 := by decide +kernel
theorem dksX2_ticks_1 : cX2_ticks.data.toList.drop 23 = dktX2_ticks_1 := dk_seg dksX2_ticks_0 23 rfl rfl
theorem dksX2_ticks_2 : cX2_ticks.data.toList.drop 47 = dktX2_ticks_2 := dk_seg dksX2_ticks_1 24 rfl rfl
theorem dksX2_ticks_3 : cX2_ticks.data.toList.drop 71 = dktX2_ticks_3 := dk_seg dksX2_ticks_2 24 rfl rfl
theorem dksX2_ticks_4 : cX2_ticks.data.toList.drop 95 = dktX2_ticks_4 := dk_seg dksX2_ticks_3 24 rfl rfl
theorem dksX2_ticks_5 : cX2_ticks.data.toList.drop 117 = dktX2_ticks_5 := dk_seg dksX2_ticks_4 22 rfl rfl
theorem dksX2_ticks_6 : cX2_ticks.data.toList.drop 140 = dktX2_ticks_6 := dk_seg dksX2_ticks_5 23 rfl rfl
theorem dksX2_ticks_7 : cX2_ticks.data.toList.drop 164 = dktX2_ticks_7 := dk_seg dksX2_ticks_6 24 rfl rfl
theorem dX2_ticks_0 : decode cX2_ticks 0 = .ok (.ldc2_w 47, 3) := dk_20 0 47 (dk_at dksX2_ticks_0 0 rfl rfl)
theorem dX2_ticks_3 : decode cX2_ticks 3 = .ok (.aload_n 0, 1) := dk_42 (dk_at dksX2_ticks_0 3 rfl rfl)
theorem dX2_ticks_4 : decode cX2_ticks 4 = .ok (.getfield 7, 3) := dk_180 0 7 (dk_at dksX2_ticks_0 4 rfl rfl)
theorem dX2_ticks_7 : decode cX2_ticks 7 = .ok (.iconst 2, 1) := dk_5 (dk_at dksX2_ticks_0 7 rfl rfl)
theorem dX2_ticks_8 : decode cX2_ticks 8 = .ok (.laload, 1) := dk_47 (dk_at dksX2_ticks_0 8 rfl rfl)
theorem dX2_ticks_9 : decode cX2_ticks 9 = .ok (.lsub, 1) := dk_101 (dk_at dksX2_ticks_0 9 rfl rfl)
theorem dX2_ticks_10 : decode cX2_ticks 10 = .ok (.lstore_n 1, 1) := dk_64 (dk_at dksX2_ticks_0 10 rfl rfl)
theorem dX2_ticks_11 : decode cX2_ticks 11 = .ok (.aload_n 0, 1) := dk_42 (dk_at dksX2_ticks_0 11 rfl rfl)
theorem dX2_ticks_12 : decode cX2_ticks 12 = .ok (.iconst 0, 1) := dk_3 (dk_at dksX2_ticks_0 12 rfl rfl)
theorem dX2_ticks_13 : decode cX2_ticks 13 = .ok (.invokevirtual 36, 3) := dk_182 0 36 (dk_at dksX2_ticks_0 13 rfl rfl)
theorem dX2_ticks_16 : decode cX2_ticks 16 = .ok (.istore_n 3, 1) := dk_62 (dk_at dksX2_ticks_0 16 rfl rfl)
theorem dX2_ticks_17 : decode cX2_ticks 17 = .ok (.iload_n 3, 1) := dk_29 (dk_at dksX2_ticks_0 17 rfl rfl)
theorem dX2_ticks_18 : decode cX2_ticks 18 = .ok (.ifCond .eq 8, 3) := dk_153 0 8 (dk_at dksX2_ticks_0 18 rfl rfl)
theorem dX2_ticks_21 : decode cX2_ticks 21 = .ok (.iload_n 3, 1) := dk_29 (dk_at dksX2_ticks_0 21 rfl rfl)
theorem dX2_ticks_22 : decode cX2_ticks 22 = .ok (.iconst 4, 1) := dk_7 (dk_at dksX2_ticks_0 22 rfl rfl)
theorem dX2_ticks_23 : decode cX2_ticks 23 = .ok (.if_icmp .ne 5, 3) := dk_160 0 5 (dk_at dksX2_ticks_1 0 rfl rfl)
theorem dX2_ticks_26 : decode cX2_ticks 26 = .ok (.iconst 0, 1) := dk_3 (dk_at dksX2_ticks_1 3 rfl rfl)
theorem dX2_ticks_27 : decode cX2_ticks 27 = .ok (.ireturn, 1) := dk_172 (dk_at dksX2_ticks_1 4 rfl rfl)
theorem dX2_ticks_28 : decode cX2_ticks 28 = .ok (.aload_n 0, 1) := dk_42 (dk_at dksX2_ticks_1 5 rfl rfl)
theorem dX2_ticks_29 : decode cX2_ticks 29 = .ok (.getfield 7, 3) := dk_180 0 7 (dk_at dksX2_ticks_1 6 rfl rfl)
theorem dX2_ticks_32 : decode cX2_ticks 32 = .ok (.bipush 11, 2) := dk_16 11 (dk_at dksX2_ticks_1 9 rfl rfl)
theorem dX2_ticks_34 : decode cX2_ticks 34 = .ok (.dup2, 1) := dk_92 (dk_at dksX2_ticks_1 11 rfl rfl)
theorem dX2_ticks_35 : decode cX2_ticks 35 = .ok (.laload, 1) := dk_47 (dk_at dksX2_ticks_1 12 rfl rfl)
theorem dX2_ticks_36 : decode cX2_ticks 36 = .ok (.iload_n 3, 1) := dk_29 (dk_at dksX2_ticks_1 13 rfl rfl)
theorem dX2_ticks_37 : decode cX2_ticks 37 = .ok (.iconst 2, 1) := dk_5 (dk_at dksX2_ticks_1 14 rfl rfl)
theorem dX2_ticks_38 : decode cX2_ticks 38 = .ok (.if_icmp .ne 7, 3) := dk_160 0 7 (dk_at dksX2_ticks_1 15 rfl rfl)
theorem dX2_ticks_41 : decode cX2_ticks 41 = .ok (.lconst 0, 1) := dk_9 (dk_at dksX2_ticks_1 18 rfl rfl)
theorem dX2_ticks_42 : decode cX2_ticks 42 = .ok (.goto 4, 3) := dk_167 0 4 (dk_at dksX2_ticks_1 19 rfl rfl)
theorem dX2_ticks_45 : decode cX2_ticks 45 = .ok (.lload_n 1, 1) := dk_31 (dk_at dksX2_ticks_1 22 rfl rfl)
theorem dX2_ticks_46 : decode cX2_ticks 46 = .ok (.ladd, 1) := dk_97 (dk_at dksX2_ticks_1 23 rfl rfl)
theorem dX2_ticks_47 : decode cX2_ticks 47 = .ok (.lastore, 1) := dk_80 (dk_at dksX2_ticks_2 0 rfl rfl)
theorem dX2_ticks_48 : decode cX2_ticks 48 = .ok (.iload_n 3, 1) := dk_29 (dk_at dksX2_ticks_2 1 rfl rfl)
theorem dX2_ticks_49 : decode cX2_ticks 49 = .ok (.iconst 1, 1) := dk_4 (dk_at dksX2_ticks_2 2 rfl rfl)
theorem dX2_ticks_50 : decode cX2_ticks 50 = .ok (.if_icmp .ne 20, 3) := dk_160 0 20 (dk_at dksX2_ticks_2 3 rfl rfl)
theorem dX2_ticks_53 : decode cX2_ticks 53 = .ok (.aload_n 0, 1) := dk_42 (dk_at dksX2_ticks_2 6 rfl rfl)
theorem dX2_ticks_54 : decode cX2_ticks 54 = .ok (.bipush 11, 2) := dk_16 11 (dk_at dksX2_ticks_2 7 rfl rfl)
theorem dX2_ticks_56 : decode cX2_ticks 56 = .ok (.invokevirtual 36, 3) := dk_182 0 36 (dk_at dksX2_ticks_2 9 rfl rfl)
theorem dX2_ticks_59 : decode cX2_ticks 59 = .ok (.bipush 48, 2) := dk_16 48 (dk_at dksX2_ticks_2 12 rfl rfl)
theorem dX2_ticks_61 : decode cX2_ticks 61 = .ok (.if_icmp .lt 7, 3) := dk_161 0 7 (dk_at dksX2_ticks_2 14 rfl rfl)
theorem dX2_ticks_64 : decode cX2_ticks 64 = .ok (.aload_n 0, 1) := dk_42 (dk_at dksX2_ticks_2 17 rfl rfl)
theorem dX2_ticks_65 : decode cX2_ticks 65 = .ok (.invokevirtual 88, 3) := dk_182 0 88 (dk_at dksX2_ticks_2 18 rfl rfl)
theorem dX2_ticks_68 : decode cX2_ticks 68 = .ok (.iconst 0, 1) := dk_3 (dk_at dksX2_ticks_2 21 rfl rfl)
theorem dX2_ticks_69 : decode cX2_ticks 69 = .ok (.ireturn, 1) := dk_172 (dk_at dksX2_ticks_2 22 rfl rfl)
theorem dX2_ticks_70 : decode cX2_ticks 70 = .ok (.aload_n 0, 1) := dk_42 (dk_at dksX2_ticks_2 23 rfl rfl)
theorem dX2_ticks_71 : decode cX2_ticks 71 = .ok (.getfield 7, 3) := dk_180 0 7 (dk_at dksX2_ticks_3 0 rfl rfl)
theorem dX2_ticks_74 : decode cX2_ticks 74 = .ok (.iconst 1, 1) := dk_4 (dk_at dksX2_ticks_3 3 rfl rfl)
theorem dX2_ticks_75 : decode cX2_ticks 75 = .ok (.dup2, 1) := dk_92 (dk_at dksX2_ticks_3 4 rfl rfl)
theorem dX2_ticks_76 : decode cX2_ticks 76 = .ok (.laload, 1) := dk_47 (dk_at dksX2_ticks_3 5 rfl rfl)
theorem dX2_ticks_77 : decode cX2_ticks 77 = .ok (.lload_n 1, 1) := dk_31 (dk_at dksX2_ticks_3 6 rfl rfl)
theorem dX2_ticks_78 : decode cX2_ticks 78 = .ok (.ladd, 1) := dk_97 (dk_at dksX2_ticks_3 7 rfl rfl)
theorem dX2_ticks_79 : decode cX2_ticks 79 = .ok (.lastore, 1) := dk_80 (dk_at dksX2_ticks_3 8 rfl rfl)
theorem dX2_ticks_80 : decode cX2_ticks 80 = .ok (.aload_n 0, 1) := dk_42 (dk_at dksX2_ticks_3 9 rfl rfl)
theorem dX2_ticks_81 : decode cX2_ticks 81 = .ok (.getfield 7, 3) := dk_180 0 7 (dk_at dksX2_ticks_3 10 rfl rfl)
theorem dX2_ticks_84 : decode cX2_ticks 84 = .ok (.bipush 10, 2) := dk_16 10 (dk_at dksX2_ticks_3 13 rfl rfl)
theorem dX2_ticks_86 : decode cX2_ticks 86 = .ok (.dup2, 1) := dk_92 (dk_at dksX2_ticks_3 15 rfl rfl)
theorem dX2_ticks_87 : decode cX2_ticks 87 = .ok (.laload, 1) := dk_47 (dk_at dksX2_ticks_3 16 rfl rfl)
theorem dX2_ticks_88 : decode cX2_ticks 88 = .ok (.lload_n 1, 1) := dk_31 (dk_at dksX2_ticks_3 17 rfl rfl)
theorem dX2_ticks_89 : decode cX2_ticks 89 = .ok (.ladd, 1) := dk_97 (dk_at dksX2_ticks_3 18 rfl rfl)
theorem dX2_ticks_90 : decode cX2_ticks 90 = .ok (.lastore, 1) := dk_80 (dk_at dksX2_ticks_3 19 rfl rfl)
theorem dX2_ticks_91 : decode cX2_ticks 91 = .ok (.iconst 0, 1) := dk_3 (dk_at dksX2_ticks_3 20 rfl rfl)
theorem dX2_ticks_92 : decode cX2_ticks 92 = .ok (.istore 4, 2) := dk_54 4 (dk_at dksX2_ticks_3 21 rfl rfl)
theorem dX2_ticks_94 : decode cX2_ticks 94 = .ok (.aload_n 0, 1) := dk_42 (dk_at dksX2_ticks_3 23 rfl rfl)
theorem dX2_ticks_95 : decode cX2_ticks 95 = .ok (.iconst 1, 1) := dk_4 (dk_at dksX2_ticks_4 0 rfl rfl)
theorem dX2_ticks_96 : decode cX2_ticks 96 = .ok (.invokevirtual 36, 3) := dk_182 0 36 (dk_at dksX2_ticks_4 1 rfl rfl)
theorem dX2_ticks_99 : decode cX2_ticks 99 = .ok (.iconst 2, 1) := dk_5 (dk_at dksX2_ticks_4 4 rfl rfl)
theorem dX2_ticks_100 : decode cX2_ticks 100 = .ok (.aload_n 0, 1) := dk_42 (dk_at dksX2_ticks_4 5 rfl rfl)
theorem dX2_ticks_101 : decode cX2_ticks 101 = .ok (.invokevirtual 80, 3) := dk_182 0 80 (dk_at dksX2_ticks_4 6 rfl rfl)
theorem dX2_ticks_104 : decode cX2_ticks 104 = .ok (.imul, 1) := dk_104 (dk_at dksX2_ticks_4 9 rfl rfl)
theorem dX2_ticks_105 : decode cX2_ticks 105 = .ok (.if_icmp .lt 37, 3) := dk_161 0 37 (dk_at dksX2_ticks_4 10 rfl rfl)
theorem dX2_ticks_108 : decode cX2_ticks 108 = .ok (.aload_n 0, 1) := dk_42 (dk_at dksX2_ticks_4 13 rfl rfl)
theorem dX2_ticks_109 : decode cX2_ticks 109 = .ok (.getfield 7, 3) := dk_180 0 7 (dk_at dksX2_ticks_4 14 rfl rfl)
theorem dX2_ticks_112 : decode cX2_ticks 112 = .ok (.iconst 1, 1) := dk_4 (dk_at dksX2_ticks_4 17 rfl rfl)
theorem dX2_ticks_113 : decode cX2_ticks 113 = .ok (.dup2, 1) := dk_92 (dk_at dksX2_ticks_4 18 rfl rfl)
theorem dX2_ticks_114 : decode cX2_ticks 114 = .ok (.laload, 1) := dk_47 (dk_at dksX2_ticks_4 19 rfl rfl)
theorem dX2_ticks_115 : decode cX2_ticks 115 = .ok (.iconst 2, 1) := dk_5 (dk_at dksX2_ticks_4 20 rfl rfl)
theorem dX2_ticks_116 : decode cX2_ticks 116 = .ok (.aload_n 0, 1) := dk_42 (dk_at dksX2_ticks_4 21 rfl rfl)
theorem dX2_ticks_117 : decode cX2_ticks 117 = .ok (.invokevirtual 80, 3) := dk_182 0 80 (dk_at dksX2_ticks_5 0 rfl rfl)
theorem dX2_ticks_120 : decode cX2_ticks 120 = .ok (.imul, 1) := dk_104 (dk_at dksX2_ticks_5 3 rfl rfl)
theorem dX2_ticks_121 : decode cX2_ticks 121 = .ok (.i2l, 1) := dk_133 (dk_at dksX2_ticks_5 4 rfl rfl)
theorem dX2_ticks_122 : decode cX2_ticks 122 = .ok (.lsub, 1) := dk_101 (dk_at dksX2_ticks_5 5 rfl rfl)
theorem dX2_ticks_123 : decode cX2_ticks 123 = .ok (.lastore, 1) := dk_80 (dk_at dksX2_ticks_5 6 rfl rfl)
theorem dX2_ticks_124 : decode cX2_ticks 124 = .ok (.aload_n 0, 1) := dk_42 (dk_at dksX2_ticks_5 7 rfl rfl)
theorem dX2_ticks_125 : decode cX2_ticks 125 = .ok (.getfield 7, 3) := dk_180 0 7 (dk_at dksX2_ticks_5 8 rfl rfl)
theorem dX2_ticks_128 : decode cX2_ticks 128 = .ok (.bipush 9, 2) := dk_16 9 (dk_at dksX2_ticks_5 11 rfl rfl)
theorem dX2_ticks_130 : decode cX2_ticks 130 = .ok (.dup2, 1) := dk_92 (dk_at dksX2_ticks_5 13 rfl rfl)
theorem dX2_ticks_131 : decode cX2_ticks 131 = .ok (.laload, 1) := dk_47 (dk_at dksX2_ticks_5 14 rfl rfl)
theorem dX2_ticks_132 : decode cX2_ticks 132 = .ok (.lconst 1, 1) := dk_10 (dk_at dksX2_ticks_5 15 rfl rfl)
theorem dX2_ticks_133 : decode cX2_ticks 133 = .ok (.ladd, 1) := dk_97 (dk_at dksX2_ticks_5 16 rfl rfl)
theorem dX2_ticks_134 : decode cX2_ticks 134 = .ok (.lastore, 1) := dk_80 (dk_at dksX2_ticks_5 17 rfl rfl)
theorem dX2_ticks_135 : decode cX2_ticks 135 = .ok (.aload_n 0, 1) := dk_42 (dk_at dksX2_ticks_5 18 rfl rfl)
theorem dX2_ticks_136 : decode cX2_ticks 136 = .ok (.invokevirtual 101, 3) := dk_182 0 101 (dk_at dksX2_ticks_5 19 rfl rfl)
theorem dX2_ticks_139 : decode cX2_ticks 139 = .ok (.iconst 1, 1) := dk_4 (dk_at dksX2_ticks_5 22 rfl rfl)
theorem dX2_ticks_140 : decode cX2_ticks 140 = .ok (.istore 4, 2) := dk_54 4 (dk_at dksX2_ticks_6 0 rfl rfl)
theorem dX2_ticks_142 : decode cX2_ticks 142 = .ok (.iload_n 3, 1) := dk_29 (dk_at dksX2_ticks_6 2 rfl rfl)
theorem dX2_ticks_143 : decode cX2_ticks 143 = .ok (.iconst 3, 1) := dk_6 (dk_at dksX2_ticks_6 3 rfl rfl)
theorem dX2_ticks_144 : decode cX2_ticks 144 = .ok (.if_icmp .ne 29, 3) := dk_160 0 29 (dk_at dksX2_ticks_6 4 rfl rfl)
theorem dX2_ticks_147 : decode cX2_ticks 147 = .ok (.aload_n 0, 1) := dk_42 (dk_at dksX2_ticks_6 7 rfl rfl)
theorem dX2_ticks_148 : decode cX2_ticks 148 = .ok (.getfield 7, 3) := dk_180 0 7 (dk_at dksX2_ticks_6 8 rfl rfl)
theorem dX2_ticks_151 : decode cX2_ticks 151 = .ok (.bipush 11, 2) := dk_16 11 (dk_at dksX2_ticks_6 11 rfl rfl)
theorem dX2_ticks_153 : decode cX2_ticks 153 = .ok (.laload, 1) := dk_47 (dk_at dksX2_ticks_6 13 rfl rfl)
theorem dX2_ticks_154 : decode cX2_ticks 154 = .ok (.ldc2_w 97, 3) := dk_20 0 97 (dk_at dksX2_ticks_6 14 rfl rfl)
theorem dX2_ticks_157 : decode cX2_ticks 157 = .ok (.aload_n 0, 1) := dk_42 (dk_at dksX2_ticks_6 17 rfl rfl)
theorem dX2_ticks_158 : decode cX2_ticks 158 = .ok (.getfield 7, 3) := dk_180 0 7 (dk_at dksX2_ticks_6 18 rfl rfl)
theorem dX2_ticks_161 : decode cX2_ticks 161 = .ok (.bipush 6, 2) := dk_16 6 (dk_at dksX2_ticks_6 21 rfl rfl)
theorem dX2_ticks_163 : decode cX2_ticks 163 = .ok (.laload, 1) := dk_47 (dk_at dksX2_ticks_6 23 rfl rfl)
theorem dX2_ticks_164 : decode cX2_ticks 164 = .ok (.lmul, 1) := dk_105 (dk_at dksX2_ticks_7 0 rfl rfl)
theorem dX2_ticks_165 : decode cX2_ticks 165 = .ok (.lcmp, 1) := dk_148 (dk_at dksX2_ticks_7 1 rfl rfl)
theorem dX2_ticks_166 : decode cX2_ticks 166 = .ok (.ifCond .lt 7, 3) := dk_155 0 7 (dk_at dksX2_ticks_7 2 rfl rfl)
theorem dX2_ticks_169 : decode cX2_ticks 169 = .ok (.aload_n 0, 1) := dk_42 (dk_at dksX2_ticks_7 5 rfl rfl)
theorem dX2_ticks_170 : decode cX2_ticks 170 = .ok (.invokevirtual 91, 3) := dk_182 0 91 (dk_at dksX2_ticks_7 6 rfl rfl)
theorem dX2_ticks_173 : decode cX2_ticks 173 = .ok (.iload 4, 2) := dk_21 4 (dk_at dksX2_ticks_7 9 rfl rfl)
theorem dX2_ticks_175 : decode cX2_ticks 175 = .ok (.ireturn, 1) := dk_172 (dk_at dksX2_ticks_7 11 rfl rfl)
abbrev cX2_fades : ByteArray := prog_13_method_25_code
def yX2_fades : MethodName := ⟨RX2, "fades", "()V"⟩
def dkwX2_fades_4 : List UInt8 := [182, 0, 63, 132, 4, 1, 167, 255, 195, 132, 3, 1, 167, 255, 163, 177]
abbrev dktX2_fades_4 : List UInt8 := dkwX2_fades_4 ++ []
def dkwX2_fades_3 : List UInt8 := [54, 5, 42, 29, 21, 4, 16, 36, 108, 21, 4, 16, 36, 112, 21, 5, 133, 31, 105, 20, 0, 99, 109, 136]
abbrev dktX2_fades_3 : List UInt8 := dkwX2_fades_3 ++ dktX2_fades_4
def dkwX2_fades_2 : List UInt8 := [182, 0, 36, 16, 36, 104, 162, 0, 51, 42, 29, 21, 4, 16, 36, 108, 21, 4, 16, 36, 112, 182, 0, 55]
abbrev dktX2_fades_2 : List UInt8 := dkwX2_fades_2 ++ dktX2_fades_3
def dkwX2_fades_1 : List UInt8 := [180, 0, 7, 16, 26, 29, 96, 92, 47, 10, 97, 80, 3, 54, 4, 21, 4, 42, 16, 14, 29, 96]
abbrev dktX2_fades_1 : List UInt8 := dkwX2_fades_1 ++ dktX2_fades_2
def dkwX2_fades_0 : List UInt8 := [20, 0, 99, 42, 180, 0, 7, 8, 47, 101, 64, 3, 62, 29, 42, 16, 7, 182, 0, 36, 162, 0, 89, 42]
abbrev dktX2_fades_0 : List UInt8 := dkwX2_fades_0 ++ dktX2_fades_1
theorem dksX2_fades_0 : cX2_fades.data.toList.drop 0 = dktX2_fades_0 := by decide +kernel
theorem dksX2_fades_1 : cX2_fades.data.toList.drop 24 = dktX2_fades_1 := dk_seg dksX2_fades_0 24 rfl rfl
theorem dksX2_fades_2 : cX2_fades.data.toList.drop 46 = dktX2_fades_2 := dk_seg dksX2_fades_1 22 rfl rfl
theorem dksX2_fades_3 : cX2_fades.data.toList.drop 70 = dktX2_fades_3 := dk_seg dksX2_fades_2 24 rfl rfl
theorem dksX2_fades_4 : cX2_fades.data.toList.drop 94 = dktX2_fades_4 := dk_seg dksX2_fades_3 24 rfl rfl
theorem dX2_fades_0 : decode cX2_fades 0 = .ok (.ldc2_w 99, 3) := dk_20 0 99 (dk_at dksX2_fades_0 0 rfl rfl)
theorem dX2_fades_3 : decode cX2_fades 3 = .ok (.aload_n 0, 1) := dk_42 (dk_at dksX2_fades_0 3 rfl rfl)
theorem dX2_fades_4 : decode cX2_fades 4 = .ok (.getfield 7, 3) := dk_180 0 7 (dk_at dksX2_fades_0 4 rfl rfl)
theorem dX2_fades_7 : decode cX2_fades 7 = .ok (.iconst 5, 1) := dk_8 (dk_at dksX2_fades_0 7 rfl rfl)
theorem dX2_fades_8 : decode cX2_fades 8 = .ok (.laload, 1) := dk_47 (dk_at dksX2_fades_0 8 rfl rfl)
theorem dX2_fades_9 : decode cX2_fades 9 = .ok (.lsub, 1) := dk_101 (dk_at dksX2_fades_0 9 rfl rfl)
theorem dX2_fades_10 : decode cX2_fades 10 = .ok (.lstore_n 1, 1) := dk_64 (dk_at dksX2_fades_0 10 rfl rfl)
theorem dX2_fades_11 : decode cX2_fades 11 = .ok (.iconst 0, 1) := dk_3 (dk_at dksX2_fades_0 11 rfl rfl)
theorem dX2_fades_12 : decode cX2_fades 12 = .ok (.istore_n 3, 1) := dk_62 (dk_at dksX2_fades_0 12 rfl rfl)
theorem dX2_fades_13 : decode cX2_fades 13 = .ok (.iload_n 3, 1) := dk_29 (dk_at dksX2_fades_0 13 rfl rfl)
theorem dX2_fades_14 : decode cX2_fades 14 = .ok (.aload_n 0, 1) := dk_42 (dk_at dksX2_fades_0 14 rfl rfl)
theorem dX2_fades_15 : decode cX2_fades 15 = .ok (.bipush 7, 2) := dk_16 7 (dk_at dksX2_fades_0 15 rfl rfl)
theorem dX2_fades_17 : decode cX2_fades 17 = .ok (.invokevirtual 36, 3) := dk_182 0 36 (dk_at dksX2_fades_0 17 rfl rfl)
theorem dX2_fades_20 : decode cX2_fades 20 = .ok (.if_icmp .ge 89, 3) := dk_162 0 89 (dk_at dksX2_fades_0 20 rfl rfl)
theorem dX2_fades_23 : decode cX2_fades 23 = .ok (.aload_n 0, 1) := dk_42 (dk_at dksX2_fades_0 23 rfl rfl)
theorem dX2_fades_24 : decode cX2_fades 24 = .ok (.getfield 7, 3) := dk_180 0 7 (dk_at dksX2_fades_1 0 rfl rfl)
theorem dX2_fades_27 : decode cX2_fades 27 = .ok (.bipush 26, 2) := dk_16 26 (dk_at dksX2_fades_1 3 rfl rfl)
theorem dX2_fades_29 : decode cX2_fades 29 = .ok (.iload_n 3, 1) := dk_29 (dk_at dksX2_fades_1 5 rfl rfl)
theorem dX2_fades_30 : decode cX2_fades 30 = .ok (.iadd, 1) := dk_96 (dk_at dksX2_fades_1 6 rfl rfl)
theorem dX2_fades_31 : decode cX2_fades 31 = .ok (.dup2, 1) := dk_92 (dk_at dksX2_fades_1 7 rfl rfl)
theorem dX2_fades_32 : decode cX2_fades 32 = .ok (.laload, 1) := dk_47 (dk_at dksX2_fades_1 8 rfl rfl)
theorem dX2_fades_33 : decode cX2_fades 33 = .ok (.lconst 1, 1) := dk_10 (dk_at dksX2_fades_1 9 rfl rfl)
theorem dX2_fades_34 : decode cX2_fades 34 = .ok (.ladd, 1) := dk_97 (dk_at dksX2_fades_1 10 rfl rfl)
theorem dX2_fades_35 : decode cX2_fades 35 = .ok (.lastore, 1) := dk_80 (dk_at dksX2_fades_1 11 rfl rfl)
theorem dX2_fades_36 : decode cX2_fades 36 = .ok (.iconst 0, 1) := dk_3 (dk_at dksX2_fades_1 12 rfl rfl)
theorem dX2_fades_37 : decode cX2_fades 37 = .ok (.istore 4, 2) := dk_54 4 (dk_at dksX2_fades_1 13 rfl rfl)
theorem dX2_fades_39 : decode cX2_fades 39 = .ok (.iload 4, 2) := dk_21 4 (dk_at dksX2_fades_1 15 rfl rfl)
theorem dX2_fades_41 : decode cX2_fades 41 = .ok (.aload_n 0, 1) := dk_42 (dk_at dksX2_fades_1 17 rfl rfl)
theorem dX2_fades_42 : decode cX2_fades 42 = .ok (.bipush 14, 2) := dk_16 14 (dk_at dksX2_fades_1 18 rfl rfl)
theorem dX2_fades_44 : decode cX2_fades 44 = .ok (.iload_n 3, 1) := dk_29 (dk_at dksX2_fades_1 20 rfl rfl)
theorem dX2_fades_45 : decode cX2_fades 45 = .ok (.iadd, 1) := dk_96 (dk_at dksX2_fades_1 21 rfl rfl)
theorem dX2_fades_46 : decode cX2_fades 46 = .ok (.invokevirtual 36, 3) := dk_182 0 36 (dk_at dksX2_fades_2 0 rfl rfl)
theorem dX2_fades_49 : decode cX2_fades 49 = .ok (.bipush 36, 2) := dk_16 36 (dk_at dksX2_fades_2 3 rfl rfl)
theorem dX2_fades_51 : decode cX2_fades 51 = .ok (.imul, 1) := dk_104 (dk_at dksX2_fades_2 5 rfl rfl)
theorem dX2_fades_52 : decode cX2_fades 52 = .ok (.if_icmp .ge 51, 3) := dk_162 0 51 (dk_at dksX2_fades_2 6 rfl rfl)
theorem dX2_fades_55 : decode cX2_fades 55 = .ok (.aload_n 0, 1) := dk_42 (dk_at dksX2_fades_2 9 rfl rfl)
theorem dX2_fades_56 : decode cX2_fades 56 = .ok (.iload_n 3, 1) := dk_29 (dk_at dksX2_fades_2 10 rfl rfl)
theorem dX2_fades_57 : decode cX2_fades 57 = .ok (.iload 4, 2) := dk_21 4 (dk_at dksX2_fades_2 11 rfl rfl)
theorem dX2_fades_59 : decode cX2_fades 59 = .ok (.bipush 36, 2) := dk_16 36 (dk_at dksX2_fades_2 13 rfl rfl)
theorem dX2_fades_61 : decode cX2_fades 61 = .ok (.idiv, 1) := dk_108 (dk_at dksX2_fades_2 15 rfl rfl)
theorem dX2_fades_62 : decode cX2_fades 62 = .ok (.iload 4, 2) := dk_21 4 (dk_at dksX2_fades_2 16 rfl rfl)
theorem dX2_fades_64 : decode cX2_fades 64 = .ok (.bipush 36, 2) := dk_16 36 (dk_at dksX2_fades_2 18 rfl rfl)
theorem dX2_fades_66 : decode cX2_fades 66 = .ok (.irem, 1) := dk_112 (dk_at dksX2_fades_2 20 rfl rfl)
theorem dX2_fades_67 : decode cX2_fades 67 = .ok (.invokevirtual 55, 3) := dk_182 0 55 (dk_at dksX2_fades_2 21 rfl rfl)
theorem dX2_fades_70 : decode cX2_fades 70 = .ok (.istore 5, 2) := dk_54 5 (dk_at dksX2_fades_3 0 rfl rfl)
theorem dX2_fades_72 : decode cX2_fades 72 = .ok (.aload_n 0, 1) := dk_42 (dk_at dksX2_fades_3 2 rfl rfl)
theorem dX2_fades_73 : decode cX2_fades 73 = .ok (.iload_n 3, 1) := dk_29 (dk_at dksX2_fades_3 3 rfl rfl)
theorem dX2_fades_74 : decode cX2_fades 74 = .ok (.iload 4, 2) := dk_21 4 (dk_at dksX2_fades_3 4 rfl rfl)
theorem dX2_fades_76 : decode cX2_fades 76 = .ok (.bipush 36, 2) := dk_16 36 (dk_at dksX2_fades_3 6 rfl rfl)
theorem dX2_fades_78 : decode cX2_fades 78 = .ok (.idiv, 1) := dk_108 (dk_at dksX2_fades_3 8 rfl rfl)
theorem dX2_fades_79 : decode cX2_fades 79 = .ok (.iload 4, 2) := dk_21 4 (dk_at dksX2_fades_3 9 rfl rfl)
theorem dX2_fades_81 : decode cX2_fades 81 = .ok (.bipush 36, 2) := dk_16 36 (dk_at dksX2_fades_3 11 rfl rfl)
theorem dX2_fades_83 : decode cX2_fades 83 = .ok (.irem, 1) := dk_112 (dk_at dksX2_fades_3 13 rfl rfl)
theorem dX2_fades_84 : decode cX2_fades 84 = .ok (.iload 5, 2) := dk_21 5 (dk_at dksX2_fades_3 14 rfl rfl)
theorem dX2_fades_86 : decode cX2_fades 86 = .ok (.i2l, 1) := dk_133 (dk_at dksX2_fades_3 16 rfl rfl)
theorem dX2_fades_87 : decode cX2_fades 87 = .ok (.lload_n 1, 1) := dk_31 (dk_at dksX2_fades_3 17 rfl rfl)
theorem dX2_fades_88 : decode cX2_fades 88 = .ok (.lmul, 1) := dk_105 (dk_at dksX2_fades_3 18 rfl rfl)
theorem dX2_fades_89 : decode cX2_fades 89 = .ok (.ldc2_w 99, 3) := dk_20 0 99 (dk_at dksX2_fades_3 19 rfl rfl)
theorem dX2_fades_92 : decode cX2_fades 92 = .ok (.ldiv, 1) := dk_109 (dk_at dksX2_fades_3 22 rfl rfl)
theorem dX2_fades_93 : decode cX2_fades 93 = .ok (.l2i, 1) := dk_136 (dk_at dksX2_fades_3 23 rfl rfl)
theorem dX2_fades_94 : decode cX2_fades 94 = .ok (.invokevirtual 63, 3) := dk_182 0 63 (dk_at dksX2_fades_4 0 rfl rfl)
theorem dX2_fades_97 : decode cX2_fades 97 = .ok (.iinc 4 1, 3) := dk_132 4 1 (dk_at dksX2_fades_4 3 rfl rfl)
theorem dX2_fades_100 : decode cX2_fades 100 = .ok (.goto (-61), 3) := dk_167 255 195 (dk_at dksX2_fades_4 6 rfl rfl)
theorem dX2_fades_103 : decode cX2_fades 103 = .ok (.iinc 3 1, 3) := dk_132 3 1 (dk_at dksX2_fades_4 9 rfl rfl)
theorem dX2_fades_106 : decode cX2_fades 106 = .ok (.goto (-93), 3) := dk_167 255 163 (dk_at dksX2_fades_4 12 rfl rfl)
theorem dX2_fades_109 : decode cX2_fades 109 = .ok (.return_, 1) := dk_177 (dk_at dksX2_fades_4 15 rfl rfl)
abbrev cX2_peel : ByteArray := prog_13_method_39_code
def yX2_peel : MethodName := ⟨RX2, "peel", "()I"⟩
def dkwX2_peel_1 : List UInt8 := [172]
abbrev dktX2_peel_1 : List UInt8 := dkwX2_peel_1 ++ []
def dkwX2_peel_0 : List UInt8 := [42, 182, 0, 131, 156, 0, 6, 16, 254, 172, 42, 182, 0, 110, 42, 182, 0, 134, 42, 16, 7, 182, 0, 36]
abbrev dktX2_peel_0 : List UInt8 := dkwX2_peel_0 ++ dktX2_peel_1
theorem dksX2_peel_0 : cX2_peel.data.toList.drop 0 = dktX2_peel_0 := by decide +kernel
theorem dksX2_peel_1 : cX2_peel.data.toList.drop 24 = dktX2_peel_1 := dk_seg dksX2_peel_0 24 rfl rfl
theorem dX2_peel_0 : decode cX2_peel 0 = .ok (.aload_n 0, 1) := dk_42 (dk_at dksX2_peel_0 0 rfl rfl)
theorem dX2_peel_1 : decode cX2_peel 1 = .ok (.invokevirtual 131, 3) := dk_182 0 131 (dk_at dksX2_peel_0 1 rfl rfl)
theorem dX2_peel_4 : decode cX2_peel 4 = .ok (.ifCond .ge 6, 3) := dk_156 0 6 (dk_at dksX2_peel_0 4 rfl rfl)
theorem dX2_peel_7 : decode cX2_peel 7 = .ok (.bipush (-2), 2) := dk_16 254 (dk_at dksX2_peel_0 7 rfl rfl)
theorem dX2_peel_9 : decode cX2_peel 9 = .ok (.ireturn, 1) := dk_172 (dk_at dksX2_peel_0 9 rfl rfl)
theorem dX2_peel_10 : decode cX2_peel 10 = .ok (.aload_n 0, 1) := dk_42 (dk_at dksX2_peel_0 10 rfl rfl)
theorem dX2_peel_11 : decode cX2_peel 11 = .ok (.invokevirtual 110, 3) := dk_182 0 110 (dk_at dksX2_peel_0 11 rfl rfl)
theorem dX2_peel_14 : decode cX2_peel 14 = .ok (.aload_n 0, 1) := dk_42 (dk_at dksX2_peel_0 14 rfl rfl)
theorem dX2_peel_15 : decode cX2_peel 15 = .ok (.invokevirtual 134, 3) := dk_182 0 134 (dk_at dksX2_peel_0 15 rfl rfl)
theorem dX2_peel_18 : decode cX2_peel 18 = .ok (.aload_n 0, 1) := dk_42 (dk_at dksX2_peel_0 18 rfl rfl)
theorem dX2_peel_19 : decode cX2_peel 19 = .ok (.bipush 7, 2) := dk_16 7 (dk_at dksX2_peel_0 19 rfl rfl)
theorem dX2_peel_21 : decode cX2_peel 21 = .ok (.invokevirtual 36, 3) := dk_182 0 36 (dk_at dksX2_peel_0 21 rfl rfl)
theorem dX2_peel_24 : decode cX2_peel 24 = .ok (.ireturn, 1) := dk_172 (dk_at dksX2_peel_1 0 rfl rfl)
abbrev cX2_whyNotPeel : ByteArray := prog_13_method_30_code
def yX2_whyNotPeel : MethodName := ⟨RX2, "whyNotPeel", "()I"⟩
def dkwX2_whyNotPeel_0 : List UInt8 := [42, 182, 0, 84, 154, 0, 13, 42, 16, 7, 182, 0, 36, 5, 162, 0, 8, 16, 254, 167, 0, 4, 3, 172]
abbrev dktX2_whyNotPeel_0 : List UInt8 := dkwX2_whyNotPeel_0 ++ []
theorem dksX2_whyNotPeel_0 : cX2_whyNotPeel.data.toList.drop 0 = dktX2_whyNotPeel_0 := by decide +kernel
theorem dX2_whyNotPeel_0 : decode cX2_whyNotPeel 0 = .ok (.aload_n 0, 1) := dk_42 (dk_at dksX2_whyNotPeel_0 0 rfl rfl)
theorem dX2_whyNotPeel_1 : decode cX2_whyNotPeel 1 = .ok (.invokevirtual 84, 3) := dk_182 0 84 (dk_at dksX2_whyNotPeel_0 1 rfl rfl)
theorem dX2_whyNotPeel_4 : decode cX2_whyNotPeel 4 = .ok (.ifCond .ne 13, 3) := dk_154 0 13 (dk_at dksX2_whyNotPeel_0 4 rfl rfl)
theorem dX2_whyNotPeel_7 : decode cX2_whyNotPeel 7 = .ok (.aload_n 0, 1) := dk_42 (dk_at dksX2_whyNotPeel_0 7 rfl rfl)
theorem dX2_whyNotPeel_8 : decode cX2_whyNotPeel 8 = .ok (.bipush 7, 2) := dk_16 7 (dk_at dksX2_whyNotPeel_0 8 rfl rfl)
theorem dX2_whyNotPeel_10 : decode cX2_whyNotPeel 10 = .ok (.invokevirtual 36, 3) := dk_182 0 36 (dk_at dksX2_whyNotPeel_0 10 rfl rfl)
theorem dX2_whyNotPeel_13 : decode cX2_whyNotPeel 13 = .ok (.iconst 2, 1) := dk_5 (dk_at dksX2_whyNotPeel_0 13 rfl rfl)
theorem dX2_whyNotPeel_14 : decode cX2_whyNotPeel 14 = .ok (.if_icmp .ge 8, 3) := dk_162 0 8 (dk_at dksX2_whyNotPeel_0 14 rfl rfl)
theorem dX2_whyNotPeel_17 : decode cX2_whyNotPeel 17 = .ok (.bipush (-2), 2) := dk_16 254 (dk_at dksX2_whyNotPeel_0 17 rfl rfl)
theorem dX2_whyNotPeel_19 : decode cX2_whyNotPeel 19 = .ok (.goto 4, 3) := dk_167 0 4 (dk_at dksX2_whyNotPeel_0 19 rfl rfl)
theorem dX2_whyNotPeel_22 : decode cX2_whyNotPeel 22 = .ok (.iconst 0, 1) := dk_3 (dk_at dksX2_whyNotPeel_0 22 rfl rfl)
theorem dX2_whyNotPeel_23 : decode cX2_whyNotPeel 23 = .ok (.ireturn, 1) := dk_172 (dk_at dksX2_whyNotPeel_0 23 rfl rfl)
abbrev cX2_peels : ByteArray := prog_13_method_31_code
def yX2_peels : MethodName := ⟨RX2, "peels", "()V"⟩
def dkwX2_peels_2 : List UInt8 := [133, 113, 80, 177]
abbrev dktX2_peels_2 : List UInt8 := dkwX2_peels_2 ++ []
def dkwX2_peels_1 : List UInt8 := [10, 97, 80, 42, 182, 0, 80, 27, 162, 0, 19, 42, 180, 0, 7, 4, 92, 47, 5, 42, 182, 0, 80, 104]
abbrev dktX2_peels_1 : List UInt8 := dkwX2_peels_1 ++ dktX2_peels_2
def dkwX2_peels_0 : List UInt8 := [42, 182, 0, 80, 60, 42, 180, 0, 7, 16, 7, 92, 47, 10, 101, 80, 42, 180, 0, 7, 16, 8, 92, 47]
abbrev dktX2_peels_0 : List UInt8 := dkwX2_peels_0 ++ dktX2_peels_1
theorem dksX2_peels_0 : cX2_peels.data.toList.drop 0 = dktX2_peels_0 := by decide +kernel
theorem dksX2_peels_1 : cX2_peels.data.toList.drop 24 = dktX2_peels_1 := dk_seg dksX2_peels_0 24 rfl rfl
theorem dksX2_peels_2 : cX2_peels.data.toList.drop 48 = dktX2_peels_2 := dk_seg dksX2_peels_1 24 rfl rfl
theorem dX2_peels_0 : decode cX2_peels 0 = .ok (.aload_n 0, 1) := dk_42 (dk_at dksX2_peels_0 0 rfl rfl)
theorem dX2_peels_1 : decode cX2_peels 1 = .ok (.invokevirtual 80, 3) := dk_182 0 80 (dk_at dksX2_peels_0 1 rfl rfl)
theorem dX2_peels_4 : decode cX2_peels 4 = .ok (.istore_n 1, 1) := dk_60 (dk_at dksX2_peels_0 4 rfl rfl)
theorem dX2_peels_5 : decode cX2_peels 5 = .ok (.aload_n 0, 1) := dk_42 (dk_at dksX2_peels_0 5 rfl rfl)
theorem dX2_peels_6 : decode cX2_peels 6 = .ok (.getfield 7, 3) := dk_180 0 7 (dk_at dksX2_peels_0 6 rfl rfl)
theorem dX2_peels_9 : decode cX2_peels 9 = .ok (.bipush 7, 2) := dk_16 7 (dk_at dksX2_peels_0 9 rfl rfl)
theorem dX2_peels_11 : decode cX2_peels 11 = .ok (.dup2, 1) := dk_92 (dk_at dksX2_peels_0 11 rfl rfl)
theorem dX2_peels_12 : decode cX2_peels 12 = .ok (.laload, 1) := dk_47 (dk_at dksX2_peels_0 12 rfl rfl)
theorem dX2_peels_13 : decode cX2_peels 13 = .ok (.lconst 1, 1) := dk_10 (dk_at dksX2_peels_0 13 rfl rfl)
theorem dX2_peels_14 : decode cX2_peels 14 = .ok (.lsub, 1) := dk_101 (dk_at dksX2_peels_0 14 rfl rfl)
theorem dX2_peels_15 : decode cX2_peels 15 = .ok (.lastore, 1) := dk_80 (dk_at dksX2_peels_0 15 rfl rfl)
theorem dX2_peels_16 : decode cX2_peels 16 = .ok (.aload_n 0, 1) := dk_42 (dk_at dksX2_peels_0 16 rfl rfl)
theorem dX2_peels_17 : decode cX2_peels 17 = .ok (.getfield 7, 3) := dk_180 0 7 (dk_at dksX2_peels_0 17 rfl rfl)
theorem dX2_peels_20 : decode cX2_peels 20 = .ok (.bipush 8, 2) := dk_16 8 (dk_at dksX2_peels_0 20 rfl rfl)
theorem dX2_peels_22 : decode cX2_peels 22 = .ok (.dup2, 1) := dk_92 (dk_at dksX2_peels_0 22 rfl rfl)
theorem dX2_peels_23 : decode cX2_peels 23 = .ok (.laload, 1) := dk_47 (dk_at dksX2_peels_0 23 rfl rfl)
theorem dX2_peels_24 : decode cX2_peels 24 = .ok (.lconst 1, 1) := dk_10 (dk_at dksX2_peels_1 0 rfl rfl)
theorem dX2_peels_25 : decode cX2_peels 25 = .ok (.ladd, 1) := dk_97 (dk_at dksX2_peels_1 1 rfl rfl)
theorem dX2_peels_26 : decode cX2_peels 26 = .ok (.lastore, 1) := dk_80 (dk_at dksX2_peels_1 2 rfl rfl)
theorem dX2_peels_27 : decode cX2_peels 27 = .ok (.aload_n 0, 1) := dk_42 (dk_at dksX2_peels_1 3 rfl rfl)
theorem dX2_peels_28 : decode cX2_peels 28 = .ok (.invokevirtual 80, 3) := dk_182 0 80 (dk_at dksX2_peels_1 4 rfl rfl)
theorem dX2_peels_31 : decode cX2_peels 31 = .ok (.iload_n 1, 1) := dk_27 (dk_at dksX2_peels_1 7 rfl rfl)
theorem dX2_peels_32 : decode cX2_peels 32 = .ok (.if_icmp .ge 19, 3) := dk_162 0 19 (dk_at dksX2_peels_1 8 rfl rfl)
theorem dX2_peels_35 : decode cX2_peels 35 = .ok (.aload_n 0, 1) := dk_42 (dk_at dksX2_peels_1 11 rfl rfl)
theorem dX2_peels_36 : decode cX2_peels 36 = .ok (.getfield 7, 3) := dk_180 0 7 (dk_at dksX2_peels_1 12 rfl rfl)
theorem dX2_peels_39 : decode cX2_peels 39 = .ok (.iconst 1, 1) := dk_4 (dk_at dksX2_peels_1 15 rfl rfl)
theorem dX2_peels_40 : decode cX2_peels 40 = .ok (.dup2, 1) := dk_92 (dk_at dksX2_peels_1 16 rfl rfl)
theorem dX2_peels_41 : decode cX2_peels 41 = .ok (.laload, 1) := dk_47 (dk_at dksX2_peels_1 17 rfl rfl)
theorem dX2_peels_42 : decode cX2_peels 42 = .ok (.iconst 2, 1) := dk_5 (dk_at dksX2_peels_1 18 rfl rfl)
theorem dX2_peels_43 : decode cX2_peels 43 = .ok (.aload_n 0, 1) := dk_42 (dk_at dksX2_peels_1 19 rfl rfl)
theorem dX2_peels_44 : decode cX2_peels 44 = .ok (.invokevirtual 80, 3) := dk_182 0 80 (dk_at dksX2_peels_1 20 rfl rfl)
theorem dX2_peels_47 : decode cX2_peels 47 = .ok (.imul, 1) := dk_104 (dk_at dksX2_peels_1 23 rfl rfl)
theorem dX2_peels_48 : decode cX2_peels 48 = .ok (.i2l, 1) := dk_133 (dk_at dksX2_peels_2 0 rfl rfl)
theorem dX2_peels_49 : decode cX2_peels 49 = .ok (.lrem, 1) := dk_113 (dk_at dksX2_peels_2 1 rfl rfl)
theorem dX2_peels_50 : decode cX2_peels 50 = .ok (.lastore, 1) := dk_80 (dk_at dksX2_peels_2 2 rfl rfl)
theorem dX2_peels_51 : decode cX2_peels 51 = .ok (.return_, 1) := dk_177 (dk_at dksX2_peels_2 3 rfl rfl)
abbrev cX2_back : ByteArray := prog_13_method_40_code
def yX2_back : MethodName := ⟨RX2, "back", "()I"⟩
def dkwX2_back_1 : List UInt8 := [172]
abbrev dktX2_back_1 : List UInt8 := dkwX2_back_1 ++ []
def dkwX2_back_0 : List UInt8 := [42, 182, 0, 137, 156, 0, 6, 16, 254, 172, 42, 182, 0, 110, 42, 182, 0, 140, 42, 16, 7, 182, 0, 36]
abbrev dktX2_back_0 : List UInt8 := dkwX2_back_0 ++ dktX2_back_1
theorem dksX2_back_0 : cX2_back.data.toList.drop 0 = dktX2_back_0 := by decide +kernel
theorem dksX2_back_1 : cX2_back.data.toList.drop 24 = dktX2_back_1 := dk_seg dksX2_back_0 24 rfl rfl
theorem dX2_back_0 : decode cX2_back 0 = .ok (.aload_n 0, 1) := dk_42 (dk_at dksX2_back_0 0 rfl rfl)
theorem dX2_back_1 : decode cX2_back 1 = .ok (.invokevirtual 137, 3) := dk_182 0 137 (dk_at dksX2_back_0 1 rfl rfl)
theorem dX2_back_4 : decode cX2_back 4 = .ok (.ifCond .ge 6, 3) := dk_156 0 6 (dk_at dksX2_back_0 4 rfl rfl)
theorem dX2_back_7 : decode cX2_back 7 = .ok (.bipush (-2), 2) := dk_16 254 (dk_at dksX2_back_0 7 rfl rfl)
theorem dX2_back_9 : decode cX2_back 9 = .ok (.ireturn, 1) := dk_172 (dk_at dksX2_back_0 9 rfl rfl)
theorem dX2_back_10 : decode cX2_back 10 = .ok (.aload_n 0, 1) := dk_42 (dk_at dksX2_back_0 10 rfl rfl)
theorem dX2_back_11 : decode cX2_back 11 = .ok (.invokevirtual 110, 3) := dk_182 0 110 (dk_at dksX2_back_0 11 rfl rfl)
theorem dX2_back_14 : decode cX2_back 14 = .ok (.aload_n 0, 1) := dk_42 (dk_at dksX2_back_0 14 rfl rfl)
theorem dX2_back_15 : decode cX2_back 15 = .ok (.invokevirtual 140, 3) := dk_182 0 140 (dk_at dksX2_back_0 15 rfl rfl)
theorem dX2_back_18 : decode cX2_back 18 = .ok (.aload_n 0, 1) := dk_42 (dk_at dksX2_back_0 18 rfl rfl)
theorem dX2_back_19 : decode cX2_back 19 = .ok (.bipush 7, 2) := dk_16 7 (dk_at dksX2_back_0 19 rfl rfl)
theorem dX2_back_21 : decode cX2_back 21 = .ok (.invokevirtual 36, 3) := dk_182 0 36 (dk_at dksX2_back_0 21 rfl rfl)
theorem dX2_back_24 : decode cX2_back 24 = .ok (.ireturn, 1) := dk_172 (dk_at dksX2_back_1 0 rfl rfl)
abbrev cX2_whyNotBack : ByteArray := prog_13_method_32_code
def yX2_whyNotBack : MethodName := ⟨RX2, "whyNotBack", "()I"⟩
def dkwX2_whyNotBack_0 : List UInt8 := [42, 182, 0, 84, 154, 0, 12, 42, 16, 8, 182, 0, 36, 154, 0, 8, 16, 254, 167, 0, 4, 3, 172]
abbrev dktX2_whyNotBack_0 : List UInt8 := dkwX2_whyNotBack_0 ++ []
theorem dksX2_whyNotBack_0 : cX2_whyNotBack.data.toList.drop 0 = dktX2_whyNotBack_0 := by decide +kernel
theorem dX2_whyNotBack_0 : decode cX2_whyNotBack 0 = .ok (.aload_n 0, 1) := dk_42 (dk_at dksX2_whyNotBack_0 0 rfl rfl)
theorem dX2_whyNotBack_1 : decode cX2_whyNotBack 1 = .ok (.invokevirtual 84, 3) := dk_182 0 84 (dk_at dksX2_whyNotBack_0 1 rfl rfl)
theorem dX2_whyNotBack_4 : decode cX2_whyNotBack 4 = .ok (.ifCond .ne 12, 3) := dk_154 0 12 (dk_at dksX2_whyNotBack_0 4 rfl rfl)
theorem dX2_whyNotBack_7 : decode cX2_whyNotBack 7 = .ok (.aload_n 0, 1) := dk_42 (dk_at dksX2_whyNotBack_0 7 rfl rfl)
theorem dX2_whyNotBack_8 : decode cX2_whyNotBack 8 = .ok (.bipush 8, 2) := dk_16 8 (dk_at dksX2_whyNotBack_0 8 rfl rfl)
theorem dX2_whyNotBack_10 : decode cX2_whyNotBack 10 = .ok (.invokevirtual 36, 3) := dk_182 0 36 (dk_at dksX2_whyNotBack_0 10 rfl rfl)
theorem dX2_whyNotBack_13 : decode cX2_whyNotBack 13 = .ok (.ifCond .ne 8, 3) := dk_154 0 8 (dk_at dksX2_whyNotBack_0 13 rfl rfl)
theorem dX2_whyNotBack_16 : decode cX2_whyNotBack 16 = .ok (.bipush (-2), 2) := dk_16 254 (dk_at dksX2_whyNotBack_0 16 rfl rfl)
theorem dX2_whyNotBack_18 : decode cX2_whyNotBack 18 = .ok (.goto 4, 3) := dk_167 0 4 (dk_at dksX2_whyNotBack_0 18 rfl rfl)
theorem dX2_whyNotBack_21 : decode cX2_whyNotBack 21 = .ok (.iconst 0, 1) := dk_3 (dk_at dksX2_whyNotBack_0 21 rfl rfl)
theorem dX2_whyNotBack_22 : decode cX2_whyNotBack 22 = .ok (.ireturn, 1) := dk_172 (dk_at dksX2_whyNotBack_0 22 rfl rfl)
abbrev cX2_backs : ByteArray := prog_13_method_33_code
def yX2_backs : MethodName := ⟨RX2, "backs", "()V"⟩
def dkwX2_backs_0 : List UInt8 := [42, 180, 0, 7, 16, 7, 92, 47, 10, 97, 80, 42, 180, 0, 7, 16, 8, 92, 47, 10, 101, 80, 177]
abbrev dktX2_backs_0 : List UInt8 := dkwX2_backs_0 ++ []
theorem dksX2_backs_0 : cX2_backs.data.toList.drop 0 = dktX2_backs_0 := by decide +kernel
theorem dX2_backs_0 : decode cX2_backs 0 = .ok (.aload_n 0, 1) := dk_42 (dk_at dksX2_backs_0 0 rfl rfl)
theorem dX2_backs_1 : decode cX2_backs 1 = .ok (.getfield 7, 3) := dk_180 0 7 (dk_at dksX2_backs_0 1 rfl rfl)
theorem dX2_backs_4 : decode cX2_backs 4 = .ok (.bipush 7, 2) := dk_16 7 (dk_at dksX2_backs_0 4 rfl rfl)
theorem dX2_backs_6 : decode cX2_backs 6 = .ok (.dup2, 1) := dk_92 (dk_at dksX2_backs_0 6 rfl rfl)
theorem dX2_backs_7 : decode cX2_backs 7 = .ok (.laload, 1) := dk_47 (dk_at dksX2_backs_0 7 rfl rfl)
theorem dX2_backs_8 : decode cX2_backs 8 = .ok (.lconst 1, 1) := dk_10 (dk_at dksX2_backs_0 8 rfl rfl)
theorem dX2_backs_9 : decode cX2_backs 9 = .ok (.ladd, 1) := dk_97 (dk_at dksX2_backs_0 9 rfl rfl)
theorem dX2_backs_10 : decode cX2_backs 10 = .ok (.lastore, 1) := dk_80 (dk_at dksX2_backs_0 10 rfl rfl)
theorem dX2_backs_11 : decode cX2_backs 11 = .ok (.aload_n 0, 1) := dk_42 (dk_at dksX2_backs_0 11 rfl rfl)
theorem dX2_backs_12 : decode cX2_backs 12 = .ok (.getfield 7, 3) := dk_180 0 7 (dk_at dksX2_backs_0 12 rfl rfl)
theorem dX2_backs_15 : decode cX2_backs 15 = .ok (.bipush 8, 2) := dk_16 8 (dk_at dksX2_backs_0 15 rfl rfl)
theorem dX2_backs_17 : decode cX2_backs 17 = .ok (.dup2, 1) := dk_92 (dk_at dksX2_backs_0 17 rfl rfl)
theorem dX2_backs_18 : decode cX2_backs 18 = .ok (.laload, 1) := dk_47 (dk_at dksX2_backs_0 18 rfl rfl)
theorem dX2_backs_19 : decode cX2_backs 19 = .ok (.lconst 1, 1) := dk_10 (dk_at dksX2_backs_0 19 rfl rfl)
theorem dX2_backs_20 : decode cX2_backs 20 = .ok (.lsub, 1) := dk_101 (dk_at dksX2_backs_0 20 rfl rfl)
theorem dX2_backs_21 : decode cX2_backs 21 = .ok (.lastore, 1) := dk_80 (dk_at dksX2_backs_0 21 rfl rfl)
theorem dX2_backs_22 : decode cX2_backs 22 = .ok (.return_, 1) := dk_177 (dk_at dksX2_backs_0 22 rfl rfl)
abbrev cX2_mute : ByteArray := prog_13_method_41_code
def yX2_mute : MethodName := ⟨RX2, "mute", "(I)I"⟩
def dkwX2_mute_1 : List UInt8 := [180, 0, 7, 16, 20, 27, 96, 47, 101, 80, 42, 16, 20, 27, 96, 182, 0, 36, 172]
abbrev dktX2_mute_1 : List UInt8 := dkwX2_mute_1 ++ []
def dkwX2_mute_0 : List UInt8 := [42, 27, 182, 0, 143, 154, 0, 5, 2, 172, 42, 182, 0, 110, 42, 180, 0, 7, 16, 20, 27, 96, 10, 42]
abbrev dktX2_mute_0 : List UInt8 := dkwX2_mute_0 ++ dktX2_mute_1
theorem dksX2_mute_0 : cX2_mute.data.toList.drop 0 = dktX2_mute_0 := by decide +kernel
theorem dksX2_mute_1 : cX2_mute.data.toList.drop 24 = dktX2_mute_1 := dk_seg dksX2_mute_0 24 rfl rfl
theorem dX2_mute_0 : decode cX2_mute 0 = .ok (.aload_n 0, 1) := dk_42 (dk_at dksX2_mute_0 0 rfl rfl)
theorem dX2_mute_1 : decode cX2_mute 1 = .ok (.iload_n 1, 1) := dk_27 (dk_at dksX2_mute_0 1 rfl rfl)
theorem dX2_mute_2 : decode cX2_mute 2 = .ok (.invokevirtual 143, 3) := dk_182 0 143 (dk_at dksX2_mute_0 2 rfl rfl)
theorem dX2_mute_5 : decode cX2_mute 5 = .ok (.ifCond .ne 5, 3) := dk_154 0 5 (dk_at dksX2_mute_0 5 rfl rfl)
theorem dX2_mute_8 : decode cX2_mute 8 = .ok (.iconst (-1), 1) := dk_2 (dk_at dksX2_mute_0 8 rfl rfl)
theorem dX2_mute_9 : decode cX2_mute 9 = .ok (.ireturn, 1) := dk_172 (dk_at dksX2_mute_0 9 rfl rfl)
theorem dX2_mute_10 : decode cX2_mute 10 = .ok (.aload_n 0, 1) := dk_42 (dk_at dksX2_mute_0 10 rfl rfl)
theorem dX2_mute_11 : decode cX2_mute 11 = .ok (.invokevirtual 110, 3) := dk_182 0 110 (dk_at dksX2_mute_0 11 rfl rfl)
theorem dX2_mute_14 : decode cX2_mute 14 = .ok (.aload_n 0, 1) := dk_42 (dk_at dksX2_mute_0 14 rfl rfl)
theorem dX2_mute_15 : decode cX2_mute 15 = .ok (.getfield 7, 3) := dk_180 0 7 (dk_at dksX2_mute_0 15 rfl rfl)
theorem dX2_mute_18 : decode cX2_mute 18 = .ok (.bipush 20, 2) := dk_16 20 (dk_at dksX2_mute_0 18 rfl rfl)
theorem dX2_mute_20 : decode cX2_mute 20 = .ok (.iload_n 1, 1) := dk_27 (dk_at dksX2_mute_0 20 rfl rfl)
theorem dX2_mute_21 : decode cX2_mute 21 = .ok (.iadd, 1) := dk_96 (dk_at dksX2_mute_0 21 rfl rfl)
theorem dX2_mute_22 : decode cX2_mute 22 = .ok (.lconst 1, 1) := dk_10 (dk_at dksX2_mute_0 22 rfl rfl)
theorem dX2_mute_23 : decode cX2_mute 23 = .ok (.aload_n 0, 1) := dk_42 (dk_at dksX2_mute_0 23 rfl rfl)
theorem dX2_mute_24 : decode cX2_mute 24 = .ok (.getfield 7, 3) := dk_180 0 7 (dk_at dksX2_mute_1 0 rfl rfl)
theorem dX2_mute_27 : decode cX2_mute 27 = .ok (.bipush 20, 2) := dk_16 20 (dk_at dksX2_mute_1 3 rfl rfl)
theorem dX2_mute_29 : decode cX2_mute 29 = .ok (.iload_n 1, 1) := dk_27 (dk_at dksX2_mute_1 5 rfl rfl)
theorem dX2_mute_30 : decode cX2_mute 30 = .ok (.iadd, 1) := dk_96 (dk_at dksX2_mute_1 6 rfl rfl)
theorem dX2_mute_31 : decode cX2_mute 31 = .ok (.laload, 1) := dk_47 (dk_at dksX2_mute_1 7 rfl rfl)
theorem dX2_mute_32 : decode cX2_mute 32 = .ok (.lsub, 1) := dk_101 (dk_at dksX2_mute_1 8 rfl rfl)
theorem dX2_mute_33 : decode cX2_mute 33 = .ok (.lastore, 1) := dk_80 (dk_at dksX2_mute_1 9 rfl rfl)
theorem dX2_mute_34 : decode cX2_mute 34 = .ok (.aload_n 0, 1) := dk_42 (dk_at dksX2_mute_1 10 rfl rfl)
theorem dX2_mute_35 : decode cX2_mute 35 = .ok (.bipush 20, 2) := dk_16 20 (dk_at dksX2_mute_1 11 rfl rfl)
theorem dX2_mute_37 : decode cX2_mute 37 = .ok (.iload_n 1, 1) := dk_27 (dk_at dksX2_mute_1 13 rfl rfl)
theorem dX2_mute_38 : decode cX2_mute 38 = .ok (.iadd, 1) := dk_96 (dk_at dksX2_mute_1 14 rfl rfl)
theorem dX2_mute_39 : decode cX2_mute 39 = .ok (.invokevirtual 36, 3) := dk_182 0 36 (dk_at dksX2_mute_1 15 rfl rfl)
theorem dX2_mute_42 : decode cX2_mute 42 = .ok (.ireturn, 1) := dk_172 (dk_at dksX2_mute_1 18 rfl rfl)
abbrev cX2_isLayer : ByteArray := prog_13_method_10_code
def yX2_isLayer : MethodName := ⟨RX2, "isLayer", "(I)Z"⟩
def dkwX2_isLayer_0 : List UInt8 := [27, 3, 42, 16, 7, 182, 0, 36, 4, 100, 184, 0, 40, 172]
abbrev dktX2_isLayer_0 : List UInt8 := dkwX2_isLayer_0 ++ []
theorem dksX2_isLayer_0 : cX2_isLayer.data.toList.drop 0 = dktX2_isLayer_0 := by decide +kernel
theorem dX2_isLayer_0 : decode cX2_isLayer 0 = .ok (.iload_n 1, 1) := dk_27 (dk_at dksX2_isLayer_0 0 rfl rfl)
theorem dX2_isLayer_1 : decode cX2_isLayer 1 = .ok (.iconst 0, 1) := dk_3 (dk_at dksX2_isLayer_0 1 rfl rfl)
theorem dX2_isLayer_2 : decode cX2_isLayer 2 = .ok (.aload_n 0, 1) := dk_42 (dk_at dksX2_isLayer_0 2 rfl rfl)
theorem dX2_isLayer_3 : decode cX2_isLayer 3 = .ok (.bipush 7, 2) := dk_16 7 (dk_at dksX2_isLayer_0 3 rfl rfl)
theorem dX2_isLayer_5 : decode cX2_isLayer 5 = .ok (.invokevirtual 36, 3) := dk_182 0 36 (dk_at dksX2_isLayer_0 5 rfl rfl)
theorem dX2_isLayer_8 : decode cX2_isLayer 8 = .ok (.iconst 1, 1) := dk_4 (dk_at dksX2_isLayer_0 8 rfl rfl)
theorem dX2_isLayer_9 : decode cX2_isLayer 9 = .ok (.isub, 1) := dk_100 (dk_at dksX2_isLayer_0 9 rfl rfl)
theorem dX2_isLayer_10 : decode cX2_isLayer 10 = .ok (.invokestatic 40, 3) := dk_184 0 40 (dk_at dksX2_isLayer_0 10 rfl rfl)
theorem dX2_isLayer_13 : decode cX2_isLayer 13 = .ok (.ireturn, 1) := dk_172 (dk_at dksX2_isLayer_0 13 rfl rfl)
abbrev cX2_speed : ByteArray := prog_13_method_42_code
def yX2_speed : MethodName := ⟨RX2, "speed", "()I"⟩
def dkwX2_speed_0 : List UInt8 := [42, 182, 0, 110, 42, 180, 0, 7, 5, 10, 42, 180, 0, 7, 5, 47, 101, 80, 42, 5, 182, 0, 36, 172]
abbrev dktX2_speed_0 : List UInt8 := dkwX2_speed_0 ++ []
theorem dksX2_speed_0 : cX2_speed.data.toList.drop 0 = dktX2_speed_0 := by decide +kernel
theorem dX2_speed_0 : decode cX2_speed 0 = .ok (.aload_n 0, 1) := dk_42 (dk_at dksX2_speed_0 0 rfl rfl)
theorem dX2_speed_1 : decode cX2_speed 1 = .ok (.invokevirtual 110, 3) := dk_182 0 110 (dk_at dksX2_speed_0 1 rfl rfl)
theorem dX2_speed_4 : decode cX2_speed 4 = .ok (.aload_n 0, 1) := dk_42 (dk_at dksX2_speed_0 4 rfl rfl)
theorem dX2_speed_5 : decode cX2_speed 5 = .ok (.getfield 7, 3) := dk_180 0 7 (dk_at dksX2_speed_0 5 rfl rfl)
theorem dX2_speed_8 : decode cX2_speed 8 = .ok (.iconst 2, 1) := dk_5 (dk_at dksX2_speed_0 8 rfl rfl)
theorem dX2_speed_9 : decode cX2_speed 9 = .ok (.lconst 1, 1) := dk_10 (dk_at dksX2_speed_0 9 rfl rfl)
theorem dX2_speed_10 : decode cX2_speed 10 = .ok (.aload_n 0, 1) := dk_42 (dk_at dksX2_speed_0 10 rfl rfl)
theorem dX2_speed_11 : decode cX2_speed 11 = .ok (.getfield 7, 3) := dk_180 0 7 (dk_at dksX2_speed_0 11 rfl rfl)
theorem dX2_speed_14 : decode cX2_speed 14 = .ok (.iconst 2, 1) := dk_5 (dk_at dksX2_speed_0 14 rfl rfl)
theorem dX2_speed_15 : decode cX2_speed 15 = .ok (.laload, 1) := dk_47 (dk_at dksX2_speed_0 15 rfl rfl)
theorem dX2_speed_16 : decode cX2_speed 16 = .ok (.lsub, 1) := dk_101 (dk_at dksX2_speed_0 16 rfl rfl)
theorem dX2_speed_17 : decode cX2_speed 17 = .ok (.lastore, 1) := dk_80 (dk_at dksX2_speed_0 17 rfl rfl)
theorem dX2_speed_18 : decode cX2_speed 18 = .ok (.aload_n 0, 1) := dk_42 (dk_at dksX2_speed_0 18 rfl rfl)
theorem dX2_speed_19 : decode cX2_speed 19 = .ok (.iconst 2, 1) := dk_5 (dk_at dksX2_speed_0 19 rfl rfl)
theorem dX2_speed_20 : decode cX2_speed 20 = .ok (.invokevirtual 36, 3) := dk_182 0 36 (dk_at dksX2_speed_0 20 rfl rfl)
theorem dX2_speed_23 : decode cX2_speed 23 = .ok (.ireturn, 1) := dk_172 (dk_at dksX2_speed_0 23 rfl rfl)
abbrev cX2_set : ByteArray := prog_13_method_43_code
def yX2_set : MethodName := ⟨RX2, "set", "(II)I"⟩
def dkwX2_set_3 : List UInt8 := [42, 180, 0, 7, 6, 27, 96, 28, 133, 80, 21, 4, 172]
abbrev dktX2_set_3 : List UInt8 := dkwX2_set_3 ++ []
def dkwX2_set_2 : List UInt8 := [167, 0, 4, 3, 62, 29, 154, 0, 5, 2, 172, 42, 182, 0, 110, 42, 6, 27, 96, 182, 0, 36, 54, 4]
abbrev dktX2_set_2 : List UInt8 := dkwX2_set_2 ++ dktX2_set_3
def dkwX2_set_1 : List UInt8 := [184, 0, 40, 167, 0, 23, 27, 5, 160, 0, 17, 28, 3, 16, 100, 184, 0, 40, 153, 0, 7, 4]
abbrev dktX2_set_1 : List UInt8 := dkwX2_set_1 ++ dktX2_set_2
def dkwX2_set_0 : List UInt8 := [27, 154, 0, 13, 28, 5, 16, 16, 184, 0, 40, 167, 0, 38, 27, 4, 160, 0, 13, 28, 3, 16, 8]
abbrev dktX2_set_0 : List UInt8 := dkwX2_set_0 ++ dktX2_set_1
theorem dksX2_set_0 : cX2_set.data.toList.drop 0 = dktX2_set_0 := by decide +kernel
theorem dksX2_set_1 : cX2_set.data.toList.drop 23 = dktX2_set_1 := dk_seg dksX2_set_0 23 rfl rfl
theorem dksX2_set_2 : cX2_set.data.toList.drop 45 = dktX2_set_2 := dk_seg dksX2_set_1 22 rfl rfl
theorem dksX2_set_3 : cX2_set.data.toList.drop 69 = dktX2_set_3 := dk_seg dksX2_set_2 24 rfl rfl
theorem dX2_set_0 : decode cX2_set 0 = .ok (.iload_n 1, 1) := dk_27 (dk_at dksX2_set_0 0 rfl rfl)
theorem dX2_set_1 : decode cX2_set 1 = .ok (.ifCond .ne 13, 3) := dk_154 0 13 (dk_at dksX2_set_0 1 rfl rfl)
theorem dX2_set_4 : decode cX2_set 4 = .ok (.iload_n 2, 1) := dk_28 (dk_at dksX2_set_0 4 rfl rfl)
theorem dX2_set_5 : decode cX2_set 5 = .ok (.iconst 2, 1) := dk_5 (dk_at dksX2_set_0 5 rfl rfl)
theorem dX2_set_6 : decode cX2_set 6 = .ok (.bipush 16, 2) := dk_16 16 (dk_at dksX2_set_0 6 rfl rfl)
theorem dX2_set_8 : decode cX2_set 8 = .ok (.invokestatic 40, 3) := dk_184 0 40 (dk_at dksX2_set_0 8 rfl rfl)
theorem dX2_set_11 : decode cX2_set 11 = .ok (.goto 38, 3) := dk_167 0 38 (dk_at dksX2_set_0 11 rfl rfl)
theorem dX2_set_14 : decode cX2_set 14 = .ok (.iload_n 1, 1) := dk_27 (dk_at dksX2_set_0 14 rfl rfl)
theorem dX2_set_15 : decode cX2_set 15 = .ok (.iconst 1, 1) := dk_4 (dk_at dksX2_set_0 15 rfl rfl)
theorem dX2_set_16 : decode cX2_set 16 = .ok (.if_icmp .ne 13, 3) := dk_160 0 13 (dk_at dksX2_set_0 16 rfl rfl)
theorem dX2_set_19 : decode cX2_set 19 = .ok (.iload_n 2, 1) := dk_28 (dk_at dksX2_set_0 19 rfl rfl)
theorem dX2_set_20 : decode cX2_set 20 = .ok (.iconst 0, 1) := dk_3 (dk_at dksX2_set_0 20 rfl rfl)
theorem dX2_set_21 : decode cX2_set 21 = .ok (.bipush 8, 2) := dk_16 8 (dk_at dksX2_set_0 21 rfl rfl)
theorem dX2_set_23 : decode cX2_set 23 = .ok (.invokestatic 40, 3) := dk_184 0 40 (dk_at dksX2_set_1 0 rfl rfl)
theorem dX2_set_26 : decode cX2_set 26 = .ok (.goto 23, 3) := dk_167 0 23 (dk_at dksX2_set_1 3 rfl rfl)
theorem dX2_set_29 : decode cX2_set 29 = .ok (.iload_n 1, 1) := dk_27 (dk_at dksX2_set_1 6 rfl rfl)
theorem dX2_set_30 : decode cX2_set 30 = .ok (.iconst 2, 1) := dk_5 (dk_at dksX2_set_1 7 rfl rfl)
theorem dX2_set_31 : decode cX2_set 31 = .ok (.if_icmp .ne 17, 3) := dk_160 0 17 (dk_at dksX2_set_1 8 rfl rfl)
theorem dX2_set_34 : decode cX2_set 34 = .ok (.iload_n 2, 1) := dk_28 (dk_at dksX2_set_1 11 rfl rfl)
theorem dX2_set_35 : decode cX2_set 35 = .ok (.iconst 0, 1) := dk_3 (dk_at dksX2_set_1 12 rfl rfl)
theorem dX2_set_36 : decode cX2_set 36 = .ok (.bipush 100, 2) := dk_16 100 (dk_at dksX2_set_1 13 rfl rfl)
theorem dX2_set_38 : decode cX2_set 38 = .ok (.invokestatic 40, 3) := dk_184 0 40 (dk_at dksX2_set_1 15 rfl rfl)
theorem dX2_set_41 : decode cX2_set 41 = .ok (.ifCond .eq 7, 3) := dk_153 0 7 (dk_at dksX2_set_1 18 rfl rfl)
theorem dX2_set_44 : decode cX2_set 44 = .ok (.iconst 1, 1) := dk_4 (dk_at dksX2_set_1 21 rfl rfl)
theorem dX2_set_45 : decode cX2_set 45 = .ok (.goto 4, 3) := dk_167 0 4 (dk_at dksX2_set_2 0 rfl rfl)
theorem dX2_set_48 : decode cX2_set 48 = .ok (.iconst 0, 1) := dk_3 (dk_at dksX2_set_2 3 rfl rfl)
theorem dX2_set_49 : decode cX2_set 49 = .ok (.istore_n 3, 1) := dk_62 (dk_at dksX2_set_2 4 rfl rfl)
theorem dX2_set_50 : decode cX2_set 50 = .ok (.iload_n 3, 1) := dk_29 (dk_at dksX2_set_2 5 rfl rfl)
theorem dX2_set_51 : decode cX2_set 51 = .ok (.ifCond .ne 5, 3) := dk_154 0 5 (dk_at dksX2_set_2 6 rfl rfl)
theorem dX2_set_54 : decode cX2_set 54 = .ok (.iconst (-1), 1) := dk_2 (dk_at dksX2_set_2 9 rfl rfl)
theorem dX2_set_55 : decode cX2_set 55 = .ok (.ireturn, 1) := dk_172 (dk_at dksX2_set_2 10 rfl rfl)
theorem dX2_set_56 : decode cX2_set 56 = .ok (.aload_n 0, 1) := dk_42 (dk_at dksX2_set_2 11 rfl rfl)
theorem dX2_set_57 : decode cX2_set 57 = .ok (.invokevirtual 110, 3) := dk_182 0 110 (dk_at dksX2_set_2 12 rfl rfl)
theorem dX2_set_60 : decode cX2_set 60 = .ok (.aload_n 0, 1) := dk_42 (dk_at dksX2_set_2 15 rfl rfl)
theorem dX2_set_61 : decode cX2_set 61 = .ok (.iconst 3, 1) := dk_6 (dk_at dksX2_set_2 16 rfl rfl)
theorem dX2_set_62 : decode cX2_set 62 = .ok (.iload_n 1, 1) := dk_27 (dk_at dksX2_set_2 17 rfl rfl)
theorem dX2_set_63 : decode cX2_set 63 = .ok (.iadd, 1) := dk_96 (dk_at dksX2_set_2 18 rfl rfl)
theorem dX2_set_64 : decode cX2_set 64 = .ok (.invokevirtual 36, 3) := dk_182 0 36 (dk_at dksX2_set_2 19 rfl rfl)
theorem dX2_set_67 : decode cX2_set 67 = .ok (.istore 4, 2) := dk_54 4 (dk_at dksX2_set_2 22 rfl rfl)
theorem dX2_set_69 : decode cX2_set 69 = .ok (.aload_n 0, 1) := dk_42 (dk_at dksX2_set_3 0 rfl rfl)
theorem dX2_set_70 : decode cX2_set 70 = .ok (.getfield 7, 3) := dk_180 0 7 (dk_at dksX2_set_3 1 rfl rfl)
theorem dX2_set_73 : decode cX2_set 73 = .ok (.iconst 3, 1) := dk_6 (dk_at dksX2_set_3 4 rfl rfl)
theorem dX2_set_74 : decode cX2_set 74 = .ok (.iload_n 1, 1) := dk_27 (dk_at dksX2_set_3 5 rfl rfl)
theorem dX2_set_75 : decode cX2_set 75 = .ok (.iadd, 1) := dk_96 (dk_at dksX2_set_3 6 rfl rfl)
theorem dX2_set_76 : decode cX2_set 76 = .ok (.iload_n 2, 1) := dk_28 (dk_at dksX2_set_3 7 rfl rfl)
theorem dX2_set_77 : decode cX2_set 77 = .ok (.i2l, 1) := dk_133 (dk_at dksX2_set_3 8 rfl rfl)
theorem dX2_set_78 : decode cX2_set 78 = .ok (.lastore, 1) := dk_80 (dk_at dksX2_set_3 9 rfl rfl)
theorem dX2_set_79 : decode cX2_set 79 = .ok (.iload 4, 2) := dk_21 4 (dk_at dksX2_set_3 10 rfl rfl)
theorem dX2_set_81 : decode cX2_set 81 = .ok (.ireturn, 1) := dk_172 (dk_at dksX2_set_3 12 rfl rfl)
abbrev cX2_append : ByteArray := prog_13_method_44_code
def yX2_append : MethodName := ⟨RX2, "append", "(I)I"⟩
def dkwX2_append_2 : List UInt8 := [180, 0, 147, 172]
abbrev dktX2_append_2 : List UInt8 := dkwX2_append_2 ++ []
def dkwX2_append_1 : List UInt8 := [172, 42, 180, 0, 19, 42, 180, 0, 147, 27, 79, 42, 89, 180, 0, 147, 4, 96, 181, 0, 147, 42]
abbrev dktX2_append_1 : List UInt8 := dkwX2_append_1 ++ dktX2_append_2
def dkwX2_append_0 : List UInt8 := [27, 16, 33, 16, 126, 184, 0, 40, 154, 0, 5, 2, 172, 42, 180, 0, 147, 16, 60, 160, 0, 6, 16, 253]
abbrev dktX2_append_0 : List UInt8 := dkwX2_append_0 ++ dktX2_append_1
theorem dksX2_append_0 : cX2_append.data.toList.drop 0 = dktX2_append_0 := by decide +kernel
theorem dksX2_append_1 : cX2_append.data.toList.drop 24 = dktX2_append_1 := dk_seg dksX2_append_0 24 rfl rfl
theorem dksX2_append_2 : cX2_append.data.toList.drop 46 = dktX2_append_2 := dk_seg dksX2_append_1 22 rfl rfl
theorem dX2_append_0 : decode cX2_append 0 = .ok (.iload_n 1, 1) := dk_27 (dk_at dksX2_append_0 0 rfl rfl)
theorem dX2_append_1 : decode cX2_append 1 = .ok (.bipush 33, 2) := dk_16 33 (dk_at dksX2_append_0 1 rfl rfl)
theorem dX2_append_3 : decode cX2_append 3 = .ok (.bipush 126, 2) := dk_16 126 (dk_at dksX2_append_0 3 rfl rfl)
theorem dX2_append_5 : decode cX2_append 5 = .ok (.invokestatic 40, 3) := dk_184 0 40 (dk_at dksX2_append_0 5 rfl rfl)
theorem dX2_append_8 : decode cX2_append 8 = .ok (.ifCond .ne 5, 3) := dk_154 0 5 (dk_at dksX2_append_0 8 rfl rfl)
theorem dX2_append_11 : decode cX2_append 11 = .ok (.iconst (-1), 1) := dk_2 (dk_at dksX2_append_0 11 rfl rfl)
theorem dX2_append_12 : decode cX2_append 12 = .ok (.ireturn, 1) := dk_172 (dk_at dksX2_append_0 12 rfl rfl)
theorem dX2_append_13 : decode cX2_append 13 = .ok (.aload_n 0, 1) := dk_42 (dk_at dksX2_append_0 13 rfl rfl)
theorem dX2_append_14 : decode cX2_append 14 = .ok (.getfield 147, 3) := dk_180 0 147 (dk_at dksX2_append_0 14 rfl rfl)
theorem dX2_append_17 : decode cX2_append 17 = .ok (.bipush 60, 2) := dk_16 60 (dk_at dksX2_append_0 17 rfl rfl)
theorem dX2_append_19 : decode cX2_append 19 = .ok (.if_icmp .ne 6, 3) := dk_160 0 6 (dk_at dksX2_append_0 19 rfl rfl)
theorem dX2_append_22 : decode cX2_append 22 = .ok (.bipush (-3), 2) := dk_16 253 (dk_at dksX2_append_0 22 rfl rfl)
theorem dX2_append_24 : decode cX2_append 24 = .ok (.ireturn, 1) := dk_172 (dk_at dksX2_append_1 0 rfl rfl)
theorem dX2_append_25 : decode cX2_append 25 = .ok (.aload_n 0, 1) := dk_42 (dk_at dksX2_append_1 1 rfl rfl)
theorem dX2_append_26 : decode cX2_append 26 = .ok (.getfield 19, 3) := dk_180 0 19 (dk_at dksX2_append_1 2 rfl rfl)
theorem dX2_append_29 : decode cX2_append 29 = .ok (.aload_n 0, 1) := dk_42 (dk_at dksX2_append_1 5 rfl rfl)
theorem dX2_append_30 : decode cX2_append 30 = .ok (.getfield 147, 3) := dk_180 0 147 (dk_at dksX2_append_1 6 rfl rfl)
theorem dX2_append_33 : decode cX2_append 33 = .ok (.iload_n 1, 1) := dk_27 (dk_at dksX2_append_1 9 rfl rfl)
theorem dX2_append_34 : decode cX2_append 34 = .ok (.iastore, 1) := dk_79 (dk_at dksX2_append_1 10 rfl rfl)
theorem dX2_append_35 : decode cX2_append 35 = .ok (.aload_n 0, 1) := dk_42 (dk_at dksX2_append_1 11 rfl rfl)
theorem dX2_append_36 : decode cX2_append 36 = .ok (.dup, 1) := dk_89 (dk_at dksX2_append_1 12 rfl rfl)
theorem dX2_append_37 : decode cX2_append 37 = .ok (.getfield 147, 3) := dk_180 0 147 (dk_at dksX2_append_1 13 rfl rfl)
theorem dX2_append_40 : decode cX2_append 40 = .ok (.iconst 1, 1) := dk_4 (dk_at dksX2_append_1 16 rfl rfl)
theorem dX2_append_41 : decode cX2_append 41 = .ok (.iadd, 1) := dk_96 (dk_at dksX2_append_1 17 rfl rfl)
theorem dX2_append_42 : decode cX2_append 42 = .ok (.putfield 147, 3) := dk_181 0 147 (dk_at dksX2_append_1 18 rfl rfl)
theorem dX2_append_45 : decode cX2_append 45 = .ok (.aload_n 0, 1) := dk_42 (dk_at dksX2_append_1 21 rfl rfl)
theorem dX2_append_46 : decode cX2_append 46 = .ok (.getfield 147, 3) := dk_180 0 147 (dk_at dksX2_append_2 0 rfl rfl)
theorem dX2_append_49 : decode cX2_append 49 = .ok (.ireturn, 1) := dk_172 (dk_at dksX2_append_2 3 rfl rfl)
abbrev cX2_erase : ByteArray := prog_13_method_45_code
def yX2_erase : MethodName := ⟨RX2, "erase", "()I"⟩
def dkwX2_erase_0 : List UInt8 := [42, 180, 0, 147, 60, 42, 3, 181, 0, 147, 27, 172]
abbrev dktX2_erase_0 : List UInt8 := dkwX2_erase_0 ++ []
theorem dksX2_erase_0 : cX2_erase.data.toList.drop 0 = dktX2_erase_0 := by decide +kernel
theorem dX2_erase_0 : decode cX2_erase 0 = .ok (.aload_n 0, 1) := dk_42 (dk_at dksX2_erase_0 0 rfl rfl)
theorem dX2_erase_1 : decode cX2_erase 1 = .ok (.getfield 147, 3) := dk_180 0 147 (dk_at dksX2_erase_0 1 rfl rfl)
theorem dX2_erase_4 : decode cX2_erase 4 = .ok (.istore_n 1, 1) := dk_60 (dk_at dksX2_erase_0 4 rfl rfl)
theorem dX2_erase_5 : decode cX2_erase 5 = .ok (.aload_n 0, 1) := dk_42 (dk_at dksX2_erase_0 5 rfl rfl)
theorem dX2_erase_6 : decode cX2_erase 6 = .ok (.iconst 0, 1) := dk_3 (dk_at dksX2_erase_0 6 rfl rfl)
theorem dX2_erase_7 : decode cX2_erase 7 = .ok (.putfield 147, 3) := dk_181 0 147 (dk_at dksX2_erase_0 7 rfl rfl)
theorem dX2_erase_10 : decode cX2_erase 10 = .ok (.iload_n 1, 1) := dk_27 (dk_at dksX2_erase_0 10 rfl rfl)
theorem dX2_erase_11 : decode cX2_erase 11 = .ok (.ireturn, 1) := dk_172 (dk_at dksX2_erase_0 11 rfl rfl)
abbrev cX2_fault : ByteArray := prog_13_method_53_code
def yX2_fault : MethodName := ⟨RX2, "fault", "(I)I"⟩
def dkwX2_fault_0 : List UInt8 := [27, 3, 4, 184, 0, 40, 153, 0, 11, 42, 27, 182, 0, 165, 167, 0, 4, 2, 172]
abbrev dktX2_fault_0 : List UInt8 := dkwX2_fault_0 ++ []
theorem dksX2_fault_0 : cX2_fault.data.toList.drop 0 = dktX2_fault_0 := by decide +kernel
theorem dX2_fault_0 : decode cX2_fault 0 = .ok (.iload_n 1, 1) := dk_27 (dk_at dksX2_fault_0 0 rfl rfl)
theorem dX2_fault_1 : decode cX2_fault 1 = .ok (.iconst 0, 1) := dk_3 (dk_at dksX2_fault_0 1 rfl rfl)
theorem dX2_fault_2 : decode cX2_fault 2 = .ok (.iconst 1, 1) := dk_4 (dk_at dksX2_fault_0 2 rfl rfl)
theorem dX2_fault_3 : decode cX2_fault 3 = .ok (.invokestatic 40, 3) := dk_184 0 40 (dk_at dksX2_fault_0 3 rfl rfl)
theorem dX2_fault_6 : decode cX2_fault 6 = .ok (.ifCond .eq 11, 3) := dk_153 0 11 (dk_at dksX2_fault_0 6 rfl rfl)
theorem dX2_fault_9 : decode cX2_fault 9 = .ok (.aload_n 0, 1) := dk_42 (dk_at dksX2_fault_0 9 rfl rfl)
theorem dX2_fault_10 : decode cX2_fault 10 = .ok (.iload_n 1, 1) := dk_27 (dk_at dksX2_fault_0 10 rfl rfl)
theorem dX2_fault_11 : decode cX2_fault 11 = .ok (.invokevirtual 165, 3) := dk_182 0 165 (dk_at dksX2_fault_0 11 rfl rfl)
theorem dX2_fault_14 : decode cX2_fault 14 = .ok (.goto 4, 3) := dk_167 0 4 (dk_at dksX2_fault_0 14 rfl rfl)
theorem dX2_fault_17 : decode cX2_fault 17 = .ok (.iconst (-1), 1) := dk_2 (dk_at dksX2_fault_0 17 rfl rfl)
theorem dX2_fault_18 : decode cX2_fault 18 = .ok (.ireturn, 1) := dk_172 (dk_at dksX2_fault_0 18 rfl rfl)
abbrev cX2_faultOf : ByteArray := prog_13_method_52_code
def yX2_faultOf : MethodName := ⟨RX2, "faultOf", "(I)I"⟩
def dkwX2_faultOf_3 : List UInt8 := [28, 156, 0, 7, 2, 28, 100, 172, 132, 3, 1, 167, 255, 177, 16, 252, 172]
abbrev dktX2_faultOf_3 : List UInt8 := dkwX2_faultOf_3 ++ []
def dkwX2_faultOf_2 : List UInt8 := [160, 0, 6, 16, 252, 172, 27, 154, 0, 8, 21, 4, 167, 0, 11, 42, 21, 4, 16, 44, 182, 0, 159, 61]
abbrev dktX2_faultOf_2 : List UInt8 := dkwX2_faultOf_2 ++ dktX2_faultOf_3
def dkwX2_faultOf_1 : List UInt8 := [3, 16, 35, 182, 0, 156, 54, 4, 21, 4, 156, 0, 8, 2, 21, 4, 100, 172, 21, 4, 42, 180, 0, 147]
abbrev dktX2_faultOf_1 : List UInt8 := dkwX2_faultOf_1 ++ dktX2_faultOf_2
def dkwX2_faultOf_0 : List UInt8 := [3, 61, 3, 62, 29, 16, 60, 163, 0, 79, 27, 154, 0, 11, 42, 28, 182, 0, 162, 167, 0, 11, 42, 28]
abbrev dktX2_faultOf_0 : List UInt8 := dkwX2_faultOf_0 ++ dktX2_faultOf_1
theorem dksX2_faultOf_0 : cX2_faultOf.data.toList.drop 0 = dktX2_faultOf_0 := by decide +kernel
theorem dksX2_faultOf_1 : cX2_faultOf.data.toList.drop 24 = dktX2_faultOf_1 := dk_seg dksX2_faultOf_0 24 rfl rfl
theorem dksX2_faultOf_2 : cX2_faultOf.data.toList.drop 48 = dktX2_faultOf_2 := dk_seg dksX2_faultOf_1 24 rfl rfl
theorem dksX2_faultOf_3 : cX2_faultOf.data.toList.drop 72 = dktX2_faultOf_3 := dk_seg dksX2_faultOf_2 24 rfl rfl
theorem dX2_faultOf_0 : decode cX2_faultOf 0 = .ok (.iconst 0, 1) := dk_3 (dk_at dksX2_faultOf_0 0 rfl rfl)
theorem dX2_faultOf_1 : decode cX2_faultOf 1 = .ok (.istore_n 2, 1) := dk_61 (dk_at dksX2_faultOf_0 1 rfl rfl)
theorem dX2_faultOf_2 : decode cX2_faultOf 2 = .ok (.iconst 0, 1) := dk_3 (dk_at dksX2_faultOf_0 2 rfl rfl)
theorem dX2_faultOf_3 : decode cX2_faultOf 3 = .ok (.istore_n 3, 1) := dk_62 (dk_at dksX2_faultOf_0 3 rfl rfl)
theorem dX2_faultOf_4 : decode cX2_faultOf 4 = .ok (.iload_n 3, 1) := dk_29 (dk_at dksX2_faultOf_0 4 rfl rfl)
theorem dX2_faultOf_5 : decode cX2_faultOf 5 = .ok (.bipush 60, 2) := dk_16 60 (dk_at dksX2_faultOf_0 5 rfl rfl)
theorem dX2_faultOf_7 : decode cX2_faultOf 7 = .ok (.if_icmp .gt 79, 3) := dk_163 0 79 (dk_at dksX2_faultOf_0 7 rfl rfl)
theorem dX2_faultOf_10 : decode cX2_faultOf 10 = .ok (.iload_n 1, 1) := dk_27 (dk_at dksX2_faultOf_0 10 rfl rfl)
theorem dX2_faultOf_11 : decode cX2_faultOf 11 = .ok (.ifCond .ne 11, 3) := dk_154 0 11 (dk_at dksX2_faultOf_0 11 rfl rfl)
theorem dX2_faultOf_14 : decode cX2_faultOf 14 = .ok (.aload_n 0, 1) := dk_42 (dk_at dksX2_faultOf_0 14 rfl rfl)
theorem dX2_faultOf_15 : decode cX2_faultOf 15 = .ok (.iload_n 2, 1) := dk_28 (dk_at dksX2_faultOf_0 15 rfl rfl)
theorem dX2_faultOf_16 : decode cX2_faultOf 16 = .ok (.invokevirtual 162, 3) := dk_182 0 162 (dk_at dksX2_faultOf_0 16 rfl rfl)
theorem dX2_faultOf_19 : decode cX2_faultOf 19 = .ok (.goto 11, 3) := dk_167 0 11 (dk_at dksX2_faultOf_0 19 rfl rfl)
theorem dX2_faultOf_22 : decode cX2_faultOf 22 = .ok (.aload_n 0, 1) := dk_42 (dk_at dksX2_faultOf_0 22 rfl rfl)
theorem dX2_faultOf_23 : decode cX2_faultOf 23 = .ok (.iload_n 2, 1) := dk_28 (dk_at dksX2_faultOf_0 23 rfl rfl)
theorem dX2_faultOf_24 : decode cX2_faultOf 24 = .ok (.iconst 0, 1) := dk_3 (dk_at dksX2_faultOf_1 0 rfl rfl)
theorem dX2_faultOf_25 : decode cX2_faultOf 25 = .ok (.bipush 35, 2) := dk_16 35 (dk_at dksX2_faultOf_1 1 rfl rfl)
theorem dX2_faultOf_27 : decode cX2_faultOf 27 = .ok (.invokevirtual 156, 3) := dk_182 0 156 (dk_at dksX2_faultOf_1 3 rfl rfl)
theorem dX2_faultOf_30 : decode cX2_faultOf 30 = .ok (.istore 4, 2) := dk_54 4 (dk_at dksX2_faultOf_1 6 rfl rfl)
theorem dX2_faultOf_32 : decode cX2_faultOf 32 = .ok (.iload 4, 2) := dk_21 4 (dk_at dksX2_faultOf_1 8 rfl rfl)
theorem dX2_faultOf_34 : decode cX2_faultOf 34 = .ok (.ifCond .ge 8, 3) := dk_156 0 8 (dk_at dksX2_faultOf_1 10 rfl rfl)
theorem dX2_faultOf_37 : decode cX2_faultOf 37 = .ok (.iconst (-1), 1) := dk_2 (dk_at dksX2_faultOf_1 13 rfl rfl)
theorem dX2_faultOf_38 : decode cX2_faultOf 38 = .ok (.iload 4, 2) := dk_21 4 (dk_at dksX2_faultOf_1 14 rfl rfl)
theorem dX2_faultOf_40 : decode cX2_faultOf 40 = .ok (.isub, 1) := dk_100 (dk_at dksX2_faultOf_1 16 rfl rfl)
theorem dX2_faultOf_41 : decode cX2_faultOf 41 = .ok (.ireturn, 1) := dk_172 (dk_at dksX2_faultOf_1 17 rfl rfl)
theorem dX2_faultOf_42 : decode cX2_faultOf 42 = .ok (.iload 4, 2) := dk_21 4 (dk_at dksX2_faultOf_1 18 rfl rfl)
theorem dX2_faultOf_44 : decode cX2_faultOf 44 = .ok (.aload_n 0, 1) := dk_42 (dk_at dksX2_faultOf_1 20 rfl rfl)
theorem dX2_faultOf_45 : decode cX2_faultOf 45 = .ok (.getfield 147, 3) := dk_180 0 147 (dk_at dksX2_faultOf_1 21 rfl rfl)
theorem dX2_faultOf_48 : decode cX2_faultOf 48 = .ok (.if_icmp .ne 6, 3) := dk_160 0 6 (dk_at dksX2_faultOf_2 0 rfl rfl)
theorem dX2_faultOf_51 : decode cX2_faultOf 51 = .ok (.bipush (-4), 2) := dk_16 252 (dk_at dksX2_faultOf_2 3 rfl rfl)
theorem dX2_faultOf_53 : decode cX2_faultOf 53 = .ok (.ireturn, 1) := dk_172 (dk_at dksX2_faultOf_2 5 rfl rfl)
theorem dX2_faultOf_54 : decode cX2_faultOf 54 = .ok (.iload_n 1, 1) := dk_27 (dk_at dksX2_faultOf_2 6 rfl rfl)
theorem dX2_faultOf_55 : decode cX2_faultOf 55 = .ok (.ifCond .ne 8, 3) := dk_154 0 8 (dk_at dksX2_faultOf_2 7 rfl rfl)
theorem dX2_faultOf_58 : decode cX2_faultOf 58 = .ok (.iload 4, 2) := dk_21 4 (dk_at dksX2_faultOf_2 10 rfl rfl)
theorem dX2_faultOf_60 : decode cX2_faultOf 60 = .ok (.goto 11, 3) := dk_167 0 11 (dk_at dksX2_faultOf_2 12 rfl rfl)
theorem dX2_faultOf_63 : decode cX2_faultOf 63 = .ok (.aload_n 0, 1) := dk_42 (dk_at dksX2_faultOf_2 15 rfl rfl)
theorem dX2_faultOf_64 : decode cX2_faultOf 64 = .ok (.iload 4, 2) := dk_21 4 (dk_at dksX2_faultOf_2 16 rfl rfl)
theorem dX2_faultOf_66 : decode cX2_faultOf 66 = .ok (.bipush 44, 2) := dk_16 44 (dk_at dksX2_faultOf_2 18 rfl rfl)
theorem dX2_faultOf_68 : decode cX2_faultOf 68 = .ok (.invokevirtual 159, 3) := dk_182 0 159 (dk_at dksX2_faultOf_2 20 rfl rfl)
theorem dX2_faultOf_71 : decode cX2_faultOf 71 = .ok (.istore_n 2, 1) := dk_61 (dk_at dksX2_faultOf_2 23 rfl rfl)
theorem dX2_faultOf_72 : decode cX2_faultOf 72 = .ok (.iload_n 2, 1) := dk_28 (dk_at dksX2_faultOf_3 0 rfl rfl)
theorem dX2_faultOf_73 : decode cX2_faultOf 73 = .ok (.ifCond .ge 7, 3) := dk_156 0 7 (dk_at dksX2_faultOf_3 1 rfl rfl)
theorem dX2_faultOf_76 : decode cX2_faultOf 76 = .ok (.iconst (-1), 1) := dk_2 (dk_at dksX2_faultOf_3 4 rfl rfl)
theorem dX2_faultOf_77 : decode cX2_faultOf 77 = .ok (.iload_n 2, 1) := dk_28 (dk_at dksX2_faultOf_3 5 rfl rfl)
theorem dX2_faultOf_78 : decode cX2_faultOf 78 = .ok (.isub, 1) := dk_100 (dk_at dksX2_faultOf_3 6 rfl rfl)
theorem dX2_faultOf_79 : decode cX2_faultOf 79 = .ok (.ireturn, 1) := dk_172 (dk_at dksX2_faultOf_3 7 rfl rfl)
theorem dX2_faultOf_80 : decode cX2_faultOf 80 = .ok (.iinc 3 1, 3) := dk_132 3 1 (dk_at dksX2_faultOf_3 8 rfl rfl)
theorem dX2_faultOf_83 : decode cX2_faultOf 83 = .ok (.goto (-79), 3) := dk_167 255 177 (dk_at dksX2_faultOf_3 11 rfl rfl)
theorem dX2_faultOf_86 : decode cX2_faultOf 86 = .ok (.bipush (-4), 2) := dk_16 252 (dk_at dksX2_faultOf_3 14 rfl rfl)
theorem dX2_faultOf_88 : decode cX2_faultOf 88 = .ok (.ireturn, 1) := dk_172 (dk_at dksX2_faultOf_3 16 rfl rfl)
abbrev cX2_orderEnd : ByteArray := prog_13_method_51_code
def yX2_orderEnd : MethodName := ⟨RX2, "orderEnd", "(I)I"⟩
def dkwX2_orderEnd_3 : List UInt8 := [17, 3, 231, 182, 0, 156, 172, 42, 27, 4, 96, 4, 16, 99, 182, 0, 156, 172, 2, 27, 100, 172]
abbrev dktX2_orderEnd_3 : List UInt8 := dkwX2_orderEnd_3 ++ []
def dkwX2_orderEnd_2 : List UInt8 := [27, 4, 96, 172, 42, 42, 42, 27, 4, 96, 3, 16, 99, 182, 0, 156, 16, 46, 182, 0, 159, 3]
abbrev dktX2_orderEnd_2 : List UInt8 := dkwX2_orderEnd_2 ++ dktX2_orderEnd_3
def dkwX2_orderEnd_1 : List UInt8 := [170, 0, 0, 0, 0, 0, 127, 0, 0, 0, 104, 0, 0, 0, 121, 0, 0, 0, 91, 0, 0, 0, 127, 0, 0, 0, 127, 0, 0, 0, 127, 0, 0, 0, 127, 0, 0, 0, 127, 0, 0, 0, 127, 0, 0, 0, 127, 0, 0, 0, 87, 0, 0, 0, 127, 0, 0, 0, 127, 0, 0, 0, 87, 0, 0, 0, 116, 0, 0, 0, 127, 0, 0, 0, 87, 0, 0, 0, 127, 0, 0, 0, 87, 0, 0, 0, 87]
abbrev dktX2_orderEnd_1 : List UInt8 := dkwX2_orderEnd_1 ++ dktX2_orderEnd_2
def dkwX2_orderEnd_0 : List UInt8 := [42, 27, 182, 0, 150]
abbrev dktX2_orderEnd_0 : List UInt8 := dkwX2_orderEnd_0 ++ dktX2_orderEnd_1
theorem dksX2_orderEnd_0 : cX2_orderEnd.data.toList.drop 0 = dktX2_orderEnd_0 := by decide +kernel
theorem dksX2_orderEnd_1 : cX2_orderEnd.data.toList.drop 5 = dktX2_orderEnd_1 := dk_seg dksX2_orderEnd_0 5 rfl rfl
theorem dksX2_orderEnd_2 : cX2_orderEnd.data.toList.drop 92 = dktX2_orderEnd_2 := dk_seg dksX2_orderEnd_1 87 rfl rfl
theorem dksX2_orderEnd_3 : cX2_orderEnd.data.toList.drop 114 = dktX2_orderEnd_3 := dk_seg dksX2_orderEnd_2 22 rfl rfl
theorem dX2_orderEnd_0 : decode cX2_orderEnd 0 = .ok (.aload_n 0, 1) := dk_42 (dk_at dksX2_orderEnd_0 0 rfl rfl)
theorem dX2_orderEnd_1 : decode cX2_orderEnd 1 = .ok (.iload_n 1, 1) := dk_27 (dk_at dksX2_orderEnd_0 1 rfl rfl)
theorem dX2_orderEnd_2 : decode cX2_orderEnd 2 = .ok (.invokevirtual 150, 3) := dk_182 0 150 (dk_at dksX2_orderEnd_0 2 rfl rfl)
theorem dX2_orderEnd_5 : decode cX2_orderEnd 5 = .ok (.tableswitch 127 104 121 #[91, 127, 127, 127, 127, 127, 127, 127, 87, 127, 127, 87, 116, 127, 87, 127, 87, 87], 87) := by decide +kernel
theorem dX2_orderEnd_92 : decode cX2_orderEnd 92 = .ok (.iload_n 1, 1) := dk_27 (dk_at dksX2_orderEnd_2 0 rfl rfl)
theorem dX2_orderEnd_93 : decode cX2_orderEnd 93 = .ok (.iconst 1, 1) := dk_4 (dk_at dksX2_orderEnd_2 1 rfl rfl)
theorem dX2_orderEnd_94 : decode cX2_orderEnd 94 = .ok (.iadd, 1) := dk_96 (dk_at dksX2_orderEnd_2 2 rfl rfl)
theorem dX2_orderEnd_95 : decode cX2_orderEnd 95 = .ok (.ireturn, 1) := dk_172 (dk_at dksX2_orderEnd_2 3 rfl rfl)
theorem dX2_orderEnd_96 : decode cX2_orderEnd 96 = .ok (.aload_n 0, 1) := dk_42 (dk_at dksX2_orderEnd_2 4 rfl rfl)
theorem dX2_orderEnd_97 : decode cX2_orderEnd 97 = .ok (.aload_n 0, 1) := dk_42 (dk_at dksX2_orderEnd_2 5 rfl rfl)
theorem dX2_orderEnd_98 : decode cX2_orderEnd 98 = .ok (.aload_n 0, 1) := dk_42 (dk_at dksX2_orderEnd_2 6 rfl rfl)
theorem dX2_orderEnd_99 : decode cX2_orderEnd 99 = .ok (.iload_n 1, 1) := dk_27 (dk_at dksX2_orderEnd_2 7 rfl rfl)
theorem dX2_orderEnd_100 : decode cX2_orderEnd 100 = .ok (.iconst 1, 1) := dk_4 (dk_at dksX2_orderEnd_2 8 rfl rfl)
theorem dX2_orderEnd_101 : decode cX2_orderEnd 101 = .ok (.iadd, 1) := dk_96 (dk_at dksX2_orderEnd_2 9 rfl rfl)
theorem dX2_orderEnd_102 : decode cX2_orderEnd 102 = .ok (.iconst 0, 1) := dk_3 (dk_at dksX2_orderEnd_2 10 rfl rfl)
theorem dX2_orderEnd_103 : decode cX2_orderEnd 103 = .ok (.bipush 99, 2) := dk_16 99 (dk_at dksX2_orderEnd_2 11 rfl rfl)
theorem dX2_orderEnd_105 : decode cX2_orderEnd 105 = .ok (.invokevirtual 156, 3) := dk_182 0 156 (dk_at dksX2_orderEnd_2 13 rfl rfl)
theorem dX2_orderEnd_108 : decode cX2_orderEnd 108 = .ok (.bipush 46, 2) := dk_16 46 (dk_at dksX2_orderEnd_2 16 rfl rfl)
theorem dX2_orderEnd_110 : decode cX2_orderEnd 110 = .ok (.invokevirtual 159, 3) := dk_182 0 159 (dk_at dksX2_orderEnd_2 18 rfl rfl)
theorem dX2_orderEnd_113 : decode cX2_orderEnd 113 = .ok (.iconst 0, 1) := dk_3 (dk_at dksX2_orderEnd_2 21 rfl rfl)
theorem dX2_orderEnd_114 : decode cX2_orderEnd 114 = .ok (.sipush 999, 3) := dk_17 3 231 (dk_at dksX2_orderEnd_3 0 rfl rfl)
theorem dX2_orderEnd_117 : decode cX2_orderEnd 117 = .ok (.invokevirtual 156, 3) := dk_182 0 156 (dk_at dksX2_orderEnd_3 3 rfl rfl)
theorem dX2_orderEnd_120 : decode cX2_orderEnd 120 = .ok (.ireturn, 1) := dk_172 (dk_at dksX2_orderEnd_3 6 rfl rfl)
theorem dX2_orderEnd_121 : decode cX2_orderEnd 121 = .ok (.aload_n 0, 1) := dk_42 (dk_at dksX2_orderEnd_3 7 rfl rfl)
theorem dX2_orderEnd_122 : decode cX2_orderEnd 122 = .ok (.iload_n 1, 1) := dk_27 (dk_at dksX2_orderEnd_3 8 rfl rfl)
theorem dX2_orderEnd_123 : decode cX2_orderEnd 123 = .ok (.iconst 1, 1) := dk_4 (dk_at dksX2_orderEnd_3 9 rfl rfl)
theorem dX2_orderEnd_124 : decode cX2_orderEnd 124 = .ok (.iadd, 1) := dk_96 (dk_at dksX2_orderEnd_3 10 rfl rfl)
theorem dX2_orderEnd_125 : decode cX2_orderEnd 125 = .ok (.iconst 1, 1) := dk_4 (dk_at dksX2_orderEnd_3 11 rfl rfl)
theorem dX2_orderEnd_126 : decode cX2_orderEnd 126 = .ok (.bipush 99, 2) := dk_16 99 (dk_at dksX2_orderEnd_3 12 rfl rfl)
theorem dX2_orderEnd_128 : decode cX2_orderEnd 128 = .ok (.invokevirtual 156, 3) := dk_182 0 156 (dk_at dksX2_orderEnd_3 14 rfl rfl)
theorem dX2_orderEnd_131 : decode cX2_orderEnd 131 = .ok (.ireturn, 1) := dk_172 (dk_at dksX2_orderEnd_3 17 rfl rfl)
theorem dX2_orderEnd_132 : decode cX2_orderEnd 132 = .ok (.iconst (-1), 1) := dk_2 (dk_at dksX2_orderEnd_3 18 rfl rfl)
theorem dX2_orderEnd_133 : decode cX2_orderEnd 133 = .ok (.iload_n 1, 1) := dk_27 (dk_at dksX2_orderEnd_3 19 rfl rfl)
theorem dX2_orderEnd_134 : decode cX2_orderEnd 134 = .ok (.isub, 1) := dk_100 (dk_at dksX2_orderEnd_3 20 rfl rfl)
theorem dX2_orderEnd_135 : decode cX2_orderEnd 135 = .ok (.ireturn, 1) := dk_172 (dk_at dksX2_orderEnd_3 21 rfl rfl)
abbrev cX2_sign : ByteArray := prog_13_method_46_code
def yX2_sign : MethodName := ⟨RX2, "sign", "(I)I"⟩
def dkwX2_sign_0 : List UInt8 := [27, 42, 180, 0, 147, 162, 0, 12, 42, 180, 0, 19, 27, 46, 167, 0, 4, 2, 172]
abbrev dktX2_sign_0 : List UInt8 := dkwX2_sign_0 ++ []
theorem dksX2_sign_0 : cX2_sign.data.toList.drop 0 = dktX2_sign_0 := by decide +kernel
theorem dX2_sign_0 : decode cX2_sign 0 = .ok (.iload_n 1, 1) := dk_27 (dk_at dksX2_sign_0 0 rfl rfl)
theorem dX2_sign_1 : decode cX2_sign 1 = .ok (.aload_n 0, 1) := dk_42 (dk_at dksX2_sign_0 1 rfl rfl)
theorem dX2_sign_2 : decode cX2_sign 2 = .ok (.getfield 147, 3) := dk_180 0 147 (dk_at dksX2_sign_0 2 rfl rfl)
theorem dX2_sign_5 : decode cX2_sign 5 = .ok (.if_icmp .ge 12, 3) := dk_162 0 12 (dk_at dksX2_sign_0 5 rfl rfl)
theorem dX2_sign_8 : decode cX2_sign 8 = .ok (.aload_n 0, 1) := dk_42 (dk_at dksX2_sign_0 8 rfl rfl)
theorem dX2_sign_9 : decode cX2_sign 9 = .ok (.getfield 19, 3) := dk_180 0 19 (dk_at dksX2_sign_0 9 rfl rfl)
theorem dX2_sign_12 : decode cX2_sign 12 = .ok (.iload_n 1, 1) := dk_27 (dk_at dksX2_sign_0 12 rfl rfl)
theorem dX2_sign_13 : decode cX2_sign 13 = .ok (.iaload, 1) := dk_46 (dk_at dksX2_sign_0 13 rfl rfl)
theorem dX2_sign_14 : decode cX2_sign 14 = .ok (.goto 4, 3) := dk_167 0 4 (dk_at dksX2_sign_0 14 rfl rfl)
theorem dX2_sign_17 : decode cX2_sign 17 = .ok (.iconst (-1), 1) := dk_2 (dk_at dksX2_sign_0 17 rfl rfl)
theorem dX2_sign_18 : decode cX2_sign 18 = .ok (.ireturn, 1) := dk_172 (dk_at dksX2_sign_0 18 rfl rfl)
abbrev cX2_numberEnd : ByteArray := prog_13_method_48_code
def yX2_numberEnd : MethodName := ⟨RX2, "numberEnd", "(III)I"⟩
def dkwX2_numberEnd_3 : List UInt8 := [132, 5, 1, 167, 255, 209, 21, 5, 172]
abbrev dktX2_numberEnd_3 : List UInt8 := dkwX2_numberEnd_3 ++ []
def dkwX2_numberEnd_2 : List UInt8 := [21, 5, 182, 0, 153, 96, 29, 163, 0, 23, 16, 10, 21, 4, 104, 42, 21, 5, 182, 0, 153, 96, 54, 4]
abbrev dktX2_numberEnd_2 : List UInt8 := dkwX2_numberEnd_2 ++ dktX2_numberEnd_3
def dkwX2_numberEnd_1 : List UInt8 := [4, 96, 54, 5, 21, 4, 158, 0, 48, 42, 21, 5, 182, 0, 153, 155, 0, 39, 16, 10, 21, 4, 104, 42]
abbrev dktX2_numberEnd_1 : List UInt8 := dkwX2_numberEnd_1 ++ dktX2_numberEnd_2
def dkwX2_numberEnd_0 : List UInt8 := [27, 156, 0, 5, 27, 172, 42, 27, 182, 0, 153, 54, 4, 21, 4, 28, 162, 0, 7, 2, 27, 100, 172, 27]
abbrev dktX2_numberEnd_0 : List UInt8 := dkwX2_numberEnd_0 ++ dktX2_numberEnd_1
theorem dksX2_numberEnd_0 : cX2_numberEnd.data.toList.drop 0 = dktX2_numberEnd_0 := by decide +kernel
theorem dksX2_numberEnd_1 : cX2_numberEnd.data.toList.drop 24 = dktX2_numberEnd_1 := dk_seg dksX2_numberEnd_0 24 rfl rfl
theorem dksX2_numberEnd_2 : cX2_numberEnd.data.toList.drop 48 = dktX2_numberEnd_2 := dk_seg dksX2_numberEnd_1 24 rfl rfl
theorem dksX2_numberEnd_3 : cX2_numberEnd.data.toList.drop 72 = dktX2_numberEnd_3 := dk_seg dksX2_numberEnd_2 24 rfl rfl
theorem dX2_numberEnd_0 : decode cX2_numberEnd 0 = .ok (.iload_n 1, 1) := dk_27 (dk_at dksX2_numberEnd_0 0 rfl rfl)
theorem dX2_numberEnd_1 : decode cX2_numberEnd 1 = .ok (.ifCond .ge 5, 3) := dk_156 0 5 (dk_at dksX2_numberEnd_0 1 rfl rfl)
theorem dX2_numberEnd_4 : decode cX2_numberEnd 4 = .ok (.iload_n 1, 1) := dk_27 (dk_at dksX2_numberEnd_0 4 rfl rfl)
theorem dX2_numberEnd_5 : decode cX2_numberEnd 5 = .ok (.ireturn, 1) := dk_172 (dk_at dksX2_numberEnd_0 5 rfl rfl)
theorem dX2_numberEnd_6 : decode cX2_numberEnd 6 = .ok (.aload_n 0, 1) := dk_42 (dk_at dksX2_numberEnd_0 6 rfl rfl)
theorem dX2_numberEnd_7 : decode cX2_numberEnd 7 = .ok (.iload_n 1, 1) := dk_27 (dk_at dksX2_numberEnd_0 7 rfl rfl)
theorem dX2_numberEnd_8 : decode cX2_numberEnd 8 = .ok (.invokevirtual 153, 3) := dk_182 0 153 (dk_at dksX2_numberEnd_0 8 rfl rfl)
theorem dX2_numberEnd_11 : decode cX2_numberEnd 11 = .ok (.istore 4, 2) := dk_54 4 (dk_at dksX2_numberEnd_0 11 rfl rfl)
theorem dX2_numberEnd_13 : decode cX2_numberEnd 13 = .ok (.iload 4, 2) := dk_21 4 (dk_at dksX2_numberEnd_0 13 rfl rfl)
theorem dX2_numberEnd_15 : decode cX2_numberEnd 15 = .ok (.iload_n 2, 1) := dk_28 (dk_at dksX2_numberEnd_0 15 rfl rfl)
theorem dX2_numberEnd_16 : decode cX2_numberEnd 16 = .ok (.if_icmp .ge 7, 3) := dk_162 0 7 (dk_at dksX2_numberEnd_0 16 rfl rfl)
theorem dX2_numberEnd_19 : decode cX2_numberEnd 19 = .ok (.iconst (-1), 1) := dk_2 (dk_at dksX2_numberEnd_0 19 rfl rfl)
theorem dX2_numberEnd_20 : decode cX2_numberEnd 20 = .ok (.iload_n 1, 1) := dk_27 (dk_at dksX2_numberEnd_0 20 rfl rfl)
theorem dX2_numberEnd_21 : decode cX2_numberEnd 21 = .ok (.isub, 1) := dk_100 (dk_at dksX2_numberEnd_0 21 rfl rfl)
theorem dX2_numberEnd_22 : decode cX2_numberEnd 22 = .ok (.ireturn, 1) := dk_172 (dk_at dksX2_numberEnd_0 22 rfl rfl)
theorem dX2_numberEnd_23 : decode cX2_numberEnd 23 = .ok (.iload_n 1, 1) := dk_27 (dk_at dksX2_numberEnd_0 23 rfl rfl)
theorem dX2_numberEnd_24 : decode cX2_numberEnd 24 = .ok (.iconst 1, 1) := dk_4 (dk_at dksX2_numberEnd_1 0 rfl rfl)
theorem dX2_numberEnd_25 : decode cX2_numberEnd 25 = .ok (.iadd, 1) := dk_96 (dk_at dksX2_numberEnd_1 1 rfl rfl)
theorem dX2_numberEnd_26 : decode cX2_numberEnd 26 = .ok (.istore 5, 2) := dk_54 5 (dk_at dksX2_numberEnd_1 2 rfl rfl)
theorem dX2_numberEnd_28 : decode cX2_numberEnd 28 = .ok (.iload 4, 2) := dk_21 4 (dk_at dksX2_numberEnd_1 4 rfl rfl)
theorem dX2_numberEnd_30 : decode cX2_numberEnd 30 = .ok (.ifCond .le 48, 3) := dk_158 0 48 (dk_at dksX2_numberEnd_1 6 rfl rfl)
theorem dX2_numberEnd_33 : decode cX2_numberEnd 33 = .ok (.aload_n 0, 1) := dk_42 (dk_at dksX2_numberEnd_1 9 rfl rfl)
theorem dX2_numberEnd_34 : decode cX2_numberEnd 34 = .ok (.iload 5, 2) := dk_21 5 (dk_at dksX2_numberEnd_1 10 rfl rfl)
theorem dX2_numberEnd_36 : decode cX2_numberEnd 36 = .ok (.invokevirtual 153, 3) := dk_182 0 153 (dk_at dksX2_numberEnd_1 12 rfl rfl)
theorem dX2_numberEnd_39 : decode cX2_numberEnd 39 = .ok (.ifCond .lt 39, 3) := dk_155 0 39 (dk_at dksX2_numberEnd_1 15 rfl rfl)
theorem dX2_numberEnd_42 : decode cX2_numberEnd 42 = .ok (.bipush 10, 2) := dk_16 10 (dk_at dksX2_numberEnd_1 18 rfl rfl)
theorem dX2_numberEnd_44 : decode cX2_numberEnd 44 = .ok (.iload 4, 2) := dk_21 4 (dk_at dksX2_numberEnd_1 20 rfl rfl)
theorem dX2_numberEnd_46 : decode cX2_numberEnd 46 = .ok (.imul, 1) := dk_104 (dk_at dksX2_numberEnd_1 22 rfl rfl)
theorem dX2_numberEnd_47 : decode cX2_numberEnd 47 = .ok (.aload_n 0, 1) := dk_42 (dk_at dksX2_numberEnd_1 23 rfl rfl)
theorem dX2_numberEnd_48 : decode cX2_numberEnd 48 = .ok (.iload 5, 2) := dk_21 5 (dk_at dksX2_numberEnd_2 0 rfl rfl)
theorem dX2_numberEnd_50 : decode cX2_numberEnd 50 = .ok (.invokevirtual 153, 3) := dk_182 0 153 (dk_at dksX2_numberEnd_2 2 rfl rfl)
theorem dX2_numberEnd_53 : decode cX2_numberEnd 53 = .ok (.iadd, 1) := dk_96 (dk_at dksX2_numberEnd_2 5 rfl rfl)
theorem dX2_numberEnd_54 : decode cX2_numberEnd 54 = .ok (.iload_n 3, 1) := dk_29 (dk_at dksX2_numberEnd_2 6 rfl rfl)
theorem dX2_numberEnd_55 : decode cX2_numberEnd 55 = .ok (.if_icmp .gt 23, 3) := dk_163 0 23 (dk_at dksX2_numberEnd_2 7 rfl rfl)
theorem dX2_numberEnd_58 : decode cX2_numberEnd 58 = .ok (.bipush 10, 2) := dk_16 10 (dk_at dksX2_numberEnd_2 10 rfl rfl)
theorem dX2_numberEnd_60 : decode cX2_numberEnd 60 = .ok (.iload 4, 2) := dk_21 4 (dk_at dksX2_numberEnd_2 12 rfl rfl)
theorem dX2_numberEnd_62 : decode cX2_numberEnd 62 = .ok (.imul, 1) := dk_104 (dk_at dksX2_numberEnd_2 14 rfl rfl)
theorem dX2_numberEnd_63 : decode cX2_numberEnd 63 = .ok (.aload_n 0, 1) := dk_42 (dk_at dksX2_numberEnd_2 15 rfl rfl)
theorem dX2_numberEnd_64 : decode cX2_numberEnd 64 = .ok (.iload 5, 2) := dk_21 5 (dk_at dksX2_numberEnd_2 16 rfl rfl)
theorem dX2_numberEnd_66 : decode cX2_numberEnd 66 = .ok (.invokevirtual 153, 3) := dk_182 0 153 (dk_at dksX2_numberEnd_2 18 rfl rfl)
theorem dX2_numberEnd_69 : decode cX2_numberEnd 69 = .ok (.iadd, 1) := dk_96 (dk_at dksX2_numberEnd_2 21 rfl rfl)
theorem dX2_numberEnd_70 : decode cX2_numberEnd 70 = .ok (.istore 4, 2) := dk_54 4 (dk_at dksX2_numberEnd_2 22 rfl rfl)
theorem dX2_numberEnd_72 : decode cX2_numberEnd 72 = .ok (.iinc 5 1, 3) := dk_132 5 1 (dk_at dksX2_numberEnd_3 0 rfl rfl)
theorem dX2_numberEnd_75 : decode cX2_numberEnd 75 = .ok (.goto (-47), 3) := dk_167 255 209 (dk_at dksX2_numberEnd_3 3 rfl rfl)
theorem dX2_numberEnd_78 : decode cX2_numberEnd 78 = .ok (.iload 5, 2) := dk_21 5 (dk_at dksX2_numberEnd_3 6 rfl rfl)
theorem dX2_numberEnd_80 : decode cX2_numberEnd 80 = .ok (.ireturn, 1) := dk_172 (dk_at dksX2_numberEnd_3 8 rfl rfl)
abbrev cX2_digit : ByteArray := prog_13_method_47_code
def yX2_digit : MethodName := ⟨RX2, "digit", "(I)I"⟩
def dkwX2_digit_1 : List UInt8 := [167, 0, 4, 2, 172]
abbrev dktX2_digit_1 : List UInt8 := dkwX2_digit_1 ++ []
def dkwX2_digit_0 : List UInt8 := [42, 27, 182, 0, 150, 16, 48, 16, 57, 184, 0, 40, 153, 0, 14, 42, 27, 182, 0, 150, 16, 48, 100]
abbrev dktX2_digit_0 : List UInt8 := dkwX2_digit_0 ++ dktX2_digit_1
theorem dksX2_digit_0 : cX2_digit.data.toList.drop 0 = dktX2_digit_0 := by decide +kernel
theorem dksX2_digit_1 : cX2_digit.data.toList.drop 23 = dktX2_digit_1 := dk_seg dksX2_digit_0 23 rfl rfl
theorem dX2_digit_0 : decode cX2_digit 0 = .ok (.aload_n 0, 1) := dk_42 (dk_at dksX2_digit_0 0 rfl rfl)
theorem dX2_digit_1 : decode cX2_digit 1 = .ok (.iload_n 1, 1) := dk_27 (dk_at dksX2_digit_0 1 rfl rfl)
theorem dX2_digit_2 : decode cX2_digit 2 = .ok (.invokevirtual 150, 3) := dk_182 0 150 (dk_at dksX2_digit_0 2 rfl rfl)
theorem dX2_digit_5 : decode cX2_digit 5 = .ok (.bipush 48, 2) := dk_16 48 (dk_at dksX2_digit_0 5 rfl rfl)
theorem dX2_digit_7 : decode cX2_digit 7 = .ok (.bipush 57, 2) := dk_16 57 (dk_at dksX2_digit_0 7 rfl rfl)
theorem dX2_digit_9 : decode cX2_digit 9 = .ok (.invokestatic 40, 3) := dk_184 0 40 (dk_at dksX2_digit_0 9 rfl rfl)
theorem dX2_digit_12 : decode cX2_digit 12 = .ok (.ifCond .eq 14, 3) := dk_153 0 14 (dk_at dksX2_digit_0 12 rfl rfl)
theorem dX2_digit_15 : decode cX2_digit 15 = .ok (.aload_n 0, 1) := dk_42 (dk_at dksX2_digit_0 15 rfl rfl)
theorem dX2_digit_16 : decode cX2_digit 16 = .ok (.iload_n 1, 1) := dk_27 (dk_at dksX2_digit_0 16 rfl rfl)
theorem dX2_digit_17 : decode cX2_digit 17 = .ok (.invokevirtual 150, 3) := dk_182 0 150 (dk_at dksX2_digit_0 17 rfl rfl)
theorem dX2_digit_20 : decode cX2_digit 20 = .ok (.bipush 48, 2) := dk_16 48 (dk_at dksX2_digit_0 20 rfl rfl)
theorem dX2_digit_22 : decode cX2_digit 22 = .ok (.isub, 1) := dk_100 (dk_at dksX2_digit_0 22 rfl rfl)
theorem dX2_digit_23 : decode cX2_digit 23 = .ok (.goto 4, 3) := dk_167 0 4 (dk_at dksX2_digit_1 0 rfl rfl)
theorem dX2_digit_26 : decode cX2_digit 26 = .ok (.iconst (-1), 1) := dk_2 (dk_at dksX2_digit_1 3 rfl rfl)
theorem dX2_digit_27 : decode cX2_digit 27 = .ok (.ireturn, 1) := dk_172 (dk_at dksX2_digit_1 4 rfl rfl)
abbrev cX2_behind : ByteArray := prog_13_method_50_code
def yX2_behind : MethodName := ⟨RX2, "behind", "(II)I"⟩
def dkwX2_behind_1 : List UInt8 := [27, 100, 172]
abbrev dktX2_behind_1 : List UInt8 := dkwX2_behind_1 ++ []
def dkwX2_behind_0 : List UInt8 := [27, 156, 0, 7, 27, 167, 0, 21, 42, 27, 182, 0, 150, 28, 160, 0, 9, 27, 4, 96, 167, 0, 6, 2]
abbrev dktX2_behind_0 : List UInt8 := dkwX2_behind_0 ++ dktX2_behind_1
theorem dksX2_behind_0 : cX2_behind.data.toList.drop 0 = dktX2_behind_0 := by decide +kernel
theorem dksX2_behind_1 : cX2_behind.data.toList.drop 24 = dktX2_behind_1 := dk_seg dksX2_behind_0 24 rfl rfl
theorem dX2_behind_0 : decode cX2_behind 0 = .ok (.iload_n 1, 1) := dk_27 (dk_at dksX2_behind_0 0 rfl rfl)
theorem dX2_behind_1 : decode cX2_behind 1 = .ok (.ifCond .ge 7, 3) := dk_156 0 7 (dk_at dksX2_behind_0 1 rfl rfl)
theorem dX2_behind_4 : decode cX2_behind 4 = .ok (.iload_n 1, 1) := dk_27 (dk_at dksX2_behind_0 4 rfl rfl)
theorem dX2_behind_5 : decode cX2_behind 5 = .ok (.goto 21, 3) := dk_167 0 21 (dk_at dksX2_behind_0 5 rfl rfl)
theorem dX2_behind_8 : decode cX2_behind 8 = .ok (.aload_n 0, 1) := dk_42 (dk_at dksX2_behind_0 8 rfl rfl)
theorem dX2_behind_9 : decode cX2_behind 9 = .ok (.iload_n 1, 1) := dk_27 (dk_at dksX2_behind_0 9 rfl rfl)
theorem dX2_behind_10 : decode cX2_behind 10 = .ok (.invokevirtual 150, 3) := dk_182 0 150 (dk_at dksX2_behind_0 10 rfl rfl)
theorem dX2_behind_13 : decode cX2_behind 13 = .ok (.iload_n 2, 1) := dk_28 (dk_at dksX2_behind_0 13 rfl rfl)
theorem dX2_behind_14 : decode cX2_behind 14 = .ok (.if_icmp .ne 9, 3) := dk_160 0 9 (dk_at dksX2_behind_0 14 rfl rfl)
theorem dX2_behind_17 : decode cX2_behind 17 = .ok (.iload_n 1, 1) := dk_27 (dk_at dksX2_behind_0 17 rfl rfl)
theorem dX2_behind_18 : decode cX2_behind 18 = .ok (.iconst 1, 1) := dk_4 (dk_at dksX2_behind_0 18 rfl rfl)
theorem dX2_behind_19 : decode cX2_behind 19 = .ok (.iadd, 1) := dk_96 (dk_at dksX2_behind_0 19 rfl rfl)
theorem dX2_behind_20 : decode cX2_behind 20 = .ok (.goto 6, 3) := dk_167 0 6 (dk_at dksX2_behind_0 20 rfl rfl)
theorem dX2_behind_23 : decode cX2_behind 23 = .ok (.iconst (-1), 1) := dk_2 (dk_at dksX2_behind_0 23 rfl rfl)
theorem dX2_behind_24 : decode cX2_behind 24 = .ok (.iload_n 1, 1) := dk_27 (dk_at dksX2_behind_1 0 rfl rfl)
theorem dX2_behind_25 : decode cX2_behind 25 = .ok (.isub, 1) := dk_100 (dk_at dksX2_behind_1 1 rfl rfl)
theorem dX2_behind_26 : decode cX2_behind 26 = .ok (.ireturn, 1) := dk_172 (dk_at dksX2_behind_1 2 rfl rfl)
abbrev cX2_play : ByteArray := prog_13_method_56_code
def yX2_play : MethodName := ⟨RX2, "play", "()I"⟩
def dkwX2_play_4 : List UInt8 := [181, 0, 147, 27, 172]
abbrev dktX2_play_4 : List UInt8 := dkwX2_play_4 ++ []
def dkwX2_play_3 : List UInt8 := [180, 0, 23, 5, 28, 79, 167, 0, 12, 132, 1, 1, 42, 28, 182, 0, 162, 61, 167, 255, 193, 42, 3]
abbrev dktX2_play_3 : List UInt8 := dkwX2_play_3 ++ dktX2_play_4
def dkwX2_play_2 : List UInt8 := [29, 156, 0, 32, 42, 4, 181, 0, 174, 42, 180, 0, 23, 3, 29, 79, 42, 180, 0, 23, 4, 27, 79, 42]
abbrev dktX2_play_2 : List UInt8 := dkwX2_play_2 ++ dktX2_play_3
def dkwX2_play_1 : List UInt8 := [181, 0, 174, 28, 42, 180, 0, 147, 162, 0, 61, 42, 180, 0, 174, 154, 0, 54, 42, 28, 182, 0, 178, 62]
abbrev dktX2_play_1 : List UInt8 := dkwX2_play_1 ++ dktX2_play_2
def dkwX2_play_0 : List UInt8 := [42, 3, 182, 0, 165, 16, 252, 159, 0, 6, 16, 254, 172, 42, 182, 0, 110, 3, 60, 3, 61, 42, 3]
abbrev dktX2_play_0 : List UInt8 := dkwX2_play_0 ++ dktX2_play_1
theorem dksX2_play_0 : cX2_play.data.toList.drop 0 = dktX2_play_0 := by decide +kernel
theorem dksX2_play_1 : cX2_play.data.toList.drop 23 = dktX2_play_1 := dk_seg dksX2_play_0 23 rfl rfl
theorem dksX2_play_2 : cX2_play.data.toList.drop 47 = dktX2_play_2 := dk_seg dksX2_play_1 24 rfl rfl
theorem dksX2_play_3 : cX2_play.data.toList.drop 71 = dktX2_play_3 := dk_seg dksX2_play_2 24 rfl rfl
theorem dksX2_play_4 : cX2_play.data.toList.drop 94 = dktX2_play_4 := dk_seg dksX2_play_3 23 rfl rfl
theorem dX2_play_0 : decode cX2_play 0 = .ok (.aload_n 0, 1) := dk_42 (dk_at dksX2_play_0 0 rfl rfl)
theorem dX2_play_1 : decode cX2_play 1 = .ok (.iconst 0, 1) := dk_3 (dk_at dksX2_play_0 1 rfl rfl)
theorem dX2_play_2 : decode cX2_play 2 = .ok (.invokevirtual 165, 3) := dk_182 0 165 (dk_at dksX2_play_0 2 rfl rfl)
theorem dX2_play_5 : decode cX2_play 5 = .ok (.bipush (-4), 2) := dk_16 252 (dk_at dksX2_play_0 5 rfl rfl)
theorem dX2_play_7 : decode cX2_play 7 = .ok (.if_icmp .eq 6, 3) := dk_159 0 6 (dk_at dksX2_play_0 7 rfl rfl)
theorem dX2_play_10 : decode cX2_play 10 = .ok (.bipush (-2), 2) := dk_16 254 (dk_at dksX2_play_0 10 rfl rfl)
theorem dX2_play_12 : decode cX2_play 12 = .ok (.ireturn, 1) := dk_172 (dk_at dksX2_play_0 12 rfl rfl)
theorem dX2_play_13 : decode cX2_play 13 = .ok (.aload_n 0, 1) := dk_42 (dk_at dksX2_play_0 13 rfl rfl)
theorem dX2_play_14 : decode cX2_play 14 = .ok (.invokevirtual 110, 3) := dk_182 0 110 (dk_at dksX2_play_0 14 rfl rfl)
theorem dX2_play_17 : decode cX2_play 17 = .ok (.iconst 0, 1) := dk_3 (dk_at dksX2_play_0 17 rfl rfl)
theorem dX2_play_18 : decode cX2_play 18 = .ok (.istore_n 1, 1) := dk_60 (dk_at dksX2_play_0 18 rfl rfl)
theorem dX2_play_19 : decode cX2_play 19 = .ok (.iconst 0, 1) := dk_3 (dk_at dksX2_play_0 19 rfl rfl)
theorem dX2_play_20 : decode cX2_play 20 = .ok (.istore_n 2, 1) := dk_61 (dk_at dksX2_play_0 20 rfl rfl)
theorem dX2_play_21 : decode cX2_play 21 = .ok (.aload_n 0, 1) := dk_42 (dk_at dksX2_play_0 21 rfl rfl)
theorem dX2_play_22 : decode cX2_play 22 = .ok (.iconst 0, 1) := dk_3 (dk_at dksX2_play_0 22 rfl rfl)
theorem dX2_play_23 : decode cX2_play 23 = .ok (.putfield 174, 3) := dk_181 0 174 (dk_at dksX2_play_1 0 rfl rfl)
theorem dX2_play_26 : decode cX2_play 26 = .ok (.iload_n 2, 1) := dk_28 (dk_at dksX2_play_1 3 rfl rfl)
theorem dX2_play_27 : decode cX2_play 27 = .ok (.aload_n 0, 1) := dk_42 (dk_at dksX2_play_1 4 rfl rfl)
theorem dX2_play_28 : decode cX2_play 28 = .ok (.getfield 147, 3) := dk_180 0 147 (dk_at dksX2_play_1 5 rfl rfl)
theorem dX2_play_31 : decode cX2_play 31 = .ok (.if_icmp .ge 61, 3) := dk_162 0 61 (dk_at dksX2_play_1 8 rfl rfl)
theorem dX2_play_34 : decode cX2_play 34 = .ok (.aload_n 0, 1) := dk_42 (dk_at dksX2_play_1 11 rfl rfl)
theorem dX2_play_35 : decode cX2_play 35 = .ok (.getfield 174, 3) := dk_180 0 174 (dk_at dksX2_play_1 12 rfl rfl)
theorem dX2_play_38 : decode cX2_play 38 = .ok (.ifCond .ne 54, 3) := dk_154 0 54 (dk_at dksX2_play_1 15 rfl rfl)
theorem dX2_play_41 : decode cX2_play 41 = .ok (.aload_n 0, 1) := dk_42 (dk_at dksX2_play_1 18 rfl rfl)
theorem dX2_play_42 : decode cX2_play 42 = .ok (.iload_n 2, 1) := dk_28 (dk_at dksX2_play_1 19 rfl rfl)
theorem dX2_play_43 : decode cX2_play 43 = .ok (.invokevirtual 178, 3) := dk_182 0 178 (dk_at dksX2_play_1 20 rfl rfl)
theorem dX2_play_46 : decode cX2_play 46 = .ok (.istore_n 3, 1) := dk_62 (dk_at dksX2_play_1 23 rfl rfl)
theorem dX2_play_47 : decode cX2_play 47 = .ok (.iload_n 3, 1) := dk_29 (dk_at dksX2_play_2 0 rfl rfl)
theorem dX2_play_48 : decode cX2_play 48 = .ok (.ifCond .ge 32, 3) := dk_156 0 32 (dk_at dksX2_play_2 1 rfl rfl)
theorem dX2_play_51 : decode cX2_play 51 = .ok (.aload_n 0, 1) := dk_42 (dk_at dksX2_play_2 4 rfl rfl)
theorem dX2_play_52 : decode cX2_play 52 = .ok (.iconst 1, 1) := dk_4 (dk_at dksX2_play_2 5 rfl rfl)
theorem dX2_play_53 : decode cX2_play 53 = .ok (.putfield 174, 3) := dk_181 0 174 (dk_at dksX2_play_2 6 rfl rfl)
theorem dX2_play_56 : decode cX2_play 56 = .ok (.aload_n 0, 1) := dk_42 (dk_at dksX2_play_2 9 rfl rfl)
theorem dX2_play_57 : decode cX2_play 57 = .ok (.getfield 23, 3) := dk_180 0 23 (dk_at dksX2_play_2 10 rfl rfl)
theorem dX2_play_60 : decode cX2_play 60 = .ok (.iconst 0, 1) := dk_3 (dk_at dksX2_play_2 13 rfl rfl)
theorem dX2_play_61 : decode cX2_play 61 = .ok (.iload_n 3, 1) := dk_29 (dk_at dksX2_play_2 14 rfl rfl)
theorem dX2_play_62 : decode cX2_play 62 = .ok (.iastore, 1) := dk_79 (dk_at dksX2_play_2 15 rfl rfl)
theorem dX2_play_63 : decode cX2_play 63 = .ok (.aload_n 0, 1) := dk_42 (dk_at dksX2_play_2 16 rfl rfl)
theorem dX2_play_64 : decode cX2_play 64 = .ok (.getfield 23, 3) := dk_180 0 23 (dk_at dksX2_play_2 17 rfl rfl)
theorem dX2_play_67 : decode cX2_play 67 = .ok (.iconst 1, 1) := dk_4 (dk_at dksX2_play_2 20 rfl rfl)
theorem dX2_play_68 : decode cX2_play 68 = .ok (.iload_n 1, 1) := dk_27 (dk_at dksX2_play_2 21 rfl rfl)
theorem dX2_play_69 : decode cX2_play 69 = .ok (.iastore, 1) := dk_79 (dk_at dksX2_play_2 22 rfl rfl)
theorem dX2_play_70 : decode cX2_play 70 = .ok (.aload_n 0, 1) := dk_42 (dk_at dksX2_play_2 23 rfl rfl)
theorem dX2_play_71 : decode cX2_play 71 = .ok (.getfield 23, 3) := dk_180 0 23 (dk_at dksX2_play_3 0 rfl rfl)
theorem dX2_play_74 : decode cX2_play 74 = .ok (.iconst 2, 1) := dk_5 (dk_at dksX2_play_3 3 rfl rfl)
theorem dX2_play_75 : decode cX2_play 75 = .ok (.iload_n 2, 1) := dk_28 (dk_at dksX2_play_3 4 rfl rfl)
theorem dX2_play_76 : decode cX2_play 76 = .ok (.iastore, 1) := dk_79 (dk_at dksX2_play_3 5 rfl rfl)
theorem dX2_play_77 : decode cX2_play 77 = .ok (.goto 12, 3) := dk_167 0 12 (dk_at dksX2_play_3 6 rfl rfl)
theorem dX2_play_80 : decode cX2_play 80 = .ok (.iinc 1 1, 3) := dk_132 1 1 (dk_at dksX2_play_3 9 rfl rfl)
theorem dX2_play_83 : decode cX2_play 83 = .ok (.aload_n 0, 1) := dk_42 (dk_at dksX2_play_3 12 rfl rfl)
theorem dX2_play_84 : decode cX2_play 84 = .ok (.iload_n 2, 1) := dk_28 (dk_at dksX2_play_3 13 rfl rfl)
theorem dX2_play_85 : decode cX2_play 85 = .ok (.invokevirtual 162, 3) := dk_182 0 162 (dk_at dksX2_play_3 14 rfl rfl)
theorem dX2_play_88 : decode cX2_play 88 = .ok (.istore_n 2, 1) := dk_61 (dk_at dksX2_play_3 17 rfl rfl)
theorem dX2_play_89 : decode cX2_play 89 = .ok (.goto (-63), 3) := dk_167 255 193 (dk_at dksX2_play_3 18 rfl rfl)
theorem dX2_play_92 : decode cX2_play 92 = .ok (.aload_n 0, 1) := dk_42 (dk_at dksX2_play_3 21 rfl rfl)
theorem dX2_play_93 : decode cX2_play 93 = .ok (.iconst 0, 1) := dk_3 (dk_at dksX2_play_3 22 rfl rfl)
theorem dX2_play_94 : decode cX2_play 94 = .ok (.putfield 147, 3) := dk_181 0 147 (dk_at dksX2_play_4 0 rfl rfl)
theorem dX2_play_97 : decode cX2_play 97 = .ok (.iload_n 1, 1) := dk_27 (dk_at dksX2_play_4 3 rfl rfl)
theorem dX2_play_98 : decode cX2_play 98 = .ok (.ireturn, 1) := dk_172 (dk_at dksX2_play_4 4 rfl rfl)
abbrev cX2_carries : ByteArray := prog_13_method_54_code
def yX2_carries : MethodName := ⟨RX2, "carries", "(I)I"⟩
def dkwX2_carries_5 : List UInt8 := [29, 172]
abbrev dktX2_carries_5 : List UInt8 := dkwX2_carries_5 ++ []
def dkwX2_carries_4 : List UInt8 := [182, 0, 168, 182, 0, 122, 62, 167, 0, 5, 3, 62, 29, 154, 0, 11, 42, 27, 28, 182, 0, 171, 54, 4]
abbrev dktX2_carries_4 : List UInt8 := dkwX2_carries_4 ++ dktX2_carries_5
def dkwX2_carries_3 : List UInt8 := [42, 182, 0, 137, 62, 167, 0, 30, 42, 28, 42, 42, 27, 4, 96, 3, 16, 99, 182, 0, 156, 4, 96]
abbrev dktX2_carries_3 : List UInt8 := dkwX2_carries_3 ++ dktX2_carries_4
def dkwX2_carries_2 : List UInt8 := [42, 182, 0, 107, 62, 167, 0, 54, 42, 182, 0, 116, 62, 167, 0, 46, 42, 182, 0, 131, 62, 167, 0, 38]
abbrev dktX2_carries_2 : List UInt8 := dkwX2_carries_2 ++ dktX2_carries_3
def dkwX2_carries_1 : List UInt8 := [171, 0, 0, 0, 0, 107, 0, 0, 0, 5, 0, 0, 0, 104, 0, 0, 0, 82, 0, 0, 0, 112, 0, 0, 0, 50, 0, 0, 0, 115, 0, 0, 0, 58, 0, 0, 0, 120, 0, 0, 0, 66, 0, 0, 0, 121, 0, 0, 0, 74]
abbrev dktX2_carries_1 : List UInt8 := dkwX2_carries_1 ++ dktX2_carries_2
def dkwX2_carries_0 : List UInt8 := [42, 27, 4, 96, 182, 0, 168, 61, 3, 62, 3, 54, 4, 42, 27, 182, 0, 150]
abbrev dktX2_carries_0 : List UInt8 := dkwX2_carries_0 ++ dktX2_carries_1
theorem dksX2_carries_0 : cX2_carries.data.toList.drop 0 = dktX2_carries_0 := by decide +kernel
theorem dksX2_carries_1 : cX2_carries.data.toList.drop 18 = dktX2_carries_1 := dk_seg dksX2_carries_0 18 rfl rfl
theorem dksX2_carries_2 : cX2_carries.data.toList.drop 68 = dktX2_carries_2 := dk_seg dksX2_carries_1 50 rfl rfl
theorem dksX2_carries_3 : cX2_carries.data.toList.drop 92 = dktX2_carries_3 := dk_seg dksX2_carries_2 24 rfl rfl
theorem dksX2_carries_4 : cX2_carries.data.toList.drop 115 = dktX2_carries_4 := dk_seg dksX2_carries_3 23 rfl rfl
theorem dksX2_carries_5 : cX2_carries.data.toList.drop 139 = dktX2_carries_5 := dk_seg dksX2_carries_4 24 rfl rfl
theorem dX2_carries_0 : decode cX2_carries 0 = .ok (.aload_n 0, 1) := dk_42 (dk_at dksX2_carries_0 0 rfl rfl)
theorem dX2_carries_1 : decode cX2_carries 1 = .ok (.iload_n 1, 1) := dk_27 (dk_at dksX2_carries_0 1 rfl rfl)
theorem dX2_carries_2 : decode cX2_carries 2 = .ok (.iconst 1, 1) := dk_4 (dk_at dksX2_carries_0 2 rfl rfl)
theorem dX2_carries_3 : decode cX2_carries 3 = .ok (.iadd, 1) := dk_96 (dk_at dksX2_carries_0 3 rfl rfl)
theorem dX2_carries_4 : decode cX2_carries 4 = .ok (.invokevirtual 168, 3) := dk_182 0 168 (dk_at dksX2_carries_0 4 rfl rfl)
theorem dX2_carries_7 : decode cX2_carries 7 = .ok (.istore_n 2, 1) := dk_61 (dk_at dksX2_carries_0 7 rfl rfl)
theorem dX2_carries_8 : decode cX2_carries 8 = .ok (.iconst 0, 1) := dk_3 (dk_at dksX2_carries_0 8 rfl rfl)
theorem dX2_carries_9 : decode cX2_carries 9 = .ok (.istore_n 3, 1) := dk_62 (dk_at dksX2_carries_0 9 rfl rfl)
theorem dX2_carries_10 : decode cX2_carries 10 = .ok (.iconst 0, 1) := dk_3 (dk_at dksX2_carries_0 10 rfl rfl)
theorem dX2_carries_11 : decode cX2_carries 11 = .ok (.istore 4, 2) := dk_54 4 (dk_at dksX2_carries_0 11 rfl rfl)
theorem dX2_carries_13 : decode cX2_carries 13 = .ok (.aload_n 0, 1) := dk_42 (dk_at dksX2_carries_0 13 rfl rfl)
theorem dX2_carries_14 : decode cX2_carries 14 = .ok (.iload_n 1, 1) := dk_27 (dk_at dksX2_carries_0 14 rfl rfl)
theorem dX2_carries_15 : decode cX2_carries 15 = .ok (.invokevirtual 150, 3) := dk_182 0 150 (dk_at dksX2_carries_0 15 rfl rfl)
theorem dX2_carries_18 : decode cX2_carries 18 = .ok (.lookupswitch 107 #[(104, 82), (112, 50), (115, 58), (120, 66), (121, 74)], 50) := by decide +kernel
theorem dX2_carries_68 : decode cX2_carries 68 = .ok (.aload_n 0, 1) := dk_42 (dk_at dksX2_carries_2 0 rfl rfl)
theorem dX2_carries_69 : decode cX2_carries 69 = .ok (.invokevirtual 107, 3) := dk_182 0 107 (dk_at dksX2_carries_2 1 rfl rfl)
theorem dX2_carries_72 : decode cX2_carries 72 = .ok (.istore_n 3, 1) := dk_62 (dk_at dksX2_carries_2 4 rfl rfl)
theorem dX2_carries_73 : decode cX2_carries 73 = .ok (.goto 54, 3) := dk_167 0 54 (dk_at dksX2_carries_2 5 rfl rfl)
theorem dX2_carries_76 : decode cX2_carries 76 = .ok (.aload_n 0, 1) := dk_42 (dk_at dksX2_carries_2 8 rfl rfl)
theorem dX2_carries_77 : decode cX2_carries 77 = .ok (.invokevirtual 116, 3) := dk_182 0 116 (dk_at dksX2_carries_2 9 rfl rfl)
theorem dX2_carries_80 : decode cX2_carries 80 = .ok (.istore_n 3, 1) := dk_62 (dk_at dksX2_carries_2 12 rfl rfl)
theorem dX2_carries_81 : decode cX2_carries 81 = .ok (.goto 46, 3) := dk_167 0 46 (dk_at dksX2_carries_2 13 rfl rfl)
theorem dX2_carries_84 : decode cX2_carries 84 = .ok (.aload_n 0, 1) := dk_42 (dk_at dksX2_carries_2 16 rfl rfl)
theorem dX2_carries_85 : decode cX2_carries 85 = .ok (.invokevirtual 131, 3) := dk_182 0 131 (dk_at dksX2_carries_2 17 rfl rfl)
theorem dX2_carries_88 : decode cX2_carries 88 = .ok (.istore_n 3, 1) := dk_62 (dk_at dksX2_carries_2 20 rfl rfl)
theorem dX2_carries_89 : decode cX2_carries 89 = .ok (.goto 38, 3) := dk_167 0 38 (dk_at dksX2_carries_2 21 rfl rfl)
theorem dX2_carries_92 : decode cX2_carries 92 = .ok (.aload_n 0, 1) := dk_42 (dk_at dksX2_carries_3 0 rfl rfl)
theorem dX2_carries_93 : decode cX2_carries 93 = .ok (.invokevirtual 137, 3) := dk_182 0 137 (dk_at dksX2_carries_3 1 rfl rfl)
theorem dX2_carries_96 : decode cX2_carries 96 = .ok (.istore_n 3, 1) := dk_62 (dk_at dksX2_carries_3 4 rfl rfl)
theorem dX2_carries_97 : decode cX2_carries 97 = .ok (.goto 30, 3) := dk_167 0 30 (dk_at dksX2_carries_3 5 rfl rfl)
theorem dX2_carries_100 : decode cX2_carries 100 = .ok (.aload_n 0, 1) := dk_42 (dk_at dksX2_carries_3 8 rfl rfl)
theorem dX2_carries_101 : decode cX2_carries 101 = .ok (.iload_n 2, 1) := dk_28 (dk_at dksX2_carries_3 9 rfl rfl)
theorem dX2_carries_102 : decode cX2_carries 102 = .ok (.aload_n 0, 1) := dk_42 (dk_at dksX2_carries_3 10 rfl rfl)
theorem dX2_carries_103 : decode cX2_carries 103 = .ok (.aload_n 0, 1) := dk_42 (dk_at dksX2_carries_3 11 rfl rfl)
theorem dX2_carries_104 : decode cX2_carries 104 = .ok (.iload_n 1, 1) := dk_27 (dk_at dksX2_carries_3 12 rfl rfl)
theorem dX2_carries_105 : decode cX2_carries 105 = .ok (.iconst 1, 1) := dk_4 (dk_at dksX2_carries_3 13 rfl rfl)
theorem dX2_carries_106 : decode cX2_carries 106 = .ok (.iadd, 1) := dk_96 (dk_at dksX2_carries_3 14 rfl rfl)
theorem dX2_carries_107 : decode cX2_carries 107 = .ok (.iconst 0, 1) := dk_3 (dk_at dksX2_carries_3 15 rfl rfl)
theorem dX2_carries_108 : decode cX2_carries 108 = .ok (.bipush 99, 2) := dk_16 99 (dk_at dksX2_carries_3 16 rfl rfl)
theorem dX2_carries_110 : decode cX2_carries 110 = .ok (.invokevirtual 156, 3) := dk_182 0 156 (dk_at dksX2_carries_3 18 rfl rfl)
theorem dX2_carries_113 : decode cX2_carries 113 = .ok (.iconst 1, 1) := dk_4 (dk_at dksX2_carries_3 21 rfl rfl)
theorem dX2_carries_114 : decode cX2_carries 114 = .ok (.iadd, 1) := dk_96 (dk_at dksX2_carries_3 22 rfl rfl)
theorem dX2_carries_115 : decode cX2_carries 115 = .ok (.invokevirtual 168, 3) := dk_182 0 168 (dk_at dksX2_carries_4 0 rfl rfl)
theorem dX2_carries_118 : decode cX2_carries 118 = .ok (.invokevirtual 122, 3) := dk_182 0 122 (dk_at dksX2_carries_4 3 rfl rfl)
theorem dX2_carries_121 : decode cX2_carries 121 = .ok (.istore_n 3, 1) := dk_62 (dk_at dksX2_carries_4 6 rfl rfl)
theorem dX2_carries_122 : decode cX2_carries 122 = .ok (.goto 5, 3) := dk_167 0 5 (dk_at dksX2_carries_4 7 rfl rfl)
theorem dX2_carries_125 : decode cX2_carries 125 = .ok (.iconst 0, 1) := dk_3 (dk_at dksX2_carries_4 10 rfl rfl)
theorem dX2_carries_126 : decode cX2_carries 126 = .ok (.istore_n 3, 1) := dk_62 (dk_at dksX2_carries_4 11 rfl rfl)
theorem dX2_carries_127 : decode cX2_carries 127 = .ok (.iload_n 3, 1) := dk_29 (dk_at dksX2_carries_4 12 rfl rfl)
theorem dX2_carries_128 : decode cX2_carries 128 = .ok (.ifCond .ne 11, 3) := dk_154 0 11 (dk_at dksX2_carries_4 13 rfl rfl)
theorem dX2_carries_131 : decode cX2_carries 131 = .ok (.aload_n 0, 1) := dk_42 (dk_at dksX2_carries_4 16 rfl rfl)
theorem dX2_carries_132 : decode cX2_carries 132 = .ok (.iload_n 1, 1) := dk_27 (dk_at dksX2_carries_4 17 rfl rfl)
theorem dX2_carries_133 : decode cX2_carries 133 = .ok (.iload_n 2, 1) := dk_28 (dk_at dksX2_carries_4 18 rfl rfl)
theorem dX2_carries_134 : decode cX2_carries 134 = .ok (.invokevirtual 171, 3) := dk_182 0 171 (dk_at dksX2_carries_4 19 rfl rfl)
theorem dX2_carries_137 : decode cX2_carries 137 = .ok (.istore 4, 2) := dk_54 4 (dk_at dksX2_carries_4 22 rfl rfl)
theorem dX2_carries_139 : decode cX2_carries 139 = .ok (.iload_n 3, 1) := dk_29 (dk_at dksX2_carries_5 0 rfl rfl)
theorem dX2_carries_140 : decode cX2_carries 140 = .ok (.ireturn, 1) := dk_172 (dk_at dksX2_carries_5 1 rfl rfl)
abbrev cX2_numberAt : ByteArray := prog_13_method_49_code
def yX2_numberAt : MethodName := ⟨RX2, "numberAt", "(I)I"⟩
def dkwX2_numberAt_1 : List UInt8 := [132, 3, 1, 167, 255, 234, 28, 172]
abbrev dktX2_numberAt_1 : List UInt8 := dkwX2_numberAt_1 ++ []
def dkwX2_numberAt_0 : List UInt8 := [3, 61, 27, 62, 42, 29, 182, 0, 153, 155, 0, 20, 16, 10, 28, 104, 42, 29, 182, 0, 153, 96, 61]
abbrev dktX2_numberAt_0 : List UInt8 := dkwX2_numberAt_0 ++ dktX2_numberAt_1
theorem dksX2_numberAt_0 : cX2_numberAt.data.toList.drop 0 = dktX2_numberAt_0 := by decide +kernel
theorem dksX2_numberAt_1 : cX2_numberAt.data.toList.drop 23 = dktX2_numberAt_1 := dk_seg dksX2_numberAt_0 23 rfl rfl
theorem dX2_numberAt_0 : decode cX2_numberAt 0 = .ok (.iconst 0, 1) := dk_3 (dk_at dksX2_numberAt_0 0 rfl rfl)
theorem dX2_numberAt_1 : decode cX2_numberAt 1 = .ok (.istore_n 2, 1) := dk_61 (dk_at dksX2_numberAt_0 1 rfl rfl)
theorem dX2_numberAt_2 : decode cX2_numberAt 2 = .ok (.iload_n 1, 1) := dk_27 (dk_at dksX2_numberAt_0 2 rfl rfl)
theorem dX2_numberAt_3 : decode cX2_numberAt 3 = .ok (.istore_n 3, 1) := dk_62 (dk_at dksX2_numberAt_0 3 rfl rfl)
theorem dX2_numberAt_4 : decode cX2_numberAt 4 = .ok (.aload_n 0, 1) := dk_42 (dk_at dksX2_numberAt_0 4 rfl rfl)
theorem dX2_numberAt_5 : decode cX2_numberAt 5 = .ok (.iload_n 3, 1) := dk_29 (dk_at dksX2_numberAt_0 5 rfl rfl)
theorem dX2_numberAt_6 : decode cX2_numberAt 6 = .ok (.invokevirtual 153, 3) := dk_182 0 153 (dk_at dksX2_numberAt_0 6 rfl rfl)
theorem dX2_numberAt_9 : decode cX2_numberAt 9 = .ok (.ifCond .lt 20, 3) := dk_155 0 20 (dk_at dksX2_numberAt_0 9 rfl rfl)
theorem dX2_numberAt_12 : decode cX2_numberAt 12 = .ok (.bipush 10, 2) := dk_16 10 (dk_at dksX2_numberAt_0 12 rfl rfl)
theorem dX2_numberAt_14 : decode cX2_numberAt 14 = .ok (.iload_n 2, 1) := dk_28 (dk_at dksX2_numberAt_0 14 rfl rfl)
theorem dX2_numberAt_15 : decode cX2_numberAt 15 = .ok (.imul, 1) := dk_104 (dk_at dksX2_numberAt_0 15 rfl rfl)
theorem dX2_numberAt_16 : decode cX2_numberAt 16 = .ok (.aload_n 0, 1) := dk_42 (dk_at dksX2_numberAt_0 16 rfl rfl)
theorem dX2_numberAt_17 : decode cX2_numberAt 17 = .ok (.iload_n 3, 1) := dk_29 (dk_at dksX2_numberAt_0 17 rfl rfl)
theorem dX2_numberAt_18 : decode cX2_numberAt 18 = .ok (.invokevirtual 153, 3) := dk_182 0 153 (dk_at dksX2_numberAt_0 18 rfl rfl)
theorem dX2_numberAt_21 : decode cX2_numberAt 21 = .ok (.iadd, 1) := dk_96 (dk_at dksX2_numberAt_0 21 rfl rfl)
theorem dX2_numberAt_22 : decode cX2_numberAt 22 = .ok (.istore_n 2, 1) := dk_61 (dk_at dksX2_numberAt_0 22 rfl rfl)
theorem dX2_numberAt_23 : decode cX2_numberAt 23 = .ok (.iinc 3 1, 3) := dk_132 3 1 (dk_at dksX2_numberAt_1 0 rfl rfl)
theorem dX2_numberAt_26 : decode cX2_numberAt 26 = .ok (.goto (-22), 3) := dk_167 255 234 (dk_at dksX2_numberAt_1 3 rfl rfl)
theorem dX2_numberAt_29 : decode cX2_numberAt 29 = .ok (.iload_n 2, 1) := dk_28 (dk_at dksX2_numberAt_1 6 rfl rfl)
theorem dX2_numberAt_30 : decode cX2_numberAt 30 = .ok (.ireturn, 1) := dk_172 (dk_at dksX2_numberAt_1 7 rfl rfl)
abbrev cX2_goes : ByteArray := prog_13_method_55_code
def yX2_goes : MethodName := ⟨RX2, "goes", "(II)I"⟩
def dkwX2_goes_4 : List UInt8 := [182, 0, 128, 172, 42, 180, 0, 7, 5, 10, 42, 180, 0, 7, 5, 47, 101, 80, 3, 172]
abbrev dktX2_goes_4 : List UInt8 := dkwX2_goes_4 ++ []
def dkwX2_goes_3 : List UInt8 := [42, 28, 42, 42, 27, 4, 96, 3, 16, 99, 182, 0, 156, 4, 96, 182, 0, 168, 182, 0, 125, 172, 42, 28]
abbrev dktX2_goes_3 : List UInt8 := dkwX2_goes_3 ++ dktX2_goes_4
def dkwX2_goes_2 : List UInt8 := [42, 182, 0, 113, 3, 172, 42, 182, 0, 119, 3, 172, 42, 182, 0, 134, 3, 172, 42, 182, 0, 140, 3, 172]
abbrev dktX2_goes_2 : List UInt8 := dkwX2_goes_2 ++ dktX2_goes_3
def dkwX2_goes_1 : List UInt8 := [170, 0, 0, 0, 0, 0, 139, 0, 0, 0, 104, 0, 0, 0, 121, 0, 0, 0, 111, 0, 0, 0, 139, 0, 0, 0, 139, 0, 0, 0, 139, 0, 0, 0, 139, 0, 0, 0, 139, 0, 0, 0, 139, 0, 0, 0, 139, 0, 0, 0, 87, 0, 0, 0, 139, 0, 0, 0, 139, 0, 0, 0, 93, 0, 0, 0, 133, 0, 0, 0, 139, 0, 0, 0, 139, 0, 0, 0, 139, 0, 0, 0, 99, 0, 0, 0, 105]
abbrev dktX2_goes_1 : List UInt8 := dkwX2_goes_1 ++ dktX2_goes_2
def dkwX2_goes_0 : List UInt8 := [42, 27, 182, 0, 150]
abbrev dktX2_goes_0 : List UInt8 := dkwX2_goes_0 ++ dktX2_goes_1
theorem dksX2_goes_0 : cX2_goes.data.toList.drop 0 = dktX2_goes_0 := by decide +kernel
theorem dksX2_goes_1 : cX2_goes.data.toList.drop 5 = dktX2_goes_1 := dk_seg dksX2_goes_0 5 rfl rfl
theorem dksX2_goes_2 : cX2_goes.data.toList.drop 92 = dktX2_goes_2 := dk_seg dksX2_goes_1 87 rfl rfl
theorem dksX2_goes_3 : cX2_goes.data.toList.drop 116 = dktX2_goes_3 := dk_seg dksX2_goes_2 24 rfl rfl
theorem dksX2_goes_4 : cX2_goes.data.toList.drop 140 = dktX2_goes_4 := dk_seg dksX2_goes_3 24 rfl rfl
theorem dX2_goes_0 : decode cX2_goes 0 = .ok (.aload_n 0, 1) := dk_42 (dk_at dksX2_goes_0 0 rfl rfl)
theorem dX2_goes_1 : decode cX2_goes 1 = .ok (.iload_n 1, 1) := dk_27 (dk_at dksX2_goes_0 1 rfl rfl)
theorem dX2_goes_2 : decode cX2_goes 2 = .ok (.invokevirtual 150, 3) := dk_182 0 150 (dk_at dksX2_goes_0 2 rfl rfl)
theorem dX2_goes_5 : decode cX2_goes 5 = .ok (.tableswitch 139 104 121 #[111, 139, 139, 139, 139, 139, 139, 139, 87, 139, 139, 93, 133, 139, 139, 139, 99, 105], 87) := by decide +kernel
theorem dX2_goes_92 : decode cX2_goes 92 = .ok (.aload_n 0, 1) := dk_42 (dk_at dksX2_goes_2 0 rfl rfl)
theorem dX2_goes_93 : decode cX2_goes 93 = .ok (.invokevirtual 113, 3) := dk_182 0 113 (dk_at dksX2_goes_2 1 rfl rfl)
theorem dX2_goes_96 : decode cX2_goes 96 = .ok (.iconst 0, 1) := dk_3 (dk_at dksX2_goes_2 4 rfl rfl)
theorem dX2_goes_97 : decode cX2_goes 97 = .ok (.ireturn, 1) := dk_172 (dk_at dksX2_goes_2 5 rfl rfl)
theorem dX2_goes_98 : decode cX2_goes 98 = .ok (.aload_n 0, 1) := dk_42 (dk_at dksX2_goes_2 6 rfl rfl)
theorem dX2_goes_99 : decode cX2_goes 99 = .ok (.invokevirtual 119, 3) := dk_182 0 119 (dk_at dksX2_goes_2 7 rfl rfl)
theorem dX2_goes_102 : decode cX2_goes 102 = .ok (.iconst 0, 1) := dk_3 (dk_at dksX2_goes_2 10 rfl rfl)
theorem dX2_goes_103 : decode cX2_goes 103 = .ok (.ireturn, 1) := dk_172 (dk_at dksX2_goes_2 11 rfl rfl)
theorem dX2_goes_104 : decode cX2_goes 104 = .ok (.aload_n 0, 1) := dk_42 (dk_at dksX2_goes_2 12 rfl rfl)
theorem dX2_goes_105 : decode cX2_goes 105 = .ok (.invokevirtual 134, 3) := dk_182 0 134 (dk_at dksX2_goes_2 13 rfl rfl)
theorem dX2_goes_108 : decode cX2_goes 108 = .ok (.iconst 0, 1) := dk_3 (dk_at dksX2_goes_2 16 rfl rfl)
theorem dX2_goes_109 : decode cX2_goes 109 = .ok (.ireturn, 1) := dk_172 (dk_at dksX2_goes_2 17 rfl rfl)
theorem dX2_goes_110 : decode cX2_goes 110 = .ok (.aload_n 0, 1) := dk_42 (dk_at dksX2_goes_2 18 rfl rfl)
theorem dX2_goes_111 : decode cX2_goes 111 = .ok (.invokevirtual 140, 3) := dk_182 0 140 (dk_at dksX2_goes_2 19 rfl rfl)
theorem dX2_goes_114 : decode cX2_goes 114 = .ok (.iconst 0, 1) := dk_3 (dk_at dksX2_goes_2 22 rfl rfl)
theorem dX2_goes_115 : decode cX2_goes 115 = .ok (.ireturn, 1) := dk_172 (dk_at dksX2_goes_2 23 rfl rfl)
theorem dX2_goes_116 : decode cX2_goes 116 = .ok (.aload_n 0, 1) := dk_42 (dk_at dksX2_goes_3 0 rfl rfl)
theorem dX2_goes_117 : decode cX2_goes 117 = .ok (.iload_n 2, 1) := dk_28 (dk_at dksX2_goes_3 1 rfl rfl)
theorem dX2_goes_118 : decode cX2_goes 118 = .ok (.aload_n 0, 1) := dk_42 (dk_at dksX2_goes_3 2 rfl rfl)
theorem dX2_goes_119 : decode cX2_goes 119 = .ok (.aload_n 0, 1) := dk_42 (dk_at dksX2_goes_3 3 rfl rfl)
theorem dX2_goes_120 : decode cX2_goes 120 = .ok (.iload_n 1, 1) := dk_27 (dk_at dksX2_goes_3 4 rfl rfl)
theorem dX2_goes_121 : decode cX2_goes 121 = .ok (.iconst 1, 1) := dk_4 (dk_at dksX2_goes_3 5 rfl rfl)
theorem dX2_goes_122 : decode cX2_goes 122 = .ok (.iadd, 1) := dk_96 (dk_at dksX2_goes_3 6 rfl rfl)
theorem dX2_goes_123 : decode cX2_goes 123 = .ok (.iconst 0, 1) := dk_3 (dk_at dksX2_goes_3 7 rfl rfl)
theorem dX2_goes_124 : decode cX2_goes 124 = .ok (.bipush 99, 2) := dk_16 99 (dk_at dksX2_goes_3 8 rfl rfl)
theorem dX2_goes_126 : decode cX2_goes 126 = .ok (.invokevirtual 156, 3) := dk_182 0 156 (dk_at dksX2_goes_3 10 rfl rfl)
theorem dX2_goes_129 : decode cX2_goes 129 = .ok (.iconst 1, 1) := dk_4 (dk_at dksX2_goes_3 13 rfl rfl)
theorem dX2_goes_130 : decode cX2_goes 130 = .ok (.iadd, 1) := dk_96 (dk_at dksX2_goes_3 14 rfl rfl)
theorem dX2_goes_131 : decode cX2_goes 131 = .ok (.invokevirtual 168, 3) := dk_182 0 168 (dk_at dksX2_goes_3 15 rfl rfl)
theorem dX2_goes_134 : decode cX2_goes 134 = .ok (.invokevirtual 125, 3) := dk_182 0 125 (dk_at dksX2_goes_3 18 rfl rfl)
theorem dX2_goes_137 : decode cX2_goes 137 = .ok (.ireturn, 1) := dk_172 (dk_at dksX2_goes_3 21 rfl rfl)
theorem dX2_goes_138 : decode cX2_goes 138 = .ok (.aload_n 0, 1) := dk_42 (dk_at dksX2_goes_3 22 rfl rfl)
theorem dX2_goes_139 : decode cX2_goes 139 = .ok (.iload_n 2, 1) := dk_28 (dk_at dksX2_goes_3 23 rfl rfl)
theorem dX2_goes_140 : decode cX2_goes 140 = .ok (.invokevirtual 128, 3) := dk_182 0 128 (dk_at dksX2_goes_4 0 rfl rfl)
theorem dX2_goes_143 : decode cX2_goes 143 = .ok (.ireturn, 1) := dk_172 (dk_at dksX2_goes_4 3 rfl rfl)
theorem dX2_goes_144 : decode cX2_goes 144 = .ok (.aload_n 0, 1) := dk_42 (dk_at dksX2_goes_4 4 rfl rfl)
theorem dX2_goes_145 : decode cX2_goes 145 = .ok (.getfield 7, 3) := dk_180 0 7 (dk_at dksX2_goes_4 5 rfl rfl)
theorem dX2_goes_148 : decode cX2_goes 148 = .ok (.iconst 2, 1) := dk_5 (dk_at dksX2_goes_4 8 rfl rfl)
theorem dX2_goes_149 : decode cX2_goes 149 = .ok (.lconst 1, 1) := dk_10 (dk_at dksX2_goes_4 9 rfl rfl)
theorem dX2_goes_150 : decode cX2_goes 150 = .ok (.aload_n 0, 1) := dk_42 (dk_at dksX2_goes_4 10 rfl rfl)
theorem dX2_goes_151 : decode cX2_goes 151 = .ok (.getfield 7, 3) := dk_180 0 7 (dk_at dksX2_goes_4 11 rfl rfl)
theorem dX2_goes_154 : decode cX2_goes 154 = .ok (.iconst 2, 1) := dk_5 (dk_at dksX2_goes_4 14 rfl rfl)
theorem dX2_goes_155 : decode cX2_goes 155 = .ok (.laload, 1) := dk_47 (dk_at dksX2_goes_4 15 rfl rfl)
theorem dX2_goes_156 : decode cX2_goes 156 = .ok (.lsub, 1) := dk_101 (dk_at dksX2_goes_4 16 rfl rfl)
theorem dX2_goes_157 : decode cX2_goes 157 = .ok (.lastore, 1) := dk_80 (dk_at dksX2_goes_4 17 rfl rfl)
theorem dX2_goes_158 : decode cX2_goes 158 = .ok (.iconst 0, 1) := dk_3 (dk_at dksX2_goes_4 18 rfl rfl)
theorem dX2_goes_159 : decode cX2_goes 159 = .ok (.ireturn, 1) := dk_172 (dk_at dksX2_goes_4 19 rfl rfl)
abbrev cX2_why : ByteArray := prog_13_method_57_code
def yX2_why : MethodName := ⟨RX2, "why", "(I)I"⟩
def dkwX2_why_1 : List UInt8 := [27, 46, 167, 0, 5, 16, 252, 172]
abbrev dktX2_why_1 : List UInt8 := dkwX2_why_1 ++ []
def dkwX2_why_0 : List UInt8 := [27, 3, 5, 184, 0, 40, 154, 0, 7, 2, 167, 0, 21, 42, 180, 0, 174, 153, 0, 12, 42, 180, 0, 23]
abbrev dktX2_why_0 : List UInt8 := dkwX2_why_0 ++ dktX2_why_1
theorem dksX2_why_0 : cX2_why.data.toList.drop 0 = dktX2_why_0 := by decide +kernel
theorem dksX2_why_1 : cX2_why.data.toList.drop 24 = dktX2_why_1 := dk_seg dksX2_why_0 24 rfl rfl
theorem dX2_why_0 : decode cX2_why 0 = .ok (.iload_n 1, 1) := dk_27 (dk_at dksX2_why_0 0 rfl rfl)
theorem dX2_why_1 : decode cX2_why 1 = .ok (.iconst 0, 1) := dk_3 (dk_at dksX2_why_0 1 rfl rfl)
theorem dX2_why_2 : decode cX2_why 2 = .ok (.iconst 2, 1) := dk_5 (dk_at dksX2_why_0 2 rfl rfl)
theorem dX2_why_3 : decode cX2_why 3 = .ok (.invokestatic 40, 3) := dk_184 0 40 (dk_at dksX2_why_0 3 rfl rfl)
theorem dX2_why_6 : decode cX2_why 6 = .ok (.ifCond .ne 7, 3) := dk_154 0 7 (dk_at dksX2_why_0 6 rfl rfl)
theorem dX2_why_9 : decode cX2_why 9 = .ok (.iconst (-1), 1) := dk_2 (dk_at dksX2_why_0 9 rfl rfl)
theorem dX2_why_10 : decode cX2_why 10 = .ok (.goto 21, 3) := dk_167 0 21 (dk_at dksX2_why_0 10 rfl rfl)
theorem dX2_why_13 : decode cX2_why 13 = .ok (.aload_n 0, 1) := dk_42 (dk_at dksX2_why_0 13 rfl rfl)
theorem dX2_why_14 : decode cX2_why 14 = .ok (.getfield 174, 3) := dk_180 0 174 (dk_at dksX2_why_0 14 rfl rfl)
theorem dX2_why_17 : decode cX2_why 17 = .ok (.ifCond .eq 12, 3) := dk_153 0 12 (dk_at dksX2_why_0 17 rfl rfl)
theorem dX2_why_20 : decode cX2_why 20 = .ok (.aload_n 0, 1) := dk_42 (dk_at dksX2_why_0 20 rfl rfl)
theorem dX2_why_21 : decode cX2_why 21 = .ok (.getfield 23, 3) := dk_180 0 23 (dk_at dksX2_why_0 21 rfl rfl)
theorem dX2_why_24 : decode cX2_why 24 = .ok (.iload_n 1, 1) := dk_27 (dk_at dksX2_why_1 0 rfl rfl)
theorem dX2_why_25 : decode cX2_why 25 = .ok (.iaload, 1) := dk_46 (dk_at dksX2_why_1 1 rfl rfl)
theorem dX2_why_26 : decode cX2_why 26 = .ok (.goto 5, 3) := dk_167 0 5 (dk_at dksX2_why_1 2 rfl rfl)
theorem dX2_why_29 : decode cX2_why 29 = .ok (.bipush (-4), 2) := dk_16 252 (dk_at dksX2_why_1 5 rfl rfl)
theorem dX2_why_31 : decode cX2_why 31 = .ok (.ireturn, 1) := dk_172 (dk_at dksX2_why_1 7 rfl rfl)
abbrev cX2_layer : ByteArray := prog_13_method_59_code
def yX2_layer : MethodName := ⟨RX2, "layer", "(II)I"⟩
def dkwX2_layer_3 : List UInt8 := [42, 16, 20, 27, 96, 182, 0, 36, 172, 42, 16, 26, 27, 96, 182, 0, 36, 172, 2, 172]
abbrev dktX2_layer_3 : List UInt8 := dkwX2_layer_3 ++ []
def dkwX2_layer_2 : List UInt8 := [42, 16, 14, 27, 96, 182, 0, 36, 172, 42, 27, 42, 16, 14, 27, 96, 182, 0, 36, 28, 182, 0, 181, 172]
abbrev dktX2_layer_2 : List UInt8 := dkwX2_layer_2 ++ dktX2_layer_3
def dkwX2_layer_1 : List UInt8 := [170, 0, 0, 0, 79, 0, 0, 0, 0, 0, 0, 0, 5, 0, 0, 0, 37, 0, 0, 0, 46, 0, 0, 0, 46, 0, 0, 0, 46, 0, 0, 0, 61, 0, 0, 0, 70]
abbrev dktX2_layer_1 : List UInt8 := dkwX2_layer_1 ++ dktX2_layer_2
def dkwX2_layer_0 : List UInt8 := [42, 27, 182, 0, 143, 154, 0, 5, 2, 172, 28]
abbrev dktX2_layer_0 : List UInt8 := dkwX2_layer_0 ++ dktX2_layer_1
theorem dksX2_layer_0 : cX2_layer.data.toList.drop 0 = dktX2_layer_0 := by decide +kernel
theorem dksX2_layer_1 : cX2_layer.data.toList.drop 11 = dktX2_layer_1 := dk_seg dksX2_layer_0 11 rfl rfl
theorem dksX2_layer_2 : cX2_layer.data.toList.drop 48 = dktX2_layer_2 := dk_seg dksX2_layer_1 37 rfl rfl
theorem dksX2_layer_3 : cX2_layer.data.toList.drop 72 = dktX2_layer_3 := dk_seg dksX2_layer_2 24 rfl rfl
theorem dX2_layer_0 : decode cX2_layer 0 = .ok (.aload_n 0, 1) := dk_42 (dk_at dksX2_layer_0 0 rfl rfl)
theorem dX2_layer_1 : decode cX2_layer 1 = .ok (.iload_n 1, 1) := dk_27 (dk_at dksX2_layer_0 1 rfl rfl)
theorem dX2_layer_2 : decode cX2_layer 2 = .ok (.invokevirtual 143, 3) := dk_182 0 143 (dk_at dksX2_layer_0 2 rfl rfl)
theorem dX2_layer_5 : decode cX2_layer 5 = .ok (.ifCond .ne 5, 3) := dk_154 0 5 (dk_at dksX2_layer_0 5 rfl rfl)
theorem dX2_layer_8 : decode cX2_layer 8 = .ok (.iconst (-1), 1) := dk_2 (dk_at dksX2_layer_0 8 rfl rfl)
theorem dX2_layer_9 : decode cX2_layer 9 = .ok (.ireturn, 1) := dk_172 (dk_at dksX2_layer_0 9 rfl rfl)
theorem dX2_layer_10 : decode cX2_layer 10 = .ok (.iload_n 2, 1) := dk_28 (dk_at dksX2_layer_0 10 rfl rfl)
theorem dX2_layer_11 : decode cX2_layer 11 = .ok (.tableswitch 79 0 5 #[37, 46, 46, 46, 61, 70], 37) := by decide +kernel
theorem dX2_layer_48 : decode cX2_layer 48 = .ok (.aload_n 0, 1) := dk_42 (dk_at dksX2_layer_2 0 rfl rfl)
theorem dX2_layer_49 : decode cX2_layer 49 = .ok (.bipush 14, 2) := dk_16 14 (dk_at dksX2_layer_2 1 rfl rfl)
theorem dX2_layer_51 : decode cX2_layer 51 = .ok (.iload_n 1, 1) := dk_27 (dk_at dksX2_layer_2 3 rfl rfl)
theorem dX2_layer_52 : decode cX2_layer 52 = .ok (.iadd, 1) := dk_96 (dk_at dksX2_layer_2 4 rfl rfl)
theorem dX2_layer_53 : decode cX2_layer 53 = .ok (.invokevirtual 36, 3) := dk_182 0 36 (dk_at dksX2_layer_2 5 rfl rfl)
theorem dX2_layer_56 : decode cX2_layer 56 = .ok (.ireturn, 1) := dk_172 (dk_at dksX2_layer_2 8 rfl rfl)
theorem dX2_layer_57 : decode cX2_layer 57 = .ok (.aload_n 0, 1) := dk_42 (dk_at dksX2_layer_2 9 rfl rfl)
theorem dX2_layer_58 : decode cX2_layer 58 = .ok (.iload_n 1, 1) := dk_27 (dk_at dksX2_layer_2 10 rfl rfl)
theorem dX2_layer_59 : decode cX2_layer 59 = .ok (.aload_n 0, 1) := dk_42 (dk_at dksX2_layer_2 11 rfl rfl)
theorem dX2_layer_60 : decode cX2_layer 60 = .ok (.bipush 14, 2) := dk_16 14 (dk_at dksX2_layer_2 12 rfl rfl)
theorem dX2_layer_62 : decode cX2_layer 62 = .ok (.iload_n 1, 1) := dk_27 (dk_at dksX2_layer_2 14 rfl rfl)
theorem dX2_layer_63 : decode cX2_layer 63 = .ok (.iadd, 1) := dk_96 (dk_at dksX2_layer_2 15 rfl rfl)
theorem dX2_layer_64 : decode cX2_layer 64 = .ok (.invokevirtual 36, 3) := dk_182 0 36 (dk_at dksX2_layer_2 16 rfl rfl)
theorem dX2_layer_67 : decode cX2_layer 67 = .ok (.iload_n 2, 1) := dk_28 (dk_at dksX2_layer_2 19 rfl rfl)
theorem dX2_layer_68 : decode cX2_layer 68 = .ok (.invokevirtual 181, 3) := dk_182 0 181 (dk_at dksX2_layer_2 20 rfl rfl)
theorem dX2_layer_71 : decode cX2_layer 71 = .ok (.ireturn, 1) := dk_172 (dk_at dksX2_layer_2 23 rfl rfl)
theorem dX2_layer_72 : decode cX2_layer 72 = .ok (.aload_n 0, 1) := dk_42 (dk_at dksX2_layer_3 0 rfl rfl)
theorem dX2_layer_73 : decode cX2_layer 73 = .ok (.bipush 20, 2) := dk_16 20 (dk_at dksX2_layer_3 1 rfl rfl)
theorem dX2_layer_75 : decode cX2_layer 75 = .ok (.iload_n 1, 1) := dk_27 (dk_at dksX2_layer_3 3 rfl rfl)
theorem dX2_layer_76 : decode cX2_layer 76 = .ok (.iadd, 1) := dk_96 (dk_at dksX2_layer_3 4 rfl rfl)
theorem dX2_layer_77 : decode cX2_layer 77 = .ok (.invokevirtual 36, 3) := dk_182 0 36 (dk_at dksX2_layer_3 5 rfl rfl)
theorem dX2_layer_80 : decode cX2_layer 80 = .ok (.ireturn, 1) := dk_172 (dk_at dksX2_layer_3 8 rfl rfl)
theorem dX2_layer_81 : decode cX2_layer 81 = .ok (.aload_n 0, 1) := dk_42 (dk_at dksX2_layer_3 9 rfl rfl)
theorem dX2_layer_82 : decode cX2_layer 82 = .ok (.bipush 26, 2) := dk_16 26 (dk_at dksX2_layer_3 10 rfl rfl)
theorem dX2_layer_84 : decode cX2_layer 84 = .ok (.iload_n 1, 1) := dk_27 (dk_at dksX2_layer_3 12 rfl rfl)
theorem dX2_layer_85 : decode cX2_layer 85 = .ok (.iadd, 1) := dk_96 (dk_at dksX2_layer_3 13 rfl rfl)
theorem dX2_layer_86 : decode cX2_layer 86 = .ok (.invokevirtual 36, 3) := dk_182 0 36 (dk_at dksX2_layer_3 14 rfl rfl)
theorem dX2_layer_89 : decode cX2_layer 89 = .ok (.ireturn, 1) := dk_172 (dk_at dksX2_layer_3 17 rfl rfl)
theorem dX2_layer_90 : decode cX2_layer 90 = .ok (.iconst (-1), 1) := dk_2 (dk_at dksX2_layer_3 18 rfl rfl)
theorem dX2_layer_91 : decode cX2_layer 91 = .ok (.ireturn, 1) := dk_172 (dk_at dksX2_layer_3 19 rfl rfl)
abbrev cX2_forces : ByteArray := prog_13_method_58_code
def yX2_forces : MethodName := ⟨RX2, "forces", "(III)I"⟩
def dkwX2_forces_3 : List UInt8 := [21, 4, 167, 0, 8, 21, 4, 21, 7, 96, 54, 4, 132, 5, 1, 167, 255, 176, 21, 4, 172]
abbrev dktX2_forces_3 : List UInt8 := dkwX2_forces_3 ++ []
def dkwX2_forces_2 : List UInt8 := [167, 0, 5, 21, 6, 54, 7, 29, 6, 160, 0, 20, 21, 6, 21, 4, 164, 0, 8, 21, 6, 167, 0, 13]
abbrev dktX2_forces_2 : List UInt8 := dkwX2_forces_2 ++ dktX2_forces_3
def dkwX2_forces_1 : List UInt8 := [16, 36, 112, 182, 0, 55, 54, 6, 29, 4, 160, 0, 16, 21, 6, 158, 0, 7, 4, 167, 0, 9, 3]
abbrev dktX2_forces_1 : List UInt8 := dkwX2_forces_1 ++ dktX2_forces_2
def dkwX2_forces_0 : List UInt8 := [3, 54, 4, 3, 54, 5, 21, 5, 28, 16, 36, 104, 162, 0, 77, 42, 27, 21, 5, 16, 36, 108, 21, 5]
abbrev dktX2_forces_0 : List UInt8 := dkwX2_forces_0 ++ dktX2_forces_1
theorem dksX2_forces_0 : cX2_forces.data.toList.drop 0 = dktX2_forces_0 := by decide +kernel
theorem dksX2_forces_1 : cX2_forces.data.toList.drop 24 = dktX2_forces_1 := dk_seg dksX2_forces_0 24 rfl rfl
theorem dksX2_forces_2 : cX2_forces.data.toList.drop 47 = dktX2_forces_2 := dk_seg dksX2_forces_1 23 rfl rfl
theorem dksX2_forces_3 : cX2_forces.data.toList.drop 71 = dktX2_forces_3 := dk_seg dksX2_forces_2 24 rfl rfl
theorem dX2_forces_0 : decode cX2_forces 0 = .ok (.iconst 0, 1) := dk_3 (dk_at dksX2_forces_0 0 rfl rfl)
theorem dX2_forces_1 : decode cX2_forces 1 = .ok (.istore 4, 2) := dk_54 4 (dk_at dksX2_forces_0 1 rfl rfl)
theorem dX2_forces_3 : decode cX2_forces 3 = .ok (.iconst 0, 1) := dk_3 (dk_at dksX2_forces_0 3 rfl rfl)
theorem dX2_forces_4 : decode cX2_forces 4 = .ok (.istore 5, 2) := dk_54 5 (dk_at dksX2_forces_0 4 rfl rfl)
theorem dX2_forces_6 : decode cX2_forces 6 = .ok (.iload 5, 2) := dk_21 5 (dk_at dksX2_forces_0 6 rfl rfl)
theorem dX2_forces_8 : decode cX2_forces 8 = .ok (.iload_n 2, 1) := dk_28 (dk_at dksX2_forces_0 8 rfl rfl)
theorem dX2_forces_9 : decode cX2_forces 9 = .ok (.bipush 36, 2) := dk_16 36 (dk_at dksX2_forces_0 9 rfl rfl)
theorem dX2_forces_11 : decode cX2_forces 11 = .ok (.imul, 1) := dk_104 (dk_at dksX2_forces_0 11 rfl rfl)
theorem dX2_forces_12 : decode cX2_forces 12 = .ok (.if_icmp .ge 77, 3) := dk_162 0 77 (dk_at dksX2_forces_0 12 rfl rfl)
theorem dX2_forces_15 : decode cX2_forces 15 = .ok (.aload_n 0, 1) := dk_42 (dk_at dksX2_forces_0 15 rfl rfl)
theorem dX2_forces_16 : decode cX2_forces 16 = .ok (.iload_n 1, 1) := dk_27 (dk_at dksX2_forces_0 16 rfl rfl)
theorem dX2_forces_17 : decode cX2_forces 17 = .ok (.iload 5, 2) := dk_21 5 (dk_at dksX2_forces_0 17 rfl rfl)
theorem dX2_forces_19 : decode cX2_forces 19 = .ok (.bipush 36, 2) := dk_16 36 (dk_at dksX2_forces_0 19 rfl rfl)
theorem dX2_forces_21 : decode cX2_forces 21 = .ok (.idiv, 1) := dk_108 (dk_at dksX2_forces_0 21 rfl rfl)
theorem dX2_forces_22 : decode cX2_forces 22 = .ok (.iload 5, 2) := dk_21 5 (dk_at dksX2_forces_0 22 rfl rfl)
theorem dX2_forces_24 : decode cX2_forces 24 = .ok (.bipush 36, 2) := dk_16 36 (dk_at dksX2_forces_1 0 rfl rfl)
theorem dX2_forces_26 : decode cX2_forces 26 = .ok (.irem, 1) := dk_112 (dk_at dksX2_forces_1 2 rfl rfl)
theorem dX2_forces_27 : decode cX2_forces 27 = .ok (.invokevirtual 55, 3) := dk_182 0 55 (dk_at dksX2_forces_1 3 rfl rfl)
theorem dX2_forces_30 : decode cX2_forces 30 = .ok (.istore 6, 2) := dk_54 6 (dk_at dksX2_forces_1 6 rfl rfl)
theorem dX2_forces_32 : decode cX2_forces 32 = .ok (.iload_n 3, 1) := dk_29 (dk_at dksX2_forces_1 8 rfl rfl)
theorem dX2_forces_33 : decode cX2_forces 33 = .ok (.iconst 1, 1) := dk_4 (dk_at dksX2_forces_1 9 rfl rfl)
theorem dX2_forces_34 : decode cX2_forces 34 = .ok (.if_icmp .ne 16, 3) := dk_160 0 16 (dk_at dksX2_forces_1 10 rfl rfl)
theorem dX2_forces_37 : decode cX2_forces 37 = .ok (.iload 6, 2) := dk_21 6 (dk_at dksX2_forces_1 13 rfl rfl)
theorem dX2_forces_39 : decode cX2_forces 39 = .ok (.ifCond .le 7, 3) := dk_158 0 7 (dk_at dksX2_forces_1 15 rfl rfl)
theorem dX2_forces_42 : decode cX2_forces 42 = .ok (.iconst 1, 1) := dk_4 (dk_at dksX2_forces_1 18 rfl rfl)
theorem dX2_forces_43 : decode cX2_forces 43 = .ok (.goto 9, 3) := dk_167 0 9 (dk_at dksX2_forces_1 19 rfl rfl)
theorem dX2_forces_46 : decode cX2_forces 46 = .ok (.iconst 0, 1) := dk_3 (dk_at dksX2_forces_1 22 rfl rfl)
theorem dX2_forces_47 : decode cX2_forces 47 = .ok (.goto 5, 3) := dk_167 0 5 (dk_at dksX2_forces_2 0 rfl rfl)
theorem dX2_forces_50 : decode cX2_forces 50 = .ok (.iload 6, 2) := dk_21 6 (dk_at dksX2_forces_2 3 rfl rfl)
theorem dX2_forces_52 : decode cX2_forces 52 = .ok (.istore 7, 2) := dk_54 7 (dk_at dksX2_forces_2 5 rfl rfl)
theorem dX2_forces_54 : decode cX2_forces 54 = .ok (.iload_n 3, 1) := dk_29 (dk_at dksX2_forces_2 7 rfl rfl)
theorem dX2_forces_55 : decode cX2_forces 55 = .ok (.iconst 3, 1) := dk_6 (dk_at dksX2_forces_2 8 rfl rfl)
theorem dX2_forces_56 : decode cX2_forces 56 = .ok (.if_icmp .ne 20, 3) := dk_160 0 20 (dk_at dksX2_forces_2 9 rfl rfl)
theorem dX2_forces_59 : decode cX2_forces 59 = .ok (.iload 6, 2) := dk_21 6 (dk_at dksX2_forces_2 12 rfl rfl)
theorem dX2_forces_61 : decode cX2_forces 61 = .ok (.iload 4, 2) := dk_21 4 (dk_at dksX2_forces_2 14 rfl rfl)
theorem dX2_forces_63 : decode cX2_forces 63 = .ok (.if_icmp .le 8, 3) := dk_164 0 8 (dk_at dksX2_forces_2 16 rfl rfl)
theorem dX2_forces_66 : decode cX2_forces 66 = .ok (.iload 6, 2) := dk_21 6 (dk_at dksX2_forces_2 19 rfl rfl)
theorem dX2_forces_68 : decode cX2_forces 68 = .ok (.goto 13, 3) := dk_167 0 13 (dk_at dksX2_forces_2 21 rfl rfl)
theorem dX2_forces_71 : decode cX2_forces 71 = .ok (.iload 4, 2) := dk_21 4 (dk_at dksX2_forces_3 0 rfl rfl)
theorem dX2_forces_73 : decode cX2_forces 73 = .ok (.goto 8, 3) := dk_167 0 8 (dk_at dksX2_forces_3 2 rfl rfl)
theorem dX2_forces_76 : decode cX2_forces 76 = .ok (.iload 4, 2) := dk_21 4 (dk_at dksX2_forces_3 5 rfl rfl)
theorem dX2_forces_78 : decode cX2_forces 78 = .ok (.iload 7, 2) := dk_21 7 (dk_at dksX2_forces_3 7 rfl rfl)
theorem dX2_forces_80 : decode cX2_forces 80 = .ok (.iadd, 1) := dk_96 (dk_at dksX2_forces_3 9 rfl rfl)
theorem dX2_forces_81 : decode cX2_forces 81 = .ok (.istore 4, 2) := dk_54 4 (dk_at dksX2_forces_3 10 rfl rfl)
theorem dX2_forces_83 : decode cX2_forces 83 = .ok (.iinc 5 1, 3) := dk_132 5 1 (dk_at dksX2_forces_3 12 rfl rfl)
theorem dX2_forces_86 : decode cX2_forces 86 = .ok (.goto (-80), 3) := dk_167 255 176 (dk_at dksX2_forces_3 15 rfl rfl)
theorem dX2_forces_89 : decode cX2_forces 89 = .ok (.iload 4, 2) := dk_21 4 (dk_at dksX2_forces_3 18 rfl rfl)
theorem dX2_forces_91 : decode cX2_forces 91 = .ok (.ireturn, 1) := dk_172 (dk_at dksX2_forces_3 20 rfl rfl)
abbrev cX2_note : ByteArray := prog_13_method_60_code
def yX2_note : MethodName := ⟨RX2, "note", "(III)I"⟩
def dkwX2_note_2 : List UInt8 := [153, 0, 13, 42, 27, 28, 29, 182, 0, 55, 167, 0, 4, 2, 172]
abbrev dktX2_note_2 : List UInt8 := dkwX2_note_2 ++ []
def dkwX2_note_1 : List UInt8 := [153, 0, 17, 29, 3, 16, 35, 184, 0, 40, 153, 0, 7, 4, 167, 0, 4, 3, 54, 4, 21, 4]
abbrev dktX2_note_1 : List UInt8 := dkwX2_note_1 ++ dktX2_note_2
def dkwX2_note_0 : List UInt8 := [42, 27, 182, 0, 143, 153, 0, 35, 28, 3, 42, 16, 14, 27, 96, 182, 0, 36, 4, 100, 184, 0, 40]
abbrev dktX2_note_0 : List UInt8 := dkwX2_note_0 ++ dktX2_note_1
theorem dksX2_note_0 : cX2_note.data.toList.drop 0 = dktX2_note_0 := by decide +kernel
theorem dksX2_note_1 : cX2_note.data.toList.drop 23 = dktX2_note_1 := dk_seg dksX2_note_0 23 rfl rfl
theorem dksX2_note_2 : cX2_note.data.toList.drop 45 = dktX2_note_2 := dk_seg dksX2_note_1 22 rfl rfl
theorem dX2_note_0 : decode cX2_note 0 = .ok (.aload_n 0, 1) := dk_42 (dk_at dksX2_note_0 0 rfl rfl)
theorem dX2_note_1 : decode cX2_note 1 = .ok (.iload_n 1, 1) := dk_27 (dk_at dksX2_note_0 1 rfl rfl)
theorem dX2_note_2 : decode cX2_note 2 = .ok (.invokevirtual 143, 3) := dk_182 0 143 (dk_at dksX2_note_0 2 rfl rfl)
theorem dX2_note_5 : decode cX2_note 5 = .ok (.ifCond .eq 35, 3) := dk_153 0 35 (dk_at dksX2_note_0 5 rfl rfl)
theorem dX2_note_8 : decode cX2_note 8 = .ok (.iload_n 2, 1) := dk_28 (dk_at dksX2_note_0 8 rfl rfl)
theorem dX2_note_9 : decode cX2_note 9 = .ok (.iconst 0, 1) := dk_3 (dk_at dksX2_note_0 9 rfl rfl)
theorem dX2_note_10 : decode cX2_note 10 = .ok (.aload_n 0, 1) := dk_42 (dk_at dksX2_note_0 10 rfl rfl)
theorem dX2_note_11 : decode cX2_note 11 = .ok (.bipush 14, 2) := dk_16 14 (dk_at dksX2_note_0 11 rfl rfl)
theorem dX2_note_13 : decode cX2_note 13 = .ok (.iload_n 1, 1) := dk_27 (dk_at dksX2_note_0 13 rfl rfl)
theorem dX2_note_14 : decode cX2_note 14 = .ok (.iadd, 1) := dk_96 (dk_at dksX2_note_0 14 rfl rfl)
theorem dX2_note_15 : decode cX2_note 15 = .ok (.invokevirtual 36, 3) := dk_182 0 36 (dk_at dksX2_note_0 15 rfl rfl)
theorem dX2_note_18 : decode cX2_note 18 = .ok (.iconst 1, 1) := dk_4 (dk_at dksX2_note_0 18 rfl rfl)
theorem dX2_note_19 : decode cX2_note 19 = .ok (.isub, 1) := dk_100 (dk_at dksX2_note_0 19 rfl rfl)
theorem dX2_note_20 : decode cX2_note 20 = .ok (.invokestatic 40, 3) := dk_184 0 40 (dk_at dksX2_note_0 20 rfl rfl)
theorem dX2_note_23 : decode cX2_note 23 = .ok (.ifCond .eq 17, 3) := dk_153 0 17 (dk_at dksX2_note_1 0 rfl rfl)
theorem dX2_note_26 : decode cX2_note 26 = .ok (.iload_n 3, 1) := dk_29 (dk_at dksX2_note_1 3 rfl rfl)
theorem dX2_note_27 : decode cX2_note 27 = .ok (.iconst 0, 1) := dk_3 (dk_at dksX2_note_1 4 rfl rfl)
theorem dX2_note_28 : decode cX2_note 28 = .ok (.bipush 35, 2) := dk_16 35 (dk_at dksX2_note_1 5 rfl rfl)
theorem dX2_note_30 : decode cX2_note 30 = .ok (.invokestatic 40, 3) := dk_184 0 40 (dk_at dksX2_note_1 7 rfl rfl)
theorem dX2_note_33 : decode cX2_note 33 = .ok (.ifCond .eq 7, 3) := dk_153 0 7 (dk_at dksX2_note_1 10 rfl rfl)
theorem dX2_note_36 : decode cX2_note 36 = .ok (.iconst 1, 1) := dk_4 (dk_at dksX2_note_1 13 rfl rfl)
theorem dX2_note_37 : decode cX2_note 37 = .ok (.goto 4, 3) := dk_167 0 4 (dk_at dksX2_note_1 14 rfl rfl)
theorem dX2_note_40 : decode cX2_note 40 = .ok (.iconst 0, 1) := dk_3 (dk_at dksX2_note_1 17 rfl rfl)
theorem dX2_note_41 : decode cX2_note 41 = .ok (.istore 4, 2) := dk_54 4 (dk_at dksX2_note_1 18 rfl rfl)
theorem dX2_note_43 : decode cX2_note 43 = .ok (.iload 4, 2) := dk_21 4 (dk_at dksX2_note_1 20 rfl rfl)
theorem dX2_note_45 : decode cX2_note 45 = .ok (.ifCond .eq 13, 3) := dk_153 0 13 (dk_at dksX2_note_2 0 rfl rfl)
theorem dX2_note_48 : decode cX2_note 48 = .ok (.aload_n 0, 1) := dk_42 (dk_at dksX2_note_2 3 rfl rfl)
theorem dX2_note_49 : decode cX2_note 49 = .ok (.iload_n 1, 1) := dk_27 (dk_at dksX2_note_2 4 rfl rfl)
theorem dX2_note_50 : decode cX2_note 50 = .ok (.iload_n 2, 1) := dk_28 (dk_at dksX2_note_2 5 rfl rfl)
theorem dX2_note_51 : decode cX2_note 51 = .ok (.iload_n 3, 1) := dk_29 (dk_at dksX2_note_2 6 rfl rfl)
theorem dX2_note_52 : decode cX2_note 52 = .ok (.invokevirtual 55, 3) := dk_182 0 55 (dk_at dksX2_note_2 7 rfl rfl)
theorem dX2_note_55 : decode cX2_note 55 = .ok (.goto 4, 3) := dk_167 0 4 (dk_at dksX2_note_2 10 rfl rfl)
theorem dX2_note_58 : decode cX2_note 58 = .ok (.iconst (-1), 1) := dk_2 (dk_at dksX2_note_2 13 rfl rfl)
theorem dX2_note_59 : decode cX2_note 59 = .ok (.ireturn, 1) := dk_172 (dk_at dksX2_note_2 14 rfl rfl)
abbrev cX2_ring : ByteArray := prog_13_method_65_code
def yX2_ring : MethodName := ⟨RX2, "ring", "(II)I"⟩
def dkwX2_ring_1 : List UInt8 := [182, 0, 36, 27, 28, 182, 0, 187, 167, 0, 4, 2, 172]
abbrev dktX2_ring_1 : List UInt8 := dkwX2_ring_1 ++ []
def dkwX2_ring_0 : List UInt8 := [42, 27, 182, 0, 190, 153, 0, 28, 28, 3, 16, 35, 184, 0, 40, 153, 0, 18, 42, 42, 16, 7]
abbrev dktX2_ring_0 : List UInt8 := dkwX2_ring_0 ++ dktX2_ring_1
theorem dksX2_ring_0 : cX2_ring.data.toList.drop 0 = dktX2_ring_0 := by decide +kernel
theorem dksX2_ring_1 : cX2_ring.data.toList.drop 22 = dktX2_ring_1 := dk_seg dksX2_ring_0 22 rfl rfl
theorem dX2_ring_0 : decode cX2_ring 0 = .ok (.aload_n 0, 1) := dk_42 (dk_at dksX2_ring_0 0 rfl rfl)
theorem dX2_ring_1 : decode cX2_ring 1 = .ok (.iload_n 1, 1) := dk_27 (dk_at dksX2_ring_0 1 rfl rfl)
theorem dX2_ring_2 : decode cX2_ring 2 = .ok (.invokevirtual 190, 3) := dk_182 0 190 (dk_at dksX2_ring_0 2 rfl rfl)
theorem dX2_ring_5 : decode cX2_ring 5 = .ok (.ifCond .eq 28, 3) := dk_153 0 28 (dk_at dksX2_ring_0 5 rfl rfl)
theorem dX2_ring_8 : decode cX2_ring 8 = .ok (.iload_n 2, 1) := dk_28 (dk_at dksX2_ring_0 8 rfl rfl)
theorem dX2_ring_9 : decode cX2_ring 9 = .ok (.iconst 0, 1) := dk_3 (dk_at dksX2_ring_0 9 rfl rfl)
theorem dX2_ring_10 : decode cX2_ring 10 = .ok (.bipush 35, 2) := dk_16 35 (dk_at dksX2_ring_0 10 rfl rfl)
theorem dX2_ring_12 : decode cX2_ring 12 = .ok (.invokestatic 40, 3) := dk_184 0 40 (dk_at dksX2_ring_0 12 rfl rfl)
theorem dX2_ring_15 : decode cX2_ring 15 = .ok (.ifCond .eq 18, 3) := dk_153 0 18 (dk_at dksX2_ring_0 15 rfl rfl)
theorem dX2_ring_18 : decode cX2_ring 18 = .ok (.aload_n 0, 1) := dk_42 (dk_at dksX2_ring_0 18 rfl rfl)
theorem dX2_ring_19 : decode cX2_ring 19 = .ok (.aload_n 0, 1) := dk_42 (dk_at dksX2_ring_0 19 rfl rfl)
theorem dX2_ring_20 : decode cX2_ring 20 = .ok (.bipush 7, 2) := dk_16 7 (dk_at dksX2_ring_0 20 rfl rfl)
theorem dX2_ring_22 : decode cX2_ring 22 = .ok (.invokevirtual 36, 3) := dk_182 0 36 (dk_at dksX2_ring_1 0 rfl rfl)
theorem dX2_ring_25 : decode cX2_ring 25 = .ok (.iload_n 1, 1) := dk_27 (dk_at dksX2_ring_1 3 rfl rfl)
theorem dX2_ring_26 : decode cX2_ring 26 = .ok (.iload_n 2, 1) := dk_28 (dk_at dksX2_ring_1 4 rfl rfl)
theorem dX2_ring_27 : decode cX2_ring 27 = .ok (.invokevirtual 187, 3) := dk_182 0 187 (dk_at dksX2_ring_1 5 rfl rfl)
theorem dX2_ring_30 : decode cX2_ring 30 = .ok (.goto 4, 3) := dk_167 0 4 (dk_at dksX2_ring_1 8 rfl rfl)
theorem dX2_ring_33 : decode cX2_ring 33 = .ok (.iconst (-1), 1) := dk_2 (dk_at dksX2_ring_1 11 rfl rfl)
theorem dX2_ring_34 : decode cX2_ring 34 = .ok (.ireturn, 1) := dk_172 (dk_at dksX2_ring_1 12 rfl rfl)
abbrev cX2_isCell : ByteArray := prog_13_method_64_code
def yX2_isCell : MethodName := ⟨RX2, "isCell", "(I)Z"⟩
def dkwX2_isCell_0 : List UInt8 := [27, 3, 42, 182, 0, 80, 4, 100, 184, 0, 40, 172]
abbrev dktX2_isCell_0 : List UInt8 := dkwX2_isCell_0 ++ []
theorem dksX2_isCell_0 : cX2_isCell.data.toList.drop 0 = dktX2_isCell_0 := by decide +kernel
theorem dX2_isCell_0 : decode cX2_isCell 0 = .ok (.iload_n 1, 1) := dk_27 (dk_at dksX2_isCell_0 0 rfl rfl)
theorem dX2_isCell_1 : decode cX2_isCell 1 = .ok (.iconst 0, 1) := dk_3 (dk_at dksX2_isCell_0 1 rfl rfl)
theorem dX2_isCell_2 : decode cX2_isCell 2 = .ok (.aload_n 0, 1) := dk_42 (dk_at dksX2_isCell_0 2 rfl rfl)
theorem dX2_isCell_3 : decode cX2_isCell 3 = .ok (.invokevirtual 80, 3) := dk_182 0 80 (dk_at dksX2_isCell_0 3 rfl rfl)
theorem dX2_isCell_6 : decode cX2_isCell 6 = .ok (.iconst 1, 1) := dk_4 (dk_at dksX2_isCell_0 6 rfl rfl)
theorem dX2_isCell_7 : decode cX2_isCell 7 = .ok (.isub, 1) := dk_100 (dk_at dksX2_isCell_0 7 rfl rfl)
theorem dX2_isCell_8 : decode cX2_isCell 8 = .ok (.invokestatic 40, 3) := dk_184 0 40 (dk_at dksX2_isCell_0 8 rfl rfl)
theorem dX2_isCell_11 : decode cX2_isCell 11 = .ok (.ireturn, 1) := dk_172 (dk_at dksX2_isCell_0 11 rfl rfl)
abbrev cX2_ringOf : ByteArray := prog_13_method_62_code
def yX2_ringOf : MethodName := ⟨RX2, "ringOf", "(III)I"⟩
def dkwX2_ringOf_1 : List UInt8 := [54, 4, 132, 5, 1, 167, 255, 234, 21, 4, 172]
abbrev dktX2_ringOf_1 : List UInt8 := dkwX2_ringOf_1 ++ []
def dkwX2_ringOf_0 : List UInt8 := [3, 54, 4, 3, 54, 5, 21, 5, 27, 162, 0, 22, 21, 4, 42, 21, 5, 28, 29, 182, 0, 184, 96]
abbrev dktX2_ringOf_0 : List UInt8 := dkwX2_ringOf_0 ++ dktX2_ringOf_1
theorem dksX2_ringOf_0 : cX2_ringOf.data.toList.drop 0 = dktX2_ringOf_0 := by decide +kernel
theorem dksX2_ringOf_1 : cX2_ringOf.data.toList.drop 23 = dktX2_ringOf_1 := dk_seg dksX2_ringOf_0 23 rfl rfl
theorem dX2_ringOf_0 : decode cX2_ringOf 0 = .ok (.iconst 0, 1) := dk_3 (dk_at dksX2_ringOf_0 0 rfl rfl)
theorem dX2_ringOf_1 : decode cX2_ringOf 1 = .ok (.istore 4, 2) := dk_54 4 (dk_at dksX2_ringOf_0 1 rfl rfl)
theorem dX2_ringOf_3 : decode cX2_ringOf 3 = .ok (.iconst 0, 1) := dk_3 (dk_at dksX2_ringOf_0 3 rfl rfl)
theorem dX2_ringOf_4 : decode cX2_ringOf 4 = .ok (.istore 5, 2) := dk_54 5 (dk_at dksX2_ringOf_0 4 rfl rfl)
theorem dX2_ringOf_6 : decode cX2_ringOf 6 = .ok (.iload 5, 2) := dk_21 5 (dk_at dksX2_ringOf_0 6 rfl rfl)
theorem dX2_ringOf_8 : decode cX2_ringOf 8 = .ok (.iload_n 1, 1) := dk_27 (dk_at dksX2_ringOf_0 8 rfl rfl)
theorem dX2_ringOf_9 : decode cX2_ringOf 9 = .ok (.if_icmp .ge 22, 3) := dk_162 0 22 (dk_at dksX2_ringOf_0 9 rfl rfl)
theorem dX2_ringOf_12 : decode cX2_ringOf 12 = .ok (.iload 4, 2) := dk_21 4 (dk_at dksX2_ringOf_0 12 rfl rfl)
theorem dX2_ringOf_14 : decode cX2_ringOf 14 = .ok (.aload_n 0, 1) := dk_42 (dk_at dksX2_ringOf_0 14 rfl rfl)
theorem dX2_ringOf_15 : decode cX2_ringOf 15 = .ok (.iload 5, 2) := dk_21 5 (dk_at dksX2_ringOf_0 15 rfl rfl)
theorem dX2_ringOf_17 : decode cX2_ringOf 17 = .ok (.iload_n 2, 1) := dk_28 (dk_at dksX2_ringOf_0 17 rfl rfl)
theorem dX2_ringOf_18 : decode cX2_ringOf 18 = .ok (.iload_n 3, 1) := dk_29 (dk_at dksX2_ringOf_0 18 rfl rfl)
theorem dX2_ringOf_19 : decode cX2_ringOf 19 = .ok (.invokevirtual 184, 3) := dk_182 0 184 (dk_at dksX2_ringOf_0 19 rfl rfl)
theorem dX2_ringOf_22 : decode cX2_ringOf 22 = .ok (.iadd, 1) := dk_96 (dk_at dksX2_ringOf_0 22 rfl rfl)
theorem dX2_ringOf_23 : decode cX2_ringOf 23 = .ok (.istore 4, 2) := dk_54 4 (dk_at dksX2_ringOf_1 0 rfl rfl)
theorem dX2_ringOf_25 : decode cX2_ringOf 25 = .ok (.iinc 5 1, 3) := dk_132 5 1 (dk_at dksX2_ringOf_1 2 rfl rfl)
theorem dX2_ringOf_28 : decode cX2_ringOf 28 = .ok (.goto (-22), 3) := dk_167 255 234 (dk_at dksX2_ringOf_1 5 rfl rfl)
theorem dX2_ringOf_31 : decode cX2_ringOf 31 = .ok (.iload 4, 2) := dk_21 4 (dk_at dksX2_ringOf_1 8 rfl rfl)
theorem dX2_ringOf_33 : decode cX2_ringOf 33 = .ok (.ireturn, 1) := dk_172 (dk_at dksX2_ringOf_1 10 rfl rfl)
abbrev cX2_adds : ByteArray := prog_13_method_61_code
def yX2_adds : MethodName := ⟨RX2, "adds", "(III)I"⟩
def dkwX2_adds_2 : List UInt8 := [182, 0, 36, 112, 21, 4, 182, 0, 55, 172]
abbrev dktX2_adds_2 : List UInt8 := dkwX2_adds_2 ++ []
def dkwX2_adds_1 : List UInt8 := [153, 0, 10, 21, 4, 16, 36, 161, 0, 7, 3, 167, 0, 20, 42, 27, 28, 42, 16, 14, 27, 96]
abbrev dktX2_adds_1 : List UInt8 := dkwX2_adds_1 ++ dktX2_adds_2
def dkwX2_adds_0 : List UInt8 := [29, 16, 12, 42, 5, 182, 0, 36, 104, 96, 54, 4, 42, 180, 0, 7, 16, 20, 27, 96, 47, 10, 148]
abbrev dktX2_adds_0 : List UInt8 := dkwX2_adds_0 ++ dktX2_adds_1
theorem dksX2_adds_0 : cX2_adds.data.toList.drop 0 = dktX2_adds_0 := by decide +kernel
theorem dksX2_adds_1 : cX2_adds.data.toList.drop 23 = dktX2_adds_1 := dk_seg dksX2_adds_0 23 rfl rfl
theorem dksX2_adds_2 : cX2_adds.data.toList.drop 45 = dktX2_adds_2 := dk_seg dksX2_adds_1 22 rfl rfl
theorem dX2_adds_0 : decode cX2_adds 0 = .ok (.iload_n 3, 1) := dk_29 (dk_at dksX2_adds_0 0 rfl rfl)
theorem dX2_adds_1 : decode cX2_adds 1 = .ok (.bipush 12, 2) := dk_16 12 (dk_at dksX2_adds_0 1 rfl rfl)
theorem dX2_adds_3 : decode cX2_adds 3 = .ok (.aload_n 0, 1) := dk_42 (dk_at dksX2_adds_0 3 rfl rfl)
theorem dX2_adds_4 : decode cX2_adds 4 = .ok (.iconst 2, 1) := dk_5 (dk_at dksX2_adds_0 4 rfl rfl)
theorem dX2_adds_5 : decode cX2_adds 5 = .ok (.invokevirtual 36, 3) := dk_182 0 36 (dk_at dksX2_adds_0 5 rfl rfl)
theorem dX2_adds_8 : decode cX2_adds 8 = .ok (.imul, 1) := dk_104 (dk_at dksX2_adds_0 8 rfl rfl)
theorem dX2_adds_9 : decode cX2_adds 9 = .ok (.iadd, 1) := dk_96 (dk_at dksX2_adds_0 9 rfl rfl)
theorem dX2_adds_10 : decode cX2_adds 10 = .ok (.istore 4, 2) := dk_54 4 (dk_at dksX2_adds_0 10 rfl rfl)
theorem dX2_adds_12 : decode cX2_adds 12 = .ok (.aload_n 0, 1) := dk_42 (dk_at dksX2_adds_0 12 rfl rfl)
theorem dX2_adds_13 : decode cX2_adds 13 = .ok (.getfield 7, 3) := dk_180 0 7 (dk_at dksX2_adds_0 13 rfl rfl)
theorem dX2_adds_16 : decode cX2_adds 16 = .ok (.bipush 20, 2) := dk_16 20 (dk_at dksX2_adds_0 16 rfl rfl)
theorem dX2_adds_18 : decode cX2_adds 18 = .ok (.iload_n 1, 1) := dk_27 (dk_at dksX2_adds_0 18 rfl rfl)
theorem dX2_adds_19 : decode cX2_adds 19 = .ok (.iadd, 1) := dk_96 (dk_at dksX2_adds_0 19 rfl rfl)
theorem dX2_adds_20 : decode cX2_adds 20 = .ok (.laload, 1) := dk_47 (dk_at dksX2_adds_0 20 rfl rfl)
theorem dX2_adds_21 : decode cX2_adds 21 = .ok (.lconst 1, 1) := dk_10 (dk_at dksX2_adds_0 21 rfl rfl)
theorem dX2_adds_22 : decode cX2_adds 22 = .ok (.lcmp, 1) := dk_148 (dk_at dksX2_adds_0 22 rfl rfl)
theorem dX2_adds_23 : decode cX2_adds 23 = .ok (.ifCond .eq 10, 3) := dk_153 0 10 (dk_at dksX2_adds_1 0 rfl rfl)
theorem dX2_adds_26 : decode cX2_adds 26 = .ok (.iload 4, 2) := dk_21 4 (dk_at dksX2_adds_1 3 rfl rfl)
theorem dX2_adds_28 : decode cX2_adds 28 = .ok (.bipush 36, 2) := dk_16 36 (dk_at dksX2_adds_1 5 rfl rfl)
theorem dX2_adds_30 : decode cX2_adds 30 = .ok (.if_icmp .lt 7, 3) := dk_161 0 7 (dk_at dksX2_adds_1 7 rfl rfl)
theorem dX2_adds_33 : decode cX2_adds 33 = .ok (.iconst 0, 1) := dk_3 (dk_at dksX2_adds_1 10 rfl rfl)
theorem dX2_adds_34 : decode cX2_adds 34 = .ok (.goto 20, 3) := dk_167 0 20 (dk_at dksX2_adds_1 11 rfl rfl)
theorem dX2_adds_37 : decode cX2_adds 37 = .ok (.aload_n 0, 1) := dk_42 (dk_at dksX2_adds_1 14 rfl rfl)
theorem dX2_adds_38 : decode cX2_adds 38 = .ok (.iload_n 1, 1) := dk_27 (dk_at dksX2_adds_1 15 rfl rfl)
theorem dX2_adds_39 : decode cX2_adds 39 = .ok (.iload_n 2, 1) := dk_28 (dk_at dksX2_adds_1 16 rfl rfl)
theorem dX2_adds_40 : decode cX2_adds 40 = .ok (.aload_n 0, 1) := dk_42 (dk_at dksX2_adds_1 17 rfl rfl)
theorem dX2_adds_41 : decode cX2_adds 41 = .ok (.bipush 14, 2) := dk_16 14 (dk_at dksX2_adds_1 18 rfl rfl)
theorem dX2_adds_43 : decode cX2_adds 43 = .ok (.iload_n 1, 1) := dk_27 (dk_at dksX2_adds_1 20 rfl rfl)
theorem dX2_adds_44 : decode cX2_adds 44 = .ok (.iadd, 1) := dk_96 (dk_at dksX2_adds_1 21 rfl rfl)
theorem dX2_adds_45 : decode cX2_adds 45 = .ok (.invokevirtual 36, 3) := dk_182 0 36 (dk_at dksX2_adds_2 0 rfl rfl)
theorem dX2_adds_48 : decode cX2_adds 48 = .ok (.irem, 1) := dk_112 (dk_at dksX2_adds_2 3 rfl rfl)
theorem dX2_adds_49 : decode cX2_adds 49 = .ok (.iload 4, 2) := dk_21 4 (dk_at dksX2_adds_2 4 rfl rfl)
theorem dX2_adds_51 : decode cX2_adds 51 = .ok (.invokevirtual 55, 3) := dk_182 0 55 (dk_at dksX2_adds_2 6 rfl rfl)
theorem dX2_adds_54 : decode cX2_adds 54 = .ok (.ireturn, 1) := dk_172 (dk_at dksX2_adds_2 9 rfl rfl)
abbrev cX2_heard : ByteArray := prog_13_method_67_code
def yX2_heard : MethodName := ⟨RX2, "heard", "(II)I"⟩
def dkwX2_heard_1 : List UInt8 := [42, 42, 16, 7, 182, 0, 36, 27, 182, 0, 193, 167, 0, 9, 42, 27, 28, 182, 0, 196, 172]
abbrev dktX2_heard_1 : List UInt8 := dkwX2_heard_1 ++ []
def dkwX2_heard_0 : List UInt8 := [42, 27, 182, 0, 190, 153, 0, 12, 28, 3, 7, 184, 0, 40, 154, 0, 5, 2, 172, 28, 4, 160, 0, 17]
abbrev dktX2_heard_0 : List UInt8 := dkwX2_heard_0 ++ dktX2_heard_1
theorem dksX2_heard_0 : cX2_heard.data.toList.drop 0 = dktX2_heard_0 := by decide +kernel
theorem dksX2_heard_1 : cX2_heard.data.toList.drop 24 = dktX2_heard_1 := dk_seg dksX2_heard_0 24 rfl rfl
theorem dX2_heard_0 : decode cX2_heard 0 = .ok (.aload_n 0, 1) := dk_42 (dk_at dksX2_heard_0 0 rfl rfl)
theorem dX2_heard_1 : decode cX2_heard 1 = .ok (.iload_n 1, 1) := dk_27 (dk_at dksX2_heard_0 1 rfl rfl)
theorem dX2_heard_2 : decode cX2_heard 2 = .ok (.invokevirtual 190, 3) := dk_182 0 190 (dk_at dksX2_heard_0 2 rfl rfl)
theorem dX2_heard_5 : decode cX2_heard 5 = .ok (.ifCond .eq 12, 3) := dk_153 0 12 (dk_at dksX2_heard_0 5 rfl rfl)
theorem dX2_heard_8 : decode cX2_heard 8 = .ok (.iload_n 2, 1) := dk_28 (dk_at dksX2_heard_0 8 rfl rfl)
theorem dX2_heard_9 : decode cX2_heard 9 = .ok (.iconst 0, 1) := dk_3 (dk_at dksX2_heard_0 9 rfl rfl)
theorem dX2_heard_10 : decode cX2_heard 10 = .ok (.iconst 4, 1) := dk_7 (dk_at dksX2_heard_0 10 rfl rfl)
theorem dX2_heard_11 : decode cX2_heard 11 = .ok (.invokestatic 40, 3) := dk_184 0 40 (dk_at dksX2_heard_0 11 rfl rfl)
theorem dX2_heard_14 : decode cX2_heard 14 = .ok (.ifCond .ne 5, 3) := dk_154 0 5 (dk_at dksX2_heard_0 14 rfl rfl)
theorem dX2_heard_17 : decode cX2_heard 17 = .ok (.iconst (-1), 1) := dk_2 (dk_at dksX2_heard_0 17 rfl rfl)
theorem dX2_heard_18 : decode cX2_heard 18 = .ok (.ireturn, 1) := dk_172 (dk_at dksX2_heard_0 18 rfl rfl)
theorem dX2_heard_19 : decode cX2_heard 19 = .ok (.iload_n 2, 1) := dk_28 (dk_at dksX2_heard_0 19 rfl rfl)
theorem dX2_heard_20 : decode cX2_heard 20 = .ok (.iconst 1, 1) := dk_4 (dk_at dksX2_heard_0 20 rfl rfl)
theorem dX2_heard_21 : decode cX2_heard 21 = .ok (.if_icmp .ne 17, 3) := dk_160 0 17 (dk_at dksX2_heard_0 21 rfl rfl)
theorem dX2_heard_24 : decode cX2_heard 24 = .ok (.aload_n 0, 1) := dk_42 (dk_at dksX2_heard_1 0 rfl rfl)
theorem dX2_heard_25 : decode cX2_heard 25 = .ok (.aload_n 0, 1) := dk_42 (dk_at dksX2_heard_1 1 rfl rfl)
theorem dX2_heard_26 : decode cX2_heard 26 = .ok (.bipush 7, 2) := dk_16 7 (dk_at dksX2_heard_1 2 rfl rfl)
theorem dX2_heard_28 : decode cX2_heard 28 = .ok (.invokevirtual 36, 3) := dk_182 0 36 (dk_at dksX2_heard_1 4 rfl rfl)
theorem dX2_heard_31 : decode cX2_heard 31 = .ok (.iload_n 1, 1) := dk_27 (dk_at dksX2_heard_1 7 rfl rfl)
theorem dX2_heard_32 : decode cX2_heard 32 = .ok (.invokevirtual 193, 3) := dk_182 0 193 (dk_at dksX2_heard_1 8 rfl rfl)
theorem dX2_heard_35 : decode cX2_heard 35 = .ok (.goto 9, 3) := dk_167 0 9 (dk_at dksX2_heard_1 11 rfl rfl)
theorem dX2_heard_38 : decode cX2_heard 38 = .ok (.aload_n 0, 1) := dk_42 (dk_at dksX2_heard_1 14 rfl rfl)
theorem dX2_heard_39 : decode cX2_heard 39 = .ok (.iload_n 1, 1) := dk_27 (dk_at dksX2_heard_1 15 rfl rfl)
theorem dX2_heard_40 : decode cX2_heard 40 = .ok (.iload_n 2, 1) := dk_28 (dk_at dksX2_heard_1 16 rfl rfl)
theorem dX2_heard_41 : decode cX2_heard 41 = .ok (.invokevirtual 196, 3) := dk_182 0 196 (dk_at dksX2_heard_1 17 rfl rfl)
theorem dX2_heard_44 : decode cX2_heard 44 = .ok (.ireturn, 1) := dk_172 (dk_at dksX2_heard_1 20 rfl rfl)
abbrev cX2_sumIn : ByteArray := prog_13_method_63_code
def yX2_sumIn : MethodName := ⟨RX2, "sumIn", "(II)I"⟩
def dkwX2_sumIn_1 : List UInt8 := [132, 4, 1, 167, 255, 235, 29, 172]
abbrev dktX2_sumIn_1 : List UInt8 := dkwX2_sumIn_1 ++ []
def dkwX2_sumIn_0 : List UInt8 := [3, 62, 3, 54, 4, 21, 4, 16, 36, 162, 0, 20, 29, 42, 27, 28, 21, 4, 182, 0, 187, 96, 62]
abbrev dktX2_sumIn_0 : List UInt8 := dkwX2_sumIn_0 ++ dktX2_sumIn_1
theorem dksX2_sumIn_0 : cX2_sumIn.data.toList.drop 0 = dktX2_sumIn_0 := by decide +kernel
theorem dksX2_sumIn_1 : cX2_sumIn.data.toList.drop 23 = dktX2_sumIn_1 := dk_seg dksX2_sumIn_0 23 rfl rfl
theorem dX2_sumIn_0 : decode cX2_sumIn 0 = .ok (.iconst 0, 1) := dk_3 (dk_at dksX2_sumIn_0 0 rfl rfl)
theorem dX2_sumIn_1 : decode cX2_sumIn 1 = .ok (.istore_n 3, 1) := dk_62 (dk_at dksX2_sumIn_0 1 rfl rfl)
theorem dX2_sumIn_2 : decode cX2_sumIn 2 = .ok (.iconst 0, 1) := dk_3 (dk_at dksX2_sumIn_0 2 rfl rfl)
theorem dX2_sumIn_3 : decode cX2_sumIn 3 = .ok (.istore 4, 2) := dk_54 4 (dk_at dksX2_sumIn_0 3 rfl rfl)
theorem dX2_sumIn_5 : decode cX2_sumIn 5 = .ok (.iload 4, 2) := dk_21 4 (dk_at dksX2_sumIn_0 5 rfl rfl)
theorem dX2_sumIn_7 : decode cX2_sumIn 7 = .ok (.bipush 36, 2) := dk_16 36 (dk_at dksX2_sumIn_0 7 rfl rfl)
theorem dX2_sumIn_9 : decode cX2_sumIn 9 = .ok (.if_icmp .ge 20, 3) := dk_162 0 20 (dk_at dksX2_sumIn_0 9 rfl rfl)
theorem dX2_sumIn_12 : decode cX2_sumIn 12 = .ok (.iload_n 3, 1) := dk_29 (dk_at dksX2_sumIn_0 12 rfl rfl)
theorem dX2_sumIn_13 : decode cX2_sumIn 13 = .ok (.aload_n 0, 1) := dk_42 (dk_at dksX2_sumIn_0 13 rfl rfl)
theorem dX2_sumIn_14 : decode cX2_sumIn 14 = .ok (.iload_n 1, 1) := dk_27 (dk_at dksX2_sumIn_0 14 rfl rfl)
theorem dX2_sumIn_15 : decode cX2_sumIn 15 = .ok (.iload_n 2, 1) := dk_28 (dk_at dksX2_sumIn_0 15 rfl rfl)
theorem dX2_sumIn_16 : decode cX2_sumIn 16 = .ok (.iload 4, 2) := dk_21 4 (dk_at dksX2_sumIn_0 16 rfl rfl)
theorem dX2_sumIn_18 : decode cX2_sumIn 18 = .ok (.invokevirtual 187, 3) := dk_182 0 187 (dk_at dksX2_sumIn_0 18 rfl rfl)
theorem dX2_sumIn_21 : decode cX2_sumIn 21 = .ok (.iadd, 1) := dk_96 (dk_at dksX2_sumIn_0 21 rfl rfl)
theorem dX2_sumIn_22 : decode cX2_sumIn 22 = .ok (.istore_n 3, 1) := dk_62 (dk_at dksX2_sumIn_0 22 rfl rfl)
theorem dX2_sumIn_23 : decode cX2_sumIn 23 = .ok (.iinc 4 1, 3) := dk_132 4 1 (dk_at dksX2_sumIn_1 0 rfl rfl)
theorem dX2_sumIn_26 : decode cX2_sumIn 26 = .ok (.goto (-21), 3) := dk_167 255 235 (dk_at dksX2_sumIn_1 3 rfl rfl)
theorem dX2_sumIn_29 : decode cX2_sumIn 29 = .ok (.iload_n 3, 1) := dk_29 (dk_at dksX2_sumIn_1 6 rfl rfl)
theorem dX2_sumIn_30 : decode cX2_sumIn 30 = .ok (.ireturn, 1) := dk_172 (dk_at dksX2_sumIn_1 7 rfl rfl)
abbrev cX2_keys : ByteArray := prog_13_method_66_code
def yX2_keys : MethodName := ⟨RX2, "keys", "(II)I"⟩
def dkwX2_keys_6 : List UInt8 := [154, 0, 7, 29, 167, 0, 5, 21, 4, 172]
abbrev dktX2_keys_6 : List UInt8 := dkwX2_keys_6 ++ []
def dkwX2_keys_5 : List UInt8 := [21, 7, 21, 5, 164, 0, 8, 21, 7, 167, 0, 5, 21, 5, 54, 5, 132, 6, 1, 167, 255, 133, 28]
abbrev dktX2_keys_5 : List UInt8 := dkwX2_keys_5 ++ dktX2_keys_6
def dkwX2_keys_4 : List UInt8 := [164, 0, 7, 4, 167, 0, 4, 3, 54, 8, 21, 8, 153, 0, 8, 21, 6, 167, 0, 5, 21, 4, 54, 4]
abbrev dktX2_keys_4 : List UInt8 := dkwX2_keys_4 ++ dktX2_keys_5
def dkwX2_keys_3 : List UInt8 := [21, 7, 158, 0, 12, 21, 4, 156, 0, 7, 4, 167, 0, 19, 3, 167, 0, 15, 21, 7, 21, 5]
abbrev dktX2_keys_3 : List UInt8 := dkwX2_keys_3 ++ dktX2_keys_4
def dkwX2_keys_2 : List UInt8 := [28, 5, 160, 0, 16, 21, 7, 158, 0, 7, 4, 167, 0, 42, 3, 167, 0, 38, 28, 6, 160, 0, 21]
abbrev dktX2_keys_2 : List UInt8 := dkwX2_keys_2 ++ dktX2_keys_3
def dkwX2_keys_1 : List UInt8 := [182, 0, 36, 27, 21, 6, 182, 0, 187, 54, 7, 29, 21, 7, 158, 0, 7, 4, 167, 0, 4, 3, 96, 62]
abbrev dktX2_keys_1 : List UInt8 := dkwX2_keys_1 ++ dktX2_keys_2
def dkwX2_keys_0 : List UInt8 := [3, 62, 16, 252, 54, 4, 3, 54, 5, 3, 54, 6, 21, 6, 16, 36, 162, 0, 122, 42, 42, 16, 7]
abbrev dktX2_keys_0 : List UInt8 := dkwX2_keys_0 ++ dktX2_keys_1
theorem dksX2_keys_0 : cX2_keys.data.toList.drop 0 = dktX2_keys_0 := by decide +kernel
theorem dksX2_keys_1 : cX2_keys.data.toList.drop 23 = dktX2_keys_1 := dk_seg dksX2_keys_0 23 rfl rfl
theorem dksX2_keys_2 : cX2_keys.data.toList.drop 47 = dktX2_keys_2 := dk_seg dksX2_keys_1 24 rfl rfl
theorem dksX2_keys_3 : cX2_keys.data.toList.drop 70 = dktX2_keys_3 := dk_seg dksX2_keys_2 23 rfl rfl
theorem dksX2_keys_4 : cX2_keys.data.toList.drop 92 = dktX2_keys_4 := dk_seg dksX2_keys_3 22 rfl rfl
theorem dksX2_keys_5 : cX2_keys.data.toList.drop 116 = dktX2_keys_5 := dk_seg dksX2_keys_4 24 rfl rfl
theorem dksX2_keys_6 : cX2_keys.data.toList.drop 139 = dktX2_keys_6 := dk_seg dksX2_keys_5 23 rfl rfl
theorem dX2_keys_0 : decode cX2_keys 0 = .ok (.iconst 0, 1) := dk_3 (dk_at dksX2_keys_0 0 rfl rfl)
theorem dX2_keys_1 : decode cX2_keys 1 = .ok (.istore_n 3, 1) := dk_62 (dk_at dksX2_keys_0 1 rfl rfl)
theorem dX2_keys_2 : decode cX2_keys 2 = .ok (.bipush (-4), 2) := dk_16 252 (dk_at dksX2_keys_0 2 rfl rfl)
theorem dX2_keys_4 : decode cX2_keys 4 = .ok (.istore 4, 2) := dk_54 4 (dk_at dksX2_keys_0 4 rfl rfl)
theorem dX2_keys_6 : decode cX2_keys 6 = .ok (.iconst 0, 1) := dk_3 (dk_at dksX2_keys_0 6 rfl rfl)
theorem dX2_keys_7 : decode cX2_keys 7 = .ok (.istore 5, 2) := dk_54 5 (dk_at dksX2_keys_0 7 rfl rfl)
theorem dX2_keys_9 : decode cX2_keys 9 = .ok (.iconst 0, 1) := dk_3 (dk_at dksX2_keys_0 9 rfl rfl)
theorem dX2_keys_10 : decode cX2_keys 10 = .ok (.istore 6, 2) := dk_54 6 (dk_at dksX2_keys_0 10 rfl rfl)
theorem dX2_keys_12 : decode cX2_keys 12 = .ok (.iload 6, 2) := dk_21 6 (dk_at dksX2_keys_0 12 rfl rfl)
theorem dX2_keys_14 : decode cX2_keys 14 = .ok (.bipush 36, 2) := dk_16 36 (dk_at dksX2_keys_0 14 rfl rfl)
theorem dX2_keys_16 : decode cX2_keys 16 = .ok (.if_icmp .ge 122, 3) := dk_162 0 122 (dk_at dksX2_keys_0 16 rfl rfl)
theorem dX2_keys_19 : decode cX2_keys 19 = .ok (.aload_n 0, 1) := dk_42 (dk_at dksX2_keys_0 19 rfl rfl)
theorem dX2_keys_20 : decode cX2_keys 20 = .ok (.aload_n 0, 1) := dk_42 (dk_at dksX2_keys_0 20 rfl rfl)
theorem dX2_keys_21 : decode cX2_keys 21 = .ok (.bipush 7, 2) := dk_16 7 (dk_at dksX2_keys_0 21 rfl rfl)
theorem dX2_keys_23 : decode cX2_keys 23 = .ok (.invokevirtual 36, 3) := dk_182 0 36 (dk_at dksX2_keys_1 0 rfl rfl)
theorem dX2_keys_26 : decode cX2_keys 26 = .ok (.iload_n 1, 1) := dk_27 (dk_at dksX2_keys_1 3 rfl rfl)
theorem dX2_keys_27 : decode cX2_keys 27 = .ok (.iload 6, 2) := dk_21 6 (dk_at dksX2_keys_1 4 rfl rfl)
theorem dX2_keys_29 : decode cX2_keys 29 = .ok (.invokevirtual 187, 3) := dk_182 0 187 (dk_at dksX2_keys_1 6 rfl rfl)
theorem dX2_keys_32 : decode cX2_keys 32 = .ok (.istore 7, 2) := dk_54 7 (dk_at dksX2_keys_1 9 rfl rfl)
theorem dX2_keys_34 : decode cX2_keys 34 = .ok (.iload_n 3, 1) := dk_29 (dk_at dksX2_keys_1 11 rfl rfl)
theorem dX2_keys_35 : decode cX2_keys 35 = .ok (.iload 7, 2) := dk_21 7 (dk_at dksX2_keys_1 12 rfl rfl)
theorem dX2_keys_37 : decode cX2_keys 37 = .ok (.ifCond .le 7, 3) := dk_158 0 7 (dk_at dksX2_keys_1 14 rfl rfl)
theorem dX2_keys_40 : decode cX2_keys 40 = .ok (.iconst 1, 1) := dk_4 (dk_at dksX2_keys_1 17 rfl rfl)
theorem dX2_keys_41 : decode cX2_keys 41 = .ok (.goto 4, 3) := dk_167 0 4 (dk_at dksX2_keys_1 18 rfl rfl)
theorem dX2_keys_44 : decode cX2_keys 44 = .ok (.iconst 0, 1) := dk_3 (dk_at dksX2_keys_1 21 rfl rfl)
theorem dX2_keys_45 : decode cX2_keys 45 = .ok (.iadd, 1) := dk_96 (dk_at dksX2_keys_1 22 rfl rfl)
theorem dX2_keys_46 : decode cX2_keys 46 = .ok (.istore_n 3, 1) := dk_62 (dk_at dksX2_keys_1 23 rfl rfl)
theorem dX2_keys_47 : decode cX2_keys 47 = .ok (.iload_n 2, 1) := dk_28 (dk_at dksX2_keys_2 0 rfl rfl)
theorem dX2_keys_48 : decode cX2_keys 48 = .ok (.iconst 2, 1) := dk_5 (dk_at dksX2_keys_2 1 rfl rfl)
theorem dX2_keys_49 : decode cX2_keys 49 = .ok (.if_icmp .ne 16, 3) := dk_160 0 16 (dk_at dksX2_keys_2 2 rfl rfl)
theorem dX2_keys_52 : decode cX2_keys 52 = .ok (.iload 7, 2) := dk_21 7 (dk_at dksX2_keys_2 5 rfl rfl)
theorem dX2_keys_54 : decode cX2_keys 54 = .ok (.ifCond .le 7, 3) := dk_158 0 7 (dk_at dksX2_keys_2 7 rfl rfl)
theorem dX2_keys_57 : decode cX2_keys 57 = .ok (.iconst 1, 1) := dk_4 (dk_at dksX2_keys_2 10 rfl rfl)
theorem dX2_keys_58 : decode cX2_keys 58 = .ok (.goto 42, 3) := dk_167 0 42 (dk_at dksX2_keys_2 11 rfl rfl)
theorem dX2_keys_61 : decode cX2_keys 61 = .ok (.iconst 0, 1) := dk_3 (dk_at dksX2_keys_2 14 rfl rfl)
theorem dX2_keys_62 : decode cX2_keys 62 = .ok (.goto 38, 3) := dk_167 0 38 (dk_at dksX2_keys_2 15 rfl rfl)
theorem dX2_keys_65 : decode cX2_keys 65 = .ok (.iload_n 2, 1) := dk_28 (dk_at dksX2_keys_2 18 rfl rfl)
theorem dX2_keys_66 : decode cX2_keys 66 = .ok (.iconst 3, 1) := dk_6 (dk_at dksX2_keys_2 19 rfl rfl)
theorem dX2_keys_67 : decode cX2_keys 67 = .ok (.if_icmp .ne 21, 3) := dk_160 0 21 (dk_at dksX2_keys_2 20 rfl rfl)
theorem dX2_keys_70 : decode cX2_keys 70 = .ok (.iload 7, 2) := dk_21 7 (dk_at dksX2_keys_3 0 rfl rfl)
theorem dX2_keys_72 : decode cX2_keys 72 = .ok (.ifCond .le 12, 3) := dk_158 0 12 (dk_at dksX2_keys_3 2 rfl rfl)
theorem dX2_keys_75 : decode cX2_keys 75 = .ok (.iload 4, 2) := dk_21 4 (dk_at dksX2_keys_3 5 rfl rfl)
theorem dX2_keys_77 : decode cX2_keys 77 = .ok (.ifCond .ge 7, 3) := dk_156 0 7 (dk_at dksX2_keys_3 7 rfl rfl)
theorem dX2_keys_80 : decode cX2_keys 80 = .ok (.iconst 1, 1) := dk_4 (dk_at dksX2_keys_3 10 rfl rfl)
theorem dX2_keys_81 : decode cX2_keys 81 = .ok (.goto 19, 3) := dk_167 0 19 (dk_at dksX2_keys_3 11 rfl rfl)
theorem dX2_keys_84 : decode cX2_keys 84 = .ok (.iconst 0, 1) := dk_3 (dk_at dksX2_keys_3 14 rfl rfl)
theorem dX2_keys_85 : decode cX2_keys 85 = .ok (.goto 15, 3) := dk_167 0 15 (dk_at dksX2_keys_3 15 rfl rfl)
theorem dX2_keys_88 : decode cX2_keys 88 = .ok (.iload 7, 2) := dk_21 7 (dk_at dksX2_keys_3 18 rfl rfl)
theorem dX2_keys_90 : decode cX2_keys 90 = .ok (.iload 5, 2) := dk_21 5 (dk_at dksX2_keys_3 20 rfl rfl)
theorem dX2_keys_92 : decode cX2_keys 92 = .ok (.if_icmp .le 7, 3) := dk_164 0 7 (dk_at dksX2_keys_4 0 rfl rfl)
theorem dX2_keys_95 : decode cX2_keys 95 = .ok (.iconst 1, 1) := dk_4 (dk_at dksX2_keys_4 3 rfl rfl)
theorem dX2_keys_96 : decode cX2_keys 96 = .ok (.goto 4, 3) := dk_167 0 4 (dk_at dksX2_keys_4 4 rfl rfl)
theorem dX2_keys_99 : decode cX2_keys 99 = .ok (.iconst 0, 1) := dk_3 (dk_at dksX2_keys_4 7 rfl rfl)
theorem dX2_keys_100 : decode cX2_keys 100 = .ok (.istore 8, 2) := dk_54 8 (dk_at dksX2_keys_4 8 rfl rfl)
theorem dX2_keys_102 : decode cX2_keys 102 = .ok (.iload 8, 2) := dk_21 8 (dk_at dksX2_keys_4 10 rfl rfl)
theorem dX2_keys_104 : decode cX2_keys 104 = .ok (.ifCond .eq 8, 3) := dk_153 0 8 (dk_at dksX2_keys_4 12 rfl rfl)
theorem dX2_keys_107 : decode cX2_keys 107 = .ok (.iload 6, 2) := dk_21 6 (dk_at dksX2_keys_4 15 rfl rfl)
theorem dX2_keys_109 : decode cX2_keys 109 = .ok (.goto 5, 3) := dk_167 0 5 (dk_at dksX2_keys_4 17 rfl rfl)
theorem dX2_keys_112 : decode cX2_keys 112 = .ok (.iload 4, 2) := dk_21 4 (dk_at dksX2_keys_4 20 rfl rfl)
theorem dX2_keys_114 : decode cX2_keys 114 = .ok (.istore 4, 2) := dk_54 4 (dk_at dksX2_keys_4 22 rfl rfl)
theorem dX2_keys_116 : decode cX2_keys 116 = .ok (.iload 7, 2) := dk_21 7 (dk_at dksX2_keys_5 0 rfl rfl)
theorem dX2_keys_118 : decode cX2_keys 118 = .ok (.iload 5, 2) := dk_21 5 (dk_at dksX2_keys_5 2 rfl rfl)
theorem dX2_keys_120 : decode cX2_keys 120 = .ok (.if_icmp .le 8, 3) := dk_164 0 8 (dk_at dksX2_keys_5 4 rfl rfl)
theorem dX2_keys_123 : decode cX2_keys 123 = .ok (.iload 7, 2) := dk_21 7 (dk_at dksX2_keys_5 7 rfl rfl)
theorem dX2_keys_125 : decode cX2_keys 125 = .ok (.goto 5, 3) := dk_167 0 5 (dk_at dksX2_keys_5 9 rfl rfl)
theorem dX2_keys_128 : decode cX2_keys 128 = .ok (.iload 5, 2) := dk_21 5 (dk_at dksX2_keys_5 12 rfl rfl)
theorem dX2_keys_130 : decode cX2_keys 130 = .ok (.istore 5, 2) := dk_54 5 (dk_at dksX2_keys_5 14 rfl rfl)
theorem dX2_keys_132 : decode cX2_keys 132 = .ok (.iinc 6 1, 3) := dk_132 6 1 (dk_at dksX2_keys_5 16 rfl rfl)
theorem dX2_keys_135 : decode cX2_keys 135 = .ok (.goto (-123), 3) := dk_167 255 133 (dk_at dksX2_keys_5 19 rfl rfl)
theorem dX2_keys_138 : decode cX2_keys 138 = .ok (.iload_n 2, 1) := dk_28 (dk_at dksX2_keys_5 22 rfl rfl)
theorem dX2_keys_139 : decode cX2_keys 139 = .ok (.ifCond .ne 7, 3) := dk_154 0 7 (dk_at dksX2_keys_6 0 rfl rfl)
theorem dX2_keys_142 : decode cX2_keys 142 = .ok (.iload_n 3, 1) := dk_29 (dk_at dksX2_keys_6 3 rfl rfl)
theorem dX2_keys_143 : decode cX2_keys 143 = .ok (.goto 5, 3) := dk_167 0 5 (dk_at dksX2_keys_6 4 rfl rfl)
theorem dX2_keys_146 : decode cX2_keys 146 = .ok (.iload 4, 2) := dk_21 4 (dk_at dksX2_keys_6 7 rfl rfl)
theorem dX2_keys_148 : decode cX2_keys 148 = .ok (.ireturn, 1) := dk_172 (dk_at dksX2_keys_6 9 rfl rfl)
abbrev cX2_loudest : ByteArray := prog_13_method_68_code
def yX2_loudest : MethodName := ⟨RX2, "loudest", "()I"⟩
def dkwX2_loudest_3 : List UInt8 := [27, 172]
abbrev dktX2_loudest_3 : List UInt8 := dkwX2_loudest_3 ++ []
def dkwX2_loudest_2 : List UInt8 := [167, 0, 4, 27, 60, 21, 4, 28, 164, 0, 8, 21, 4, 167, 0, 4, 28, 61, 132, 3, 1, 167, 255, 207]
abbrev dktX2_loudest_2 : List UInt8 := dkwX2_loudest_2 ++ dktX2_loudest_3
def dkwX2_loudest_1 : List UInt8 := [162, 0, 47, 42, 42, 16, 7, 182, 0, 36, 29, 182, 0, 193, 54, 4, 21, 4, 28, 164, 0, 7, 29]
abbrev dktX2_loudest_1 : List UInt8 := dkwX2_loudest_1 ++ dktX2_loudest_2
def dkwX2_loudest_0 : List UInt8 := [42, 16, 7, 182, 0, 36, 154, 0, 6, 16, 254, 172, 16, 252, 60, 3, 61, 3, 62, 29, 42, 182, 0, 80]
abbrev dktX2_loudest_0 : List UInt8 := dkwX2_loudest_0 ++ dktX2_loudest_1
theorem dksX2_loudest_0 : cX2_loudest.data.toList.drop 0 = dktX2_loudest_0 := by decide +kernel
theorem dksX2_loudest_1 : cX2_loudest.data.toList.drop 24 = dktX2_loudest_1 := dk_seg dksX2_loudest_0 24 rfl rfl
theorem dksX2_loudest_2 : cX2_loudest.data.toList.drop 47 = dktX2_loudest_2 := dk_seg dksX2_loudest_1 23 rfl rfl
theorem dksX2_loudest_3 : cX2_loudest.data.toList.drop 71 = dktX2_loudest_3 := dk_seg dksX2_loudest_2 24 rfl rfl
theorem dX2_loudest_0 : decode cX2_loudest 0 = .ok (.aload_n 0, 1) := dk_42 (dk_at dksX2_loudest_0 0 rfl rfl)
theorem dX2_loudest_1 : decode cX2_loudest 1 = .ok (.bipush 7, 2) := dk_16 7 (dk_at dksX2_loudest_0 1 rfl rfl)
theorem dX2_loudest_3 : decode cX2_loudest 3 = .ok (.invokevirtual 36, 3) := dk_182 0 36 (dk_at dksX2_loudest_0 3 rfl rfl)
theorem dX2_loudest_6 : decode cX2_loudest 6 = .ok (.ifCond .ne 6, 3) := dk_154 0 6 (dk_at dksX2_loudest_0 6 rfl rfl)
theorem dX2_loudest_9 : decode cX2_loudest 9 = .ok (.bipush (-2), 2) := dk_16 254 (dk_at dksX2_loudest_0 9 rfl rfl)
theorem dX2_loudest_11 : decode cX2_loudest 11 = .ok (.ireturn, 1) := dk_172 (dk_at dksX2_loudest_0 11 rfl rfl)
theorem dX2_loudest_12 : decode cX2_loudest 12 = .ok (.bipush (-4), 2) := dk_16 252 (dk_at dksX2_loudest_0 12 rfl rfl)
theorem dX2_loudest_14 : decode cX2_loudest 14 = .ok (.istore_n 1, 1) := dk_60 (dk_at dksX2_loudest_0 14 rfl rfl)
theorem dX2_loudest_15 : decode cX2_loudest 15 = .ok (.iconst 0, 1) := dk_3 (dk_at dksX2_loudest_0 15 rfl rfl)
theorem dX2_loudest_16 : decode cX2_loudest 16 = .ok (.istore_n 2, 1) := dk_61 (dk_at dksX2_loudest_0 16 rfl rfl)
theorem dX2_loudest_17 : decode cX2_loudest 17 = .ok (.iconst 0, 1) := dk_3 (dk_at dksX2_loudest_0 17 rfl rfl)
theorem dX2_loudest_18 : decode cX2_loudest 18 = .ok (.istore_n 3, 1) := dk_62 (dk_at dksX2_loudest_0 18 rfl rfl)
theorem dX2_loudest_19 : decode cX2_loudest 19 = .ok (.iload_n 3, 1) := dk_29 (dk_at dksX2_loudest_0 19 rfl rfl)
theorem dX2_loudest_20 : decode cX2_loudest 20 = .ok (.aload_n 0, 1) := dk_42 (dk_at dksX2_loudest_0 20 rfl rfl)
theorem dX2_loudest_21 : decode cX2_loudest 21 = .ok (.invokevirtual 80, 3) := dk_182 0 80 (dk_at dksX2_loudest_0 21 rfl rfl)
theorem dX2_loudest_24 : decode cX2_loudest 24 = .ok (.if_icmp .ge 47, 3) := dk_162 0 47 (dk_at dksX2_loudest_1 0 rfl rfl)
theorem dX2_loudest_27 : decode cX2_loudest 27 = .ok (.aload_n 0, 1) := dk_42 (dk_at dksX2_loudest_1 3 rfl rfl)
theorem dX2_loudest_28 : decode cX2_loudest 28 = .ok (.aload_n 0, 1) := dk_42 (dk_at dksX2_loudest_1 4 rfl rfl)
theorem dX2_loudest_29 : decode cX2_loudest 29 = .ok (.bipush 7, 2) := dk_16 7 (dk_at dksX2_loudest_1 5 rfl rfl)
theorem dX2_loudest_31 : decode cX2_loudest 31 = .ok (.invokevirtual 36, 3) := dk_182 0 36 (dk_at dksX2_loudest_1 7 rfl rfl)
theorem dX2_loudest_34 : decode cX2_loudest 34 = .ok (.iload_n 3, 1) := dk_29 (dk_at dksX2_loudest_1 10 rfl rfl)
theorem dX2_loudest_35 : decode cX2_loudest 35 = .ok (.invokevirtual 193, 3) := dk_182 0 193 (dk_at dksX2_loudest_1 11 rfl rfl)
theorem dX2_loudest_38 : decode cX2_loudest 38 = .ok (.istore 4, 2) := dk_54 4 (dk_at dksX2_loudest_1 14 rfl rfl)
theorem dX2_loudest_40 : decode cX2_loudest 40 = .ok (.iload 4, 2) := dk_21 4 (dk_at dksX2_loudest_1 16 rfl rfl)
theorem dX2_loudest_42 : decode cX2_loudest 42 = .ok (.iload_n 2, 1) := dk_28 (dk_at dksX2_loudest_1 18 rfl rfl)
theorem dX2_loudest_43 : decode cX2_loudest 43 = .ok (.if_icmp .le 7, 3) := dk_164 0 7 (dk_at dksX2_loudest_1 19 rfl rfl)
theorem dX2_loudest_46 : decode cX2_loudest 46 = .ok (.iload_n 3, 1) := dk_29 (dk_at dksX2_loudest_1 22 rfl rfl)
theorem dX2_loudest_47 : decode cX2_loudest 47 = .ok (.goto 4, 3) := dk_167 0 4 (dk_at dksX2_loudest_2 0 rfl rfl)
theorem dX2_loudest_50 : decode cX2_loudest 50 = .ok (.iload_n 1, 1) := dk_27 (dk_at dksX2_loudest_2 3 rfl rfl)
theorem dX2_loudest_51 : decode cX2_loudest 51 = .ok (.istore_n 1, 1) := dk_60 (dk_at dksX2_loudest_2 4 rfl rfl)
theorem dX2_loudest_52 : decode cX2_loudest 52 = .ok (.iload 4, 2) := dk_21 4 (dk_at dksX2_loudest_2 5 rfl rfl)
theorem dX2_loudest_54 : decode cX2_loudest 54 = .ok (.iload_n 2, 1) := dk_28 (dk_at dksX2_loudest_2 7 rfl rfl)
theorem dX2_loudest_55 : decode cX2_loudest 55 = .ok (.if_icmp .le 8, 3) := dk_164 0 8 (dk_at dksX2_loudest_2 8 rfl rfl)
theorem dX2_loudest_58 : decode cX2_loudest 58 = .ok (.iload 4, 2) := dk_21 4 (dk_at dksX2_loudest_2 11 rfl rfl)
theorem dX2_loudest_60 : decode cX2_loudest 60 = .ok (.goto 4, 3) := dk_167 0 4 (dk_at dksX2_loudest_2 13 rfl rfl)
theorem dX2_loudest_63 : decode cX2_loudest 63 = .ok (.iload_n 2, 1) := dk_28 (dk_at dksX2_loudest_2 16 rfl rfl)
theorem dX2_loudest_64 : decode cX2_loudest 64 = .ok (.istore_n 2, 1) := dk_61 (dk_at dksX2_loudest_2 17 rfl rfl)
theorem dX2_loudest_65 : decode cX2_loudest 65 = .ok (.iinc 3 1, 3) := dk_132 3 1 (dk_at dksX2_loudest_2 18 rfl rfl)
theorem dX2_loudest_68 : decode cX2_loudest 68 = .ok (.goto (-49), 3) := dk_167 255 207 (dk_at dksX2_loudest_2 21 rfl rfl)
theorem dX2_loudest_71 : decode cX2_loudest 71 = .ok (.iload_n 1, 1) := dk_27 (dk_at dksX2_loudest_3 0 rfl rfl)
theorem dX2_loudest_72 : decode cX2_loudest 72 = .ok (.ireturn, 1) := dk_172 (dk_at dksX2_loudest_3 1 rfl rfl)
abbrev cX2_buried : ByteArray := prog_13_method_70_code
def yX2_buried : MethodName := ⟨RX2, "buried", "()I"⟩
def dkwX2_buried_2 : List UInt8 := [61, 132, 3, 1, 167, 255, 211, 27, 172]
abbrev dktX2_buried_2 : List UInt8 := dkwX2_buried_2 ++ []
def dkwX2_buried_1 : List UInt8 := [21, 4, 28, 164, 0, 7, 29, 167, 0, 4, 27, 60, 21, 4, 28, 164, 0, 8, 21, 4, 167, 0, 4, 28]
abbrev dktX2_buried_1 : List UInt8 := dkwX2_buried_1 ++ dktX2_buried_2
def dkwX2_buried_0 : List UInt8 := [16, 252, 60, 3, 61, 3, 62, 29, 42, 16, 7, 182, 0, 36, 162, 0, 41, 42, 29, 182, 0, 199, 54, 4]
abbrev dktX2_buried_0 : List UInt8 := dkwX2_buried_0 ++ dktX2_buried_1
theorem dksX2_buried_0 : cX2_buried.data.toList.drop 0 = dktX2_buried_0 := by decide +kernel
theorem dksX2_buried_1 : cX2_buried.data.toList.drop 24 = dktX2_buried_1 := dk_seg dksX2_buried_0 24 rfl rfl
theorem dksX2_buried_2 : cX2_buried.data.toList.drop 48 = dktX2_buried_2 := dk_seg dksX2_buried_1 24 rfl rfl
theorem dX2_buried_0 : decode cX2_buried 0 = .ok (.bipush (-4), 2) := dk_16 252 (dk_at dksX2_buried_0 0 rfl rfl)
theorem dX2_buried_2 : decode cX2_buried 2 = .ok (.istore_n 1, 1) := dk_60 (dk_at dksX2_buried_0 2 rfl rfl)
theorem dX2_buried_3 : decode cX2_buried 3 = .ok (.iconst 0, 1) := dk_3 (dk_at dksX2_buried_0 3 rfl rfl)
theorem dX2_buried_4 : decode cX2_buried 4 = .ok (.istore_n 2, 1) := dk_61 (dk_at dksX2_buried_0 4 rfl rfl)
theorem dX2_buried_5 : decode cX2_buried 5 = .ok (.iconst 0, 1) := dk_3 (dk_at dksX2_buried_0 5 rfl rfl)
theorem dX2_buried_6 : decode cX2_buried 6 = .ok (.istore_n 3, 1) := dk_62 (dk_at dksX2_buried_0 6 rfl rfl)
theorem dX2_buried_7 : decode cX2_buried 7 = .ok (.iload_n 3, 1) := dk_29 (dk_at dksX2_buried_0 7 rfl rfl)
theorem dX2_buried_8 : decode cX2_buried 8 = .ok (.aload_n 0, 1) := dk_42 (dk_at dksX2_buried_0 8 rfl rfl)
theorem dX2_buried_9 : decode cX2_buried 9 = .ok (.bipush 7, 2) := dk_16 7 (dk_at dksX2_buried_0 9 rfl rfl)
theorem dX2_buried_11 : decode cX2_buried 11 = .ok (.invokevirtual 36, 3) := dk_182 0 36 (dk_at dksX2_buried_0 11 rfl rfl)
theorem dX2_buried_14 : decode cX2_buried 14 = .ok (.if_icmp .ge 41, 3) := dk_162 0 41 (dk_at dksX2_buried_0 14 rfl rfl)
theorem dX2_buried_17 : decode cX2_buried 17 = .ok (.aload_n 0, 1) := dk_42 (dk_at dksX2_buried_0 17 rfl rfl)
theorem dX2_buried_18 : decode cX2_buried 18 = .ok (.iload_n 3, 1) := dk_29 (dk_at dksX2_buried_0 18 rfl rfl)
theorem dX2_buried_19 : decode cX2_buried 19 = .ok (.invokevirtual 199, 3) := dk_182 0 199 (dk_at dksX2_buried_0 19 rfl rfl)
theorem dX2_buried_22 : decode cX2_buried 22 = .ok (.istore 4, 2) := dk_54 4 (dk_at dksX2_buried_0 22 rfl rfl)
theorem dX2_buried_24 : decode cX2_buried 24 = .ok (.iload 4, 2) := dk_21 4 (dk_at dksX2_buried_1 0 rfl rfl)
theorem dX2_buried_26 : decode cX2_buried 26 = .ok (.iload_n 2, 1) := dk_28 (dk_at dksX2_buried_1 2 rfl rfl)
theorem dX2_buried_27 : decode cX2_buried 27 = .ok (.if_icmp .le 7, 3) := dk_164 0 7 (dk_at dksX2_buried_1 3 rfl rfl)
theorem dX2_buried_30 : decode cX2_buried 30 = .ok (.iload_n 3, 1) := dk_29 (dk_at dksX2_buried_1 6 rfl rfl)
theorem dX2_buried_31 : decode cX2_buried 31 = .ok (.goto 4, 3) := dk_167 0 4 (dk_at dksX2_buried_1 7 rfl rfl)
theorem dX2_buried_34 : decode cX2_buried 34 = .ok (.iload_n 1, 1) := dk_27 (dk_at dksX2_buried_1 10 rfl rfl)
theorem dX2_buried_35 : decode cX2_buried 35 = .ok (.istore_n 1, 1) := dk_60 (dk_at dksX2_buried_1 11 rfl rfl)
theorem dX2_buried_36 : decode cX2_buried 36 = .ok (.iload 4, 2) := dk_21 4 (dk_at dksX2_buried_1 12 rfl rfl)
theorem dX2_buried_38 : decode cX2_buried 38 = .ok (.iload_n 2, 1) := dk_28 (dk_at dksX2_buried_1 14 rfl rfl)
theorem dX2_buried_39 : decode cX2_buried 39 = .ok (.if_icmp .le 8, 3) := dk_164 0 8 (dk_at dksX2_buried_1 15 rfl rfl)
theorem dX2_buried_42 : decode cX2_buried 42 = .ok (.iload 4, 2) := dk_21 4 (dk_at dksX2_buried_1 18 rfl rfl)
theorem dX2_buried_44 : decode cX2_buried 44 = .ok (.goto 4, 3) := dk_167 0 4 (dk_at dksX2_buried_1 20 rfl rfl)
theorem dX2_buried_47 : decode cX2_buried 47 = .ok (.iload_n 2, 1) := dk_28 (dk_at dksX2_buried_1 23 rfl rfl)
theorem dX2_buried_48 : decode cX2_buried 48 = .ok (.istore_n 2, 1) := dk_61 (dk_at dksX2_buried_2 0 rfl rfl)
theorem dX2_buried_49 : decode cX2_buried 49 = .ok (.iinc 3 1, 3) := dk_132 3 1 (dk_at dksX2_buried_2 1 rfl rfl)
theorem dX2_buried_52 : decode cX2_buried 52 = .ok (.goto (-45), 3) := dk_167 255 211 (dk_at dksX2_buried_2 4 rfl rfl)
theorem dX2_buried_55 : decode cX2_buried 55 = .ok (.iload_n 1, 1) := dk_27 (dk_at dksX2_buried_2 7 rfl rfl)
theorem dX2_buried_56 : decode cX2_buried 56 = .ok (.ireturn, 1) := dk_172 (dk_at dksX2_buried_2 8 rfl rfl)
abbrev cX2_buriedOf : ByteArray := prog_13_method_69_code
def yX2_buriedOf : MethodName := ⟨RX2, "buriedOf", "(I)I"⟩
def dkwX2_buriedOf_3 : List UInt8 := [167, 255, 189, 28, 172]
abbrev dktX2_buriedOf_3 : List UInt8 := dkwX2_buriedOf_3 ++ []
def dkwX2_buriedOf_2 : List UInt8 := [16, 36, 108, 29, 16, 36, 112, 182, 0, 187, 162, 0, 7, 4, 167, 0, 4, 3, 96, 61, 132, 3, 1]
abbrev dktX2_buriedOf_2 : List UInt8 := dkwX2_buriedOf_2 ++ dktX2_buriedOf_3
def dkwX2_buriedOf_1 : List UInt8 := [112, 182, 0, 184, 54, 4, 28, 21, 4, 158, 0, 32, 5, 21, 4, 104, 42, 42, 16, 7, 182, 0, 36, 29]
abbrev dktX2_buriedOf_1 : List UInt8 := dkwX2_buriedOf_1 ++ dktX2_buriedOf_2
def dkwX2_buriedOf_0 : List UInt8 := [3, 61, 3, 62, 29, 42, 182, 0, 80, 16, 36, 104, 162, 0, 62, 42, 27, 29, 16, 36, 108, 29, 16, 36]
abbrev dktX2_buriedOf_0 : List UInt8 := dkwX2_buriedOf_0 ++ dktX2_buriedOf_1
theorem dksX2_buriedOf_0 : cX2_buriedOf.data.toList.drop 0 = dktX2_buriedOf_0 := by decide +kernel
theorem dksX2_buriedOf_1 : cX2_buriedOf.data.toList.drop 24 = dktX2_buriedOf_1 := dk_seg dksX2_buriedOf_0 24 rfl rfl
theorem dksX2_buriedOf_2 : cX2_buriedOf.data.toList.drop 48 = dktX2_buriedOf_2 := dk_seg dksX2_buriedOf_1 24 rfl rfl
theorem dksX2_buriedOf_3 : cX2_buriedOf.data.toList.drop 71 = dktX2_buriedOf_3 := dk_seg dksX2_buriedOf_2 23 rfl rfl
theorem dX2_buriedOf_0 : decode cX2_buriedOf 0 = .ok (.iconst 0, 1) := dk_3 (dk_at dksX2_buriedOf_0 0 rfl rfl)
theorem dX2_buriedOf_1 : decode cX2_buriedOf 1 = .ok (.istore_n 2, 1) := dk_61 (dk_at dksX2_buriedOf_0 1 rfl rfl)
theorem dX2_buriedOf_2 : decode cX2_buriedOf 2 = .ok (.iconst 0, 1) := dk_3 (dk_at dksX2_buriedOf_0 2 rfl rfl)
theorem dX2_buriedOf_3 : decode cX2_buriedOf 3 = .ok (.istore_n 3, 1) := dk_62 (dk_at dksX2_buriedOf_0 3 rfl rfl)
theorem dX2_buriedOf_4 : decode cX2_buriedOf 4 = .ok (.iload_n 3, 1) := dk_29 (dk_at dksX2_buriedOf_0 4 rfl rfl)
theorem dX2_buriedOf_5 : decode cX2_buriedOf 5 = .ok (.aload_n 0, 1) := dk_42 (dk_at dksX2_buriedOf_0 5 rfl rfl)
theorem dX2_buriedOf_6 : decode cX2_buriedOf 6 = .ok (.invokevirtual 80, 3) := dk_182 0 80 (dk_at dksX2_buriedOf_0 6 rfl rfl)
theorem dX2_buriedOf_9 : decode cX2_buriedOf 9 = .ok (.bipush 36, 2) := dk_16 36 (dk_at dksX2_buriedOf_0 9 rfl rfl)
theorem dX2_buriedOf_11 : decode cX2_buriedOf 11 = .ok (.imul, 1) := dk_104 (dk_at dksX2_buriedOf_0 11 rfl rfl)
theorem dX2_buriedOf_12 : decode cX2_buriedOf 12 = .ok (.if_icmp .ge 62, 3) := dk_162 0 62 (dk_at dksX2_buriedOf_0 12 rfl rfl)
theorem dX2_buriedOf_15 : decode cX2_buriedOf 15 = .ok (.aload_n 0, 1) := dk_42 (dk_at dksX2_buriedOf_0 15 rfl rfl)
theorem dX2_buriedOf_16 : decode cX2_buriedOf 16 = .ok (.iload_n 1, 1) := dk_27 (dk_at dksX2_buriedOf_0 16 rfl rfl)
theorem dX2_buriedOf_17 : decode cX2_buriedOf 17 = .ok (.iload_n 3, 1) := dk_29 (dk_at dksX2_buriedOf_0 17 rfl rfl)
theorem dX2_buriedOf_18 : decode cX2_buriedOf 18 = .ok (.bipush 36, 2) := dk_16 36 (dk_at dksX2_buriedOf_0 18 rfl rfl)
theorem dX2_buriedOf_20 : decode cX2_buriedOf 20 = .ok (.idiv, 1) := dk_108 (dk_at dksX2_buriedOf_0 20 rfl rfl)
theorem dX2_buriedOf_21 : decode cX2_buriedOf 21 = .ok (.iload_n 3, 1) := dk_29 (dk_at dksX2_buriedOf_0 21 rfl rfl)
theorem dX2_buriedOf_22 : decode cX2_buriedOf 22 = .ok (.bipush 36, 2) := dk_16 36 (dk_at dksX2_buriedOf_0 22 rfl rfl)
theorem dX2_buriedOf_24 : decode cX2_buriedOf 24 = .ok (.irem, 1) := dk_112 (dk_at dksX2_buriedOf_1 0 rfl rfl)
theorem dX2_buriedOf_25 : decode cX2_buriedOf 25 = .ok (.invokevirtual 184, 3) := dk_182 0 184 (dk_at dksX2_buriedOf_1 1 rfl rfl)
theorem dX2_buriedOf_28 : decode cX2_buriedOf 28 = .ok (.istore 4, 2) := dk_54 4 (dk_at dksX2_buriedOf_1 4 rfl rfl)
theorem dX2_buriedOf_30 : decode cX2_buriedOf 30 = .ok (.iload_n 2, 1) := dk_28 (dk_at dksX2_buriedOf_1 6 rfl rfl)
theorem dX2_buriedOf_31 : decode cX2_buriedOf 31 = .ok (.iload 4, 2) := dk_21 4 (dk_at dksX2_buriedOf_1 7 rfl rfl)
theorem dX2_buriedOf_33 : decode cX2_buriedOf 33 = .ok (.ifCond .le 32, 3) := dk_158 0 32 (dk_at dksX2_buriedOf_1 9 rfl rfl)
theorem dX2_buriedOf_36 : decode cX2_buriedOf 36 = .ok (.iconst 2, 1) := dk_5 (dk_at dksX2_buriedOf_1 12 rfl rfl)
theorem dX2_buriedOf_37 : decode cX2_buriedOf 37 = .ok (.iload 4, 2) := dk_21 4 (dk_at dksX2_buriedOf_1 13 rfl rfl)
theorem dX2_buriedOf_39 : decode cX2_buriedOf 39 = .ok (.imul, 1) := dk_104 (dk_at dksX2_buriedOf_1 15 rfl rfl)
theorem dX2_buriedOf_40 : decode cX2_buriedOf 40 = .ok (.aload_n 0, 1) := dk_42 (dk_at dksX2_buriedOf_1 16 rfl rfl)
theorem dX2_buriedOf_41 : decode cX2_buriedOf 41 = .ok (.aload_n 0, 1) := dk_42 (dk_at dksX2_buriedOf_1 17 rfl rfl)
theorem dX2_buriedOf_42 : decode cX2_buriedOf 42 = .ok (.bipush 7, 2) := dk_16 7 (dk_at dksX2_buriedOf_1 18 rfl rfl)
theorem dX2_buriedOf_44 : decode cX2_buriedOf 44 = .ok (.invokevirtual 36, 3) := dk_182 0 36 (dk_at dksX2_buriedOf_1 20 rfl rfl)
theorem dX2_buriedOf_47 : decode cX2_buriedOf 47 = .ok (.iload_n 3, 1) := dk_29 (dk_at dksX2_buriedOf_1 23 rfl rfl)
theorem dX2_buriedOf_48 : decode cX2_buriedOf 48 = .ok (.bipush 36, 2) := dk_16 36 (dk_at dksX2_buriedOf_2 0 rfl rfl)
theorem dX2_buriedOf_50 : decode cX2_buriedOf 50 = .ok (.idiv, 1) := dk_108 (dk_at dksX2_buriedOf_2 2 rfl rfl)
theorem dX2_buriedOf_51 : decode cX2_buriedOf 51 = .ok (.iload_n 3, 1) := dk_29 (dk_at dksX2_buriedOf_2 3 rfl rfl)
theorem dX2_buriedOf_52 : decode cX2_buriedOf 52 = .ok (.bipush 36, 2) := dk_16 36 (dk_at dksX2_buriedOf_2 4 rfl rfl)
theorem dX2_buriedOf_54 : decode cX2_buriedOf 54 = .ok (.irem, 1) := dk_112 (dk_at dksX2_buriedOf_2 6 rfl rfl)
theorem dX2_buriedOf_55 : decode cX2_buriedOf 55 = .ok (.invokevirtual 187, 3) := dk_182 0 187 (dk_at dksX2_buriedOf_2 7 rfl rfl)
theorem dX2_buriedOf_58 : decode cX2_buriedOf 58 = .ok (.if_icmp .ge 7, 3) := dk_162 0 7 (dk_at dksX2_buriedOf_2 10 rfl rfl)
theorem dX2_buriedOf_61 : decode cX2_buriedOf 61 = .ok (.iconst 1, 1) := dk_4 (dk_at dksX2_buriedOf_2 13 rfl rfl)
theorem dX2_buriedOf_62 : decode cX2_buriedOf 62 = .ok (.goto 4, 3) := dk_167 0 4 (dk_at dksX2_buriedOf_2 14 rfl rfl)
theorem dX2_buriedOf_65 : decode cX2_buriedOf 65 = .ok (.iconst 0, 1) := dk_3 (dk_at dksX2_buriedOf_2 17 rfl rfl)
theorem dX2_buriedOf_66 : decode cX2_buriedOf 66 = .ok (.iadd, 1) := dk_96 (dk_at dksX2_buriedOf_2 18 rfl rfl)
theorem dX2_buriedOf_67 : decode cX2_buriedOf 67 = .ok (.istore_n 2, 1) := dk_61 (dk_at dksX2_buriedOf_2 19 rfl rfl)
theorem dX2_buriedOf_68 : decode cX2_buriedOf 68 = .ok (.iinc 3 1, 3) := dk_132 3 1 (dk_at dksX2_buriedOf_2 20 rfl rfl)
theorem dX2_buriedOf_71 : decode cX2_buriedOf 71 = .ok (.goto (-67), 3) := dk_167 255 189 (dk_at dksX2_buriedOf_3 0 rfl rfl)
theorem dX2_buriedOf_74 : decode cX2_buriedOf 74 = .ok (.iload_n 2, 1) := dk_28 (dk_at dksX2_buriedOf_3 3 rfl rfl)
theorem dX2_buriedOf_75 : decode cX2_buriedOf 75 = .ok (.ireturn, 1) := dk_172 (dk_at dksX2_buriedOf_3 4 rfl rfl)
abbrev cX2_tunes : ByteArray := prog_13_method_72_code
def yX2_tunes : MethodName := ⟨RX2, "tunes", "()I"⟩
def dkwX2_tunes_2 : List UInt8 := [96, 60, 132, 2, 1, 167, 255, 229, 27, 172]
abbrev dktX2_tunes_2 : List UInt8 := dkwX2_tunes_2 ++ []
def dkwX2_tunes_1 : List UInt8 := [3, 61, 28, 42, 182, 0, 80, 162, 0, 25, 27, 42, 28, 182, 0, 202, 153, 0, 7, 4, 167, 0, 4, 3]
abbrev dktX2_tunes_1 : List UInt8 := dkwX2_tunes_1 ++ dktX2_tunes_2
def dkwX2_tunes_0 : List UInt8 := [42, 4, 182, 0, 165, 16, 252, 160, 0, 12, 42, 16, 7, 182, 0, 36, 154, 0, 6, 16, 254, 172, 3, 60]
abbrev dktX2_tunes_0 : List UInt8 := dkwX2_tunes_0 ++ dktX2_tunes_1
theorem dksX2_tunes_0 : cX2_tunes.data.toList.drop 0 = dktX2_tunes_0 := by decide +kernel
theorem dksX2_tunes_1 : cX2_tunes.data.toList.drop 24 = dktX2_tunes_1 := dk_seg dksX2_tunes_0 24 rfl rfl
theorem dksX2_tunes_2 : cX2_tunes.data.toList.drop 48 = dktX2_tunes_2 := dk_seg dksX2_tunes_1 24 rfl rfl
theorem dX2_tunes_0 : decode cX2_tunes 0 = .ok (.aload_n 0, 1) := dk_42 (dk_at dksX2_tunes_0 0 rfl rfl)
theorem dX2_tunes_1 : decode cX2_tunes 1 = .ok (.iconst 1, 1) := dk_4 (dk_at dksX2_tunes_0 1 rfl rfl)
theorem dX2_tunes_2 : decode cX2_tunes 2 = .ok (.invokevirtual 165, 3) := dk_182 0 165 (dk_at dksX2_tunes_0 2 rfl rfl)
theorem dX2_tunes_5 : decode cX2_tunes 5 = .ok (.bipush (-4), 2) := dk_16 252 (dk_at dksX2_tunes_0 5 rfl rfl)
theorem dX2_tunes_7 : decode cX2_tunes 7 = .ok (.if_icmp .ne 12, 3) := dk_160 0 12 (dk_at dksX2_tunes_0 7 rfl rfl)
theorem dX2_tunes_10 : decode cX2_tunes 10 = .ok (.aload_n 0, 1) := dk_42 (dk_at dksX2_tunes_0 10 rfl rfl)
theorem dX2_tunes_11 : decode cX2_tunes 11 = .ok (.bipush 7, 2) := dk_16 7 (dk_at dksX2_tunes_0 11 rfl rfl)
theorem dX2_tunes_13 : decode cX2_tunes 13 = .ok (.invokevirtual 36, 3) := dk_182 0 36 (dk_at dksX2_tunes_0 13 rfl rfl)
theorem dX2_tunes_16 : decode cX2_tunes 16 = .ok (.ifCond .ne 6, 3) := dk_154 0 6 (dk_at dksX2_tunes_0 16 rfl rfl)
theorem dX2_tunes_19 : decode cX2_tunes 19 = .ok (.bipush (-2), 2) := dk_16 254 (dk_at dksX2_tunes_0 19 rfl rfl)
theorem dX2_tunes_21 : decode cX2_tunes 21 = .ok (.ireturn, 1) := dk_172 (dk_at dksX2_tunes_0 21 rfl rfl)
theorem dX2_tunes_22 : decode cX2_tunes 22 = .ok (.iconst 0, 1) := dk_3 (dk_at dksX2_tunes_0 22 rfl rfl)
theorem dX2_tunes_23 : decode cX2_tunes 23 = .ok (.istore_n 1, 1) := dk_60 (dk_at dksX2_tunes_0 23 rfl rfl)
theorem dX2_tunes_24 : decode cX2_tunes 24 = .ok (.iconst 0, 1) := dk_3 (dk_at dksX2_tunes_1 0 rfl rfl)
theorem dX2_tunes_25 : decode cX2_tunes 25 = .ok (.istore_n 2, 1) := dk_61 (dk_at dksX2_tunes_1 1 rfl rfl)
theorem dX2_tunes_26 : decode cX2_tunes 26 = .ok (.iload_n 2, 1) := dk_28 (dk_at dksX2_tunes_1 2 rfl rfl)
theorem dX2_tunes_27 : decode cX2_tunes 27 = .ok (.aload_n 0, 1) := dk_42 (dk_at dksX2_tunes_1 3 rfl rfl)
theorem dX2_tunes_28 : decode cX2_tunes 28 = .ok (.invokevirtual 80, 3) := dk_182 0 80 (dk_at dksX2_tunes_1 4 rfl rfl)
theorem dX2_tunes_31 : decode cX2_tunes 31 = .ok (.if_icmp .ge 25, 3) := dk_162 0 25 (dk_at dksX2_tunes_1 7 rfl rfl)
theorem dX2_tunes_34 : decode cX2_tunes 34 = .ok (.iload_n 1, 1) := dk_27 (dk_at dksX2_tunes_1 10 rfl rfl)
theorem dX2_tunes_35 : decode cX2_tunes 35 = .ok (.aload_n 0, 1) := dk_42 (dk_at dksX2_tunes_1 11 rfl rfl)
theorem dX2_tunes_36 : decode cX2_tunes 36 = .ok (.iload_n 2, 1) := dk_28 (dk_at dksX2_tunes_1 12 rfl rfl)
theorem dX2_tunes_37 : decode cX2_tunes 37 = .ok (.invokevirtual 202, 3) := dk_182 0 202 (dk_at dksX2_tunes_1 13 rfl rfl)
theorem dX2_tunes_40 : decode cX2_tunes 40 = .ok (.ifCond .eq 7, 3) := dk_153 0 7 (dk_at dksX2_tunes_1 16 rfl rfl)
theorem dX2_tunes_43 : decode cX2_tunes 43 = .ok (.iconst 1, 1) := dk_4 (dk_at dksX2_tunes_1 19 rfl rfl)
theorem dX2_tunes_44 : decode cX2_tunes 44 = .ok (.goto 4, 3) := dk_167 0 4 (dk_at dksX2_tunes_1 20 rfl rfl)
theorem dX2_tunes_47 : decode cX2_tunes 47 = .ok (.iconst 0, 1) := dk_3 (dk_at dksX2_tunes_1 23 rfl rfl)
theorem dX2_tunes_48 : decode cX2_tunes 48 = .ok (.iadd, 1) := dk_96 (dk_at dksX2_tunes_2 0 rfl rfl)
theorem dX2_tunes_49 : decode cX2_tunes 49 = .ok (.istore_n 1, 1) := dk_60 (dk_at dksX2_tunes_2 1 rfl rfl)
theorem dX2_tunes_50 : decode cX2_tunes 50 = .ok (.iinc 2 1, 3) := dk_132 2 1 (dk_at dksX2_tunes_2 2 rfl rfl)
theorem dX2_tunes_53 : decode cX2_tunes 53 = .ok (.goto (-27), 3) := dk_167 255 229 (dk_at dksX2_tunes_2 5 rfl rfl)
theorem dX2_tunes_56 : decode cX2_tunes 56 = .ok (.iload_n 1, 1) := dk_27 (dk_at dksX2_tunes_2 8 rfl rfl)
theorem dX2_tunes_57 : decode cX2_tunes 57 = .ok (.ireturn, 1) := dk_172 (dk_at dksX2_tunes_2 9 rfl rfl)
abbrev cX2_comesAt : ByteArray := prog_13_method_71_code
def yX2_comesAt : MethodName := ⟨RX2, "comesAt", "(I)Z"⟩
def dkwX2_comesAt_2 : List UInt8 := [182, 0, 80, 112, 62, 42, 21, 4, 3, 16, 35, 182, 0, 156, 4, 96, 54, 4, 167, 255, 200, 28, 172]
abbrev dktX2_comesAt_2 : List UInt8 := dkwX2_comesAt_2 ++ []
def dkwX2_comesAt_1 : List UInt8 := [182, 0, 196, 42, 21, 4, 182, 0, 168, 160, 0, 7, 4, 167, 0, 4, 3, 61, 29, 4, 96, 42]
abbrev dktX2_comesAt_1 : List UInt8 := dkwX2_comesAt_1 ++ dktX2_comesAt_2
def dkwX2_comesAt_0 : List UInt8 := [4, 61, 27, 62, 3, 54, 4, 21, 4, 42, 180, 0, 147, 162, 0, 53, 28, 153, 0, 22, 42, 29, 5]
abbrev dktX2_comesAt_0 : List UInt8 := dkwX2_comesAt_0 ++ dktX2_comesAt_1
theorem dksX2_comesAt_0 : cX2_comesAt.data.toList.drop 0 = dktX2_comesAt_0 := by decide +kernel
theorem dksX2_comesAt_1 : cX2_comesAt.data.toList.drop 23 = dktX2_comesAt_1 := dk_seg dksX2_comesAt_0 23 rfl rfl
theorem dksX2_comesAt_2 : cX2_comesAt.data.toList.drop 45 = dktX2_comesAt_2 := dk_seg dksX2_comesAt_1 22 rfl rfl
theorem dX2_comesAt_0 : decode cX2_comesAt 0 = .ok (.iconst 1, 1) := dk_4 (dk_at dksX2_comesAt_0 0 rfl rfl)
theorem dX2_comesAt_1 : decode cX2_comesAt 1 = .ok (.istore_n 2, 1) := dk_61 (dk_at dksX2_comesAt_0 1 rfl rfl)
theorem dX2_comesAt_2 : decode cX2_comesAt 2 = .ok (.iload_n 1, 1) := dk_27 (dk_at dksX2_comesAt_0 2 rfl rfl)
theorem dX2_comesAt_3 : decode cX2_comesAt 3 = .ok (.istore_n 3, 1) := dk_62 (dk_at dksX2_comesAt_0 3 rfl rfl)
theorem dX2_comesAt_4 : decode cX2_comesAt 4 = .ok (.iconst 0, 1) := dk_3 (dk_at dksX2_comesAt_0 4 rfl rfl)
theorem dX2_comesAt_5 : decode cX2_comesAt 5 = .ok (.istore 4, 2) := dk_54 4 (dk_at dksX2_comesAt_0 5 rfl rfl)
theorem dX2_comesAt_7 : decode cX2_comesAt 7 = .ok (.iload 4, 2) := dk_21 4 (dk_at dksX2_comesAt_0 7 rfl rfl)
theorem dX2_comesAt_9 : decode cX2_comesAt 9 = .ok (.aload_n 0, 1) := dk_42 (dk_at dksX2_comesAt_0 9 rfl rfl)
theorem dX2_comesAt_10 : decode cX2_comesAt 10 = .ok (.getfield 147, 3) := dk_180 0 147 (dk_at dksX2_comesAt_0 10 rfl rfl)
theorem dX2_comesAt_13 : decode cX2_comesAt 13 = .ok (.if_icmp .ge 53, 3) := dk_162 0 53 (dk_at dksX2_comesAt_0 13 rfl rfl)
theorem dX2_comesAt_16 : decode cX2_comesAt 16 = .ok (.iload_n 2, 1) := dk_28 (dk_at dksX2_comesAt_0 16 rfl rfl)
theorem dX2_comesAt_17 : decode cX2_comesAt 17 = .ok (.ifCond .eq 22, 3) := dk_153 0 22 (dk_at dksX2_comesAt_0 17 rfl rfl)
theorem dX2_comesAt_20 : decode cX2_comesAt 20 = .ok (.aload_n 0, 1) := dk_42 (dk_at dksX2_comesAt_0 20 rfl rfl)
theorem dX2_comesAt_21 : decode cX2_comesAt 21 = .ok (.iload_n 3, 1) := dk_29 (dk_at dksX2_comesAt_0 21 rfl rfl)
theorem dX2_comesAt_22 : decode cX2_comesAt 22 = .ok (.iconst 2, 1) := dk_5 (dk_at dksX2_comesAt_0 22 rfl rfl)
theorem dX2_comesAt_23 : decode cX2_comesAt 23 = .ok (.invokevirtual 196, 3) := dk_182 0 196 (dk_at dksX2_comesAt_1 0 rfl rfl)
theorem dX2_comesAt_26 : decode cX2_comesAt 26 = .ok (.aload_n 0, 1) := dk_42 (dk_at dksX2_comesAt_1 3 rfl rfl)
theorem dX2_comesAt_27 : decode cX2_comesAt 27 = .ok (.iload 4, 2) := dk_21 4 (dk_at dksX2_comesAt_1 4 rfl rfl)
theorem dX2_comesAt_29 : decode cX2_comesAt 29 = .ok (.invokevirtual 168, 3) := dk_182 0 168 (dk_at dksX2_comesAt_1 6 rfl rfl)
theorem dX2_comesAt_32 : decode cX2_comesAt 32 = .ok (.if_icmp .ne 7, 3) := dk_160 0 7 (dk_at dksX2_comesAt_1 9 rfl rfl)
theorem dX2_comesAt_35 : decode cX2_comesAt 35 = .ok (.iconst 1, 1) := dk_4 (dk_at dksX2_comesAt_1 12 rfl rfl)
theorem dX2_comesAt_36 : decode cX2_comesAt 36 = .ok (.goto 4, 3) := dk_167 0 4 (dk_at dksX2_comesAt_1 13 rfl rfl)
theorem dX2_comesAt_39 : decode cX2_comesAt 39 = .ok (.iconst 0, 1) := dk_3 (dk_at dksX2_comesAt_1 16 rfl rfl)
theorem dX2_comesAt_40 : decode cX2_comesAt 40 = .ok (.istore_n 2, 1) := dk_61 (dk_at dksX2_comesAt_1 17 rfl rfl)
theorem dX2_comesAt_41 : decode cX2_comesAt 41 = .ok (.iload_n 3, 1) := dk_29 (dk_at dksX2_comesAt_1 18 rfl rfl)
theorem dX2_comesAt_42 : decode cX2_comesAt 42 = .ok (.iconst 1, 1) := dk_4 (dk_at dksX2_comesAt_1 19 rfl rfl)
theorem dX2_comesAt_43 : decode cX2_comesAt 43 = .ok (.iadd, 1) := dk_96 (dk_at dksX2_comesAt_1 20 rfl rfl)
theorem dX2_comesAt_44 : decode cX2_comesAt 44 = .ok (.aload_n 0, 1) := dk_42 (dk_at dksX2_comesAt_1 21 rfl rfl)
theorem dX2_comesAt_45 : decode cX2_comesAt 45 = .ok (.invokevirtual 80, 3) := dk_182 0 80 (dk_at dksX2_comesAt_2 0 rfl rfl)
theorem dX2_comesAt_48 : decode cX2_comesAt 48 = .ok (.irem, 1) := dk_112 (dk_at dksX2_comesAt_2 3 rfl rfl)
theorem dX2_comesAt_49 : decode cX2_comesAt 49 = .ok (.istore_n 3, 1) := dk_62 (dk_at dksX2_comesAt_2 4 rfl rfl)
theorem dX2_comesAt_50 : decode cX2_comesAt 50 = .ok (.aload_n 0, 1) := dk_42 (dk_at dksX2_comesAt_2 5 rfl rfl)
theorem dX2_comesAt_51 : decode cX2_comesAt 51 = .ok (.iload 4, 2) := dk_21 4 (dk_at dksX2_comesAt_2 6 rfl rfl)
theorem dX2_comesAt_53 : decode cX2_comesAt 53 = .ok (.iconst 0, 1) := dk_3 (dk_at dksX2_comesAt_2 8 rfl rfl)
theorem dX2_comesAt_54 : decode cX2_comesAt 54 = .ok (.bipush 35, 2) := dk_16 35 (dk_at dksX2_comesAt_2 9 rfl rfl)
theorem dX2_comesAt_56 : decode cX2_comesAt 56 = .ok (.invokevirtual 156, 3) := dk_182 0 156 (dk_at dksX2_comesAt_2 11 rfl rfl)
theorem dX2_comesAt_59 : decode cX2_comesAt 59 = .ok (.iconst 1, 1) := dk_4 (dk_at dksX2_comesAt_2 14 rfl rfl)
theorem dX2_comesAt_60 : decode cX2_comesAt 60 = .ok (.iadd, 1) := dk_96 (dk_at dksX2_comesAt_2 15 rfl rfl)
theorem dX2_comesAt_61 : decode cX2_comesAt 61 = .ok (.istore 4, 2) := dk_54 4 (dk_at dksX2_comesAt_2 16 rfl rfl)
theorem dX2_comesAt_63 : decode cX2_comesAt 63 = .ok (.goto (-56), 3) := dk_167 255 200 (dk_at dksX2_comesAt_2 18 rfl rfl)
theorem dX2_comesAt_66 : decode cX2_comesAt 66 = .ok (.iload_n 2, 1) := dk_28 (dk_at dksX2_comesAt_2 21 rfl rfl)
theorem dX2_comesAt_67 : decode cX2_comesAt 67 = .ok (.ireturn, 1) := dk_172 (dk_at dksX2_comesAt_2 22 rfl rfl)
abbrev cX2_count : ByteArray := prog_13_method_73_code
def yX2_count : MethodName := ⟨RX2, "count", "(I)I"⟩
def dkwX2_count_7 : List UInt8 := [180, 0, 147, 172, 42, 180, 0, 28, 172, 42, 16, 13, 182, 0, 36, 172, 2, 172]
abbrev dktX2_count_7 : List UInt8 := dkwX2_count_7 ++ []
def dkwX2_count_6 : List UInt8 := [182, 0, 181, 172, 42, 5, 182, 0, 36, 172, 42, 6, 27, 96, 16, 10, 100, 182, 0, 36, 172, 42]
abbrev dktX2_count_6 : List UInt8 := dkwX2_count_6 ++ dktX2_count_7
def dkwX2_count_5 : List UInt8 := [3, 172, 42, 16, 9, 182, 0, 36, 172, 42, 16, 11, 182, 0, 36, 172, 42, 16, 6, 16, 48, 4]
abbrev dktX2_count_5 : List UInt8 := dkwX2_count_5 ++ dktX2_count_6
def dkwX2_count_4 : List UInt8 := [182, 0, 36, 5, 159, 0, 12, 42, 3, 182, 0, 36, 6, 160, 0, 11, 42, 4, 182, 0, 36, 167, 0, 4]
abbrev dktX2_count_4 : List UInt8 := dkwX2_count_4 ++ dktX2_count_5
def dkwX2_count_3 : List UInt8 := [42, 16, 6, 182, 0, 36, 172, 42, 16, 7, 182, 0, 36, 172, 42, 16, 8, 182, 0, 36, 172, 42, 3]
abbrev dktX2_count_3 : List UInt8 := dkwX2_count_3 ++ dktX2_count_4
def dkwX2_count_2 : List UInt8 := [42, 3, 182, 0, 36, 172, 42, 182, 0, 80, 172, 42, 16, 7, 182, 0, 36, 154, 0, 7, 3, 167, 0, 9]
abbrev dktX2_count_2 : List UInt8 := dkwX2_count_2 ++ dktX2_count_3
def dkwX2_count_1 : List UInt8 := [170, 0, 0, 0, 0, 0, 210, 0, 0, 0, 0, 0, 0, 0, 15, 0, 0, 0, 79, 0, 0, 0, 85, 0, 0, 0, 90, 0, 0, 0, 110, 0, 0, 0, 117, 0, 0, 0, 124, 0, 0, 0, 152, 0, 0, 0, 159, 0, 0, 0, 166, 0, 0, 0, 176, 0, 0, 0, 182, 0, 0, 0, 182, 0, 0, 0, 182, 0, 0, 0, 193, 0, 0, 0, 198, 0, 0, 0, 203]
abbrev dktX2_count_1 : List UInt8 := dkwX2_count_1 ++ dktX2_count_2
def dkwX2_count_0 : List UInt8 := [27]
abbrev dktX2_count_0 : List UInt8 := dkwX2_count_0 ++ dktX2_count_1
theorem dksX2_count_0 : cX2_count.data.toList.drop 0 = dktX2_count_0 := by decide +kernel
theorem dksX2_count_1 : cX2_count.data.toList.drop 1 = dktX2_count_1 := dk_seg dksX2_count_0 1 rfl rfl
theorem dksX2_count_2 : cX2_count.data.toList.drop 80 = dktX2_count_2 := dk_seg dksX2_count_1 79 rfl rfl
theorem dksX2_count_3 : cX2_count.data.toList.drop 104 = dktX2_count_3 := dk_seg dksX2_count_2 24 rfl rfl
theorem dksX2_count_4 : cX2_count.data.toList.drop 127 = dktX2_count_4 := dk_seg dksX2_count_3 23 rfl rfl
theorem dksX2_count_5 : cX2_count.data.toList.drop 151 = dktX2_count_5 := dk_seg dksX2_count_4 24 rfl rfl
theorem dksX2_count_6 : cX2_count.data.toList.drop 173 = dktX2_count_6 := dk_seg dksX2_count_5 22 rfl rfl
theorem dksX2_count_7 : cX2_count.data.toList.drop 195 = dktX2_count_7 := dk_seg dksX2_count_6 22 rfl rfl
theorem dX2_count_0 : decode cX2_count 0 = .ok (.iload_n 1, 1) := dk_27 (dk_at dksX2_count_0 0 rfl rfl)
theorem dX2_count_1 : decode cX2_count 1 = .ok (.tableswitch 210 0 15 #[79, 85, 90, 110, 117, 124, 152, 159, 166, 176, 182, 182, 182, 193, 198, 203], 79) := by decide +kernel
theorem dX2_count_80 : decode cX2_count 80 = .ok (.aload_n 0, 1) := dk_42 (dk_at dksX2_count_2 0 rfl rfl)
theorem dX2_count_81 : decode cX2_count 81 = .ok (.iconst 0, 1) := dk_3 (dk_at dksX2_count_2 1 rfl rfl)
theorem dX2_count_82 : decode cX2_count 82 = .ok (.invokevirtual 36, 3) := dk_182 0 36 (dk_at dksX2_count_2 2 rfl rfl)
theorem dX2_count_85 : decode cX2_count 85 = .ok (.ireturn, 1) := dk_172 (dk_at dksX2_count_2 5 rfl rfl)
theorem dX2_count_86 : decode cX2_count 86 = .ok (.aload_n 0, 1) := dk_42 (dk_at dksX2_count_2 6 rfl rfl)
theorem dX2_count_87 : decode cX2_count 87 = .ok (.invokevirtual 80, 3) := dk_182 0 80 (dk_at dksX2_count_2 7 rfl rfl)
theorem dX2_count_90 : decode cX2_count 90 = .ok (.ireturn, 1) := dk_172 (dk_at dksX2_count_2 10 rfl rfl)
theorem dX2_count_91 : decode cX2_count 91 = .ok (.aload_n 0, 1) := dk_42 (dk_at dksX2_count_2 11 rfl rfl)
theorem dX2_count_92 : decode cX2_count 92 = .ok (.bipush 7, 2) := dk_16 7 (dk_at dksX2_count_2 12 rfl rfl)
theorem dX2_count_94 : decode cX2_count 94 = .ok (.invokevirtual 36, 3) := dk_182 0 36 (dk_at dksX2_count_2 14 rfl rfl)
theorem dX2_count_97 : decode cX2_count 97 = .ok (.ifCond .ne 7, 3) := dk_154 0 7 (dk_at dksX2_count_2 17 rfl rfl)
theorem dX2_count_100 : decode cX2_count 100 = .ok (.iconst 0, 1) := dk_3 (dk_at dksX2_count_2 20 rfl rfl)
theorem dX2_count_101 : decode cX2_count 101 = .ok (.goto 9, 3) := dk_167 0 9 (dk_at dksX2_count_2 21 rfl rfl)
theorem dX2_count_104 : decode cX2_count 104 = .ok (.aload_n 0, 1) := dk_42 (dk_at dksX2_count_3 0 rfl rfl)
theorem dX2_count_105 : decode cX2_count 105 = .ok (.bipush 6, 2) := dk_16 6 (dk_at dksX2_count_3 1 rfl rfl)
theorem dX2_count_107 : decode cX2_count 107 = .ok (.invokevirtual 36, 3) := dk_182 0 36 (dk_at dksX2_count_3 3 rfl rfl)
theorem dX2_count_110 : decode cX2_count 110 = .ok (.ireturn, 1) := dk_172 (dk_at dksX2_count_3 6 rfl rfl)
theorem dX2_count_111 : decode cX2_count 111 = .ok (.aload_n 0, 1) := dk_42 (dk_at dksX2_count_3 7 rfl rfl)
theorem dX2_count_112 : decode cX2_count 112 = .ok (.bipush 7, 2) := dk_16 7 (dk_at dksX2_count_3 8 rfl rfl)
theorem dX2_count_114 : decode cX2_count 114 = .ok (.invokevirtual 36, 3) := dk_182 0 36 (dk_at dksX2_count_3 10 rfl rfl)
theorem dX2_count_117 : decode cX2_count 117 = .ok (.ireturn, 1) := dk_172 (dk_at dksX2_count_3 13 rfl rfl)
theorem dX2_count_118 : decode cX2_count 118 = .ok (.aload_n 0, 1) := dk_42 (dk_at dksX2_count_3 14 rfl rfl)
theorem dX2_count_119 : decode cX2_count 119 = .ok (.bipush 8, 2) := dk_16 8 (dk_at dksX2_count_3 15 rfl rfl)
theorem dX2_count_121 : decode cX2_count 121 = .ok (.invokevirtual 36, 3) := dk_182 0 36 (dk_at dksX2_count_3 17 rfl rfl)
theorem dX2_count_124 : decode cX2_count 124 = .ok (.ireturn, 1) := dk_172 (dk_at dksX2_count_3 20 rfl rfl)
theorem dX2_count_125 : decode cX2_count 125 = .ok (.aload_n 0, 1) := dk_42 (dk_at dksX2_count_3 21 rfl rfl)
theorem dX2_count_126 : decode cX2_count 126 = .ok (.iconst 0, 1) := dk_3 (dk_at dksX2_count_3 22 rfl rfl)
theorem dX2_count_127 : decode cX2_count 127 = .ok (.invokevirtual 36, 3) := dk_182 0 36 (dk_at dksX2_count_4 0 rfl rfl)
theorem dX2_count_130 : decode cX2_count 130 = .ok (.iconst 2, 1) := dk_5 (dk_at dksX2_count_4 3 rfl rfl)
theorem dX2_count_131 : decode cX2_count 131 = .ok (.if_icmp .eq 12, 3) := dk_159 0 12 (dk_at dksX2_count_4 4 rfl rfl)
theorem dX2_count_134 : decode cX2_count 134 = .ok (.aload_n 0, 1) := dk_42 (dk_at dksX2_count_4 7 rfl rfl)
theorem dX2_count_135 : decode cX2_count 135 = .ok (.iconst 0, 1) := dk_3 (dk_at dksX2_count_4 8 rfl rfl)
theorem dX2_count_136 : decode cX2_count 136 = .ok (.invokevirtual 36, 3) := dk_182 0 36 (dk_at dksX2_count_4 9 rfl rfl)
theorem dX2_count_139 : decode cX2_count 139 = .ok (.iconst 3, 1) := dk_6 (dk_at dksX2_count_4 12 rfl rfl)
theorem dX2_count_140 : decode cX2_count 140 = .ok (.if_icmp .ne 11, 3) := dk_160 0 11 (dk_at dksX2_count_4 13 rfl rfl)
theorem dX2_count_143 : decode cX2_count 143 = .ok (.aload_n 0, 1) := dk_42 (dk_at dksX2_count_4 16 rfl rfl)
theorem dX2_count_144 : decode cX2_count 144 = .ok (.iconst 1, 1) := dk_4 (dk_at dksX2_count_4 17 rfl rfl)
theorem dX2_count_145 : decode cX2_count 145 = .ok (.invokevirtual 36, 3) := dk_182 0 36 (dk_at dksX2_count_4 18 rfl rfl)
theorem dX2_count_148 : decode cX2_count 148 = .ok (.goto 4, 3) := dk_167 0 4 (dk_at dksX2_count_4 21 rfl rfl)
theorem dX2_count_151 : decode cX2_count 151 = .ok (.iconst 0, 1) := dk_3 (dk_at dksX2_count_5 0 rfl rfl)
theorem dX2_count_152 : decode cX2_count 152 = .ok (.ireturn, 1) := dk_172 (dk_at dksX2_count_5 1 rfl rfl)
theorem dX2_count_153 : decode cX2_count 153 = .ok (.aload_n 0, 1) := dk_42 (dk_at dksX2_count_5 2 rfl rfl)
theorem dX2_count_154 : decode cX2_count 154 = .ok (.bipush 9, 2) := dk_16 9 (dk_at dksX2_count_5 3 rfl rfl)
theorem dX2_count_156 : decode cX2_count 156 = .ok (.invokevirtual 36, 3) := dk_182 0 36 (dk_at dksX2_count_5 5 rfl rfl)
theorem dX2_count_159 : decode cX2_count 159 = .ok (.ireturn, 1) := dk_172 (dk_at dksX2_count_5 8 rfl rfl)
theorem dX2_count_160 : decode cX2_count 160 = .ok (.aload_n 0, 1) := dk_42 (dk_at dksX2_count_5 9 rfl rfl)
theorem dX2_count_161 : decode cX2_count 161 = .ok (.bipush 11, 2) := dk_16 11 (dk_at dksX2_count_5 10 rfl rfl)
theorem dX2_count_163 : decode cX2_count 163 = .ok (.invokevirtual 36, 3) := dk_182 0 36 (dk_at dksX2_count_5 12 rfl rfl)
theorem dX2_count_166 : decode cX2_count 166 = .ok (.ireturn, 1) := dk_172 (dk_at dksX2_count_5 15 rfl rfl)
theorem dX2_count_167 : decode cX2_count 167 = .ok (.aload_n 0, 1) := dk_42 (dk_at dksX2_count_5 16 rfl rfl)
theorem dX2_count_168 : decode cX2_count 168 = .ok (.bipush 6, 2) := dk_16 6 (dk_at dksX2_count_5 17 rfl rfl)
theorem dX2_count_170 : decode cX2_count 170 = .ok (.bipush 48, 2) := dk_16 48 (dk_at dksX2_count_5 19 rfl rfl)
theorem dX2_count_172 : decode cX2_count 172 = .ok (.iconst 1, 1) := dk_4 (dk_at dksX2_count_5 21 rfl rfl)
theorem dX2_count_173 : decode cX2_count 173 = .ok (.invokevirtual 181, 3) := dk_182 0 181 (dk_at dksX2_count_6 0 rfl rfl)
theorem dX2_count_176 : decode cX2_count 176 = .ok (.ireturn, 1) := dk_172 (dk_at dksX2_count_6 3 rfl rfl)
theorem dX2_count_177 : decode cX2_count 177 = .ok (.aload_n 0, 1) := dk_42 (dk_at dksX2_count_6 4 rfl rfl)
theorem dX2_count_178 : decode cX2_count 178 = .ok (.iconst 2, 1) := dk_5 (dk_at dksX2_count_6 5 rfl rfl)
theorem dX2_count_179 : decode cX2_count 179 = .ok (.invokevirtual 36, 3) := dk_182 0 36 (dk_at dksX2_count_6 6 rfl rfl)
theorem dX2_count_182 : decode cX2_count 182 = .ok (.ireturn, 1) := dk_172 (dk_at dksX2_count_6 9 rfl rfl)
theorem dX2_count_183 : decode cX2_count 183 = .ok (.aload_n 0, 1) := dk_42 (dk_at dksX2_count_6 10 rfl rfl)
theorem dX2_count_184 : decode cX2_count 184 = .ok (.iconst 3, 1) := dk_6 (dk_at dksX2_count_6 11 rfl rfl)
theorem dX2_count_185 : decode cX2_count 185 = .ok (.iload_n 1, 1) := dk_27 (dk_at dksX2_count_6 12 rfl rfl)
theorem dX2_count_186 : decode cX2_count 186 = .ok (.iadd, 1) := dk_96 (dk_at dksX2_count_6 13 rfl rfl)
theorem dX2_count_187 : decode cX2_count 187 = .ok (.bipush 10, 2) := dk_16 10 (dk_at dksX2_count_6 14 rfl rfl)
theorem dX2_count_189 : decode cX2_count 189 = .ok (.isub, 1) := dk_100 (dk_at dksX2_count_6 16 rfl rfl)
theorem dX2_count_190 : decode cX2_count 190 = .ok (.invokevirtual 36, 3) := dk_182 0 36 (dk_at dksX2_count_6 17 rfl rfl)
theorem dX2_count_193 : decode cX2_count 193 = .ok (.ireturn, 1) := dk_172 (dk_at dksX2_count_6 20 rfl rfl)
theorem dX2_count_194 : decode cX2_count 194 = .ok (.aload_n 0, 1) := dk_42 (dk_at dksX2_count_6 21 rfl rfl)
theorem dX2_count_195 : decode cX2_count 195 = .ok (.getfield 147, 3) := dk_180 0 147 (dk_at dksX2_count_7 0 rfl rfl)
theorem dX2_count_198 : decode cX2_count 198 = .ok (.ireturn, 1) := dk_172 (dk_at dksX2_count_7 3 rfl rfl)
theorem dX2_count_199 : decode cX2_count 199 = .ok (.aload_n 0, 1) := dk_42 (dk_at dksX2_count_7 4 rfl rfl)
theorem dX2_count_200 : decode cX2_count 200 = .ok (.getfield 28, 3) := dk_180 0 28 (dk_at dksX2_count_7 5 rfl rfl)
theorem dX2_count_203 : decode cX2_count 203 = .ok (.ireturn, 1) := dk_172 (dk_at dksX2_count_7 8 rfl rfl)
theorem dX2_count_204 : decode cX2_count 204 = .ok (.aload_n 0, 1) := dk_42 (dk_at dksX2_count_7 9 rfl rfl)
theorem dX2_count_205 : decode cX2_count 205 = .ok (.bipush 13, 2) := dk_16 13 (dk_at dksX2_count_7 10 rfl rfl)
theorem dX2_count_207 : decode cX2_count 207 = .ok (.invokevirtual 36, 3) := dk_182 0 36 (dk_at dksX2_count_7 12 rfl rfl)
theorem dX2_count_210 : decode cX2_count 210 = .ok (.ireturn, 1) := dk_172 (dk_at dksX2_count_7 15 rfl rfl)
theorem dX2_count_211 : decode cX2_count 211 = .ok (.iconst (-1), 1) := dk_2 (dk_at dksX2_count_7 16 rfl rfl)
theorem dX2_count_212 : decode cX2_count 212 = .ok (.ireturn, 1) := dk_172 (dk_at dksX2_count_7 17 rfl rfl)
abbrev cX2_loudness : ByteArray := prog_13_method_75_code
def yX2_loudness : MethodName := ⟨RX2, "loudness", "()D"⟩
def dkwX2_loudness_1 : List UInt8 := [15, 107, 42, 182, 0, 80, 135, 111, 175]
abbrev dktX2_loudness_1 : List UInt8 := dkwX2_loudness_1 ++ []
def dkwX2_loudness_0 : List UInt8 := [42, 16, 7, 182, 0, 36, 154, 0, 7, 14, 167, 0, 22, 42, 42, 16, 7, 182, 0, 36, 182, 0, 205, 135]
abbrev dktX2_loudness_0 : List UInt8 := dkwX2_loudness_0 ++ dktX2_loudness_1
theorem dksX2_loudness_0 : cX2_loudness.data.toList.drop 0 = dktX2_loudness_0 := by decide +kernel
theorem dksX2_loudness_1 : cX2_loudness.data.toList.drop 24 = dktX2_loudness_1 := dk_seg dksX2_loudness_0 24 rfl rfl
theorem dX2_loudness_0 : decode cX2_loudness 0 = .ok (.aload_n 0, 1) := dk_42 (dk_at dksX2_loudness_0 0 rfl rfl)
theorem dX2_loudness_1 : decode cX2_loudness 1 = .ok (.bipush 7, 2) := dk_16 7 (dk_at dksX2_loudness_0 1 rfl rfl)
theorem dX2_loudness_3 : decode cX2_loudness 3 = .ok (.invokevirtual 36, 3) := dk_182 0 36 (dk_at dksX2_loudness_0 3 rfl rfl)
theorem dX2_loudness_6 : decode cX2_loudness 6 = .ok (.ifCond .ne 7, 3) := dk_154 0 7 (dk_at dksX2_loudness_0 6 rfl rfl)
theorem dX2_loudness_9 : decode cX2_loudness 9 = .ok (.dconst 0, 1) := dk_14 (dk_at dksX2_loudness_0 9 rfl rfl)
theorem dX2_loudness_10 : decode cX2_loudness 10 = .ok (.goto 22, 3) := dk_167 0 22 (dk_at dksX2_loudness_0 10 rfl rfl)
theorem dX2_loudness_13 : decode cX2_loudness 13 = .ok (.aload_n 0, 1) := dk_42 (dk_at dksX2_loudness_0 13 rfl rfl)
theorem dX2_loudness_14 : decode cX2_loudness 14 = .ok (.aload_n 0, 1) := dk_42 (dk_at dksX2_loudness_0 14 rfl rfl)
theorem dX2_loudness_15 : decode cX2_loudness 15 = .ok (.bipush 7, 2) := dk_16 7 (dk_at dksX2_loudness_0 15 rfl rfl)
theorem dX2_loudness_17 : decode cX2_loudness 17 = .ok (.invokevirtual 36, 3) := dk_182 0 36 (dk_at dksX2_loudness_0 17 rfl rfl)
theorem dX2_loudness_20 : decode cX2_loudness 20 = .ok (.invokevirtual 205, 3) := dk_182 0 205 (dk_at dksX2_loudness_0 20 rfl rfl)
theorem dX2_loudness_23 : decode cX2_loudness 23 = .ok (.i2d, 1) := dk_135 (dk_at dksX2_loudness_0 23 rfl rfl)
theorem dX2_loudness_24 : decode cX2_loudness 24 = .ok (.dconst 1, 1) := dk_15 (dk_at dksX2_loudness_1 0 rfl rfl)
theorem dX2_loudness_25 : decode cX2_loudness 25 = .ok (.dmul, 1) := dk_107 (dk_at dksX2_loudness_1 1 rfl rfl)
theorem dX2_loudness_26 : decode cX2_loudness 26 = .ok (.aload_n 0, 1) := dk_42 (dk_at dksX2_loudness_1 2 rfl rfl)
theorem dX2_loudness_27 : decode cX2_loudness 27 = .ok (.invokevirtual 80, 3) := dk_182 0 80 (dk_at dksX2_loudness_1 3 rfl rfl)
theorem dX2_loudness_30 : decode cX2_loudness 30 = .ok (.i2d, 1) := dk_135 (dk_at dksX2_loudness_1 6 rfl rfl)
theorem dX2_loudness_31 : decode cX2_loudness 31 = .ok (.ddiv, 1) := dk_111 (dk_at dksX2_loudness_1 7 rfl rfl)
theorem dX2_loudness_32 : decode cX2_loudness 32 = .ok (.dreturn, 1) := dk_175 (dk_at dksX2_loudness_1 8 rfl rfl)
abbrev cX2_sumOf : ByteArray := prog_13_method_74_code
def yX2_sumOf : MethodName := ⟨RX2, "sumOf", "(I)I"⟩
def dkwX2_sumOf_1 : List UInt8 := [132, 3, 1, 167, 255, 235, 28, 172]
abbrev dktX2_sumOf_1 : List UInt8 := dkwX2_sumOf_1 ++ []
def dkwX2_sumOf_0 : List UInt8 := [3, 61, 3, 62, 29, 42, 27, 182, 0, 44, 162, 0, 18, 28, 42, 27, 29, 182, 0, 193, 96, 61]
abbrev dktX2_sumOf_0 : List UInt8 := dkwX2_sumOf_0 ++ dktX2_sumOf_1
theorem dksX2_sumOf_0 : cX2_sumOf.data.toList.drop 0 = dktX2_sumOf_0 := by decide +kernel
theorem dksX2_sumOf_1 : cX2_sumOf.data.toList.drop 22 = dktX2_sumOf_1 := dk_seg dksX2_sumOf_0 22 rfl rfl
theorem dX2_sumOf_0 : decode cX2_sumOf 0 = .ok (.iconst 0, 1) := dk_3 (dk_at dksX2_sumOf_0 0 rfl rfl)
theorem dX2_sumOf_1 : decode cX2_sumOf 1 = .ok (.istore_n 2, 1) := dk_61 (dk_at dksX2_sumOf_0 1 rfl rfl)
theorem dX2_sumOf_2 : decode cX2_sumOf 2 = .ok (.iconst 0, 1) := dk_3 (dk_at dksX2_sumOf_0 2 rfl rfl)
theorem dX2_sumOf_3 : decode cX2_sumOf 3 = .ok (.istore_n 3, 1) := dk_62 (dk_at dksX2_sumOf_0 3 rfl rfl)
theorem dX2_sumOf_4 : decode cX2_sumOf 4 = .ok (.iload_n 3, 1) := dk_29 (dk_at dksX2_sumOf_0 4 rfl rfl)
theorem dX2_sumOf_5 : decode cX2_sumOf 5 = .ok (.aload_n 0, 1) := dk_42 (dk_at dksX2_sumOf_0 5 rfl rfl)
theorem dX2_sumOf_6 : decode cX2_sumOf 6 = .ok (.iload_n 1, 1) := dk_27 (dk_at dksX2_sumOf_0 6 rfl rfl)
theorem dX2_sumOf_7 : decode cX2_sumOf 7 = .ok (.invokevirtual 44, 3) := dk_182 0 44 (dk_at dksX2_sumOf_0 7 rfl rfl)
theorem dX2_sumOf_10 : decode cX2_sumOf 10 = .ok (.if_icmp .ge 18, 3) := dk_162 0 18 (dk_at dksX2_sumOf_0 10 rfl rfl)
theorem dX2_sumOf_13 : decode cX2_sumOf 13 = .ok (.iload_n 2, 1) := dk_28 (dk_at dksX2_sumOf_0 13 rfl rfl)
theorem dX2_sumOf_14 : decode cX2_sumOf 14 = .ok (.aload_n 0, 1) := dk_42 (dk_at dksX2_sumOf_0 14 rfl rfl)
theorem dX2_sumOf_15 : decode cX2_sumOf 15 = .ok (.iload_n 1, 1) := dk_27 (dk_at dksX2_sumOf_0 15 rfl rfl)
theorem dX2_sumOf_16 : decode cX2_sumOf 16 = .ok (.iload_n 3, 1) := dk_29 (dk_at dksX2_sumOf_0 16 rfl rfl)
theorem dX2_sumOf_17 : decode cX2_sumOf 17 = .ok (.invokevirtual 193, 3) := dk_182 0 193 (dk_at dksX2_sumOf_0 17 rfl rfl)
theorem dX2_sumOf_20 : decode cX2_sumOf 20 = .ok (.iadd, 1) := dk_96 (dk_at dksX2_sumOf_0 20 rfl rfl)
theorem dX2_sumOf_21 : decode cX2_sumOf 21 = .ok (.istore_n 2, 1) := dk_61 (dk_at dksX2_sumOf_0 21 rfl rfl)
theorem dX2_sumOf_22 : decode cX2_sumOf 22 = .ok (.iinc 3 1, 3) := dk_132 3 1 (dk_at dksX2_sumOf_1 0 rfl rfl)
theorem dX2_sumOf_25 : decode cX2_sumOf 25 = .ok (.goto (-21), 3) := dk_167 255 235 (dk_at dksX2_sumOf_1 3 rfl rfl)
theorem dX2_sumOf_28 : decode cX2_sumOf 28 = .ok (.iload_n 2, 1) := dk_28 (dk_at dksX2_sumOf_1 6 rfl rfl)
theorem dX2_sumOf_29 : decode cX2_sumOf 29 = .ok (.ireturn, 1) := dk_172 (dk_at dksX2_sumOf_1 7 rfl rfl)
abbrev cX2_barIn : ByteArray := prog_13_method_76_code
def yX2_barIn : MethodName := ⟨RX2, "barIn", "()I"⟩
def dkwX2_barIn_2 : List UInt8 := [167, 0, 6, 27, 28, 100, 172]
abbrev dktX2_barIn_2 : List UInt8 := dkwX2_barIn_2 ++ []
def dkwX2_barIn_1 : List UInt8 := [182, 0, 36, 104, 60, 42, 180, 0, 7, 16, 10, 47, 27, 133, 113, 136, 61, 28, 154, 0, 7, 3]
abbrev dktX2_barIn_1 : List UInt8 := dkwX2_barIn_1 ++ dktX2_barIn_2
def dkwX2_barIn_0 : List UInt8 := [42, 3, 182, 0, 36, 5, 159, 0, 15, 42, 3, 182, 0, 36, 6, 159, 0, 6, 16, 254, 172, 5, 42, 6]
abbrev dktX2_barIn_0 : List UInt8 := dkwX2_barIn_0 ++ dktX2_barIn_1
theorem dksX2_barIn_0 : cX2_barIn.data.toList.drop 0 = dktX2_barIn_0 := by decide +kernel
theorem dksX2_barIn_1 : cX2_barIn.data.toList.drop 24 = dktX2_barIn_1 := dk_seg dksX2_barIn_0 24 rfl rfl
theorem dksX2_barIn_2 : cX2_barIn.data.toList.drop 46 = dktX2_barIn_2 := dk_seg dksX2_barIn_1 22 rfl rfl
theorem dX2_barIn_0 : decode cX2_barIn 0 = .ok (.aload_n 0, 1) := dk_42 (dk_at dksX2_barIn_0 0 rfl rfl)
theorem dX2_barIn_1 : decode cX2_barIn 1 = .ok (.iconst 0, 1) := dk_3 (dk_at dksX2_barIn_0 1 rfl rfl)
theorem dX2_barIn_2 : decode cX2_barIn 2 = .ok (.invokevirtual 36, 3) := dk_182 0 36 (dk_at dksX2_barIn_0 2 rfl rfl)
theorem dX2_barIn_5 : decode cX2_barIn 5 = .ok (.iconst 2, 1) := dk_5 (dk_at dksX2_barIn_0 5 rfl rfl)
theorem dX2_barIn_6 : decode cX2_barIn 6 = .ok (.if_icmp .eq 15, 3) := dk_159 0 15 (dk_at dksX2_barIn_0 6 rfl rfl)
theorem dX2_barIn_9 : decode cX2_barIn 9 = .ok (.aload_n 0, 1) := dk_42 (dk_at dksX2_barIn_0 9 rfl rfl)
theorem dX2_barIn_10 : decode cX2_barIn 10 = .ok (.iconst 0, 1) := dk_3 (dk_at dksX2_barIn_0 10 rfl rfl)
theorem dX2_barIn_11 : decode cX2_barIn 11 = .ok (.invokevirtual 36, 3) := dk_182 0 36 (dk_at dksX2_barIn_0 11 rfl rfl)
theorem dX2_barIn_14 : decode cX2_barIn 14 = .ok (.iconst 3, 1) := dk_6 (dk_at dksX2_barIn_0 14 rfl rfl)
theorem dX2_barIn_15 : decode cX2_barIn 15 = .ok (.if_icmp .eq 6, 3) := dk_159 0 6 (dk_at dksX2_barIn_0 15 rfl rfl)
theorem dX2_barIn_18 : decode cX2_barIn 18 = .ok (.bipush (-2), 2) := dk_16 254 (dk_at dksX2_barIn_0 18 rfl rfl)
theorem dX2_barIn_20 : decode cX2_barIn 20 = .ok (.ireturn, 1) := dk_172 (dk_at dksX2_barIn_0 20 rfl rfl)
theorem dX2_barIn_21 : decode cX2_barIn 21 = .ok (.iconst 2, 1) := dk_5 (dk_at dksX2_barIn_0 21 rfl rfl)
theorem dX2_barIn_22 : decode cX2_barIn 22 = .ok (.aload_n 0, 1) := dk_42 (dk_at dksX2_barIn_0 22 rfl rfl)
theorem dX2_barIn_23 : decode cX2_barIn 23 = .ok (.iconst 3, 1) := dk_6 (dk_at dksX2_barIn_0 23 rfl rfl)
theorem dX2_barIn_24 : decode cX2_barIn 24 = .ok (.invokevirtual 36, 3) := dk_182 0 36 (dk_at dksX2_barIn_1 0 rfl rfl)
theorem dX2_barIn_27 : decode cX2_barIn 27 = .ok (.imul, 1) := dk_104 (dk_at dksX2_barIn_1 3 rfl rfl)
theorem dX2_barIn_28 : decode cX2_barIn 28 = .ok (.istore_n 1, 1) := dk_60 (dk_at dksX2_barIn_1 4 rfl rfl)
theorem dX2_barIn_29 : decode cX2_barIn 29 = .ok (.aload_n 0, 1) := dk_42 (dk_at dksX2_barIn_1 5 rfl rfl)
theorem dX2_barIn_30 : decode cX2_barIn 30 = .ok (.getfield 7, 3) := dk_180 0 7 (dk_at dksX2_barIn_1 6 rfl rfl)
theorem dX2_barIn_33 : decode cX2_barIn 33 = .ok (.bipush 10, 2) := dk_16 10 (dk_at dksX2_barIn_1 9 rfl rfl)
theorem dX2_barIn_35 : decode cX2_barIn 35 = .ok (.laload, 1) := dk_47 (dk_at dksX2_barIn_1 11 rfl rfl)
theorem dX2_barIn_36 : decode cX2_barIn 36 = .ok (.iload_n 1, 1) := dk_27 (dk_at dksX2_barIn_1 12 rfl rfl)
theorem dX2_barIn_37 : decode cX2_barIn 37 = .ok (.i2l, 1) := dk_133 (dk_at dksX2_barIn_1 13 rfl rfl)
theorem dX2_barIn_38 : decode cX2_barIn 38 = .ok (.lrem, 1) := dk_113 (dk_at dksX2_barIn_1 14 rfl rfl)
theorem dX2_barIn_39 : decode cX2_barIn 39 = .ok (.l2i, 1) := dk_136 (dk_at dksX2_barIn_1 15 rfl rfl)
theorem dX2_barIn_40 : decode cX2_barIn 40 = .ok (.istore_n 2, 1) := dk_61 (dk_at dksX2_barIn_1 16 rfl rfl)
theorem dX2_barIn_41 : decode cX2_barIn 41 = .ok (.iload_n 2, 1) := dk_28 (dk_at dksX2_barIn_1 17 rfl rfl)
theorem dX2_barIn_42 : decode cX2_barIn 42 = .ok (.ifCond .ne 7, 3) := dk_154 0 7 (dk_at dksX2_barIn_1 18 rfl rfl)
theorem dX2_barIn_45 : decode cX2_barIn 45 = .ok (.iconst 0, 1) := dk_3 (dk_at dksX2_barIn_1 21 rfl rfl)
theorem dX2_barIn_46 : decode cX2_barIn 46 = .ok (.goto 6, 3) := dk_167 0 6 (dk_at dksX2_barIn_2 0 rfl rfl)
theorem dX2_barIn_49 : decode cX2_barIn 49 = .ok (.iload_n 1, 1) := dk_27 (dk_at dksX2_barIn_2 3 rfl rfl)
theorem dX2_barIn_50 : decode cX2_barIn 50 = .ok (.iload_n 2, 1) := dk_28 (dk_at dksX2_barIn_2 4 rfl rfl)
theorem dX2_barIn_51 : decode cX2_barIn 51 = .ok (.isub, 1) := dk_100 (dk_at dksX2_barIn_2 5 rfl rfl)
theorem dX2_barIn_52 : decode cX2_barIn 52 = .ok (.ireturn, 1) := dk_172 (dk_at dksX2_barIn_2 6 rfl rfl)
abbrev cX2_drift : ByteArray := prog_13_method_77_code
def yX2_drift : MethodName := ⟨RX2, "drift", "(I)I"⟩
def dkwX2_drift_2 : List UInt8 := [154, 0, 5, 28, 172, 132, 2, 1, 167, 255, 226, 16, 252, 172]
abbrev dktX2_drift_2 : List UInt8 := dkwX2_drift_2 ++ []
def dkwX2_drift_1 : List UInt8 := [3, 61, 28, 42, 182, 0, 80, 162, 0, 28, 27, 42, 182, 0, 80, 104, 28, 96, 42, 6, 182, 0, 36, 112]
abbrev dktX2_drift_1 : List UInt8 := dkwX2_drift_1 ++ dktX2_drift_2
def dkwX2_drift_0 : List UInt8 := [27, 3, 16, 99, 184, 0, 40, 154, 0, 5, 2, 172, 42, 16, 7, 182, 0, 36, 154, 0, 6, 16, 254, 172]
abbrev dktX2_drift_0 : List UInt8 := dkwX2_drift_0 ++ dktX2_drift_1
theorem dksX2_drift_0 : cX2_drift.data.toList.drop 0 = dktX2_drift_0 := by decide +kernel
theorem dksX2_drift_1 : cX2_drift.data.toList.drop 24 = dktX2_drift_1 := dk_seg dksX2_drift_0 24 rfl rfl
theorem dksX2_drift_2 : cX2_drift.data.toList.drop 48 = dktX2_drift_2 := dk_seg dksX2_drift_1 24 rfl rfl
theorem dX2_drift_0 : decode cX2_drift 0 = .ok (.iload_n 1, 1) := dk_27 (dk_at dksX2_drift_0 0 rfl rfl)
theorem dX2_drift_1 : decode cX2_drift 1 = .ok (.iconst 0, 1) := dk_3 (dk_at dksX2_drift_0 1 rfl rfl)
theorem dX2_drift_2 : decode cX2_drift 2 = .ok (.bipush 99, 2) := dk_16 99 (dk_at dksX2_drift_0 2 rfl rfl)
theorem dX2_drift_4 : decode cX2_drift 4 = .ok (.invokestatic 40, 3) := dk_184 0 40 (dk_at dksX2_drift_0 4 rfl rfl)
theorem dX2_drift_7 : decode cX2_drift 7 = .ok (.ifCond .ne 5, 3) := dk_154 0 5 (dk_at dksX2_drift_0 7 rfl rfl)
theorem dX2_drift_10 : decode cX2_drift 10 = .ok (.iconst (-1), 1) := dk_2 (dk_at dksX2_drift_0 10 rfl rfl)
theorem dX2_drift_11 : decode cX2_drift 11 = .ok (.ireturn, 1) := dk_172 (dk_at dksX2_drift_0 11 rfl rfl)
theorem dX2_drift_12 : decode cX2_drift 12 = .ok (.aload_n 0, 1) := dk_42 (dk_at dksX2_drift_0 12 rfl rfl)
theorem dX2_drift_13 : decode cX2_drift 13 = .ok (.bipush 7, 2) := dk_16 7 (dk_at dksX2_drift_0 13 rfl rfl)
theorem dX2_drift_15 : decode cX2_drift 15 = .ok (.invokevirtual 36, 3) := dk_182 0 36 (dk_at dksX2_drift_0 15 rfl rfl)
theorem dX2_drift_18 : decode cX2_drift 18 = .ok (.ifCond .ne 6, 3) := dk_154 0 6 (dk_at dksX2_drift_0 18 rfl rfl)
theorem dX2_drift_21 : decode cX2_drift 21 = .ok (.bipush (-2), 2) := dk_16 254 (dk_at dksX2_drift_0 21 rfl rfl)
theorem dX2_drift_23 : decode cX2_drift 23 = .ok (.ireturn, 1) := dk_172 (dk_at dksX2_drift_0 23 rfl rfl)
theorem dX2_drift_24 : decode cX2_drift 24 = .ok (.iconst 0, 1) := dk_3 (dk_at dksX2_drift_1 0 rfl rfl)
theorem dX2_drift_25 : decode cX2_drift 25 = .ok (.istore_n 2, 1) := dk_61 (dk_at dksX2_drift_1 1 rfl rfl)
theorem dX2_drift_26 : decode cX2_drift 26 = .ok (.iload_n 2, 1) := dk_28 (dk_at dksX2_drift_1 2 rfl rfl)
theorem dX2_drift_27 : decode cX2_drift 27 = .ok (.aload_n 0, 1) := dk_42 (dk_at dksX2_drift_1 3 rfl rfl)
theorem dX2_drift_28 : decode cX2_drift 28 = .ok (.invokevirtual 80, 3) := dk_182 0 80 (dk_at dksX2_drift_1 4 rfl rfl)
theorem dX2_drift_31 : decode cX2_drift 31 = .ok (.if_icmp .ge 28, 3) := dk_162 0 28 (dk_at dksX2_drift_1 7 rfl rfl)
theorem dX2_drift_34 : decode cX2_drift 34 = .ok (.iload_n 1, 1) := dk_27 (dk_at dksX2_drift_1 10 rfl rfl)
theorem dX2_drift_35 : decode cX2_drift 35 = .ok (.aload_n 0, 1) := dk_42 (dk_at dksX2_drift_1 11 rfl rfl)
theorem dX2_drift_36 : decode cX2_drift 36 = .ok (.invokevirtual 80, 3) := dk_182 0 80 (dk_at dksX2_drift_1 12 rfl rfl)
theorem dX2_drift_39 : decode cX2_drift 39 = .ok (.imul, 1) := dk_104 (dk_at dksX2_drift_1 15 rfl rfl)
theorem dX2_drift_40 : decode cX2_drift 40 = .ok (.iload_n 2, 1) := dk_28 (dk_at dksX2_drift_1 16 rfl rfl)
theorem dX2_drift_41 : decode cX2_drift 41 = .ok (.iadd, 1) := dk_96 (dk_at dksX2_drift_1 17 rfl rfl)
theorem dX2_drift_42 : decode cX2_drift 42 = .ok (.aload_n 0, 1) := dk_42 (dk_at dksX2_drift_1 18 rfl rfl)
theorem dX2_drift_43 : decode cX2_drift 43 = .ok (.iconst 3, 1) := dk_6 (dk_at dksX2_drift_1 19 rfl rfl)
theorem dX2_drift_44 : decode cX2_drift 44 = .ok (.invokevirtual 36, 3) := dk_182 0 36 (dk_at dksX2_drift_1 20 rfl rfl)
theorem dX2_drift_47 : decode cX2_drift 47 = .ok (.irem, 1) := dk_112 (dk_at dksX2_drift_1 23 rfl rfl)
theorem dX2_drift_48 : decode cX2_drift 48 = .ok (.ifCond .ne 5, 3) := dk_154 0 5 (dk_at dksX2_drift_2 0 rfl rfl)
theorem dX2_drift_51 : decode cX2_drift 51 = .ok (.iload_n 2, 1) := dk_28 (dk_at dksX2_drift_2 3 rfl rfl)
theorem dX2_drift_52 : decode cX2_drift 52 = .ok (.ireturn, 1) := dk_172 (dk_at dksX2_drift_2 4 rfl rfl)
theorem dX2_drift_53 : decode cX2_drift 53 = .ok (.iinc 2 1, 3) := dk_132 2 1 (dk_at dksX2_drift_2 5 rfl rfl)
theorem dX2_drift_56 : decode cX2_drift 56 = .ok (.goto (-30), 3) := dk_167 255 226 (dk_at dksX2_drift_2 8 rfl rfl)
theorem dX2_drift_59 : decode cX2_drift 59 = .ok (.bipush (-4), 2) := dk_16 252 (dk_at dksX2_drift_2 11 rfl rfl)
theorem dX2_drift_61 : decode cX2_drift 61 = .ok (.ireturn, 1) := dk_172 (dk_at dksX2_drift_2 13 rfl rfl)
abbrev cX2_meets : ByteArray := prog_13_method_78_code
def yX2_meets : MethodName := ⟨RX2, "meets", "()I"⟩
def dkwX2_meets_1 : List UInt8 := [182, 0, 36, 112, 153, 0, 9, 132, 1, 1, 167, 255, 238, 27, 172]
abbrev dktX2_meets_1 : List UInt8 := dkwX2_meets_1 ++ []
def dkwX2_meets_0 : List UInt8 := [42, 16, 7, 182, 0, 36, 154, 0, 6, 16, 254, 172, 4, 60, 27, 42, 182, 0, 80, 104, 42, 6]
abbrev dktX2_meets_0 : List UInt8 := dkwX2_meets_0 ++ dktX2_meets_1
theorem dksX2_meets_0 : cX2_meets.data.toList.drop 0 = dktX2_meets_0 := by decide +kernel
theorem dksX2_meets_1 : cX2_meets.data.toList.drop 22 = dktX2_meets_1 := dk_seg dksX2_meets_0 22 rfl rfl
theorem dX2_meets_0 : decode cX2_meets 0 = .ok (.aload_n 0, 1) := dk_42 (dk_at dksX2_meets_0 0 rfl rfl)
theorem dX2_meets_1 : decode cX2_meets 1 = .ok (.bipush 7, 2) := dk_16 7 (dk_at dksX2_meets_0 1 rfl rfl)
theorem dX2_meets_3 : decode cX2_meets 3 = .ok (.invokevirtual 36, 3) := dk_182 0 36 (dk_at dksX2_meets_0 3 rfl rfl)
theorem dX2_meets_6 : decode cX2_meets 6 = .ok (.ifCond .ne 6, 3) := dk_154 0 6 (dk_at dksX2_meets_0 6 rfl rfl)
theorem dX2_meets_9 : decode cX2_meets 9 = .ok (.bipush (-2), 2) := dk_16 254 (dk_at dksX2_meets_0 9 rfl rfl)
theorem dX2_meets_11 : decode cX2_meets 11 = .ok (.ireturn, 1) := dk_172 (dk_at dksX2_meets_0 11 rfl rfl)
theorem dX2_meets_12 : decode cX2_meets 12 = .ok (.iconst 1, 1) := dk_4 (dk_at dksX2_meets_0 12 rfl rfl)
theorem dX2_meets_13 : decode cX2_meets 13 = .ok (.istore_n 1, 1) := dk_60 (dk_at dksX2_meets_0 13 rfl rfl)
theorem dX2_meets_14 : decode cX2_meets 14 = .ok (.iload_n 1, 1) := dk_27 (dk_at dksX2_meets_0 14 rfl rfl)
theorem dX2_meets_15 : decode cX2_meets 15 = .ok (.aload_n 0, 1) := dk_42 (dk_at dksX2_meets_0 15 rfl rfl)
theorem dX2_meets_16 : decode cX2_meets 16 = .ok (.invokevirtual 80, 3) := dk_182 0 80 (dk_at dksX2_meets_0 16 rfl rfl)
theorem dX2_meets_19 : decode cX2_meets 19 = .ok (.imul, 1) := dk_104 (dk_at dksX2_meets_0 19 rfl rfl)
theorem dX2_meets_20 : decode cX2_meets 20 = .ok (.aload_n 0, 1) := dk_42 (dk_at dksX2_meets_0 20 rfl rfl)
theorem dX2_meets_21 : decode cX2_meets 21 = .ok (.iconst 3, 1) := dk_6 (dk_at dksX2_meets_0 21 rfl rfl)
theorem dX2_meets_22 : decode cX2_meets 22 = .ok (.invokevirtual 36, 3) := dk_182 0 36 (dk_at dksX2_meets_1 0 rfl rfl)
theorem dX2_meets_25 : decode cX2_meets 25 = .ok (.irem, 1) := dk_112 (dk_at dksX2_meets_1 3 rfl rfl)
theorem dX2_meets_26 : decode cX2_meets 26 = .ok (.ifCond .eq 9, 3) := dk_153 0 9 (dk_at dksX2_meets_1 4 rfl rfl)
theorem dX2_meets_29 : decode cX2_meets 29 = .ok (.iinc 1 1, 3) := dk_132 1 1 (dk_at dksX2_meets_1 7 rfl rfl)
theorem dX2_meets_32 : decode cX2_meets 32 = .ok (.goto (-18), 3) := dk_167 255 238 (dk_at dksX2_meets_1 10 rfl rfl)
theorem dX2_meets_35 : decode cX2_meets 35 = .ok (.iload_n 1, 1) := dk_27 (dk_at dksX2_meets_1 13 rfl rfl)
theorem dX2_meets_36 : decode cX2_meets 36 = .ok (.ireturn, 1) := dk_172 (dk_at dksX2_meets_1 14 rfl rfl)
abbrev cX2_rounded : ByteArray := prog_13_method_79_code
def yX2_rounded : MethodName := ⟨RX2, "rounded", "(I)I"⟩
def dkwX2_rounded_0 : List UInt8 := [27, 4, 16, 24, 184, 0, 40, 153, 0, 11, 42, 27, 182, 0, 67, 167, 0, 4, 2, 172]
abbrev dktX2_rounded_0 : List UInt8 := dkwX2_rounded_0 ++ []
theorem dksX2_rounded_0 : cX2_rounded.data.toList.drop 0 = dktX2_rounded_0 := by decide +kernel
theorem dX2_rounded_0 : decode cX2_rounded 0 = .ok (.iload_n 1, 1) := dk_27 (dk_at dksX2_rounded_0 0 rfl rfl)
theorem dX2_rounded_1 : decode cX2_rounded 1 = .ok (.iconst 1, 1) := dk_4 (dk_at dksX2_rounded_0 1 rfl rfl)
theorem dX2_rounded_2 : decode cX2_rounded 2 = .ok (.bipush 24, 2) := dk_16 24 (dk_at dksX2_rounded_0 2 rfl rfl)
theorem dX2_rounded_4 : decode cX2_rounded 4 = .ok (.invokestatic 40, 3) := dk_184 0 40 (dk_at dksX2_rounded_0 4 rfl rfl)
theorem dX2_rounded_7 : decode cX2_rounded 7 = .ok (.ifCond .eq 11, 3) := dk_153 0 11 (dk_at dksX2_rounded_0 7 rfl rfl)
theorem dX2_rounded_10 : decode cX2_rounded 10 = .ok (.aload_n 0, 1) := dk_42 (dk_at dksX2_rounded_0 10 rfl rfl)
theorem dX2_rounded_11 : decode cX2_rounded 11 = .ok (.iload_n 1, 1) := dk_27 (dk_at dksX2_rounded_0 11 rfl rfl)
theorem dX2_rounded_12 : decode cX2_rounded 12 = .ok (.invokevirtual 67, 3) := dk_182 0 67 (dk_at dksX2_rounded_0 12 rfl rfl)
theorem dX2_rounded_15 : decode cX2_rounded 15 = .ok (.goto 4, 3) := dk_167 0 4 (dk_at dksX2_rounded_0 15 rfl rfl)
theorem dX2_rounded_18 : decode cX2_rounded 18 = .ok (.iconst (-1), 1) := dk_2 (dk_at dksX2_rounded_0 18 rfl rfl)
theorem dX2_rounded_19 : decode cX2_rounded 19 = .ok (.ireturn, 1) := dk_172 (dk_at dksX2_rounded_0 19 rfl rfl)
abbrev cX2_silentIn : ByteArray := prog_13_method_81_code
def yX2_silentIn : MethodName := ⟨RX2, "silentIn", "()I"⟩
def dkwX2_silentIn_2 : List UInt8 := [132, 2, 1, 167, 255, 227, 16, 252, 172]
abbrev dktX2_silentIn_2 : List UInt8 := dkwX2_silentIn_2 ++ []
def dkwX2_silentIn_1 : List UInt8 := [163, 0, 29, 27, 154, 0, 5, 28, 172, 27, 16, 100, 42, 8, 182, 0, 36, 100, 104, 16, 100, 108, 60]
abbrev dktX2_silentIn_1 : List UInt8 := dkwX2_silentIn_1 ++ dktX2_silentIn_2
def dkwX2_silentIn_0 : List UInt8 := [42, 16, 7, 182, 0, 36, 154, 0, 6, 16, 254, 172, 42, 182, 0, 208, 60, 3, 61, 28, 16, 99]
abbrev dktX2_silentIn_0 : List UInt8 := dkwX2_silentIn_0 ++ dktX2_silentIn_1
theorem dksX2_silentIn_0 : cX2_silentIn.data.toList.drop 0 = dktX2_silentIn_0 := by decide +kernel
theorem dksX2_silentIn_1 : cX2_silentIn.data.toList.drop 22 = dktX2_silentIn_1 := dk_seg dksX2_silentIn_0 22 rfl rfl
theorem dksX2_silentIn_2 : cX2_silentIn.data.toList.drop 45 = dktX2_silentIn_2 := dk_seg dksX2_silentIn_1 23 rfl rfl
theorem dX2_silentIn_0 : decode cX2_silentIn 0 = .ok (.aload_n 0, 1) := dk_42 (dk_at dksX2_silentIn_0 0 rfl rfl)
theorem dX2_silentIn_1 : decode cX2_silentIn 1 = .ok (.bipush 7, 2) := dk_16 7 (dk_at dksX2_silentIn_0 1 rfl rfl)
theorem dX2_silentIn_3 : decode cX2_silentIn 3 = .ok (.invokevirtual 36, 3) := dk_182 0 36 (dk_at dksX2_silentIn_0 3 rfl rfl)
theorem dX2_silentIn_6 : decode cX2_silentIn 6 = .ok (.ifCond .ne 6, 3) := dk_154 0 6 (dk_at dksX2_silentIn_0 6 rfl rfl)
theorem dX2_silentIn_9 : decode cX2_silentIn 9 = .ok (.bipush (-2), 2) := dk_16 254 (dk_at dksX2_silentIn_0 9 rfl rfl)
theorem dX2_silentIn_11 : decode cX2_silentIn 11 = .ok (.ireturn, 1) := dk_172 (dk_at dksX2_silentIn_0 11 rfl rfl)
theorem dX2_silentIn_12 : decode cX2_silentIn 12 = .ok (.aload_n 0, 1) := dk_42 (dk_at dksX2_silentIn_0 12 rfl rfl)
theorem dX2_silentIn_13 : decode cX2_silentIn 13 = .ok (.invokevirtual 208, 3) := dk_182 0 208 (dk_at dksX2_silentIn_0 13 rfl rfl)
theorem dX2_silentIn_16 : decode cX2_silentIn 16 = .ok (.istore_n 1, 1) := dk_60 (dk_at dksX2_silentIn_0 16 rfl rfl)
theorem dX2_silentIn_17 : decode cX2_silentIn 17 = .ok (.iconst 0, 1) := dk_3 (dk_at dksX2_silentIn_0 17 rfl rfl)
theorem dX2_silentIn_18 : decode cX2_silentIn 18 = .ok (.istore_n 2, 1) := dk_61 (dk_at dksX2_silentIn_0 18 rfl rfl)
theorem dX2_silentIn_19 : decode cX2_silentIn 19 = .ok (.iload_n 2, 1) := dk_28 (dk_at dksX2_silentIn_0 19 rfl rfl)
theorem dX2_silentIn_20 : decode cX2_silentIn 20 = .ok (.bipush 99, 2) := dk_16 99 (dk_at dksX2_silentIn_0 20 rfl rfl)
theorem dX2_silentIn_22 : decode cX2_silentIn 22 = .ok (.if_icmp .gt 29, 3) := dk_163 0 29 (dk_at dksX2_silentIn_1 0 rfl rfl)
theorem dX2_silentIn_25 : decode cX2_silentIn 25 = .ok (.iload_n 1, 1) := dk_27 (dk_at dksX2_silentIn_1 3 rfl rfl)
theorem dX2_silentIn_26 : decode cX2_silentIn 26 = .ok (.ifCond .ne 5, 3) := dk_154 0 5 (dk_at dksX2_silentIn_1 4 rfl rfl)
theorem dX2_silentIn_29 : decode cX2_silentIn 29 = .ok (.iload_n 2, 1) := dk_28 (dk_at dksX2_silentIn_1 7 rfl rfl)
theorem dX2_silentIn_30 : decode cX2_silentIn 30 = .ok (.ireturn, 1) := dk_172 (dk_at dksX2_silentIn_1 8 rfl rfl)
theorem dX2_silentIn_31 : decode cX2_silentIn 31 = .ok (.iload_n 1, 1) := dk_27 (dk_at dksX2_silentIn_1 9 rfl rfl)
theorem dX2_silentIn_32 : decode cX2_silentIn 32 = .ok (.bipush 100, 2) := dk_16 100 (dk_at dksX2_silentIn_1 10 rfl rfl)
theorem dX2_silentIn_34 : decode cX2_silentIn 34 = .ok (.aload_n 0, 1) := dk_42 (dk_at dksX2_silentIn_1 12 rfl rfl)
theorem dX2_silentIn_35 : decode cX2_silentIn 35 = .ok (.iconst 5, 1) := dk_8 (dk_at dksX2_silentIn_1 13 rfl rfl)
theorem dX2_silentIn_36 : decode cX2_silentIn 36 = .ok (.invokevirtual 36, 3) := dk_182 0 36 (dk_at dksX2_silentIn_1 14 rfl rfl)
theorem dX2_silentIn_39 : decode cX2_silentIn 39 = .ok (.isub, 1) := dk_100 (dk_at dksX2_silentIn_1 17 rfl rfl)
theorem dX2_silentIn_40 : decode cX2_silentIn 40 = .ok (.imul, 1) := dk_104 (dk_at dksX2_silentIn_1 18 rfl rfl)
theorem dX2_silentIn_41 : decode cX2_silentIn 41 = .ok (.bipush 100, 2) := dk_16 100 (dk_at dksX2_silentIn_1 19 rfl rfl)
theorem dX2_silentIn_43 : decode cX2_silentIn 43 = .ok (.idiv, 1) := dk_108 (dk_at dksX2_silentIn_1 21 rfl rfl)
theorem dX2_silentIn_44 : decode cX2_silentIn 44 = .ok (.istore_n 1, 1) := dk_60 (dk_at dksX2_silentIn_1 22 rfl rfl)
theorem dX2_silentIn_45 : decode cX2_silentIn 45 = .ok (.iinc 2 1, 3) := dk_132 2 1 (dk_at dksX2_silentIn_2 0 rfl rfl)
theorem dX2_silentIn_48 : decode cX2_silentIn 48 = .ok (.goto (-29), 3) := dk_167 255 227 (dk_at dksX2_silentIn_2 3 rfl rfl)
theorem dX2_silentIn_51 : decode cX2_silentIn 51 = .ok (.bipush (-4), 2) := dk_16 252 (dk_at dksX2_silentIn_2 6 rfl rfl)
theorem dX2_silentIn_53 : decode cX2_silentIn 53 = .ok (.ireturn, 1) := dk_172 (dk_at dksX2_silentIn_2 8 rfl rfl)
abbrev cX2_greatest : ByteArray := prog_13_method_80_code
def yX2_greatest : MethodName := ⟨RX2, "greatest", "()I"⟩
def dkwX2_greatest_3 : List UInt8 := [167, 255, 192, 27, 172]
abbrev dktX2_greatest_3 : List UInt8 := dkwX2_greatest_3 ++ []
def dkwX2_greatest_2 : List UInt8 := [21, 4, 27, 164, 0, 8, 21, 4, 167, 0, 4, 27, 60, 132, 3, 1, 167, 255, 210, 132, 2, 1]
abbrev dktX2_greatest_2 : List UInt8 := dkwX2_greatest_2 ++ dktX2_greatest_3
def dkwX2_greatest_1 : List UInt8 := [182, 0, 36, 16, 36, 104, 162, 0, 37, 42, 28, 29, 16, 36, 108, 29, 16, 36, 112, 182, 0, 184, 54, 4]
abbrev dktX2_greatest_1 : List UInt8 := dkwX2_greatest_1 ++ dktX2_greatest_2
def dkwX2_greatest_0 : List UInt8 := [3, 60, 3, 61, 28, 42, 16, 7, 182, 0, 36, 162, 0, 60, 3, 62, 29, 42, 16, 14, 28, 96]
abbrev dktX2_greatest_0 : List UInt8 := dkwX2_greatest_0 ++ dktX2_greatest_1
theorem dksX2_greatest_0 : cX2_greatest.data.toList.drop 0 = dktX2_greatest_0 := by decide +kernel
theorem dksX2_greatest_1 : cX2_greatest.data.toList.drop 22 = dktX2_greatest_1 := dk_seg dksX2_greatest_0 22 rfl rfl
theorem dksX2_greatest_2 : cX2_greatest.data.toList.drop 46 = dktX2_greatest_2 := dk_seg dksX2_greatest_1 24 rfl rfl
theorem dksX2_greatest_3 : cX2_greatest.data.toList.drop 68 = dktX2_greatest_3 := dk_seg dksX2_greatest_2 22 rfl rfl
theorem dX2_greatest_0 : decode cX2_greatest 0 = .ok (.iconst 0, 1) := dk_3 (dk_at dksX2_greatest_0 0 rfl rfl)
theorem dX2_greatest_1 : decode cX2_greatest 1 = .ok (.istore_n 1, 1) := dk_60 (dk_at dksX2_greatest_0 1 rfl rfl)
theorem dX2_greatest_2 : decode cX2_greatest 2 = .ok (.iconst 0, 1) := dk_3 (dk_at dksX2_greatest_0 2 rfl rfl)
theorem dX2_greatest_3 : decode cX2_greatest 3 = .ok (.istore_n 2, 1) := dk_61 (dk_at dksX2_greatest_0 3 rfl rfl)
theorem dX2_greatest_4 : decode cX2_greatest 4 = .ok (.iload_n 2, 1) := dk_28 (dk_at dksX2_greatest_0 4 rfl rfl)
theorem dX2_greatest_5 : decode cX2_greatest 5 = .ok (.aload_n 0, 1) := dk_42 (dk_at dksX2_greatest_0 5 rfl rfl)
theorem dX2_greatest_6 : decode cX2_greatest 6 = .ok (.bipush 7, 2) := dk_16 7 (dk_at dksX2_greatest_0 6 rfl rfl)
theorem dX2_greatest_8 : decode cX2_greatest 8 = .ok (.invokevirtual 36, 3) := dk_182 0 36 (dk_at dksX2_greatest_0 8 rfl rfl)
theorem dX2_greatest_11 : decode cX2_greatest 11 = .ok (.if_icmp .ge 60, 3) := dk_162 0 60 (dk_at dksX2_greatest_0 11 rfl rfl)
theorem dX2_greatest_14 : decode cX2_greatest 14 = .ok (.iconst 0, 1) := dk_3 (dk_at dksX2_greatest_0 14 rfl rfl)
theorem dX2_greatest_15 : decode cX2_greatest 15 = .ok (.istore_n 3, 1) := dk_62 (dk_at dksX2_greatest_0 15 rfl rfl)
theorem dX2_greatest_16 : decode cX2_greatest 16 = .ok (.iload_n 3, 1) := dk_29 (dk_at dksX2_greatest_0 16 rfl rfl)
theorem dX2_greatest_17 : decode cX2_greatest 17 = .ok (.aload_n 0, 1) := dk_42 (dk_at dksX2_greatest_0 17 rfl rfl)
theorem dX2_greatest_18 : decode cX2_greatest 18 = .ok (.bipush 14, 2) := dk_16 14 (dk_at dksX2_greatest_0 18 rfl rfl)
theorem dX2_greatest_20 : decode cX2_greatest 20 = .ok (.iload_n 2, 1) := dk_28 (dk_at dksX2_greatest_0 20 rfl rfl)
theorem dX2_greatest_21 : decode cX2_greatest 21 = .ok (.iadd, 1) := dk_96 (dk_at dksX2_greatest_0 21 rfl rfl)
theorem dX2_greatest_22 : decode cX2_greatest 22 = .ok (.invokevirtual 36, 3) := dk_182 0 36 (dk_at dksX2_greatest_1 0 rfl rfl)
theorem dX2_greatest_25 : decode cX2_greatest 25 = .ok (.bipush 36, 2) := dk_16 36 (dk_at dksX2_greatest_1 3 rfl rfl)
theorem dX2_greatest_27 : decode cX2_greatest 27 = .ok (.imul, 1) := dk_104 (dk_at dksX2_greatest_1 5 rfl rfl)
theorem dX2_greatest_28 : decode cX2_greatest 28 = .ok (.if_icmp .ge 37, 3) := dk_162 0 37 (dk_at dksX2_greatest_1 6 rfl rfl)
theorem dX2_greatest_31 : decode cX2_greatest 31 = .ok (.aload_n 0, 1) := dk_42 (dk_at dksX2_greatest_1 9 rfl rfl)
theorem dX2_greatest_32 : decode cX2_greatest 32 = .ok (.iload_n 2, 1) := dk_28 (dk_at dksX2_greatest_1 10 rfl rfl)
theorem dX2_greatest_33 : decode cX2_greatest 33 = .ok (.iload_n 3, 1) := dk_29 (dk_at dksX2_greatest_1 11 rfl rfl)
theorem dX2_greatest_34 : decode cX2_greatest 34 = .ok (.bipush 36, 2) := dk_16 36 (dk_at dksX2_greatest_1 12 rfl rfl)
theorem dX2_greatest_36 : decode cX2_greatest 36 = .ok (.idiv, 1) := dk_108 (dk_at dksX2_greatest_1 14 rfl rfl)
theorem dX2_greatest_37 : decode cX2_greatest 37 = .ok (.iload_n 3, 1) := dk_29 (dk_at dksX2_greatest_1 15 rfl rfl)
theorem dX2_greatest_38 : decode cX2_greatest 38 = .ok (.bipush 36, 2) := dk_16 36 (dk_at dksX2_greatest_1 16 rfl rfl)
theorem dX2_greatest_40 : decode cX2_greatest 40 = .ok (.irem, 1) := dk_112 (dk_at dksX2_greatest_1 18 rfl rfl)
theorem dX2_greatest_41 : decode cX2_greatest 41 = .ok (.invokevirtual 184, 3) := dk_182 0 184 (dk_at dksX2_greatest_1 19 rfl rfl)
theorem dX2_greatest_44 : decode cX2_greatest 44 = .ok (.istore 4, 2) := dk_54 4 (dk_at dksX2_greatest_1 22 rfl rfl)
theorem dX2_greatest_46 : decode cX2_greatest 46 = .ok (.iload 4, 2) := dk_21 4 (dk_at dksX2_greatest_2 0 rfl rfl)
theorem dX2_greatest_48 : decode cX2_greatest 48 = .ok (.iload_n 1, 1) := dk_27 (dk_at dksX2_greatest_2 2 rfl rfl)
theorem dX2_greatest_49 : decode cX2_greatest 49 = .ok (.if_icmp .le 8, 3) := dk_164 0 8 (dk_at dksX2_greatest_2 3 rfl rfl)
theorem dX2_greatest_52 : decode cX2_greatest 52 = .ok (.iload 4, 2) := dk_21 4 (dk_at dksX2_greatest_2 6 rfl rfl)
theorem dX2_greatest_54 : decode cX2_greatest 54 = .ok (.goto 4, 3) := dk_167 0 4 (dk_at dksX2_greatest_2 8 rfl rfl)
theorem dX2_greatest_57 : decode cX2_greatest 57 = .ok (.iload_n 1, 1) := dk_27 (dk_at dksX2_greatest_2 11 rfl rfl)
theorem dX2_greatest_58 : decode cX2_greatest 58 = .ok (.istore_n 1, 1) := dk_60 (dk_at dksX2_greatest_2 12 rfl rfl)
theorem dX2_greatest_59 : decode cX2_greatest 59 = .ok (.iinc 3 1, 3) := dk_132 3 1 (dk_at dksX2_greatest_2 13 rfl rfl)
theorem dX2_greatest_62 : decode cX2_greatest 62 = .ok (.goto (-46), 3) := dk_167 255 210 (dk_at dksX2_greatest_2 16 rfl rfl)
theorem dX2_greatest_65 : decode cX2_greatest 65 = .ok (.iinc 2 1, 3) := dk_132 2 1 (dk_at dksX2_greatest_2 19 rfl rfl)
theorem dX2_greatest_68 : decode cX2_greatest 68 = .ok (.goto (-64), 3) := dk_167 255 192 (dk_at dksX2_greatest_3 0 rfl rfl)
theorem dX2_greatest_71 : decode cX2_greatest 71 = .ok (.iload_n 1, 1) := dk_27 (dk_at dksX2_greatest_3 3 rfl rfl)
theorem dX2_greatest_72 : decode cX2_greatest 72 = .ok (.ireturn, 1) := dk_172 (dk_at dksX2_greatest_3 4 rfl rfl)
abbrev cX2_ifPeeled : ByteArray := prog_13_method_82_code
def yX2_ifPeeled : MethodName := ⟨RX2, "ifPeeled", "(II)I"⟩
def dkwX2_ifPeeled_3 : List UInt8 := [154, 0, 7, 4, 167, 0, 4, 3, 96, 62, 132, 4, 1, 167, 255, 225, 29, 172]
abbrev dktX2_ifPeeled_3 : List UInt8 := dkwX2_ifPeeled_3 ++ []
def dkwX2_ifPeeled_2 : List UInt8 := [3, 62, 3, 54, 4, 21, 4, 42, 27, 182, 0, 44, 162, 0, 27, 29, 42, 27, 21, 4, 182, 0, 193]
abbrev dktX2_ifPeeled_2 : List UInt8 := dkwX2_ifPeeled_2 ++ dktX2_ifPeeled_3
def dkwX2_ifPeeled_1 : List UInt8 := [172, 28, 5, 162, 0, 21, 28, 154, 0, 11, 42, 27, 182, 0, 44, 167, 0, 8, 42, 27, 182, 0, 205, 172]
abbrev dktX2_ifPeeled_1 : List UInt8 := dkwX2_ifPeeled_1 ++ dktX2_ifPeeled_2
def dkwX2_ifPeeled_0 : List UInt8 := [27, 4, 42, 16, 7, 182, 0, 36, 184, 0, 40, 153, 0, 12, 28, 3, 5, 184, 0, 40, 154, 0, 5, 2]
abbrev dktX2_ifPeeled_0 : List UInt8 := dkwX2_ifPeeled_0 ++ dktX2_ifPeeled_1
theorem dksX2_ifPeeled_0 : cX2_ifPeeled.data.toList.drop 0 = dktX2_ifPeeled_0 := by decide +kernel
theorem dksX2_ifPeeled_1 : cX2_ifPeeled.data.toList.drop 24 = dktX2_ifPeeled_1 := dk_seg dksX2_ifPeeled_0 24 rfl rfl
theorem dksX2_ifPeeled_2 : cX2_ifPeeled.data.toList.drop 48 = dktX2_ifPeeled_2 := dk_seg dksX2_ifPeeled_1 24 rfl rfl
theorem dksX2_ifPeeled_3 : cX2_ifPeeled.data.toList.drop 71 = dktX2_ifPeeled_3 := dk_seg dksX2_ifPeeled_2 23 rfl rfl
theorem dX2_ifPeeled_0 : decode cX2_ifPeeled 0 = .ok (.iload_n 1, 1) := dk_27 (dk_at dksX2_ifPeeled_0 0 rfl rfl)
theorem dX2_ifPeeled_1 : decode cX2_ifPeeled 1 = .ok (.iconst 1, 1) := dk_4 (dk_at dksX2_ifPeeled_0 1 rfl rfl)
theorem dX2_ifPeeled_2 : decode cX2_ifPeeled 2 = .ok (.aload_n 0, 1) := dk_42 (dk_at dksX2_ifPeeled_0 2 rfl rfl)
theorem dX2_ifPeeled_3 : decode cX2_ifPeeled 3 = .ok (.bipush 7, 2) := dk_16 7 (dk_at dksX2_ifPeeled_0 3 rfl rfl)
theorem dX2_ifPeeled_5 : decode cX2_ifPeeled 5 = .ok (.invokevirtual 36, 3) := dk_182 0 36 (dk_at dksX2_ifPeeled_0 5 rfl rfl)
theorem dX2_ifPeeled_8 : decode cX2_ifPeeled 8 = .ok (.invokestatic 40, 3) := dk_184 0 40 (dk_at dksX2_ifPeeled_0 8 rfl rfl)
theorem dX2_ifPeeled_11 : decode cX2_ifPeeled 11 = .ok (.ifCond .eq 12, 3) := dk_153 0 12 (dk_at dksX2_ifPeeled_0 11 rfl rfl)
theorem dX2_ifPeeled_14 : decode cX2_ifPeeled 14 = .ok (.iload_n 2, 1) := dk_28 (dk_at dksX2_ifPeeled_0 14 rfl rfl)
theorem dX2_ifPeeled_15 : decode cX2_ifPeeled 15 = .ok (.iconst 0, 1) := dk_3 (dk_at dksX2_ifPeeled_0 15 rfl rfl)
theorem dX2_ifPeeled_16 : decode cX2_ifPeeled 16 = .ok (.iconst 2, 1) := dk_5 (dk_at dksX2_ifPeeled_0 16 rfl rfl)
theorem dX2_ifPeeled_17 : decode cX2_ifPeeled 17 = .ok (.invokestatic 40, 3) := dk_184 0 40 (dk_at dksX2_ifPeeled_0 17 rfl rfl)
theorem dX2_ifPeeled_20 : decode cX2_ifPeeled 20 = .ok (.ifCond .ne 5, 3) := dk_154 0 5 (dk_at dksX2_ifPeeled_0 20 rfl rfl)
theorem dX2_ifPeeled_23 : decode cX2_ifPeeled 23 = .ok (.iconst (-1), 1) := dk_2 (dk_at dksX2_ifPeeled_0 23 rfl rfl)
theorem dX2_ifPeeled_24 : decode cX2_ifPeeled 24 = .ok (.ireturn, 1) := dk_172 (dk_at dksX2_ifPeeled_1 0 rfl rfl)
theorem dX2_ifPeeled_25 : decode cX2_ifPeeled 25 = .ok (.iload_n 2, 1) := dk_28 (dk_at dksX2_ifPeeled_1 1 rfl rfl)
theorem dX2_ifPeeled_26 : decode cX2_ifPeeled 26 = .ok (.iconst 2, 1) := dk_5 (dk_at dksX2_ifPeeled_1 2 rfl rfl)
theorem dX2_ifPeeled_27 : decode cX2_ifPeeled 27 = .ok (.if_icmp .ge 21, 3) := dk_162 0 21 (dk_at dksX2_ifPeeled_1 3 rfl rfl)
theorem dX2_ifPeeled_30 : decode cX2_ifPeeled 30 = .ok (.iload_n 2, 1) := dk_28 (dk_at dksX2_ifPeeled_1 6 rfl rfl)
theorem dX2_ifPeeled_31 : decode cX2_ifPeeled 31 = .ok (.ifCond .ne 11, 3) := dk_154 0 11 (dk_at dksX2_ifPeeled_1 7 rfl rfl)
theorem dX2_ifPeeled_34 : decode cX2_ifPeeled 34 = .ok (.aload_n 0, 1) := dk_42 (dk_at dksX2_ifPeeled_1 10 rfl rfl)
theorem dX2_ifPeeled_35 : decode cX2_ifPeeled 35 = .ok (.iload_n 1, 1) := dk_27 (dk_at dksX2_ifPeeled_1 11 rfl rfl)
theorem dX2_ifPeeled_36 : decode cX2_ifPeeled 36 = .ok (.invokevirtual 44, 3) := dk_182 0 44 (dk_at dksX2_ifPeeled_1 12 rfl rfl)
theorem dX2_ifPeeled_39 : decode cX2_ifPeeled 39 = .ok (.goto 8, 3) := dk_167 0 8 (dk_at dksX2_ifPeeled_1 15 rfl rfl)
theorem dX2_ifPeeled_42 : decode cX2_ifPeeled 42 = .ok (.aload_n 0, 1) := dk_42 (dk_at dksX2_ifPeeled_1 18 rfl rfl)
theorem dX2_ifPeeled_43 : decode cX2_ifPeeled 43 = .ok (.iload_n 1, 1) := dk_27 (dk_at dksX2_ifPeeled_1 19 rfl rfl)
theorem dX2_ifPeeled_44 : decode cX2_ifPeeled 44 = .ok (.invokevirtual 205, 3) := dk_182 0 205 (dk_at dksX2_ifPeeled_1 20 rfl rfl)
theorem dX2_ifPeeled_47 : decode cX2_ifPeeled 47 = .ok (.ireturn, 1) := dk_172 (dk_at dksX2_ifPeeled_1 23 rfl rfl)
theorem dX2_ifPeeled_48 : decode cX2_ifPeeled 48 = .ok (.iconst 0, 1) := dk_3 (dk_at dksX2_ifPeeled_2 0 rfl rfl)
theorem dX2_ifPeeled_49 : decode cX2_ifPeeled 49 = .ok (.istore_n 3, 1) := dk_62 (dk_at dksX2_ifPeeled_2 1 rfl rfl)
theorem dX2_ifPeeled_50 : decode cX2_ifPeeled 50 = .ok (.iconst 0, 1) := dk_3 (dk_at dksX2_ifPeeled_2 2 rfl rfl)
theorem dX2_ifPeeled_51 : decode cX2_ifPeeled 51 = .ok (.istore 4, 2) := dk_54 4 (dk_at dksX2_ifPeeled_2 3 rfl rfl)
theorem dX2_ifPeeled_53 : decode cX2_ifPeeled 53 = .ok (.iload 4, 2) := dk_21 4 (dk_at dksX2_ifPeeled_2 5 rfl rfl)
theorem dX2_ifPeeled_55 : decode cX2_ifPeeled 55 = .ok (.aload_n 0, 1) := dk_42 (dk_at dksX2_ifPeeled_2 7 rfl rfl)
theorem dX2_ifPeeled_56 : decode cX2_ifPeeled 56 = .ok (.iload_n 1, 1) := dk_27 (dk_at dksX2_ifPeeled_2 8 rfl rfl)
theorem dX2_ifPeeled_57 : decode cX2_ifPeeled 57 = .ok (.invokevirtual 44, 3) := dk_182 0 44 (dk_at dksX2_ifPeeled_2 9 rfl rfl)
theorem dX2_ifPeeled_60 : decode cX2_ifPeeled 60 = .ok (.if_icmp .ge 27, 3) := dk_162 0 27 (dk_at dksX2_ifPeeled_2 12 rfl rfl)
theorem dX2_ifPeeled_63 : decode cX2_ifPeeled 63 = .ok (.iload_n 3, 1) := dk_29 (dk_at dksX2_ifPeeled_2 15 rfl rfl)
theorem dX2_ifPeeled_64 : decode cX2_ifPeeled 64 = .ok (.aload_n 0, 1) := dk_42 (dk_at dksX2_ifPeeled_2 16 rfl rfl)
theorem dX2_ifPeeled_65 : decode cX2_ifPeeled 65 = .ok (.iload_n 1, 1) := dk_27 (dk_at dksX2_ifPeeled_2 17 rfl rfl)
theorem dX2_ifPeeled_66 : decode cX2_ifPeeled 66 = .ok (.iload 4, 2) := dk_21 4 (dk_at dksX2_ifPeeled_2 18 rfl rfl)
theorem dX2_ifPeeled_68 : decode cX2_ifPeeled 68 = .ok (.invokevirtual 193, 3) := dk_182 0 193 (dk_at dksX2_ifPeeled_2 20 rfl rfl)
theorem dX2_ifPeeled_71 : decode cX2_ifPeeled 71 = .ok (.ifCond .ne 7, 3) := dk_154 0 7 (dk_at dksX2_ifPeeled_3 0 rfl rfl)
theorem dX2_ifPeeled_74 : decode cX2_ifPeeled 74 = .ok (.iconst 1, 1) := dk_4 (dk_at dksX2_ifPeeled_3 3 rfl rfl)
theorem dX2_ifPeeled_75 : decode cX2_ifPeeled 75 = .ok (.goto 4, 3) := dk_167 0 4 (dk_at dksX2_ifPeeled_3 4 rfl rfl)
theorem dX2_ifPeeled_78 : decode cX2_ifPeeled 78 = .ok (.iconst 0, 1) := dk_3 (dk_at dksX2_ifPeeled_3 7 rfl rfl)
theorem dX2_ifPeeled_79 : decode cX2_ifPeeled 79 = .ok (.iadd, 1) := dk_96 (dk_at dksX2_ifPeeled_3 8 rfl rfl)
theorem dX2_ifPeeled_80 : decode cX2_ifPeeled 80 = .ok (.istore_n 3, 1) := dk_62 (dk_at dksX2_ifPeeled_3 9 rfl rfl)
theorem dX2_ifPeeled_81 : decode cX2_ifPeeled 81 = .ok (.iinc 4 1, 3) := dk_132 4 1 (dk_at dksX2_ifPeeled_3 10 rfl rfl)
theorem dX2_ifPeeled_84 : decode cX2_ifPeeled 84 = .ok (.goto (-31), 3) := dk_167 255 225 (dk_at dksX2_ifPeeled_3 13 rfl rfl)
theorem dX2_ifPeeled_87 : decode cX2_ifPeeled 87 = .ok (.iload_n 3, 1) := dk_29 (dk_at dksX2_ifPeeled_3 16 rfl rfl)
theorem dX2_ifPeeled_88 : decode cX2_ifPeeled 88 = .ok (.ireturn, 1) := dk_172 (dk_at dksX2_ifPeeled_3 17 rfl rfl)
abbrev cX2_undo : ByteArray := prog_13_method_83_code
def yX2_undo : MethodName := ⟨RX2, "undo", "()I"⟩
def dkwX2_undo_2 : List UInt8 := [96, 47, 80, 132, 1, 1, 167, 255, 225, 42, 180, 0, 28, 172]
abbrev dktX2_undo_2 : List UInt8 := dkwX2_undo_2 ++ []
def dkwX2_undo_1 : List UInt8 := [17, 5, 96, 162, 0, 30, 42, 180, 0, 7, 27, 42, 180, 0, 13, 17, 5, 96, 42, 180, 0, 28, 104, 27]
abbrev dktX2_undo_1 : List UInt8 := dkwX2_undo_1 ++ dktX2_undo_2
def dkwX2_undo_0 : List UInt8 := [42, 180, 0, 28, 154, 0, 6, 16, 254, 172, 42, 89, 180, 0, 28, 4, 100, 181, 0, 28, 3, 60, 27]
abbrev dktX2_undo_0 : List UInt8 := dkwX2_undo_0 ++ dktX2_undo_1
theorem dksX2_undo_0 : cX2_undo.data.toList.drop 0 = dktX2_undo_0 := by decide +kernel
theorem dksX2_undo_1 : cX2_undo.data.toList.drop 23 = dktX2_undo_1 := dk_seg dksX2_undo_0 23 rfl rfl
theorem dksX2_undo_2 : cX2_undo.data.toList.drop 47 = dktX2_undo_2 := dk_seg dksX2_undo_1 24 rfl rfl
theorem dX2_undo_0 : decode cX2_undo 0 = .ok (.aload_n 0, 1) := dk_42 (dk_at dksX2_undo_0 0 rfl rfl)
theorem dX2_undo_1 : decode cX2_undo 1 = .ok (.getfield 28, 3) := dk_180 0 28 (dk_at dksX2_undo_0 1 rfl rfl)
theorem dX2_undo_4 : decode cX2_undo 4 = .ok (.ifCond .ne 6, 3) := dk_154 0 6 (dk_at dksX2_undo_0 4 rfl rfl)
theorem dX2_undo_7 : decode cX2_undo 7 = .ok (.bipush (-2), 2) := dk_16 254 (dk_at dksX2_undo_0 7 rfl rfl)
theorem dX2_undo_9 : decode cX2_undo 9 = .ok (.ireturn, 1) := dk_172 (dk_at dksX2_undo_0 9 rfl rfl)
theorem dX2_undo_10 : decode cX2_undo 10 = .ok (.aload_n 0, 1) := dk_42 (dk_at dksX2_undo_0 10 rfl rfl)
theorem dX2_undo_11 : decode cX2_undo 11 = .ok (.dup, 1) := dk_89 (dk_at dksX2_undo_0 11 rfl rfl)
theorem dX2_undo_12 : decode cX2_undo 12 = .ok (.getfield 28, 3) := dk_180 0 28 (dk_at dksX2_undo_0 12 rfl rfl)
theorem dX2_undo_15 : decode cX2_undo 15 = .ok (.iconst 1, 1) := dk_4 (dk_at dksX2_undo_0 15 rfl rfl)
theorem dX2_undo_16 : decode cX2_undo 16 = .ok (.isub, 1) := dk_100 (dk_at dksX2_undo_0 16 rfl rfl)
theorem dX2_undo_17 : decode cX2_undo 17 = .ok (.putfield 28, 3) := dk_181 0 28 (dk_at dksX2_undo_0 17 rfl rfl)
theorem dX2_undo_20 : decode cX2_undo 20 = .ok (.iconst 0, 1) := dk_3 (dk_at dksX2_undo_0 20 rfl rfl)
theorem dX2_undo_21 : decode cX2_undo 21 = .ok (.istore_n 1, 1) := dk_60 (dk_at dksX2_undo_0 21 rfl rfl)
theorem dX2_undo_22 : decode cX2_undo 22 = .ok (.iload_n 1, 1) := dk_27 (dk_at dksX2_undo_0 22 rfl rfl)
theorem dX2_undo_23 : decode cX2_undo 23 = .ok (.sipush 1376, 3) := dk_17 5 96 (dk_at dksX2_undo_1 0 rfl rfl)
theorem dX2_undo_26 : decode cX2_undo 26 = .ok (.if_icmp .ge 30, 3) := dk_162 0 30 (dk_at dksX2_undo_1 3 rfl rfl)
theorem dX2_undo_29 : decode cX2_undo 29 = .ok (.aload_n 0, 1) := dk_42 (dk_at dksX2_undo_1 6 rfl rfl)
theorem dX2_undo_30 : decode cX2_undo 30 = .ok (.getfield 7, 3) := dk_180 0 7 (dk_at dksX2_undo_1 7 rfl rfl)
theorem dX2_undo_33 : decode cX2_undo 33 = .ok (.iload_n 1, 1) := dk_27 (dk_at dksX2_undo_1 10 rfl rfl)
theorem dX2_undo_34 : decode cX2_undo 34 = .ok (.aload_n 0, 1) := dk_42 (dk_at dksX2_undo_1 11 rfl rfl)
theorem dX2_undo_35 : decode cX2_undo 35 = .ok (.getfield 13, 3) := dk_180 0 13 (dk_at dksX2_undo_1 12 rfl rfl)
theorem dX2_undo_38 : decode cX2_undo 38 = .ok (.sipush 1376, 3) := dk_17 5 96 (dk_at dksX2_undo_1 15 rfl rfl)
theorem dX2_undo_41 : decode cX2_undo 41 = .ok (.aload_n 0, 1) := dk_42 (dk_at dksX2_undo_1 18 rfl rfl)
theorem dX2_undo_42 : decode cX2_undo 42 = .ok (.getfield 28, 3) := dk_180 0 28 (dk_at dksX2_undo_1 19 rfl rfl)
theorem dX2_undo_45 : decode cX2_undo 45 = .ok (.imul, 1) := dk_104 (dk_at dksX2_undo_1 22 rfl rfl)
theorem dX2_undo_46 : decode cX2_undo 46 = .ok (.iload_n 1, 1) := dk_27 (dk_at dksX2_undo_1 23 rfl rfl)
theorem dX2_undo_47 : decode cX2_undo 47 = .ok (.iadd, 1) := dk_96 (dk_at dksX2_undo_2 0 rfl rfl)
theorem dX2_undo_48 : decode cX2_undo 48 = .ok (.laload, 1) := dk_47 (dk_at dksX2_undo_2 1 rfl rfl)
theorem dX2_undo_49 : decode cX2_undo 49 = .ok (.lastore, 1) := dk_80 (dk_at dksX2_undo_2 2 rfl rfl)
theorem dX2_undo_50 : decode cX2_undo 50 = .ok (.iinc 1 1, 3) := dk_132 1 1 (dk_at dksX2_undo_2 3 rfl rfl)
theorem dX2_undo_53 : decode cX2_undo 53 = .ok (.goto (-31), 3) := dk_167 255 225 (dk_at dksX2_undo_2 6 rfl rfl)
theorem dX2_undo_56 : decode cX2_undo 56 = .ok (.aload_n 0, 1) := dk_42 (dk_at dksX2_undo_2 9 rfl rfl)
theorem dX2_undo_57 : decode cX2_undo 57 = .ok (.getfield 28, 3) := dk_180 0 28 (dk_at dksX2_undo_2 10 rfl rfl)
theorem dX2_undo_60 : decode cX2_undo 60 = .ok (.ireturn, 1) := dk_172 (dk_at dksX2_undo_2 13 rfl rfl)
abbrev cX2_save : ByteArray := prog_13_method_84_code
def yX2_save : MethodName := ⟨RX2, "save", "()I"⟩
def dkwX2_save_1 : List UInt8 := [167, 255, 234, 42, 4, 181, 0, 211, 42, 3, 182, 0, 36, 172]
abbrev dktX2_save_1 : List UInt8 := dkwX2_save_1 ++ []
def dkwX2_save_0 : List UInt8 := [3, 60, 27, 17, 5, 96, 162, 0, 21, 42, 180, 0, 16, 27, 42, 180, 0, 7, 27, 47, 80, 132, 1, 1]
abbrev dktX2_save_0 : List UInt8 := dkwX2_save_0 ++ dktX2_save_1
theorem dksX2_save_0 : cX2_save.data.toList.drop 0 = dktX2_save_0 := by decide +kernel
theorem dksX2_save_1 : cX2_save.data.toList.drop 24 = dktX2_save_1 := dk_seg dksX2_save_0 24 rfl rfl
theorem dX2_save_0 : decode cX2_save 0 = .ok (.iconst 0, 1) := dk_3 (dk_at dksX2_save_0 0 rfl rfl)
theorem dX2_save_1 : decode cX2_save 1 = .ok (.istore_n 1, 1) := dk_60 (dk_at dksX2_save_0 1 rfl rfl)
theorem dX2_save_2 : decode cX2_save 2 = .ok (.iload_n 1, 1) := dk_27 (dk_at dksX2_save_0 2 rfl rfl)
theorem dX2_save_3 : decode cX2_save 3 = .ok (.sipush 1376, 3) := dk_17 5 96 (dk_at dksX2_save_0 3 rfl rfl)
theorem dX2_save_6 : decode cX2_save 6 = .ok (.if_icmp .ge 21, 3) := dk_162 0 21 (dk_at dksX2_save_0 6 rfl rfl)
theorem dX2_save_9 : decode cX2_save 9 = .ok (.aload_n 0, 1) := dk_42 (dk_at dksX2_save_0 9 rfl rfl)
theorem dX2_save_10 : decode cX2_save 10 = .ok (.getfield 16, 3) := dk_180 0 16 (dk_at dksX2_save_0 10 rfl rfl)
theorem dX2_save_13 : decode cX2_save 13 = .ok (.iload_n 1, 1) := dk_27 (dk_at dksX2_save_0 13 rfl rfl)
theorem dX2_save_14 : decode cX2_save 14 = .ok (.aload_n 0, 1) := dk_42 (dk_at dksX2_save_0 14 rfl rfl)
theorem dX2_save_15 : decode cX2_save 15 = .ok (.getfield 7, 3) := dk_180 0 7 (dk_at dksX2_save_0 15 rfl rfl)
theorem dX2_save_18 : decode cX2_save 18 = .ok (.iload_n 1, 1) := dk_27 (dk_at dksX2_save_0 18 rfl rfl)
theorem dX2_save_19 : decode cX2_save 19 = .ok (.laload, 1) := dk_47 (dk_at dksX2_save_0 19 rfl rfl)
theorem dX2_save_20 : decode cX2_save 20 = .ok (.lastore, 1) := dk_80 (dk_at dksX2_save_0 20 rfl rfl)
theorem dX2_save_21 : decode cX2_save 21 = .ok (.iinc 1 1, 3) := dk_132 1 1 (dk_at dksX2_save_0 21 rfl rfl)
theorem dX2_save_24 : decode cX2_save 24 = .ok (.goto (-22), 3) := dk_167 255 234 (dk_at dksX2_save_1 0 rfl rfl)
theorem dX2_save_27 : decode cX2_save 27 = .ok (.aload_n 0, 1) := dk_42 (dk_at dksX2_save_1 3 rfl rfl)
theorem dX2_save_28 : decode cX2_save 28 = .ok (.iconst 1, 1) := dk_4 (dk_at dksX2_save_1 4 rfl rfl)
theorem dX2_save_29 : decode cX2_save 29 = .ok (.putfield 211, 3) := dk_181 0 211 (dk_at dksX2_save_1 5 rfl rfl)
theorem dX2_save_32 : decode cX2_save 32 = .ok (.aload_n 0, 1) := dk_42 (dk_at dksX2_save_1 8 rfl rfl)
theorem dX2_save_33 : decode cX2_save 33 = .ok (.iconst 0, 1) := dk_3 (dk_at dksX2_save_1 9 rfl rfl)
theorem dX2_save_34 : decode cX2_save 34 = .ok (.invokevirtual 36, 3) := dk_182 0 36 (dk_at dksX2_save_1 10 rfl rfl)
theorem dX2_save_37 : decode cX2_save 37 = .ok (.ireturn, 1) := dk_172 (dk_at dksX2_save_1 13 rfl rfl)
abbrev cX2_restore : ByteArray := prog_13_method_85_code
def yX2_restore : MethodName := ⟨RX2, "restore", "()I"⟩
def dkwX2_restore_1 : List UInt8 := [180, 0, 7, 27, 42, 180, 0, 16, 27, 47, 80, 132, 1, 1, 167, 255, 234, 42, 3, 182, 0, 36, 172]
abbrev dktX2_restore_1 : List UInt8 := dkwX2_restore_1 ++ []
def dkwX2_restore_0 : List UInt8 := [42, 180, 0, 211, 154, 0, 6, 16, 254, 172, 42, 182, 0, 110, 3, 60, 27, 17, 5, 96, 162, 0, 21, 42]
abbrev dktX2_restore_0 : List UInt8 := dkwX2_restore_0 ++ dktX2_restore_1
theorem dksX2_restore_0 : cX2_restore.data.toList.drop 0 = dktX2_restore_0 := by decide +kernel
theorem dksX2_restore_1 : cX2_restore.data.toList.drop 24 = dktX2_restore_1 := dk_seg dksX2_restore_0 24 rfl rfl
theorem dX2_restore_0 : decode cX2_restore 0 = .ok (.aload_n 0, 1) := dk_42 (dk_at dksX2_restore_0 0 rfl rfl)
theorem dX2_restore_1 : decode cX2_restore 1 = .ok (.getfield 211, 3) := dk_180 0 211 (dk_at dksX2_restore_0 1 rfl rfl)
theorem dX2_restore_4 : decode cX2_restore 4 = .ok (.ifCond .ne 6, 3) := dk_154 0 6 (dk_at dksX2_restore_0 4 rfl rfl)
theorem dX2_restore_7 : decode cX2_restore 7 = .ok (.bipush (-2), 2) := dk_16 254 (dk_at dksX2_restore_0 7 rfl rfl)
theorem dX2_restore_9 : decode cX2_restore 9 = .ok (.ireturn, 1) := dk_172 (dk_at dksX2_restore_0 9 rfl rfl)
theorem dX2_restore_10 : decode cX2_restore 10 = .ok (.aload_n 0, 1) := dk_42 (dk_at dksX2_restore_0 10 rfl rfl)
theorem dX2_restore_11 : decode cX2_restore 11 = .ok (.invokevirtual 110, 3) := dk_182 0 110 (dk_at dksX2_restore_0 11 rfl rfl)
theorem dX2_restore_14 : decode cX2_restore 14 = .ok (.iconst 0, 1) := dk_3 (dk_at dksX2_restore_0 14 rfl rfl)
theorem dX2_restore_15 : decode cX2_restore 15 = .ok (.istore_n 1, 1) := dk_60 (dk_at dksX2_restore_0 15 rfl rfl)
theorem dX2_restore_16 : decode cX2_restore 16 = .ok (.iload_n 1, 1) := dk_27 (dk_at dksX2_restore_0 16 rfl rfl)
theorem dX2_restore_17 : decode cX2_restore 17 = .ok (.sipush 1376, 3) := dk_17 5 96 (dk_at dksX2_restore_0 17 rfl rfl)
theorem dX2_restore_20 : decode cX2_restore 20 = .ok (.if_icmp .ge 21, 3) := dk_162 0 21 (dk_at dksX2_restore_0 20 rfl rfl)
theorem dX2_restore_23 : decode cX2_restore 23 = .ok (.aload_n 0, 1) := dk_42 (dk_at dksX2_restore_0 23 rfl rfl)
theorem dX2_restore_24 : decode cX2_restore 24 = .ok (.getfield 7, 3) := dk_180 0 7 (dk_at dksX2_restore_1 0 rfl rfl)
theorem dX2_restore_27 : decode cX2_restore 27 = .ok (.iload_n 1, 1) := dk_27 (dk_at dksX2_restore_1 3 rfl rfl)
theorem dX2_restore_28 : decode cX2_restore 28 = .ok (.aload_n 0, 1) := dk_42 (dk_at dksX2_restore_1 4 rfl rfl)
theorem dX2_restore_29 : decode cX2_restore 29 = .ok (.getfield 16, 3) := dk_180 0 16 (dk_at dksX2_restore_1 5 rfl rfl)
theorem dX2_restore_32 : decode cX2_restore 32 = .ok (.iload_n 1, 1) := dk_27 (dk_at dksX2_restore_1 8 rfl rfl)
theorem dX2_restore_33 : decode cX2_restore 33 = .ok (.laload, 1) := dk_47 (dk_at dksX2_restore_1 9 rfl rfl)
theorem dX2_restore_34 : decode cX2_restore 34 = .ok (.lastore, 1) := dk_80 (dk_at dksX2_restore_1 10 rfl rfl)
theorem dX2_restore_35 : decode cX2_restore 35 = .ok (.iinc 1 1, 3) := dk_132 1 1 (dk_at dksX2_restore_1 11 rfl rfl)
theorem dX2_restore_38 : decode cX2_restore 38 = .ok (.goto (-22), 3) := dk_167 255 234 (dk_at dksX2_restore_1 14 rfl rfl)
theorem dX2_restore_41 : decode cX2_restore 41 = .ok (.aload_n 0, 1) := dk_42 (dk_at dksX2_restore_1 17 rfl rfl)
theorem dX2_restore_42 : decode cX2_restore 42 = .ok (.iconst 0, 1) := dk_3 (dk_at dksX2_restore_1 18 rfl rfl)
theorem dX2_restore_43 : decode cX2_restore 43 = .ok (.invokevirtual 36, 3) := dk_182 0 36 (dk_at dksX2_restore_1 19 rfl rfl)
theorem dX2_restore_46 : decode cX2_restore 46 = .ok (.ireturn, 1) := dk_172 (dk_at dksX2_restore_1 22 rfl rfl)
theorem q93 : (Jvm.Cond.initialized "PedalLayersModel") ∈ lw_all := lw_g (lw_at lw_m1 12 rfl) rfl
theorem q486 : (Jvm.Cond.selects "PedalLayersModel" ({ cls := "java/lang/Object", name := "getClass", desc := "()Ljava/lang/Class;" } : Jvm.MethodName) ({ cls := "java/lang/Object", name := "getClass", desc := "()Ljava/lang/Class;" } : Jvm.MethodName)) ∈ lw_all := lw_g (lw_at lw_m2 165 rfl) rfl
theorem q1604 : (Jvm.Cond.instantiable "PedalLayersModel" (9 : Nat)) ∈ lw_all := lw_g (lw_at lw_m7 83 rfl) rfl
theorem q1606 : (Jvm.Cond.instanceMethod ({ cls := "PedalLayersModel", name := "<init>", desc := "()V" } : Jvm.MethodName)) ∈ lw_all := lw_g (lw_at lw_m7 85 rfl) rfl
theorem q1607 : (Jvm.Cond.code ({ cls := "PedalLayersModel", name := "<init>", desc := "()V" } : Jvm.MethodName) prog_13_method_1_code (1 : Nat) (Option.none : Option Jvm.ClassFile.FieldType)) ∈ lw_all := lw_g (lw_at lw_m7 86 rfl) rfl
theorem q1608 : (Jvm.Cond.methodLink "PedalLayersModel" (1 : Nat) ({ cls := "java/lang/Object", name := "<init>", desc := "()V" } : Jvm.MethodName)) ∈ lw_all := lw_g (lw_at lw_m7 87 rfl) rfl
theorem q1609 : (Jvm.Cond.constantLong "PedalLayersModel" (26 : Nat) (8 : Int64)) ∈ lw_all := lw_g (lw_at lw_m7 88 rfl) rfl
theorem q1610 : (Jvm.Cond.fieldLink "PedalLayersModel" (7 : Nat) "PedalLayersModel" "s" "[J") ∈ lw_all := lw_g (lw_at lw_m7 89 rfl) rfl
theorem q1611 : (Jvm.Cond.fieldLink "PedalLayersModel" (13 : Nat) "PedalLayersModel" "past" "[J") ∈ lw_all := lw_g (lw_at lw_m7 90 rfl) rfl
theorem q1612 : (Jvm.Cond.fieldLink "PedalLayersModel" (28 : Nat) "PedalLayersModel" "known" "I") ∈ lw_all := lw_g (lw_at lw_m7 91 rfl) rfl
theorem q1613 : (Jvm.Cond.fieldLink "PedalLayersModel" (16 : Nat) "PedalLayersModel" "snap" "[J") ∈ lw_all := lw_g (lw_at lw_m7 92 rfl) rfl
theorem q1614 : (Jvm.Cond.fieldLink "PedalLayersModel" (211 : Nat) "PedalLayersModel" "isSaved" "Z") ∈ lw_all := lw_g (lw_at lw_m7 93 rfl) rfl
theorem q1615 : (Jvm.Cond.fieldLink "PedalLayersModel" (19 : Nat) "PedalLayersModel" "pad" "[I") ∈ lw_all := lw_g (lw_at lw_m7 94 rfl) rfl
theorem q1616 : (Jvm.Cond.fieldLink "PedalLayersModel" (147 : Nat) "PedalLayersModel" "length" "I") ∈ lw_all := lw_g (lw_at lw_m7 95 rfl) rfl
theorem q1617 : (Jvm.Cond.fieldLink "PedalLayersModel" (23 : Nat) "PedalLayersModel" "stopped" "[I") ∈ lw_all := lw_g (lw_at lw_m7 96 rfl) rfl
theorem q1618 : (Jvm.Cond.fieldLink "PedalLayersModel" (174 : Nat) "PedalLayersModel" "isStopped" "Z") ∈ lw_all := lw_g (lw_at lw_m7 97 rfl) rfl
theorem q1619 : (Jvm.Cond.laysFinal "PedalLayersModel" "PedalLayersModel" "s" "[J") ∈ lw_all := lw_g (lw_at lw_m7 98 rfl) rfl
theorem q1620 : (Jvm.Cond.soleField "PedalLayersModel" "s") ∈ lw_all := lw_g (lw_at lw_m7 99 rfl) rfl
theorem q1621 : (Jvm.Cond.laysFinal "PedalLayersModel" "PedalLayersModel" "past" "[J") ∈ lw_all := lw_g (lw_at lw_m7 100 rfl) rfl
theorem q1622 : (Jvm.Cond.soleField "PedalLayersModel" "past") ∈ lw_all := lw_g (lw_at lw_m7 101 rfl) rfl
theorem q1623 : (Jvm.Cond.lays "PedalLayersModel" "PedalLayersModel" "known" "I") ∈ lw_all := lw_g (lw_at lw_m7 102 rfl) rfl
theorem q1624 : (Jvm.Cond.soleField "PedalLayersModel" "known") ∈ lw_all := lw_g (lw_at lw_m7 103 rfl) rfl
theorem q1625 : (Jvm.Cond.laysFinal "PedalLayersModel" "PedalLayersModel" "snap" "[J") ∈ lw_all := lw_g (lw_at lw_m7 104 rfl) rfl
theorem q1626 : (Jvm.Cond.soleField "PedalLayersModel" "snap") ∈ lw_all := lw_g (lw_at lw_m7 105 rfl) rfl
theorem q1627 : (Jvm.Cond.lays "PedalLayersModel" "PedalLayersModel" "isSaved" "Z") ∈ lw_all := lw_g (lw_at lw_m7 106 rfl) rfl
theorem q1628 : (Jvm.Cond.soleField "PedalLayersModel" "isSaved") ∈ lw_all := lw_g (lw_at lw_m7 107 rfl) rfl
theorem q1629 : (Jvm.Cond.laysFinal "PedalLayersModel" "PedalLayersModel" "pad" "[I") ∈ lw_all := lw_g (lw_at lw_m7 108 rfl) rfl
theorem q1630 : (Jvm.Cond.soleField "PedalLayersModel" "pad") ∈ lw_all := lw_g (lw_at lw_m7 109 rfl) rfl
theorem q1631 : (Jvm.Cond.lays "PedalLayersModel" "PedalLayersModel" "length" "I") ∈ lw_all := lw_g (lw_at lw_m7 110 rfl) rfl
theorem q1632 : (Jvm.Cond.soleField "PedalLayersModel" "length") ∈ lw_all := lw_g (lw_at lw_m7 111 rfl) rfl
theorem q1633 : (Jvm.Cond.laysFinal "PedalLayersModel" "PedalLayersModel" "stopped" "[I") ∈ lw_all := lw_g (lw_at lw_m7 112 rfl) rfl
theorem q1634 : (Jvm.Cond.soleField "PedalLayersModel" "stopped") ∈ lw_all := lw_g (lw_at lw_m7 113 rfl) rfl
theorem q1635 : (Jvm.Cond.lays "PedalLayersModel" "PedalLayersModel" "isStopped" "Z") ∈ lw_all := lw_g (lw_at lw_m7 114 rfl) rfl
theorem q1636 : (Jvm.Cond.soleField "PedalLayersModel" "isStopped") ∈ lw_all := lw_g (lw_at lw_m7 115 rfl) rfl
theorem q1637 : (Jvm.Cond.superclass "PedalLayersModel" "java/lang/Object") ∈ lw_all := lw_g (lw_at lw_m7 116 rfl) rfl
theorem q1640 : (Jvm.Cond.instanceMethod ({ cls := "PedalLayersModel", name := "press", desc := "()I" } : Jvm.MethodName)) ∈ lw_all := lw_g (lw_at lw_m7 119 rfl) rfl
theorem q1641 : (Jvm.Cond.selects "PedalLayersModel" ({ cls := "PedalLayersModel", name := "press", desc := "()I" } : Jvm.MethodName) ({ cls := "PedalLayersModel", name := "press", desc := "()I" } : Jvm.MethodName)) ∈ lw_all := lw_g (lw_at lw_m7 120 rfl) rfl
theorem q1642 : (Jvm.Cond.code ({ cls := "PedalLayersModel", name := "press", desc := "()I" } : Jvm.MethodName) prog_13_method_34_code (2 : Nat) (Option.some Jvm.ClassFile.FieldType.int)) ∈ lw_all := lw_g (lw_at lw_m7 121 rfl) rfl
theorem q1643 : (Jvm.Cond.methodLink "PedalLayersModel" (107 : Nat) ({ cls := "PedalLayersModel", name := "whyNotPress", desc := "()I" } : Jvm.MethodName)) ∈ lw_all := lw_g (lw_at lw_m7 122 rfl) rfl
theorem q1644 : (Jvm.Cond.privateMethod ({ cls := "PedalLayersModel", name := "whyNotPress", desc := "()I" } : Jvm.MethodName)) ∈ lw_tbl := lw_at lw_m7 123 rfl
theorem q1645 : (Jvm.Cond.instanceMethod ({ cls := "PedalLayersModel", name := "whyNotPress", desc := "()I" } : Jvm.MethodName)) ∈ lw_all := lw_g (lw_at lw_m7 124 rfl) rfl
theorem q1646 : (Jvm.Cond.code ({ cls := "PedalLayersModel", name := "whyNotPress", desc := "()I" } : Jvm.MethodName) prog_13_method_21_code (2 : Nat) (Option.some Jvm.ClassFile.FieldType.int)) ∈ lw_all := lw_g (lw_at lw_m7 125 rfl) rfl
theorem q1647 : (Jvm.Cond.methodLink "PedalLayersModel" (84 : Nat) ({ cls := "PedalLayersModel", name := "runsTake", desc := "()Z" } : Jvm.MethodName)) ∈ lw_all := lw_g (lw_at lw_m7 126 rfl) rfl
theorem q1648 : (Jvm.Cond.privateMethod ({ cls := "PedalLayersModel", name := "runsTake", desc := "()Z" } : Jvm.MethodName)) ∈ lw_tbl := lw_at lw_m7 127 rfl
theorem q1649 : (Jvm.Cond.instanceMethod ({ cls := "PedalLayersModel", name := "runsTake", desc := "()Z" } : Jvm.MethodName)) ∈ lw_all := lw_g (lw_at lw_m7 128 rfl) rfl
theorem q1650 : (Jvm.Cond.code ({ cls := "PedalLayersModel", name := "runsTake", desc := "()Z" } : Jvm.MethodName) prog_13_method_13_code (1 : Nat) (Option.some Jvm.ClassFile.FieldType.boolean)) ∈ lw_all := lw_g (lw_at lw_m7 129 rfl) rfl
theorem q1651 : (Jvm.Cond.methodLink "PedalLayersModel" (36 : Nat) ({ cls := "PedalLayersModel", name := "of", desc := "(I)I" } : Jvm.MethodName)) ∈ lw_all := lw_g (lw_at lw_m7 130 rfl) rfl
theorem q1652 : (Jvm.Cond.privateMethod ({ cls := "PedalLayersModel", name := "of", desc := "(I)I" } : Jvm.MethodName)) ∈ lw_tbl := lw_at lw_m7 131 rfl
theorem q1653 : (Jvm.Cond.instanceMethod ({ cls := "PedalLayersModel", name := "of", desc := "(I)I" } : Jvm.MethodName)) ∈ lw_all := lw_g (lw_at lw_m7 132 rfl) rfl
theorem q1654 : (Jvm.Cond.code ({ cls := "PedalLayersModel", name := "of", desc := "(I)I" } : Jvm.MethodName) prog_13_method_4_code (2 : Nat) (Option.some Jvm.ClassFile.FieldType.int)) ∈ lw_all := lw_g (lw_at lw_m7 133 rfl) rfl
theorem q1655 : (Jvm.Cond.methodLink "PedalLayersModel" (110 : Nat) ({ cls := "PedalLayersModel", name := "remembers", desc := "()V" } : Jvm.MethodName)) ∈ lw_all := lw_g (lw_at lw_m7 134 rfl) rfl
theorem q1656 : (Jvm.Cond.privateMethod ({ cls := "PedalLayersModel", name := "remembers", desc := "()V" } : Jvm.MethodName)) ∈ lw_tbl := lw_at lw_m7 135 rfl
theorem q1657 : (Jvm.Cond.instanceMethod ({ cls := "PedalLayersModel", name := "remembers", desc := "()V" } : Jvm.MethodName)) ∈ lw_all := lw_g (lw_at lw_m7 136 rfl) rfl
theorem q1658 : (Jvm.Cond.code ({ cls := "PedalLayersModel", name := "remembers", desc := "()V" } : Jvm.MethodName) prog_13_method_5_code (2 : Nat) (Option.none : Option Jvm.ClassFile.FieldType)) ∈ lw_all := lw_g (lw_at lw_m7 137 rfl) rfl
theorem q1659 : (Jvm.Cond.methodLink "PedalLayersModel" (113 : Nat) ({ cls := "PedalLayersModel", name := "presses", desc := "()V" } : Jvm.MethodName)) ∈ lw_all := lw_g (lw_at lw_m7 138 rfl) rfl
theorem q1660 : (Jvm.Cond.privateMethod ({ cls := "PedalLayersModel", name := "presses", desc := "()V" } : Jvm.MethodName)) ∈ lw_tbl := lw_at lw_m7 139 rfl
theorem q1661 : (Jvm.Cond.instanceMethod ({ cls := "PedalLayersModel", name := "presses", desc := "()V" } : Jvm.MethodName)) ∈ lw_all := lw_g (lw_at lw_m7 140 rfl) rfl
theorem q1662 : (Jvm.Cond.code ({ cls := "PedalLayersModel", name := "presses", desc := "()V" } : Jvm.MethodName) prog_13_method_22_code (1 : Nat) (Option.none : Option Jvm.ClassFile.FieldType)) ∈ lw_all := lw_g (lw_at lw_m7 141 rfl) rfl
theorem q1663 : (Jvm.Cond.methodLink "PedalLayersModel" (88 : Nat) ({ cls := "PedalLayersModel", name := "endsFirst", desc := "()V" } : Jvm.MethodName)) ∈ lw_all := lw_g (lw_at lw_m7 142 rfl) rfl
theorem q1664 : (Jvm.Cond.privateMethod ({ cls := "PedalLayersModel", name := "endsFirst", desc := "()V" } : Jvm.MethodName)) ∈ lw_tbl := lw_at lw_m7 143 rfl
theorem q1665 : (Jvm.Cond.instanceMethod ({ cls := "PedalLayersModel", name := "endsFirst", desc := "()V" } : Jvm.MethodName)) ∈ lw_all := lw_g (lw_at lw_m7 144 rfl) rfl
theorem q1666 : (Jvm.Cond.code ({ cls := "PedalLayersModel", name := "endsFirst", desc := "()V" } : Jvm.MethodName) prog_13_method_19_code (3 : Nat) (Option.none : Option Jvm.ClassFile.FieldType)) ∈ lw_all := lw_g (lw_at lw_m7 145 rfl) rfl
theorem q1667 : (Jvm.Cond.methodLink "PedalLayersModel" (67 : Nat) ({ cls := "PedalLayersModel", name := "roundedOf", desc := "(I)I" } : Jvm.MethodName)) ∈ lw_all := lw_g (lw_at lw_m7 146 rfl) rfl
theorem q1668 : (Jvm.Cond.privateMethod ({ cls := "PedalLayersModel", name := "roundedOf", desc := "(I)I" } : Jvm.MethodName)) ∈ lw_tbl := lw_at lw_m7 147 rfl
theorem q1669 : (Jvm.Cond.instanceMethod ({ cls := "PedalLayersModel", name := "roundedOf", desc := "(I)I" } : Jvm.MethodName)) ∈ lw_all := lw_g (lw_at lw_m7 148 rfl) rfl
theorem q1670 : (Jvm.Cond.code ({ cls := "PedalLayersModel", name := "roundedOf", desc := "(I)I" } : Jvm.MethodName) prog_13_method_18_code (7 : Nat) (Option.some Jvm.ClassFile.FieldType.int)) ∈ lw_all := lw_g (lw_at lw_m7 149 rfl) rfl
theorem q1671 : (Jvm.Cond.methodLink "PedalLayersModel" (70 : Nat) ({ cls := "PedalLayersModel", name := "lays", desc := "(II)V" } : Jvm.MethodName)) ∈ lw_all := lw_g (lw_at lw_m7 150 rfl) rfl
theorem q1672 : (Jvm.Cond.privateMethod ({ cls := "PedalLayersModel", name := "lays", desc := "(II)V" } : Jvm.MethodName)) ∈ lw_tbl := lw_at lw_m7 151 rfl
theorem q1673 : (Jvm.Cond.instanceMethod ({ cls := "PedalLayersModel", name := "lays", desc := "(II)V" } : Jvm.MethodName)) ∈ lw_all := lw_g (lw_at lw_m7 152 rfl) rfl
theorem q1674 : (Jvm.Cond.code ({ cls := "PedalLayersModel", name := "lays", desc := "(II)V" } : Jvm.MethodName) prog_13_method_17_code (7 : Nat) (Option.none : Option Jvm.ClassFile.FieldType)) ∈ lw_all := lw_g (lw_at lw_m7 153 rfl) rfl
theorem q1675 : (Jvm.Cond.methodLink "PedalLayersModel" (51 : Nat) ({ cls := "PedalLayersModel", name := "clears", desc := "(I)V" } : Jvm.MethodName)) ∈ lw_all := lw_g (lw_at lw_m7 154 rfl) rfl
theorem q1676 : (Jvm.Cond.privateMethod ({ cls := "PedalLayersModel", name := "clears", desc := "(I)V" } : Jvm.MethodName)) ∈ lw_tbl := lw_at lw_m7 155 rfl
theorem q1677 : (Jvm.Cond.instanceMethod ({ cls := "PedalLayersModel", name := "clears", desc := "(I)V" } : Jvm.MethodName)) ∈ lw_all := lw_g (lw_at lw_m7 156 rfl) rfl
theorem q1678 : (Jvm.Cond.code ({ cls := "PedalLayersModel", name := "clears", desc := "(I)V" } : Jvm.MethodName) prog_13_method_8_code (3 : Nat) (Option.none : Option Jvm.ClassFile.FieldType)) ∈ lw_all := lw_g (lw_at lw_m7 157 rfl) rfl
theorem q1679 : (Jvm.Cond.methodLink "PedalLayersModel" (55 : Nat) ({ cls := "PedalLayersModel", name := "force", desc := "(III)I" } : Jvm.MethodName)) ∈ lw_all := lw_g (lw_at lw_m7 158 rfl) rfl
theorem q1680 : (Jvm.Cond.privateMethod ({ cls := "PedalLayersModel", name := "force", desc := "(III)I" } : Jvm.MethodName)) ∈ lw_tbl := lw_at lw_m7 159 rfl
theorem q1681 : (Jvm.Cond.instanceMethod ({ cls := "PedalLayersModel", name := "force", desc := "(III)I" } : Jvm.MethodName)) ∈ lw_all := lw_g (lw_at lw_m7 160 rfl) rfl
theorem q1682 : (Jvm.Cond.code ({ cls := "PedalLayersModel", name := "force", desc := "(III)I" } : Jvm.MethodName) prog_13_method_6_code (4 : Nat) (Option.some Jvm.ClassFile.FieldType.int)) ∈ lw_all := lw_g (lw_at lw_m7 161 rfl) rfl
theorem q1683 : (Jvm.Cond.constantLong "PedalLayersModel" (32 : Nat) (127 : Int64)) ∈ lw_all := lw_g (lw_at lw_m7 162 rfl) rfl
theorem q1684 : (Jvm.Cond.methodLink "PedalLayersModel" (59 : Nat) ({ cls := "PedalLayersModel", name := "both", desc := "(II)I" } : Jvm.MethodName)) ∈ lw_all := lw_g (lw_at lw_m7 163 rfl) rfl
theorem q1685 : (Jvm.Cond.static ({ cls := "PedalLayersModel", name := "both", desc := "(II)I" } : Jvm.MethodName)) ∈ lw_all := lw_g (lw_at lw_m7 164 rfl) rfl
theorem q1686 : (Jvm.Cond.code ({ cls := "PedalLayersModel", name := "both", desc := "(II)I" } : Jvm.MethodName) prog_13_method_9_code (2 : Nat) (Option.some Jvm.ClassFile.FieldType.int)) ∈ lw_all := lw_g (lw_at lw_m7 165 rfl) rfl
theorem q1687 : (Jvm.Cond.methodLink "PedalLayersModel" (63 : Nat) ({ cls := "PedalLayersModel", name := "sets", desc := "(IIII)V" } : Jvm.MethodName)) ∈ lw_all := lw_g (lw_at lw_m7 166 rfl) rfl
theorem q1688 : (Jvm.Cond.privateMethod ({ cls := "PedalLayersModel", name := "sets", desc := "(IIII)V" } : Jvm.MethodName)) ∈ lw_tbl := lw_at lw_m7 167 rfl
theorem q1689 : (Jvm.Cond.instanceMethod ({ cls := "PedalLayersModel", name := "sets", desc := "(IIII)V" } : Jvm.MethodName)) ∈ lw_all := lw_g (lw_at lw_m7 168 rfl) rfl
theorem q1690 : (Jvm.Cond.code ({ cls := "PedalLayersModel", name := "sets", desc := "(IIII)V" } : Jvm.MethodName) prog_13_method_7_code (7 : Nat) (Option.none : Option Jvm.ClassFile.FieldType)) ∈ lw_all := lw_g (lw_at lw_m7 169 rfl) rfl
theorem q1691 : (Jvm.Cond.constantLong "PedalLayersModel" (34 : Nat) (-1 : Int64)) ∈ lw_all := lw_g (lw_at lw_m7 170 rfl) rfl
theorem q1692 : (Jvm.Cond.methodLink "PedalLayersModel" (74 : Nat) ({ cls := "PedalLayersModel", name := "endsTake", desc := "()V" } : Jvm.MethodName)) ∈ lw_all := lw_g (lw_at lw_m7 171 rfl) rfl
theorem q1693 : (Jvm.Cond.privateMethod ({ cls := "PedalLayersModel", name := "endsTake", desc := "()V" } : Jvm.MethodName)) ∈ lw_tbl := lw_at lw_m7 172 rfl
theorem q1694 : (Jvm.Cond.instanceMethod ({ cls := "PedalLayersModel", name := "endsTake", desc := "()V" } : Jvm.MethodName)) ∈ lw_all := lw_g (lw_at lw_m7 173 rfl) rfl
theorem q1695 : (Jvm.Cond.code ({ cls := "PedalLayersModel", name := "endsTake", desc := "()V" } : Jvm.MethodName) prog_13_method_16_code (1 : Nat) (Option.none : Option Jvm.ClassFile.FieldType)) ∈ lw_all := lw_g (lw_at lw_m7 174 rfl) rfl
theorem q1696 : (Jvm.Cond.methodLink "PedalLayersModel" (77 : Nat) ({ cls := "PedalLayersModel", name := "starts", desc := "()V" } : Jvm.MethodName)) ∈ lw_all := lw_g (lw_at lw_m7 175 rfl) rfl
theorem q1697 : (Jvm.Cond.privateMethod ({ cls := "PedalLayersModel", name := "starts", desc := "()V" } : Jvm.MethodName)) ∈ lw_tbl := lw_at lw_m7 176 rfl
theorem q1698 : (Jvm.Cond.instanceMethod ({ cls := "PedalLayersModel", name := "starts", desc := "()V" } : Jvm.MethodName)) ∈ lw_all := lw_g (lw_at lw_m7 177 rfl) rfl
theorem q1699 : (Jvm.Cond.code ({ cls := "PedalLayersModel", name := "starts", desc := "()V" } : Jvm.MethodName) prog_13_method_14_code (1 : Nat) (Option.none : Option Jvm.ClassFile.FieldType)) ∈ lw_all := lw_g (lw_at lw_m7 178 rfl) rfl
theorem q1700 : (Jvm.Cond.constantLong "PedalLayersModel" (47 : Nat) (2 : Int64)) ∈ lw_all := lw_g (lw_at lw_m7 179 rfl) rfl
theorem q1701 : (Jvm.Cond.methodLink "PedalLayersModel" (91 : Nat) ({ cls := "PedalLayersModel", name := "endsOver", desc := "()V" } : Jvm.MethodName)) ∈ lw_all := lw_g (lw_at lw_m7 180 rfl) rfl
theorem q1702 : (Jvm.Cond.privateMethod ({ cls := "PedalLayersModel", name := "endsOver", desc := "()V" } : Jvm.MethodName)) ∈ lw_tbl := lw_at lw_m7 181 rfl
theorem q1703 : (Jvm.Cond.instanceMethod ({ cls := "PedalLayersModel", name := "endsOver", desc := "()V" } : Jvm.MethodName)) ∈ lw_all := lw_g (lw_at lw_m7 182 rfl) rfl
theorem q1704 : (Jvm.Cond.code ({ cls := "PedalLayersModel", name := "endsOver", desc := "()V" } : Jvm.MethodName) prog_13_method_20_code (2 : Nat) (Option.none : Option Jvm.ClassFile.FieldType)) ∈ lw_all := lw_g (lw_at lw_m7 183 rfl) rfl
theorem q1705 : (Jvm.Cond.methodLink "PedalLayersModel" (80 : Nat) ({ cls := "PedalLayersModel", name := "loop", desc := "()I" } : Jvm.MethodName)) ∈ lw_all := lw_g (lw_at lw_m7 184 rfl) rfl
theorem q1706 : (Jvm.Cond.privateMethod ({ cls := "PedalLayersModel", name := "loop", desc := "()I" } : Jvm.MethodName)) ∈ lw_tbl := lw_at lw_m7 185 rfl
theorem q1707 : (Jvm.Cond.instanceMethod ({ cls := "PedalLayersModel", name := "loop", desc := "()I" } : Jvm.MethodName)) ∈ lw_all := lw_g (lw_at lw_m7 186 rfl) rfl
theorem q1708 : (Jvm.Cond.code ({ cls := "PedalLayersModel", name := "loop", desc := "()I" } : Jvm.MethodName) prog_13_method_12_code (1 : Nat) (Option.some Jvm.ClassFile.FieldType.int)) ∈ lw_all := lw_g (lw_at lw_m7 187 rfl) rfl
theorem q1709 : (Jvm.Cond.methodLink "PedalLayersModel" (44 : Nat) ({ cls := "PedalLayersModel", name := "lengthOf", desc := "(I)I" } : Jvm.MethodName)) ∈ lw_all := lw_g (lw_at lw_m7 188 rfl) rfl
theorem q1710 : (Jvm.Cond.privateMethod ({ cls := "PedalLayersModel", name := "lengthOf", desc := "(I)I" } : Jvm.MethodName)) ∈ lw_tbl := lw_at lw_m7 189 rfl
theorem q1711 : (Jvm.Cond.instanceMethod ({ cls := "PedalLayersModel", name := "lengthOf", desc := "(I)I" } : Jvm.MethodName)) ∈ lw_all := lw_g (lw_at lw_m7 190 rfl) rfl
theorem q1712 : (Jvm.Cond.code ({ cls := "PedalLayersModel", name := "lengthOf", desc := "(I)I" } : Jvm.MethodName) prog_13_method_11_code (4 : Nat) (Option.some Jvm.ClassFile.FieldType.int)) ∈ lw_all := lw_g (lw_at lw_m7 191 rfl) rfl
theorem q1713 : (Jvm.Cond.methodLink "PedalLayersModel" (94 : Nat) ({ cls := "PedalLayersModel", name := "beginsTake", desc := "()V" } : Jvm.MethodName)) ∈ lw_all := lw_g (lw_at lw_m7 192 rfl) rfl
theorem q1714 : (Jvm.Cond.privateMethod ({ cls := "PedalLayersModel", name := "beginsTake", desc := "()V" } : Jvm.MethodName)) ∈ lw_tbl := lw_at lw_m7 193 rfl
theorem q1715 : (Jvm.Cond.instanceMethod ({ cls := "PedalLayersModel", name := "beginsTake", desc := "()V" } : Jvm.MethodName)) ∈ lw_all := lw_g (lw_at lw_m7 194 rfl) rfl
theorem q1716 : (Jvm.Cond.code ({ cls := "PedalLayersModel", name := "beginsTake", desc := "()V" } : Jvm.MethodName) prog_13_method_15_code (1 : Nat) (Option.none : Option Jvm.ClassFile.FieldType)) ∈ lw_all := lw_g (lw_at lw_m7 195 rfl) rfl
theorem q1717 : (Jvm.Cond.constantLong "PedalLayersModel" (49 : Nat) (3 : Int64)) ∈ lw_all := lw_g (lw_at lw_m7 196 rfl) rfl
theorem q1719 : (Jvm.Cond.instanceMethod ({ cls := "PedalLayersModel", name := "stop", desc := "()I" } : Jvm.MethodName)) ∈ lw_all := lw_g (lw_at lw_m7 198 rfl) rfl
theorem q1720 : (Jvm.Cond.selects "PedalLayersModel" ({ cls := "PedalLayersModel", name := "stop", desc := "()I" } : Jvm.MethodName) ({ cls := "PedalLayersModel", name := "stop", desc := "()I" } : Jvm.MethodName)) ∈ lw_all := lw_g (lw_at lw_m7 199 rfl) rfl
theorem q1721 : (Jvm.Cond.code ({ cls := "PedalLayersModel", name := "stop", desc := "()I" } : Jvm.MethodName) prog_13_method_35_code (1 : Nat) (Option.some Jvm.ClassFile.FieldType.int)) ∈ lw_all := lw_g (lw_at lw_m7 200 rfl) rfl
theorem q1722 : (Jvm.Cond.methodLink "PedalLayersModel" (116 : Nat) ({ cls := "PedalLayersModel", name := "whyNotStop", desc := "()I" } : Jvm.MethodName)) ∈ lw_all := lw_g (lw_at lw_m7 201 rfl) rfl
theorem q1723 : (Jvm.Cond.privateMethod ({ cls := "PedalLayersModel", name := "whyNotStop", desc := "()I" } : Jvm.MethodName)) ∈ lw_tbl := lw_at lw_m7 202 rfl
theorem q1724 : (Jvm.Cond.instanceMethod ({ cls := "PedalLayersModel", name := "whyNotStop", desc := "()I" } : Jvm.MethodName)) ∈ lw_all := lw_g (lw_at lw_m7 203 rfl) rfl
theorem q1725 : (Jvm.Cond.code ({ cls := "PedalLayersModel", name := "whyNotStop", desc := "()I" } : Jvm.MethodName) prog_13_method_23_code (1 : Nat) (Option.some Jvm.ClassFile.FieldType.int)) ∈ lw_all := lw_g (lw_at lw_m7 204 rfl) rfl
theorem q1726 : (Jvm.Cond.methodLink "PedalLayersModel" (119 : Nat) ({ cls := "PedalLayersModel", name := "stops", desc := "()V" } : Jvm.MethodName)) ∈ lw_all := lw_g (lw_at lw_m7 205 rfl) rfl
theorem q1727 : (Jvm.Cond.privateMethod ({ cls := "PedalLayersModel", name := "stops", desc := "()V" } : Jvm.MethodName)) ∈ lw_tbl := lw_at lw_m7 206 rfl
theorem q1728 : (Jvm.Cond.instanceMethod ({ cls := "PedalLayersModel", name := "stops", desc := "()V" } : Jvm.MethodName)) ∈ lw_all := lw_g (lw_at lw_m7 207 rfl) rfl
theorem q1729 : (Jvm.Cond.code ({ cls := "PedalLayersModel", name := "stops", desc := "()V" } : Jvm.MethodName) prog_13_method_24_code (1 : Nat) (Option.none : Option Jvm.ClassFile.FieldType)) ∈ lw_all := lw_g (lw_at lw_m7 208 rfl) rfl
theorem q1730 : (Jvm.Cond.constantLong "PedalLayersModel" (97 : Nat) (4 : Int64)) ∈ lw_all := lw_g (lw_at lw_m7 209 rfl) rfl
theorem q1732 : (Jvm.Cond.instanceMethod ({ cls := "PedalLayersModel", name := "empty", desc := "()I" } : Jvm.MethodName)) ∈ lw_all := lw_g (lw_at lw_m7 211 rfl) rfl
theorem q1733 : (Jvm.Cond.selects "PedalLayersModel" ({ cls := "PedalLayersModel", name := "empty", desc := "()I" } : Jvm.MethodName) ({ cls := "PedalLayersModel", name := "empty", desc := "()I" } : Jvm.MethodName)) ∈ lw_all := lw_g (lw_at lw_m7 212 rfl) rfl
theorem q1734 : (Jvm.Cond.code ({ cls := "PedalLayersModel", name := "empty", desc := "()I" } : Jvm.MethodName) prog_13_method_36_code (2 : Nat) (Option.some Jvm.ClassFile.FieldType.int)) ∈ lw_all := lw_g (lw_at lw_m7 213 rfl) rfl
theorem q1736 : (Jvm.Cond.instanceMethod ({ cls := "PedalLayersModel", name := "hit", desc := "(II)I" } : Jvm.MethodName)) ∈ lw_all := lw_g (lw_at lw_m7 215 rfl) rfl
theorem q1737 : (Jvm.Cond.selects "PedalLayersModel" ({ cls := "PedalLayersModel", name := "hit", desc := "(II)I" } : Jvm.MethodName) ({ cls := "PedalLayersModel", name := "hit", desc := "(II)I" } : Jvm.MethodName)) ∈ lw_all := lw_g (lw_at lw_m7 216 rfl) rfl
theorem q1738 : (Jvm.Cond.code ({ cls := "PedalLayersModel", name := "hit", desc := "(II)I" } : Jvm.MethodName) prog_13_method_37_code (4 : Nat) (Option.some Jvm.ClassFile.FieldType.int)) ∈ lw_all := lw_g (lw_at lw_m7 217 rfl) rfl
theorem q1739 : (Jvm.Cond.methodLink "PedalLayersModel" (122 : Nat) ({ cls := "PedalLayersModel", name := "whyNotHit", desc := "(II)I" } : Jvm.MethodName)) ∈ lw_all := lw_g (lw_at lw_m7 218 rfl) rfl
theorem q1740 : (Jvm.Cond.privateMethod ({ cls := "PedalLayersModel", name := "whyNotHit", desc := "(II)I" } : Jvm.MethodName)) ∈ lw_tbl := lw_at lw_m7 219 rfl
theorem q1741 : (Jvm.Cond.instanceMethod ({ cls := "PedalLayersModel", name := "whyNotHit", desc := "(II)I" } : Jvm.MethodName)) ∈ lw_all := lw_g (lw_at lw_m7 220 rfl) rfl
theorem q1742 : (Jvm.Cond.code ({ cls := "PedalLayersModel", name := "whyNotHit", desc := "(II)I" } : Jvm.MethodName) prog_13_method_28_code (4 : Nat) (Option.some Jvm.ClassFile.FieldType.int)) ∈ lw_all := lw_g (lw_at lw_m7 221 rfl) rfl
theorem q1743 : (Jvm.Cond.methodLink "PedalLayersModel" (40 : Nat) ({ cls := "PedalLayersModel", name := "in", desc := "(III)Z" } : Jvm.MethodName)) ∈ lw_all := lw_g (lw_at lw_m7 222 rfl) rfl
theorem q1744 : (Jvm.Cond.static ({ cls := "PedalLayersModel", name := "in", desc := "(III)Z" } : Jvm.MethodName)) ∈ lw_all := lw_g (lw_at lw_m7 223 rfl) rfl
theorem q1745 : (Jvm.Cond.code ({ cls := "PedalLayersModel", name := "in", desc := "(III)Z" } : Jvm.MethodName) prog_13_method_3_code (3 : Nat) (Option.some Jvm.ClassFile.FieldType.boolean)) ∈ lw_all := lw_g (lw_at lw_m7 224 rfl) rfl
theorem q1746 : (Jvm.Cond.methodLink "PedalLayersModel" (125 : Nat) ({ cls := "PedalLayersModel", name := "hits", desc := "(II)I" } : Jvm.MethodName)) ∈ lw_all := lw_g (lw_at lw_m7 225 rfl) rfl
theorem q1747 : (Jvm.Cond.privateMethod ({ cls := "PedalLayersModel", name := "hits", desc := "(II)I" } : Jvm.MethodName)) ∈ lw_tbl := lw_at lw_m7 226 rfl
theorem q1748 : (Jvm.Cond.instanceMethod ({ cls := "PedalLayersModel", name := "hits", desc := "(II)I" } : Jvm.MethodName)) ∈ lw_all := lw_g (lw_at lw_m7 227 rfl) rfl
theorem q1749 : (Jvm.Cond.code ({ cls := "PedalLayersModel", name := "hits", desc := "(II)I" } : Jvm.MethodName) prog_13_method_29_code (6 : Nat) (Option.some Jvm.ClassFile.FieldType.int)) ∈ lw_all := lw_g (lw_at lw_m7 228 rfl) rfl
theorem q1751 : (Jvm.Cond.instanceMethod ({ cls := "PedalLayersModel", name := "pass", desc := "(I)I" } : Jvm.MethodName)) ∈ lw_all := lw_g (lw_at lw_m7 230 rfl) rfl
theorem q1752 : (Jvm.Cond.selects "PedalLayersModel" ({ cls := "PedalLayersModel", name := "pass", desc := "(I)I" } : Jvm.MethodName) ({ cls := "PedalLayersModel", name := "pass", desc := "(I)I" } : Jvm.MethodName)) ∈ lw_all := lw_g (lw_at lw_m7 231 rfl) rfl
theorem q1753 : (Jvm.Cond.code ({ cls := "PedalLayersModel", name := "pass", desc := "(I)I" } : Jvm.MethodName) prog_13_method_38_code (2 : Nat) (Option.some Jvm.ClassFile.FieldType.int)) ∈ lw_all := lw_g (lw_at lw_m7 232 rfl) rfl
theorem q1754 : (Jvm.Cond.methodLink "PedalLayersModel" (128 : Nat) ({ cls := "PedalLayersModel", name := "passes", desc := "(I)I" } : Jvm.MethodName)) ∈ lw_all := lw_g (lw_at lw_m7 233 rfl) rfl
theorem q1755 : (Jvm.Cond.privateMethod ({ cls := "PedalLayersModel", name := "passes", desc := "(I)I" } : Jvm.MethodName)) ∈ lw_tbl := lw_at lw_m7 234 rfl
theorem q1756 : (Jvm.Cond.instanceMethod ({ cls := "PedalLayersModel", name := "passes", desc := "(I)I" } : Jvm.MethodName)) ∈ lw_all := lw_g (lw_at lw_m7 235 rfl) rfl
theorem q1757 : (Jvm.Cond.code ({ cls := "PedalLayersModel", name := "passes", desc := "(I)I" } : Jvm.MethodName) prog_13_method_27_code (4 : Nat) (Option.some Jvm.ClassFile.FieldType.int)) ∈ lw_all := lw_g (lw_at lw_m7 236 rfl) rfl
theorem q1758 : (Jvm.Cond.methodLink "PedalLayersModel" (104 : Nat) ({ cls := "PedalLayersModel", name := "ticks", desc := "()I" } : Jvm.MethodName)) ∈ lw_all := lw_g (lw_at lw_m7 237 rfl) rfl
theorem q1759 : (Jvm.Cond.privateMethod ({ cls := "PedalLayersModel", name := "ticks", desc := "()I" } : Jvm.MethodName)) ∈ lw_tbl := lw_at lw_m7 238 rfl
theorem q1760 : (Jvm.Cond.instanceMethod ({ cls := "PedalLayersModel", name := "ticks", desc := "()I" } : Jvm.MethodName)) ∈ lw_all := lw_g (lw_at lw_m7 239 rfl) rfl
theorem q1761 : (Jvm.Cond.code ({ cls := "PedalLayersModel", name := "ticks", desc := "()I" } : Jvm.MethodName) prog_13_method_26_code (5 : Nat) (Option.some Jvm.ClassFile.FieldType.int)) ∈ lw_all := lw_g (lw_at lw_m8 0 rfl) rfl
theorem q1762 : (Jvm.Cond.methodLink "PedalLayersModel" (101 : Nat) ({ cls := "PedalLayersModel", name := "fades", desc := "()V" } : Jvm.MethodName)) ∈ lw_all := lw_g (lw_at lw_m8 1 rfl) rfl
theorem q1763 : (Jvm.Cond.privateMethod ({ cls := "PedalLayersModel", name := "fades", desc := "()V" } : Jvm.MethodName)) ∈ lw_tbl := lw_at lw_m8 2 rfl
theorem q1764 : (Jvm.Cond.instanceMethod ({ cls := "PedalLayersModel", name := "fades", desc := "()V" } : Jvm.MethodName)) ∈ lw_all := lw_g (lw_at lw_m8 3 rfl) rfl
theorem q1765 : (Jvm.Cond.code ({ cls := "PedalLayersModel", name := "fades", desc := "()V" } : Jvm.MethodName) prog_13_method_25_code (6 : Nat) (Option.none : Option Jvm.ClassFile.FieldType)) ∈ lw_all := lw_g (lw_at lw_m8 4 rfl) rfl
theorem q1766 : (Jvm.Cond.constantLong "PedalLayersModel" (99 : Nat) (100 : Int64)) ∈ lw_all := lw_g (lw_at lw_m8 5 rfl) rfl
theorem q1768 : (Jvm.Cond.instanceMethod ({ cls := "PedalLayersModel", name := "peel", desc := "()I" } : Jvm.MethodName)) ∈ lw_all := lw_g (lw_at lw_m8 7 rfl) rfl
theorem q1769 : (Jvm.Cond.selects "PedalLayersModel" ({ cls := "PedalLayersModel", name := "peel", desc := "()I" } : Jvm.MethodName) ({ cls := "PedalLayersModel", name := "peel", desc := "()I" } : Jvm.MethodName)) ∈ lw_all := lw_g (lw_at lw_m8 8 rfl) rfl
theorem q1770 : (Jvm.Cond.code ({ cls := "PedalLayersModel", name := "peel", desc := "()I" } : Jvm.MethodName) prog_13_method_39_code (1 : Nat) (Option.some Jvm.ClassFile.FieldType.int)) ∈ lw_all := lw_g (lw_at lw_m8 9 rfl) rfl
theorem q1771 : (Jvm.Cond.methodLink "PedalLayersModel" (131 : Nat) ({ cls := "PedalLayersModel", name := "whyNotPeel", desc := "()I" } : Jvm.MethodName)) ∈ lw_all := lw_g (lw_at lw_m8 10 rfl) rfl
theorem q1772 : (Jvm.Cond.privateMethod ({ cls := "PedalLayersModel", name := "whyNotPeel", desc := "()I" } : Jvm.MethodName)) ∈ lw_tbl := lw_at lw_m8 11 rfl
theorem q1773 : (Jvm.Cond.instanceMethod ({ cls := "PedalLayersModel", name := "whyNotPeel", desc := "()I" } : Jvm.MethodName)) ∈ lw_all := lw_g (lw_at lw_m8 12 rfl) rfl
theorem q1774 : (Jvm.Cond.code ({ cls := "PedalLayersModel", name := "whyNotPeel", desc := "()I" } : Jvm.MethodName) prog_13_method_30_code (1 : Nat) (Option.some Jvm.ClassFile.FieldType.int)) ∈ lw_all := lw_g (lw_at lw_m8 13 rfl) rfl
theorem q1775 : (Jvm.Cond.methodLink "PedalLayersModel" (134 : Nat) ({ cls := "PedalLayersModel", name := "peels", desc := "()V" } : Jvm.MethodName)) ∈ lw_all := lw_g (lw_at lw_m8 14 rfl) rfl
theorem q1776 : (Jvm.Cond.privateMethod ({ cls := "PedalLayersModel", name := "peels", desc := "()V" } : Jvm.MethodName)) ∈ lw_tbl := lw_at lw_m8 15 rfl
theorem q1777 : (Jvm.Cond.instanceMethod ({ cls := "PedalLayersModel", name := "peels", desc := "()V" } : Jvm.MethodName)) ∈ lw_all := lw_g (lw_at lw_m8 16 rfl) rfl
theorem q1778 : (Jvm.Cond.code ({ cls := "PedalLayersModel", name := "peels", desc := "()V" } : Jvm.MethodName) prog_13_method_31_code (2 : Nat) (Option.none : Option Jvm.ClassFile.FieldType)) ∈ lw_all := lw_g (lw_at lw_m8 17 rfl) rfl
theorem q1780 : (Jvm.Cond.instanceMethod ({ cls := "PedalLayersModel", name := "back", desc := "()I" } : Jvm.MethodName)) ∈ lw_all := lw_g (lw_at lw_m8 19 rfl) rfl
theorem q1781 : (Jvm.Cond.selects "PedalLayersModel" ({ cls := "PedalLayersModel", name := "back", desc := "()I" } : Jvm.MethodName) ({ cls := "PedalLayersModel", name := "back", desc := "()I" } : Jvm.MethodName)) ∈ lw_all := lw_g (lw_at lw_m8 20 rfl) rfl
theorem q1782 : (Jvm.Cond.code ({ cls := "PedalLayersModel", name := "back", desc := "()I" } : Jvm.MethodName) prog_13_method_40_code (1 : Nat) (Option.some Jvm.ClassFile.FieldType.int)) ∈ lw_all := lw_g (lw_at lw_m8 21 rfl) rfl
theorem q1783 : (Jvm.Cond.methodLink "PedalLayersModel" (137 : Nat) ({ cls := "PedalLayersModel", name := "whyNotBack", desc := "()I" } : Jvm.MethodName)) ∈ lw_all := lw_g (lw_at lw_m8 22 rfl) rfl
theorem q1784 : (Jvm.Cond.privateMethod ({ cls := "PedalLayersModel", name := "whyNotBack", desc := "()I" } : Jvm.MethodName)) ∈ lw_tbl := lw_at lw_m8 23 rfl
theorem q1785 : (Jvm.Cond.instanceMethod ({ cls := "PedalLayersModel", name := "whyNotBack", desc := "()I" } : Jvm.MethodName)) ∈ lw_all := lw_g (lw_at lw_m8 24 rfl) rfl
theorem q1786 : (Jvm.Cond.code ({ cls := "PedalLayersModel", name := "whyNotBack", desc := "()I" } : Jvm.MethodName) prog_13_method_32_code (1 : Nat) (Option.some Jvm.ClassFile.FieldType.int)) ∈ lw_all := lw_g (lw_at lw_m8 25 rfl) rfl
theorem q1787 : (Jvm.Cond.methodLink "PedalLayersModel" (140 : Nat) ({ cls := "PedalLayersModel", name := "backs", desc := "()V" } : Jvm.MethodName)) ∈ lw_all := lw_g (lw_at lw_m8 26 rfl) rfl
theorem q1788 : (Jvm.Cond.privateMethod ({ cls := "PedalLayersModel", name := "backs", desc := "()V" } : Jvm.MethodName)) ∈ lw_tbl := lw_at lw_m8 27 rfl
theorem q1789 : (Jvm.Cond.instanceMethod ({ cls := "PedalLayersModel", name := "backs", desc := "()V" } : Jvm.MethodName)) ∈ lw_all := lw_g (lw_at lw_m8 28 rfl) rfl
theorem q1790 : (Jvm.Cond.code ({ cls := "PedalLayersModel", name := "backs", desc := "()V" } : Jvm.MethodName) prog_13_method_33_code (1 : Nat) (Option.none : Option Jvm.ClassFile.FieldType)) ∈ lw_all := lw_g (lw_at lw_m8 29 rfl) rfl
theorem q1792 : (Jvm.Cond.instanceMethod ({ cls := "PedalLayersModel", name := "mute", desc := "(I)I" } : Jvm.MethodName)) ∈ lw_all := lw_g (lw_at lw_m8 31 rfl) rfl
theorem q1793 : (Jvm.Cond.selects "PedalLayersModel" ({ cls := "PedalLayersModel", name := "mute", desc := "(I)I" } : Jvm.MethodName) ({ cls := "PedalLayersModel", name := "mute", desc := "(I)I" } : Jvm.MethodName)) ∈ lw_all := lw_g (lw_at lw_m8 32 rfl) rfl
theorem q1794 : (Jvm.Cond.code ({ cls := "PedalLayersModel", name := "mute", desc := "(I)I" } : Jvm.MethodName) prog_13_method_41_code (2 : Nat) (Option.some Jvm.ClassFile.FieldType.int)) ∈ lw_all := lw_g (lw_at lw_m8 33 rfl) rfl
theorem q1795 : (Jvm.Cond.methodLink "PedalLayersModel" (143 : Nat) ({ cls := "PedalLayersModel", name := "isLayer", desc := "(I)Z" } : Jvm.MethodName)) ∈ lw_all := lw_g (lw_at lw_m8 34 rfl) rfl
theorem q1796 : (Jvm.Cond.privateMethod ({ cls := "PedalLayersModel", name := "isLayer", desc := "(I)Z" } : Jvm.MethodName)) ∈ lw_tbl := lw_at lw_m8 35 rfl
theorem q1797 : (Jvm.Cond.instanceMethod ({ cls := "PedalLayersModel", name := "isLayer", desc := "(I)Z" } : Jvm.MethodName)) ∈ lw_all := lw_g (lw_at lw_m8 36 rfl) rfl
theorem q1798 : (Jvm.Cond.code ({ cls := "PedalLayersModel", name := "isLayer", desc := "(I)Z" } : Jvm.MethodName) prog_13_method_10_code (2 : Nat) (Option.some Jvm.ClassFile.FieldType.boolean)) ∈ lw_all := lw_g (lw_at lw_m8 37 rfl) rfl
theorem q1800 : (Jvm.Cond.instanceMethod ({ cls := "PedalLayersModel", name := "speed", desc := "()I" } : Jvm.MethodName)) ∈ lw_all := lw_g (lw_at lw_m8 39 rfl) rfl
theorem q1801 : (Jvm.Cond.selects "PedalLayersModel" ({ cls := "PedalLayersModel", name := "speed", desc := "()I" } : Jvm.MethodName) ({ cls := "PedalLayersModel", name := "speed", desc := "()I" } : Jvm.MethodName)) ∈ lw_all := lw_g (lw_at lw_m8 40 rfl) rfl
theorem q1802 : (Jvm.Cond.code ({ cls := "PedalLayersModel", name := "speed", desc := "()I" } : Jvm.MethodName) prog_13_method_42_code (1 : Nat) (Option.some Jvm.ClassFile.FieldType.int)) ∈ lw_all := lw_g (lw_at lw_m8 41 rfl) rfl
theorem q1804 : (Jvm.Cond.instanceMethod ({ cls := "PedalLayersModel", name := "set", desc := "(II)I" } : Jvm.MethodName)) ∈ lw_all := lw_g (lw_at lw_m8 43 rfl) rfl
theorem q1805 : (Jvm.Cond.selects "PedalLayersModel" ({ cls := "PedalLayersModel", name := "set", desc := "(II)I" } : Jvm.MethodName) ({ cls := "PedalLayersModel", name := "set", desc := "(II)I" } : Jvm.MethodName)) ∈ lw_all := lw_g (lw_at lw_m8 44 rfl) rfl
theorem q1806 : (Jvm.Cond.code ({ cls := "PedalLayersModel", name := "set", desc := "(II)I" } : Jvm.MethodName) prog_13_method_43_code (5 : Nat) (Option.some Jvm.ClassFile.FieldType.int)) ∈ lw_all := lw_g (lw_at lw_m8 45 rfl) rfl
theorem q1808 : (Jvm.Cond.instanceMethod ({ cls := "PedalLayersModel", name := "append", desc := "(I)I" } : Jvm.MethodName)) ∈ lw_all := lw_g (lw_at lw_m8 47 rfl) rfl
theorem q1809 : (Jvm.Cond.selects "PedalLayersModel" ({ cls := "PedalLayersModel", name := "append", desc := "(I)I" } : Jvm.MethodName) ({ cls := "PedalLayersModel", name := "append", desc := "(I)I" } : Jvm.MethodName)) ∈ lw_all := lw_g (lw_at lw_m8 48 rfl) rfl
theorem q1810 : (Jvm.Cond.code ({ cls := "PedalLayersModel", name := "append", desc := "(I)I" } : Jvm.MethodName) prog_13_method_44_code (2 : Nat) (Option.some Jvm.ClassFile.FieldType.int)) ∈ lw_all := lw_g (lw_at lw_m8 49 rfl) rfl
theorem q1812 : (Jvm.Cond.instanceMethod ({ cls := "PedalLayersModel", name := "erase", desc := "()I" } : Jvm.MethodName)) ∈ lw_all := lw_g (lw_at lw_m8 51 rfl) rfl
theorem q1813 : (Jvm.Cond.selects "PedalLayersModel" ({ cls := "PedalLayersModel", name := "erase", desc := "()I" } : Jvm.MethodName) ({ cls := "PedalLayersModel", name := "erase", desc := "()I" } : Jvm.MethodName)) ∈ lw_all := lw_g (lw_at lw_m8 52 rfl) rfl
theorem q1814 : (Jvm.Cond.code ({ cls := "PedalLayersModel", name := "erase", desc := "()I" } : Jvm.MethodName) prog_13_method_45_code (2 : Nat) (Option.some Jvm.ClassFile.FieldType.int)) ∈ lw_all := lw_g (lw_at lw_m8 53 rfl) rfl
theorem q1816 : (Jvm.Cond.instanceMethod ({ cls := "PedalLayersModel", name := "fault", desc := "(I)I" } : Jvm.MethodName)) ∈ lw_all := lw_g (lw_at lw_m8 55 rfl) rfl
theorem q1817 : (Jvm.Cond.selects "PedalLayersModel" ({ cls := "PedalLayersModel", name := "fault", desc := "(I)I" } : Jvm.MethodName) ({ cls := "PedalLayersModel", name := "fault", desc := "(I)I" } : Jvm.MethodName)) ∈ lw_all := lw_g (lw_at lw_m8 56 rfl) rfl
theorem q1818 : (Jvm.Cond.code ({ cls := "PedalLayersModel", name := "fault", desc := "(I)I" } : Jvm.MethodName) prog_13_method_53_code (2 : Nat) (Option.some Jvm.ClassFile.FieldType.int)) ∈ lw_all := lw_g (lw_at lw_m8 57 rfl) rfl
theorem q1819 : (Jvm.Cond.methodLink "PedalLayersModel" (165 : Nat) ({ cls := "PedalLayersModel", name := "faultOf", desc := "(I)I" } : Jvm.MethodName)) ∈ lw_all := lw_g (lw_at lw_m8 58 rfl) rfl
theorem q1820 : (Jvm.Cond.privateMethod ({ cls := "PedalLayersModel", name := "faultOf", desc := "(I)I" } : Jvm.MethodName)) ∈ lw_tbl := lw_at lw_m8 59 rfl
theorem q1821 : (Jvm.Cond.instanceMethod ({ cls := "PedalLayersModel", name := "faultOf", desc := "(I)I" } : Jvm.MethodName)) ∈ lw_all := lw_g (lw_at lw_m8 60 rfl) rfl
theorem q1822 : (Jvm.Cond.code ({ cls := "PedalLayersModel", name := "faultOf", desc := "(I)I" } : Jvm.MethodName) prog_13_method_52_code (5 : Nat) (Option.some Jvm.ClassFile.FieldType.int)) ∈ lw_all := lw_g (lw_at lw_m8 61 rfl) rfl
theorem q1823 : (Jvm.Cond.methodLink "PedalLayersModel" (162 : Nat) ({ cls := "PedalLayersModel", name := "orderEnd", desc := "(I)I" } : Jvm.MethodName)) ∈ lw_all := lw_g (lw_at lw_m8 62 rfl) rfl
theorem q1824 : (Jvm.Cond.privateMethod ({ cls := "PedalLayersModel", name := "orderEnd", desc := "(I)I" } : Jvm.MethodName)) ∈ lw_tbl := lw_at lw_m8 63 rfl
theorem q1825 : (Jvm.Cond.instanceMethod ({ cls := "PedalLayersModel", name := "orderEnd", desc := "(I)I" } : Jvm.MethodName)) ∈ lw_all := lw_g (lw_at lw_m8 64 rfl) rfl
theorem q1826 : (Jvm.Cond.code ({ cls := "PedalLayersModel", name := "orderEnd", desc := "(I)I" } : Jvm.MethodName) prog_13_method_51_code (2 : Nat) (Option.some Jvm.ClassFile.FieldType.int)) ∈ lw_all := lw_g (lw_at lw_m8 65 rfl) rfl
theorem q1827 : (Jvm.Cond.methodLink "PedalLayersModel" (150 : Nat) ({ cls := "PedalLayersModel", name := "sign", desc := "(I)I" } : Jvm.MethodName)) ∈ lw_all := lw_g (lw_at lw_m8 66 rfl) rfl
theorem q1828 : (Jvm.Cond.privateMethod ({ cls := "PedalLayersModel", name := "sign", desc := "(I)I" } : Jvm.MethodName)) ∈ lw_tbl := lw_at lw_m8 67 rfl
theorem q1829 : (Jvm.Cond.instanceMethod ({ cls := "PedalLayersModel", name := "sign", desc := "(I)I" } : Jvm.MethodName)) ∈ lw_all := lw_g (lw_at lw_m8 68 rfl) rfl
theorem q1830 : (Jvm.Cond.code ({ cls := "PedalLayersModel", name := "sign", desc := "(I)I" } : Jvm.MethodName) prog_13_method_46_code (2 : Nat) (Option.some Jvm.ClassFile.FieldType.int)) ∈ lw_all := lw_g (lw_at lw_m8 69 rfl) rfl
theorem q1831 : (Jvm.Cond.methodLink "PedalLayersModel" (156 : Nat) ({ cls := "PedalLayersModel", name := "numberEnd", desc := "(III)I" } : Jvm.MethodName)) ∈ lw_all := lw_g (lw_at lw_m8 70 rfl) rfl
theorem q1832 : (Jvm.Cond.privateMethod ({ cls := "PedalLayersModel", name := "numberEnd", desc := "(III)I" } : Jvm.MethodName)) ∈ lw_tbl := lw_at lw_m8 71 rfl
theorem q1833 : (Jvm.Cond.instanceMethod ({ cls := "PedalLayersModel", name := "numberEnd", desc := "(III)I" } : Jvm.MethodName)) ∈ lw_all := lw_g (lw_at lw_m8 72 rfl) rfl
theorem q1834 : (Jvm.Cond.code ({ cls := "PedalLayersModel", name := "numberEnd", desc := "(III)I" } : Jvm.MethodName) prog_13_method_48_code (6 : Nat) (Option.some Jvm.ClassFile.FieldType.int)) ∈ lw_all := lw_g (lw_at lw_m8 73 rfl) rfl
theorem q1835 : (Jvm.Cond.methodLink "PedalLayersModel" (153 : Nat) ({ cls := "PedalLayersModel", name := "digit", desc := "(I)I" } : Jvm.MethodName)) ∈ lw_all := lw_g (lw_at lw_m8 74 rfl) rfl
theorem q1836 : (Jvm.Cond.privateMethod ({ cls := "PedalLayersModel", name := "digit", desc := "(I)I" } : Jvm.MethodName)) ∈ lw_tbl := lw_at lw_m8 75 rfl
theorem q1837 : (Jvm.Cond.instanceMethod ({ cls := "PedalLayersModel", name := "digit", desc := "(I)I" } : Jvm.MethodName)) ∈ lw_all := lw_g (lw_at lw_m8 76 rfl) rfl
theorem q1838 : (Jvm.Cond.code ({ cls := "PedalLayersModel", name := "digit", desc := "(I)I" } : Jvm.MethodName) prog_13_method_47_code (2 : Nat) (Option.some Jvm.ClassFile.FieldType.int)) ∈ lw_all := lw_g (lw_at lw_m8 77 rfl) rfl
theorem q1839 : (Jvm.Cond.methodLink "PedalLayersModel" (159 : Nat) ({ cls := "PedalLayersModel", name := "behind", desc := "(II)I" } : Jvm.MethodName)) ∈ lw_all := lw_g (lw_at lw_m8 78 rfl) rfl
theorem q1840 : (Jvm.Cond.privateMethod ({ cls := "PedalLayersModel", name := "behind", desc := "(II)I" } : Jvm.MethodName)) ∈ lw_tbl := lw_at lw_m8 79 rfl
theorem q1841 : (Jvm.Cond.instanceMethod ({ cls := "PedalLayersModel", name := "behind", desc := "(II)I" } : Jvm.MethodName)) ∈ lw_all := lw_g (lw_at lw_m8 80 rfl) rfl
theorem q1842 : (Jvm.Cond.code ({ cls := "PedalLayersModel", name := "behind", desc := "(II)I" } : Jvm.MethodName) prog_13_method_50_code (3 : Nat) (Option.some Jvm.ClassFile.FieldType.int)) ∈ lw_all := lw_g (lw_at lw_m8 81 rfl) rfl
theorem q1844 : (Jvm.Cond.instanceMethod ({ cls := "PedalLayersModel", name := "play", desc := "()I" } : Jvm.MethodName)) ∈ lw_all := lw_g (lw_at lw_m8 83 rfl) rfl
theorem q1845 : (Jvm.Cond.selects "PedalLayersModel" ({ cls := "PedalLayersModel", name := "play", desc := "()I" } : Jvm.MethodName) ({ cls := "PedalLayersModel", name := "play", desc := "()I" } : Jvm.MethodName)) ∈ lw_all := lw_g (lw_at lw_m8 84 rfl) rfl
theorem q1846 : (Jvm.Cond.code ({ cls := "PedalLayersModel", name := "play", desc := "()I" } : Jvm.MethodName) prog_13_method_56_code (4 : Nat) (Option.some Jvm.ClassFile.FieldType.int)) ∈ lw_all := lw_g (lw_at lw_m8 85 rfl) rfl
theorem q1847 : (Jvm.Cond.methodLink "PedalLayersModel" (178 : Nat) ({ cls := "PedalLayersModel", name := "carries", desc := "(I)I" } : Jvm.MethodName)) ∈ lw_all := lw_g (lw_at lw_m8 86 rfl) rfl
theorem q1848 : (Jvm.Cond.privateMethod ({ cls := "PedalLayersModel", name := "carries", desc := "(I)I" } : Jvm.MethodName)) ∈ lw_tbl := lw_at lw_m8 87 rfl
theorem q1849 : (Jvm.Cond.instanceMethod ({ cls := "PedalLayersModel", name := "carries", desc := "(I)I" } : Jvm.MethodName)) ∈ lw_all := lw_g (lw_at lw_m8 88 rfl) rfl
theorem q1850 : (Jvm.Cond.code ({ cls := "PedalLayersModel", name := "carries", desc := "(I)I" } : Jvm.MethodName) prog_13_method_54_code (5 : Nat) (Option.some Jvm.ClassFile.FieldType.int)) ∈ lw_all := lw_g (lw_at lw_m8 89 rfl) rfl
theorem q1851 : (Jvm.Cond.methodLink "PedalLayersModel" (168 : Nat) ({ cls := "PedalLayersModel", name := "numberAt", desc := "(I)I" } : Jvm.MethodName)) ∈ lw_all := lw_g (lw_at lw_m8 90 rfl) rfl
theorem q1852 : (Jvm.Cond.privateMethod ({ cls := "PedalLayersModel", name := "numberAt", desc := "(I)I" } : Jvm.MethodName)) ∈ lw_tbl := lw_at lw_m8 91 rfl
theorem q1853 : (Jvm.Cond.instanceMethod ({ cls := "PedalLayersModel", name := "numberAt", desc := "(I)I" } : Jvm.MethodName)) ∈ lw_all := lw_g (lw_at lw_m8 92 rfl) rfl
theorem q1854 : (Jvm.Cond.code ({ cls := "PedalLayersModel", name := "numberAt", desc := "(I)I" } : Jvm.MethodName) prog_13_method_49_code (4 : Nat) (Option.some Jvm.ClassFile.FieldType.int)) ∈ lw_all := lw_g (lw_at lw_m8 93 rfl) rfl
theorem q1855 : (Jvm.Cond.methodLink "PedalLayersModel" (171 : Nat) ({ cls := "PedalLayersModel", name := "goes", desc := "(II)I" } : Jvm.MethodName)) ∈ lw_all := lw_g (lw_at lw_m8 94 rfl) rfl
theorem q1856 : (Jvm.Cond.privateMethod ({ cls := "PedalLayersModel", name := "goes", desc := "(II)I" } : Jvm.MethodName)) ∈ lw_tbl := lw_at lw_m8 95 rfl
theorem q1857 : (Jvm.Cond.instanceMethod ({ cls := "PedalLayersModel", name := "goes", desc := "(II)I" } : Jvm.MethodName)) ∈ lw_all := lw_g (lw_at lw_m8 96 rfl) rfl
theorem q1858 : (Jvm.Cond.code ({ cls := "PedalLayersModel", name := "goes", desc := "(II)I" } : Jvm.MethodName) prog_13_method_55_code (3 : Nat) (Option.some Jvm.ClassFile.FieldType.int)) ∈ lw_all := lw_g (lw_at lw_m8 97 rfl) rfl
theorem q1860 : (Jvm.Cond.instanceMethod ({ cls := "PedalLayersModel", name := "why", desc := "(I)I" } : Jvm.MethodName)) ∈ lw_all := lw_g (lw_at lw_m8 99 rfl) rfl
theorem q1861 : (Jvm.Cond.selects "PedalLayersModel" ({ cls := "PedalLayersModel", name := "why", desc := "(I)I" } : Jvm.MethodName) ({ cls := "PedalLayersModel", name := "why", desc := "(I)I" } : Jvm.MethodName)) ∈ lw_all := lw_g (lw_at lw_m8 100 rfl) rfl
theorem q1862 : (Jvm.Cond.code ({ cls := "PedalLayersModel", name := "why", desc := "(I)I" } : Jvm.MethodName) prog_13_method_57_code (2 : Nat) (Option.some Jvm.ClassFile.FieldType.int)) ∈ lw_all := lw_g (lw_at lw_m8 101 rfl) rfl
theorem q1864 : (Jvm.Cond.instanceMethod ({ cls := "PedalLayersModel", name := "layer", desc := "(II)I" } : Jvm.MethodName)) ∈ lw_all := lw_g (lw_at lw_m8 103 rfl) rfl
theorem q1865 : (Jvm.Cond.selects "PedalLayersModel" ({ cls := "PedalLayersModel", name := "layer", desc := "(II)I" } : Jvm.MethodName) ({ cls := "PedalLayersModel", name := "layer", desc := "(II)I" } : Jvm.MethodName)) ∈ lw_all := lw_g (lw_at lw_m8 104 rfl) rfl
theorem q1866 : (Jvm.Cond.code ({ cls := "PedalLayersModel", name := "layer", desc := "(II)I" } : Jvm.MethodName) prog_13_method_59_code (3 : Nat) (Option.some Jvm.ClassFile.FieldType.int)) ∈ lw_all := lw_g (lw_at lw_m8 105 rfl) rfl
theorem q1867 : (Jvm.Cond.methodLink "PedalLayersModel" (181 : Nat) ({ cls := "PedalLayersModel", name := "forces", desc := "(III)I" } : Jvm.MethodName)) ∈ lw_all := lw_g (lw_at lw_m8 106 rfl) rfl
theorem q1868 : (Jvm.Cond.privateMethod ({ cls := "PedalLayersModel", name := "forces", desc := "(III)I" } : Jvm.MethodName)) ∈ lw_tbl := lw_at lw_m8 107 rfl
theorem q1869 : (Jvm.Cond.instanceMethod ({ cls := "PedalLayersModel", name := "forces", desc := "(III)I" } : Jvm.MethodName)) ∈ lw_all := lw_g (lw_at lw_m8 108 rfl) rfl
theorem q1870 : (Jvm.Cond.code ({ cls := "PedalLayersModel", name := "forces", desc := "(III)I" } : Jvm.MethodName) prog_13_method_58_code (8 : Nat) (Option.some Jvm.ClassFile.FieldType.int)) ∈ lw_all := lw_g (lw_at lw_m8 109 rfl) rfl
theorem q1872 : (Jvm.Cond.instanceMethod ({ cls := "PedalLayersModel", name := "note", desc := "(III)I" } : Jvm.MethodName)) ∈ lw_all := lw_g (lw_at lw_m8 111 rfl) rfl
theorem q1873 : (Jvm.Cond.selects "PedalLayersModel" ({ cls := "PedalLayersModel", name := "note", desc := "(III)I" } : Jvm.MethodName) ({ cls := "PedalLayersModel", name := "note", desc := "(III)I" } : Jvm.MethodName)) ∈ lw_all := lw_g (lw_at lw_m8 112 rfl) rfl
theorem q1874 : (Jvm.Cond.code ({ cls := "PedalLayersModel", name := "note", desc := "(III)I" } : Jvm.MethodName) prog_13_method_60_code (5 : Nat) (Option.some Jvm.ClassFile.FieldType.int)) ∈ lw_all := lw_g (lw_at lw_m8 113 rfl) rfl
theorem q1876 : (Jvm.Cond.instanceMethod ({ cls := "PedalLayersModel", name := "ring", desc := "(II)I" } : Jvm.MethodName)) ∈ lw_all := lw_g (lw_at lw_m8 115 rfl) rfl
theorem q1877 : (Jvm.Cond.selects "PedalLayersModel" ({ cls := "PedalLayersModel", name := "ring", desc := "(II)I" } : Jvm.MethodName) ({ cls := "PedalLayersModel", name := "ring", desc := "(II)I" } : Jvm.MethodName)) ∈ lw_all := lw_g (lw_at lw_m8 116 rfl) rfl
theorem q1878 : (Jvm.Cond.code ({ cls := "PedalLayersModel", name := "ring", desc := "(II)I" } : Jvm.MethodName) prog_13_method_65_code (3 : Nat) (Option.some Jvm.ClassFile.FieldType.int)) ∈ lw_all := lw_g (lw_at lw_m8 117 rfl) rfl
theorem q1879 : (Jvm.Cond.methodLink "PedalLayersModel" (190 : Nat) ({ cls := "PedalLayersModel", name := "isCell", desc := "(I)Z" } : Jvm.MethodName)) ∈ lw_all := lw_g (lw_at lw_m8 118 rfl) rfl
theorem q1880 : (Jvm.Cond.privateMethod ({ cls := "PedalLayersModel", name := "isCell", desc := "(I)Z" } : Jvm.MethodName)) ∈ lw_tbl := lw_at lw_m8 119 rfl
theorem q1881 : (Jvm.Cond.instanceMethod ({ cls := "PedalLayersModel", name := "isCell", desc := "(I)Z" } : Jvm.MethodName)) ∈ lw_all := lw_g (lw_at lw_m8 120 rfl) rfl
theorem q1882 : (Jvm.Cond.code ({ cls := "PedalLayersModel", name := "isCell", desc := "(I)Z" } : Jvm.MethodName) prog_13_method_64_code (2 : Nat) (Option.some Jvm.ClassFile.FieldType.boolean)) ∈ lw_all := lw_g (lw_at lw_m8 121 rfl) rfl
theorem q1883 : (Jvm.Cond.methodLink "PedalLayersModel" (187 : Nat) ({ cls := "PedalLayersModel", name := "ringOf", desc := "(III)I" } : Jvm.MethodName)) ∈ lw_all := lw_g (lw_at lw_m8 122 rfl) rfl
theorem q1884 : (Jvm.Cond.privateMethod ({ cls := "PedalLayersModel", name := "ringOf", desc := "(III)I" } : Jvm.MethodName)) ∈ lw_tbl := lw_at lw_m8 123 rfl
theorem q1885 : (Jvm.Cond.instanceMethod ({ cls := "PedalLayersModel", name := "ringOf", desc := "(III)I" } : Jvm.MethodName)) ∈ lw_all := lw_g (lw_at lw_m8 124 rfl) rfl
theorem q1886 : (Jvm.Cond.code ({ cls := "PedalLayersModel", name := "ringOf", desc := "(III)I" } : Jvm.MethodName) prog_13_method_62_code (6 : Nat) (Option.some Jvm.ClassFile.FieldType.int)) ∈ lw_all := lw_g (lw_at lw_m8 125 rfl) rfl
theorem q1887 : (Jvm.Cond.methodLink "PedalLayersModel" (184 : Nat) ({ cls := "PedalLayersModel", name := "adds", desc := "(III)I" } : Jvm.MethodName)) ∈ lw_all := lw_g (lw_at lw_m8 126 rfl) rfl
theorem q1888 : (Jvm.Cond.privateMethod ({ cls := "PedalLayersModel", name := "adds", desc := "(III)I" } : Jvm.MethodName)) ∈ lw_tbl := lw_at lw_m8 127 rfl
theorem q1889 : (Jvm.Cond.instanceMethod ({ cls := "PedalLayersModel", name := "adds", desc := "(III)I" } : Jvm.MethodName)) ∈ lw_all := lw_g (lw_at lw_m8 128 rfl) rfl
theorem q1890 : (Jvm.Cond.code ({ cls := "PedalLayersModel", name := "adds", desc := "(III)I" } : Jvm.MethodName) prog_13_method_61_code (5 : Nat) (Option.some Jvm.ClassFile.FieldType.int)) ∈ lw_all := lw_g (lw_at lw_m8 129 rfl) rfl
theorem q1892 : (Jvm.Cond.instanceMethod ({ cls := "PedalLayersModel", name := "heard", desc := "(II)I" } : Jvm.MethodName)) ∈ lw_all := lw_g (lw_at lw_m8 131 rfl) rfl
theorem q1893 : (Jvm.Cond.selects "PedalLayersModel" ({ cls := "PedalLayersModel", name := "heard", desc := "(II)I" } : Jvm.MethodName) ({ cls := "PedalLayersModel", name := "heard", desc := "(II)I" } : Jvm.MethodName)) ∈ lw_all := lw_g (lw_at lw_m8 132 rfl) rfl
theorem q1894 : (Jvm.Cond.code ({ cls := "PedalLayersModel", name := "heard", desc := "(II)I" } : Jvm.MethodName) prog_13_method_67_code (3 : Nat) (Option.some Jvm.ClassFile.FieldType.int)) ∈ lw_all := lw_g (lw_at lw_m8 133 rfl) rfl
theorem q1895 : (Jvm.Cond.methodLink "PedalLayersModel" (193 : Nat) ({ cls := "PedalLayersModel", name := "sumIn", desc := "(II)I" } : Jvm.MethodName)) ∈ lw_all := lw_g (lw_at lw_m8 134 rfl) rfl
theorem q1896 : (Jvm.Cond.privateMethod ({ cls := "PedalLayersModel", name := "sumIn", desc := "(II)I" } : Jvm.MethodName)) ∈ lw_tbl := lw_at lw_m8 135 rfl
theorem q1897 : (Jvm.Cond.instanceMethod ({ cls := "PedalLayersModel", name := "sumIn", desc := "(II)I" } : Jvm.MethodName)) ∈ lw_all := lw_g (lw_at lw_m8 136 rfl) rfl
theorem q1898 : (Jvm.Cond.code ({ cls := "PedalLayersModel", name := "sumIn", desc := "(II)I" } : Jvm.MethodName) prog_13_method_63_code (5 : Nat) (Option.some Jvm.ClassFile.FieldType.int)) ∈ lw_all := lw_g (lw_at lw_m8 137 rfl) rfl
theorem q1899 : (Jvm.Cond.methodLink "PedalLayersModel" (196 : Nat) ({ cls := "PedalLayersModel", name := "keys", desc := "(II)I" } : Jvm.MethodName)) ∈ lw_all := lw_g (lw_at lw_m8 138 rfl) rfl
theorem q1900 : (Jvm.Cond.privateMethod ({ cls := "PedalLayersModel", name := "keys", desc := "(II)I" } : Jvm.MethodName)) ∈ lw_tbl := lw_at lw_m8 139 rfl
theorem q1901 : (Jvm.Cond.instanceMethod ({ cls := "PedalLayersModel", name := "keys", desc := "(II)I" } : Jvm.MethodName)) ∈ lw_all := lw_g (lw_at lw_m8 140 rfl) rfl
theorem q1902 : (Jvm.Cond.code ({ cls := "PedalLayersModel", name := "keys", desc := "(II)I" } : Jvm.MethodName) prog_13_method_66_code (9 : Nat) (Option.some Jvm.ClassFile.FieldType.int)) ∈ lw_all := lw_g (lw_at lw_m8 141 rfl) rfl
theorem q1904 : (Jvm.Cond.instanceMethod ({ cls := "PedalLayersModel", name := "loudest", desc := "()I" } : Jvm.MethodName)) ∈ lw_all := lw_g (lw_at lw_m8 143 rfl) rfl
theorem q1905 : (Jvm.Cond.selects "PedalLayersModel" ({ cls := "PedalLayersModel", name := "loudest", desc := "()I" } : Jvm.MethodName) ({ cls := "PedalLayersModel", name := "loudest", desc := "()I" } : Jvm.MethodName)) ∈ lw_all := lw_g (lw_at lw_m8 144 rfl) rfl
theorem q1906 : (Jvm.Cond.code ({ cls := "PedalLayersModel", name := "loudest", desc := "()I" } : Jvm.MethodName) prog_13_method_68_code (5 : Nat) (Option.some Jvm.ClassFile.FieldType.int)) ∈ lw_all := lw_g (lw_at lw_m8 145 rfl) rfl
theorem q1908 : (Jvm.Cond.instanceMethod ({ cls := "PedalLayersModel", name := "buried", desc := "()I" } : Jvm.MethodName)) ∈ lw_all := lw_g (lw_at lw_m8 147 rfl) rfl
theorem q1909 : (Jvm.Cond.selects "PedalLayersModel" ({ cls := "PedalLayersModel", name := "buried", desc := "()I" } : Jvm.MethodName) ({ cls := "PedalLayersModel", name := "buried", desc := "()I" } : Jvm.MethodName)) ∈ lw_all := lw_g (lw_at lw_m8 148 rfl) rfl
theorem q1910 : (Jvm.Cond.code ({ cls := "PedalLayersModel", name := "buried", desc := "()I" } : Jvm.MethodName) prog_13_method_70_code (5 : Nat) (Option.some Jvm.ClassFile.FieldType.int)) ∈ lw_all := lw_g (lw_at lw_m8 149 rfl) rfl
theorem q1911 : (Jvm.Cond.methodLink "PedalLayersModel" (199 : Nat) ({ cls := "PedalLayersModel", name := "buriedOf", desc := "(I)I" } : Jvm.MethodName)) ∈ lw_all := lw_g (lw_at lw_m8 150 rfl) rfl
theorem q1912 : (Jvm.Cond.privateMethod ({ cls := "PedalLayersModel", name := "buriedOf", desc := "(I)I" } : Jvm.MethodName)) ∈ lw_tbl := lw_at lw_m8 151 rfl
theorem q1913 : (Jvm.Cond.instanceMethod ({ cls := "PedalLayersModel", name := "buriedOf", desc := "(I)I" } : Jvm.MethodName)) ∈ lw_all := lw_g (lw_at lw_m8 152 rfl) rfl
theorem q1914 : (Jvm.Cond.code ({ cls := "PedalLayersModel", name := "buriedOf", desc := "(I)I" } : Jvm.MethodName) prog_13_method_69_code (5 : Nat) (Option.some Jvm.ClassFile.FieldType.int)) ∈ lw_all := lw_g (lw_at lw_m8 153 rfl) rfl
theorem q1916 : (Jvm.Cond.instanceMethod ({ cls := "PedalLayersModel", name := "tunes", desc := "()I" } : Jvm.MethodName)) ∈ lw_all := lw_g (lw_at lw_m8 155 rfl) rfl
theorem q1917 : (Jvm.Cond.selects "PedalLayersModel" ({ cls := "PedalLayersModel", name := "tunes", desc := "()I" } : Jvm.MethodName) ({ cls := "PedalLayersModel", name := "tunes", desc := "()I" } : Jvm.MethodName)) ∈ lw_all := lw_g (lw_at lw_m8 156 rfl) rfl
theorem q1918 : (Jvm.Cond.code ({ cls := "PedalLayersModel", name := "tunes", desc := "()I" } : Jvm.MethodName) prog_13_method_72_code (3 : Nat) (Option.some Jvm.ClassFile.FieldType.int)) ∈ lw_all := lw_g (lw_at lw_m8 157 rfl) rfl
theorem q1919 : (Jvm.Cond.methodLink "PedalLayersModel" (202 : Nat) ({ cls := "PedalLayersModel", name := "comesAt", desc := "(I)Z" } : Jvm.MethodName)) ∈ lw_all := lw_g (lw_at lw_m8 158 rfl) rfl
theorem q1920 : (Jvm.Cond.privateMethod ({ cls := "PedalLayersModel", name := "comesAt", desc := "(I)Z" } : Jvm.MethodName)) ∈ lw_tbl := lw_at lw_m8 159 rfl
theorem q1921 : (Jvm.Cond.instanceMethod ({ cls := "PedalLayersModel", name := "comesAt", desc := "(I)Z" } : Jvm.MethodName)) ∈ lw_all := lw_g (lw_at lw_m8 160 rfl) rfl
theorem q1922 : (Jvm.Cond.code ({ cls := "PedalLayersModel", name := "comesAt", desc := "(I)Z" } : Jvm.MethodName) prog_13_method_71_code (5 : Nat) (Option.some Jvm.ClassFile.FieldType.boolean)) ∈ lw_all := lw_g (lw_at lw_m8 161 rfl) rfl
theorem q1924 : (Jvm.Cond.instanceMethod ({ cls := "PedalLayersModel", name := "count", desc := "(I)I" } : Jvm.MethodName)) ∈ lw_all := lw_g (lw_at lw_m8 163 rfl) rfl
theorem q1925 : (Jvm.Cond.selects "PedalLayersModel" ({ cls := "PedalLayersModel", name := "count", desc := "(I)I" } : Jvm.MethodName) ({ cls := "PedalLayersModel", name := "count", desc := "(I)I" } : Jvm.MethodName)) ∈ lw_all := lw_g (lw_at lw_m8 164 rfl) rfl
theorem q1926 : (Jvm.Cond.code ({ cls := "PedalLayersModel", name := "count", desc := "(I)I" } : Jvm.MethodName) prog_13_method_73_code (2 : Nat) (Option.some Jvm.ClassFile.FieldType.int)) ∈ lw_all := lw_g (lw_at lw_m8 165 rfl) rfl
theorem q1928 : (Jvm.Cond.instanceMethod ({ cls := "PedalLayersModel", name := "loudness", desc := "()D" } : Jvm.MethodName)) ∈ lw_all := lw_g (lw_at lw_m8 167 rfl) rfl
theorem q1929 : (Jvm.Cond.selects "PedalLayersModel" ({ cls := "PedalLayersModel", name := "loudness", desc := "()D" } : Jvm.MethodName) ({ cls := "PedalLayersModel", name := "loudness", desc := "()D" } : Jvm.MethodName)) ∈ lw_all := lw_g (lw_at lw_m8 168 rfl) rfl
theorem q1930 : (Jvm.Cond.code ({ cls := "PedalLayersModel", name := "loudness", desc := "()D" } : Jvm.MethodName) prog_13_method_75_code (1 : Nat) (Option.some Jvm.ClassFile.FieldType.double)) ∈ lw_all := lw_g (lw_at lw_m8 169 rfl) rfl
theorem q1931 : (Jvm.Cond.methodLink "PedalLayersModel" (205 : Nat) ({ cls := "PedalLayersModel", name := "sumOf", desc := "(I)I" } : Jvm.MethodName)) ∈ lw_all := lw_g (lw_at lw_m8 170 rfl) rfl
theorem q1932 : (Jvm.Cond.privateMethod ({ cls := "PedalLayersModel", name := "sumOf", desc := "(I)I" } : Jvm.MethodName)) ∈ lw_tbl := lw_at lw_m8 171 rfl
theorem q1933 : (Jvm.Cond.instanceMethod ({ cls := "PedalLayersModel", name := "sumOf", desc := "(I)I" } : Jvm.MethodName)) ∈ lw_all := lw_g (lw_at lw_m8 172 rfl) rfl
theorem q1934 : (Jvm.Cond.code ({ cls := "PedalLayersModel", name := "sumOf", desc := "(I)I" } : Jvm.MethodName) prog_13_method_74_code (4 : Nat) (Option.some Jvm.ClassFile.FieldType.int)) ∈ lw_all := lw_g (lw_at lw_m8 173 rfl) rfl
theorem q1936 : (Jvm.Cond.instanceMethod ({ cls := "PedalLayersModel", name := "barIn", desc := "()I" } : Jvm.MethodName)) ∈ lw_all := lw_g (lw_at lw_m8 175 rfl) rfl
theorem q1937 : (Jvm.Cond.selects "PedalLayersModel" ({ cls := "PedalLayersModel", name := "barIn", desc := "()I" } : Jvm.MethodName) ({ cls := "PedalLayersModel", name := "barIn", desc := "()I" } : Jvm.MethodName)) ∈ lw_all := lw_g (lw_at lw_m8 176 rfl) rfl
theorem q1938 : (Jvm.Cond.code ({ cls := "PedalLayersModel", name := "barIn", desc := "()I" } : Jvm.MethodName) prog_13_method_76_code (3 : Nat) (Option.some Jvm.ClassFile.FieldType.int)) ∈ lw_all := lw_g (lw_at lw_m8 177 rfl) rfl
theorem q1940 : (Jvm.Cond.instanceMethod ({ cls := "PedalLayersModel", name := "drift", desc := "(I)I" } : Jvm.MethodName)) ∈ lw_all := lw_g (lw_at lw_m8 179 rfl) rfl
theorem q1941 : (Jvm.Cond.selects "PedalLayersModel" ({ cls := "PedalLayersModel", name := "drift", desc := "(I)I" } : Jvm.MethodName) ({ cls := "PedalLayersModel", name := "drift", desc := "(I)I" } : Jvm.MethodName)) ∈ lw_all := lw_g (lw_at lw_m8 180 rfl) rfl
theorem q1942 : (Jvm.Cond.code ({ cls := "PedalLayersModel", name := "drift", desc := "(I)I" } : Jvm.MethodName) prog_13_method_77_code (3 : Nat) (Option.some Jvm.ClassFile.FieldType.int)) ∈ lw_all := lw_g (lw_at lw_m8 181 rfl) rfl
theorem q1944 : (Jvm.Cond.instanceMethod ({ cls := "PedalLayersModel", name := "meets", desc := "()I" } : Jvm.MethodName)) ∈ lw_all := lw_g (lw_at lw_m8 183 rfl) rfl
theorem q1945 : (Jvm.Cond.selects "PedalLayersModel" ({ cls := "PedalLayersModel", name := "meets", desc := "()I" } : Jvm.MethodName) ({ cls := "PedalLayersModel", name := "meets", desc := "()I" } : Jvm.MethodName)) ∈ lw_all := lw_g (lw_at lw_m8 184 rfl) rfl
theorem q1946 : (Jvm.Cond.code ({ cls := "PedalLayersModel", name := "meets", desc := "()I" } : Jvm.MethodName) prog_13_method_78_code (2 : Nat) (Option.some Jvm.ClassFile.FieldType.int)) ∈ lw_all := lw_g (lw_at lw_m8 185 rfl) rfl
theorem q1948 : (Jvm.Cond.instanceMethod ({ cls := "PedalLayersModel", name := "rounded", desc := "(I)I" } : Jvm.MethodName)) ∈ lw_all := lw_g (lw_at lw_m8 187 rfl) rfl
theorem q1949 : (Jvm.Cond.selects "PedalLayersModel" ({ cls := "PedalLayersModel", name := "rounded", desc := "(I)I" } : Jvm.MethodName) ({ cls := "PedalLayersModel", name := "rounded", desc := "(I)I" } : Jvm.MethodName)) ∈ lw_all := lw_g (lw_at lw_m8 188 rfl) rfl
theorem q1950 : (Jvm.Cond.code ({ cls := "PedalLayersModel", name := "rounded", desc := "(I)I" } : Jvm.MethodName) prog_13_method_79_code (2 : Nat) (Option.some Jvm.ClassFile.FieldType.int)) ∈ lw_all := lw_g (lw_at lw_m8 189 rfl) rfl
theorem q1952 : (Jvm.Cond.instanceMethod ({ cls := "PedalLayersModel", name := "silentIn", desc := "()I" } : Jvm.MethodName)) ∈ lw_all := lw_g (lw_at lw_m8 191 rfl) rfl
theorem q1953 : (Jvm.Cond.selects "PedalLayersModel" ({ cls := "PedalLayersModel", name := "silentIn", desc := "()I" } : Jvm.MethodName) ({ cls := "PedalLayersModel", name := "silentIn", desc := "()I" } : Jvm.MethodName)) ∈ lw_all := lw_g (lw_at lw_m8 192 rfl) rfl
theorem q1954 : (Jvm.Cond.code ({ cls := "PedalLayersModel", name := "silentIn", desc := "()I" } : Jvm.MethodName) prog_13_method_81_code (3 : Nat) (Option.some Jvm.ClassFile.FieldType.int)) ∈ lw_all := lw_g (lw_at lw_m8 193 rfl) rfl
theorem q1955 : (Jvm.Cond.methodLink "PedalLayersModel" (208 : Nat) ({ cls := "PedalLayersModel", name := "greatest", desc := "()I" } : Jvm.MethodName)) ∈ lw_all := lw_g (lw_at lw_m8 194 rfl) rfl
theorem q1956 : (Jvm.Cond.privateMethod ({ cls := "PedalLayersModel", name := "greatest", desc := "()I" } : Jvm.MethodName)) ∈ lw_tbl := lw_at lw_m8 195 rfl
theorem q1957 : (Jvm.Cond.instanceMethod ({ cls := "PedalLayersModel", name := "greatest", desc := "()I" } : Jvm.MethodName)) ∈ lw_all := lw_g (lw_at lw_m8 196 rfl) rfl
theorem q1958 : (Jvm.Cond.code ({ cls := "PedalLayersModel", name := "greatest", desc := "()I" } : Jvm.MethodName) prog_13_method_80_code (5 : Nat) (Option.some Jvm.ClassFile.FieldType.int)) ∈ lw_all := lw_g (lw_at lw_m8 197 rfl) rfl
theorem q1960 : (Jvm.Cond.instanceMethod ({ cls := "PedalLayersModel", name := "ifPeeled", desc := "(II)I" } : Jvm.MethodName)) ∈ lw_all := lw_g (lw_at lw_m8 199 rfl) rfl
theorem q1961 : (Jvm.Cond.selects "PedalLayersModel" ({ cls := "PedalLayersModel", name := "ifPeeled", desc := "(II)I" } : Jvm.MethodName) ({ cls := "PedalLayersModel", name := "ifPeeled", desc := "(II)I" } : Jvm.MethodName)) ∈ lw_all := lw_g (lw_at lw_m8 200 rfl) rfl
theorem q1962 : (Jvm.Cond.code ({ cls := "PedalLayersModel", name := "ifPeeled", desc := "(II)I" } : Jvm.MethodName) prog_13_method_82_code (5 : Nat) (Option.some Jvm.ClassFile.FieldType.int)) ∈ lw_all := lw_g (lw_at lw_m8 201 rfl) rfl
theorem q1964 : (Jvm.Cond.instanceMethod ({ cls := "PedalLayersModel", name := "undo", desc := "()I" } : Jvm.MethodName)) ∈ lw_all := lw_g (lw_at lw_m8 203 rfl) rfl
theorem q1965 : (Jvm.Cond.selects "PedalLayersModel" ({ cls := "PedalLayersModel", name := "undo", desc := "()I" } : Jvm.MethodName) ({ cls := "PedalLayersModel", name := "undo", desc := "()I" } : Jvm.MethodName)) ∈ lw_all := lw_g (lw_at lw_m8 204 rfl) rfl
theorem q1966 : (Jvm.Cond.code ({ cls := "PedalLayersModel", name := "undo", desc := "()I" } : Jvm.MethodName) prog_13_method_83_code (2 : Nat) (Option.some Jvm.ClassFile.FieldType.int)) ∈ lw_all := lw_g (lw_at lw_m8 205 rfl) rfl
theorem q1968 : (Jvm.Cond.instanceMethod ({ cls := "PedalLayersModel", name := "save", desc := "()I" } : Jvm.MethodName)) ∈ lw_all := lw_g (lw_at lw_m8 207 rfl) rfl
theorem q1969 : (Jvm.Cond.selects "PedalLayersModel" ({ cls := "PedalLayersModel", name := "save", desc := "()I" } : Jvm.MethodName) ({ cls := "PedalLayersModel", name := "save", desc := "()I" } : Jvm.MethodName)) ∈ lw_all := lw_g (lw_at lw_m8 208 rfl) rfl
theorem q1970 : (Jvm.Cond.code ({ cls := "PedalLayersModel", name := "save", desc := "()I" } : Jvm.MethodName) prog_13_method_84_code (2 : Nat) (Option.some Jvm.ClassFile.FieldType.int)) ∈ lw_all := lw_g (lw_at lw_m8 209 rfl) rfl
theorem q1972 : (Jvm.Cond.instanceMethod ({ cls := "PedalLayersModel", name := "restore", desc := "()I" } : Jvm.MethodName)) ∈ lw_all := lw_g (lw_at lw_m8 211 rfl) rfl
theorem q1973 : (Jvm.Cond.selects "PedalLayersModel" ({ cls := "PedalLayersModel", name := "restore", desc := "()I" } : Jvm.MethodName) ({ cls := "PedalLayersModel", name := "restore", desc := "()I" } : Jvm.MethodName)) ∈ lw_all := lw_g (lw_at lw_m8 212 rfl) rfl
theorem q1974 : (Jvm.Cond.code ({ cls := "PedalLayersModel", name := "restore", desc := "()I" } : Jvm.MethodName) prog_13_method_85_code (2 : Nat) (Option.some Jvm.ClassFile.FieldType.int)) ∈ lw_all := lw_g (lw_at lw_m8 213 rfl) rfl
theorem q2003 : (Jvm.Cond.castable "PedalLayersModel" "java/lang/Object") ∈ lw_tbl := lw_at lw_m9 2 rfl
theorem in_X2 : ∀ w ∈ wsX20, w ∈ lw_all := lw_in wsX20 [1619, 1621, 1623, 1625, 1627, 1629, 1631, 1633, 1635] (by decide +kernel) (by decide +kernel)
