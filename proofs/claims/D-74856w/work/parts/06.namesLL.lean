/-! LeaderLeases -/
set_option maxRecDepth 100000
def RX1 : String := "LeaderLeases"
def TX1 : u_T := fun k => match k with
  | 0 => ("LeaderLeases", "buffer", "[B", true)
  | 1 => ("LeaderLeases", "length", "I", false)
  | 2 => ("LeaderLeases", "loadError", "I", false)
  | 3 => ("LeaderLeases", "simulation", "LLeaderLeases$Simulation;", false)
  | _ => ("LeaderLeases", "saved", "[LLeaderLeases$Simulation;", true)
def tyX1 : Nat → FieldType := fun k => match k with
  | 0 => .array .byte
  | 1 => .int
  | 2 => .int
  | 3 => .object "LeaderLeases$Simulation"
  | _ => .array (.object "LeaderLeases$Simulation")
abbrev wsX10 : List Cond := u_ws RX1 TX1 5
theorem nmX1 : ∀ a, a < 5 → ∀ b, b < 5 → a ≠ b → (TX1 a).2.1 ≠ (TX1 b).2.1 := by decide +kernel
theorem tyX1_ok : ∀ k, k < 5 → parseFieldDescriptor (TX1 k).2.2.1 = some (tyX1 k) := by decide +kernel
abbrev cX1_init : ByteArray := prog_1_method_3_code
def yX1_init : MethodName := ⟨RX1, "<init>", "()V"⟩
def dkwX1_init_1 : List UInt8 := [181, 0, 49, 42, 5, 189, 0, 40, 181, 0, 53, 177]
abbrev dktX1_init_1 : List UInt8 := dkwX1_init_1 ++ []
def dkwX1_init_0 : List UInt8 := [42, 183, 0, 31, 42, 17, 1, 144, 188, 8, 181, 0, 36, 42, 187, 0, 40, 89, 184, 0, 42, 183, 0, 46]
abbrev dktX1_init_0 : List UInt8 := dkwX1_init_0 ++ dktX1_init_1
theorem dksX1_init_0 : cX1_init.data.toList.drop 0 = dktX1_init_0 := by decide +kernel
theorem dksX1_init_1 : cX1_init.data.toList.drop 24 = dktX1_init_1 := dk_seg dksX1_init_0 24 rfl rfl
theorem dX1_init_0 : decode cX1_init 0 = .ok (.aload_n 0, 1) := dk_42 (dk_at dksX1_init_0 0 rfl rfl)
theorem dX1_init_1 : decode cX1_init 1 = .ok (.invokespecial 31, 3) := dk_183 0 31 (dk_at dksX1_init_0 1 rfl rfl)
theorem dX1_init_4 : decode cX1_init 4 = .ok (.aload_n 0, 1) := dk_42 (dk_at dksX1_init_0 4 rfl rfl)
theorem dX1_init_5 : decode cX1_init 5 = .ok (.sipush 400, 3) := dk_17 1 144 (dk_at dksX1_init_0 5 rfl rfl)
theorem dX1_init_8 : decode cX1_init 8 = .ok (.newarray .byte, 2) := dk_188_8 (dk_at dksX1_init_0 8 rfl rfl)
theorem dX1_init_10 : decode cX1_init 10 = .ok (.putfield 36, 3) := dk_181 0 36 (dk_at dksX1_init_0 10 rfl rfl)
theorem dX1_init_13 : decode cX1_init 13 = .ok (.aload_n 0, 1) := dk_42 (dk_at dksX1_init_0 13 rfl rfl)
theorem dX1_init_14 : decode cX1_init 14 = .ok (.new 40, 3) := dk_187 0 40 (dk_at dksX1_init_0 14 rfl rfl)
theorem dX1_init_17 : decode cX1_init 17 = .ok (.dup, 1) := dk_89 (dk_at dksX1_init_0 17 rfl rfl)
theorem dX1_init_18 : decode cX1_init 18 = .ok (.invokestatic 42, 3) := dk_184 0 42 (dk_at dksX1_init_0 18 rfl rfl)
theorem dX1_init_21 : decode cX1_init 21 = .ok (.invokespecial 46, 3) := dk_183 0 46 (dk_at dksX1_init_0 21 rfl rfl)
theorem dX1_init_24 : decode cX1_init 24 = .ok (.putfield 49, 3) := dk_181 0 49 (dk_at dksX1_init_1 0 rfl rfl)
theorem dX1_init_27 : decode cX1_init 27 = .ok (.aload_n 0, 1) := dk_42 (dk_at dksX1_init_1 3 rfl rfl)
theorem dX1_init_28 : decode cX1_init 28 = .ok (.iconst 2, 1) := dk_5 (dk_at dksX1_init_1 4 rfl rfl)
theorem dX1_init_29 : decode cX1_init 29 = .ok (.anewarray 40, 3) := dk_189 0 40 (dk_at dksX1_init_1 5 rfl rfl)
theorem dX1_init_32 : decode cX1_init 32 = .ok (.putfield 53, 3) := dk_181 0 53 (dk_at dksX1_init_1 8 rfl rfl)
theorem dX1_init_35 : decode cX1_init 35 = .ok (.return_, 1) := dk_177 (dk_at dksX1_init_1 11 rfl rfl)
abbrev cX1_plain : ByteArray := prog_1_method_2_code
def yX1_plain : MethodName := ⟨RX1, "plain", "()LLeaderLeases$Configuration;"⟩
def dkwX1_plain_1 : List UInt8 := [185, 0, 16, 2, 0, 87, 42, 180, 0, 22, 16, 10, 184, 0, 25, 185, 0, 16, 2, 0, 87, 42, 176]
abbrev dktX1_plain_1 : List UInt8 := dkwX1_plain_1 ++ []
def dkwX1_plain_0 : List UInt8 := [187, 0, 1, 89, 183, 0, 3, 75, 42, 180, 0, 7, 187, 0, 11, 89, 17, 3, 232, 3, 183, 0, 13]
abbrev dktX1_plain_0 : List UInt8 := dkwX1_plain_0 ++ dktX1_plain_1
theorem dksX1_plain_0 : cX1_plain.data.toList.drop 0 = dktX1_plain_0 := by decide +kernel
theorem dksX1_plain_1 : cX1_plain.data.toList.drop 23 = dktX1_plain_1 := dk_seg dksX1_plain_0 23 rfl rfl
theorem dX1_plain_0 : decode cX1_plain 0 = .ok (.new 1, 3) := dk_187 0 1 (dk_at dksX1_plain_0 0 rfl rfl)
theorem dX1_plain_3 : decode cX1_plain 3 = .ok (.dup, 1) := dk_89 (dk_at dksX1_plain_0 3 rfl rfl)
theorem dX1_plain_4 : decode cX1_plain 4 = .ok (.invokespecial 3, 3) := dk_183 0 3 (dk_at dksX1_plain_0 4 rfl rfl)
theorem dX1_plain_7 : decode cX1_plain 7 = .ok (.astore_n 0, 1) := dk_75 (dk_at dksX1_plain_0 7 rfl rfl)
theorem dX1_plain_8 : decode cX1_plain 8 = .ok (.aload_n 0, 1) := dk_42 (dk_at dksX1_plain_0 8 rfl rfl)
theorem dX1_plain_9 : decode cX1_plain 9 = .ok (.getfield 7, 3) := dk_180 0 7 (dk_at dksX1_plain_0 9 rfl rfl)
theorem dX1_plain_12 : decode cX1_plain 12 = .ok (.new 11, 3) := dk_187 0 11 (dk_at dksX1_plain_0 12 rfl rfl)
theorem dX1_plain_15 : decode cX1_plain 15 = .ok (.dup, 1) := dk_89 (dk_at dksX1_plain_0 15 rfl rfl)
theorem dX1_plain_16 : decode cX1_plain 16 = .ok (.sipush 1000, 3) := dk_17 3 232 (dk_at dksX1_plain_0 16 rfl rfl)
theorem dX1_plain_19 : decode cX1_plain 19 = .ok (.iconst 0, 1) := dk_3 (dk_at dksX1_plain_0 19 rfl rfl)
theorem dX1_plain_20 : decode cX1_plain 20 = .ok (.invokespecial 13, 3) := dk_183 0 13 (dk_at dksX1_plain_0 20 rfl rfl)
theorem dX1_plain_23 : decode cX1_plain 23 = .ok (.invokeinterface 16 2, 5) := by decide +kernel
theorem dX1_plain_28 : decode cX1_plain 28 = .ok (.pop, 1) := dk_87 (dk_at dksX1_plain_1 5 rfl rfl)
theorem dX1_plain_29 : decode cX1_plain 29 = .ok (.aload_n 0, 1) := dk_42 (dk_at dksX1_plain_1 6 rfl rfl)
theorem dX1_plain_30 : decode cX1_plain 30 = .ok (.getfield 22, 3) := dk_180 0 22 (dk_at dksX1_plain_1 7 rfl rfl)
theorem dX1_plain_33 : decode cX1_plain 33 = .ok (.bipush 10, 2) := dk_16 10 (dk_at dksX1_plain_1 10 rfl rfl)
theorem dX1_plain_35 : decode cX1_plain 35 = .ok (.invokestatic 25, 3) := dk_184 0 25 (dk_at dksX1_plain_1 12 rfl rfl)
theorem dX1_plain_38 : decode cX1_plain 38 = .ok (.invokeinterface 16 2, 5) := by decide +kernel
theorem dX1_plain_43 : decode cX1_plain 43 = .ok (.pop, 1) := dk_87 (dk_at dksX1_plain_1 20 rfl rfl)
theorem dX1_plain_44 : decode cX1_plain 44 = .ok (.aload_n 0, 1) := dk_42 (dk_at dksX1_plain_1 21 rfl rfl)
theorem dX1_plain_45 : decode cX1_plain 45 = .ok (.areturn, 1) := dk_176 (dk_at dksX1_plain_1 22 rfl rfl)
abbrev cX1_load : ByteArray := prog_1_method_8_code
def yX1_load : MethodName := ⟨RX1, "load", "()I"⟩
def dkwX1_load_3 : List UInt8 := [181, 0, 79, 45, 191]
abbrev dktX1_load_3 : List UInt8 := dkwX1_load_3 ++ []
def dkwX1_load_2 : List UInt8 := [182, 0, 96, 181, 0, 91, 16, 156, 43, 182, 0, 100, 100, 61, 42, 3, 181, 0, 79, 28, 172, 78, 42, 3]
abbrev dktX1_load_2 : List UInt8 := dkwX1_load_2 ++ dktX1_load_3
def dkwX1_load_1 : List UInt8 := [181, 0, 91, 42, 180, 0, 49, 180, 0, 60, 190, 60, 42, 3, 181, 0, 79, 27, 172, 76, 42, 43]
abbrev dktX1_load_1 : List UInt8 := dkwX1_load_1 ++ dktX1_load_2
def dkwX1_load_0 : List UInt8 := [42, 187, 0, 40, 89, 187, 0, 83, 89, 42, 183, 0, 85, 182, 0, 88, 183, 0, 46, 181, 0, 49, 42, 3]
abbrev dktX1_load_0 : List UInt8 := dkwX1_load_0 ++ dktX1_load_1
theorem dksX1_load_0 : cX1_load.data.toList.drop 0 = dktX1_load_0 := by decide +kernel
theorem dksX1_load_1 : cX1_load.data.toList.drop 24 = dktX1_load_1 := dk_seg dksX1_load_0 24 rfl rfl
theorem dksX1_load_2 : cX1_load.data.toList.drop 46 = dktX1_load_2 := dk_seg dksX1_load_1 22 rfl rfl
theorem dksX1_load_3 : cX1_load.data.toList.drop 70 = dktX1_load_3 := dk_seg dksX1_load_2 24 rfl rfl
theorem dX1_load_0 : decode cX1_load 0 = .ok (.aload_n 0, 1) := dk_42 (dk_at dksX1_load_0 0 rfl rfl)
theorem dX1_load_1 : decode cX1_load 1 = .ok (.new 40, 3) := dk_187 0 40 (dk_at dksX1_load_0 1 rfl rfl)
theorem dX1_load_4 : decode cX1_load 4 = .ok (.dup, 1) := dk_89 (dk_at dksX1_load_0 4 rfl rfl)
theorem dX1_load_5 : decode cX1_load 5 = .ok (.new 83, 3) := dk_187 0 83 (dk_at dksX1_load_0 5 rfl rfl)
theorem dX1_load_8 : decode cX1_load 8 = .ok (.dup, 1) := dk_89 (dk_at dksX1_load_0 8 rfl rfl)
theorem dX1_load_9 : decode cX1_load 9 = .ok (.aload_n 0, 1) := dk_42 (dk_at dksX1_load_0 9 rfl rfl)
theorem dX1_load_10 : decode cX1_load 10 = .ok (.invokespecial 85, 3) := dk_183 0 85 (dk_at dksX1_load_0 10 rfl rfl)
theorem dX1_load_13 : decode cX1_load 13 = .ok (.invokevirtual 88, 3) := dk_182 0 88 (dk_at dksX1_load_0 13 rfl rfl)
theorem dX1_load_16 : decode cX1_load 16 = .ok (.invokespecial 46, 3) := dk_183 0 46 (dk_at dksX1_load_0 16 rfl rfl)
theorem dX1_load_19 : decode cX1_load 19 = .ok (.putfield 49, 3) := dk_181 0 49 (dk_at dksX1_load_0 19 rfl rfl)
theorem dX1_load_22 : decode cX1_load 22 = .ok (.aload_n 0, 1) := dk_42 (dk_at dksX1_load_0 22 rfl rfl)
theorem dX1_load_23 : decode cX1_load 23 = .ok (.iconst 0, 1) := dk_3 (dk_at dksX1_load_0 23 rfl rfl)
theorem dX1_load_24 : decode cX1_load 24 = .ok (.putfield 91, 3) := dk_181 0 91 (dk_at dksX1_load_1 0 rfl rfl)
theorem dX1_load_27 : decode cX1_load 27 = .ok (.aload_n 0, 1) := dk_42 (dk_at dksX1_load_1 3 rfl rfl)
theorem dX1_load_28 : decode cX1_load 28 = .ok (.getfield 49, 3) := dk_180 0 49 (dk_at dksX1_load_1 4 rfl rfl)
theorem dX1_load_31 : decode cX1_load 31 = .ok (.getfield 60, 3) := dk_180 0 60 (dk_at dksX1_load_1 7 rfl rfl)
theorem dX1_load_34 : decode cX1_load 34 = .ok (.arraylength, 1) := dk_190 (dk_at dksX1_load_1 10 rfl rfl)
theorem dX1_load_35 : decode cX1_load 35 = .ok (.istore_n 1, 1) := dk_60 (dk_at dksX1_load_1 11 rfl rfl)
theorem dX1_load_36 : decode cX1_load 36 = .ok (.aload_n 0, 1) := dk_42 (dk_at dksX1_load_1 12 rfl rfl)
theorem dX1_load_37 : decode cX1_load 37 = .ok (.iconst 0, 1) := dk_3 (dk_at dksX1_load_1 13 rfl rfl)
theorem dX1_load_38 : decode cX1_load 38 = .ok (.putfield 79, 3) := dk_181 0 79 (dk_at dksX1_load_1 14 rfl rfl)
theorem dX1_load_41 : decode cX1_load 41 = .ok (.iload_n 1, 1) := dk_27 (dk_at dksX1_load_1 17 rfl rfl)
theorem dX1_load_42 : decode cX1_load 42 = .ok (.ireturn, 1) := dk_172 (dk_at dksX1_load_1 18 rfl rfl)
theorem dX1_load_43 : decode cX1_load 43 = .ok (.astore_n 1, 1) := dk_76 (dk_at dksX1_load_1 19 rfl rfl)
theorem dX1_load_44 : decode cX1_load 44 = .ok (.aload_n 0, 1) := dk_42 (dk_at dksX1_load_1 20 rfl rfl)
theorem dX1_load_45 : decode cX1_load 45 = .ok (.aload_n 1, 1) := dk_43 (dk_at dksX1_load_1 21 rfl rfl)
theorem dX1_load_46 : decode cX1_load 46 = .ok (.invokevirtual 96, 3) := dk_182 0 96 (dk_at dksX1_load_2 0 rfl rfl)
theorem dX1_load_49 : decode cX1_load 49 = .ok (.putfield 91, 3) := dk_181 0 91 (dk_at dksX1_load_2 3 rfl rfl)
theorem dX1_load_52 : decode cX1_load 52 = .ok (.bipush (-100), 2) := dk_16 156 (dk_at dksX1_load_2 6 rfl rfl)
theorem dX1_load_54 : decode cX1_load 54 = .ok (.aload_n 1, 1) := dk_43 (dk_at dksX1_load_2 8 rfl rfl)
theorem dX1_load_55 : decode cX1_load 55 = .ok (.invokevirtual 100, 3) := dk_182 0 100 (dk_at dksX1_load_2 9 rfl rfl)
theorem dX1_load_58 : decode cX1_load 58 = .ok (.isub, 1) := dk_100 (dk_at dksX1_load_2 12 rfl rfl)
theorem dX1_load_59 : decode cX1_load 59 = .ok (.istore_n 2, 1) := dk_61 (dk_at dksX1_load_2 13 rfl rfl)
theorem dX1_load_60 : decode cX1_load 60 = .ok (.aload_n 0, 1) := dk_42 (dk_at dksX1_load_2 14 rfl rfl)
theorem dX1_load_61 : decode cX1_load 61 = .ok (.iconst 0, 1) := dk_3 (dk_at dksX1_load_2 15 rfl rfl)
theorem dX1_load_62 : decode cX1_load 62 = .ok (.putfield 79, 3) := dk_181 0 79 (dk_at dksX1_load_2 16 rfl rfl)
theorem dX1_load_65 : decode cX1_load 65 = .ok (.iload_n 2, 1) := dk_28 (dk_at dksX1_load_2 19 rfl rfl)
theorem dX1_load_66 : decode cX1_load 66 = .ok (.ireturn, 1) := dk_172 (dk_at dksX1_load_2 20 rfl rfl)
theorem dX1_load_67 : decode cX1_load 67 = .ok (.astore_n 3, 1) := dk_78 (dk_at dksX1_load_2 21 rfl rfl)
theorem dX1_load_68 : decode cX1_load 68 = .ok (.aload_n 0, 1) := dk_42 (dk_at dksX1_load_2 22 rfl rfl)
theorem dX1_load_69 : decode cX1_load 69 = .ok (.iconst 0, 1) := dk_3 (dk_at dksX1_load_2 23 rfl rfl)
theorem dX1_load_70 : decode cX1_load 70 = .ok (.putfield 79, 3) := dk_181 0 79 (dk_at dksX1_load_3 0 rfl rfl)
theorem dX1_load_73 : decode cX1_load 73 = .ok (.aload_n 3, 1) := dk_45 (dk_at dksX1_load_3 3 rfl rfl)
theorem dX1_load_74 : decode cX1_load 74 = .ok (.athrow, 1) := dk_191 (dk_at dksX1_load_3 4 rfl rfl)
abbrev cX1_in : ByteArray := prog_1_method_1_code
def yX1_in : MethodName := ⟨RX1, "in", "(JJJ)Z"⟩
def dkwX1_in_0 : List UInt8 := [30, 32, 148, 155, 0, 14, 30, 22, 4, 148, 157, 0, 7, 4, 167, 0, 4, 3, 172]
abbrev dktX1_in_0 : List UInt8 := dkwX1_in_0 ++ []
theorem dksX1_in_0 : cX1_in.data.toList.drop 0 = dktX1_in_0 := by decide +kernel
theorem dX1_in_0 : decode cX1_in 0 = .ok (.lload_n 0, 1) := dk_30 (dk_at dksX1_in_0 0 rfl rfl)
theorem dX1_in_1 : decode cX1_in 1 = .ok (.lload_n 2, 1) := dk_32 (dk_at dksX1_in_0 1 rfl rfl)
theorem dX1_in_2 : decode cX1_in 2 = .ok (.lcmp, 1) := dk_148 (dk_at dksX1_in_0 2 rfl rfl)
theorem dX1_in_3 : decode cX1_in 3 = .ok (.ifCond .lt 14, 3) := dk_155 0 14 (dk_at dksX1_in_0 3 rfl rfl)
theorem dX1_in_6 : decode cX1_in 6 = .ok (.lload_n 0, 1) := dk_30 (dk_at dksX1_in_0 6 rfl rfl)
theorem dX1_in_7 : decode cX1_in 7 = .ok (.lload 4, 2) := dk_22 4 (dk_at dksX1_in_0 7 rfl rfl)
theorem dX1_in_9 : decode cX1_in 9 = .ok (.lcmp, 1) := dk_148 (dk_at dksX1_in_0 9 rfl rfl)
theorem dX1_in_10 : decode cX1_in 10 = .ok (.ifCond .gt 7, 3) := dk_157 0 7 (dk_at dksX1_in_0 10 rfl rfl)
theorem dX1_in_13 : decode cX1_in 13 = .ok (.iconst 1, 1) := dk_4 (dk_at dksX1_in_0 13 rfl rfl)
theorem dX1_in_14 : decode cX1_in 14 = .ok (.goto 4, 3) := dk_167 0 4 (dk_at dksX1_in_0 14 rfl rfl)
theorem dX1_in_17 : decode cX1_in 17 = .ok (.iconst 0, 1) := dk_3 (dk_at dksX1_in_0 17 rfl rfl)
theorem dX1_in_18 : decode cX1_in 18 = .ok (.ireturn, 1) := dk_172 (dk_at dksX1_in_0 18 rfl rfl)
abbrev cX1_loadError : ByteArray := prog_1_method_9_code
def yX1_loadError : MethodName := ⟨RX1, "loadError", "()I"⟩
theorem dX1_loadError_0 : decode cX1_loadError 0 = .ok (.aload_n 0, 1) := by decide +kernel
theorem dX1_loadError_1 : decode cX1_loadError 1 = .ok (.getfield 91, 3) := by decide +kernel
theorem dX1_loadError_4 : decode cX1_loadError 4 = .ok (.ireturn, 1) := by decide +kernel
abbrev cX1_advanceToNextEvent : ByteArray := prog_1_method_11_code
def yX1_advanceToNextEvent : MethodName := ⟨RX1, "advanceToNextEvent", "()I"⟩
def dkwX1_advanceToNextEvent_1 : List UInt8 := [16, 251, 172, 42, 180, 0, 49, 27, 182, 0, 109, 42, 180, 0, 49, 180, 0, 105, 172]
abbrev dktX1_advanceToNextEvent_1 : List UInt8 := dkwX1_advanceToNextEvent_1 ++ []
def dkwX1_advanceToNextEvent_0 : List UInt8 := [42, 180, 0, 49, 182, 0, 113, 60, 27, 18, 116, 160, 0, 6, 16, 252, 172, 27, 18, 108, 164, 0, 6]
abbrev dktX1_advanceToNextEvent_0 : List UInt8 := dkwX1_advanceToNextEvent_0 ++ dktX1_advanceToNextEvent_1
theorem dksX1_advanceToNextEvent_0 : cX1_advanceToNextEvent.data.toList.drop 0 = dktX1_advanceToNextEvent_0 := by decide +kernel
theorem dksX1_advanceToNextEvent_1 : cX1_advanceToNextEvent.data.toList.drop 23 = dktX1_advanceToNextEvent_1 := dk_seg dksX1_advanceToNextEvent_0 23 rfl rfl
theorem dX1_advanceToNextEvent_0 : decode cX1_advanceToNextEvent 0 = .ok (.aload_n 0, 1) := dk_42 (dk_at dksX1_advanceToNextEvent_0 0 rfl rfl)
theorem dX1_advanceToNextEvent_1 : decode cX1_advanceToNextEvent 1 = .ok (.getfield 49, 3) := dk_180 0 49 (dk_at dksX1_advanceToNextEvent_0 1 rfl rfl)
theorem dX1_advanceToNextEvent_4 : decode cX1_advanceToNextEvent 4 = .ok (.invokevirtual 113, 3) := dk_182 0 113 (dk_at dksX1_advanceToNextEvent_0 4 rfl rfl)
theorem dX1_advanceToNextEvent_7 : decode cX1_advanceToNextEvent 7 = .ok (.istore_n 1, 1) := dk_60 (dk_at dksX1_advanceToNextEvent_0 7 rfl rfl)
theorem dX1_advanceToNextEvent_8 : decode cX1_advanceToNextEvent 8 = .ok (.iload_n 1, 1) := dk_27 (dk_at dksX1_advanceToNextEvent_0 8 rfl rfl)
theorem dX1_advanceToNextEvent_9 : decode cX1_advanceToNextEvent 9 = .ok (.ldc 116, 2) := dk_18 116 (dk_at dksX1_advanceToNextEvent_0 9 rfl rfl)
theorem dX1_advanceToNextEvent_11 : decode cX1_advanceToNextEvent 11 = .ok (.if_icmp .ne 6, 3) := dk_160 0 6 (dk_at dksX1_advanceToNextEvent_0 11 rfl rfl)
theorem dX1_advanceToNextEvent_14 : decode cX1_advanceToNextEvent 14 = .ok (.bipush (-4), 2) := dk_16 252 (dk_at dksX1_advanceToNextEvent_0 14 rfl rfl)
theorem dX1_advanceToNextEvent_16 : decode cX1_advanceToNextEvent 16 = .ok (.ireturn, 1) := dk_172 (dk_at dksX1_advanceToNextEvent_0 16 rfl rfl)
theorem dX1_advanceToNextEvent_17 : decode cX1_advanceToNextEvent 17 = .ok (.iload_n 1, 1) := dk_27 (dk_at dksX1_advanceToNextEvent_0 17 rfl rfl)
theorem dX1_advanceToNextEvent_18 : decode cX1_advanceToNextEvent 18 = .ok (.ldc 108, 2) := dk_18 108 (dk_at dksX1_advanceToNextEvent_0 18 rfl rfl)
theorem dX1_advanceToNextEvent_20 : decode cX1_advanceToNextEvent 20 = .ok (.if_icmp .le 6, 3) := dk_164 0 6 (dk_at dksX1_advanceToNextEvent_0 20 rfl rfl)
theorem dX1_advanceToNextEvent_23 : decode cX1_advanceToNextEvent 23 = .ok (.bipush (-5), 2) := dk_16 251 (dk_at dksX1_advanceToNextEvent_1 0 rfl rfl)
theorem dX1_advanceToNextEvent_25 : decode cX1_advanceToNextEvent 25 = .ok (.ireturn, 1) := dk_172 (dk_at dksX1_advanceToNextEvent_1 2 rfl rfl)
theorem dX1_advanceToNextEvent_26 : decode cX1_advanceToNextEvent 26 = .ok (.aload_n 0, 1) := dk_42 (dk_at dksX1_advanceToNextEvent_1 3 rfl rfl)
theorem dX1_advanceToNextEvent_27 : decode cX1_advanceToNextEvent 27 = .ok (.getfield 49, 3) := dk_180 0 49 (dk_at dksX1_advanceToNextEvent_1 4 rfl rfl)
theorem dX1_advanceToNextEvent_30 : decode cX1_advanceToNextEvent 30 = .ok (.iload_n 1, 1) := dk_27 (dk_at dksX1_advanceToNextEvent_1 7 rfl rfl)
theorem dX1_advanceToNextEvent_31 : decode cX1_advanceToNextEvent 31 = .ok (.invokevirtual 109, 3) := dk_182 0 109 (dk_at dksX1_advanceToNextEvent_1 8 rfl rfl)
theorem dX1_advanceToNextEvent_34 : decode cX1_advanceToNextEvent 34 = .ok (.aload_n 0, 1) := dk_42 (dk_at dksX1_advanceToNextEvent_1 11 rfl rfl)
theorem dX1_advanceToNextEvent_35 : decode cX1_advanceToNextEvent 35 = .ok (.getfield 49, 3) := dk_180 0 49 (dk_at dksX1_advanceToNextEvent_1 12 rfl rfl)
theorem dX1_advanceToNextEvent_38 : decode cX1_advanceToNextEvent 38 = .ok (.getfield 105, 3) := dk_180 0 105 (dk_at dksX1_advanceToNextEvent_1 15 rfl rfl)
theorem dX1_advanceToNextEvent_41 : decode cX1_advanceToNextEvent 41 = .ok (.ireturn, 1) := dk_172 (dk_at dksX1_advanceToNextEvent_1 18 rfl rfl)
abbrev cX1_now : ByteArray := prog_1_method_12_code
def yX1_now : MethodName := ⟨RX1, "now", "()I"⟩
def dkwX1_now_0 : List UInt8 := [42, 180, 0, 49, 180, 0, 105, 172]
abbrev dktX1_now_0 : List UInt8 := dkwX1_now_0 ++ []
theorem dksX1_now_0 : cX1_now.data.toList.drop 0 = dktX1_now_0 := by decide +kernel
theorem dX1_now_0 : decode cX1_now 0 = .ok (.aload_n 0, 1) := dk_42 (dk_at dksX1_now_0 0 rfl rfl)
theorem dX1_now_1 : decode cX1_now 1 = .ok (.getfield 49, 3) := dk_180 0 49 (dk_at dksX1_now_0 1 rfl rfl)
theorem dX1_now_4 : decode cX1_now 4 = .ok (.getfield 105, 3) := dk_180 0 105 (dk_at dksX1_now_0 4 rfl rfl)
theorem dX1_now_7 : decode cX1_now 7 = .ok (.ireturn, 1) := dk_172 (dk_at dksX1_now_0 7 rfl rfl)
abbrev cX1_nodeCount : ByteArray := prog_1_method_13_code
def yX1_nodeCount : MethodName := ⟨RX1, "nodeCount", "()I"⟩
def dkwX1_nodeCount_0 : List UInt8 := [42, 180, 0, 49, 180, 0, 60, 190, 172]
abbrev dktX1_nodeCount_0 : List UInt8 := dkwX1_nodeCount_0 ++ []
theorem dksX1_nodeCount_0 : cX1_nodeCount.data.toList.drop 0 = dktX1_nodeCount_0 := by decide +kernel
theorem dX1_nodeCount_0 : decode cX1_nodeCount 0 = .ok (.aload_n 0, 1) := dk_42 (dk_at dksX1_nodeCount_0 0 rfl rfl)
theorem dX1_nodeCount_1 : decode cX1_nodeCount 1 = .ok (.getfield 49, 3) := dk_180 0 49 (dk_at dksX1_nodeCount_0 1 rfl rfl)
theorem dX1_nodeCount_4 : decode cX1_nodeCount 4 = .ok (.getfield 60, 3) := dk_180 0 60 (dk_at dksX1_nodeCount_0 4 rfl rfl)
theorem dX1_nodeCount_7 : decode cX1_nodeCount 7 = .ok (.arraylength, 1) := dk_190 (dk_at dksX1_nodeCount_0 7 rfl rfl)
theorem dX1_nodeCount_8 : decode cX1_nodeCount 8 = .ok (.ireturn, 1) := dk_172 (dk_at dksX1_nodeCount_0 8 rfl rfl)
abbrev cX1_serverClock : ByteArray := prog_1_method_15_code
def yX1_serverClock : MethodName := ⟨RX1, "serverClock", "()I"⟩
def dkwX1_serverClock_0 : List UInt8 := [42, 180, 0, 49, 182, 0, 131, 172]
abbrev dktX1_serverClock_0 : List UInt8 := dkwX1_serverClock_0 ++ []
theorem dksX1_serverClock_0 : cX1_serverClock.data.toList.drop 0 = dktX1_serverClock_0 := by decide +kernel
theorem dX1_serverClock_0 : decode cX1_serverClock 0 = .ok (.aload_n 0, 1) := dk_42 (dk_at dksX1_serverClock_0 0 rfl rfl)
theorem dX1_serverClock_1 : decode cX1_serverClock 1 = .ok (.getfield 49, 3) := dk_180 0 49 (dk_at dksX1_serverClock_0 1 rfl rfl)
theorem dX1_serverClock_4 : decode cX1_serverClock 4 = .ok (.invokevirtual 131, 3) := dk_182 0 131 (dk_at dksX1_serverClock_0 4 rfl rfl)
theorem dX1_serverClock_7 : decode cX1_serverClock 7 = .ok (.ireturn, 1) := dk_172 (dk_at dksX1_serverClock_0 7 rfl rfl)
abbrev cX1_restartServer : ByteArray := prog_1_method_24_code
def yX1_restartServer : MethodName := ⟨RX1, "restartServer", "()I"⟩
def dkwX1_restartServer_0 : List UInt8 := [42, 180, 0, 49, 182, 0, 199, 172]
abbrev dktX1_restartServer_0 : List UInt8 := dkwX1_restartServer_0 ++ []
theorem dksX1_restartServer_0 : cX1_restartServer.data.toList.drop 0 = dktX1_restartServer_0 := by decide +kernel
theorem dX1_restartServer_0 : decode cX1_restartServer 0 = .ok (.aload_n 0, 1) := dk_42 (dk_at dksX1_restartServer_0 0 rfl rfl)
theorem dX1_restartServer_1 : decode cX1_restartServer 1 = .ok (.getfield 49, 3) := dk_180 0 49 (dk_at dksX1_restartServer_0 1 rfl rfl)
theorem dX1_restartServer_4 : decode cX1_restartServer 4 = .ok (.invokevirtual 199, 3) := dk_182 0 199 (dk_at dksX1_restartServer_0 4 rfl rfl)
theorem dX1_restartServer_7 : decode cX1_restartServer 7 = .ok (.ireturn, 1) := dk_172 (dk_at dksX1_restartServer_0 7 rfl rfl)
abbrev cX1_storageToken : ByteArray := prog_1_method_32_code
def yX1_storageToken : MethodName := ⟨RX1, "storageToken", "()I"⟩
def dkwX1_storageToken_0 : List UInt8 := [42, 180, 0, 49, 180, 0, 237, 180, 0, 252, 172]
abbrev dktX1_storageToken_0 : List UInt8 := dkwX1_storageToken_0 ++ []
theorem dksX1_storageToken_0 : cX1_storageToken.data.toList.drop 0 = dktX1_storageToken_0 := by decide +kernel
theorem dX1_storageToken_0 : decode cX1_storageToken 0 = .ok (.aload_n 0, 1) := dk_42 (dk_at dksX1_storageToken_0 0 rfl rfl)
theorem dX1_storageToken_1 : decode cX1_storageToken 1 = .ok (.getfield 49, 3) := dk_180 0 49 (dk_at dksX1_storageToken_0 1 rfl rfl)
theorem dX1_storageToken_4 : decode cX1_storageToken 4 = .ok (.getfield 237, 3) := dk_180 0 237 (dk_at dksX1_storageToken_0 4 rfl rfl)
theorem dX1_storageToken_7 : decode cX1_storageToken 7 = .ok (.getfield 252, 3) := dk_180 0 252 (dk_at dksX1_storageToken_0 7 rfl rfl)
theorem dX1_storageToken_10 : decode cX1_storageToken 10 = .ok (.ireturn, 1) := dk_172 (dk_at dksX1_storageToken_0 10 rfl rfl)
abbrev cX1_holder : ByteArray := prog_1_method_33_code
def yX1_holder : MethodName := ⟨RX1, "holder", "()I"⟩
def dkwX1_holder_0 : List UInt8 := [42, 180, 0, 49, 180, 0, 255, 172]
abbrev dktX1_holder_0 : List UInt8 := dkwX1_holder_0 ++ []
theorem dksX1_holder_0 : cX1_holder.data.toList.drop 0 = dktX1_holder_0 := by decide +kernel
theorem dX1_holder_0 : decode cX1_holder 0 = .ok (.aload_n 0, 1) := dk_42 (dk_at dksX1_holder_0 0 rfl rfl)
theorem dX1_holder_1 : decode cX1_holder 1 = .ok (.getfield 49, 3) := dk_180 0 49 (dk_at dksX1_holder_0 1 rfl rfl)
theorem dX1_holder_4 : decode cX1_holder 4 = .ok (.getfield 255, 3) := dk_180 0 255 (dk_at dksX1_holder_0 4 rfl rfl)
theorem dX1_holder_7 : decode cX1_holder 7 = .ok (.ireturn, 1) := dk_172 (dk_at dksX1_holder_0 7 rfl rfl)
abbrev cX1_greatestToken : ByteArray := prog_1_method_34_code
def yX1_greatestToken : MethodName := ⟨RX1, "greatestToken", "()I"⟩
def dkwX1_greatestToken_0 : List UInt8 := [42, 180, 0, 49, 180, 1, 2, 172]
abbrev dktX1_greatestToken_0 : List UInt8 := dkwX1_greatestToken_0 ++ []
theorem dksX1_greatestToken_0 : cX1_greatestToken.data.toList.drop 0 = dktX1_greatestToken_0 := by decide +kernel
theorem dX1_greatestToken_0 : decode cX1_greatestToken 0 = .ok (.aload_n 0, 1) := dk_42 (dk_at dksX1_greatestToken_0 0 rfl rfl)
theorem dX1_greatestToken_1 : decode cX1_greatestToken 1 = .ok (.getfield 49, 3) := dk_180 0 49 (dk_at dksX1_greatestToken_0 1 rfl rfl)
theorem dX1_greatestToken_4 : decode cX1_greatestToken 4 = .ok (.getfield 258, 3) := dk_180 1 2 (dk_at dksX1_greatestToken_0 4 rfl rfl)
theorem dX1_greatestToken_7 : decode cX1_greatestToken 7 = .ok (.ireturn, 1) := dk_172 (dk_at dksX1_greatestToken_0 7 rfl rfl)
abbrev cX1_serverExpiryTime : ByteArray := prog_1_method_35_code
def yX1_serverExpiryTime : MethodName := ⟨RX1, "serverExpiryTime", "()I"⟩
def dkwX1_serverExpiryTime_1 : List UInt8 := [180, 1, 7, 42, 180, 0, 49, 180, 1, 10, 182, 1, 13, 172]
abbrev dktX1_serverExpiryTime_1 : List UInt8 := dkwX1_serverExpiryTime_1 ++ []
def dkwX1_serverExpiryTime_0 : List UInt8 := [42, 180, 0, 49, 180, 0, 255, 16, 252, 160, 0, 8, 16, 252, 167, 0, 23, 42, 180, 0, 49, 180, 1, 3]
abbrev dktX1_serverExpiryTime_0 : List UInt8 := dkwX1_serverExpiryTime_0 ++ dktX1_serverExpiryTime_1
theorem dksX1_serverExpiryTime_0 : cX1_serverExpiryTime.data.toList.drop 0 = dktX1_serverExpiryTime_0 := by decide +kernel
theorem dksX1_serverExpiryTime_1 : cX1_serverExpiryTime.data.toList.drop 24 = dktX1_serverExpiryTime_1 := dk_seg dksX1_serverExpiryTime_0 24 rfl rfl
theorem dX1_serverExpiryTime_0 : decode cX1_serverExpiryTime 0 = .ok (.aload_n 0, 1) := dk_42 (dk_at dksX1_serverExpiryTime_0 0 rfl rfl)
theorem dX1_serverExpiryTime_1 : decode cX1_serverExpiryTime 1 = .ok (.getfield 49, 3) := dk_180 0 49 (dk_at dksX1_serverExpiryTime_0 1 rfl rfl)
theorem dX1_serverExpiryTime_4 : decode cX1_serverExpiryTime 4 = .ok (.getfield 255, 3) := dk_180 0 255 (dk_at dksX1_serverExpiryTime_0 4 rfl rfl)
theorem dX1_serverExpiryTime_7 : decode cX1_serverExpiryTime 7 = .ok (.bipush (-4), 2) := dk_16 252 (dk_at dksX1_serverExpiryTime_0 7 rfl rfl)
theorem dX1_serverExpiryTime_9 : decode cX1_serverExpiryTime 9 = .ok (.if_icmp .ne 8, 3) := dk_160 0 8 (dk_at dksX1_serverExpiryTime_0 9 rfl rfl)
theorem dX1_serverExpiryTime_12 : decode cX1_serverExpiryTime 12 = .ok (.bipush (-4), 2) := dk_16 252 (dk_at dksX1_serverExpiryTime_0 12 rfl rfl)
theorem dX1_serverExpiryTime_14 : decode cX1_serverExpiryTime 14 = .ok (.goto 23, 3) := dk_167 0 23 (dk_at dksX1_serverExpiryTime_0 14 rfl rfl)
theorem dX1_serverExpiryTime_17 : decode cX1_serverExpiryTime 17 = .ok (.aload_n 0, 1) := dk_42 (dk_at dksX1_serverExpiryTime_0 17 rfl rfl)
theorem dX1_serverExpiryTime_18 : decode cX1_serverExpiryTime 18 = .ok (.getfield 49, 3) := dk_180 0 49 (dk_at dksX1_serverExpiryTime_0 18 rfl rfl)
theorem dX1_serverExpiryTime_21 : decode cX1_serverExpiryTime 21 = .ok (.getfield 259, 3) := dk_180 1 3 (dk_at dksX1_serverExpiryTime_0 21 rfl rfl)
theorem dX1_serverExpiryTime_24 : decode cX1_serverExpiryTime 24 = .ok (.getfield 263, 3) := dk_180 1 7 (dk_at dksX1_serverExpiryTime_1 0 rfl rfl)
theorem dX1_serverExpiryTime_27 : decode cX1_serverExpiryTime 27 = .ok (.aload_n 0, 1) := dk_42 (dk_at dksX1_serverExpiryTime_1 3 rfl rfl)
theorem dX1_serverExpiryTime_28 : decode cX1_serverExpiryTime 28 = .ok (.getfield 49, 3) := dk_180 0 49 (dk_at dksX1_serverExpiryTime_1 4 rfl rfl)
theorem dX1_serverExpiryTime_31 : decode cX1_serverExpiryTime 31 = .ok (.getfield 266, 3) := dk_180 1 10 (dk_at dksX1_serverExpiryTime_1 7 rfl rfl)
theorem dX1_serverExpiryTime_34 : decode cX1_serverExpiryTime 34 = .ok (.invokevirtual 269, 3) := dk_182 1 13 (dk_at dksX1_serverExpiryTime_1 10 rfl rfl)
theorem dX1_serverExpiryTime_37 : decode cX1_serverExpiryTime 37 = .ok (.ireturn, 1) := dk_172 (dk_at dksX1_serverExpiryTime_1 13 rfl rfl)
abbrev cX1_graceLeft : ByteArray := prog_1_method_36_code
def yX1_graceLeft : MethodName := ⟨RX1, "graceLeft", "()I"⟩
def dkwX1_graceLeft_0 : List UInt8 := [3, 42, 180, 0, 49, 180, 1, 16, 42, 180, 0, 49, 182, 0, 131, 100, 184, 0, 180, 172]
abbrev dktX1_graceLeft_0 : List UInt8 := dkwX1_graceLeft_0 ++ []
theorem dksX1_graceLeft_0 : cX1_graceLeft.data.toList.drop 0 = dktX1_graceLeft_0 := by decide +kernel
theorem dX1_graceLeft_0 : decode cX1_graceLeft 0 = .ok (.iconst 0, 1) := dk_3 (dk_at dksX1_graceLeft_0 0 rfl rfl)
theorem dX1_graceLeft_1 : decode cX1_graceLeft 1 = .ok (.aload_n 0, 1) := dk_42 (dk_at dksX1_graceLeft_0 1 rfl rfl)
theorem dX1_graceLeft_2 : decode cX1_graceLeft 2 = .ok (.getfield 49, 3) := dk_180 0 49 (dk_at dksX1_graceLeft_0 2 rfl rfl)
theorem dX1_graceLeft_5 : decode cX1_graceLeft 5 = .ok (.getfield 272, 3) := dk_180 1 16 (dk_at dksX1_graceLeft_0 5 rfl rfl)
theorem dX1_graceLeft_8 : decode cX1_graceLeft 8 = .ok (.aload_n 0, 1) := dk_42 (dk_at dksX1_graceLeft_0 8 rfl rfl)
theorem dX1_graceLeft_9 : decode cX1_graceLeft 9 = .ok (.getfield 49, 3) := dk_180 0 49 (dk_at dksX1_graceLeft_0 9 rfl rfl)
theorem dX1_graceLeft_12 : decode cX1_graceLeft 12 = .ok (.invokevirtual 131, 3) := dk_182 0 131 (dk_at dksX1_graceLeft_0 12 rfl rfl)
theorem dX1_graceLeft_15 : decode cX1_graceLeft 15 = .ok (.isub, 1) := dk_100 (dk_at dksX1_graceLeft_0 15 rfl rfl)
theorem dX1_graceLeft_16 : decode cX1_graceLeft 16 = .ok (.invokestatic 180, 3) := dk_184 0 180 (dk_at dksX1_graceLeft_0 16 rfl rfl)
theorem dX1_graceLeft_19 : decode cX1_graceLeft 19 = .ok (.ireturn, 1) := dk_172 (dk_at dksX1_graceLeft_0 19 rfl rfl)
abbrev cX1_leaders : ByteArray := prog_1_method_38_code
def yX1_leaders : MethodName := ⟨RX1, "leaders", "()I"⟩
def dkwX1_leaders_0 : List UInt8 := [42, 180, 0, 49, 182, 1, 19, 172]
abbrev dktX1_leaders_0 : List UInt8 := dkwX1_leaders_0 ++ []
theorem dksX1_leaders_0 : cX1_leaders.data.toList.drop 0 = dktX1_leaders_0 := by decide +kernel
theorem dX1_leaders_0 : decode cX1_leaders 0 = .ok (.aload_n 0, 1) := dk_42 (dk_at dksX1_leaders_0 0 rfl rfl)
theorem dX1_leaders_1 : decode cX1_leaders 1 = .ok (.getfield 49, 3) := dk_180 0 49 (dk_at dksX1_leaders_0 1 rfl rfl)
theorem dX1_leaders_4 : decode cX1_leaders 4 = .ok (.invokevirtual 275, 3) := dk_182 1 19 (dk_at dksX1_leaders_0 4 rfl rfl)
theorem dX1_leaders_7 : decode cX1_leaders 7 = .ok (.ireturn, 1) := dk_172 (dk_at dksX1_leaders_0 7 rfl rfl)
abbrev cX1_messagesOnWay : ByteArray := prog_1_method_45_code
def yX1_messagesOnWay : MethodName := ⟨RX1, "messagesOnWay", "()I"⟩
def dkwX1_messagesOnWay_0 : List UInt8 := [42, 180, 0, 49, 180, 1, 31, 185, 0, 192, 1, 0, 172]
abbrev dktX1_messagesOnWay_0 : List UInt8 := dkwX1_messagesOnWay_0 ++ []
theorem dksX1_messagesOnWay_0 : cX1_messagesOnWay.data.toList.drop 0 = dktX1_messagesOnWay_0 := by decide +kernel
theorem dX1_messagesOnWay_0 : decode cX1_messagesOnWay 0 = .ok (.aload_n 0, 1) := dk_42 (dk_at dksX1_messagesOnWay_0 0 rfl rfl)
theorem dX1_messagesOnWay_1 : decode cX1_messagesOnWay 1 = .ok (.getfield 49, 3) := dk_180 0 49 (dk_at dksX1_messagesOnWay_0 1 rfl rfl)
theorem dX1_messagesOnWay_4 : decode cX1_messagesOnWay 4 = .ok (.getfield 287, 3) := dk_180 1 31 (dk_at dksX1_messagesOnWay_0 4 rfl rfl)
theorem dX1_messagesOnWay_7 : decode cX1_messagesOnWay 7 = .ok (.invokeinterface 192 1, 5) := by decide +kernel
theorem dX1_messagesOnWay_12 : decode cX1_messagesOnWay 12 = .ok (.ireturn, 1) := dk_172 (dk_at dksX1_messagesOnWay_0 12 rfl rfl)
abbrev cX1_delayedWrites : ByteArray := prog_1_method_46_code
def yX1_delayedWrites : MethodName := ⟨RX1, "delayedWrites", "()I"⟩
def dkwX1_delayedWrites_0 : List UInt8 := [42, 180, 0, 49, 180, 0, 216, 185, 0, 192, 1, 0, 172]
abbrev dktX1_delayedWrites_0 : List UInt8 := dkwX1_delayedWrites_0 ++ []
theorem dksX1_delayedWrites_0 : cX1_delayedWrites.data.toList.drop 0 = dktX1_delayedWrites_0 := by decide +kernel
theorem dX1_delayedWrites_0 : decode cX1_delayedWrites 0 = .ok (.aload_n 0, 1) := dk_42 (dk_at dksX1_delayedWrites_0 0 rfl rfl)
theorem dX1_delayedWrites_1 : decode cX1_delayedWrites 1 = .ok (.getfield 49, 3) := dk_180 0 49 (dk_at dksX1_delayedWrites_0 1 rfl rfl)
theorem dX1_delayedWrites_4 : decode cX1_delayedWrites 4 = .ok (.getfield 216, 3) := dk_180 0 216 (dk_at dksX1_delayedWrites_0 4 rfl rfl)
theorem dX1_delayedWrites_7 : decode cX1_delayedWrites 7 = .ok (.invokeinterface 192 1, 5) := by decide +kernel
theorem dX1_delayedWrites_12 : decode cX1_delayedWrites 12 = .ok (.ireturn, 1) := dk_172 (dk_at dksX1_delayedWrites_0 12 rfl rfl)
abbrev cX1_messagesLost : ByteArray := prog_1_method_47_code
def yX1_messagesLost : MethodName := ⟨RX1, "messagesLost", "()I"⟩
def dkwX1_messagesLost_0 : List UInt8 := [42, 180, 0, 49, 180, 1, 34, 172]
abbrev dktX1_messagesLost_0 : List UInt8 := dkwX1_messagesLost_0 ++ []
theorem dksX1_messagesLost_0 : cX1_messagesLost.data.toList.drop 0 = dktX1_messagesLost_0 := by decide +kernel
theorem dX1_messagesLost_0 : decode cX1_messagesLost 0 = .ok (.aload_n 0, 1) := dk_42 (dk_at dksX1_messagesLost_0 0 rfl rfl)
theorem dX1_messagesLost_1 : decode cX1_messagesLost 1 = .ok (.getfield 49, 3) := dk_180 0 49 (dk_at dksX1_messagesLost_0 1 rfl rfl)
theorem dX1_messagesLost_4 : decode cX1_messagesLost 4 = .ok (.getfield 290, 3) := dk_180 1 34 (dk_at dksX1_messagesLost_0 4 rfl rfl)
theorem dX1_messagesLost_7 : decode cX1_messagesLost 7 = .ok (.ireturn, 1) := dk_172 (dk_at dksX1_messagesLost_0 7 rfl rfl)
abbrev cX1_logSize : ByteArray := prog_1_method_48_code
def yX1_logSize : MethodName := ⟨RX1, "logSize", "()I"⟩
def dkwX1_logSize_0 : List UInt8 := [42, 180, 0, 49, 180, 1, 37, 185, 0, 192, 1, 0, 172]
abbrev dktX1_logSize_0 : List UInt8 := dkwX1_logSize_0 ++ []
theorem dksX1_logSize_0 : cX1_logSize.data.toList.drop 0 = dktX1_logSize_0 := by decide +kernel
theorem dX1_logSize_0 : decode cX1_logSize 0 = .ok (.aload_n 0, 1) := dk_42 (dk_at dksX1_logSize_0 0 rfl rfl)
theorem dX1_logSize_1 : decode cX1_logSize 1 = .ok (.getfield 49, 3) := dk_180 0 49 (dk_at dksX1_logSize_0 1 rfl rfl)
theorem dX1_logSize_4 : decode cX1_logSize 4 = .ok (.getfield 293, 3) := dk_180 1 37 (dk_at dksX1_logSize_0 4 rfl rfl)
theorem dX1_logSize_7 : decode cX1_logSize 7 = .ok (.invokeinterface 192 1, 5) := by decide +kernel
theorem dX1_logSize_12 : decode cX1_logSize 12 = .ok (.ireturn, 1) := dk_172 (dk_at dksX1_logSize_0 12 rfl rfl)
abbrev cX1_splitTime : ByteArray := prog_1_method_55_code
def yX1_splitTime : MethodName := ⟨RX1, "splitTime", "()I"⟩
def dkwX1_splitTime_0 : List UInt8 := [42, 180, 0, 49, 180, 1, 64, 172]
abbrev dktX1_splitTime_0 : List UInt8 := dkwX1_splitTime_0 ++ []
theorem dksX1_splitTime_0 : cX1_splitTime.data.toList.drop 0 = dktX1_splitTime_0 := by decide +kernel
theorem dX1_splitTime_0 : decode cX1_splitTime 0 = .ok (.aload_n 0, 1) := dk_42 (dk_at dksX1_splitTime_0 0 rfl rfl)
theorem dX1_splitTime_1 : decode cX1_splitTime 1 = .ok (.getfield 49, 3) := dk_180 0 49 (dk_at dksX1_splitTime_0 1 rfl rfl)
theorem dX1_splitTime_4 : decode cX1_splitTime 4 = .ok (.getfield 320, 3) := dk_180 1 64 (dk_at dksX1_splitTime_0 4 rfl rfl)
theorem dX1_splitTime_7 : decode cX1_splitTime 7 = .ok (.ireturn, 1) := dk_172 (dk_at dksX1_splitTime_0 7 rfl rfl)
abbrev cX1_reads : ByteArray := prog_1_method_56_code
def yX1_reads : MethodName := ⟨RX1, "reads", "()I"⟩
def dkwX1_reads_0 : List UInt8 := [42, 180, 0, 49, 180, 0, 230, 172]
abbrev dktX1_reads_0 : List UInt8 := dkwX1_reads_0 ++ []
theorem dksX1_reads_0 : cX1_reads.data.toList.drop 0 = dktX1_reads_0 := by decide +kernel
theorem dX1_reads_0 : decode cX1_reads 0 = .ok (.aload_n 0, 1) := dk_42 (dk_at dksX1_reads_0 0 rfl rfl)
theorem dX1_reads_1 : decode cX1_reads 1 = .ok (.getfield 49, 3) := dk_180 0 49 (dk_at dksX1_reads_0 1 rfl rfl)
theorem dX1_reads_4 : decode cX1_reads 4 = .ok (.getfield 230, 3) := dk_180 0 230 (dk_at dksX1_reads_0 4 rfl rfl)
theorem dX1_reads_7 : decode cX1_reads 7 = .ok (.ireturn, 1) := dk_172 (dk_at dksX1_reads_0 7 rfl rfl)
abbrev cX1_staleReads : ByteArray := prog_1_method_57_code
def yX1_staleReads : MethodName := ⟨RX1, "staleReads", "()I"⟩
def dkwX1_staleReads_0 : List UInt8 := [42, 180, 0, 49, 180, 0, 246, 172]
abbrev dktX1_staleReads_0 : List UInt8 := dkwX1_staleReads_0 ++ []
theorem dksX1_staleReads_0 : cX1_staleReads.data.toList.drop 0 = dktX1_staleReads_0 := by decide +kernel
theorem dX1_staleReads_0 : decode cX1_staleReads 0 = .ok (.aload_n 0, 1) := dk_42 (dk_at dksX1_staleReads_0 0 rfl rfl)
theorem dX1_staleReads_1 : decode cX1_staleReads 1 = .ok (.getfield 49, 3) := dk_180 0 49 (dk_at dksX1_staleReads_0 1 rfl rfl)
theorem dX1_staleReads_4 : decode cX1_staleReads 4 = .ok (.getfield 246, 3) := dk_180 0 246 (dk_at dksX1_staleReads_0 4 rfl rfl)
theorem dX1_staleReads_7 : decode cX1_staleReads 7 = .ok (.ireturn, 1) := dk_172 (dk_at dksX1_staleReads_0 7 rfl rfl)
abbrev cX1_smallestBound : ByteArray := prog_1_method_62_code
def yX1_smallestBound : MethodName := ⟨RX1, "smallestBound", "()I"⟩
def dkwX1_smallestBound_3 : List UInt8 := [132, 4, 1, 167, 255, 221, 27, 172]
abbrev dktX1_smallestBound_3 : List UInt8 := dkwX1_smallestBound_3 ++ []
def dkwX1_smallestBound_2 : List UInt8 := [58, 5, 27, 25, 5, 180, 0, 121, 180, 1, 80, 17, 3, 232, 100, 184, 1, 83, 184, 0, 180, 60]
abbrev dktX1_smallestBound_2 : List UInt8 := dkwX1_smallestBound_2 ++ dktX1_smallestBound_3
def dkwX1_smallestBound_1 : List UInt8 := [180, 0, 49, 180, 0, 60, 77, 44, 190, 62, 3, 54, 4, 21, 4, 29, 162, 0, 35, 44, 21, 4, 50]
abbrev dktX1_smallestBound_1 : List UInt8 := dkwX1_smallestBound_1 ++ dktX1_smallestBound_2
def dkwX1_smallestBound_0 : List UInt8 := [42, 180, 0, 49, 180, 1, 3, 180, 1, 7, 180, 1, 80, 17, 3, 232, 100, 184, 1, 83, 60, 42]
abbrev dktX1_smallestBound_0 : List UInt8 := dkwX1_smallestBound_0 ++ dktX1_smallestBound_1
theorem dksX1_smallestBound_0 : cX1_smallestBound.data.toList.drop 0 = dktX1_smallestBound_0 := by decide +kernel
theorem dksX1_smallestBound_1 : cX1_smallestBound.data.toList.drop 22 = dktX1_smallestBound_1 := dk_seg dksX1_smallestBound_0 22 rfl rfl
theorem dksX1_smallestBound_2 : cX1_smallestBound.data.toList.drop 45 = dktX1_smallestBound_2 := dk_seg dksX1_smallestBound_1 23 rfl rfl
theorem dksX1_smallestBound_3 : cX1_smallestBound.data.toList.drop 67 = dktX1_smallestBound_3 := dk_seg dksX1_smallestBound_2 22 rfl rfl
theorem dX1_smallestBound_0 : decode cX1_smallestBound 0 = .ok (.aload_n 0, 1) := dk_42 (dk_at dksX1_smallestBound_0 0 rfl rfl)
theorem dX1_smallestBound_1 : decode cX1_smallestBound 1 = .ok (.getfield 49, 3) := dk_180 0 49 (dk_at dksX1_smallestBound_0 1 rfl rfl)
theorem dX1_smallestBound_4 : decode cX1_smallestBound 4 = .ok (.getfield 259, 3) := dk_180 1 3 (dk_at dksX1_smallestBound_0 4 rfl rfl)
theorem dX1_smallestBound_7 : decode cX1_smallestBound 7 = .ok (.getfield 263, 3) := dk_180 1 7 (dk_at dksX1_smallestBound_0 7 rfl rfl)
theorem dX1_smallestBound_10 : decode cX1_smallestBound 10 = .ok (.getfield 336, 3) := dk_180 1 80 (dk_at dksX1_smallestBound_0 10 rfl rfl)
theorem dX1_smallestBound_13 : decode cX1_smallestBound 13 = .ok (.sipush 1000, 3) := dk_17 3 232 (dk_at dksX1_smallestBound_0 13 rfl rfl)
theorem dX1_smallestBound_16 : decode cX1_smallestBound 16 = .ok (.isub, 1) := dk_100 (dk_at dksX1_smallestBound_0 16 rfl rfl)
theorem dX1_smallestBound_17 : decode cX1_smallestBound 17 = .ok (.invokestatic 339, 3) := dk_184 1 83 (dk_at dksX1_smallestBound_0 17 rfl rfl)
theorem dX1_smallestBound_20 : decode cX1_smallestBound 20 = .ok (.istore_n 1, 1) := dk_60 (dk_at dksX1_smallestBound_0 20 rfl rfl)
theorem dX1_smallestBound_21 : decode cX1_smallestBound 21 = .ok (.aload_n 0, 1) := dk_42 (dk_at dksX1_smallestBound_0 21 rfl rfl)
theorem dX1_smallestBound_22 : decode cX1_smallestBound 22 = .ok (.getfield 49, 3) := dk_180 0 49 (dk_at dksX1_smallestBound_1 0 rfl rfl)
theorem dX1_smallestBound_25 : decode cX1_smallestBound 25 = .ok (.getfield 60, 3) := dk_180 0 60 (dk_at dksX1_smallestBound_1 3 rfl rfl)
theorem dX1_smallestBound_28 : decode cX1_smallestBound 28 = .ok (.astore_n 2, 1) := dk_77 (dk_at dksX1_smallestBound_1 6 rfl rfl)
theorem dX1_smallestBound_29 : decode cX1_smallestBound 29 = .ok (.aload_n 2, 1) := dk_44 (dk_at dksX1_smallestBound_1 7 rfl rfl)
theorem dX1_smallestBound_30 : decode cX1_smallestBound 30 = .ok (.arraylength, 1) := dk_190 (dk_at dksX1_smallestBound_1 8 rfl rfl)
theorem dX1_smallestBound_31 : decode cX1_smallestBound 31 = .ok (.istore_n 3, 1) := dk_62 (dk_at dksX1_smallestBound_1 9 rfl rfl)
theorem dX1_smallestBound_32 : decode cX1_smallestBound 32 = .ok (.iconst 0, 1) := dk_3 (dk_at dksX1_smallestBound_1 10 rfl rfl)
theorem dX1_smallestBound_33 : decode cX1_smallestBound 33 = .ok (.istore 4, 2) := dk_54 4 (dk_at dksX1_smallestBound_1 11 rfl rfl)
theorem dX1_smallestBound_35 : decode cX1_smallestBound 35 = .ok (.iload 4, 2) := dk_21 4 (dk_at dksX1_smallestBound_1 13 rfl rfl)
theorem dX1_smallestBound_37 : decode cX1_smallestBound 37 = .ok (.iload_n 3, 1) := dk_29 (dk_at dksX1_smallestBound_1 15 rfl rfl)
theorem dX1_smallestBound_38 : decode cX1_smallestBound 38 = .ok (.if_icmp .ge 35, 3) := dk_162 0 35 (dk_at dksX1_smallestBound_1 16 rfl rfl)
theorem dX1_smallestBound_41 : decode cX1_smallestBound 41 = .ok (.aload_n 2, 1) := dk_44 (dk_at dksX1_smallestBound_1 19 rfl rfl)
theorem dX1_smallestBound_42 : decode cX1_smallestBound 42 = .ok (.iload 4, 2) := dk_21 4 (dk_at dksX1_smallestBound_1 20 rfl rfl)
theorem dX1_smallestBound_44 : decode cX1_smallestBound 44 = .ok (.aaload, 1) := dk_50 (dk_at dksX1_smallestBound_1 22 rfl rfl)
theorem dX1_smallestBound_45 : decode cX1_smallestBound 45 = .ok (.astore 5, 2) := dk_58 5 (dk_at dksX1_smallestBound_2 0 rfl rfl)
theorem dX1_smallestBound_47 : decode cX1_smallestBound 47 = .ok (.iload_n 1, 1) := dk_27 (dk_at dksX1_smallestBound_2 2 rfl rfl)
theorem dX1_smallestBound_48 : decode cX1_smallestBound 48 = .ok (.aload 5, 2) := dk_25 5 (dk_at dksX1_smallestBound_2 3 rfl rfl)
theorem dX1_smallestBound_50 : decode cX1_smallestBound 50 = .ok (.getfield 121, 3) := dk_180 0 121 (dk_at dksX1_smallestBound_2 5 rfl rfl)
theorem dX1_smallestBound_53 : decode cX1_smallestBound 53 = .ok (.getfield 336, 3) := dk_180 1 80 (dk_at dksX1_smallestBound_2 8 rfl rfl)
theorem dX1_smallestBound_56 : decode cX1_smallestBound 56 = .ok (.sipush 1000, 3) := dk_17 3 232 (dk_at dksX1_smallestBound_2 11 rfl rfl)
theorem dX1_smallestBound_59 : decode cX1_smallestBound 59 = .ok (.isub, 1) := dk_100 (dk_at dksX1_smallestBound_2 14 rfl rfl)
theorem dX1_smallestBound_60 : decode cX1_smallestBound 60 = .ok (.invokestatic 339, 3) := dk_184 1 83 (dk_at dksX1_smallestBound_2 15 rfl rfl)
theorem dX1_smallestBound_63 : decode cX1_smallestBound 63 = .ok (.invokestatic 180, 3) := dk_184 0 180 (dk_at dksX1_smallestBound_2 18 rfl rfl)
theorem dX1_smallestBound_66 : decode cX1_smallestBound 66 = .ok (.istore_n 1, 1) := dk_60 (dk_at dksX1_smallestBound_2 21 rfl rfl)
theorem dX1_smallestBound_67 : decode cX1_smallestBound 67 = .ok (.iinc 4 1, 3) := dk_132 4 1 (dk_at dksX1_smallestBound_3 0 rfl rfl)
theorem dX1_smallestBound_70 : decode cX1_smallestBound 70 = .ok (.goto (-35), 3) := dk_167 255 221 (dk_at dksX1_smallestBound_3 3 rfl rfl)
theorem dX1_smallestBound_73 : decode cX1_smallestBound 73 = .ok (.iload_n 1, 1) := dk_27 (dk_at dksX1_smallestBound_3 6 rfl rfl)
theorem dX1_smallestBound_74 : decode cX1_smallestBound 74 = .ok (.ireturn, 1) := dk_172 (dk_at dksX1_smallestBound_3 7 rfl rfl)
abbrev cX1_overtakingPairs : ByteArray := prog_1_method_63_code
def yX1_overtakingPairs : MethodName := ⟨RX1, "overtakingPairs", "()I"⟩
def dkwX1_overtakingPairs_0 : List UInt8 := [42, 180, 0, 49, 182, 1, 86, 172]
abbrev dktX1_overtakingPairs_0 : List UInt8 := dkwX1_overtakingPairs_0 ++ []
theorem dksX1_overtakingPairs_0 : cX1_overtakingPairs.data.toList.drop 0 = dktX1_overtakingPairs_0 := by decide +kernel
theorem dX1_overtakingPairs_0 : decode cX1_overtakingPairs 0 = .ok (.aload_n 0, 1) := dk_42 (dk_at dksX1_overtakingPairs_0 0 rfl rfl)
theorem dX1_overtakingPairs_1 : decode cX1_overtakingPairs 1 = .ok (.getfield 49, 3) := dk_180 0 49 (dk_at dksX1_overtakingPairs_0 1 rfl rfl)
theorem dX1_overtakingPairs_4 : decode cX1_overtakingPairs 4 = .ok (.invokevirtual 342, 3) := dk_182 1 86 (dk_at dksX1_overtakingPairs_0 4 rfl rfl)
theorem dX1_overtakingPairs_7 : decode cX1_overtakingPairs 7 = .ok (.ireturn, 1) := dk_172 (dk_at dksX1_overtakingPairs_0 7 rfl rfl)
abbrev cX1_staleCaches : ByteArray := prog_1_method_64_code
def yX1_staleCaches : MethodName := ⟨RX1, "staleCaches", "()I"⟩
def dkwX1_staleCaches_2 : List UInt8 := [132, 2, 1, 167, 255, 212, 27, 172]
abbrev dktX1_staleCaches_2 : List UInt8 := dkwX1_staleCaches_2 ++ []
def dkwX1_staleCaches_1 : List UInt8 := [180, 0, 49, 180, 0, 60, 28, 50, 182, 1, 89, 153, 0, 9, 4, 28, 120, 167, 0, 4, 3, 128, 60]
abbrev dktX1_staleCaches_1 : List UInt8 := dkwX1_staleCaches_1 ++ dktX1_staleCaches_2
def dkwX1_staleCaches_0 : List UInt8 := [3, 60, 3, 61, 28, 42, 180, 0, 49, 180, 0, 60, 190, 162, 0, 38, 27, 42, 180, 0, 49, 42]
abbrev dktX1_staleCaches_0 : List UInt8 := dkwX1_staleCaches_0 ++ dktX1_staleCaches_1
theorem dksX1_staleCaches_0 : cX1_staleCaches.data.toList.drop 0 = dktX1_staleCaches_0 := by decide +kernel
theorem dksX1_staleCaches_1 : cX1_staleCaches.data.toList.drop 22 = dktX1_staleCaches_1 := dk_seg dksX1_staleCaches_0 22 rfl rfl
theorem dksX1_staleCaches_2 : cX1_staleCaches.data.toList.drop 45 = dktX1_staleCaches_2 := dk_seg dksX1_staleCaches_1 23 rfl rfl
theorem dX1_staleCaches_0 : decode cX1_staleCaches 0 = .ok (.iconst 0, 1) := dk_3 (dk_at dksX1_staleCaches_0 0 rfl rfl)
theorem dX1_staleCaches_1 : decode cX1_staleCaches 1 = .ok (.istore_n 1, 1) := dk_60 (dk_at dksX1_staleCaches_0 1 rfl rfl)
theorem dX1_staleCaches_2 : decode cX1_staleCaches 2 = .ok (.iconst 0, 1) := dk_3 (dk_at dksX1_staleCaches_0 2 rfl rfl)
theorem dX1_staleCaches_3 : decode cX1_staleCaches 3 = .ok (.istore_n 2, 1) := dk_61 (dk_at dksX1_staleCaches_0 3 rfl rfl)
theorem dX1_staleCaches_4 : decode cX1_staleCaches 4 = .ok (.iload_n 2, 1) := dk_28 (dk_at dksX1_staleCaches_0 4 rfl rfl)
theorem dX1_staleCaches_5 : decode cX1_staleCaches 5 = .ok (.aload_n 0, 1) := dk_42 (dk_at dksX1_staleCaches_0 5 rfl rfl)
theorem dX1_staleCaches_6 : decode cX1_staleCaches 6 = .ok (.getfield 49, 3) := dk_180 0 49 (dk_at dksX1_staleCaches_0 6 rfl rfl)
theorem dX1_staleCaches_9 : decode cX1_staleCaches 9 = .ok (.getfield 60, 3) := dk_180 0 60 (dk_at dksX1_staleCaches_0 9 rfl rfl)
theorem dX1_staleCaches_12 : decode cX1_staleCaches 12 = .ok (.arraylength, 1) := dk_190 (dk_at dksX1_staleCaches_0 12 rfl rfl)
theorem dX1_staleCaches_13 : decode cX1_staleCaches 13 = .ok (.if_icmp .ge 38, 3) := dk_162 0 38 (dk_at dksX1_staleCaches_0 13 rfl rfl)
theorem dX1_staleCaches_16 : decode cX1_staleCaches 16 = .ok (.iload_n 1, 1) := dk_27 (dk_at dksX1_staleCaches_0 16 rfl rfl)
theorem dX1_staleCaches_17 : decode cX1_staleCaches 17 = .ok (.aload_n 0, 1) := dk_42 (dk_at dksX1_staleCaches_0 17 rfl rfl)
theorem dX1_staleCaches_18 : decode cX1_staleCaches 18 = .ok (.getfield 49, 3) := dk_180 0 49 (dk_at dksX1_staleCaches_0 18 rfl rfl)
theorem dX1_staleCaches_21 : decode cX1_staleCaches 21 = .ok (.aload_n 0, 1) := dk_42 (dk_at dksX1_staleCaches_0 21 rfl rfl)
theorem dX1_staleCaches_22 : decode cX1_staleCaches 22 = .ok (.getfield 49, 3) := dk_180 0 49 (dk_at dksX1_staleCaches_1 0 rfl rfl)
theorem dX1_staleCaches_25 : decode cX1_staleCaches 25 = .ok (.getfield 60, 3) := dk_180 0 60 (dk_at dksX1_staleCaches_1 3 rfl rfl)
theorem dX1_staleCaches_28 : decode cX1_staleCaches 28 = .ok (.iload_n 2, 1) := dk_28 (dk_at dksX1_staleCaches_1 6 rfl rfl)
theorem dX1_staleCaches_29 : decode cX1_staleCaches 29 = .ok (.aaload, 1) := dk_50 (dk_at dksX1_staleCaches_1 7 rfl rfl)
theorem dX1_staleCaches_30 : decode cX1_staleCaches 30 = .ok (.invokevirtual 345, 3) := dk_182 1 89 (dk_at dksX1_staleCaches_1 8 rfl rfl)
theorem dX1_staleCaches_33 : decode cX1_staleCaches 33 = .ok (.ifCond .eq 9, 3) := dk_153 0 9 (dk_at dksX1_staleCaches_1 11 rfl rfl)
theorem dX1_staleCaches_36 : decode cX1_staleCaches 36 = .ok (.iconst 1, 1) := dk_4 (dk_at dksX1_staleCaches_1 14 rfl rfl)
theorem dX1_staleCaches_37 : decode cX1_staleCaches 37 = .ok (.iload_n 2, 1) := dk_28 (dk_at dksX1_staleCaches_1 15 rfl rfl)
theorem dX1_staleCaches_38 : decode cX1_staleCaches 38 = .ok (.ishl, 1) := dk_120 (dk_at dksX1_staleCaches_1 16 rfl rfl)
theorem dX1_staleCaches_39 : decode cX1_staleCaches 39 = .ok (.goto 4, 3) := dk_167 0 4 (dk_at dksX1_staleCaches_1 17 rfl rfl)
theorem dX1_staleCaches_42 : decode cX1_staleCaches 42 = .ok (.iconst 0, 1) := dk_3 (dk_at dksX1_staleCaches_1 20 rfl rfl)
theorem dX1_staleCaches_43 : decode cX1_staleCaches 43 = .ok (.ior, 1) := dk_128 (dk_at dksX1_staleCaches_1 21 rfl rfl)
theorem dX1_staleCaches_44 : decode cX1_staleCaches 44 = .ok (.istore_n 1, 1) := dk_60 (dk_at dksX1_staleCaches_1 22 rfl rfl)
theorem dX1_staleCaches_45 : decode cX1_staleCaches 45 = .ok (.iinc 2 1, 3) := dk_132 2 1 (dk_at dksX1_staleCaches_2 0 rfl rfl)
theorem dX1_staleCaches_48 : decode cX1_staleCaches 48 = .ok (.goto (-44), 3) := dk_167 255 212 (dk_at dksX1_staleCaches_2 3 rfl rfl)
theorem dX1_staleCaches_51 : decode cX1_staleCaches 51 = .ok (.iload_n 1, 1) := dk_27 (dk_at dksX1_staleCaches_2 6 rfl rfl)
theorem dX1_staleCaches_52 : decode cX1_staleCaches 52 = .ok (.ireturn, 1) := dk_172 (dk_at dksX1_staleCaches_2 7 rfl rfl)
abbrev cX1_appendByte : ByteArray := prog_1_method_7_code
def yX1_appendByte : MethodName := ⟨RX1, "appendByte", "(I)I"⟩
def dkwX1_appendByte_2 : List UInt8 := [180, 0, 79, 172]
abbrev dktX1_appendByte_2 : List UInt8 := dkwX1_appendByte_2 ++ []
def dkwX1_appendByte_1 : List UInt8 := [172, 42, 180, 0, 36, 42, 180, 0, 79, 27, 145, 84, 42, 89, 180, 0, 79, 4, 96, 181, 0, 79, 42]
abbrev dktX1_appendByte_1 : List UInt8 := dkwX1_appendByte_1 ++ dktX1_appendByte_2
def dkwX1_appendByte_0 : List UInt8 := [27, 133, 9, 20, 0, 77, 184, 0, 64, 184, 0, 73, 42, 180, 0, 79, 17, 1, 144, 160, 0, 6, 16, 251]
abbrev dktX1_appendByte_0 : List UInt8 := dkwX1_appendByte_0 ++ dktX1_appendByte_1
theorem dksX1_appendByte_0 : cX1_appendByte.data.toList.drop 0 = dktX1_appendByte_0 := by decide +kernel
theorem dksX1_appendByte_1 : cX1_appendByte.data.toList.drop 24 = dktX1_appendByte_1 := dk_seg dksX1_appendByte_0 24 rfl rfl
theorem dksX1_appendByte_2 : cX1_appendByte.data.toList.drop 47 = dktX1_appendByte_2 := dk_seg dksX1_appendByte_1 23 rfl rfl
theorem dX1_appendByte_0 : decode cX1_appendByte 0 = .ok (.iload_n 1, 1) := dk_27 (dk_at dksX1_appendByte_0 0 rfl rfl)
theorem dX1_appendByte_1 : decode cX1_appendByte 1 = .ok (.i2l, 1) := dk_133 (dk_at dksX1_appendByte_0 1 rfl rfl)
theorem dX1_appendByte_2 : decode cX1_appendByte 2 = .ok (.lconst 0, 1) := dk_9 (dk_at dksX1_appendByte_0 2 rfl rfl)
theorem dX1_appendByte_3 : decode cX1_appendByte 3 = .ok (.ldc2_w 77, 3) := dk_20 0 77 (dk_at dksX1_appendByte_0 3 rfl rfl)
theorem dX1_appendByte_6 : decode cX1_appendByte 6 = .ok (.invokestatic 64, 3) := dk_184 0 64 (dk_at dksX1_appendByte_0 6 rfl rfl)
theorem dX1_appendByte_9 : decode cX1_appendByte 9 = .ok (.invokestatic 73, 3) := dk_184 0 73 (dk_at dksX1_appendByte_0 9 rfl rfl)
theorem dX1_appendByte_12 : decode cX1_appendByte 12 = .ok (.aload_n 0, 1) := dk_42 (dk_at dksX1_appendByte_0 12 rfl rfl)
theorem dX1_appendByte_13 : decode cX1_appendByte 13 = .ok (.getfield 79, 3) := dk_180 0 79 (dk_at dksX1_appendByte_0 13 rfl rfl)
theorem dX1_appendByte_16 : decode cX1_appendByte 16 = .ok (.sipush 400, 3) := dk_17 1 144 (dk_at dksX1_appendByte_0 16 rfl rfl)
theorem dX1_appendByte_19 : decode cX1_appendByte 19 = .ok (.if_icmp .ne 6, 3) := dk_160 0 6 (dk_at dksX1_appendByte_0 19 rfl rfl)
theorem dX1_appendByte_22 : decode cX1_appendByte 22 = .ok (.bipush (-5), 2) := dk_16 251 (dk_at dksX1_appendByte_0 22 rfl rfl)
theorem dX1_appendByte_24 : decode cX1_appendByte 24 = .ok (.ireturn, 1) := dk_172 (dk_at dksX1_appendByte_1 0 rfl rfl)
theorem dX1_appendByte_25 : decode cX1_appendByte 25 = .ok (.aload_n 0, 1) := dk_42 (dk_at dksX1_appendByte_1 1 rfl rfl)
theorem dX1_appendByte_26 : decode cX1_appendByte 26 = .ok (.getfield 36, 3) := dk_180 0 36 (dk_at dksX1_appendByte_1 2 rfl rfl)
theorem dX1_appendByte_29 : decode cX1_appendByte 29 = .ok (.aload_n 0, 1) := dk_42 (dk_at dksX1_appendByte_1 5 rfl rfl)
theorem dX1_appendByte_30 : decode cX1_appendByte 30 = .ok (.getfield 79, 3) := dk_180 0 79 (dk_at dksX1_appendByte_1 6 rfl rfl)
theorem dX1_appendByte_33 : decode cX1_appendByte 33 = .ok (.iload_n 1, 1) := dk_27 (dk_at dksX1_appendByte_1 9 rfl rfl)
theorem dX1_appendByte_34 : decode cX1_appendByte 34 = .ok (.i2b, 1) := dk_145 (dk_at dksX1_appendByte_1 10 rfl rfl)
theorem dX1_appendByte_35 : decode cX1_appendByte 35 = .ok (.bastore, 1) := dk_84 (dk_at dksX1_appendByte_1 11 rfl rfl)
theorem dX1_appendByte_36 : decode cX1_appendByte 36 = .ok (.aload_n 0, 1) := dk_42 (dk_at dksX1_appendByte_1 12 rfl rfl)
theorem dX1_appendByte_37 : decode cX1_appendByte 37 = .ok (.dup, 1) := dk_89 (dk_at dksX1_appendByte_1 13 rfl rfl)
theorem dX1_appendByte_38 : decode cX1_appendByte 38 = .ok (.getfield 79, 3) := dk_180 0 79 (dk_at dksX1_appendByte_1 14 rfl rfl)
theorem dX1_appendByte_41 : decode cX1_appendByte 41 = .ok (.iconst 1, 1) := dk_4 (dk_at dksX1_appendByte_1 17 rfl rfl)
theorem dX1_appendByte_42 : decode cX1_appendByte 42 = .ok (.iadd, 1) := dk_96 (dk_at dksX1_appendByte_1 18 rfl rfl)
theorem dX1_appendByte_43 : decode cX1_appendByte 43 = .ok (.putfield 79, 3) := dk_181 0 79 (dk_at dksX1_appendByte_1 19 rfl rfl)
theorem dX1_appendByte_46 : decode cX1_appendByte 46 = .ok (.aload_n 0, 1) := dk_42 (dk_at dksX1_appendByte_1 22 rfl rfl)
theorem dX1_appendByte_47 : decode cX1_appendByte 47 = .ok (.getfield 79, 3) := dk_180 0 79 (dk_at dksX1_appendByte_2 0 rfl rfl)
theorem dX1_appendByte_50 : decode cX1_appendByte 50 = .ok (.ireturn, 1) := dk_172 (dk_at dksX1_appendByte_2 3 rfl rfl)
abbrev cX1_check : ByteArray := prog_1_method_4_code
def yX1_check : MethodName := ⟨RX1, "check", "(Z)V"⟩
def dkwX1_check_0 : List UInt8 := [26, 154, 0, 11, 187, 0, 57, 89, 183, 0, 59, 191, 177]
abbrev dktX1_check_0 : List UInt8 := dkwX1_check_0 ++ []
theorem dksX1_check_0 : cX1_check.data.toList.drop 0 = dktX1_check_0 := by decide +kernel
theorem dX1_check_0 : decode cX1_check 0 = .ok (.iload_n 0, 1) := dk_26 (dk_at dksX1_check_0 0 rfl rfl)
theorem dX1_check_1 : decode cX1_check 1 = .ok (.ifCond .ne 11, 3) := dk_154 0 11 (dk_at dksX1_check_0 1 rfl rfl)
theorem dX1_check_4 : decode cX1_check 4 = .ok (.new 57, 3) := dk_187 0 57 (dk_at dksX1_check_0 4 rfl rfl)
theorem dX1_check_7 : decode cX1_check 7 = .ok (.dup, 1) := dk_89 (dk_at dksX1_check_0 7 rfl rfl)
theorem dX1_check_8 : decode cX1_check 8 = .ok (.invokespecial 59, 3) := dk_183 0 59 (dk_at dksX1_check_0 8 rfl rfl)
theorem dX1_check_11 : decode cX1_check 11 = .ok (.athrow, 1) := dk_191 (dk_at dksX1_check_0 11 rfl rfl)
theorem dX1_check_12 : decode cX1_check 12 = .ok (.return_, 1) := dk_177 (dk_at dksX1_check_0 12 rfl rfl)
abbrev cX1_advance : ByteArray := prog_1_method_10_code
def yX1_advance : MethodName := ⟨RX1, "advance", "(I)I"⟩
def dkwX1_advance_2 : List UInt8 := [180, 0, 49, 180, 0, 105, 172]
abbrev dktX1_advance_2 : List UInt8 := dkwX1_advance_2 ++ []
def dkwX1_advance_1 : List UInt8 := [164, 0, 6, 16, 251, 172, 42, 180, 0, 49, 42, 180, 0, 49, 180, 0, 105, 27, 96, 182, 0, 109, 42]
abbrev dktX1_advance_1 : List UInt8 := dkwX1_advance_1 ++ dktX1_advance_2
def dkwX1_advance_0 : List UInt8 := [27, 133, 10, 20, 0, 103, 184, 0, 64, 184, 0, 73, 42, 180, 0, 49, 180, 0, 105, 27, 96, 18, 108]
abbrev dktX1_advance_0 : List UInt8 := dkwX1_advance_0 ++ dktX1_advance_1
theorem dksX1_advance_0 : cX1_advance.data.toList.drop 0 = dktX1_advance_0 := by decide +kernel
theorem dksX1_advance_1 : cX1_advance.data.toList.drop 23 = dktX1_advance_1 := dk_seg dksX1_advance_0 23 rfl rfl
theorem dksX1_advance_2 : cX1_advance.data.toList.drop 46 = dktX1_advance_2 := dk_seg dksX1_advance_1 23 rfl rfl
theorem dX1_advance_0 : decode cX1_advance 0 = .ok (.iload_n 1, 1) := dk_27 (dk_at dksX1_advance_0 0 rfl rfl)
theorem dX1_advance_1 : decode cX1_advance 1 = .ok (.i2l, 1) := dk_133 (dk_at dksX1_advance_0 1 rfl rfl)
theorem dX1_advance_2 : decode cX1_advance 2 = .ok (.lconst 1, 1) := dk_10 (dk_at dksX1_advance_0 2 rfl rfl)
theorem dX1_advance_3 : decode cX1_advance 3 = .ok (.ldc2_w 103, 3) := dk_20 0 103 (dk_at dksX1_advance_0 3 rfl rfl)
theorem dX1_advance_6 : decode cX1_advance 6 = .ok (.invokestatic 64, 3) := dk_184 0 64 (dk_at dksX1_advance_0 6 rfl rfl)
theorem dX1_advance_9 : decode cX1_advance 9 = .ok (.invokestatic 73, 3) := dk_184 0 73 (dk_at dksX1_advance_0 9 rfl rfl)
theorem dX1_advance_12 : decode cX1_advance 12 = .ok (.aload_n 0, 1) := dk_42 (dk_at dksX1_advance_0 12 rfl rfl)
theorem dX1_advance_13 : decode cX1_advance 13 = .ok (.getfield 49, 3) := dk_180 0 49 (dk_at dksX1_advance_0 13 rfl rfl)
theorem dX1_advance_16 : decode cX1_advance 16 = .ok (.getfield 105, 3) := dk_180 0 105 (dk_at dksX1_advance_0 16 rfl rfl)
theorem dX1_advance_19 : decode cX1_advance 19 = .ok (.iload_n 1, 1) := dk_27 (dk_at dksX1_advance_0 19 rfl rfl)
theorem dX1_advance_20 : decode cX1_advance 20 = .ok (.iadd, 1) := dk_96 (dk_at dksX1_advance_0 20 rfl rfl)
theorem dX1_advance_21 : decode cX1_advance 21 = .ok (.ldc 108, 2) := dk_18 108 (dk_at dksX1_advance_0 21 rfl rfl)
theorem dX1_advance_23 : decode cX1_advance 23 = .ok (.if_icmp .le 6, 3) := dk_164 0 6 (dk_at dksX1_advance_1 0 rfl rfl)
theorem dX1_advance_26 : decode cX1_advance 26 = .ok (.bipush (-5), 2) := dk_16 251 (dk_at dksX1_advance_1 3 rfl rfl)
theorem dX1_advance_28 : decode cX1_advance 28 = .ok (.ireturn, 1) := dk_172 (dk_at dksX1_advance_1 5 rfl rfl)
theorem dX1_advance_29 : decode cX1_advance 29 = .ok (.aload_n 0, 1) := dk_42 (dk_at dksX1_advance_1 6 rfl rfl)
theorem dX1_advance_30 : decode cX1_advance 30 = .ok (.getfield 49, 3) := dk_180 0 49 (dk_at dksX1_advance_1 7 rfl rfl)
theorem dX1_advance_33 : decode cX1_advance 33 = .ok (.aload_n 0, 1) := dk_42 (dk_at dksX1_advance_1 10 rfl rfl)
theorem dX1_advance_34 : decode cX1_advance 34 = .ok (.getfield 49, 3) := dk_180 0 49 (dk_at dksX1_advance_1 11 rfl rfl)
theorem dX1_advance_37 : decode cX1_advance 37 = .ok (.getfield 105, 3) := dk_180 0 105 (dk_at dksX1_advance_1 14 rfl rfl)
theorem dX1_advance_40 : decode cX1_advance 40 = .ok (.iload_n 1, 1) := dk_27 (dk_at dksX1_advance_1 17 rfl rfl)
theorem dX1_advance_41 : decode cX1_advance 41 = .ok (.iadd, 1) := dk_96 (dk_at dksX1_advance_1 18 rfl rfl)
theorem dX1_advance_42 : decode cX1_advance 42 = .ok (.invokevirtual 109, 3) := dk_182 0 109 (dk_at dksX1_advance_1 19 rfl rfl)
theorem dX1_advance_45 : decode cX1_advance 45 = .ok (.aload_n 0, 1) := dk_42 (dk_at dksX1_advance_1 22 rfl rfl)
theorem dX1_advance_46 : decode cX1_advance 46 = .ok (.getfield 49, 3) := dk_180 0 49 (dk_at dksX1_advance_2 0 rfl rfl)
theorem dX1_advance_49 : decode cX1_advance 49 = .ok (.getfield 105, 3) := dk_180 0 105 (dk_at dksX1_advance_2 3 rfl rfl)
theorem dX1_advance_52 : decode cX1_advance 52 = .ok (.ireturn, 1) := dk_172 (dk_at dksX1_advance_2 6 rfl rfl)
abbrev cX1_nodeClock : ByteArray := prog_1_method_14_code
def yX1_nodeClock : MethodName := ⟨RX1, "nodeClock", "(I)I"⟩
def dkwX1_nodeClock_0 : List UInt8 := [42, 27, 182, 0, 117, 180, 0, 121, 42, 180, 0, 49, 180, 0, 105, 182, 0, 127, 172]
abbrev dktX1_nodeClock_0 : List UInt8 := dkwX1_nodeClock_0 ++ []
theorem dksX1_nodeClock_0 : cX1_nodeClock.data.toList.drop 0 = dktX1_nodeClock_0 := by decide +kernel
theorem dX1_nodeClock_0 : decode cX1_nodeClock 0 = .ok (.aload_n 0, 1) := dk_42 (dk_at dksX1_nodeClock_0 0 rfl rfl)
theorem dX1_nodeClock_1 : decode cX1_nodeClock 1 = .ok (.iload_n 1, 1) := dk_27 (dk_at dksX1_nodeClock_0 1 rfl rfl)
theorem dX1_nodeClock_2 : decode cX1_nodeClock 2 = .ok (.invokevirtual 117, 3) := dk_182 0 117 (dk_at dksX1_nodeClock_0 2 rfl rfl)
theorem dX1_nodeClock_5 : decode cX1_nodeClock 5 = .ok (.getfield 121, 3) := dk_180 0 121 (dk_at dksX1_nodeClock_0 5 rfl rfl)
theorem dX1_nodeClock_8 : decode cX1_nodeClock 8 = .ok (.aload_n 0, 1) := dk_42 (dk_at dksX1_nodeClock_0 8 rfl rfl)
theorem dX1_nodeClock_9 : decode cX1_nodeClock 9 = .ok (.getfield 49, 3) := dk_180 0 49 (dk_at dksX1_nodeClock_0 9 rfl rfl)
theorem dX1_nodeClock_12 : decode cX1_nodeClock 12 = .ok (.getfield 105, 3) := dk_180 0 105 (dk_at dksX1_nodeClock_0 12 rfl rfl)
theorem dX1_nodeClock_15 : decode cX1_nodeClock 15 = .ok (.invokevirtual 127, 3) := dk_182 0 127 (dk_at dksX1_nodeClock_0 15 rfl rfl)
theorem dX1_nodeClock_18 : decode cX1_nodeClock 18 = .ok (.ireturn, 1) := dk_172 (dk_at dksX1_nodeClock_0 18 rfl rfl)
abbrev cX1_node : ByteArray := prog_1_method_5_code
def yX1_node : MethodName := ⟨RX1, "node", "(I)LLeaderLeases$Node;"⟩
def dkwX1_node_1 : List UInt8 := [183, 0, 70, 191, 42, 180, 0, 49, 180, 0, 60, 27, 50, 176]
abbrev dktX1_node_1 : List UInt8 := dkwX1_node_1 ++ []
def dkwX1_node_0 : List UInt8 := [27, 133, 9, 42, 180, 0, 49, 180, 0, 60, 190, 4, 100, 133, 184, 0, 64, 154, 0, 11, 187, 0, 68, 89]
abbrev dktX1_node_0 : List UInt8 := dkwX1_node_0 ++ dktX1_node_1
theorem dksX1_node_0 : cX1_node.data.toList.drop 0 = dktX1_node_0 := by decide +kernel
theorem dksX1_node_1 : cX1_node.data.toList.drop 24 = dktX1_node_1 := dk_seg dksX1_node_0 24 rfl rfl
theorem dX1_node_0 : decode cX1_node 0 = .ok (.iload_n 1, 1) := dk_27 (dk_at dksX1_node_0 0 rfl rfl)
theorem dX1_node_1 : decode cX1_node 1 = .ok (.i2l, 1) := dk_133 (dk_at dksX1_node_0 1 rfl rfl)
theorem dX1_node_2 : decode cX1_node 2 = .ok (.lconst 0, 1) := dk_9 (dk_at dksX1_node_0 2 rfl rfl)
theorem dX1_node_3 : decode cX1_node 3 = .ok (.aload_n 0, 1) := dk_42 (dk_at dksX1_node_0 3 rfl rfl)
theorem dX1_node_4 : decode cX1_node 4 = .ok (.getfield 49, 3) := dk_180 0 49 (dk_at dksX1_node_0 4 rfl rfl)
theorem dX1_node_7 : decode cX1_node 7 = .ok (.getfield 60, 3) := dk_180 0 60 (dk_at dksX1_node_0 7 rfl rfl)
theorem dX1_node_10 : decode cX1_node 10 = .ok (.arraylength, 1) := dk_190 (dk_at dksX1_node_0 10 rfl rfl)
theorem dX1_node_11 : decode cX1_node 11 = .ok (.iconst 1, 1) := dk_4 (dk_at dksX1_node_0 11 rfl rfl)
theorem dX1_node_12 : decode cX1_node 12 = .ok (.isub, 1) := dk_100 (dk_at dksX1_node_0 12 rfl rfl)
theorem dX1_node_13 : decode cX1_node 13 = .ok (.i2l, 1) := dk_133 (dk_at dksX1_node_0 13 rfl rfl)
theorem dX1_node_14 : decode cX1_node 14 = .ok (.invokestatic 64, 3) := dk_184 0 64 (dk_at dksX1_node_0 14 rfl rfl)
theorem dX1_node_17 : decode cX1_node 17 = .ok (.ifCond .ne 11, 3) := dk_154 0 11 (dk_at dksX1_node_0 17 rfl rfl)
theorem dX1_node_20 : decode cX1_node 20 = .ok (.new 68, 3) := dk_187 0 68 (dk_at dksX1_node_0 20 rfl rfl)
theorem dX1_node_23 : decode cX1_node 23 = .ok (.dup, 1) := dk_89 (dk_at dksX1_node_0 23 rfl rfl)
theorem dX1_node_24 : decode cX1_node 24 = .ok (.invokespecial 70, 3) := dk_183 0 70 (dk_at dksX1_node_1 0 rfl rfl)
theorem dX1_node_27 : decode cX1_node 27 = .ok (.athrow, 1) := dk_191 (dk_at dksX1_node_1 3 rfl rfl)
theorem dX1_node_28 : decode cX1_node 28 = .ok (.aload_n 0, 1) := dk_42 (dk_at dksX1_node_1 4 rfl rfl)
theorem dX1_node_29 : decode cX1_node 29 = .ok (.getfield 49, 3) := dk_180 0 49 (dk_at dksX1_node_1 5 rfl rfl)
theorem dX1_node_32 : decode cX1_node 32 = .ok (.getfield 60, 3) := dk_180 0 60 (dk_at dksX1_node_1 8 rfl rfl)
theorem dX1_node_35 : decode cX1_node 35 = .ok (.iload_n 1, 1) := dk_27 (dk_at dksX1_node_1 11 rfl rfl)
theorem dX1_node_36 : decode cX1_node 36 = .ok (.aaload, 1) := dk_50 (dk_at dksX1_node_1 12 rfl rfl)
theorem dX1_node_37 : decode cX1_node 37 = .ok (.areturn, 1) := dk_176 (dk_at dksX1_node_1 13 rfl rfl)
abbrev cX1_campaign : ByteArray := prog_1_method_17_code
def yX1_campaign : MethodName := ⟨RX1, "campaign", "(I)I"⟩
def dkwX1_campaign_1 : List UInt8 := [153, 0, 5, 3, 172, 44, 4, 181, 0, 146, 42, 180, 0, 49, 27, 182, 0, 149, 4, 172]
abbrev dktX1_campaign_1 : List UInt8 := dkwX1_campaign_1 ++ []
def dkwX1_campaign_0 : List UInt8 := [42, 27, 182, 0, 117, 77, 42, 44, 182, 0, 142, 156, 0, 9, 42, 44, 182, 0, 142, 172, 44, 180, 0, 146]
abbrev dktX1_campaign_0 : List UInt8 := dkwX1_campaign_0 ++ dktX1_campaign_1
theorem dksX1_campaign_0 : cX1_campaign.data.toList.drop 0 = dktX1_campaign_0 := by decide +kernel
theorem dksX1_campaign_1 : cX1_campaign.data.toList.drop 24 = dktX1_campaign_1 := dk_seg dksX1_campaign_0 24 rfl rfl
theorem dX1_campaign_0 : decode cX1_campaign 0 = .ok (.aload_n 0, 1) := dk_42 (dk_at dksX1_campaign_0 0 rfl rfl)
theorem dX1_campaign_1 : decode cX1_campaign 1 = .ok (.iload_n 1, 1) := dk_27 (dk_at dksX1_campaign_0 1 rfl rfl)
theorem dX1_campaign_2 : decode cX1_campaign 2 = .ok (.invokevirtual 117, 3) := dk_182 0 117 (dk_at dksX1_campaign_0 2 rfl rfl)
theorem dX1_campaign_5 : decode cX1_campaign 5 = .ok (.astore_n 2, 1) := dk_77 (dk_at dksX1_campaign_0 5 rfl rfl)
theorem dX1_campaign_6 : decode cX1_campaign 6 = .ok (.aload_n 0, 1) := dk_42 (dk_at dksX1_campaign_0 6 rfl rfl)
theorem dX1_campaign_7 : decode cX1_campaign 7 = .ok (.aload_n 2, 1) := dk_44 (dk_at dksX1_campaign_0 7 rfl rfl)
theorem dX1_campaign_8 : decode cX1_campaign 8 = .ok (.invokevirtual 142, 3) := dk_182 0 142 (dk_at dksX1_campaign_0 8 rfl rfl)
theorem dX1_campaign_11 : decode cX1_campaign 11 = .ok (.ifCond .ge 9, 3) := dk_156 0 9 (dk_at dksX1_campaign_0 11 rfl rfl)
theorem dX1_campaign_14 : decode cX1_campaign 14 = .ok (.aload_n 0, 1) := dk_42 (dk_at dksX1_campaign_0 14 rfl rfl)
theorem dX1_campaign_15 : decode cX1_campaign 15 = .ok (.aload_n 2, 1) := dk_44 (dk_at dksX1_campaign_0 15 rfl rfl)
theorem dX1_campaign_16 : decode cX1_campaign 16 = .ok (.invokevirtual 142, 3) := dk_182 0 142 (dk_at dksX1_campaign_0 16 rfl rfl)
theorem dX1_campaign_19 : decode cX1_campaign 19 = .ok (.ireturn, 1) := dk_172 (dk_at dksX1_campaign_0 19 rfl rfl)
theorem dX1_campaign_20 : decode cX1_campaign 20 = .ok (.aload_n 2, 1) := dk_44 (dk_at dksX1_campaign_0 20 rfl rfl)
theorem dX1_campaign_21 : decode cX1_campaign 21 = .ok (.getfield 146, 3) := dk_180 0 146 (dk_at dksX1_campaign_0 21 rfl rfl)
theorem dX1_campaign_24 : decode cX1_campaign 24 = .ok (.ifCond .eq 5, 3) := dk_153 0 5 (dk_at dksX1_campaign_1 0 rfl rfl)
theorem dX1_campaign_27 : decode cX1_campaign 27 = .ok (.iconst 0, 1) := dk_3 (dk_at dksX1_campaign_1 3 rfl rfl)
theorem dX1_campaign_28 : decode cX1_campaign 28 = .ok (.ireturn, 1) := dk_172 (dk_at dksX1_campaign_1 4 rfl rfl)
theorem dX1_campaign_29 : decode cX1_campaign 29 = .ok (.aload_n 2, 1) := dk_44 (dk_at dksX1_campaign_1 5 rfl rfl)
theorem dX1_campaign_30 : decode cX1_campaign 30 = .ok (.iconst 1, 1) := dk_4 (dk_at dksX1_campaign_1 6 rfl rfl)
theorem dX1_campaign_31 : decode cX1_campaign 31 = .ok (.putfield 146, 3) := dk_181 0 146 (dk_at dksX1_campaign_1 7 rfl rfl)
theorem dX1_campaign_34 : decode cX1_campaign 34 = .ok (.aload_n 0, 1) := dk_42 (dk_at dksX1_campaign_1 10 rfl rfl)
theorem dX1_campaign_35 : decode cX1_campaign 35 = .ok (.getfield 49, 3) := dk_180 0 49 (dk_at dksX1_campaign_1 11 rfl rfl)
theorem dX1_campaign_38 : decode cX1_campaign 38 = .ok (.iload_n 1, 1) := dk_27 (dk_at dksX1_campaign_1 14 rfl rfl)
theorem dX1_campaign_39 : decode cX1_campaign 39 = .ok (.invokevirtual 149, 3) := dk_182 0 149 (dk_at dksX1_campaign_1 15 rfl rfl)
theorem dX1_campaign_42 : decode cX1_campaign 42 = .ok (.iconst 1, 1) := dk_4 (dk_at dksX1_campaign_1 18 rfl rfl)
theorem dX1_campaign_43 : decode cX1_campaign 43 = .ok (.ireturn, 1) := dk_172 (dk_at dksX1_campaign_1 19 rfl rfl)
abbrev cX1_unable : ByteArray := prog_1_method_16_code
def yX1_unable : MethodName := ⟨RX1, "unable", "(LLeaderLeases$Node;)I"⟩
def dkwX1_unable_1 : List UInt8 := [153, 0, 8, 16, 254, 167, 0, 4, 3, 172]
abbrev dktX1_unable_1 : List UInt8 := dkwX1_unable_1 ++ []
def dkwX1_unable_0 : List UInt8 := [43, 180, 0, 134, 154, 0, 8, 16, 253, 167, 0, 23, 43, 42, 180, 0, 49, 180, 0, 105, 182, 0, 138]
abbrev dktX1_unable_0 : List UInt8 := dkwX1_unable_0 ++ dktX1_unable_1
theorem dksX1_unable_0 : cX1_unable.data.toList.drop 0 = dktX1_unable_0 := by decide +kernel
theorem dksX1_unable_1 : cX1_unable.data.toList.drop 23 = dktX1_unable_1 := dk_seg dksX1_unable_0 23 rfl rfl
theorem dX1_unable_0 : decode cX1_unable 0 = .ok (.aload_n 1, 1) := dk_43 (dk_at dksX1_unable_0 0 rfl rfl)
theorem dX1_unable_1 : decode cX1_unable 1 = .ok (.getfield 134, 3) := dk_180 0 134 (dk_at dksX1_unable_0 1 rfl rfl)
theorem dX1_unable_4 : decode cX1_unable 4 = .ok (.ifCond .ne 8, 3) := dk_154 0 8 (dk_at dksX1_unable_0 4 rfl rfl)
theorem dX1_unable_7 : decode cX1_unable 7 = .ok (.bipush (-3), 2) := dk_16 253 (dk_at dksX1_unable_0 7 rfl rfl)
theorem dX1_unable_9 : decode cX1_unable 9 = .ok (.goto 23, 3) := dk_167 0 23 (dk_at dksX1_unable_0 9 rfl rfl)
theorem dX1_unable_12 : decode cX1_unable 12 = .ok (.aload_n 1, 1) := dk_43 (dk_at dksX1_unable_0 12 rfl rfl)
theorem dX1_unable_13 : decode cX1_unable 13 = .ok (.aload_n 0, 1) := dk_42 (dk_at dksX1_unable_0 13 rfl rfl)
theorem dX1_unable_14 : decode cX1_unable 14 = .ok (.getfield 49, 3) := dk_180 0 49 (dk_at dksX1_unable_0 14 rfl rfl)
theorem dX1_unable_17 : decode cX1_unable 17 = .ok (.getfield 105, 3) := dk_180 0 105 (dk_at dksX1_unable_0 17 rfl rfl)
theorem dX1_unable_20 : decode cX1_unable 20 = .ok (.invokevirtual 138, 3) := dk_182 0 138 (dk_at dksX1_unable_0 20 rfl rfl)
theorem dX1_unable_23 : decode cX1_unable 23 = .ok (.ifCond .eq 8, 3) := dk_153 0 8 (dk_at dksX1_unable_1 0 rfl rfl)
theorem dX1_unable_26 : decode cX1_unable 26 = .ok (.bipush (-2), 2) := dk_16 254 (dk_at dksX1_unable_1 3 rfl rfl)
theorem dX1_unable_28 : decode cX1_unable 28 = .ok (.goto 4, 3) := dk_167 0 4 (dk_at dksX1_unable_1 5 rfl rfl)
theorem dX1_unable_31 : decode cX1_unable 31 = .ok (.iconst 0, 1) := dk_3 (dk_at dksX1_unable_1 8 rfl rfl)
theorem dX1_unable_32 : decode cX1_unable 32 = .ok (.ireturn, 1) := dk_172 (dk_at dksX1_unable_1 9 rfl rfl)
abbrev cX1_withdraw : ByteArray := prog_1_method_18_code
def yX1_withdraw : MethodName := ⟨RX1, "withdraw", "(I)I"⟩
def dkwX1_withdraw_3 : List UInt8 := [182, 0, 168, 29, 172]
abbrev dktX1_withdraw_3 : List UInt8 := dkwX1_withdraw_3 ++ []
def dkwX1_withdraw_2 : List UInt8 := [158, 0, 21, 42, 180, 0, 49, 178, 0, 158, 27, 4, 188, 10, 89, 3, 29, 79, 182, 0, 164, 44]
abbrev dktX1_withdraw_2 : List UInt8 := dkwX1_withdraw_2 ++ dktX1_withdraw_3
def dkwX1_withdraw_1 : List UInt8 := [154, 0, 5, 3, 172, 44, 180, 0, 152, 62, 44, 3, 181, 0, 146, 44, 16, 252, 181, 0, 155, 29]
abbrev dktX1_withdraw_1 : List UInt8 := dkwX1_withdraw_1 ++ dktX1_withdraw_2
def dkwX1_withdraw_0 : List UInt8 := [42, 27, 182, 0, 117, 77, 42, 44, 182, 0, 142, 156, 0, 9, 42, 44, 182, 0, 142, 172, 44, 180, 0, 146]
abbrev dktX1_withdraw_0 : List UInt8 := dkwX1_withdraw_0 ++ dktX1_withdraw_1
theorem dksX1_withdraw_0 : cX1_withdraw.data.toList.drop 0 = dktX1_withdraw_0 := by decide +kernel
theorem dksX1_withdraw_1 : cX1_withdraw.data.toList.drop 24 = dktX1_withdraw_1 := dk_seg dksX1_withdraw_0 24 rfl rfl
theorem dksX1_withdraw_2 : cX1_withdraw.data.toList.drop 46 = dktX1_withdraw_2 := dk_seg dksX1_withdraw_1 22 rfl rfl
theorem dksX1_withdraw_3 : cX1_withdraw.data.toList.drop 68 = dktX1_withdraw_3 := dk_seg dksX1_withdraw_2 22 rfl rfl
theorem dX1_withdraw_0 : decode cX1_withdraw 0 = .ok (.aload_n 0, 1) := dk_42 (dk_at dksX1_withdraw_0 0 rfl rfl)
theorem dX1_withdraw_1 : decode cX1_withdraw 1 = .ok (.iload_n 1, 1) := dk_27 (dk_at dksX1_withdraw_0 1 rfl rfl)
theorem dX1_withdraw_2 : decode cX1_withdraw 2 = .ok (.invokevirtual 117, 3) := dk_182 0 117 (dk_at dksX1_withdraw_0 2 rfl rfl)
theorem dX1_withdraw_5 : decode cX1_withdraw 5 = .ok (.astore_n 2, 1) := dk_77 (dk_at dksX1_withdraw_0 5 rfl rfl)
theorem dX1_withdraw_6 : decode cX1_withdraw 6 = .ok (.aload_n 0, 1) := dk_42 (dk_at dksX1_withdraw_0 6 rfl rfl)
theorem dX1_withdraw_7 : decode cX1_withdraw 7 = .ok (.aload_n 2, 1) := dk_44 (dk_at dksX1_withdraw_0 7 rfl rfl)
theorem dX1_withdraw_8 : decode cX1_withdraw 8 = .ok (.invokevirtual 142, 3) := dk_182 0 142 (dk_at dksX1_withdraw_0 8 rfl rfl)
theorem dX1_withdraw_11 : decode cX1_withdraw 11 = .ok (.ifCond .ge 9, 3) := dk_156 0 9 (dk_at dksX1_withdraw_0 11 rfl rfl)
theorem dX1_withdraw_14 : decode cX1_withdraw 14 = .ok (.aload_n 0, 1) := dk_42 (dk_at dksX1_withdraw_0 14 rfl rfl)
theorem dX1_withdraw_15 : decode cX1_withdraw 15 = .ok (.aload_n 2, 1) := dk_44 (dk_at dksX1_withdraw_0 15 rfl rfl)
theorem dX1_withdraw_16 : decode cX1_withdraw 16 = .ok (.invokevirtual 142, 3) := dk_182 0 142 (dk_at dksX1_withdraw_0 16 rfl rfl)
theorem dX1_withdraw_19 : decode cX1_withdraw 19 = .ok (.ireturn, 1) := dk_172 (dk_at dksX1_withdraw_0 19 rfl rfl)
theorem dX1_withdraw_20 : decode cX1_withdraw 20 = .ok (.aload_n 2, 1) := dk_44 (dk_at dksX1_withdraw_0 20 rfl rfl)
theorem dX1_withdraw_21 : decode cX1_withdraw 21 = .ok (.getfield 146, 3) := dk_180 0 146 (dk_at dksX1_withdraw_0 21 rfl rfl)
theorem dX1_withdraw_24 : decode cX1_withdraw 24 = .ok (.ifCond .ne 5, 3) := dk_154 0 5 (dk_at dksX1_withdraw_1 0 rfl rfl)
theorem dX1_withdraw_27 : decode cX1_withdraw 27 = .ok (.iconst 0, 1) := dk_3 (dk_at dksX1_withdraw_1 3 rfl rfl)
theorem dX1_withdraw_28 : decode cX1_withdraw 28 = .ok (.ireturn, 1) := dk_172 (dk_at dksX1_withdraw_1 4 rfl rfl)
theorem dX1_withdraw_29 : decode cX1_withdraw 29 = .ok (.aload_n 2, 1) := dk_44 (dk_at dksX1_withdraw_1 5 rfl rfl)
theorem dX1_withdraw_30 : decode cX1_withdraw 30 = .ok (.getfield 152, 3) := dk_180 0 152 (dk_at dksX1_withdraw_1 6 rfl rfl)
theorem dX1_withdraw_33 : decode cX1_withdraw 33 = .ok (.istore_n 3, 1) := dk_62 (dk_at dksX1_withdraw_1 9 rfl rfl)
theorem dX1_withdraw_34 : decode cX1_withdraw 34 = .ok (.aload_n 2, 1) := dk_44 (dk_at dksX1_withdraw_1 10 rfl rfl)
theorem dX1_withdraw_35 : decode cX1_withdraw 35 = .ok (.iconst 0, 1) := dk_3 (dk_at dksX1_withdraw_1 11 rfl rfl)
theorem dX1_withdraw_36 : decode cX1_withdraw 36 = .ok (.putfield 146, 3) := dk_181 0 146 (dk_at dksX1_withdraw_1 12 rfl rfl)
theorem dX1_withdraw_39 : decode cX1_withdraw 39 = .ok (.aload_n 2, 1) := dk_44 (dk_at dksX1_withdraw_1 15 rfl rfl)
theorem dX1_withdraw_40 : decode cX1_withdraw 40 = .ok (.bipush (-4), 2) := dk_16 252 (dk_at dksX1_withdraw_1 16 rfl rfl)
theorem dX1_withdraw_42 : decode cX1_withdraw 42 = .ok (.putfield 155, 3) := dk_181 0 155 (dk_at dksX1_withdraw_1 18 rfl rfl)
theorem dX1_withdraw_45 : decode cX1_withdraw 45 = .ok (.iload_n 3, 1) := dk_29 (dk_at dksX1_withdraw_1 21 rfl rfl)
theorem dX1_withdraw_46 : decode cX1_withdraw 46 = .ok (.ifCond .le 21, 3) := dk_158 0 21 (dk_at dksX1_withdraw_2 0 rfl rfl)
theorem dX1_withdraw_49 : decode cX1_withdraw 49 = .ok (.aload_n 0, 1) := dk_42 (dk_at dksX1_withdraw_2 3 rfl rfl)
theorem dX1_withdraw_50 : decode cX1_withdraw 50 = .ok (.getfield 49, 3) := dk_180 0 49 (dk_at dksX1_withdraw_2 4 rfl rfl)
theorem dX1_withdraw_53 : decode cX1_withdraw 53 = .ok (.getstatic 158, 3) := dk_178 0 158 (dk_at dksX1_withdraw_2 7 rfl rfl)
theorem dX1_withdraw_56 : decode cX1_withdraw 56 = .ok (.iload_n 1, 1) := dk_27 (dk_at dksX1_withdraw_2 10 rfl rfl)
theorem dX1_withdraw_57 : decode cX1_withdraw 57 = .ok (.iconst 1, 1) := dk_4 (dk_at dksX1_withdraw_2 11 rfl rfl)
theorem dX1_withdraw_58 : decode cX1_withdraw 58 = .ok (.newarray .int, 2) := dk_188_10 (dk_at dksX1_withdraw_2 12 rfl rfl)
theorem dX1_withdraw_60 : decode cX1_withdraw 60 = .ok (.dup, 1) := dk_89 (dk_at dksX1_withdraw_2 14 rfl rfl)
theorem dX1_withdraw_61 : decode cX1_withdraw 61 = .ok (.iconst 0, 1) := dk_3 (dk_at dksX1_withdraw_2 15 rfl rfl)
theorem dX1_withdraw_62 : decode cX1_withdraw 62 = .ok (.iload_n 3, 1) := dk_29 (dk_at dksX1_withdraw_2 16 rfl rfl)
theorem dX1_withdraw_63 : decode cX1_withdraw 63 = .ok (.iastore, 1) := dk_79 (dk_at dksX1_withdraw_2 17 rfl rfl)
theorem dX1_withdraw_64 : decode cX1_withdraw 64 = .ok (.invokevirtual 164, 3) := dk_182 0 164 (dk_at dksX1_withdraw_2 18 rfl rfl)
theorem dX1_withdraw_67 : decode cX1_withdraw 67 = .ok (.aload_n 2, 1) := dk_44 (dk_at dksX1_withdraw_2 21 rfl rfl)
theorem dX1_withdraw_68 : decode cX1_withdraw 68 = .ok (.invokevirtual 168, 3) := dk_182 0 168 (dk_at dksX1_withdraw_3 0 rfl rfl)
theorem dX1_withdraw_71 : decode cX1_withdraw 71 = .ok (.iload_n 3, 1) := dk_29 (dk_at dksX1_withdraw_3 3 rfl rfl)
theorem dX1_withdraw_72 : decode cX1_withdraw 72 = .ok (.ireturn, 1) := dk_172 (dk_at dksX1_withdraw_3 4 rfl rfl)
abbrev cX1_crash : ByteArray := prog_1_method_19_code
def yX1_crash : MethodName := ⟨RX1, "crash", "(I)I"⟩
def dkwX1_crash_2 : List UInt8 := [44, 16, 252, 181, 0, 155, 44, 3, 181, 0, 175, 29, 172]
abbrev dktX1_crash_2 : List UInt8 := dkwX1_crash_2 ++ []
def dkwX1_crash_1 : List UInt8 := [180, 0, 49, 16, 7, 27, 29, 182, 0, 171, 44, 182, 0, 168, 44, 3, 181, 0, 134, 44, 3, 181, 0, 146]
abbrev dktX1_crash_1 : List UInt8 := dkwX1_crash_1 ++ dktX1_crash_2
def dkwX1_crash_0 : List UInt8 := [42, 27, 182, 0, 117, 77, 44, 180, 0, 134, 154, 0, 6, 16, 253, 172, 44, 180, 0, 152, 62, 42]
abbrev dktX1_crash_0 : List UInt8 := dkwX1_crash_0 ++ dktX1_crash_1
theorem dksX1_crash_0 : cX1_crash.data.toList.drop 0 = dktX1_crash_0 := by decide +kernel
theorem dksX1_crash_1 : cX1_crash.data.toList.drop 22 = dktX1_crash_1 := dk_seg dksX1_crash_0 22 rfl rfl
theorem dksX1_crash_2 : cX1_crash.data.toList.drop 46 = dktX1_crash_2 := dk_seg dksX1_crash_1 24 rfl rfl
theorem dX1_crash_0 : decode cX1_crash 0 = .ok (.aload_n 0, 1) := dk_42 (dk_at dksX1_crash_0 0 rfl rfl)
theorem dX1_crash_1 : decode cX1_crash 1 = .ok (.iload_n 1, 1) := dk_27 (dk_at dksX1_crash_0 1 rfl rfl)
theorem dX1_crash_2 : decode cX1_crash 2 = .ok (.invokevirtual 117, 3) := dk_182 0 117 (dk_at dksX1_crash_0 2 rfl rfl)
theorem dX1_crash_5 : decode cX1_crash 5 = .ok (.astore_n 2, 1) := dk_77 (dk_at dksX1_crash_0 5 rfl rfl)
theorem dX1_crash_6 : decode cX1_crash 6 = .ok (.aload_n 2, 1) := dk_44 (dk_at dksX1_crash_0 6 rfl rfl)
theorem dX1_crash_7 : decode cX1_crash 7 = .ok (.getfield 134, 3) := dk_180 0 134 (dk_at dksX1_crash_0 7 rfl rfl)
theorem dX1_crash_10 : decode cX1_crash 10 = .ok (.ifCond .ne 6, 3) := dk_154 0 6 (dk_at dksX1_crash_0 10 rfl rfl)
theorem dX1_crash_13 : decode cX1_crash 13 = .ok (.bipush (-3), 2) := dk_16 253 (dk_at dksX1_crash_0 13 rfl rfl)
theorem dX1_crash_15 : decode cX1_crash 15 = .ok (.ireturn, 1) := dk_172 (dk_at dksX1_crash_0 15 rfl rfl)
theorem dX1_crash_16 : decode cX1_crash 16 = .ok (.aload_n 2, 1) := dk_44 (dk_at dksX1_crash_0 16 rfl rfl)
theorem dX1_crash_17 : decode cX1_crash 17 = .ok (.getfield 152, 3) := dk_180 0 152 (dk_at dksX1_crash_0 17 rfl rfl)
theorem dX1_crash_20 : decode cX1_crash 20 = .ok (.istore_n 3, 1) := dk_62 (dk_at dksX1_crash_0 20 rfl rfl)
theorem dX1_crash_21 : decode cX1_crash 21 = .ok (.aload_n 0, 1) := dk_42 (dk_at dksX1_crash_0 21 rfl rfl)
theorem dX1_crash_22 : decode cX1_crash 22 = .ok (.getfield 49, 3) := dk_180 0 49 (dk_at dksX1_crash_1 0 rfl rfl)
theorem dX1_crash_25 : decode cX1_crash 25 = .ok (.bipush 7, 2) := dk_16 7 (dk_at dksX1_crash_1 3 rfl rfl)
theorem dX1_crash_27 : decode cX1_crash 27 = .ok (.iload_n 1, 1) := dk_27 (dk_at dksX1_crash_1 5 rfl rfl)
theorem dX1_crash_28 : decode cX1_crash 28 = .ok (.iload_n 3, 1) := dk_29 (dk_at dksX1_crash_1 6 rfl rfl)
theorem dX1_crash_29 : decode cX1_crash 29 = .ok (.invokevirtual 171, 3) := dk_182 0 171 (dk_at dksX1_crash_1 7 rfl rfl)
theorem dX1_crash_32 : decode cX1_crash 32 = .ok (.aload_n 2, 1) := dk_44 (dk_at dksX1_crash_1 10 rfl rfl)
theorem dX1_crash_33 : decode cX1_crash 33 = .ok (.invokevirtual 168, 3) := dk_182 0 168 (dk_at dksX1_crash_1 11 rfl rfl)
theorem dX1_crash_36 : decode cX1_crash 36 = .ok (.aload_n 2, 1) := dk_44 (dk_at dksX1_crash_1 14 rfl rfl)
theorem dX1_crash_37 : decode cX1_crash 37 = .ok (.iconst 0, 1) := dk_3 (dk_at dksX1_crash_1 15 rfl rfl)
theorem dX1_crash_38 : decode cX1_crash 38 = .ok (.putfield 134, 3) := dk_181 0 134 (dk_at dksX1_crash_1 16 rfl rfl)
theorem dX1_crash_41 : decode cX1_crash 41 = .ok (.aload_n 2, 1) := dk_44 (dk_at dksX1_crash_1 19 rfl rfl)
theorem dX1_crash_42 : decode cX1_crash 42 = .ok (.iconst 0, 1) := dk_3 (dk_at dksX1_crash_1 20 rfl rfl)
theorem dX1_crash_43 : decode cX1_crash 43 = .ok (.putfield 146, 3) := dk_181 0 146 (dk_at dksX1_crash_1 21 rfl rfl)
theorem dX1_crash_46 : decode cX1_crash 46 = .ok (.aload_n 2, 1) := dk_44 (dk_at dksX1_crash_2 0 rfl rfl)
theorem dX1_crash_47 : decode cX1_crash 47 = .ok (.bipush (-4), 2) := dk_16 252 (dk_at dksX1_crash_2 1 rfl rfl)
theorem dX1_crash_49 : decode cX1_crash 49 = .ok (.putfield 155, 3) := dk_181 0 155 (dk_at dksX1_crash_2 3 rfl rfl)
theorem dX1_crash_52 : decode cX1_crash 52 = .ok (.aload_n 2, 1) := dk_44 (dk_at dksX1_crash_2 6 rfl rfl)
theorem dX1_crash_53 : decode cX1_crash 53 = .ok (.iconst 0, 1) := dk_3 (dk_at dksX1_crash_2 7 rfl rfl)
theorem dX1_crash_54 : decode cX1_crash 54 = .ok (.putfield 175, 3) := dk_181 0 175 (dk_at dksX1_crash_2 8 rfl rfl)
theorem dX1_crash_57 : decode cX1_crash 57 = .ok (.iload_n 3, 1) := dk_29 (dk_at dksX1_crash_2 11 rfl rfl)
theorem dX1_crash_58 : decode cX1_crash 58 = .ok (.ireturn, 1) := dk_172 (dk_at dksX1_crash_2 12 rfl rfl)
abbrev cX1_restart : ByteArray := prog_1_method_20_code
def yX1_restart : MethodName := ⟨RX1, "restart", "(I)Z"⟩
def dkwX1_restart_1 : List UInt8 := [3, 172]
abbrev dktX1_restart_1 : List UInt8 := dkwX1_restart_1 ++ []
def dkwX1_restart_0 : List UInt8 := [42, 27, 182, 0, 117, 77, 44, 180, 0, 134, 62, 44, 4, 181, 0, 134, 29, 154, 0, 7, 4, 167, 0, 4]
abbrev dktX1_restart_0 : List UInt8 := dkwX1_restart_0 ++ dktX1_restart_1
theorem dksX1_restart_0 : cX1_restart.data.toList.drop 0 = dktX1_restart_0 := by decide +kernel
theorem dksX1_restart_1 : cX1_restart.data.toList.drop 24 = dktX1_restart_1 := dk_seg dksX1_restart_0 24 rfl rfl
theorem dX1_restart_0 : decode cX1_restart 0 = .ok (.aload_n 0, 1) := dk_42 (dk_at dksX1_restart_0 0 rfl rfl)
theorem dX1_restart_1 : decode cX1_restart 1 = .ok (.iload_n 1, 1) := dk_27 (dk_at dksX1_restart_0 1 rfl rfl)
theorem dX1_restart_2 : decode cX1_restart 2 = .ok (.invokevirtual 117, 3) := dk_182 0 117 (dk_at dksX1_restart_0 2 rfl rfl)
theorem dX1_restart_5 : decode cX1_restart 5 = .ok (.astore_n 2, 1) := dk_77 (dk_at dksX1_restart_0 5 rfl rfl)
theorem dX1_restart_6 : decode cX1_restart 6 = .ok (.aload_n 2, 1) := dk_44 (dk_at dksX1_restart_0 6 rfl rfl)
theorem dX1_restart_7 : decode cX1_restart 7 = .ok (.getfield 134, 3) := dk_180 0 134 (dk_at dksX1_restart_0 7 rfl rfl)
theorem dX1_restart_10 : decode cX1_restart 10 = .ok (.istore_n 3, 1) := dk_62 (dk_at dksX1_restart_0 10 rfl rfl)
theorem dX1_restart_11 : decode cX1_restart 11 = .ok (.aload_n 2, 1) := dk_44 (dk_at dksX1_restart_0 11 rfl rfl)
theorem dX1_restart_12 : decode cX1_restart 12 = .ok (.iconst 1, 1) := dk_4 (dk_at dksX1_restart_0 12 rfl rfl)
theorem dX1_restart_13 : decode cX1_restart 13 = .ok (.putfield 134, 3) := dk_181 0 134 (dk_at dksX1_restart_0 13 rfl rfl)
theorem dX1_restart_16 : decode cX1_restart 16 = .ok (.iload_n 3, 1) := dk_29 (dk_at dksX1_restart_0 16 rfl rfl)
theorem dX1_restart_17 : decode cX1_restart 17 = .ok (.ifCond .ne 7, 3) := dk_154 0 7 (dk_at dksX1_restart_0 17 rfl rfl)
theorem dX1_restart_20 : decode cX1_restart 20 = .ok (.iconst 1, 1) := dk_4 (dk_at dksX1_restart_0 20 rfl rfl)
theorem dX1_restart_21 : decode cX1_restart 21 = .ok (.goto 4, 3) := dk_167 0 4 (dk_at dksX1_restart_0 21 rfl rfl)
theorem dX1_restart_24 : decode cX1_restart 24 = .ok (.iconst 0, 1) := dk_3 (dk_at dksX1_restart_1 0 rfl rfl)
theorem dX1_restart_25 : decode cX1_restart 25 = .ok (.ireturn, 1) := dk_172 (dk_at dksX1_restart_1 1 rfl rfl)
abbrev cX1_pause : ByteArray := prog_1_method_21_code
def yX1_pause : MethodName := ⟨RX1, "pause", "(II)I"⟩
def dkwX1_pause_2 : List UInt8 := [181, 0, 175, 45, 180, 0, 175, 172]
abbrev dktX1_pause_2 : List UInt8 := dkwX1_pause_2 ++ []
def dkwX1_pause_1 : List UInt8 := [154, 0, 6, 16, 253, 172, 45, 45, 180, 0, 175, 42, 180, 0, 49, 180, 0, 105, 28, 96, 184, 0, 180]
abbrev dktX1_pause_1 : List UInt8 := dkwX1_pause_1 ++ dktX1_pause_2
def dkwX1_pause_0 : List UInt8 := [42, 27, 182, 0, 117, 78, 28, 133, 10, 20, 0, 178, 184, 0, 64, 184, 0, 73, 45, 180, 0, 134]
abbrev dktX1_pause_0 : List UInt8 := dkwX1_pause_0 ++ dktX1_pause_1
theorem dksX1_pause_0 : cX1_pause.data.toList.drop 0 = dktX1_pause_0 := by decide +kernel
theorem dksX1_pause_1 : cX1_pause.data.toList.drop 22 = dktX1_pause_1 := dk_seg dksX1_pause_0 22 rfl rfl
theorem dksX1_pause_2 : cX1_pause.data.toList.drop 45 = dktX1_pause_2 := dk_seg dksX1_pause_1 23 rfl rfl
theorem dX1_pause_0 : decode cX1_pause 0 = .ok (.aload_n 0, 1) := dk_42 (dk_at dksX1_pause_0 0 rfl rfl)
theorem dX1_pause_1 : decode cX1_pause 1 = .ok (.iload_n 1, 1) := dk_27 (dk_at dksX1_pause_0 1 rfl rfl)
theorem dX1_pause_2 : decode cX1_pause 2 = .ok (.invokevirtual 117, 3) := dk_182 0 117 (dk_at dksX1_pause_0 2 rfl rfl)
theorem dX1_pause_5 : decode cX1_pause 5 = .ok (.astore_n 3, 1) := dk_78 (dk_at dksX1_pause_0 5 rfl rfl)
theorem dX1_pause_6 : decode cX1_pause 6 = .ok (.iload_n 2, 1) := dk_28 (dk_at dksX1_pause_0 6 rfl rfl)
theorem dX1_pause_7 : decode cX1_pause 7 = .ok (.i2l, 1) := dk_133 (dk_at dksX1_pause_0 7 rfl rfl)
theorem dX1_pause_8 : decode cX1_pause 8 = .ok (.lconst 1, 1) := dk_10 (dk_at dksX1_pause_0 8 rfl rfl)
theorem dX1_pause_9 : decode cX1_pause 9 = .ok (.ldc2_w 178, 3) := dk_20 0 178 (dk_at dksX1_pause_0 9 rfl rfl)
theorem dX1_pause_12 : decode cX1_pause 12 = .ok (.invokestatic 64, 3) := dk_184 0 64 (dk_at dksX1_pause_0 12 rfl rfl)
theorem dX1_pause_15 : decode cX1_pause 15 = .ok (.invokestatic 73, 3) := dk_184 0 73 (dk_at dksX1_pause_0 15 rfl rfl)
theorem dX1_pause_18 : decode cX1_pause 18 = .ok (.aload_n 3, 1) := dk_45 (dk_at dksX1_pause_0 18 rfl rfl)
theorem dX1_pause_19 : decode cX1_pause 19 = .ok (.getfield 134, 3) := dk_180 0 134 (dk_at dksX1_pause_0 19 rfl rfl)
theorem dX1_pause_22 : decode cX1_pause 22 = .ok (.ifCond .ne 6, 3) := dk_154 0 6 (dk_at dksX1_pause_1 0 rfl rfl)
theorem dX1_pause_25 : decode cX1_pause 25 = .ok (.bipush (-3), 2) := dk_16 253 (dk_at dksX1_pause_1 3 rfl rfl)
theorem dX1_pause_27 : decode cX1_pause 27 = .ok (.ireturn, 1) := dk_172 (dk_at dksX1_pause_1 5 rfl rfl)
theorem dX1_pause_28 : decode cX1_pause 28 = .ok (.aload_n 3, 1) := dk_45 (dk_at dksX1_pause_1 6 rfl rfl)
theorem dX1_pause_29 : decode cX1_pause 29 = .ok (.aload_n 3, 1) := dk_45 (dk_at dksX1_pause_1 7 rfl rfl)
theorem dX1_pause_30 : decode cX1_pause 30 = .ok (.getfield 175, 3) := dk_180 0 175 (dk_at dksX1_pause_1 8 rfl rfl)
theorem dX1_pause_33 : decode cX1_pause 33 = .ok (.aload_n 0, 1) := dk_42 (dk_at dksX1_pause_1 11 rfl rfl)
theorem dX1_pause_34 : decode cX1_pause 34 = .ok (.getfield 49, 3) := dk_180 0 49 (dk_at dksX1_pause_1 12 rfl rfl)
theorem dX1_pause_37 : decode cX1_pause 37 = .ok (.getfield 105, 3) := dk_180 0 105 (dk_at dksX1_pause_1 15 rfl rfl)
theorem dX1_pause_40 : decode cX1_pause 40 = .ok (.iload_n 2, 1) := dk_28 (dk_at dksX1_pause_1 18 rfl rfl)
theorem dX1_pause_41 : decode cX1_pause 41 = .ok (.iadd, 1) := dk_96 (dk_at dksX1_pause_1 19 rfl rfl)
theorem dX1_pause_42 : decode cX1_pause 42 = .ok (.invokestatic 180, 3) := dk_184 0 180 (dk_at dksX1_pause_1 20 rfl rfl)
theorem dX1_pause_45 : decode cX1_pause 45 = .ok (.putfield 175, 3) := dk_181 0 175 (dk_at dksX1_pause_2 0 rfl rfl)
theorem dX1_pause_48 : decode cX1_pause 48 = .ok (.aload_n 3, 1) := dk_45 (dk_at dksX1_pause_2 3 rfl rfl)
theorem dX1_pause_49 : decode cX1_pause 49 = .ok (.getfield 175, 3) := dk_180 0 175 (dk_at dksX1_pause_2 4 rfl rfl)
theorem dX1_pause_52 : decode cX1_pause 52 = .ok (.ireturn, 1) := dk_172 (dk_at dksX1_pause_2 7 rfl rfl)
abbrev cX1_setCut : ByteArray := prog_1_method_22_code
def yX1_setCut : MethodName := ⟨RX1, "setCut", "(IZ)Z"⟩
def dkwX1_setCut_0 : List UInt8 := [42, 27, 182, 0, 117, 78, 45, 180, 0, 186, 54, 4, 45, 28, 181, 0, 186, 21, 4, 172]
abbrev dktX1_setCut_0 : List UInt8 := dkwX1_setCut_0 ++ []
theorem dksX1_setCut_0 : cX1_setCut.data.toList.drop 0 = dktX1_setCut_0 := by decide +kernel
theorem dX1_setCut_0 : decode cX1_setCut 0 = .ok (.aload_n 0, 1) := dk_42 (dk_at dksX1_setCut_0 0 rfl rfl)
theorem dX1_setCut_1 : decode cX1_setCut 1 = .ok (.iload_n 1, 1) := dk_27 (dk_at dksX1_setCut_0 1 rfl rfl)
theorem dX1_setCut_2 : decode cX1_setCut 2 = .ok (.invokevirtual 117, 3) := dk_182 0 117 (dk_at dksX1_setCut_0 2 rfl rfl)
theorem dX1_setCut_5 : decode cX1_setCut 5 = .ok (.astore_n 3, 1) := dk_78 (dk_at dksX1_setCut_0 5 rfl rfl)
theorem dX1_setCut_6 : decode cX1_setCut 6 = .ok (.aload_n 3, 1) := dk_45 (dk_at dksX1_setCut_0 6 rfl rfl)
theorem dX1_setCut_7 : decode cX1_setCut 7 = .ok (.getfield 186, 3) := dk_180 0 186 (dk_at dksX1_setCut_0 7 rfl rfl)
theorem dX1_setCut_10 : decode cX1_setCut 10 = .ok (.istore 4, 2) := dk_54 4 (dk_at dksX1_setCut_0 10 rfl rfl)
theorem dX1_setCut_12 : decode cX1_setCut 12 = .ok (.aload_n 3, 1) := dk_45 (dk_at dksX1_setCut_0 12 rfl rfl)
theorem dX1_setCut_13 : decode cX1_setCut 13 = .ok (.iload_n 2, 1) := dk_28 (dk_at dksX1_setCut_0 13 rfl rfl)
theorem dX1_setCut_14 : decode cX1_setCut 14 = .ok (.putfield 186, 3) := dk_181 0 186 (dk_at dksX1_setCut_0 14 rfl rfl)
theorem dX1_setCut_17 : decode cX1_setCut 17 = .ok (.iload 4, 2) := dk_21 4 (dk_at dksX1_setCut_0 17 rfl rfl)
theorem dX1_setCut_19 : decode cX1_setCut 19 = .ok (.ireturn, 1) := dk_172 (dk_at dksX1_setCut_0 19 rfl rfl)
abbrev cX1_planOutage : ByteArray := prog_1_method_23_code
def yX1_planOutage : MethodName := ⟨RX1, "planOutage", "(III)I"⟩
def dkwX1_planOutage_4 : List UInt8 := [185, 0, 16, 2, 0, 87, 21, 4, 29, 96, 172]
abbrev dktX1_planOutage_4 : List UInt8 := dkwX1_planOutage_4 ++ []
def dkwX1_planOutage_3 : List UInt8 := [42, 180, 0, 49, 180, 0, 189, 187, 0, 195, 89, 27, 21, 4, 21, 4, 29, 96, 183, 0, 197]
abbrev dktX1_planOutage_3 : List UInt8 := dkwX1_planOutage_3 ++ dktX1_planOutage_4
def dkwX1_planOutage_2 : List UInt8 := [185, 0, 192, 1, 0, 16, 20, 160, 0, 6, 16, 251, 172, 42, 180, 0, 49, 180, 0, 105, 28, 96, 54, 4]
abbrev dktX1_planOutage_2 : List UInt8 := dkwX1_planOutage_2 ++ dktX1_planOutage_3
def dkwX1_planOutage_1 : List UInt8 := [184, 0, 64, 153, 0, 7, 4, 167, 0, 4, 3, 184, 0, 73, 42, 180, 0, 49, 180, 0, 189]
abbrev dktX1_planOutage_1 : List UInt8 := dkwX1_planOutage_1 ++ dktX1_planOutage_2
def dkwX1_planOutage_0 : List UInt8 := [42, 27, 182, 0, 117, 87, 28, 133, 10, 20, 0, 178, 184, 0, 64, 153, 0, 19, 29, 133, 10, 20, 0, 178]
abbrev dktX1_planOutage_0 : List UInt8 := dkwX1_planOutage_0 ++ dktX1_planOutage_1
theorem dksX1_planOutage_0 : cX1_planOutage.data.toList.drop 0 = dktX1_planOutage_0 := by decide +kernel
theorem dksX1_planOutage_1 : cX1_planOutage.data.toList.drop 24 = dktX1_planOutage_1 := dk_seg dksX1_planOutage_0 24 rfl rfl
theorem dksX1_planOutage_2 : cX1_planOutage.data.toList.drop 45 = dktX1_planOutage_2 := dk_seg dksX1_planOutage_1 21 rfl rfl
theorem dksX1_planOutage_3 : cX1_planOutage.data.toList.drop 69 = dktX1_planOutage_3 := dk_seg dksX1_planOutage_2 24 rfl rfl
theorem dksX1_planOutage_4 : cX1_planOutage.data.toList.drop 90 = dktX1_planOutage_4 := dk_seg dksX1_planOutage_3 21 rfl rfl
theorem dX1_planOutage_0 : decode cX1_planOutage 0 = .ok (.aload_n 0, 1) := dk_42 (dk_at dksX1_planOutage_0 0 rfl rfl)
theorem dX1_planOutage_1 : decode cX1_planOutage 1 = .ok (.iload_n 1, 1) := dk_27 (dk_at dksX1_planOutage_0 1 rfl rfl)
theorem dX1_planOutage_2 : decode cX1_planOutage 2 = .ok (.invokevirtual 117, 3) := dk_182 0 117 (dk_at dksX1_planOutage_0 2 rfl rfl)
theorem dX1_planOutage_5 : decode cX1_planOutage 5 = .ok (.pop, 1) := dk_87 (dk_at dksX1_planOutage_0 5 rfl rfl)
theorem dX1_planOutage_6 : decode cX1_planOutage 6 = .ok (.iload_n 2, 1) := dk_28 (dk_at dksX1_planOutage_0 6 rfl rfl)
theorem dX1_planOutage_7 : decode cX1_planOutage 7 = .ok (.i2l, 1) := dk_133 (dk_at dksX1_planOutage_0 7 rfl rfl)
theorem dX1_planOutage_8 : decode cX1_planOutage 8 = .ok (.lconst 1, 1) := dk_10 (dk_at dksX1_planOutage_0 8 rfl rfl)
theorem dX1_planOutage_9 : decode cX1_planOutage 9 = .ok (.ldc2_w 178, 3) := dk_20 0 178 (dk_at dksX1_planOutage_0 9 rfl rfl)
theorem dX1_planOutage_12 : decode cX1_planOutage 12 = .ok (.invokestatic 64, 3) := dk_184 0 64 (dk_at dksX1_planOutage_0 12 rfl rfl)
theorem dX1_planOutage_15 : decode cX1_planOutage 15 = .ok (.ifCond .eq 19, 3) := dk_153 0 19 (dk_at dksX1_planOutage_0 15 rfl rfl)
theorem dX1_planOutage_18 : decode cX1_planOutage 18 = .ok (.iload_n 3, 1) := dk_29 (dk_at dksX1_planOutage_0 18 rfl rfl)
theorem dX1_planOutage_19 : decode cX1_planOutage 19 = .ok (.i2l, 1) := dk_133 (dk_at dksX1_planOutage_0 19 rfl rfl)
theorem dX1_planOutage_20 : decode cX1_planOutage 20 = .ok (.lconst 1, 1) := dk_10 (dk_at dksX1_planOutage_0 20 rfl rfl)
theorem dX1_planOutage_21 : decode cX1_planOutage 21 = .ok (.ldc2_w 178, 3) := dk_20 0 178 (dk_at dksX1_planOutage_0 21 rfl rfl)
theorem dX1_planOutage_24 : decode cX1_planOutage 24 = .ok (.invokestatic 64, 3) := dk_184 0 64 (dk_at dksX1_planOutage_1 0 rfl rfl)
theorem dX1_planOutage_27 : decode cX1_planOutage 27 = .ok (.ifCond .eq 7, 3) := dk_153 0 7 (dk_at dksX1_planOutage_1 3 rfl rfl)
theorem dX1_planOutage_30 : decode cX1_planOutage 30 = .ok (.iconst 1, 1) := dk_4 (dk_at dksX1_planOutage_1 6 rfl rfl)
theorem dX1_planOutage_31 : decode cX1_planOutage 31 = .ok (.goto 4, 3) := dk_167 0 4 (dk_at dksX1_planOutage_1 7 rfl rfl)
theorem dX1_planOutage_34 : decode cX1_planOutage 34 = .ok (.iconst 0, 1) := dk_3 (dk_at dksX1_planOutage_1 10 rfl rfl)
theorem dX1_planOutage_35 : decode cX1_planOutage 35 = .ok (.invokestatic 73, 3) := dk_184 0 73 (dk_at dksX1_planOutage_1 11 rfl rfl)
theorem dX1_planOutage_38 : decode cX1_planOutage 38 = .ok (.aload_n 0, 1) := dk_42 (dk_at dksX1_planOutage_1 14 rfl rfl)
theorem dX1_planOutage_39 : decode cX1_planOutage 39 = .ok (.getfield 49, 3) := dk_180 0 49 (dk_at dksX1_planOutage_1 15 rfl rfl)
theorem dX1_planOutage_42 : decode cX1_planOutage 42 = .ok (.getfield 189, 3) := dk_180 0 189 (dk_at dksX1_planOutage_1 18 rfl rfl)
theorem dX1_planOutage_45 : decode cX1_planOutage 45 = .ok (.invokeinterface 192 1, 5) := by decide +kernel
theorem dX1_planOutage_50 : decode cX1_planOutage 50 = .ok (.bipush 20, 2) := dk_16 20 (dk_at dksX1_planOutage_2 5 rfl rfl)
theorem dX1_planOutage_52 : decode cX1_planOutage 52 = .ok (.if_icmp .ne 6, 3) := dk_160 0 6 (dk_at dksX1_planOutage_2 7 rfl rfl)
theorem dX1_planOutage_55 : decode cX1_planOutage 55 = .ok (.bipush (-5), 2) := dk_16 251 (dk_at dksX1_planOutage_2 10 rfl rfl)
theorem dX1_planOutage_57 : decode cX1_planOutage 57 = .ok (.ireturn, 1) := dk_172 (dk_at dksX1_planOutage_2 12 rfl rfl)
theorem dX1_planOutage_58 : decode cX1_planOutage 58 = .ok (.aload_n 0, 1) := dk_42 (dk_at dksX1_planOutage_2 13 rfl rfl)
theorem dX1_planOutage_59 : decode cX1_planOutage 59 = .ok (.getfield 49, 3) := dk_180 0 49 (dk_at dksX1_planOutage_2 14 rfl rfl)
theorem dX1_planOutage_62 : decode cX1_planOutage 62 = .ok (.getfield 105, 3) := dk_180 0 105 (dk_at dksX1_planOutage_2 17 rfl rfl)
theorem dX1_planOutage_65 : decode cX1_planOutage 65 = .ok (.iload_n 2, 1) := dk_28 (dk_at dksX1_planOutage_2 20 rfl rfl)
theorem dX1_planOutage_66 : decode cX1_planOutage 66 = .ok (.iadd, 1) := dk_96 (dk_at dksX1_planOutage_2 21 rfl rfl)
theorem dX1_planOutage_67 : decode cX1_planOutage 67 = .ok (.istore 4, 2) := dk_54 4 (dk_at dksX1_planOutage_2 22 rfl rfl)
theorem dX1_planOutage_69 : decode cX1_planOutage 69 = .ok (.aload_n 0, 1) := dk_42 (dk_at dksX1_planOutage_3 0 rfl rfl)
theorem dX1_planOutage_70 : decode cX1_planOutage 70 = .ok (.getfield 49, 3) := dk_180 0 49 (dk_at dksX1_planOutage_3 1 rfl rfl)
theorem dX1_planOutage_73 : decode cX1_planOutage 73 = .ok (.getfield 189, 3) := dk_180 0 189 (dk_at dksX1_planOutage_3 4 rfl rfl)
theorem dX1_planOutage_76 : decode cX1_planOutage 76 = .ok (.new 195, 3) := dk_187 0 195 (dk_at dksX1_planOutage_3 7 rfl rfl)
theorem dX1_planOutage_79 : decode cX1_planOutage 79 = .ok (.dup, 1) := dk_89 (dk_at dksX1_planOutage_3 10 rfl rfl)
theorem dX1_planOutage_80 : decode cX1_planOutage 80 = .ok (.iload_n 1, 1) := dk_27 (dk_at dksX1_planOutage_3 11 rfl rfl)
theorem dX1_planOutage_81 : decode cX1_planOutage 81 = .ok (.iload 4, 2) := dk_21 4 (dk_at dksX1_planOutage_3 12 rfl rfl)
theorem dX1_planOutage_83 : decode cX1_planOutage 83 = .ok (.iload 4, 2) := dk_21 4 (dk_at dksX1_planOutage_3 14 rfl rfl)
theorem dX1_planOutage_85 : decode cX1_planOutage 85 = .ok (.iload_n 3, 1) := dk_29 (dk_at dksX1_planOutage_3 16 rfl rfl)
theorem dX1_planOutage_86 : decode cX1_planOutage 86 = .ok (.iadd, 1) := dk_96 (dk_at dksX1_planOutage_3 17 rfl rfl)
theorem dX1_planOutage_87 : decode cX1_planOutage 87 = .ok (.invokespecial 197, 3) := dk_183 0 197 (dk_at dksX1_planOutage_3 18 rfl rfl)
theorem dX1_planOutage_90 : decode cX1_planOutage 90 = .ok (.invokeinterface 16 2, 5) := by decide +kernel
theorem dX1_planOutage_95 : decode cX1_planOutage 95 = .ok (.pop, 1) := dk_87 (dk_at dksX1_planOutage_4 5 rfl rfl)
theorem dX1_planOutage_96 : decode cX1_planOutage 96 = .ok (.iload 4, 2) := dk_21 4 (dk_at dksX1_planOutage_4 6 rfl rfl)
theorem dX1_planOutage_98 : decode cX1_planOutage 98 = .ok (.iload_n 3, 1) := dk_29 (dk_at dksX1_planOutage_4 8 rfl rfl)
theorem dX1_planOutage_99 : decode cX1_planOutage 99 = .ok (.iadd, 1) := dk_96 (dk_at dksX1_planOutage_4 9 rfl rfl)
theorem dX1_planOutage_100 : decode cX1_planOutage 100 = .ok (.ireturn, 1) := dk_172 (dk_at dksX1_planOutage_4 10 rfl rfl)
abbrev cX1_write : ByteArray := prog_1_method_26_code
def yX1_write : MethodName := ⟨RX1, "write", "(III)I"⟩
def dkwX1_write_3 : List UInt8 := [180, 0, 152, 172]
abbrev dktX1_write_3 : List UInt8 := dkwX1_write_3 ++ []
def dkwX1_write_2 : List UInt8 := [188, 10, 89, 3, 25, 4, 180, 0, 152, 79, 89, 4, 28, 79, 89, 5, 29, 79, 182, 0, 164, 25, 4]
abbrev dktX1_write_2 : List UInt8 := dkwX1_write_2 ++ dktX1_write_3
def dkwX1_write_1 : List UInt8 := [25, 4, 182, 0, 210, 156, 0, 10, 42, 25, 4, 182, 0, 210, 172, 42, 180, 0, 49, 178, 0, 213, 27, 6]
abbrev dktX1_write_1 : List UInt8 := dkwX1_write_1 ++ dktX1_write_2
def dkwX1_write_0 : List UInt8 := [42, 27, 182, 0, 117, 58, 4, 28, 184, 0, 205, 29, 133, 9, 20, 0, 208, 184, 0, 64, 184, 0, 73, 42]
abbrev dktX1_write_0 : List UInt8 := dkwX1_write_0 ++ dktX1_write_1
theorem dksX1_write_0 : cX1_write.data.toList.drop 0 = dktX1_write_0 := by decide +kernel
theorem dksX1_write_1 : cX1_write.data.toList.drop 24 = dktX1_write_1 := dk_seg dksX1_write_0 24 rfl rfl
theorem dksX1_write_2 : cX1_write.data.toList.drop 48 = dktX1_write_2 := dk_seg dksX1_write_1 24 rfl rfl
theorem dksX1_write_3 : cX1_write.data.toList.drop 71 = dktX1_write_3 := dk_seg dksX1_write_2 23 rfl rfl
theorem dX1_write_0 : decode cX1_write 0 = .ok (.aload_n 0, 1) := dk_42 (dk_at dksX1_write_0 0 rfl rfl)
theorem dX1_write_1 : decode cX1_write 1 = .ok (.iload_n 1, 1) := dk_27 (dk_at dksX1_write_0 1 rfl rfl)
theorem dX1_write_2 : decode cX1_write 2 = .ok (.invokevirtual 117, 3) := dk_182 0 117 (dk_at dksX1_write_0 2 rfl rfl)
theorem dX1_write_5 : decode cX1_write 5 = .ok (.astore 4, 2) := dk_58 4 (dk_at dksX1_write_0 5 rfl rfl)
theorem dX1_write_7 : decode cX1_write 7 = .ok (.iload_n 2, 1) := dk_28 (dk_at dksX1_write_0 7 rfl rfl)
theorem dX1_write_8 : decode cX1_write 8 = .ok (.invokestatic 205, 3) := dk_184 0 205 (dk_at dksX1_write_0 8 rfl rfl)
theorem dX1_write_11 : decode cX1_write 11 = .ok (.iload_n 3, 1) := dk_29 (dk_at dksX1_write_0 11 rfl rfl)
theorem dX1_write_12 : decode cX1_write 12 = .ok (.i2l, 1) := dk_133 (dk_at dksX1_write_0 12 rfl rfl)
theorem dX1_write_13 : decode cX1_write 13 = .ok (.lconst 0, 1) := dk_9 (dk_at dksX1_write_0 13 rfl rfl)
theorem dX1_write_14 : decode cX1_write 14 = .ok (.ldc2_w 208, 3) := dk_20 0 208 (dk_at dksX1_write_0 14 rfl rfl)
theorem dX1_write_17 : decode cX1_write 17 = .ok (.invokestatic 64, 3) := dk_184 0 64 (dk_at dksX1_write_0 17 rfl rfl)
theorem dX1_write_20 : decode cX1_write 20 = .ok (.invokestatic 73, 3) := dk_184 0 73 (dk_at dksX1_write_0 20 rfl rfl)
theorem dX1_write_23 : decode cX1_write 23 = .ok (.aload_n 0, 1) := dk_42 (dk_at dksX1_write_0 23 rfl rfl)
theorem dX1_write_24 : decode cX1_write 24 = .ok (.aload 4, 2) := dk_25 4 (dk_at dksX1_write_1 0 rfl rfl)
theorem dX1_write_26 : decode cX1_write 26 = .ok (.invokevirtual 210, 3) := dk_182 0 210 (dk_at dksX1_write_1 2 rfl rfl)
theorem dX1_write_29 : decode cX1_write 29 = .ok (.ifCond .ge 10, 3) := dk_156 0 10 (dk_at dksX1_write_1 5 rfl rfl)
theorem dX1_write_32 : decode cX1_write 32 = .ok (.aload_n 0, 1) := dk_42 (dk_at dksX1_write_1 8 rfl rfl)
theorem dX1_write_33 : decode cX1_write 33 = .ok (.aload 4, 2) := dk_25 4 (dk_at dksX1_write_1 9 rfl rfl)
theorem dX1_write_35 : decode cX1_write 35 = .ok (.invokevirtual 210, 3) := dk_182 0 210 (dk_at dksX1_write_1 11 rfl rfl)
theorem dX1_write_38 : decode cX1_write 38 = .ok (.ireturn, 1) := dk_172 (dk_at dksX1_write_1 14 rfl rfl)
theorem dX1_write_39 : decode cX1_write 39 = .ok (.aload_n 0, 1) := dk_42 (dk_at dksX1_write_1 15 rfl rfl)
theorem dX1_write_40 : decode cX1_write 40 = .ok (.getfield 49, 3) := dk_180 0 49 (dk_at dksX1_write_1 16 rfl rfl)
theorem dX1_write_43 : decode cX1_write 43 = .ok (.getstatic 213, 3) := dk_178 0 213 (dk_at dksX1_write_1 19 rfl rfl)
theorem dX1_write_46 : decode cX1_write 46 = .ok (.iload_n 1, 1) := dk_27 (dk_at dksX1_write_1 22 rfl rfl)
theorem dX1_write_47 : decode cX1_write 47 = .ok (.iconst 3, 1) := dk_6 (dk_at dksX1_write_1 23 rfl rfl)
theorem dX1_write_48 : decode cX1_write 48 = .ok (.newarray .int, 2) := dk_188_10 (dk_at dksX1_write_2 0 rfl rfl)
theorem dX1_write_50 : decode cX1_write 50 = .ok (.dup, 1) := dk_89 (dk_at dksX1_write_2 2 rfl rfl)
theorem dX1_write_51 : decode cX1_write 51 = .ok (.iconst 0, 1) := dk_3 (dk_at dksX1_write_2 3 rfl rfl)
theorem dX1_write_52 : decode cX1_write 52 = .ok (.aload 4, 2) := dk_25 4 (dk_at dksX1_write_2 4 rfl rfl)
theorem dX1_write_54 : decode cX1_write 54 = .ok (.getfield 152, 3) := dk_180 0 152 (dk_at dksX1_write_2 6 rfl rfl)
theorem dX1_write_57 : decode cX1_write 57 = .ok (.iastore, 1) := dk_79 (dk_at dksX1_write_2 9 rfl rfl)
theorem dX1_write_58 : decode cX1_write 58 = .ok (.dup, 1) := dk_89 (dk_at dksX1_write_2 10 rfl rfl)
theorem dX1_write_59 : decode cX1_write 59 = .ok (.iconst 1, 1) := dk_4 (dk_at dksX1_write_2 11 rfl rfl)
theorem dX1_write_60 : decode cX1_write 60 = .ok (.iload_n 2, 1) := dk_28 (dk_at dksX1_write_2 12 rfl rfl)
theorem dX1_write_61 : decode cX1_write 61 = .ok (.iastore, 1) := dk_79 (dk_at dksX1_write_2 13 rfl rfl)
theorem dX1_write_62 : decode cX1_write 62 = .ok (.dup, 1) := dk_89 (dk_at dksX1_write_2 14 rfl rfl)
theorem dX1_write_63 : decode cX1_write 63 = .ok (.iconst 2, 1) := dk_5 (dk_at dksX1_write_2 15 rfl rfl)
theorem dX1_write_64 : decode cX1_write 64 = .ok (.iload_n 3, 1) := dk_29 (dk_at dksX1_write_2 16 rfl rfl)
theorem dX1_write_65 : decode cX1_write 65 = .ok (.iastore, 1) := dk_79 (dk_at dksX1_write_2 17 rfl rfl)
theorem dX1_write_66 : decode cX1_write 66 = .ok (.invokevirtual 164, 3) := dk_182 0 164 (dk_at dksX1_write_2 18 rfl rfl)
theorem dX1_write_69 : decode cX1_write 69 = .ok (.aload 4, 2) := dk_25 4 (dk_at dksX1_write_2 21 rfl rfl)
theorem dX1_write_71 : decode cX1_write 71 = .ok (.getfield 152, 3) := dk_180 0 152 (dk_at dksX1_write_3 0 rfl rfl)
theorem dX1_write_74 : decode cX1_write 74 = .ok (.ireturn, 1) := dk_172 (dk_at dksX1_write_3 3 rfl rfl)
abbrev cX1_checkRegister : ByteArray := prog_1_method_6_code
def yX1_checkRegister : MethodName := ⟨RX1, "checkRegister", "(I)V"⟩
def dkwX1_checkRegister_0 : List UInt8 := [26, 133, 9, 20, 0, 71, 184, 0, 64, 184, 0, 73, 177]
abbrev dktX1_checkRegister_0 : List UInt8 := dkwX1_checkRegister_0 ++ []
theorem dksX1_checkRegister_0 : cX1_checkRegister.data.toList.drop 0 = dktX1_checkRegister_0 := by decide +kernel
theorem dX1_checkRegister_0 : decode cX1_checkRegister 0 = .ok (.iload_n 0, 1) := dk_26 (dk_at dksX1_checkRegister_0 0 rfl rfl)
theorem dX1_checkRegister_1 : decode cX1_checkRegister 1 = .ok (.i2l, 1) := dk_133 (dk_at dksX1_checkRegister_0 1 rfl rfl)
theorem dX1_checkRegister_2 : decode cX1_checkRegister 2 = .ok (.lconst 0, 1) := dk_9 (dk_at dksX1_checkRegister_0 2 rfl rfl)
theorem dX1_checkRegister_3 : decode cX1_checkRegister 3 = .ok (.ldc2_w 71, 3) := dk_20 0 71 (dk_at dksX1_checkRegister_0 3 rfl rfl)
theorem dX1_checkRegister_6 : decode cX1_checkRegister 6 = .ok (.invokestatic 64, 3) := dk_184 0 64 (dk_at dksX1_checkRegister_0 6 rfl rfl)
theorem dX1_checkRegister_9 : decode cX1_checkRegister 9 = .ok (.invokestatic 73, 3) := dk_184 0 73 (dk_at dksX1_checkRegister_0 9 rfl rfl)
theorem dX1_checkRegister_12 : decode cX1_checkRegister 12 = .ok (.return_, 1) := dk_177 (dk_at dksX1_checkRegister_0 12 rfl rfl)
abbrev cX1_unfit : ByteArray := prog_1_method_25_code
def yX1_unfit : MethodName := ⟨RX1, "unfit", "(LLeaderLeases$Node;)I"⟩
def dkwX1_unfit_1 : List UInt8 := [182, 0, 202, 153, 0, 7, 3, 167, 0, 4, 2, 172]
abbrev dktX1_unfit_1 : List UInt8 := dkwX1_unfit_1 ++ []
def dkwX1_unfit_0 : List UInt8 := [42, 43, 182, 0, 142, 156, 0, 11, 42, 43, 182, 0, 142, 167, 0, 22, 43, 42, 180, 0, 49, 180, 0, 105]
abbrev dktX1_unfit_0 : List UInt8 := dkwX1_unfit_0 ++ dktX1_unfit_1
theorem dksX1_unfit_0 : cX1_unfit.data.toList.drop 0 = dktX1_unfit_0 := by decide +kernel
theorem dksX1_unfit_1 : cX1_unfit.data.toList.drop 24 = dktX1_unfit_1 := dk_seg dksX1_unfit_0 24 rfl rfl
theorem dX1_unfit_0 : decode cX1_unfit 0 = .ok (.aload_n 0, 1) := dk_42 (dk_at dksX1_unfit_0 0 rfl rfl)
theorem dX1_unfit_1 : decode cX1_unfit 1 = .ok (.aload_n 1, 1) := dk_43 (dk_at dksX1_unfit_0 1 rfl rfl)
theorem dX1_unfit_2 : decode cX1_unfit 2 = .ok (.invokevirtual 142, 3) := dk_182 0 142 (dk_at dksX1_unfit_0 2 rfl rfl)
theorem dX1_unfit_5 : decode cX1_unfit 5 = .ok (.ifCond .ge 11, 3) := dk_156 0 11 (dk_at dksX1_unfit_0 5 rfl rfl)
theorem dX1_unfit_8 : decode cX1_unfit 8 = .ok (.aload_n 0, 1) := dk_42 (dk_at dksX1_unfit_0 8 rfl rfl)
theorem dX1_unfit_9 : decode cX1_unfit 9 = .ok (.aload_n 1, 1) := dk_43 (dk_at dksX1_unfit_0 9 rfl rfl)
theorem dX1_unfit_10 : decode cX1_unfit 10 = .ok (.invokevirtual 142, 3) := dk_182 0 142 (dk_at dksX1_unfit_0 10 rfl rfl)
theorem dX1_unfit_13 : decode cX1_unfit 13 = .ok (.goto 22, 3) := dk_167 0 22 (dk_at dksX1_unfit_0 13 rfl rfl)
theorem dX1_unfit_16 : decode cX1_unfit 16 = .ok (.aload_n 1, 1) := dk_43 (dk_at dksX1_unfit_0 16 rfl rfl)
theorem dX1_unfit_17 : decode cX1_unfit 17 = .ok (.aload_n 0, 1) := dk_42 (dk_at dksX1_unfit_0 17 rfl rfl)
theorem dX1_unfit_18 : decode cX1_unfit 18 = .ok (.getfield 49, 3) := dk_180 0 49 (dk_at dksX1_unfit_0 18 rfl rfl)
theorem dX1_unfit_21 : decode cX1_unfit 21 = .ok (.getfield 105, 3) := dk_180 0 105 (dk_at dksX1_unfit_0 21 rfl rfl)
theorem dX1_unfit_24 : decode cX1_unfit 24 = .ok (.invokevirtual 202, 3) := dk_182 0 202 (dk_at dksX1_unfit_1 0 rfl rfl)
theorem dX1_unfit_27 : decode cX1_unfit 27 = .ok (.ifCond .eq 7, 3) := dk_153 0 7 (dk_at dksX1_unfit_1 3 rfl rfl)
theorem dX1_unfit_30 : decode cX1_unfit 30 = .ok (.iconst 0, 1) := dk_3 (dk_at dksX1_unfit_1 6 rfl rfl)
theorem dX1_unfit_31 : decode cX1_unfit 31 = .ok (.goto 4, 3) := dk_167 0 4 (dk_at dksX1_unfit_1 7 rfl rfl)
theorem dX1_unfit_34 : decode cX1_unfit 34 = .ok (.iconst (-1), 1) := dk_2 (dk_at dksX1_unfit_1 10 rfl rfl)
theorem dX1_unfit_35 : decode cX1_unfit 35 = .ok (.ireturn, 1) := dk_172 (dk_at dksX1_unfit_1 11 rfl rfl)
abbrev cX1_writeLater : ByteArray := prog_1_method_27_code
def yX1_writeLater : MethodName := ⟨RX1, "writeLater", "(IIII)I"⟩
def dkwX1_writeLater_5 : List UInt8 := [185, 0, 16, 2, 0, 87, 25, 5, 180, 0, 152, 172]
abbrev dktX1_writeLater_5 : List UInt8 := dkwX1_writeLater_5 ++ []
def dkwX1_writeLater_4 : List UInt8 := [27, 25, 5, 180, 0, 152, 28, 29, 42, 180, 0, 49, 180, 0, 105, 21, 4, 96, 183, 0, 221]
abbrev dktX1_writeLater_4 : List UInt8 := dkwX1_writeLater_4 ++ dktX1_writeLater_5
def dkwX1_writeLater_3 : List UInt8 := [185, 0, 192, 1, 0, 16, 20, 160, 0, 6, 16, 251, 172, 42, 180, 0, 49, 180, 0, 216, 187, 0, 219, 89]
abbrev dktX1_writeLater_3 : List UInt8 := dkwX1_writeLater_3 ++ dktX1_writeLater_4
def dkwX1_writeLater_2 : List UInt8 := [182, 0, 210, 156, 0, 10, 42, 25, 5, 182, 0, 210, 172, 42, 180, 0, 49, 180, 0, 216]
abbrev dktX1_writeLater_2 : List UInt8 := dkwX1_writeLater_2 ++ dktX1_writeLater_3
def dkwX1_writeLater_1 : List UInt8 := [21, 4, 133, 10, 20, 0, 178, 184, 0, 64, 153, 0, 7, 4, 167, 0, 4, 3, 184, 0, 73, 42, 25, 5]
abbrev dktX1_writeLater_1 : List UInt8 := dkwX1_writeLater_1 ++ dktX1_writeLater_2
def dkwX1_writeLater_0 : List UInt8 := [42, 27, 182, 0, 117, 58, 5, 28, 184, 0, 205, 29, 133, 9, 20, 0, 208, 184, 0, 64, 153, 0, 20]
abbrev dktX1_writeLater_0 : List UInt8 := dkwX1_writeLater_0 ++ dktX1_writeLater_1
theorem dksX1_writeLater_0 : cX1_writeLater.data.toList.drop 0 = dktX1_writeLater_0 := by decide +kernel
theorem dksX1_writeLater_1 : cX1_writeLater.data.toList.drop 23 = dktX1_writeLater_1 := dk_seg dksX1_writeLater_0 23 rfl rfl
theorem dksX1_writeLater_2 : cX1_writeLater.data.toList.drop 47 = dktX1_writeLater_2 := dk_seg dksX1_writeLater_1 24 rfl rfl
theorem dksX1_writeLater_3 : cX1_writeLater.data.toList.drop 67 = dktX1_writeLater_3 := dk_seg dksX1_writeLater_2 20 rfl rfl
theorem dksX1_writeLater_4 : cX1_writeLater.data.toList.drop 91 = dktX1_writeLater_4 := dk_seg dksX1_writeLater_3 24 rfl rfl
theorem dksX1_writeLater_5 : cX1_writeLater.data.toList.drop 112 = dktX1_writeLater_5 := dk_seg dksX1_writeLater_4 21 rfl rfl
theorem dX1_writeLater_0 : decode cX1_writeLater 0 = .ok (.aload_n 0, 1) := dk_42 (dk_at dksX1_writeLater_0 0 rfl rfl)
theorem dX1_writeLater_1 : decode cX1_writeLater 1 = .ok (.iload_n 1, 1) := dk_27 (dk_at dksX1_writeLater_0 1 rfl rfl)
theorem dX1_writeLater_2 : decode cX1_writeLater 2 = .ok (.invokevirtual 117, 3) := dk_182 0 117 (dk_at dksX1_writeLater_0 2 rfl rfl)
theorem dX1_writeLater_5 : decode cX1_writeLater 5 = .ok (.astore 5, 2) := dk_58 5 (dk_at dksX1_writeLater_0 5 rfl rfl)
theorem dX1_writeLater_7 : decode cX1_writeLater 7 = .ok (.iload_n 2, 1) := dk_28 (dk_at dksX1_writeLater_0 7 rfl rfl)
theorem dX1_writeLater_8 : decode cX1_writeLater 8 = .ok (.invokestatic 205, 3) := dk_184 0 205 (dk_at dksX1_writeLater_0 8 rfl rfl)
theorem dX1_writeLater_11 : decode cX1_writeLater 11 = .ok (.iload_n 3, 1) := dk_29 (dk_at dksX1_writeLater_0 11 rfl rfl)
theorem dX1_writeLater_12 : decode cX1_writeLater 12 = .ok (.i2l, 1) := dk_133 (dk_at dksX1_writeLater_0 12 rfl rfl)
theorem dX1_writeLater_13 : decode cX1_writeLater 13 = .ok (.lconst 0, 1) := dk_9 (dk_at dksX1_writeLater_0 13 rfl rfl)
theorem dX1_writeLater_14 : decode cX1_writeLater 14 = .ok (.ldc2_w 208, 3) := dk_20 0 208 (dk_at dksX1_writeLater_0 14 rfl rfl)
theorem dX1_writeLater_17 : decode cX1_writeLater 17 = .ok (.invokestatic 64, 3) := dk_184 0 64 (dk_at dksX1_writeLater_0 17 rfl rfl)
theorem dX1_writeLater_20 : decode cX1_writeLater 20 = .ok (.ifCond .eq 20, 3) := dk_153 0 20 (dk_at dksX1_writeLater_0 20 rfl rfl)
theorem dX1_writeLater_23 : decode cX1_writeLater 23 = .ok (.iload 4, 2) := dk_21 4 (dk_at dksX1_writeLater_1 0 rfl rfl)
theorem dX1_writeLater_25 : decode cX1_writeLater 25 = .ok (.i2l, 1) := dk_133 (dk_at dksX1_writeLater_1 2 rfl rfl)
theorem dX1_writeLater_26 : decode cX1_writeLater 26 = .ok (.lconst 1, 1) := dk_10 (dk_at dksX1_writeLater_1 3 rfl rfl)
theorem dX1_writeLater_27 : decode cX1_writeLater 27 = .ok (.ldc2_w 178, 3) := dk_20 0 178 (dk_at dksX1_writeLater_1 4 rfl rfl)
theorem dX1_writeLater_30 : decode cX1_writeLater 30 = .ok (.invokestatic 64, 3) := dk_184 0 64 (dk_at dksX1_writeLater_1 7 rfl rfl)
theorem dX1_writeLater_33 : decode cX1_writeLater 33 = .ok (.ifCond .eq 7, 3) := dk_153 0 7 (dk_at dksX1_writeLater_1 10 rfl rfl)
theorem dX1_writeLater_36 : decode cX1_writeLater 36 = .ok (.iconst 1, 1) := dk_4 (dk_at dksX1_writeLater_1 13 rfl rfl)
theorem dX1_writeLater_37 : decode cX1_writeLater 37 = .ok (.goto 4, 3) := dk_167 0 4 (dk_at dksX1_writeLater_1 14 rfl rfl)
theorem dX1_writeLater_40 : decode cX1_writeLater 40 = .ok (.iconst 0, 1) := dk_3 (dk_at dksX1_writeLater_1 17 rfl rfl)
theorem dX1_writeLater_41 : decode cX1_writeLater 41 = .ok (.invokestatic 73, 3) := dk_184 0 73 (dk_at dksX1_writeLater_1 18 rfl rfl)
theorem dX1_writeLater_44 : decode cX1_writeLater 44 = .ok (.aload_n 0, 1) := dk_42 (dk_at dksX1_writeLater_1 21 rfl rfl)
theorem dX1_writeLater_45 : decode cX1_writeLater 45 = .ok (.aload 5, 2) := dk_25 5 (dk_at dksX1_writeLater_1 22 rfl rfl)
theorem dX1_writeLater_47 : decode cX1_writeLater 47 = .ok (.invokevirtual 210, 3) := dk_182 0 210 (dk_at dksX1_writeLater_2 0 rfl rfl)
theorem dX1_writeLater_50 : decode cX1_writeLater 50 = .ok (.ifCond .ge 10, 3) := dk_156 0 10 (dk_at dksX1_writeLater_2 3 rfl rfl)
theorem dX1_writeLater_53 : decode cX1_writeLater 53 = .ok (.aload_n 0, 1) := dk_42 (dk_at dksX1_writeLater_2 6 rfl rfl)
theorem dX1_writeLater_54 : decode cX1_writeLater 54 = .ok (.aload 5, 2) := dk_25 5 (dk_at dksX1_writeLater_2 7 rfl rfl)
theorem dX1_writeLater_56 : decode cX1_writeLater 56 = .ok (.invokevirtual 210, 3) := dk_182 0 210 (dk_at dksX1_writeLater_2 9 rfl rfl)
theorem dX1_writeLater_59 : decode cX1_writeLater 59 = .ok (.ireturn, 1) := dk_172 (dk_at dksX1_writeLater_2 12 rfl rfl)
theorem dX1_writeLater_60 : decode cX1_writeLater 60 = .ok (.aload_n 0, 1) := dk_42 (dk_at dksX1_writeLater_2 13 rfl rfl)
theorem dX1_writeLater_61 : decode cX1_writeLater 61 = .ok (.getfield 49, 3) := dk_180 0 49 (dk_at dksX1_writeLater_2 14 rfl rfl)
theorem dX1_writeLater_64 : decode cX1_writeLater 64 = .ok (.getfield 216, 3) := dk_180 0 216 (dk_at dksX1_writeLater_2 17 rfl rfl)
theorem dX1_writeLater_67 : decode cX1_writeLater 67 = .ok (.invokeinterface 192 1, 5) := by decide +kernel
theorem dX1_writeLater_72 : decode cX1_writeLater 72 = .ok (.bipush 20, 2) := dk_16 20 (dk_at dksX1_writeLater_3 5 rfl rfl)
theorem dX1_writeLater_74 : decode cX1_writeLater 74 = .ok (.if_icmp .ne 6, 3) := dk_160 0 6 (dk_at dksX1_writeLater_3 7 rfl rfl)
theorem dX1_writeLater_77 : decode cX1_writeLater 77 = .ok (.bipush (-5), 2) := dk_16 251 (dk_at dksX1_writeLater_3 10 rfl rfl)
theorem dX1_writeLater_79 : decode cX1_writeLater 79 = .ok (.ireturn, 1) := dk_172 (dk_at dksX1_writeLater_3 12 rfl rfl)
theorem dX1_writeLater_80 : decode cX1_writeLater 80 = .ok (.aload_n 0, 1) := dk_42 (dk_at dksX1_writeLater_3 13 rfl rfl)
theorem dX1_writeLater_81 : decode cX1_writeLater 81 = .ok (.getfield 49, 3) := dk_180 0 49 (dk_at dksX1_writeLater_3 14 rfl rfl)
theorem dX1_writeLater_84 : decode cX1_writeLater 84 = .ok (.getfield 216, 3) := dk_180 0 216 (dk_at dksX1_writeLater_3 17 rfl rfl)
theorem dX1_writeLater_87 : decode cX1_writeLater 87 = .ok (.new 219, 3) := dk_187 0 219 (dk_at dksX1_writeLater_3 20 rfl rfl)
theorem dX1_writeLater_90 : decode cX1_writeLater 90 = .ok (.dup, 1) := dk_89 (dk_at dksX1_writeLater_3 23 rfl rfl)
theorem dX1_writeLater_91 : decode cX1_writeLater 91 = .ok (.iload_n 1, 1) := dk_27 (dk_at dksX1_writeLater_4 0 rfl rfl)
theorem dX1_writeLater_92 : decode cX1_writeLater 92 = .ok (.aload 5, 2) := dk_25 5 (dk_at dksX1_writeLater_4 1 rfl rfl)
theorem dX1_writeLater_94 : decode cX1_writeLater 94 = .ok (.getfield 152, 3) := dk_180 0 152 (dk_at dksX1_writeLater_4 3 rfl rfl)
theorem dX1_writeLater_97 : decode cX1_writeLater 97 = .ok (.iload_n 2, 1) := dk_28 (dk_at dksX1_writeLater_4 6 rfl rfl)
theorem dX1_writeLater_98 : decode cX1_writeLater 98 = .ok (.iload_n 3, 1) := dk_29 (dk_at dksX1_writeLater_4 7 rfl rfl)
theorem dX1_writeLater_99 : decode cX1_writeLater 99 = .ok (.aload_n 0, 1) := dk_42 (dk_at dksX1_writeLater_4 8 rfl rfl)
theorem dX1_writeLater_100 : decode cX1_writeLater 100 = .ok (.getfield 49, 3) := dk_180 0 49 (dk_at dksX1_writeLater_4 9 rfl rfl)
theorem dX1_writeLater_103 : decode cX1_writeLater 103 = .ok (.getfield 105, 3) := dk_180 0 105 (dk_at dksX1_writeLater_4 12 rfl rfl)
theorem dX1_writeLater_106 : decode cX1_writeLater 106 = .ok (.iload 4, 2) := dk_21 4 (dk_at dksX1_writeLater_4 15 rfl rfl)
theorem dX1_writeLater_108 : decode cX1_writeLater 108 = .ok (.iadd, 1) := dk_96 (dk_at dksX1_writeLater_4 17 rfl rfl)
theorem dX1_writeLater_109 : decode cX1_writeLater 109 = .ok (.invokespecial 221, 3) := dk_183 0 221 (dk_at dksX1_writeLater_4 18 rfl rfl)
theorem dX1_writeLater_112 : decode cX1_writeLater 112 = .ok (.invokeinterface 16 2, 5) := by decide +kernel
theorem dX1_writeLater_117 : decode cX1_writeLater 117 = .ok (.pop, 1) := dk_87 (dk_at dksX1_writeLater_5 5 rfl rfl)
theorem dX1_writeLater_118 : decode cX1_writeLater 118 = .ok (.aload 5, 2) := dk_25 5 (dk_at dksX1_writeLater_5 6 rfl rfl)
theorem dX1_writeLater_120 : decode cX1_writeLater 120 = .ok (.getfield 152, 3) := dk_180 0 152 (dk_at dksX1_writeLater_5 8 rfl rfl)
theorem dX1_writeLater_123 : decode cX1_writeLater 123 = .ok (.ireturn, 1) := dk_172 (dk_at dksX1_writeLater_5 11 rfl rfl)
abbrev cX1_fetch : ByteArray := prog_1_method_28_code
def yX1_fetch : MethodName := ⟨RX1, "fetch", "(II)I"⟩
def dkwX1_fetch_2 : List UInt8 := [182, 0, 164, 45, 180, 0, 152, 172]
abbrev dktX1_fetch_2 : List UInt8 := dkwX1_fetch_2 ++ []
def dkwX1_fetch_1 : List UInt8 := [42, 180, 0, 49, 178, 0, 224, 27, 5, 188, 10, 89, 3, 45, 180, 0, 152, 79, 89, 4, 28, 79]
abbrev dktX1_fetch_1 : List UInt8 := dkwX1_fetch_1 ++ dktX1_fetch_2
def dkwX1_fetch_0 : List UInt8 := [42, 27, 182, 0, 117, 78, 28, 184, 0, 205, 42, 45, 182, 0, 210, 156, 0, 9, 42, 45, 182, 0, 210, 172]
abbrev dktX1_fetch_0 : List UInt8 := dkwX1_fetch_0 ++ dktX1_fetch_1
theorem dksX1_fetch_0 : cX1_fetch.data.toList.drop 0 = dktX1_fetch_0 := by decide +kernel
theorem dksX1_fetch_1 : cX1_fetch.data.toList.drop 24 = dktX1_fetch_1 := dk_seg dksX1_fetch_0 24 rfl rfl
theorem dksX1_fetch_2 : cX1_fetch.data.toList.drop 46 = dktX1_fetch_2 := dk_seg dksX1_fetch_1 22 rfl rfl
theorem dX1_fetch_0 : decode cX1_fetch 0 = .ok (.aload_n 0, 1) := dk_42 (dk_at dksX1_fetch_0 0 rfl rfl)
theorem dX1_fetch_1 : decode cX1_fetch 1 = .ok (.iload_n 1, 1) := dk_27 (dk_at dksX1_fetch_0 1 rfl rfl)
theorem dX1_fetch_2 : decode cX1_fetch 2 = .ok (.invokevirtual 117, 3) := dk_182 0 117 (dk_at dksX1_fetch_0 2 rfl rfl)
theorem dX1_fetch_5 : decode cX1_fetch 5 = .ok (.astore_n 3, 1) := dk_78 (dk_at dksX1_fetch_0 5 rfl rfl)
theorem dX1_fetch_6 : decode cX1_fetch 6 = .ok (.iload_n 2, 1) := dk_28 (dk_at dksX1_fetch_0 6 rfl rfl)
theorem dX1_fetch_7 : decode cX1_fetch 7 = .ok (.invokestatic 205, 3) := dk_184 0 205 (dk_at dksX1_fetch_0 7 rfl rfl)
theorem dX1_fetch_10 : decode cX1_fetch 10 = .ok (.aload_n 0, 1) := dk_42 (dk_at dksX1_fetch_0 10 rfl rfl)
theorem dX1_fetch_11 : decode cX1_fetch 11 = .ok (.aload_n 3, 1) := dk_45 (dk_at dksX1_fetch_0 11 rfl rfl)
theorem dX1_fetch_12 : decode cX1_fetch 12 = .ok (.invokevirtual 210, 3) := dk_182 0 210 (dk_at dksX1_fetch_0 12 rfl rfl)
theorem dX1_fetch_15 : decode cX1_fetch 15 = .ok (.ifCond .ge 9, 3) := dk_156 0 9 (dk_at dksX1_fetch_0 15 rfl rfl)
theorem dX1_fetch_18 : decode cX1_fetch 18 = .ok (.aload_n 0, 1) := dk_42 (dk_at dksX1_fetch_0 18 rfl rfl)
theorem dX1_fetch_19 : decode cX1_fetch 19 = .ok (.aload_n 3, 1) := dk_45 (dk_at dksX1_fetch_0 19 rfl rfl)
theorem dX1_fetch_20 : decode cX1_fetch 20 = .ok (.invokevirtual 210, 3) := dk_182 0 210 (dk_at dksX1_fetch_0 20 rfl rfl)
theorem dX1_fetch_23 : decode cX1_fetch 23 = .ok (.ireturn, 1) := dk_172 (dk_at dksX1_fetch_0 23 rfl rfl)
theorem dX1_fetch_24 : decode cX1_fetch 24 = .ok (.aload_n 0, 1) := dk_42 (dk_at dksX1_fetch_1 0 rfl rfl)
theorem dX1_fetch_25 : decode cX1_fetch 25 = .ok (.getfield 49, 3) := dk_180 0 49 (dk_at dksX1_fetch_1 1 rfl rfl)
theorem dX1_fetch_28 : decode cX1_fetch 28 = .ok (.getstatic 224, 3) := dk_178 0 224 (dk_at dksX1_fetch_1 4 rfl rfl)
theorem dX1_fetch_31 : decode cX1_fetch 31 = .ok (.iload_n 1, 1) := dk_27 (dk_at dksX1_fetch_1 7 rfl rfl)
theorem dX1_fetch_32 : decode cX1_fetch 32 = .ok (.iconst 2, 1) := dk_5 (dk_at dksX1_fetch_1 8 rfl rfl)
theorem dX1_fetch_33 : decode cX1_fetch 33 = .ok (.newarray .int, 2) := dk_188_10 (dk_at dksX1_fetch_1 9 rfl rfl)
theorem dX1_fetch_35 : decode cX1_fetch 35 = .ok (.dup, 1) := dk_89 (dk_at dksX1_fetch_1 11 rfl rfl)
theorem dX1_fetch_36 : decode cX1_fetch 36 = .ok (.iconst 0, 1) := dk_3 (dk_at dksX1_fetch_1 12 rfl rfl)
theorem dX1_fetch_37 : decode cX1_fetch 37 = .ok (.aload_n 3, 1) := dk_45 (dk_at dksX1_fetch_1 13 rfl rfl)
theorem dX1_fetch_38 : decode cX1_fetch 38 = .ok (.getfield 152, 3) := dk_180 0 152 (dk_at dksX1_fetch_1 14 rfl rfl)
theorem dX1_fetch_41 : decode cX1_fetch 41 = .ok (.iastore, 1) := dk_79 (dk_at dksX1_fetch_1 17 rfl rfl)
theorem dX1_fetch_42 : decode cX1_fetch 42 = .ok (.dup, 1) := dk_89 (dk_at dksX1_fetch_1 18 rfl rfl)
theorem dX1_fetch_43 : decode cX1_fetch 43 = .ok (.iconst 1, 1) := dk_4 (dk_at dksX1_fetch_1 19 rfl rfl)
theorem dX1_fetch_44 : decode cX1_fetch 44 = .ok (.iload_n 2, 1) := dk_28 (dk_at dksX1_fetch_1 20 rfl rfl)
theorem dX1_fetch_45 : decode cX1_fetch 45 = .ok (.iastore, 1) := dk_79 (dk_at dksX1_fetch_1 21 rfl rfl)
theorem dX1_fetch_46 : decode cX1_fetch 46 = .ok (.invokevirtual 164, 3) := dk_182 0 164 (dk_at dksX1_fetch_2 0 rfl rfl)
theorem dX1_fetch_49 : decode cX1_fetch 49 = .ok (.aload_n 3, 1) := dk_45 (dk_at dksX1_fetch_2 3 rfl rfl)
theorem dX1_fetch_50 : decode cX1_fetch 50 = .ok (.getfield 152, 3) := dk_180 0 152 (dk_at dksX1_fetch_2 4 rfl rfl)
theorem dX1_fetch_53 : decode cX1_fetch 53 = .ok (.ireturn, 1) := dk_172 (dk_at dksX1_fetch_2 7 rfl rfl)
abbrev cX1_read : ByteArray := prog_1_method_29_code
def yX1_read : MethodName := ⟨RX1, "read", "(II)I"⟩
def dkwX1_read_3 : List UInt8 := [42, 180, 0, 49, 89, 180, 0, 246, 4, 96, 181, 0, 246, 45, 180, 0, 233, 28, 46, 172]
abbrev dktX1_read_3 : List UInt8 := dkwX1_read_3 ++ []
def dkwX1_read_2 : List UInt8 := [181, 0, 230, 45, 180, 0, 233, 28, 46, 42, 180, 0, 49, 180, 0, 237, 180, 0, 241, 28, 46, 159, 0, 16]
abbrev dktX1_read_2 : List UInt8 := dkwX1_read_2 ++ dktX1_read_3
def dkwX1_read_1 : List UInt8 := [45, 180, 0, 227, 28, 122, 4, 126, 154, 0, 6, 16, 252, 172, 42, 180, 0, 49, 89, 180, 0, 230, 4, 96]
abbrev dktX1_read_1 : List UInt8 := dkwX1_read_1 ++ dktX1_read_2
def dkwX1_read_0 : List UInt8 := [42, 27, 182, 0, 117, 78, 28, 184, 0, 205, 42, 45, 182, 0, 210, 156, 0, 9, 42, 45, 182, 0, 210, 172]
abbrev dktX1_read_0 : List UInt8 := dkwX1_read_0 ++ dktX1_read_1
theorem dksX1_read_0 : cX1_read.data.toList.drop 0 = dktX1_read_0 := by decide +kernel
theorem dksX1_read_1 : cX1_read.data.toList.drop 24 = dktX1_read_1 := dk_seg dksX1_read_0 24 rfl rfl
theorem dksX1_read_2 : cX1_read.data.toList.drop 48 = dktX1_read_2 := dk_seg dksX1_read_1 24 rfl rfl
theorem dksX1_read_3 : cX1_read.data.toList.drop 72 = dktX1_read_3 := dk_seg dksX1_read_2 24 rfl rfl
theorem dX1_read_0 : decode cX1_read 0 = .ok (.aload_n 0, 1) := dk_42 (dk_at dksX1_read_0 0 rfl rfl)
theorem dX1_read_1 : decode cX1_read 1 = .ok (.iload_n 1, 1) := dk_27 (dk_at dksX1_read_0 1 rfl rfl)
theorem dX1_read_2 : decode cX1_read 2 = .ok (.invokevirtual 117, 3) := dk_182 0 117 (dk_at dksX1_read_0 2 rfl rfl)
theorem dX1_read_5 : decode cX1_read 5 = .ok (.astore_n 3, 1) := dk_78 (dk_at dksX1_read_0 5 rfl rfl)
theorem dX1_read_6 : decode cX1_read 6 = .ok (.iload_n 2, 1) := dk_28 (dk_at dksX1_read_0 6 rfl rfl)
theorem dX1_read_7 : decode cX1_read 7 = .ok (.invokestatic 205, 3) := dk_184 0 205 (dk_at dksX1_read_0 7 rfl rfl)
theorem dX1_read_10 : decode cX1_read 10 = .ok (.aload_n 0, 1) := dk_42 (dk_at dksX1_read_0 10 rfl rfl)
theorem dX1_read_11 : decode cX1_read 11 = .ok (.aload_n 3, 1) := dk_45 (dk_at dksX1_read_0 11 rfl rfl)
theorem dX1_read_12 : decode cX1_read 12 = .ok (.invokevirtual 210, 3) := dk_182 0 210 (dk_at dksX1_read_0 12 rfl rfl)
theorem dX1_read_15 : decode cX1_read 15 = .ok (.ifCond .ge 9, 3) := dk_156 0 9 (dk_at dksX1_read_0 15 rfl rfl)
theorem dX1_read_18 : decode cX1_read 18 = .ok (.aload_n 0, 1) := dk_42 (dk_at dksX1_read_0 18 rfl rfl)
theorem dX1_read_19 : decode cX1_read 19 = .ok (.aload_n 3, 1) := dk_45 (dk_at dksX1_read_0 19 rfl rfl)
theorem dX1_read_20 : decode cX1_read 20 = .ok (.invokevirtual 210, 3) := dk_182 0 210 (dk_at dksX1_read_0 20 rfl rfl)
theorem dX1_read_23 : decode cX1_read 23 = .ok (.ireturn, 1) := dk_172 (dk_at dksX1_read_0 23 rfl rfl)
theorem dX1_read_24 : decode cX1_read 24 = .ok (.aload_n 3, 1) := dk_45 (dk_at dksX1_read_1 0 rfl rfl)
theorem dX1_read_25 : decode cX1_read 25 = .ok (.getfield 227, 3) := dk_180 0 227 (dk_at dksX1_read_1 1 rfl rfl)
theorem dX1_read_28 : decode cX1_read 28 = .ok (.iload_n 2, 1) := dk_28 (dk_at dksX1_read_1 4 rfl rfl)
theorem dX1_read_29 : decode cX1_read 29 = .ok (.ishr, 1) := dk_122 (dk_at dksX1_read_1 5 rfl rfl)
theorem dX1_read_30 : decode cX1_read 30 = .ok (.iconst 1, 1) := dk_4 (dk_at dksX1_read_1 6 rfl rfl)
theorem dX1_read_31 : decode cX1_read 31 = .ok (.iand, 1) := dk_126 (dk_at dksX1_read_1 7 rfl rfl)
theorem dX1_read_32 : decode cX1_read 32 = .ok (.ifCond .ne 6, 3) := dk_154 0 6 (dk_at dksX1_read_1 8 rfl rfl)
theorem dX1_read_35 : decode cX1_read 35 = .ok (.bipush (-4), 2) := dk_16 252 (dk_at dksX1_read_1 11 rfl rfl)
theorem dX1_read_37 : decode cX1_read 37 = .ok (.ireturn, 1) := dk_172 (dk_at dksX1_read_1 13 rfl rfl)
theorem dX1_read_38 : decode cX1_read 38 = .ok (.aload_n 0, 1) := dk_42 (dk_at dksX1_read_1 14 rfl rfl)
theorem dX1_read_39 : decode cX1_read 39 = .ok (.getfield 49, 3) := dk_180 0 49 (dk_at dksX1_read_1 15 rfl rfl)
theorem dX1_read_42 : decode cX1_read 42 = .ok (.dup, 1) := dk_89 (dk_at dksX1_read_1 18 rfl rfl)
theorem dX1_read_43 : decode cX1_read 43 = .ok (.getfield 230, 3) := dk_180 0 230 (dk_at dksX1_read_1 19 rfl rfl)
theorem dX1_read_46 : decode cX1_read 46 = .ok (.iconst 1, 1) := dk_4 (dk_at dksX1_read_1 22 rfl rfl)
theorem dX1_read_47 : decode cX1_read 47 = .ok (.iadd, 1) := dk_96 (dk_at dksX1_read_1 23 rfl rfl)
theorem dX1_read_48 : decode cX1_read 48 = .ok (.putfield 230, 3) := dk_181 0 230 (dk_at dksX1_read_2 0 rfl rfl)
theorem dX1_read_51 : decode cX1_read 51 = .ok (.aload_n 3, 1) := dk_45 (dk_at dksX1_read_2 3 rfl rfl)
theorem dX1_read_52 : decode cX1_read 52 = .ok (.getfield 233, 3) := dk_180 0 233 (dk_at dksX1_read_2 4 rfl rfl)
theorem dX1_read_55 : decode cX1_read 55 = .ok (.iload_n 2, 1) := dk_28 (dk_at dksX1_read_2 7 rfl rfl)
theorem dX1_read_56 : decode cX1_read 56 = .ok (.iaload, 1) := dk_46 (dk_at dksX1_read_2 8 rfl rfl)
theorem dX1_read_57 : decode cX1_read 57 = .ok (.aload_n 0, 1) := dk_42 (dk_at dksX1_read_2 9 rfl rfl)
theorem dX1_read_58 : decode cX1_read 58 = .ok (.getfield 49, 3) := dk_180 0 49 (dk_at dksX1_read_2 10 rfl rfl)
theorem dX1_read_61 : decode cX1_read 61 = .ok (.getfield 237, 3) := dk_180 0 237 (dk_at dksX1_read_2 13 rfl rfl)
theorem dX1_read_64 : decode cX1_read 64 = .ok (.getfield 241, 3) := dk_180 0 241 (dk_at dksX1_read_2 16 rfl rfl)
theorem dX1_read_67 : decode cX1_read 67 = .ok (.iload_n 2, 1) := dk_28 (dk_at dksX1_read_2 19 rfl rfl)
theorem dX1_read_68 : decode cX1_read 68 = .ok (.iaload, 1) := dk_46 (dk_at dksX1_read_2 20 rfl rfl)
theorem dX1_read_69 : decode cX1_read 69 = .ok (.if_icmp .eq 16, 3) := dk_159 0 16 (dk_at dksX1_read_2 21 rfl rfl)
theorem dX1_read_72 : decode cX1_read 72 = .ok (.aload_n 0, 1) := dk_42 (dk_at dksX1_read_3 0 rfl rfl)
theorem dX1_read_73 : decode cX1_read 73 = .ok (.getfield 49, 3) := dk_180 0 49 (dk_at dksX1_read_3 1 rfl rfl)
theorem dX1_read_76 : decode cX1_read 76 = .ok (.dup, 1) := dk_89 (dk_at dksX1_read_3 4 rfl rfl)
theorem dX1_read_77 : decode cX1_read 77 = .ok (.getfield 246, 3) := dk_180 0 246 (dk_at dksX1_read_3 5 rfl rfl)
theorem dX1_read_80 : decode cX1_read 80 = .ok (.iconst 1, 1) := dk_4 (dk_at dksX1_read_3 8 rfl rfl)
theorem dX1_read_81 : decode cX1_read 81 = .ok (.iadd, 1) := dk_96 (dk_at dksX1_read_3 9 rfl rfl)
theorem dX1_read_82 : decode cX1_read 82 = .ok (.putfield 246, 3) := dk_181 0 246 (dk_at dksX1_read_3 10 rfl rfl)
theorem dX1_read_85 : decode cX1_read 85 = .ok (.aload_n 3, 1) := dk_45 (dk_at dksX1_read_3 13 rfl rfl)
theorem dX1_read_86 : decode cX1_read 86 = .ok (.getfield 233, 3) := dk_180 0 233 (dk_at dksX1_read_3 14 rfl rfl)
theorem dX1_read_89 : decode cX1_read 89 = .ok (.iload_n 2, 1) := dk_28 (dk_at dksX1_read_3 17 rfl rfl)
theorem dX1_read_90 : decode cX1_read 90 = .ok (.iaload, 1) := dk_46 (dk_at dksX1_read_3 18 rfl rfl)
theorem dX1_read_91 : decode cX1_read 91 = .ok (.ireturn, 1) := dk_172 (dk_at dksX1_read_3 19 rfl rfl)
abbrev cX1_stored : ByteArray := prog_1_method_30_code
def yX1_stored : MethodName := ⟨RX1, "stored", "(I)I"⟩
def dkwX1_stored_0 : List UInt8 := [27, 184, 0, 205, 42, 180, 0, 49, 180, 0, 237, 180, 0, 241, 27, 46, 172]
abbrev dktX1_stored_0 : List UInt8 := dkwX1_stored_0 ++ []
theorem dksX1_stored_0 : cX1_stored.data.toList.drop 0 = dktX1_stored_0 := by decide +kernel
theorem dX1_stored_0 : decode cX1_stored 0 = .ok (.iload_n 1, 1) := dk_27 (dk_at dksX1_stored_0 0 rfl rfl)
theorem dX1_stored_1 : decode cX1_stored 1 = .ok (.invokestatic 205, 3) := dk_184 0 205 (dk_at dksX1_stored_0 1 rfl rfl)
theorem dX1_stored_4 : decode cX1_stored 4 = .ok (.aload_n 0, 1) := dk_42 (dk_at dksX1_stored_0 4 rfl rfl)
theorem dX1_stored_5 : decode cX1_stored 5 = .ok (.getfield 49, 3) := dk_180 0 49 (dk_at dksX1_stored_0 5 rfl rfl)
theorem dX1_stored_8 : decode cX1_stored 8 = .ok (.getfield 237, 3) := dk_180 0 237 (dk_at dksX1_stored_0 8 rfl rfl)
theorem dX1_stored_11 : decode cX1_stored 11 = .ok (.getfield 241, 3) := dk_180 0 241 (dk_at dksX1_stored_0 11 rfl rfl)
theorem dX1_stored_14 : decode cX1_stored 14 = .ok (.iload_n 1, 1) := dk_27 (dk_at dksX1_stored_0 14 rfl rfl)
theorem dX1_stored_15 : decode cX1_stored 15 = .ok (.iaload, 1) := dk_46 (dk_at dksX1_stored_0 15 rfl rfl)
theorem dX1_stored_16 : decode cX1_stored 16 = .ok (.ireturn, 1) := dk_172 (dk_at dksX1_stored_0 16 rfl rfl)
abbrev cX1_version : ByteArray := prog_1_method_31_code
def yX1_version : MethodName := ⟨RX1, "version", "(I)I"⟩
def dkwX1_version_0 : List UInt8 := [27, 184, 0, 205, 42, 180, 0, 49, 180, 0, 237, 180, 0, 249, 27, 46, 172]
abbrev dktX1_version_0 : List UInt8 := dkwX1_version_0 ++ []
theorem dksX1_version_0 : cX1_version.data.toList.drop 0 = dktX1_version_0 := by decide +kernel
theorem dX1_version_0 : decode cX1_version 0 = .ok (.iload_n 1, 1) := dk_27 (dk_at dksX1_version_0 0 rfl rfl)
theorem dX1_version_1 : decode cX1_version 1 = .ok (.invokestatic 205, 3) := dk_184 0 205 (dk_at dksX1_version_0 1 rfl rfl)
theorem dX1_version_4 : decode cX1_version 4 = .ok (.aload_n 0, 1) := dk_42 (dk_at dksX1_version_0 4 rfl rfl)
theorem dX1_version_5 : decode cX1_version 5 = .ok (.getfield 49, 3) := dk_180 0 49 (dk_at dksX1_version_0 5 rfl rfl)
theorem dX1_version_8 : decode cX1_version 8 = .ok (.getfield 237, 3) := dk_180 0 237 (dk_at dksX1_version_0 8 rfl rfl)
theorem dX1_version_11 : decode cX1_version 11 = .ok (.getfield 249, 3) := dk_180 0 249 (dk_at dksX1_version_0 11 rfl rfl)
theorem dX1_version_14 : decode cX1_version 14 = .ok (.iload_n 1, 1) := dk_27 (dk_at dksX1_version_0 14 rfl rfl)
theorem dX1_version_15 : decode cX1_version 15 = .ok (.iaload, 1) := dk_46 (dk_at dksX1_version_0 15 rfl rfl)
theorem dX1_version_16 : decode cX1_version 16 = .ok (.ireturn, 1) := dk_172 (dk_at dksX1_version_0 16 rfl rfl)
abbrev cX1_isLeading : ByteArray := prog_1_method_37_code
def yX1_isLeading : MethodName := ⟨RX1, "isLeading", "(I)Z"⟩
def dkwX1_isLeading_0 : List UInt8 := [42, 27, 182, 0, 117, 42, 180, 0, 49, 180, 0, 105, 182, 0, 202, 172]
abbrev dktX1_isLeading_0 : List UInt8 := dkwX1_isLeading_0 ++ []
theorem dksX1_isLeading_0 : cX1_isLeading.data.toList.drop 0 = dktX1_isLeading_0 := by decide +kernel
theorem dX1_isLeading_0 : decode cX1_isLeading 0 = .ok (.aload_n 0, 1) := dk_42 (dk_at dksX1_isLeading_0 0 rfl rfl)
theorem dX1_isLeading_1 : decode cX1_isLeading 1 = .ok (.iload_n 1, 1) := dk_27 (dk_at dksX1_isLeading_0 1 rfl rfl)
theorem dX1_isLeading_2 : decode cX1_isLeading 2 = .ok (.invokevirtual 117, 3) := dk_182 0 117 (dk_at dksX1_isLeading_0 2 rfl rfl)
theorem dX1_isLeading_5 : decode cX1_isLeading 5 = .ok (.aload_n 0, 1) := dk_42 (dk_at dksX1_isLeading_0 5 rfl rfl)
theorem dX1_isLeading_6 : decode cX1_isLeading 6 = .ok (.getfield 49, 3) := dk_180 0 49 (dk_at dksX1_isLeading_0 6 rfl rfl)
theorem dX1_isLeading_9 : decode cX1_isLeading 9 = .ok (.getfield 105, 3) := dk_180 0 105 (dk_at dksX1_isLeading_0 9 rfl rfl)
theorem dX1_isLeading_12 : decode cX1_isLeading 12 = .ok (.invokevirtual 202, 3) := dk_182 0 202 (dk_at dksX1_isLeading_0 12 rfl rfl)
theorem dX1_isLeading_15 : decode cX1_isLeading 15 = .ok (.ireturn, 1) := dk_172 (dk_at dksX1_isLeading_0 15 rfl rfl)
abbrev cX1_token : ByteArray := prog_1_method_39_code
def yX1_token : MethodName := ⟨RX1, "token", "(I)I"⟩
def dkwX1_token_0 : List UInt8 := [42, 27, 182, 0, 117, 180, 0, 152, 172]
abbrev dktX1_token_0 : List UInt8 := dkwX1_token_0 ++ []
theorem dksX1_token_0 : cX1_token.data.toList.drop 0 = dktX1_token_0 := by decide +kernel
theorem dX1_token_0 : decode cX1_token 0 = .ok (.aload_n 0, 1) := dk_42 (dk_at dksX1_token_0 0 rfl rfl)
theorem dX1_token_1 : decode cX1_token 1 = .ok (.iload_n 1, 1) := dk_27 (dk_at dksX1_token_0 1 rfl rfl)
theorem dX1_token_2 : decode cX1_token 2 = .ok (.invokevirtual 117, 3) := dk_182 0 117 (dk_at dksX1_token_0 2 rfl rfl)
theorem dX1_token_5 : decode cX1_token 5 = .ok (.getfield 152, 3) := dk_180 0 152 (dk_at dksX1_token_0 5 rfl rfl)
theorem dX1_token_8 : decode cX1_token 8 = .ok (.ireturn, 1) := dk_172 (dk_at dksX1_token_0 8 rfl rfl)
abbrev cX1_nodeExpiryTime : ByteArray := prog_1_method_40_code
def yX1_nodeExpiryTime : MethodName := ⟨RX1, "nodeExpiryTime", "(I)I"⟩
def dkwX1_nodeExpiryTime_1 : List UInt8 := [180, 1, 22, 182, 1, 13, 172]
abbrev dktX1_nodeExpiryTime_1 : List UInt8 := dkwX1_nodeExpiryTime_1 ++ []
def dkwX1_nodeExpiryTime_0 : List UInt8 := [42, 27, 182, 0, 117, 77, 44, 180, 0, 152, 154, 0, 8, 16, 252, 167, 0, 14, 44, 180, 0, 121, 44]
abbrev dktX1_nodeExpiryTime_0 : List UInt8 := dkwX1_nodeExpiryTime_0 ++ dktX1_nodeExpiryTime_1
theorem dksX1_nodeExpiryTime_0 : cX1_nodeExpiryTime.data.toList.drop 0 = dktX1_nodeExpiryTime_0 := by decide +kernel
theorem dksX1_nodeExpiryTime_1 : cX1_nodeExpiryTime.data.toList.drop 23 = dktX1_nodeExpiryTime_1 := dk_seg dksX1_nodeExpiryTime_0 23 rfl rfl
theorem dX1_nodeExpiryTime_0 : decode cX1_nodeExpiryTime 0 = .ok (.aload_n 0, 1) := dk_42 (dk_at dksX1_nodeExpiryTime_0 0 rfl rfl)
theorem dX1_nodeExpiryTime_1 : decode cX1_nodeExpiryTime 1 = .ok (.iload_n 1, 1) := dk_27 (dk_at dksX1_nodeExpiryTime_0 1 rfl rfl)
theorem dX1_nodeExpiryTime_2 : decode cX1_nodeExpiryTime 2 = .ok (.invokevirtual 117, 3) := dk_182 0 117 (dk_at dksX1_nodeExpiryTime_0 2 rfl rfl)
theorem dX1_nodeExpiryTime_5 : decode cX1_nodeExpiryTime 5 = .ok (.astore_n 2, 1) := dk_77 (dk_at dksX1_nodeExpiryTime_0 5 rfl rfl)
theorem dX1_nodeExpiryTime_6 : decode cX1_nodeExpiryTime 6 = .ok (.aload_n 2, 1) := dk_44 (dk_at dksX1_nodeExpiryTime_0 6 rfl rfl)
theorem dX1_nodeExpiryTime_7 : decode cX1_nodeExpiryTime 7 = .ok (.getfield 152, 3) := dk_180 0 152 (dk_at dksX1_nodeExpiryTime_0 7 rfl rfl)
theorem dX1_nodeExpiryTime_10 : decode cX1_nodeExpiryTime 10 = .ok (.ifCond .ne 8, 3) := dk_154 0 8 (dk_at dksX1_nodeExpiryTime_0 10 rfl rfl)
theorem dX1_nodeExpiryTime_13 : decode cX1_nodeExpiryTime 13 = .ok (.bipush (-4), 2) := dk_16 252 (dk_at dksX1_nodeExpiryTime_0 13 rfl rfl)
theorem dX1_nodeExpiryTime_15 : decode cX1_nodeExpiryTime 15 = .ok (.goto 14, 3) := dk_167 0 14 (dk_at dksX1_nodeExpiryTime_0 15 rfl rfl)
theorem dX1_nodeExpiryTime_18 : decode cX1_nodeExpiryTime 18 = .ok (.aload_n 2, 1) := dk_44 (dk_at dksX1_nodeExpiryTime_0 18 rfl rfl)
theorem dX1_nodeExpiryTime_19 : decode cX1_nodeExpiryTime 19 = .ok (.getfield 121, 3) := dk_180 0 121 (dk_at dksX1_nodeExpiryTime_0 19 rfl rfl)
theorem dX1_nodeExpiryTime_22 : decode cX1_nodeExpiryTime 22 = .ok (.aload_n 2, 1) := dk_44 (dk_at dksX1_nodeExpiryTime_0 22 rfl rfl)
theorem dX1_nodeExpiryTime_23 : decode cX1_nodeExpiryTime 23 = .ok (.getfield 278, 3) := dk_180 1 22 (dk_at dksX1_nodeExpiryTime_1 0 rfl rfl)
theorem dX1_nodeExpiryTime_26 : decode cX1_nodeExpiryTime 26 = .ok (.invokevirtual 269, 3) := dk_182 1 13 (dk_at dksX1_nodeExpiryTime_1 3 rfl rfl)
theorem dX1_nodeExpiryTime_29 : decode cX1_nodeExpiryTime 29 = .ok (.ireturn, 1) := dk_172 (dk_at dksX1_nodeExpiryTime_1 6 rfl rfl)
abbrev cX1_margin : ByteArray := prog_1_method_41_code
def yX1_margin : MethodName := ⟨RX1, "margin", "(I)I"⟩
def dkwX1_margin_2 : List UInt8 := [182, 1, 28, 100, 172]
abbrev dktX1_margin_2 : List UInt8 := dkwX1_margin_2 ++ []
def dkwX1_margin_1 : List UInt8 := [44, 180, 0, 152, 42, 180, 0, 49, 180, 1, 2, 159, 0, 5, 3, 172, 42, 182, 1, 25, 42, 27]
abbrev dktX1_margin_1 : List UInt8 := dkwX1_margin_1 ++ dktX1_margin_2
def dkwX1_margin_0 : List UInt8 := [42, 27, 182, 0, 117, 77, 42, 180, 0, 49, 180, 0, 255, 27, 160, 0, 24, 44, 180, 0, 152, 153, 0, 17]
abbrev dktX1_margin_0 : List UInt8 := dkwX1_margin_0 ++ dktX1_margin_1
theorem dksX1_margin_0 : cX1_margin.data.toList.drop 0 = dktX1_margin_0 := by decide +kernel
theorem dksX1_margin_1 : cX1_margin.data.toList.drop 24 = dktX1_margin_1 := dk_seg dksX1_margin_0 24 rfl rfl
theorem dksX1_margin_2 : cX1_margin.data.toList.drop 46 = dktX1_margin_2 := dk_seg dksX1_margin_1 22 rfl rfl
theorem dX1_margin_0 : decode cX1_margin 0 = .ok (.aload_n 0, 1) := dk_42 (dk_at dksX1_margin_0 0 rfl rfl)
theorem dX1_margin_1 : decode cX1_margin 1 = .ok (.iload_n 1, 1) := dk_27 (dk_at dksX1_margin_0 1 rfl rfl)
theorem dX1_margin_2 : decode cX1_margin 2 = .ok (.invokevirtual 117, 3) := dk_182 0 117 (dk_at dksX1_margin_0 2 rfl rfl)
theorem dX1_margin_5 : decode cX1_margin 5 = .ok (.astore_n 2, 1) := dk_77 (dk_at dksX1_margin_0 5 rfl rfl)
theorem dX1_margin_6 : decode cX1_margin 6 = .ok (.aload_n 0, 1) := dk_42 (dk_at dksX1_margin_0 6 rfl rfl)
theorem dX1_margin_7 : decode cX1_margin 7 = .ok (.getfield 49, 3) := dk_180 0 49 (dk_at dksX1_margin_0 7 rfl rfl)
theorem dX1_margin_10 : decode cX1_margin 10 = .ok (.getfield 255, 3) := dk_180 0 255 (dk_at dksX1_margin_0 10 rfl rfl)
theorem dX1_margin_13 : decode cX1_margin 13 = .ok (.iload_n 1, 1) := dk_27 (dk_at dksX1_margin_0 13 rfl rfl)
theorem dX1_margin_14 : decode cX1_margin 14 = .ok (.if_icmp .ne 24, 3) := dk_160 0 24 (dk_at dksX1_margin_0 14 rfl rfl)
theorem dX1_margin_17 : decode cX1_margin 17 = .ok (.aload_n 2, 1) := dk_44 (dk_at dksX1_margin_0 17 rfl rfl)
theorem dX1_margin_18 : decode cX1_margin 18 = .ok (.getfield 152, 3) := dk_180 0 152 (dk_at dksX1_margin_0 18 rfl rfl)
theorem dX1_margin_21 : decode cX1_margin 21 = .ok (.ifCond .eq 17, 3) := dk_153 0 17 (dk_at dksX1_margin_0 21 rfl rfl)
theorem dX1_margin_24 : decode cX1_margin 24 = .ok (.aload_n 2, 1) := dk_44 (dk_at dksX1_margin_1 0 rfl rfl)
theorem dX1_margin_25 : decode cX1_margin 25 = .ok (.getfield 152, 3) := dk_180 0 152 (dk_at dksX1_margin_1 1 rfl rfl)
theorem dX1_margin_28 : decode cX1_margin 28 = .ok (.aload_n 0, 1) := dk_42 (dk_at dksX1_margin_1 4 rfl rfl)
theorem dX1_margin_29 : decode cX1_margin 29 = .ok (.getfield 49, 3) := dk_180 0 49 (dk_at dksX1_margin_1 5 rfl rfl)
theorem dX1_margin_32 : decode cX1_margin 32 = .ok (.getfield 258, 3) := dk_180 1 2 (dk_at dksX1_margin_1 8 rfl rfl)
theorem dX1_margin_35 : decode cX1_margin 35 = .ok (.if_icmp .eq 5, 3) := dk_159 0 5 (dk_at dksX1_margin_1 11 rfl rfl)
theorem dX1_margin_38 : decode cX1_margin 38 = .ok (.iconst 0, 1) := dk_3 (dk_at dksX1_margin_1 14 rfl rfl)
theorem dX1_margin_39 : decode cX1_margin 39 = .ok (.ireturn, 1) := dk_172 (dk_at dksX1_margin_1 15 rfl rfl)
theorem dX1_margin_40 : decode cX1_margin 40 = .ok (.aload_n 0, 1) := dk_42 (dk_at dksX1_margin_1 16 rfl rfl)
theorem dX1_margin_41 : decode cX1_margin 41 = .ok (.invokevirtual 281, 3) := dk_182 1 25 (dk_at dksX1_margin_1 17 rfl rfl)
theorem dX1_margin_44 : decode cX1_margin 44 = .ok (.aload_n 0, 1) := dk_42 (dk_at dksX1_margin_1 20 rfl rfl)
theorem dX1_margin_45 : decode cX1_margin 45 = .ok (.iload_n 1, 1) := dk_27 (dk_at dksX1_margin_1 21 rfl rfl)
theorem dX1_margin_46 : decode cX1_margin 46 = .ok (.invokevirtual 284, 3) := dk_182 1 28 (dk_at dksX1_margin_2 0 rfl rfl)
theorem dX1_margin_49 : decode cX1_margin 49 = .ok (.isub, 1) := dk_100 (dk_at dksX1_margin_2 3 rfl rfl)
theorem dX1_margin_50 : decode cX1_margin 50 = .ok (.ireturn, 1) := dk_172 (dk_at dksX1_margin_2 4 rfl rfl)
abbrev cX1_timerTime : ByteArray := prog_1_method_42_code
def yX1_timerTime : MethodName := ⟨RX1, "timerTime", "(I)I"⟩
def dkwX1_timerTime_0 : List UInt8 := [42, 27, 182, 0, 117, 180, 0, 155, 172]
abbrev dktX1_timerTime_0 : List UInt8 := dkwX1_timerTime_0 ++ []
theorem dksX1_timerTime_0 : cX1_timerTime.data.toList.drop 0 = dktX1_timerTime_0 := by decide +kernel
theorem dX1_timerTime_0 : decode cX1_timerTime 0 = .ok (.aload_n 0, 1) := dk_42 (dk_at dksX1_timerTime_0 0 rfl rfl)
theorem dX1_timerTime_1 : decode cX1_timerTime 1 = .ok (.iload_n 1, 1) := dk_27 (dk_at dksX1_timerTime_0 1 rfl rfl)
theorem dX1_timerTime_2 : decode cX1_timerTime 2 = .ok (.invokevirtual 117, 3) := dk_182 0 117 (dk_at dksX1_timerTime_0 2 rfl rfl)
theorem dX1_timerTime_5 : decode cX1_timerTime 5 = .ok (.getfield 155, 3) := dk_180 0 155 (dk_at dksX1_timerTime_0 5 rfl rfl)
theorem dX1_timerTime_8 : decode cX1_timerTime 8 = .ok (.ireturn, 1) := dk_172 (dk_at dksX1_timerTime_0 8 rfl rfl)
abbrev cX1_nodeState : ByteArray := prog_1_method_43_code
def yX1_nodeState : MethodName := ⟨RX1, "nodeState", "(I)I"⟩
def dkwX1_nodeState_2 : List UInt8 := [167, 0, 4, 3, 96, 44, 180, 0, 186, 153, 0, 8, 16, 8, 167, 0, 4, 3, 96, 172]
abbrev dktX1_nodeState_2 : List UInt8 := dkwX1_nodeState_2 ++ []
def dkwX1_nodeState_1 : List UInt8 := [180, 0, 105, 182, 0, 138, 153, 0, 7, 5, 167, 0, 4, 3, 96, 44, 180, 0, 146, 153, 0, 7, 7]
abbrev dktX1_nodeState_1 : List UInt8 := dkwX1_nodeState_1 ++ dktX1_nodeState_2
def dkwX1_nodeState_0 : List UInt8 := [42, 27, 182, 0, 117, 77, 44, 180, 0, 134, 153, 0, 7, 4, 167, 0, 4, 3, 44, 42, 180, 0, 49]
abbrev dktX1_nodeState_0 : List UInt8 := dkwX1_nodeState_0 ++ dktX1_nodeState_1
theorem dksX1_nodeState_0 : cX1_nodeState.data.toList.drop 0 = dktX1_nodeState_0 := by decide +kernel
theorem dksX1_nodeState_1 : cX1_nodeState.data.toList.drop 23 = dktX1_nodeState_1 := dk_seg dksX1_nodeState_0 23 rfl rfl
theorem dksX1_nodeState_2 : cX1_nodeState.data.toList.drop 46 = dktX1_nodeState_2 := dk_seg dksX1_nodeState_1 23 rfl rfl
theorem dX1_nodeState_0 : decode cX1_nodeState 0 = .ok (.aload_n 0, 1) := dk_42 (dk_at dksX1_nodeState_0 0 rfl rfl)
theorem dX1_nodeState_1 : decode cX1_nodeState 1 = .ok (.iload_n 1, 1) := dk_27 (dk_at dksX1_nodeState_0 1 rfl rfl)
theorem dX1_nodeState_2 : decode cX1_nodeState 2 = .ok (.invokevirtual 117, 3) := dk_182 0 117 (dk_at dksX1_nodeState_0 2 rfl rfl)
theorem dX1_nodeState_5 : decode cX1_nodeState 5 = .ok (.astore_n 2, 1) := dk_77 (dk_at dksX1_nodeState_0 5 rfl rfl)
theorem dX1_nodeState_6 : decode cX1_nodeState 6 = .ok (.aload_n 2, 1) := dk_44 (dk_at dksX1_nodeState_0 6 rfl rfl)
theorem dX1_nodeState_7 : decode cX1_nodeState 7 = .ok (.getfield 134, 3) := dk_180 0 134 (dk_at dksX1_nodeState_0 7 rfl rfl)
theorem dX1_nodeState_10 : decode cX1_nodeState 10 = .ok (.ifCond .eq 7, 3) := dk_153 0 7 (dk_at dksX1_nodeState_0 10 rfl rfl)
theorem dX1_nodeState_13 : decode cX1_nodeState 13 = .ok (.iconst 1, 1) := dk_4 (dk_at dksX1_nodeState_0 13 rfl rfl)
theorem dX1_nodeState_14 : decode cX1_nodeState 14 = .ok (.goto 4, 3) := dk_167 0 4 (dk_at dksX1_nodeState_0 14 rfl rfl)
theorem dX1_nodeState_17 : decode cX1_nodeState 17 = .ok (.iconst 0, 1) := dk_3 (dk_at dksX1_nodeState_0 17 rfl rfl)
theorem dX1_nodeState_18 : decode cX1_nodeState 18 = .ok (.aload_n 2, 1) := dk_44 (dk_at dksX1_nodeState_0 18 rfl rfl)
theorem dX1_nodeState_19 : decode cX1_nodeState 19 = .ok (.aload_n 0, 1) := dk_42 (dk_at dksX1_nodeState_0 19 rfl rfl)
theorem dX1_nodeState_20 : decode cX1_nodeState 20 = .ok (.getfield 49, 3) := dk_180 0 49 (dk_at dksX1_nodeState_0 20 rfl rfl)
theorem dX1_nodeState_23 : decode cX1_nodeState 23 = .ok (.getfield 105, 3) := dk_180 0 105 (dk_at dksX1_nodeState_1 0 rfl rfl)
theorem dX1_nodeState_26 : decode cX1_nodeState 26 = .ok (.invokevirtual 138, 3) := dk_182 0 138 (dk_at dksX1_nodeState_1 3 rfl rfl)
theorem dX1_nodeState_29 : decode cX1_nodeState 29 = .ok (.ifCond .eq 7, 3) := dk_153 0 7 (dk_at dksX1_nodeState_1 6 rfl rfl)
theorem dX1_nodeState_32 : decode cX1_nodeState 32 = .ok (.iconst 2, 1) := dk_5 (dk_at dksX1_nodeState_1 9 rfl rfl)
theorem dX1_nodeState_33 : decode cX1_nodeState 33 = .ok (.goto 4, 3) := dk_167 0 4 (dk_at dksX1_nodeState_1 10 rfl rfl)
theorem dX1_nodeState_36 : decode cX1_nodeState 36 = .ok (.iconst 0, 1) := dk_3 (dk_at dksX1_nodeState_1 13 rfl rfl)
theorem dX1_nodeState_37 : decode cX1_nodeState 37 = .ok (.iadd, 1) := dk_96 (dk_at dksX1_nodeState_1 14 rfl rfl)
theorem dX1_nodeState_38 : decode cX1_nodeState 38 = .ok (.aload_n 2, 1) := dk_44 (dk_at dksX1_nodeState_1 15 rfl rfl)
theorem dX1_nodeState_39 : decode cX1_nodeState 39 = .ok (.getfield 146, 3) := dk_180 0 146 (dk_at dksX1_nodeState_1 16 rfl rfl)
theorem dX1_nodeState_42 : decode cX1_nodeState 42 = .ok (.ifCond .eq 7, 3) := dk_153 0 7 (dk_at dksX1_nodeState_1 19 rfl rfl)
theorem dX1_nodeState_45 : decode cX1_nodeState 45 = .ok (.iconst 4, 1) := dk_7 (dk_at dksX1_nodeState_1 22 rfl rfl)
theorem dX1_nodeState_46 : decode cX1_nodeState 46 = .ok (.goto 4, 3) := dk_167 0 4 (dk_at dksX1_nodeState_2 0 rfl rfl)
theorem dX1_nodeState_49 : decode cX1_nodeState 49 = .ok (.iconst 0, 1) := dk_3 (dk_at dksX1_nodeState_2 3 rfl rfl)
theorem dX1_nodeState_50 : decode cX1_nodeState 50 = .ok (.iadd, 1) := dk_96 (dk_at dksX1_nodeState_2 4 rfl rfl)
theorem dX1_nodeState_51 : decode cX1_nodeState 51 = .ok (.aload_n 2, 1) := dk_44 (dk_at dksX1_nodeState_2 5 rfl rfl)
theorem dX1_nodeState_52 : decode cX1_nodeState 52 = .ok (.getfield 186, 3) := dk_180 0 186 (dk_at dksX1_nodeState_2 6 rfl rfl)
theorem dX1_nodeState_55 : decode cX1_nodeState 55 = .ok (.ifCond .eq 8, 3) := dk_153 0 8 (dk_at dksX1_nodeState_2 9 rfl rfl)
theorem dX1_nodeState_58 : decode cX1_nodeState 58 = .ok (.bipush 8, 2) := dk_16 8 (dk_at dksX1_nodeState_2 12 rfl rfl)
theorem dX1_nodeState_60 : decode cX1_nodeState 60 = .ok (.goto 4, 3) := dk_167 0 4 (dk_at dksX1_nodeState_2 14 rfl rfl)
theorem dX1_nodeState_63 : decode cX1_nodeState 63 = .ok (.iconst 0, 1) := dk_3 (dk_at dksX1_nodeState_2 17 rfl rfl)
theorem dX1_nodeState_64 : decode cX1_nodeState 64 = .ok (.iadd, 1) := dk_96 (dk_at dksX1_nodeState_2 18 rfl rfl)
theorem dX1_nodeState_65 : decode cX1_nodeState 65 = .ok (.ireturn, 1) := dk_172 (dk_at dksX1_nodeState_2 19 rfl rfl)
abbrev cX1_cached : ByteArray := prog_1_method_44_code
def yX1_cached : MethodName := ⟨RX1, "cached", "(I)I"⟩
def dkwX1_cached_0 : List UInt8 := [42, 27, 182, 0, 117, 180, 0, 227, 172]
abbrev dktX1_cached_0 : List UInt8 := dkwX1_cached_0 ++ []
theorem dksX1_cached_0 : cX1_cached.data.toList.drop 0 = dktX1_cached_0 := by decide +kernel
theorem dX1_cached_0 : decode cX1_cached 0 = .ok (.aload_n 0, 1) := dk_42 (dk_at dksX1_cached_0 0 rfl rfl)
theorem dX1_cached_1 : decode cX1_cached 1 = .ok (.iload_n 1, 1) := dk_27 (dk_at dksX1_cached_0 1 rfl rfl)
theorem dX1_cached_2 : decode cX1_cached 2 = .ok (.invokevirtual 117, 3) := dk_182 0 117 (dk_at dksX1_cached_0 2 rfl rfl)
theorem dX1_cached_5 : decode cX1_cached 5 = .ok (.getfield 227, 3) := dk_180 0 227 (dk_at dksX1_cached_0 5 rfl rfl)
theorem dX1_cached_8 : decode cX1_cached 8 = .ok (.ireturn, 1) := dk_172 (dk_at dksX1_cached_0 8 rfl rfl)
abbrev cX1_logTime : ByteArray := prog_1_method_50_code
def yX1_logTime : MethodName := ⟨RX1, "logTime", "(I)I"⟩
def dkwX1_logTime_0 : List UInt8 := [42, 27, 182, 1, 46, 180, 1, 50, 172]
abbrev dktX1_logTime_0 : List UInt8 := dkwX1_logTime_0 ++ []
theorem dksX1_logTime_0 : cX1_logTime.data.toList.drop 0 = dktX1_logTime_0 := by decide +kernel
theorem dX1_logTime_0 : decode cX1_logTime 0 = .ok (.aload_n 0, 1) := dk_42 (dk_at dksX1_logTime_0 0 rfl rfl)
theorem dX1_logTime_1 : decode cX1_logTime 1 = .ok (.iload_n 1, 1) := dk_27 (dk_at dksX1_logTime_0 1 rfl rfl)
theorem dX1_logTime_2 : decode cX1_logTime 2 = .ok (.invokevirtual 302, 3) := dk_182 1 46 (dk_at dksX1_logTime_0 2 rfl rfl)
theorem dX1_logTime_5 : decode cX1_logTime 5 = .ok (.getfield 306, 3) := dk_180 1 50 (dk_at dksX1_logTime_0 5 rfl rfl)
theorem dX1_logTime_8 : decode cX1_logTime 8 = .ok (.ireturn, 1) := dk_172 (dk_at dksX1_logTime_0 8 rfl rfl)
abbrev cX1_event : ByteArray := prog_1_method_49_code
def yX1_event : MethodName := ⟨RX1, "event", "(I)LLeaderLeases$Event;"⟩
def dkwX1_event_2 : List UInt8 := [176]
abbrev dktX1_event_2 : List UInt8 := dkwX1_event_2 ++ []
def dkwX1_event_1 : List UInt8 := [187, 0, 68, 89, 183, 0, 70, 191, 42, 180, 0, 49, 180, 1, 37, 27, 185, 1, 40, 2, 0, 192, 1, 44]
abbrev dktX1_event_1 : List UInt8 := dkwX1_event_1 ++ dktX1_event_2
def dkwX1_event_0 : List UInt8 := [27, 133, 9, 42, 180, 0, 49, 180, 1, 37, 185, 0, 192, 1, 0, 4, 100, 133, 184, 0, 64, 154, 0, 11]
abbrev dktX1_event_0 : List UInt8 := dkwX1_event_0 ++ dktX1_event_1
theorem dksX1_event_0 : cX1_event.data.toList.drop 0 = dktX1_event_0 := by decide +kernel
theorem dksX1_event_1 : cX1_event.data.toList.drop 24 = dktX1_event_1 := dk_seg dksX1_event_0 24 rfl rfl
theorem dksX1_event_2 : cX1_event.data.toList.drop 48 = dktX1_event_2 := dk_seg dksX1_event_1 24 rfl rfl
theorem dX1_event_0 : decode cX1_event 0 = .ok (.iload_n 1, 1) := dk_27 (dk_at dksX1_event_0 0 rfl rfl)
theorem dX1_event_1 : decode cX1_event 1 = .ok (.i2l, 1) := dk_133 (dk_at dksX1_event_0 1 rfl rfl)
theorem dX1_event_2 : decode cX1_event 2 = .ok (.lconst 0, 1) := dk_9 (dk_at dksX1_event_0 2 rfl rfl)
theorem dX1_event_3 : decode cX1_event 3 = .ok (.aload_n 0, 1) := dk_42 (dk_at dksX1_event_0 3 rfl rfl)
theorem dX1_event_4 : decode cX1_event 4 = .ok (.getfield 49, 3) := dk_180 0 49 (dk_at dksX1_event_0 4 rfl rfl)
theorem dX1_event_7 : decode cX1_event 7 = .ok (.getfield 293, 3) := dk_180 1 37 (dk_at dksX1_event_0 7 rfl rfl)
theorem dX1_event_10 : decode cX1_event 10 = .ok (.invokeinterface 192 1, 5) := by decide +kernel
theorem dX1_event_15 : decode cX1_event 15 = .ok (.iconst 1, 1) := dk_4 (dk_at dksX1_event_0 15 rfl rfl)
theorem dX1_event_16 : decode cX1_event 16 = .ok (.isub, 1) := dk_100 (dk_at dksX1_event_0 16 rfl rfl)
theorem dX1_event_17 : decode cX1_event 17 = .ok (.i2l, 1) := dk_133 (dk_at dksX1_event_0 17 rfl rfl)
theorem dX1_event_18 : decode cX1_event 18 = .ok (.invokestatic 64, 3) := dk_184 0 64 (dk_at dksX1_event_0 18 rfl rfl)
theorem dX1_event_21 : decode cX1_event 21 = .ok (.ifCond .ne 11, 3) := dk_154 0 11 (dk_at dksX1_event_0 21 rfl rfl)
theorem dX1_event_24 : decode cX1_event 24 = .ok (.new 68, 3) := dk_187 0 68 (dk_at dksX1_event_1 0 rfl rfl)
theorem dX1_event_27 : decode cX1_event 27 = .ok (.dup, 1) := dk_89 (dk_at dksX1_event_1 3 rfl rfl)
theorem dX1_event_28 : decode cX1_event 28 = .ok (.invokespecial 70, 3) := dk_183 0 70 (dk_at dksX1_event_1 4 rfl rfl)
theorem dX1_event_31 : decode cX1_event 31 = .ok (.athrow, 1) := dk_191 (dk_at dksX1_event_1 7 rfl rfl)
theorem dX1_event_32 : decode cX1_event 32 = .ok (.aload_n 0, 1) := dk_42 (dk_at dksX1_event_1 8 rfl rfl)
theorem dX1_event_33 : decode cX1_event 33 = .ok (.getfield 49, 3) := dk_180 0 49 (dk_at dksX1_event_1 9 rfl rfl)
theorem dX1_event_36 : decode cX1_event 36 = .ok (.getfield 293, 3) := dk_180 1 37 (dk_at dksX1_event_1 12 rfl rfl)
theorem dX1_event_39 : decode cX1_event 39 = .ok (.iload_n 1, 1) := dk_27 (dk_at dksX1_event_1 15 rfl rfl)
theorem dX1_event_40 : decode cX1_event 40 = .ok (.invokeinterface 296 2, 5) := by decide +kernel
theorem dX1_event_45 : decode cX1_event 45 = .ok (.checkcast 300, 3) := dk_192 1 44 (dk_at dksX1_event_1 21 rfl rfl)
theorem dX1_event_48 : decode cX1_event 48 = .ok (.areturn, 1) := dk_176 (dk_at dksX1_event_2 0 rfl rfl)
abbrev cX1_logKind : ByteArray := prog_1_method_51_code
def yX1_logKind : MethodName := ⟨RX1, "logKind", "(I)I"⟩
def dkwX1_logKind_0 : List UInt8 := [42, 27, 182, 1, 46, 180, 1, 53, 172]
abbrev dktX1_logKind_0 : List UInt8 := dkwX1_logKind_0 ++ []
theorem dksX1_logKind_0 : cX1_logKind.data.toList.drop 0 = dktX1_logKind_0 := by decide +kernel
theorem dX1_logKind_0 : decode cX1_logKind 0 = .ok (.aload_n 0, 1) := dk_42 (dk_at dksX1_logKind_0 0 rfl rfl)
theorem dX1_logKind_1 : decode cX1_logKind 1 = .ok (.iload_n 1, 1) := dk_27 (dk_at dksX1_logKind_0 1 rfl rfl)
theorem dX1_logKind_2 : decode cX1_logKind 2 = .ok (.invokevirtual 302, 3) := dk_182 1 46 (dk_at dksX1_logKind_0 2 rfl rfl)
theorem dX1_logKind_5 : decode cX1_logKind 5 = .ok (.getfield 309, 3) := dk_180 1 53 (dk_at dksX1_logKind_0 5 rfl rfl)
theorem dX1_logKind_8 : decode cX1_logKind 8 = .ok (.ireturn, 1) := dk_172 (dk_at dksX1_logKind_0 8 rfl rfl)
abbrev cX1_logNode : ByteArray := prog_1_method_52_code
def yX1_logNode : MethodName := ⟨RX1, "logNode", "(I)I"⟩
def dkwX1_logNode_0 : List UInt8 := [42, 27, 182, 1, 46, 180, 1, 56, 172]
abbrev dktX1_logNode_0 : List UInt8 := dkwX1_logNode_0 ++ []
theorem dksX1_logNode_0 : cX1_logNode.data.toList.drop 0 = dktX1_logNode_0 := by decide +kernel
theorem dX1_logNode_0 : decode cX1_logNode 0 = .ok (.aload_n 0, 1) := dk_42 (dk_at dksX1_logNode_0 0 rfl rfl)
theorem dX1_logNode_1 : decode cX1_logNode 1 = .ok (.iload_n 1, 1) := dk_27 (dk_at dksX1_logNode_0 1 rfl rfl)
theorem dX1_logNode_2 : decode cX1_logNode 2 = .ok (.invokevirtual 302, 3) := dk_182 1 46 (dk_at dksX1_logNode_0 2 rfl rfl)
theorem dX1_logNode_5 : decode cX1_logNode 5 = .ok (.getfield 312, 3) := dk_180 1 56 (dk_at dksX1_logNode_0 5 rfl rfl)
theorem dX1_logNode_8 : decode cX1_logNode 8 = .ok (.ireturn, 1) := dk_172 (dk_at dksX1_logNode_0 8 rfl rfl)
abbrev cX1_logToken : ByteArray := prog_1_method_53_code
def yX1_logToken : MethodName := ⟨RX1, "logToken", "(I)I"⟩
def dkwX1_logToken_0 : List UInt8 := [42, 27, 182, 1, 46, 180, 1, 58, 172]
abbrev dktX1_logToken_0 : List UInt8 := dkwX1_logToken_0 ++ []
theorem dksX1_logToken_0 : cX1_logToken.data.toList.drop 0 = dktX1_logToken_0 := by decide +kernel
theorem dX1_logToken_0 : decode cX1_logToken 0 = .ok (.aload_n 0, 1) := dk_42 (dk_at dksX1_logToken_0 0 rfl rfl)
theorem dX1_logToken_1 : decode cX1_logToken 1 = .ok (.iload_n 1, 1) := dk_27 (dk_at dksX1_logToken_0 1 rfl rfl)
theorem dX1_logToken_2 : decode cX1_logToken 2 = .ok (.invokevirtual 302, 3) := dk_182 1 46 (dk_at dksX1_logToken_0 2 rfl rfl)
theorem dX1_logToken_5 : decode cX1_logToken 5 = .ok (.getfield 314, 3) := dk_180 1 58 (dk_at dksX1_logToken_0 5 rfl rfl)
theorem dX1_logToken_8 : decode cX1_logToken 8 = .ok (.ireturn, 1) := dk_172 (dk_at dksX1_logToken_0 8 rfl rfl)
abbrev cX1_eventCount : ByteArray := prog_1_method_54_code
def yX1_eventCount : MethodName := ⟨RX1, "eventCount", "(I)I"⟩
def dkwX1_eventCount_0 : List UInt8 := [27, 133, 10, 20, 1, 59, 184, 0, 64, 184, 0, 73, 42, 180, 0, 49, 180, 1, 61, 27, 46, 172]
abbrev dktX1_eventCount_0 : List UInt8 := dkwX1_eventCount_0 ++ []
theorem dksX1_eventCount_0 : cX1_eventCount.data.toList.drop 0 = dktX1_eventCount_0 := by decide +kernel
theorem dX1_eventCount_0 : decode cX1_eventCount 0 = .ok (.iload_n 1, 1) := dk_27 (dk_at dksX1_eventCount_0 0 rfl rfl)
theorem dX1_eventCount_1 : decode cX1_eventCount 1 = .ok (.i2l, 1) := dk_133 (dk_at dksX1_eventCount_0 1 rfl rfl)
theorem dX1_eventCount_2 : decode cX1_eventCount 2 = .ok (.lconst 1, 1) := dk_10 (dk_at dksX1_eventCount_0 2 rfl rfl)
theorem dX1_eventCount_3 : decode cX1_eventCount 3 = .ok (.ldc2_w 315, 3) := dk_20 1 59 (dk_at dksX1_eventCount_0 3 rfl rfl)
theorem dX1_eventCount_6 : decode cX1_eventCount 6 = .ok (.invokestatic 64, 3) := dk_184 0 64 (dk_at dksX1_eventCount_0 6 rfl rfl)
theorem dX1_eventCount_9 : decode cX1_eventCount 9 = .ok (.invokestatic 73, 3) := dk_184 0 73 (dk_at dksX1_eventCount_0 9 rfl rfl)
theorem dX1_eventCount_12 : decode cX1_eventCount 12 = .ok (.aload_n 0, 1) := dk_42 (dk_at dksX1_eventCount_0 12 rfl rfl)
theorem dX1_eventCount_13 : decode cX1_eventCount 13 = .ok (.getfield 49, 3) := dk_180 0 49 (dk_at dksX1_eventCount_0 13 rfl rfl)
theorem dX1_eventCount_16 : decode cX1_eventCount 16 = .ok (.getfield 317, 3) := dk_180 1 61 (dk_at dksX1_eventCount_0 16 rfl rfl)
theorem dX1_eventCount_19 : decode cX1_eventCount 19 = .ok (.iload_n 1, 1) := dk_27 (dk_at dksX1_eventCount_0 19 rfl rfl)
theorem dX1_eventCount_20 : decode cX1_eventCount 20 = .ok (.iaload, 1) := dk_46 (dk_at dksX1_eventCount_0 20 rfl rfl)
theorem dX1_eventCount_21 : decode cX1_eventCount 21 = .ok (.ireturn, 1) := dk_172 (dk_at dksX1_eventCount_0 21 rfl rfl)
abbrev cX1_ledTime : ByteArray := prog_1_method_58_code
def yX1_ledTime : MethodName := ⟨RX1, "ledTime", "(I)I"⟩
def dkwX1_ledTime_0 : List UInt8 := [42, 27, 182, 0, 117, 180, 1, 67, 172]
abbrev dktX1_ledTime_0 : List UInt8 := dkwX1_ledTime_0 ++ []
theorem dksX1_ledTime_0 : cX1_ledTime.data.toList.drop 0 = dktX1_ledTime_0 := by decide +kernel
theorem dX1_ledTime_0 : decode cX1_ledTime 0 = .ok (.aload_n 0, 1) := dk_42 (dk_at dksX1_ledTime_0 0 rfl rfl)
theorem dX1_ledTime_1 : decode cX1_ledTime 1 = .ok (.iload_n 1, 1) := dk_27 (dk_at dksX1_ledTime_0 1 rfl rfl)
theorem dX1_ledTime_2 : decode cX1_ledTime 2 = .ok (.invokevirtual 117, 3) := dk_182 0 117 (dk_at dksX1_ledTime_0 2 rfl rfl)
theorem dX1_ledTime_5 : decode cX1_ledTime 5 = .ok (.getfield 323, 3) := dk_180 1 67 (dk_at dksX1_ledTime_0 5 rfl rfl)
theorem dX1_ledTime_8 : decode cX1_ledTime 8 = .ok (.ireturn, 1) := dk_172 (dk_at dksX1_ledTime_0 8 rfl rfl)
abbrev cX1_nextLeader : ByteArray := prog_1_method_59_code
def yX1_nextLeader : MethodName := ⟨RX1, "nextLeader", "(I)I"⟩
def dkwX1_nextLeader_1 : List UInt8 := [18, 108, 164, 0, 8, 16, 251, 167, 0, 14, 42, 180, 0, 49, 182, 1, 70, 28, 182, 1, 74, 172]
abbrev dktX1_nextLeader_1 : List UInt8 := dkwX1_nextLeader_1 ++ []
def dkwX1_nextLeader_0 : List UInt8 := [27, 133, 10, 20, 0, 103, 184, 0, 64, 184, 0, 73, 42, 180, 0, 49, 180, 0, 105, 27, 96, 61, 28]
abbrev dktX1_nextLeader_0 : List UInt8 := dkwX1_nextLeader_0 ++ dktX1_nextLeader_1
theorem dksX1_nextLeader_0 : cX1_nextLeader.data.toList.drop 0 = dktX1_nextLeader_0 := by decide +kernel
theorem dksX1_nextLeader_1 : cX1_nextLeader.data.toList.drop 23 = dktX1_nextLeader_1 := dk_seg dksX1_nextLeader_0 23 rfl rfl
theorem dX1_nextLeader_0 : decode cX1_nextLeader 0 = .ok (.iload_n 1, 1) := dk_27 (dk_at dksX1_nextLeader_0 0 rfl rfl)
theorem dX1_nextLeader_1 : decode cX1_nextLeader 1 = .ok (.i2l, 1) := dk_133 (dk_at dksX1_nextLeader_0 1 rfl rfl)
theorem dX1_nextLeader_2 : decode cX1_nextLeader 2 = .ok (.lconst 1, 1) := dk_10 (dk_at dksX1_nextLeader_0 2 rfl rfl)
theorem dX1_nextLeader_3 : decode cX1_nextLeader 3 = .ok (.ldc2_w 103, 3) := dk_20 0 103 (dk_at dksX1_nextLeader_0 3 rfl rfl)
theorem dX1_nextLeader_6 : decode cX1_nextLeader 6 = .ok (.invokestatic 64, 3) := dk_184 0 64 (dk_at dksX1_nextLeader_0 6 rfl rfl)
theorem dX1_nextLeader_9 : decode cX1_nextLeader 9 = .ok (.invokestatic 73, 3) := dk_184 0 73 (dk_at dksX1_nextLeader_0 9 rfl rfl)
theorem dX1_nextLeader_12 : decode cX1_nextLeader 12 = .ok (.aload_n 0, 1) := dk_42 (dk_at dksX1_nextLeader_0 12 rfl rfl)
theorem dX1_nextLeader_13 : decode cX1_nextLeader 13 = .ok (.getfield 49, 3) := dk_180 0 49 (dk_at dksX1_nextLeader_0 13 rfl rfl)
theorem dX1_nextLeader_16 : decode cX1_nextLeader 16 = .ok (.getfield 105, 3) := dk_180 0 105 (dk_at dksX1_nextLeader_0 16 rfl rfl)
theorem dX1_nextLeader_19 : decode cX1_nextLeader 19 = .ok (.iload_n 1, 1) := dk_27 (dk_at dksX1_nextLeader_0 19 rfl rfl)
theorem dX1_nextLeader_20 : decode cX1_nextLeader 20 = .ok (.iadd, 1) := dk_96 (dk_at dksX1_nextLeader_0 20 rfl rfl)
theorem dX1_nextLeader_21 : decode cX1_nextLeader 21 = .ok (.istore_n 2, 1) := dk_61 (dk_at dksX1_nextLeader_0 21 rfl rfl)
theorem dX1_nextLeader_22 : decode cX1_nextLeader 22 = .ok (.iload_n 2, 1) := dk_28 (dk_at dksX1_nextLeader_0 22 rfl rfl)
theorem dX1_nextLeader_23 : decode cX1_nextLeader 23 = .ok (.ldc 108, 2) := dk_18 108 (dk_at dksX1_nextLeader_1 0 rfl rfl)
theorem dX1_nextLeader_25 : decode cX1_nextLeader 25 = .ok (.if_icmp .le 8, 3) := dk_164 0 8 (dk_at dksX1_nextLeader_1 2 rfl rfl)
theorem dX1_nextLeader_28 : decode cX1_nextLeader 28 = .ok (.bipush (-5), 2) := dk_16 251 (dk_at dksX1_nextLeader_1 5 rfl rfl)
theorem dX1_nextLeader_30 : decode cX1_nextLeader 30 = .ok (.goto 14, 3) := dk_167 0 14 (dk_at dksX1_nextLeader_1 7 rfl rfl)
theorem dX1_nextLeader_33 : decode cX1_nextLeader 33 = .ok (.aload_n 0, 1) := dk_42 (dk_at dksX1_nextLeader_1 10 rfl rfl)
theorem dX1_nextLeader_34 : decode cX1_nextLeader 34 = .ok (.getfield 49, 3) := dk_180 0 49 (dk_at dksX1_nextLeader_1 11 rfl rfl)
theorem dX1_nextLeader_37 : decode cX1_nextLeader 37 = .ok (.invokevirtual 326, 3) := dk_182 1 70 (dk_at dksX1_nextLeader_1 14 rfl rfl)
theorem dX1_nextLeader_40 : decode cX1_nextLeader 40 = .ok (.iload_n 2, 1) := dk_28 (dk_at dksX1_nextLeader_1 17 rfl rfl)
theorem dX1_nextLeader_41 : decode cX1_nextLeader 41 = .ok (.invokevirtual 330, 3) := dk_182 1 74 (dk_at dksX1_nextLeader_1 18 rfl rfl)
theorem dX1_nextLeader_44 : decode cX1_nextLeader 44 = .ok (.ireturn, 1) := dk_172 (dk_at dksX1_nextLeader_1 21 rfl rfl)
abbrev cX1_leaderlessTime : ByteArray := prog_1_method_60_code
def yX1_leaderlessTime : MethodName := ⟨RX1, "leaderlessTime", "(I)I"⟩
def dkwX1_leaderlessTime_2 : List UInt8 := [182, 0, 109, 45, 180, 1, 77, 172]
abbrev dktX1_leaderlessTime_2 : List UInt8 := dkwX1_leaderlessTime_2 ++ []
def dkwX1_leaderlessTime_1 : List UInt8 := [18, 108, 164, 0, 6, 16, 251, 172, 42, 180, 0, 49, 182, 1, 70, 78, 45, 3, 181, 1, 77, 45, 28]
abbrev dktX1_leaderlessTime_1 : List UInt8 := dkwX1_leaderlessTime_1 ++ dktX1_leaderlessTime_2
def dkwX1_leaderlessTime_0 : List UInt8 := [27, 133, 10, 20, 0, 103, 184, 0, 64, 184, 0, 73, 42, 180, 0, 49, 180, 0, 105, 27, 96, 61, 28]
abbrev dktX1_leaderlessTime_0 : List UInt8 := dkwX1_leaderlessTime_0 ++ dktX1_leaderlessTime_1
theorem dksX1_leaderlessTime_0 : cX1_leaderlessTime.data.toList.drop 0 = dktX1_leaderlessTime_0 := by decide +kernel
theorem dksX1_leaderlessTime_1 : cX1_leaderlessTime.data.toList.drop 23 = dktX1_leaderlessTime_1 := dk_seg dksX1_leaderlessTime_0 23 rfl rfl
theorem dksX1_leaderlessTime_2 : cX1_leaderlessTime.data.toList.drop 46 = dktX1_leaderlessTime_2 := dk_seg dksX1_leaderlessTime_1 23 rfl rfl
theorem dX1_leaderlessTime_0 : decode cX1_leaderlessTime 0 = .ok (.iload_n 1, 1) := dk_27 (dk_at dksX1_leaderlessTime_0 0 rfl rfl)
theorem dX1_leaderlessTime_1 : decode cX1_leaderlessTime 1 = .ok (.i2l, 1) := dk_133 (dk_at dksX1_leaderlessTime_0 1 rfl rfl)
theorem dX1_leaderlessTime_2 : decode cX1_leaderlessTime 2 = .ok (.lconst 1, 1) := dk_10 (dk_at dksX1_leaderlessTime_0 2 rfl rfl)
theorem dX1_leaderlessTime_3 : decode cX1_leaderlessTime 3 = .ok (.ldc2_w 103, 3) := dk_20 0 103 (dk_at dksX1_leaderlessTime_0 3 rfl rfl)
theorem dX1_leaderlessTime_6 : decode cX1_leaderlessTime 6 = .ok (.invokestatic 64, 3) := dk_184 0 64 (dk_at dksX1_leaderlessTime_0 6 rfl rfl)
theorem dX1_leaderlessTime_9 : decode cX1_leaderlessTime 9 = .ok (.invokestatic 73, 3) := dk_184 0 73 (dk_at dksX1_leaderlessTime_0 9 rfl rfl)
theorem dX1_leaderlessTime_12 : decode cX1_leaderlessTime 12 = .ok (.aload_n 0, 1) := dk_42 (dk_at dksX1_leaderlessTime_0 12 rfl rfl)
theorem dX1_leaderlessTime_13 : decode cX1_leaderlessTime 13 = .ok (.getfield 49, 3) := dk_180 0 49 (dk_at dksX1_leaderlessTime_0 13 rfl rfl)
theorem dX1_leaderlessTime_16 : decode cX1_leaderlessTime 16 = .ok (.getfield 105, 3) := dk_180 0 105 (dk_at dksX1_leaderlessTime_0 16 rfl rfl)
theorem dX1_leaderlessTime_19 : decode cX1_leaderlessTime 19 = .ok (.iload_n 1, 1) := dk_27 (dk_at dksX1_leaderlessTime_0 19 rfl rfl)
theorem dX1_leaderlessTime_20 : decode cX1_leaderlessTime 20 = .ok (.iadd, 1) := dk_96 (dk_at dksX1_leaderlessTime_0 20 rfl rfl)
theorem dX1_leaderlessTime_21 : decode cX1_leaderlessTime 21 = .ok (.istore_n 2, 1) := dk_61 (dk_at dksX1_leaderlessTime_0 21 rfl rfl)
theorem dX1_leaderlessTime_22 : decode cX1_leaderlessTime 22 = .ok (.iload_n 2, 1) := dk_28 (dk_at dksX1_leaderlessTime_0 22 rfl rfl)
theorem dX1_leaderlessTime_23 : decode cX1_leaderlessTime 23 = .ok (.ldc 108, 2) := dk_18 108 (dk_at dksX1_leaderlessTime_1 0 rfl rfl)
theorem dX1_leaderlessTime_25 : decode cX1_leaderlessTime 25 = .ok (.if_icmp .le 6, 3) := dk_164 0 6 (dk_at dksX1_leaderlessTime_1 2 rfl rfl)
theorem dX1_leaderlessTime_28 : decode cX1_leaderlessTime 28 = .ok (.bipush (-5), 2) := dk_16 251 (dk_at dksX1_leaderlessTime_1 5 rfl rfl)
theorem dX1_leaderlessTime_30 : decode cX1_leaderlessTime 30 = .ok (.ireturn, 1) := dk_172 (dk_at dksX1_leaderlessTime_1 7 rfl rfl)
theorem dX1_leaderlessTime_31 : decode cX1_leaderlessTime 31 = .ok (.aload_n 0, 1) := dk_42 (dk_at dksX1_leaderlessTime_1 8 rfl rfl)
theorem dX1_leaderlessTime_32 : decode cX1_leaderlessTime 32 = .ok (.getfield 49, 3) := dk_180 0 49 (dk_at dksX1_leaderlessTime_1 9 rfl rfl)
theorem dX1_leaderlessTime_35 : decode cX1_leaderlessTime 35 = .ok (.invokevirtual 326, 3) := dk_182 1 70 (dk_at dksX1_leaderlessTime_1 12 rfl rfl)
theorem dX1_leaderlessTime_38 : decode cX1_leaderlessTime 38 = .ok (.astore_n 3, 1) := dk_78 (dk_at dksX1_leaderlessTime_1 15 rfl rfl)
theorem dX1_leaderlessTime_39 : decode cX1_leaderlessTime 39 = .ok (.aload_n 3, 1) := dk_45 (dk_at dksX1_leaderlessTime_1 16 rfl rfl)
theorem dX1_leaderlessTime_40 : decode cX1_leaderlessTime 40 = .ok (.iconst 0, 1) := dk_3 (dk_at dksX1_leaderlessTime_1 17 rfl rfl)
theorem dX1_leaderlessTime_41 : decode cX1_leaderlessTime 41 = .ok (.putfield 333, 3) := dk_181 1 77 (dk_at dksX1_leaderlessTime_1 18 rfl rfl)
theorem dX1_leaderlessTime_44 : decode cX1_leaderlessTime 44 = .ok (.aload_n 3, 1) := dk_45 (dk_at dksX1_leaderlessTime_1 21 rfl rfl)
theorem dX1_leaderlessTime_45 : decode cX1_leaderlessTime 45 = .ok (.iload_n 2, 1) := dk_28 (dk_at dksX1_leaderlessTime_1 22 rfl rfl)
theorem dX1_leaderlessTime_46 : decode cX1_leaderlessTime 46 = .ok (.invokevirtual 109, 3) := dk_182 0 109 (dk_at dksX1_leaderlessTime_2 0 rfl rfl)
theorem dX1_leaderlessTime_49 : decode cX1_leaderlessTime 49 = .ok (.aload_n 3, 1) := dk_45 (dk_at dksX1_leaderlessTime_2 3 rfl rfl)
theorem dX1_leaderlessTime_50 : decode cX1_leaderlessTime 50 = .ok (.getfield 333, 3) := dk_180 1 77 (dk_at dksX1_leaderlessTime_2 4 rfl rfl)
theorem dX1_leaderlessTime_53 : decode cX1_leaderlessTime 53 = .ok (.ireturn, 1) := dk_172 (dk_at dksX1_leaderlessTime_2 7 rfl rfl)
abbrev cX1_leaseLeft : ByteArray := prog_1_method_61_code
def yX1_leaseLeft : MethodName := ⟨RX1, "leaseLeft", "(I)I"⟩
def dkwX1_leaseLeft_2 : List UInt8 := [3, 172]
abbrev dktX1_leaseLeft_2 : List UInt8 := dkwX1_leaseLeft_2 ++ []
def dkwX1_leaseLeft_1 : List UInt8 := [180, 1, 22, 44, 180, 0, 121, 42, 180, 0, 49, 180, 0, 105, 182, 0, 127, 100, 184, 0, 180, 167, 0, 4]
abbrev dktX1_leaseLeft_1 : List UInt8 := dkwX1_leaseLeft_1 ++ dktX1_leaseLeft_2
def dkwX1_leaseLeft_0 : List UInt8 := [42, 27, 182, 0, 117, 77, 44, 180, 0, 134, 153, 0, 36, 44, 180, 0, 152, 158, 0, 29, 3, 44]
abbrev dktX1_leaseLeft_0 : List UInt8 := dkwX1_leaseLeft_0 ++ dktX1_leaseLeft_1
theorem dksX1_leaseLeft_0 : cX1_leaseLeft.data.toList.drop 0 = dktX1_leaseLeft_0 := by decide +kernel
theorem dksX1_leaseLeft_1 : cX1_leaseLeft.data.toList.drop 22 = dktX1_leaseLeft_1 := dk_seg dksX1_leaseLeft_0 22 rfl rfl
theorem dksX1_leaseLeft_2 : cX1_leaseLeft.data.toList.drop 46 = dktX1_leaseLeft_2 := dk_seg dksX1_leaseLeft_1 24 rfl rfl
theorem dX1_leaseLeft_0 : decode cX1_leaseLeft 0 = .ok (.aload_n 0, 1) := dk_42 (dk_at dksX1_leaseLeft_0 0 rfl rfl)
theorem dX1_leaseLeft_1 : decode cX1_leaseLeft 1 = .ok (.iload_n 1, 1) := dk_27 (dk_at dksX1_leaseLeft_0 1 rfl rfl)
theorem dX1_leaseLeft_2 : decode cX1_leaseLeft 2 = .ok (.invokevirtual 117, 3) := dk_182 0 117 (dk_at dksX1_leaseLeft_0 2 rfl rfl)
theorem dX1_leaseLeft_5 : decode cX1_leaseLeft 5 = .ok (.astore_n 2, 1) := dk_77 (dk_at dksX1_leaseLeft_0 5 rfl rfl)
theorem dX1_leaseLeft_6 : decode cX1_leaseLeft 6 = .ok (.aload_n 2, 1) := dk_44 (dk_at dksX1_leaseLeft_0 6 rfl rfl)
theorem dX1_leaseLeft_7 : decode cX1_leaseLeft 7 = .ok (.getfield 134, 3) := dk_180 0 134 (dk_at dksX1_leaseLeft_0 7 rfl rfl)
theorem dX1_leaseLeft_10 : decode cX1_leaseLeft 10 = .ok (.ifCond .eq 36, 3) := dk_153 0 36 (dk_at dksX1_leaseLeft_0 10 rfl rfl)
theorem dX1_leaseLeft_13 : decode cX1_leaseLeft 13 = .ok (.aload_n 2, 1) := dk_44 (dk_at dksX1_leaseLeft_0 13 rfl rfl)
theorem dX1_leaseLeft_14 : decode cX1_leaseLeft 14 = .ok (.getfield 152, 3) := dk_180 0 152 (dk_at dksX1_leaseLeft_0 14 rfl rfl)
theorem dX1_leaseLeft_17 : decode cX1_leaseLeft 17 = .ok (.ifCond .le 29, 3) := dk_158 0 29 (dk_at dksX1_leaseLeft_0 17 rfl rfl)
theorem dX1_leaseLeft_20 : decode cX1_leaseLeft 20 = .ok (.iconst 0, 1) := dk_3 (dk_at dksX1_leaseLeft_0 20 rfl rfl)
theorem dX1_leaseLeft_21 : decode cX1_leaseLeft 21 = .ok (.aload_n 2, 1) := dk_44 (dk_at dksX1_leaseLeft_0 21 rfl rfl)
theorem dX1_leaseLeft_22 : decode cX1_leaseLeft 22 = .ok (.getfield 278, 3) := dk_180 1 22 (dk_at dksX1_leaseLeft_1 0 rfl rfl)
theorem dX1_leaseLeft_25 : decode cX1_leaseLeft 25 = .ok (.aload_n 2, 1) := dk_44 (dk_at dksX1_leaseLeft_1 3 rfl rfl)
theorem dX1_leaseLeft_26 : decode cX1_leaseLeft 26 = .ok (.getfield 121, 3) := dk_180 0 121 (dk_at dksX1_leaseLeft_1 4 rfl rfl)
theorem dX1_leaseLeft_29 : decode cX1_leaseLeft 29 = .ok (.aload_n 0, 1) := dk_42 (dk_at dksX1_leaseLeft_1 7 rfl rfl)
theorem dX1_leaseLeft_30 : decode cX1_leaseLeft 30 = .ok (.getfield 49, 3) := dk_180 0 49 (dk_at dksX1_leaseLeft_1 8 rfl rfl)
theorem dX1_leaseLeft_33 : decode cX1_leaseLeft 33 = .ok (.getfield 105, 3) := dk_180 0 105 (dk_at dksX1_leaseLeft_1 11 rfl rfl)
theorem dX1_leaseLeft_36 : decode cX1_leaseLeft 36 = .ok (.invokevirtual 127, 3) := dk_182 0 127 (dk_at dksX1_leaseLeft_1 14 rfl rfl)
theorem dX1_leaseLeft_39 : decode cX1_leaseLeft 39 = .ok (.isub, 1) := dk_100 (dk_at dksX1_leaseLeft_1 17 rfl rfl)
theorem dX1_leaseLeft_40 : decode cX1_leaseLeft 40 = .ok (.invokestatic 180, 3) := dk_184 0 180 (dk_at dksX1_leaseLeft_1 18 rfl rfl)
theorem dX1_leaseLeft_43 : decode cX1_leaseLeft 43 = .ok (.goto 4, 3) := dk_167 0 4 (dk_at dksX1_leaseLeft_1 21 rfl rfl)
theorem dX1_leaseLeft_46 : decode cX1_leaseLeft 46 = .ok (.iconst 0, 1) := dk_3 (dk_at dksX1_leaseLeft_2 0 rfl rfl)
theorem dX1_leaseLeft_47 : decode cX1_leaseLeft 47 = .ok (.ireturn, 1) := dk_172 (dk_at dksX1_leaseLeft_2 1 rfl rfl)
abbrev cX1_countInLog : ByteArray := prog_1_method_65_code
def yX1_countInLog : MethodName := ⟨RX1, "countInLog", "(II)I"⟩
def dkwX1_countInLog_4 : List UInt8 := [167, 0, 4, 3, 96, 62, 132, 4, 1, 167, 255, 180, 29, 172]
abbrev dktX1_countInLog_4 : List UInt8 := dkwX1_countInLog_4 ++ []
def dkwX1_countInLog_3 : List UInt8 := [180, 0, 49, 180, 1, 37, 21, 4, 185, 1, 40, 2, 0, 192, 1, 44, 180, 1, 56, 28, 160, 0, 7, 4]
abbrev dktX1_countInLog_3 : List UInt8 := dkwX1_countInLog_3 ++ dktX1_countInLog_4
def dkwX1_countInLog_2 : List UInt8 := [180, 0, 49, 180, 1, 37, 21, 4, 185, 1, 40, 2, 0, 192, 1, 44, 180, 1, 53, 27, 160, 0, 31, 42]
abbrev dktX1_countInLog_2 : List UInt8 := dkwX1_countInLog_2 ++ dktX1_countInLog_3
def dkwX1_countInLog_1 : List UInt8 := [62, 3, 54, 4, 21, 4, 42, 180, 0, 49, 180, 1, 37, 185, 0, 192, 1, 0, 162, 0, 65, 29, 42]
abbrev dktX1_countInLog_1 : List UInt8 := dkwX1_countInLog_1 ++ dktX1_countInLog_2
def dkwX1_countInLog_0 : List UInt8 := [28, 2, 159, 0, 9, 42, 28, 182, 0, 117, 87, 27, 133, 10, 20, 1, 59, 184, 0, 64, 184, 0, 73, 3]
abbrev dktX1_countInLog_0 : List UInt8 := dkwX1_countInLog_0 ++ dktX1_countInLog_1
theorem dksX1_countInLog_0 : cX1_countInLog.data.toList.drop 0 = dktX1_countInLog_0 := by decide +kernel
theorem dksX1_countInLog_1 : cX1_countInLog.data.toList.drop 24 = dktX1_countInLog_1 := dk_seg dksX1_countInLog_0 24 rfl rfl
theorem dksX1_countInLog_2 : cX1_countInLog.data.toList.drop 47 = dktX1_countInLog_2 := dk_seg dksX1_countInLog_1 23 rfl rfl
theorem dksX1_countInLog_3 : cX1_countInLog.data.toList.drop 71 = dktX1_countInLog_3 := dk_seg dksX1_countInLog_2 24 rfl rfl
theorem dksX1_countInLog_4 : cX1_countInLog.data.toList.drop 95 = dktX1_countInLog_4 := dk_seg dksX1_countInLog_3 24 rfl rfl
theorem dX1_countInLog_0 : decode cX1_countInLog 0 = .ok (.iload_n 2, 1) := dk_28 (dk_at dksX1_countInLog_0 0 rfl rfl)
theorem dX1_countInLog_1 : decode cX1_countInLog 1 = .ok (.iconst (-1), 1) := dk_2 (dk_at dksX1_countInLog_0 1 rfl rfl)
theorem dX1_countInLog_2 : decode cX1_countInLog 2 = .ok (.if_icmp .eq 9, 3) := dk_159 0 9 (dk_at dksX1_countInLog_0 2 rfl rfl)
theorem dX1_countInLog_5 : decode cX1_countInLog 5 = .ok (.aload_n 0, 1) := dk_42 (dk_at dksX1_countInLog_0 5 rfl rfl)
theorem dX1_countInLog_6 : decode cX1_countInLog 6 = .ok (.iload_n 2, 1) := dk_28 (dk_at dksX1_countInLog_0 6 rfl rfl)
theorem dX1_countInLog_7 : decode cX1_countInLog 7 = .ok (.invokevirtual 117, 3) := dk_182 0 117 (dk_at dksX1_countInLog_0 7 rfl rfl)
theorem dX1_countInLog_10 : decode cX1_countInLog 10 = .ok (.pop, 1) := dk_87 (dk_at dksX1_countInLog_0 10 rfl rfl)
theorem dX1_countInLog_11 : decode cX1_countInLog 11 = .ok (.iload_n 1, 1) := dk_27 (dk_at dksX1_countInLog_0 11 rfl rfl)
theorem dX1_countInLog_12 : decode cX1_countInLog 12 = .ok (.i2l, 1) := dk_133 (dk_at dksX1_countInLog_0 12 rfl rfl)
theorem dX1_countInLog_13 : decode cX1_countInLog 13 = .ok (.lconst 1, 1) := dk_10 (dk_at dksX1_countInLog_0 13 rfl rfl)
theorem dX1_countInLog_14 : decode cX1_countInLog 14 = .ok (.ldc2_w 315, 3) := dk_20 1 59 (dk_at dksX1_countInLog_0 14 rfl rfl)
theorem dX1_countInLog_17 : decode cX1_countInLog 17 = .ok (.invokestatic 64, 3) := dk_184 0 64 (dk_at dksX1_countInLog_0 17 rfl rfl)
theorem dX1_countInLog_20 : decode cX1_countInLog 20 = .ok (.invokestatic 73, 3) := dk_184 0 73 (dk_at dksX1_countInLog_0 20 rfl rfl)
theorem dX1_countInLog_23 : decode cX1_countInLog 23 = .ok (.iconst 0, 1) := dk_3 (dk_at dksX1_countInLog_0 23 rfl rfl)
theorem dX1_countInLog_24 : decode cX1_countInLog 24 = .ok (.istore_n 3, 1) := dk_62 (dk_at dksX1_countInLog_1 0 rfl rfl)
theorem dX1_countInLog_25 : decode cX1_countInLog 25 = .ok (.iconst 0, 1) := dk_3 (dk_at dksX1_countInLog_1 1 rfl rfl)
theorem dX1_countInLog_26 : decode cX1_countInLog 26 = .ok (.istore 4, 2) := dk_54 4 (dk_at dksX1_countInLog_1 2 rfl rfl)
theorem dX1_countInLog_28 : decode cX1_countInLog 28 = .ok (.iload 4, 2) := dk_21 4 (dk_at dksX1_countInLog_1 4 rfl rfl)
theorem dX1_countInLog_30 : decode cX1_countInLog 30 = .ok (.aload_n 0, 1) := dk_42 (dk_at dksX1_countInLog_1 6 rfl rfl)
theorem dX1_countInLog_31 : decode cX1_countInLog 31 = .ok (.getfield 49, 3) := dk_180 0 49 (dk_at dksX1_countInLog_1 7 rfl rfl)
theorem dX1_countInLog_34 : decode cX1_countInLog 34 = .ok (.getfield 293, 3) := dk_180 1 37 (dk_at dksX1_countInLog_1 10 rfl rfl)
theorem dX1_countInLog_37 : decode cX1_countInLog 37 = .ok (.invokeinterface 192 1, 5) := by decide +kernel
theorem dX1_countInLog_42 : decode cX1_countInLog 42 = .ok (.if_icmp .ge 65, 3) := dk_162 0 65 (dk_at dksX1_countInLog_1 18 rfl rfl)
theorem dX1_countInLog_45 : decode cX1_countInLog 45 = .ok (.iload_n 3, 1) := dk_29 (dk_at dksX1_countInLog_1 21 rfl rfl)
theorem dX1_countInLog_46 : decode cX1_countInLog 46 = .ok (.aload_n 0, 1) := dk_42 (dk_at dksX1_countInLog_1 22 rfl rfl)
theorem dX1_countInLog_47 : decode cX1_countInLog 47 = .ok (.getfield 49, 3) := dk_180 0 49 (dk_at dksX1_countInLog_2 0 rfl rfl)
theorem dX1_countInLog_50 : decode cX1_countInLog 50 = .ok (.getfield 293, 3) := dk_180 1 37 (dk_at dksX1_countInLog_2 3 rfl rfl)
theorem dX1_countInLog_53 : decode cX1_countInLog 53 = .ok (.iload 4, 2) := dk_21 4 (dk_at dksX1_countInLog_2 6 rfl rfl)
theorem dX1_countInLog_55 : decode cX1_countInLog 55 = .ok (.invokeinterface 296 2, 5) := by decide +kernel
theorem dX1_countInLog_60 : decode cX1_countInLog 60 = .ok (.checkcast 300, 3) := dk_192 1 44 (dk_at dksX1_countInLog_2 13 rfl rfl)
theorem dX1_countInLog_63 : decode cX1_countInLog 63 = .ok (.getfield 309, 3) := dk_180 1 53 (dk_at dksX1_countInLog_2 16 rfl rfl)
theorem dX1_countInLog_66 : decode cX1_countInLog 66 = .ok (.iload_n 1, 1) := dk_27 (dk_at dksX1_countInLog_2 19 rfl rfl)
theorem dX1_countInLog_67 : decode cX1_countInLog 67 = .ok (.if_icmp .ne 31, 3) := dk_160 0 31 (dk_at dksX1_countInLog_2 20 rfl rfl)
theorem dX1_countInLog_70 : decode cX1_countInLog 70 = .ok (.aload_n 0, 1) := dk_42 (dk_at dksX1_countInLog_2 23 rfl rfl)
theorem dX1_countInLog_71 : decode cX1_countInLog 71 = .ok (.getfield 49, 3) := dk_180 0 49 (dk_at dksX1_countInLog_3 0 rfl rfl)
theorem dX1_countInLog_74 : decode cX1_countInLog 74 = .ok (.getfield 293, 3) := dk_180 1 37 (dk_at dksX1_countInLog_3 3 rfl rfl)
theorem dX1_countInLog_77 : decode cX1_countInLog 77 = .ok (.iload 4, 2) := dk_21 4 (dk_at dksX1_countInLog_3 6 rfl rfl)
theorem dX1_countInLog_79 : decode cX1_countInLog 79 = .ok (.invokeinterface 296 2, 5) := by decide +kernel
theorem dX1_countInLog_84 : decode cX1_countInLog 84 = .ok (.checkcast 300, 3) := dk_192 1 44 (dk_at dksX1_countInLog_3 13 rfl rfl)
theorem dX1_countInLog_87 : decode cX1_countInLog 87 = .ok (.getfield 312, 3) := dk_180 1 56 (dk_at dksX1_countInLog_3 16 rfl rfl)
theorem dX1_countInLog_90 : decode cX1_countInLog 90 = .ok (.iload_n 2, 1) := dk_28 (dk_at dksX1_countInLog_3 19 rfl rfl)
theorem dX1_countInLog_91 : decode cX1_countInLog 91 = .ok (.if_icmp .ne 7, 3) := dk_160 0 7 (dk_at dksX1_countInLog_3 20 rfl rfl)
theorem dX1_countInLog_94 : decode cX1_countInLog 94 = .ok (.iconst 1, 1) := dk_4 (dk_at dksX1_countInLog_3 23 rfl rfl)
theorem dX1_countInLog_95 : decode cX1_countInLog 95 = .ok (.goto 4, 3) := dk_167 0 4 (dk_at dksX1_countInLog_4 0 rfl rfl)
theorem dX1_countInLog_98 : decode cX1_countInLog 98 = .ok (.iconst 0, 1) := dk_3 (dk_at dksX1_countInLog_4 3 rfl rfl)
theorem dX1_countInLog_99 : decode cX1_countInLog 99 = .ok (.iadd, 1) := dk_96 (dk_at dksX1_countInLog_4 4 rfl rfl)
theorem dX1_countInLog_100 : decode cX1_countInLog 100 = .ok (.istore_n 3, 1) := dk_62 (dk_at dksX1_countInLog_4 5 rfl rfl)
theorem dX1_countInLog_101 : decode cX1_countInLog 101 = .ok (.iinc 4 1, 3) := dk_132 4 1 (dk_at dksX1_countInLog_4 6 rfl rfl)
theorem dX1_countInLog_104 : decode cX1_countInLog 104 = .ok (.goto (-76), 3) := dk_167 255 180 (dk_at dksX1_countInLog_4 9 rfl rfl)
theorem dX1_countInLog_107 : decode cX1_countInLog 107 = .ok (.iload_n 3, 1) := dk_29 (dk_at dksX1_countInLog_4 12 rfl rfl)
theorem dX1_countInLog_108 : decode cX1_countInLog 108 = .ok (.ireturn, 1) := dk_172 (dk_at dksX1_countInLog_4 13 rfl rfl)
abbrev cX1_lastEventTime : ByteArray := prog_1_method_66_code
def yX1_lastEventTime : MethodName := ⟨RX1, "lastEventTime", "(I)I"⟩
def dkwX1_lastEventTime_3 : List UInt8 := [180, 1, 50, 172, 132, 2, 255, 167, 255, 206, 16, 252, 172]
abbrev dktX1_lastEventTime_3 : List UInt8 := dkwX1_lastEventTime_3 ++ []
def dkwX1_lastEventTime_2 : List UInt8 := [180, 1, 53, 27, 160, 0, 23, 42, 180, 0, 49, 180, 1, 37, 28, 185, 1, 40, 2, 0, 192, 1, 44]
abbrev dktX1_lastEventTime_2 : List UInt8 := dkwX1_lastEventTime_2 ++ dktX1_lastEventTime_3
def dkwX1_lastEventTime_1 : List UInt8 := [4, 100, 61, 28, 155, 0, 52, 42, 180, 0, 49, 180, 1, 37, 28, 185, 1, 40, 2, 0, 192, 1, 44]
abbrev dktX1_lastEventTime_1 : List UInt8 := dkwX1_lastEventTime_1 ++ dktX1_lastEventTime_2
def dkwX1_lastEventTime_0 : List UInt8 := [27, 133, 10, 20, 1, 59, 184, 0, 64, 184, 0, 73, 42, 180, 0, 49, 180, 1, 37, 185, 0, 192, 1, 0]
abbrev dktX1_lastEventTime_0 : List UInt8 := dkwX1_lastEventTime_0 ++ dktX1_lastEventTime_1
theorem dksX1_lastEventTime_0 : cX1_lastEventTime.data.toList.drop 0 = dktX1_lastEventTime_0 := by decide +kernel
theorem dksX1_lastEventTime_1 : cX1_lastEventTime.data.toList.drop 24 = dktX1_lastEventTime_1 := dk_seg dksX1_lastEventTime_0 24 rfl rfl
theorem dksX1_lastEventTime_2 : cX1_lastEventTime.data.toList.drop 47 = dktX1_lastEventTime_2 := dk_seg dksX1_lastEventTime_1 23 rfl rfl
theorem dksX1_lastEventTime_3 : cX1_lastEventTime.data.toList.drop 70 = dktX1_lastEventTime_3 := dk_seg dksX1_lastEventTime_2 23 rfl rfl
theorem dX1_lastEventTime_0 : decode cX1_lastEventTime 0 = .ok (.iload_n 1, 1) := dk_27 (dk_at dksX1_lastEventTime_0 0 rfl rfl)
theorem dX1_lastEventTime_1 : decode cX1_lastEventTime 1 = .ok (.i2l, 1) := dk_133 (dk_at dksX1_lastEventTime_0 1 rfl rfl)
theorem dX1_lastEventTime_2 : decode cX1_lastEventTime 2 = .ok (.lconst 1, 1) := dk_10 (dk_at dksX1_lastEventTime_0 2 rfl rfl)
theorem dX1_lastEventTime_3 : decode cX1_lastEventTime 3 = .ok (.ldc2_w 315, 3) := dk_20 1 59 (dk_at dksX1_lastEventTime_0 3 rfl rfl)
theorem dX1_lastEventTime_6 : decode cX1_lastEventTime 6 = .ok (.invokestatic 64, 3) := dk_184 0 64 (dk_at dksX1_lastEventTime_0 6 rfl rfl)
theorem dX1_lastEventTime_9 : decode cX1_lastEventTime 9 = .ok (.invokestatic 73, 3) := dk_184 0 73 (dk_at dksX1_lastEventTime_0 9 rfl rfl)
theorem dX1_lastEventTime_12 : decode cX1_lastEventTime 12 = .ok (.aload_n 0, 1) := dk_42 (dk_at dksX1_lastEventTime_0 12 rfl rfl)
theorem dX1_lastEventTime_13 : decode cX1_lastEventTime 13 = .ok (.getfield 49, 3) := dk_180 0 49 (dk_at dksX1_lastEventTime_0 13 rfl rfl)
theorem dX1_lastEventTime_16 : decode cX1_lastEventTime 16 = .ok (.getfield 293, 3) := dk_180 1 37 (dk_at dksX1_lastEventTime_0 16 rfl rfl)
theorem dX1_lastEventTime_19 : decode cX1_lastEventTime 19 = .ok (.invokeinterface 192 1, 5) := by decide +kernel
theorem dX1_lastEventTime_24 : decode cX1_lastEventTime 24 = .ok (.iconst 1, 1) := dk_4 (dk_at dksX1_lastEventTime_1 0 rfl rfl)
theorem dX1_lastEventTime_25 : decode cX1_lastEventTime 25 = .ok (.isub, 1) := dk_100 (dk_at dksX1_lastEventTime_1 1 rfl rfl)
theorem dX1_lastEventTime_26 : decode cX1_lastEventTime 26 = .ok (.istore_n 2, 1) := dk_61 (dk_at dksX1_lastEventTime_1 2 rfl rfl)
theorem dX1_lastEventTime_27 : decode cX1_lastEventTime 27 = .ok (.iload_n 2, 1) := dk_28 (dk_at dksX1_lastEventTime_1 3 rfl rfl)
theorem dX1_lastEventTime_28 : decode cX1_lastEventTime 28 = .ok (.ifCond .lt 52, 3) := dk_155 0 52 (dk_at dksX1_lastEventTime_1 4 rfl rfl)
theorem dX1_lastEventTime_31 : decode cX1_lastEventTime 31 = .ok (.aload_n 0, 1) := dk_42 (dk_at dksX1_lastEventTime_1 7 rfl rfl)
theorem dX1_lastEventTime_32 : decode cX1_lastEventTime 32 = .ok (.getfield 49, 3) := dk_180 0 49 (dk_at dksX1_lastEventTime_1 8 rfl rfl)
theorem dX1_lastEventTime_35 : decode cX1_lastEventTime 35 = .ok (.getfield 293, 3) := dk_180 1 37 (dk_at dksX1_lastEventTime_1 11 rfl rfl)
theorem dX1_lastEventTime_38 : decode cX1_lastEventTime 38 = .ok (.iload_n 2, 1) := dk_28 (dk_at dksX1_lastEventTime_1 14 rfl rfl)
theorem dX1_lastEventTime_39 : decode cX1_lastEventTime 39 = .ok (.invokeinterface 296 2, 5) := by decide +kernel
theorem dX1_lastEventTime_44 : decode cX1_lastEventTime 44 = .ok (.checkcast 300, 3) := dk_192 1 44 (dk_at dksX1_lastEventTime_1 20 rfl rfl)
theorem dX1_lastEventTime_47 : decode cX1_lastEventTime 47 = .ok (.getfield 309, 3) := dk_180 1 53 (dk_at dksX1_lastEventTime_2 0 rfl rfl)
theorem dX1_lastEventTime_50 : decode cX1_lastEventTime 50 = .ok (.iload_n 1, 1) := dk_27 (dk_at dksX1_lastEventTime_2 3 rfl rfl)
theorem dX1_lastEventTime_51 : decode cX1_lastEventTime 51 = .ok (.if_icmp .ne 23, 3) := dk_160 0 23 (dk_at dksX1_lastEventTime_2 4 rfl rfl)
theorem dX1_lastEventTime_54 : decode cX1_lastEventTime 54 = .ok (.aload_n 0, 1) := dk_42 (dk_at dksX1_lastEventTime_2 7 rfl rfl)
theorem dX1_lastEventTime_55 : decode cX1_lastEventTime 55 = .ok (.getfield 49, 3) := dk_180 0 49 (dk_at dksX1_lastEventTime_2 8 rfl rfl)
theorem dX1_lastEventTime_58 : decode cX1_lastEventTime 58 = .ok (.getfield 293, 3) := dk_180 1 37 (dk_at dksX1_lastEventTime_2 11 rfl rfl)
theorem dX1_lastEventTime_61 : decode cX1_lastEventTime 61 = .ok (.iload_n 2, 1) := dk_28 (dk_at dksX1_lastEventTime_2 14 rfl rfl)
theorem dX1_lastEventTime_62 : decode cX1_lastEventTime 62 = .ok (.invokeinterface 296 2, 5) := by decide +kernel
theorem dX1_lastEventTime_67 : decode cX1_lastEventTime 67 = .ok (.checkcast 300, 3) := dk_192 1 44 (dk_at dksX1_lastEventTime_2 20 rfl rfl)
theorem dX1_lastEventTime_70 : decode cX1_lastEventTime 70 = .ok (.getfield 306, 3) := dk_180 1 50 (dk_at dksX1_lastEventTime_3 0 rfl rfl)
theorem dX1_lastEventTime_73 : decode cX1_lastEventTime 73 = .ok (.ireturn, 1) := dk_172 (dk_at dksX1_lastEventTime_3 3 rfl rfl)
theorem dX1_lastEventTime_74 : decode cX1_lastEventTime 74 = .ok (.iinc 2 (-1), 3) := dk_132 2 255 (dk_at dksX1_lastEventTime_3 4 rfl rfl)
theorem dX1_lastEventTime_77 : decode cX1_lastEventTime 77 = .ok (.goto (-50), 3) := dk_167 255 206 (dk_at dksX1_lastEventTime_3 7 rfl rfl)
theorem dX1_lastEventTime_80 : decode cX1_lastEventTime 80 = .ok (.bipush (-4), 2) := dk_16 252 (dk_at dksX1_lastEventTime_3 10 rfl rfl)
theorem dX1_lastEventTime_82 : decode cX1_lastEventTime 82 = .ok (.ireturn, 1) := dk_172 (dk_at dksX1_lastEventTime_3 12 rfl rfl)
abbrev cX1_timeUntilLeader : ByteArray := prog_1_method_68_code
def yX1_timeUntilLeader : MethodName := ⟨RX1, "timeUntilLeader", "(II)I"⟩
def dkwX1_timeUntilLeader_2 : List UInt8 := [180, 0, 49, 180, 0, 105, 100, 172]
abbrev dktX1_timeUntilLeader_2 : List UInt8 := dkwX1_timeUntilLeader_2 ++ []
def dkwX1_timeUntilLeader_1 : List UInt8 := [182, 1, 70, 27, 29, 182, 1, 96, 54, 4, 21, 4, 156, 0, 8, 21, 4, 167, 0, 13, 21, 4, 42]
abbrev dktX1_timeUntilLeader_1 : List UInt8 := dkwX1_timeUntilLeader_1 ++ dktX1_timeUntilLeader_2
def dkwX1_timeUntilLeader_0 : List UInt8 := [42, 27, 182, 0, 117, 87, 42, 28, 182, 1, 93, 62, 29, 156, 0, 5, 29, 172, 42, 180, 0, 49]
abbrev dktX1_timeUntilLeader_0 : List UInt8 := dkwX1_timeUntilLeader_0 ++ dktX1_timeUntilLeader_1
theorem dksX1_timeUntilLeader_0 : cX1_timeUntilLeader.data.toList.drop 0 = dktX1_timeUntilLeader_0 := by decide +kernel
theorem dksX1_timeUntilLeader_1 : cX1_timeUntilLeader.data.toList.drop 22 = dktX1_timeUntilLeader_1 := dk_seg dksX1_timeUntilLeader_0 22 rfl rfl
theorem dksX1_timeUntilLeader_2 : cX1_timeUntilLeader.data.toList.drop 45 = dktX1_timeUntilLeader_2 := dk_seg dksX1_timeUntilLeader_1 23 rfl rfl
theorem dX1_timeUntilLeader_0 : decode cX1_timeUntilLeader 0 = .ok (.aload_n 0, 1) := dk_42 (dk_at dksX1_timeUntilLeader_0 0 rfl rfl)
theorem dX1_timeUntilLeader_1 : decode cX1_timeUntilLeader 1 = .ok (.iload_n 1, 1) := dk_27 (dk_at dksX1_timeUntilLeader_0 1 rfl rfl)
theorem dX1_timeUntilLeader_2 : decode cX1_timeUntilLeader 2 = .ok (.invokevirtual 117, 3) := dk_182 0 117 (dk_at dksX1_timeUntilLeader_0 2 rfl rfl)
theorem dX1_timeUntilLeader_5 : decode cX1_timeUntilLeader 5 = .ok (.pop, 1) := dk_87 (dk_at dksX1_timeUntilLeader_0 5 rfl rfl)
theorem dX1_timeUntilLeader_6 : decode cX1_timeUntilLeader 6 = .ok (.aload_n 0, 1) := dk_42 (dk_at dksX1_timeUntilLeader_0 6 rfl rfl)
theorem dX1_timeUntilLeader_7 : decode cX1_timeUntilLeader 7 = .ok (.iload_n 2, 1) := dk_28 (dk_at dksX1_timeUntilLeader_0 7 rfl rfl)
theorem dX1_timeUntilLeader_8 : decode cX1_timeUntilLeader 8 = .ok (.invokevirtual 349, 3) := dk_182 1 93 (dk_at dksX1_timeUntilLeader_0 8 rfl rfl)
theorem dX1_timeUntilLeader_11 : decode cX1_timeUntilLeader 11 = .ok (.istore_n 3, 1) := dk_62 (dk_at dksX1_timeUntilLeader_0 11 rfl rfl)
theorem dX1_timeUntilLeader_12 : decode cX1_timeUntilLeader 12 = .ok (.iload_n 3, 1) := dk_29 (dk_at dksX1_timeUntilLeader_0 12 rfl rfl)
theorem dX1_timeUntilLeader_13 : decode cX1_timeUntilLeader 13 = .ok (.ifCond .ge 5, 3) := dk_156 0 5 (dk_at dksX1_timeUntilLeader_0 13 rfl rfl)
theorem dX1_timeUntilLeader_16 : decode cX1_timeUntilLeader 16 = .ok (.iload_n 3, 1) := dk_29 (dk_at dksX1_timeUntilLeader_0 16 rfl rfl)
theorem dX1_timeUntilLeader_17 : decode cX1_timeUntilLeader 17 = .ok (.ireturn, 1) := dk_172 (dk_at dksX1_timeUntilLeader_0 17 rfl rfl)
theorem dX1_timeUntilLeader_18 : decode cX1_timeUntilLeader 18 = .ok (.aload_n 0, 1) := dk_42 (dk_at dksX1_timeUntilLeader_0 18 rfl rfl)
theorem dX1_timeUntilLeader_19 : decode cX1_timeUntilLeader 19 = .ok (.getfield 49, 3) := dk_180 0 49 (dk_at dksX1_timeUntilLeader_0 19 rfl rfl)
theorem dX1_timeUntilLeader_22 : decode cX1_timeUntilLeader 22 = .ok (.invokevirtual 326, 3) := dk_182 1 70 (dk_at dksX1_timeUntilLeader_1 0 rfl rfl)
theorem dX1_timeUntilLeader_25 : decode cX1_timeUntilLeader 25 = .ok (.iload_n 1, 1) := dk_27 (dk_at dksX1_timeUntilLeader_1 3 rfl rfl)
theorem dX1_timeUntilLeader_26 : decode cX1_timeUntilLeader 26 = .ok (.iload_n 3, 1) := dk_29 (dk_at dksX1_timeUntilLeader_1 4 rfl rfl)
theorem dX1_timeUntilLeader_27 : decode cX1_timeUntilLeader 27 = .ok (.invokevirtual 352, 3) := dk_182 1 96 (dk_at dksX1_timeUntilLeader_1 5 rfl rfl)
theorem dX1_timeUntilLeader_30 : decode cX1_timeUntilLeader 30 = .ok (.istore 4, 2) := dk_54 4 (dk_at dksX1_timeUntilLeader_1 8 rfl rfl)
theorem dX1_timeUntilLeader_32 : decode cX1_timeUntilLeader 32 = .ok (.iload 4, 2) := dk_21 4 (dk_at dksX1_timeUntilLeader_1 10 rfl rfl)
theorem dX1_timeUntilLeader_34 : decode cX1_timeUntilLeader 34 = .ok (.ifCond .ge 8, 3) := dk_156 0 8 (dk_at dksX1_timeUntilLeader_1 12 rfl rfl)
theorem dX1_timeUntilLeader_37 : decode cX1_timeUntilLeader 37 = .ok (.iload 4, 2) := dk_21 4 (dk_at dksX1_timeUntilLeader_1 15 rfl rfl)
theorem dX1_timeUntilLeader_39 : decode cX1_timeUntilLeader 39 = .ok (.goto 13, 3) := dk_167 0 13 (dk_at dksX1_timeUntilLeader_1 17 rfl rfl)
theorem dX1_timeUntilLeader_42 : decode cX1_timeUntilLeader 42 = .ok (.iload 4, 2) := dk_21 4 (dk_at dksX1_timeUntilLeader_1 20 rfl rfl)
theorem dX1_timeUntilLeader_44 : decode cX1_timeUntilLeader 44 = .ok (.aload_n 0, 1) := dk_42 (dk_at dksX1_timeUntilLeader_1 22 rfl rfl)
theorem dX1_timeUntilLeader_45 : decode cX1_timeUntilLeader 45 = .ok (.getfield 49, 3) := dk_180 0 49 (dk_at dksX1_timeUntilLeader_2 0 rfl rfl)
theorem dX1_timeUntilLeader_48 : decode cX1_timeUntilLeader 48 = .ok (.getfield 105, 3) := dk_180 0 105 (dk_at dksX1_timeUntilLeader_2 3 rfl rfl)
theorem dX1_timeUntilLeader_51 : decode cX1_timeUntilLeader 51 = .ok (.isub, 1) := dk_100 (dk_at dksX1_timeUntilLeader_2 6 rfl rfl)
theorem dX1_timeUntilLeader_52 : decode cX1_timeUntilLeader 52 = .ok (.ireturn, 1) := dk_172 (dk_at dksX1_timeUntilLeader_2 7 rfl rfl)
abbrev cX1_until : ByteArray := prog_1_method_67_code
def yX1_until : MethodName := ⟨RX1, "until", "(I)I"⟩
def dkwX1_until_1 : List UInt8 := [164, 0, 8, 16, 251, 167, 0, 12, 42, 180, 0, 49, 180, 0, 105, 27, 96, 172]
abbrev dktX1_until_1 : List UInt8 := dkwX1_until_1 ++ []
def dkwX1_until_0 : List UInt8 := [27, 133, 10, 20, 0, 103, 184, 0, 64, 184, 0, 73, 42, 180, 0, 49, 180, 0, 105, 27, 96, 18, 108]
abbrev dktX1_until_0 : List UInt8 := dkwX1_until_0 ++ dktX1_until_1
theorem dksX1_until_0 : cX1_until.data.toList.drop 0 = dktX1_until_0 := by decide +kernel
theorem dksX1_until_1 : cX1_until.data.toList.drop 23 = dktX1_until_1 := dk_seg dksX1_until_0 23 rfl rfl
theorem dX1_until_0 : decode cX1_until 0 = .ok (.iload_n 1, 1) := dk_27 (dk_at dksX1_until_0 0 rfl rfl)
theorem dX1_until_1 : decode cX1_until 1 = .ok (.i2l, 1) := dk_133 (dk_at dksX1_until_0 1 rfl rfl)
theorem dX1_until_2 : decode cX1_until 2 = .ok (.lconst 1, 1) := dk_10 (dk_at dksX1_until_0 2 rfl rfl)
theorem dX1_until_3 : decode cX1_until 3 = .ok (.ldc2_w 103, 3) := dk_20 0 103 (dk_at dksX1_until_0 3 rfl rfl)
theorem dX1_until_6 : decode cX1_until 6 = .ok (.invokestatic 64, 3) := dk_184 0 64 (dk_at dksX1_until_0 6 rfl rfl)
theorem dX1_until_9 : decode cX1_until 9 = .ok (.invokestatic 73, 3) := dk_184 0 73 (dk_at dksX1_until_0 9 rfl rfl)
theorem dX1_until_12 : decode cX1_until 12 = .ok (.aload_n 0, 1) := dk_42 (dk_at dksX1_until_0 12 rfl rfl)
theorem dX1_until_13 : decode cX1_until 13 = .ok (.getfield 49, 3) := dk_180 0 49 (dk_at dksX1_until_0 13 rfl rfl)
theorem dX1_until_16 : decode cX1_until 16 = .ok (.getfield 105, 3) := dk_180 0 105 (dk_at dksX1_until_0 16 rfl rfl)
theorem dX1_until_19 : decode cX1_until 19 = .ok (.iload_n 1, 1) := dk_27 (dk_at dksX1_until_0 19 rfl rfl)
theorem dX1_until_20 : decode cX1_until 20 = .ok (.iadd, 1) := dk_96 (dk_at dksX1_until_0 20 rfl rfl)
theorem dX1_until_21 : decode cX1_until 21 = .ok (.ldc 108, 2) := dk_18 108 (dk_at dksX1_until_0 21 rfl rfl)
theorem dX1_until_23 : decode cX1_until 23 = .ok (.if_icmp .le 8, 3) := dk_164 0 8 (dk_at dksX1_until_1 0 rfl rfl)
theorem dX1_until_26 : decode cX1_until 26 = .ok (.bipush (-5), 2) := dk_16 251 (dk_at dksX1_until_1 3 rfl rfl)
theorem dX1_until_28 : decode cX1_until 28 = .ok (.goto 12, 3) := dk_167 0 12 (dk_at dksX1_until_1 5 rfl rfl)
theorem dX1_until_31 : decode cX1_until 31 = .ok (.aload_n 0, 1) := dk_42 (dk_at dksX1_until_1 8 rfl rfl)
theorem dX1_until_32 : decode cX1_until 32 = .ok (.getfield 49, 3) := dk_180 0 49 (dk_at dksX1_until_1 9 rfl rfl)
theorem dX1_until_35 : decode cX1_until 35 = .ok (.getfield 105, 3) := dk_180 0 105 (dk_at dksX1_until_1 12 rfl rfl)
theorem dX1_until_38 : decode cX1_until 38 = .ok (.iload_n 1, 1) := dk_27 (dk_at dksX1_until_1 15 rfl rfl)
theorem dX1_until_39 : decode cX1_until 39 = .ok (.iadd, 1) := dk_96 (dk_at dksX1_until_1 16 rfl rfl)
theorem dX1_until_40 : decode cX1_until 40 = .ok (.ireturn, 1) := dk_172 (dk_at dksX1_until_1 17 rfl rfl)
abbrev cX1_longestLeaderless : ByteArray := prog_1_method_69_code
def yX1_longestLeaderless : MethodName := ⟨RX1, "longestLeaderless", "(I)I"⟩
def dkwX1_longestLeaderless_1 : List UInt8 := [182, 1, 99, 172]
abbrev dktX1_longestLeaderless_1 : List UInt8 := dkwX1_longestLeaderless_1 ++ []
def dkwX1_longestLeaderless_0 : List UInt8 := [42, 27, 182, 1, 93, 61, 28, 156, 0, 7, 28, 167, 0, 14, 42, 180, 0, 49, 182, 1, 70, 28]
abbrev dktX1_longestLeaderless_0 : List UInt8 := dkwX1_longestLeaderless_0 ++ dktX1_longestLeaderless_1
theorem dksX1_longestLeaderless_0 : cX1_longestLeaderless.data.toList.drop 0 = dktX1_longestLeaderless_0 := by decide +kernel
theorem dksX1_longestLeaderless_1 : cX1_longestLeaderless.data.toList.drop 22 = dktX1_longestLeaderless_1 := dk_seg dksX1_longestLeaderless_0 22 rfl rfl
theorem dX1_longestLeaderless_0 : decode cX1_longestLeaderless 0 = .ok (.aload_n 0, 1) := dk_42 (dk_at dksX1_longestLeaderless_0 0 rfl rfl)
theorem dX1_longestLeaderless_1 : decode cX1_longestLeaderless 1 = .ok (.iload_n 1, 1) := dk_27 (dk_at dksX1_longestLeaderless_0 1 rfl rfl)
theorem dX1_longestLeaderless_2 : decode cX1_longestLeaderless 2 = .ok (.invokevirtual 349, 3) := dk_182 1 93 (dk_at dksX1_longestLeaderless_0 2 rfl rfl)
theorem dX1_longestLeaderless_5 : decode cX1_longestLeaderless 5 = .ok (.istore_n 2, 1) := dk_61 (dk_at dksX1_longestLeaderless_0 5 rfl rfl)
theorem dX1_longestLeaderless_6 : decode cX1_longestLeaderless 6 = .ok (.iload_n 2, 1) := dk_28 (dk_at dksX1_longestLeaderless_0 6 rfl rfl)
theorem dX1_longestLeaderless_7 : decode cX1_longestLeaderless 7 = .ok (.ifCond .ge 7, 3) := dk_156 0 7 (dk_at dksX1_longestLeaderless_0 7 rfl rfl)
theorem dX1_longestLeaderless_10 : decode cX1_longestLeaderless 10 = .ok (.iload_n 2, 1) := dk_28 (dk_at dksX1_longestLeaderless_0 10 rfl rfl)
theorem dX1_longestLeaderless_11 : decode cX1_longestLeaderless 11 = .ok (.goto 14, 3) := dk_167 0 14 (dk_at dksX1_longestLeaderless_0 11 rfl rfl)
theorem dX1_longestLeaderless_14 : decode cX1_longestLeaderless 14 = .ok (.aload_n 0, 1) := dk_42 (dk_at dksX1_longestLeaderless_0 14 rfl rfl)
theorem dX1_longestLeaderless_15 : decode cX1_longestLeaderless 15 = .ok (.getfield 49, 3) := dk_180 0 49 (dk_at dksX1_longestLeaderless_0 15 rfl rfl)
theorem dX1_longestLeaderless_18 : decode cX1_longestLeaderless 18 = .ok (.invokevirtual 326, 3) := dk_182 1 70 (dk_at dksX1_longestLeaderless_0 18 rfl rfl)
theorem dX1_longestLeaderless_21 : decode cX1_longestLeaderless 21 = .ok (.iload_n 2, 1) := dk_28 (dk_at dksX1_longestLeaderless_0 21 rfl rfl)
theorem dX1_longestLeaderless_22 : decode cX1_longestLeaderless 22 = .ok (.invokevirtual 355, 3) := dk_182 1 99 (dk_at dksX1_longestLeaderless_1 0 rfl rfl)
theorem dX1_longestLeaderless_25 : decode cX1_longestLeaderless 25 = .ok (.ireturn, 1) := dk_172 (dk_at dksX1_longestLeaderless_1 3 rfl rfl)
abbrev cX1_tryWrite : ByteArray := prog_1_method_70_code
def yX1_tryWrite : MethodName := ⟨RX1, "tryWrite", "(II)I"⟩
def dkwX1_tryWrite_1 : List UInt8 := [167, 0, 15, 42, 180, 0, 49, 182, 1, 70, 27, 28, 182, 1, 102, 172]
abbrev dktX1_tryWrite_1 : List UInt8 := dkwX1_tryWrite_1 ++ []
def dkwX1_tryWrite_0 : List UInt8 := [42, 27, 182, 0, 117, 78, 28, 184, 0, 205, 42, 45, 182, 0, 210, 156, 0, 11, 42, 45, 182, 0, 210]
abbrev dktX1_tryWrite_0 : List UInt8 := dkwX1_tryWrite_0 ++ dktX1_tryWrite_1
theorem dksX1_tryWrite_0 : cX1_tryWrite.data.toList.drop 0 = dktX1_tryWrite_0 := by decide +kernel
theorem dksX1_tryWrite_1 : cX1_tryWrite.data.toList.drop 23 = dktX1_tryWrite_1 := dk_seg dksX1_tryWrite_0 23 rfl rfl
theorem dX1_tryWrite_0 : decode cX1_tryWrite 0 = .ok (.aload_n 0, 1) := dk_42 (dk_at dksX1_tryWrite_0 0 rfl rfl)
theorem dX1_tryWrite_1 : decode cX1_tryWrite 1 = .ok (.iload_n 1, 1) := dk_27 (dk_at dksX1_tryWrite_0 1 rfl rfl)
theorem dX1_tryWrite_2 : decode cX1_tryWrite 2 = .ok (.invokevirtual 117, 3) := dk_182 0 117 (dk_at dksX1_tryWrite_0 2 rfl rfl)
theorem dX1_tryWrite_5 : decode cX1_tryWrite 5 = .ok (.astore_n 3, 1) := dk_78 (dk_at dksX1_tryWrite_0 5 rfl rfl)
theorem dX1_tryWrite_6 : decode cX1_tryWrite 6 = .ok (.iload_n 2, 1) := dk_28 (dk_at dksX1_tryWrite_0 6 rfl rfl)
theorem dX1_tryWrite_7 : decode cX1_tryWrite 7 = .ok (.invokestatic 205, 3) := dk_184 0 205 (dk_at dksX1_tryWrite_0 7 rfl rfl)
theorem dX1_tryWrite_10 : decode cX1_tryWrite 10 = .ok (.aload_n 0, 1) := dk_42 (dk_at dksX1_tryWrite_0 10 rfl rfl)
theorem dX1_tryWrite_11 : decode cX1_tryWrite 11 = .ok (.aload_n 3, 1) := dk_45 (dk_at dksX1_tryWrite_0 11 rfl rfl)
theorem dX1_tryWrite_12 : decode cX1_tryWrite 12 = .ok (.invokevirtual 210, 3) := dk_182 0 210 (dk_at dksX1_tryWrite_0 12 rfl rfl)
theorem dX1_tryWrite_15 : decode cX1_tryWrite 15 = .ok (.ifCond .ge 11, 3) := dk_156 0 11 (dk_at dksX1_tryWrite_0 15 rfl rfl)
theorem dX1_tryWrite_18 : decode cX1_tryWrite 18 = .ok (.aload_n 0, 1) := dk_42 (dk_at dksX1_tryWrite_0 18 rfl rfl)
theorem dX1_tryWrite_19 : decode cX1_tryWrite 19 = .ok (.aload_n 3, 1) := dk_45 (dk_at dksX1_tryWrite_0 19 rfl rfl)
theorem dX1_tryWrite_20 : decode cX1_tryWrite 20 = .ok (.invokevirtual 210, 3) := dk_182 0 210 (dk_at dksX1_tryWrite_0 20 rfl rfl)
theorem dX1_tryWrite_23 : decode cX1_tryWrite 23 = .ok (.goto 15, 3) := dk_167 0 15 (dk_at dksX1_tryWrite_1 0 rfl rfl)
theorem dX1_tryWrite_26 : decode cX1_tryWrite 26 = .ok (.aload_n 0, 1) := dk_42 (dk_at dksX1_tryWrite_1 3 rfl rfl)
theorem dX1_tryWrite_27 : decode cX1_tryWrite 27 = .ok (.getfield 49, 3) := dk_180 0 49 (dk_at dksX1_tryWrite_1 4 rfl rfl)
theorem dX1_tryWrite_30 : decode cX1_tryWrite 30 = .ok (.invokevirtual 326, 3) := dk_182 1 70 (dk_at dksX1_tryWrite_1 7 rfl rfl)
theorem dX1_tryWrite_33 : decode cX1_tryWrite 33 = .ok (.iload_n 1, 1) := dk_27 (dk_at dksX1_tryWrite_1 10 rfl rfl)
theorem dX1_tryWrite_34 : decode cX1_tryWrite 34 = .ok (.iload_n 2, 1) := dk_28 (dk_at dksX1_tryWrite_1 11 rfl rfl)
theorem dX1_tryWrite_35 : decode cX1_tryWrite 35 = .ok (.invokevirtual 358, 3) := dk_182 1 102 (dk_at dksX1_tryWrite_1 12 rfl rfl)
theorem dX1_tryWrite_38 : decode cX1_tryWrite 38 = .ok (.ireturn, 1) := dk_172 (dk_at dksX1_tryWrite_1 15 rfl rfl)
abbrev cX1_predictRead : ByteArray := prog_1_method_71_code
def yX1_predictRead : MethodName := ⟨RX1, "predictRead", "(III)I"⟩
def dkwX1_predictRead_4 : List UInt8 := [4, 160, 0, 13, 25, 6, 180, 0, 233, 28, 46, 167, 0, 5, 16, 252, 172]
abbrev dktX1_predictRead_4 : List UInt8 := dkwX1_predictRead_4 ++ []
def dkwX1_predictRead_3 : List UInt8 := [16, 254, 172, 25, 6, 21, 4, 182, 0, 202, 154, 0, 5, 2, 172, 25, 6, 180, 0, 227, 28, 122, 4, 126]
abbrev dktX1_predictRead_3 : List UInt8 := dkwX1_predictRead_3 ++ dktX1_predictRead_4
def dkwX1_predictRead_2 : List UInt8 := [58, 6, 25, 6, 180, 0, 134, 154, 0, 6, 16, 253, 172, 25, 6, 21, 4, 182, 0, 138, 153, 0, 6]
abbrev dktX1_predictRead_2 : List UInt8 := dkwX1_predictRead_2 ++ dktX1_predictRead_3
def dkwX1_predictRead_1 : List UInt8 := [172, 42, 180, 0, 49, 182, 1, 70, 58, 5, 25, 5, 21, 4, 182, 0, 109, 25, 5, 180, 0, 60, 27, 50]
abbrev dktX1_predictRead_1 : List UInt8 := dkwX1_predictRead_1 ++ dktX1_predictRead_2
def dkwX1_predictRead_0 : List UInt8 := [42, 27, 182, 0, 117, 87, 28, 184, 0, 205, 42, 29, 182, 1, 93, 54, 4, 21, 4, 156, 0, 6, 21, 4]
abbrev dktX1_predictRead_0 : List UInt8 := dkwX1_predictRead_0 ++ dktX1_predictRead_1
theorem dksX1_predictRead_0 : cX1_predictRead.data.toList.drop 0 = dktX1_predictRead_0 := by decide +kernel
theorem dksX1_predictRead_1 : cX1_predictRead.data.toList.drop 24 = dktX1_predictRead_1 := dk_seg dksX1_predictRead_0 24 rfl rfl
theorem dksX1_predictRead_2 : cX1_predictRead.data.toList.drop 48 = dktX1_predictRead_2 := dk_seg dksX1_predictRead_1 24 rfl rfl
theorem dksX1_predictRead_3 : cX1_predictRead.data.toList.drop 71 = dktX1_predictRead_3 := dk_seg dksX1_predictRead_2 23 rfl rfl
theorem dksX1_predictRead_4 : cX1_predictRead.data.toList.drop 95 = dktX1_predictRead_4 := dk_seg dksX1_predictRead_3 24 rfl rfl
theorem dX1_predictRead_0 : decode cX1_predictRead 0 = .ok (.aload_n 0, 1) := dk_42 (dk_at dksX1_predictRead_0 0 rfl rfl)
theorem dX1_predictRead_1 : decode cX1_predictRead 1 = .ok (.iload_n 1, 1) := dk_27 (dk_at dksX1_predictRead_0 1 rfl rfl)
theorem dX1_predictRead_2 : decode cX1_predictRead 2 = .ok (.invokevirtual 117, 3) := dk_182 0 117 (dk_at dksX1_predictRead_0 2 rfl rfl)
theorem dX1_predictRead_5 : decode cX1_predictRead 5 = .ok (.pop, 1) := dk_87 (dk_at dksX1_predictRead_0 5 rfl rfl)
theorem dX1_predictRead_6 : decode cX1_predictRead 6 = .ok (.iload_n 2, 1) := dk_28 (dk_at dksX1_predictRead_0 6 rfl rfl)
theorem dX1_predictRead_7 : decode cX1_predictRead 7 = .ok (.invokestatic 205, 3) := dk_184 0 205 (dk_at dksX1_predictRead_0 7 rfl rfl)
theorem dX1_predictRead_10 : decode cX1_predictRead 10 = .ok (.aload_n 0, 1) := dk_42 (dk_at dksX1_predictRead_0 10 rfl rfl)
theorem dX1_predictRead_11 : decode cX1_predictRead 11 = .ok (.iload_n 3, 1) := dk_29 (dk_at dksX1_predictRead_0 11 rfl rfl)
theorem dX1_predictRead_12 : decode cX1_predictRead 12 = .ok (.invokevirtual 349, 3) := dk_182 1 93 (dk_at dksX1_predictRead_0 12 rfl rfl)
theorem dX1_predictRead_15 : decode cX1_predictRead 15 = .ok (.istore 4, 2) := dk_54 4 (dk_at dksX1_predictRead_0 15 rfl rfl)
theorem dX1_predictRead_17 : decode cX1_predictRead 17 = .ok (.iload 4, 2) := dk_21 4 (dk_at dksX1_predictRead_0 17 rfl rfl)
theorem dX1_predictRead_19 : decode cX1_predictRead 19 = .ok (.ifCond .ge 6, 3) := dk_156 0 6 (dk_at dksX1_predictRead_0 19 rfl rfl)
theorem dX1_predictRead_22 : decode cX1_predictRead 22 = .ok (.iload 4, 2) := dk_21 4 (dk_at dksX1_predictRead_0 22 rfl rfl)
theorem dX1_predictRead_24 : decode cX1_predictRead 24 = .ok (.ireturn, 1) := dk_172 (dk_at dksX1_predictRead_1 0 rfl rfl)
theorem dX1_predictRead_25 : decode cX1_predictRead 25 = .ok (.aload_n 0, 1) := dk_42 (dk_at dksX1_predictRead_1 1 rfl rfl)
theorem dX1_predictRead_26 : decode cX1_predictRead 26 = .ok (.getfield 49, 3) := dk_180 0 49 (dk_at dksX1_predictRead_1 2 rfl rfl)
theorem dX1_predictRead_29 : decode cX1_predictRead 29 = .ok (.invokevirtual 326, 3) := dk_182 1 70 (dk_at dksX1_predictRead_1 5 rfl rfl)
theorem dX1_predictRead_32 : decode cX1_predictRead 32 = .ok (.astore 5, 2) := dk_58 5 (dk_at dksX1_predictRead_1 8 rfl rfl)
theorem dX1_predictRead_34 : decode cX1_predictRead 34 = .ok (.aload 5, 2) := dk_25 5 (dk_at dksX1_predictRead_1 10 rfl rfl)
theorem dX1_predictRead_36 : decode cX1_predictRead 36 = .ok (.iload 4, 2) := dk_21 4 (dk_at dksX1_predictRead_1 12 rfl rfl)
theorem dX1_predictRead_38 : decode cX1_predictRead 38 = .ok (.invokevirtual 109, 3) := dk_182 0 109 (dk_at dksX1_predictRead_1 14 rfl rfl)
theorem dX1_predictRead_41 : decode cX1_predictRead 41 = .ok (.aload 5, 2) := dk_25 5 (dk_at dksX1_predictRead_1 17 rfl rfl)
theorem dX1_predictRead_43 : decode cX1_predictRead 43 = .ok (.getfield 60, 3) := dk_180 0 60 (dk_at dksX1_predictRead_1 19 rfl rfl)
theorem dX1_predictRead_46 : decode cX1_predictRead 46 = .ok (.iload_n 1, 1) := dk_27 (dk_at dksX1_predictRead_1 22 rfl rfl)
theorem dX1_predictRead_47 : decode cX1_predictRead 47 = .ok (.aaload, 1) := dk_50 (dk_at dksX1_predictRead_1 23 rfl rfl)
theorem dX1_predictRead_48 : decode cX1_predictRead 48 = .ok (.astore 6, 2) := dk_58 6 (dk_at dksX1_predictRead_2 0 rfl rfl)
theorem dX1_predictRead_50 : decode cX1_predictRead 50 = .ok (.aload 6, 2) := dk_25 6 (dk_at dksX1_predictRead_2 2 rfl rfl)
theorem dX1_predictRead_52 : decode cX1_predictRead 52 = .ok (.getfield 134, 3) := dk_180 0 134 (dk_at dksX1_predictRead_2 4 rfl rfl)
theorem dX1_predictRead_55 : decode cX1_predictRead 55 = .ok (.ifCond .ne 6, 3) := dk_154 0 6 (dk_at dksX1_predictRead_2 7 rfl rfl)
theorem dX1_predictRead_58 : decode cX1_predictRead 58 = .ok (.bipush (-3), 2) := dk_16 253 (dk_at dksX1_predictRead_2 10 rfl rfl)
theorem dX1_predictRead_60 : decode cX1_predictRead 60 = .ok (.ireturn, 1) := dk_172 (dk_at dksX1_predictRead_2 12 rfl rfl)
theorem dX1_predictRead_61 : decode cX1_predictRead 61 = .ok (.aload 6, 2) := dk_25 6 (dk_at dksX1_predictRead_2 13 rfl rfl)
theorem dX1_predictRead_63 : decode cX1_predictRead 63 = .ok (.iload 4, 2) := dk_21 4 (dk_at dksX1_predictRead_2 15 rfl rfl)
theorem dX1_predictRead_65 : decode cX1_predictRead 65 = .ok (.invokevirtual 138, 3) := dk_182 0 138 (dk_at dksX1_predictRead_2 17 rfl rfl)
theorem dX1_predictRead_68 : decode cX1_predictRead 68 = .ok (.ifCond .eq 6, 3) := dk_153 0 6 (dk_at dksX1_predictRead_2 20 rfl rfl)
theorem dX1_predictRead_71 : decode cX1_predictRead 71 = .ok (.bipush (-2), 2) := dk_16 254 (dk_at dksX1_predictRead_3 0 rfl rfl)
theorem dX1_predictRead_73 : decode cX1_predictRead 73 = .ok (.ireturn, 1) := dk_172 (dk_at dksX1_predictRead_3 2 rfl rfl)
theorem dX1_predictRead_74 : decode cX1_predictRead 74 = .ok (.aload 6, 2) := dk_25 6 (dk_at dksX1_predictRead_3 3 rfl rfl)
theorem dX1_predictRead_76 : decode cX1_predictRead 76 = .ok (.iload 4, 2) := dk_21 4 (dk_at dksX1_predictRead_3 5 rfl rfl)
theorem dX1_predictRead_78 : decode cX1_predictRead 78 = .ok (.invokevirtual 202, 3) := dk_182 0 202 (dk_at dksX1_predictRead_3 7 rfl rfl)
theorem dX1_predictRead_81 : decode cX1_predictRead 81 = .ok (.ifCond .ne 5, 3) := dk_154 0 5 (dk_at dksX1_predictRead_3 10 rfl rfl)
theorem dX1_predictRead_84 : decode cX1_predictRead 84 = .ok (.iconst (-1), 1) := dk_2 (dk_at dksX1_predictRead_3 13 rfl rfl)
theorem dX1_predictRead_85 : decode cX1_predictRead 85 = .ok (.ireturn, 1) := dk_172 (dk_at dksX1_predictRead_3 14 rfl rfl)
theorem dX1_predictRead_86 : decode cX1_predictRead 86 = .ok (.aload 6, 2) := dk_25 6 (dk_at dksX1_predictRead_3 15 rfl rfl)
theorem dX1_predictRead_88 : decode cX1_predictRead 88 = .ok (.getfield 227, 3) := dk_180 0 227 (dk_at dksX1_predictRead_3 17 rfl rfl)
theorem dX1_predictRead_91 : decode cX1_predictRead 91 = .ok (.iload_n 2, 1) := dk_28 (dk_at dksX1_predictRead_3 20 rfl rfl)
theorem dX1_predictRead_92 : decode cX1_predictRead 92 = .ok (.ishr, 1) := dk_122 (dk_at dksX1_predictRead_3 21 rfl rfl)
theorem dX1_predictRead_93 : decode cX1_predictRead 93 = .ok (.iconst 1, 1) := dk_4 (dk_at dksX1_predictRead_3 22 rfl rfl)
theorem dX1_predictRead_94 : decode cX1_predictRead 94 = .ok (.iand, 1) := dk_126 (dk_at dksX1_predictRead_3 23 rfl rfl)
theorem dX1_predictRead_95 : decode cX1_predictRead 95 = .ok (.iconst 1, 1) := dk_4 (dk_at dksX1_predictRead_4 0 rfl rfl)
theorem dX1_predictRead_96 : decode cX1_predictRead 96 = .ok (.if_icmp .ne 13, 3) := dk_160 0 13 (dk_at dksX1_predictRead_4 1 rfl rfl)
theorem dX1_predictRead_99 : decode cX1_predictRead 99 = .ok (.aload 6, 2) := dk_25 6 (dk_at dksX1_predictRead_4 4 rfl rfl)
theorem dX1_predictRead_101 : decode cX1_predictRead 101 = .ok (.getfield 233, 3) := dk_180 0 233 (dk_at dksX1_predictRead_4 6 rfl rfl)
theorem dX1_predictRead_104 : decode cX1_predictRead 104 = .ok (.iload_n 2, 1) := dk_28 (dk_at dksX1_predictRead_4 9 rfl rfl)
theorem dX1_predictRead_105 : decode cX1_predictRead 105 = .ok (.iaload, 1) := dk_46 (dk_at dksX1_predictRead_4 10 rfl rfl)
theorem dX1_predictRead_106 : decode cX1_predictRead 106 = .ok (.goto 5, 3) := dk_167 0 5 (dk_at dksX1_predictRead_4 11 rfl rfl)
theorem dX1_predictRead_109 : decode cX1_predictRead 109 = .ok (.bipush (-4), 2) := dk_16 252 (dk_at dksX1_predictRead_4 14 rfl rfl)
theorem dX1_predictRead_111 : decode cX1_predictRead 111 = .ok (.ireturn, 1) := dk_172 (dk_at dksX1_predictRead_4 16 rfl rfl)
abbrev cX1_acquiresUntil : ByteArray := prog_1_method_72_code
def yX1_acquiresUntil : MethodName := ⟨RX1, "acquiresUntil", "(II)I"⟩
def dkwX1_acquiresUntil_2 : List UInt8 := [180, 1, 105, 45, 180, 1, 105, 100, 172]
abbrev dktX1_acquiresUntil_2 : List UInt8 := dkwX1_acquiresUntil_2 ++ []
def dkwX1_acquiresUntil_1 : List UInt8 := [180, 0, 49, 182, 1, 70, 58, 5, 25, 5, 21, 4, 182, 0, 109, 25, 5, 180, 0, 60, 27, 50]
abbrev dktX1_acquiresUntil_1 : List UInt8 := dkwX1_acquiresUntil_1 ++ dktX1_acquiresUntil_2
def dkwX1_acquiresUntil_0 : List UInt8 := [42, 27, 182, 0, 117, 78, 42, 28, 182, 1, 93, 54, 4, 21, 4, 156, 0, 6, 21, 4, 172, 42]
abbrev dktX1_acquiresUntil_0 : List UInt8 := dkwX1_acquiresUntil_0 ++ dktX1_acquiresUntil_1
theorem dksX1_acquiresUntil_0 : cX1_acquiresUntil.data.toList.drop 0 = dktX1_acquiresUntil_0 := by decide +kernel
theorem dksX1_acquiresUntil_1 : cX1_acquiresUntil.data.toList.drop 22 = dktX1_acquiresUntil_1 := dk_seg dksX1_acquiresUntil_0 22 rfl rfl
theorem dksX1_acquiresUntil_2 : cX1_acquiresUntil.data.toList.drop 44 = dktX1_acquiresUntil_2 := dk_seg dksX1_acquiresUntil_1 22 rfl rfl
theorem dX1_acquiresUntil_0 : decode cX1_acquiresUntil 0 = .ok (.aload_n 0, 1) := dk_42 (dk_at dksX1_acquiresUntil_0 0 rfl rfl)
theorem dX1_acquiresUntil_1 : decode cX1_acquiresUntil 1 = .ok (.iload_n 1, 1) := dk_27 (dk_at dksX1_acquiresUntil_0 1 rfl rfl)
theorem dX1_acquiresUntil_2 : decode cX1_acquiresUntil 2 = .ok (.invokevirtual 117, 3) := dk_182 0 117 (dk_at dksX1_acquiresUntil_0 2 rfl rfl)
theorem dX1_acquiresUntil_5 : decode cX1_acquiresUntil 5 = .ok (.astore_n 3, 1) := dk_78 (dk_at dksX1_acquiresUntil_0 5 rfl rfl)
theorem dX1_acquiresUntil_6 : decode cX1_acquiresUntil 6 = .ok (.aload_n 0, 1) := dk_42 (dk_at dksX1_acquiresUntil_0 6 rfl rfl)
theorem dX1_acquiresUntil_7 : decode cX1_acquiresUntil 7 = .ok (.iload_n 2, 1) := dk_28 (dk_at dksX1_acquiresUntil_0 7 rfl rfl)
theorem dX1_acquiresUntil_8 : decode cX1_acquiresUntil 8 = .ok (.invokevirtual 349, 3) := dk_182 1 93 (dk_at dksX1_acquiresUntil_0 8 rfl rfl)
theorem dX1_acquiresUntil_11 : decode cX1_acquiresUntil 11 = .ok (.istore 4, 2) := dk_54 4 (dk_at dksX1_acquiresUntil_0 11 rfl rfl)
theorem dX1_acquiresUntil_13 : decode cX1_acquiresUntil 13 = .ok (.iload 4, 2) := dk_21 4 (dk_at dksX1_acquiresUntil_0 13 rfl rfl)
theorem dX1_acquiresUntil_15 : decode cX1_acquiresUntil 15 = .ok (.ifCond .ge 6, 3) := dk_156 0 6 (dk_at dksX1_acquiresUntil_0 15 rfl rfl)
theorem dX1_acquiresUntil_18 : decode cX1_acquiresUntil 18 = .ok (.iload 4, 2) := dk_21 4 (dk_at dksX1_acquiresUntil_0 18 rfl rfl)
theorem dX1_acquiresUntil_20 : decode cX1_acquiresUntil 20 = .ok (.ireturn, 1) := dk_172 (dk_at dksX1_acquiresUntil_0 20 rfl rfl)
theorem dX1_acquiresUntil_21 : decode cX1_acquiresUntil 21 = .ok (.aload_n 0, 1) := dk_42 (dk_at dksX1_acquiresUntil_0 21 rfl rfl)
theorem dX1_acquiresUntil_22 : decode cX1_acquiresUntil 22 = .ok (.getfield 49, 3) := dk_180 0 49 (dk_at dksX1_acquiresUntil_1 0 rfl rfl)
theorem dX1_acquiresUntil_25 : decode cX1_acquiresUntil 25 = .ok (.invokevirtual 326, 3) := dk_182 1 70 (dk_at dksX1_acquiresUntil_1 3 rfl rfl)
theorem dX1_acquiresUntil_28 : decode cX1_acquiresUntil 28 = .ok (.astore 5, 2) := dk_58 5 (dk_at dksX1_acquiresUntil_1 6 rfl rfl)
theorem dX1_acquiresUntil_30 : decode cX1_acquiresUntil 30 = .ok (.aload 5, 2) := dk_25 5 (dk_at dksX1_acquiresUntil_1 8 rfl rfl)
theorem dX1_acquiresUntil_32 : decode cX1_acquiresUntil 32 = .ok (.iload 4, 2) := dk_21 4 (dk_at dksX1_acquiresUntil_1 10 rfl rfl)
theorem dX1_acquiresUntil_34 : decode cX1_acquiresUntil 34 = .ok (.invokevirtual 109, 3) := dk_182 0 109 (dk_at dksX1_acquiresUntil_1 12 rfl rfl)
theorem dX1_acquiresUntil_37 : decode cX1_acquiresUntil 37 = .ok (.aload 5, 2) := dk_25 5 (dk_at dksX1_acquiresUntil_1 15 rfl rfl)
theorem dX1_acquiresUntil_39 : decode cX1_acquiresUntil 39 = .ok (.getfield 60, 3) := dk_180 0 60 (dk_at dksX1_acquiresUntil_1 17 rfl rfl)
theorem dX1_acquiresUntil_42 : decode cX1_acquiresUntil 42 = .ok (.iload_n 1, 1) := dk_27 (dk_at dksX1_acquiresUntil_1 20 rfl rfl)
theorem dX1_acquiresUntil_43 : decode cX1_acquiresUntil 43 = .ok (.aaload, 1) := dk_50 (dk_at dksX1_acquiresUntil_1 21 rfl rfl)
theorem dX1_acquiresUntil_44 : decode cX1_acquiresUntil 44 = .ok (.getfield 361, 3) := dk_180 1 105 (dk_at dksX1_acquiresUntil_2 0 rfl rfl)
theorem dX1_acquiresUntil_47 : decode cX1_acquiresUntil 47 = .ok (.aload_n 3, 1) := dk_45 (dk_at dksX1_acquiresUntil_2 3 rfl rfl)
theorem dX1_acquiresUntil_48 : decode cX1_acquiresUntil 48 = .ok (.getfield 361, 3) := dk_180 1 105 (dk_at dksX1_acquiresUntil_2 4 rfl rfl)
theorem dX1_acquiresUntil_51 : decode cX1_acquiresUntil 51 = .ok (.isub, 1) := dk_100 (dk_at dksX1_acquiresUntil_2 7 rfl rfl)
theorem dX1_acquiresUntil_52 : decode cX1_acquiresUntil 52 = .ok (.ireturn, 1) := dk_172 (dk_at dksX1_acquiresUntil_2 8 rfl rfl)
abbrev cX1_saveSnapshot : ByteArray := prog_1_method_73_code
def yX1_saveSnapshot : MethodName := ⟨RX1, "saveSnapshot", "(I)I"⟩
def dkwX1_saveSnapshot_1 : List UInt8 := [180, 0, 49, 180, 0, 105, 172]
abbrev dktX1_saveSnapshot_1 : List UInt8 := dkwX1_saveSnapshot_1 ++ []
def dkwX1_saveSnapshot_0 : List UInt8 := [27, 133, 9, 10, 184, 0, 64, 184, 0, 73, 42, 180, 0, 53, 27, 42, 180, 0, 49, 182, 1, 70, 83, 42]
abbrev dktX1_saveSnapshot_0 : List UInt8 := dkwX1_saveSnapshot_0 ++ dktX1_saveSnapshot_1
theorem dksX1_saveSnapshot_0 : cX1_saveSnapshot.data.toList.drop 0 = dktX1_saveSnapshot_0 := by decide +kernel
theorem dksX1_saveSnapshot_1 : cX1_saveSnapshot.data.toList.drop 24 = dktX1_saveSnapshot_1 := dk_seg dksX1_saveSnapshot_0 24 rfl rfl
theorem dX1_saveSnapshot_0 : decode cX1_saveSnapshot 0 = .ok (.iload_n 1, 1) := dk_27 (dk_at dksX1_saveSnapshot_0 0 rfl rfl)
theorem dX1_saveSnapshot_1 : decode cX1_saveSnapshot 1 = .ok (.i2l, 1) := dk_133 (dk_at dksX1_saveSnapshot_0 1 rfl rfl)
theorem dX1_saveSnapshot_2 : decode cX1_saveSnapshot 2 = .ok (.lconst 0, 1) := dk_9 (dk_at dksX1_saveSnapshot_0 2 rfl rfl)
theorem dX1_saveSnapshot_3 : decode cX1_saveSnapshot 3 = .ok (.lconst 1, 1) := dk_10 (dk_at dksX1_saveSnapshot_0 3 rfl rfl)
theorem dX1_saveSnapshot_4 : decode cX1_saveSnapshot 4 = .ok (.invokestatic 64, 3) := dk_184 0 64 (dk_at dksX1_saveSnapshot_0 4 rfl rfl)
theorem dX1_saveSnapshot_7 : decode cX1_saveSnapshot 7 = .ok (.invokestatic 73, 3) := dk_184 0 73 (dk_at dksX1_saveSnapshot_0 7 rfl rfl)
theorem dX1_saveSnapshot_10 : decode cX1_saveSnapshot 10 = .ok (.aload_n 0, 1) := dk_42 (dk_at dksX1_saveSnapshot_0 10 rfl rfl)
theorem dX1_saveSnapshot_11 : decode cX1_saveSnapshot 11 = .ok (.getfield 53, 3) := dk_180 0 53 (dk_at dksX1_saveSnapshot_0 11 rfl rfl)
theorem dX1_saveSnapshot_14 : decode cX1_saveSnapshot 14 = .ok (.iload_n 1, 1) := dk_27 (dk_at dksX1_saveSnapshot_0 14 rfl rfl)
theorem dX1_saveSnapshot_15 : decode cX1_saveSnapshot 15 = .ok (.aload_n 0, 1) := dk_42 (dk_at dksX1_saveSnapshot_0 15 rfl rfl)
theorem dX1_saveSnapshot_16 : decode cX1_saveSnapshot 16 = .ok (.getfield 49, 3) := dk_180 0 49 (dk_at dksX1_saveSnapshot_0 16 rfl rfl)
theorem dX1_saveSnapshot_19 : decode cX1_saveSnapshot 19 = .ok (.invokevirtual 326, 3) := dk_182 1 70 (dk_at dksX1_saveSnapshot_0 19 rfl rfl)
theorem dX1_saveSnapshot_22 : decode cX1_saveSnapshot 22 = .ok (.aastore, 1) := dk_83 (dk_at dksX1_saveSnapshot_0 22 rfl rfl)
theorem dX1_saveSnapshot_23 : decode cX1_saveSnapshot 23 = .ok (.aload_n 0, 1) := dk_42 (dk_at dksX1_saveSnapshot_0 23 rfl rfl)
theorem dX1_saveSnapshot_24 : decode cX1_saveSnapshot 24 = .ok (.getfield 49, 3) := dk_180 0 49 (dk_at dksX1_saveSnapshot_1 0 rfl rfl)
theorem dX1_saveSnapshot_27 : decode cX1_saveSnapshot 27 = .ok (.getfield 105, 3) := dk_180 0 105 (dk_at dksX1_saveSnapshot_1 3 rfl rfl)
theorem dX1_saveSnapshot_30 : decode cX1_saveSnapshot 30 = .ok (.ireturn, 1) := dk_172 (dk_at dksX1_saveSnapshot_1 6 rfl rfl)
abbrev cX1_restoreSnapshot : ByteArray := prog_1_method_74_code
def yX1_restoreSnapshot : MethodName := ⟨RX1, "restoreSnapshot", "(I)I"⟩
def dkwX1_restoreSnapshot_1 : List UInt8 := [180, 0, 53, 27, 50, 182, 1, 70, 181, 0, 49, 42, 180, 0, 49, 180, 0, 105, 172]
abbrev dktX1_restoreSnapshot_1 : List UInt8 := dkwX1_restoreSnapshot_1 ++ []
def dkwX1_restoreSnapshot_0 : List UInt8 := [27, 133, 9, 10, 184, 0, 64, 184, 0, 73, 42, 180, 0, 53, 27, 50, 199, 0, 6, 16, 252, 172, 42, 42]
abbrev dktX1_restoreSnapshot_0 : List UInt8 := dkwX1_restoreSnapshot_0 ++ dktX1_restoreSnapshot_1
theorem dksX1_restoreSnapshot_0 : cX1_restoreSnapshot.data.toList.drop 0 = dktX1_restoreSnapshot_0 := by decide +kernel
theorem dksX1_restoreSnapshot_1 : cX1_restoreSnapshot.data.toList.drop 24 = dktX1_restoreSnapshot_1 := dk_seg dksX1_restoreSnapshot_0 24 rfl rfl
theorem dX1_restoreSnapshot_0 : decode cX1_restoreSnapshot 0 = .ok (.iload_n 1, 1) := dk_27 (dk_at dksX1_restoreSnapshot_0 0 rfl rfl)
theorem dX1_restoreSnapshot_1 : decode cX1_restoreSnapshot 1 = .ok (.i2l, 1) := dk_133 (dk_at dksX1_restoreSnapshot_0 1 rfl rfl)
theorem dX1_restoreSnapshot_2 : decode cX1_restoreSnapshot 2 = .ok (.lconst 0, 1) := dk_9 (dk_at dksX1_restoreSnapshot_0 2 rfl rfl)
theorem dX1_restoreSnapshot_3 : decode cX1_restoreSnapshot 3 = .ok (.lconst 1, 1) := dk_10 (dk_at dksX1_restoreSnapshot_0 3 rfl rfl)
theorem dX1_restoreSnapshot_4 : decode cX1_restoreSnapshot 4 = .ok (.invokestatic 64, 3) := dk_184 0 64 (dk_at dksX1_restoreSnapshot_0 4 rfl rfl)
theorem dX1_restoreSnapshot_7 : decode cX1_restoreSnapshot 7 = .ok (.invokestatic 73, 3) := dk_184 0 73 (dk_at dksX1_restoreSnapshot_0 7 rfl rfl)
theorem dX1_restoreSnapshot_10 : decode cX1_restoreSnapshot 10 = .ok (.aload_n 0, 1) := dk_42 (dk_at dksX1_restoreSnapshot_0 10 rfl rfl)
theorem dX1_restoreSnapshot_11 : decode cX1_restoreSnapshot 11 = .ok (.getfield 53, 3) := dk_180 0 53 (dk_at dksX1_restoreSnapshot_0 11 rfl rfl)
theorem dX1_restoreSnapshot_14 : decode cX1_restoreSnapshot 14 = .ok (.iload_n 1, 1) := dk_27 (dk_at dksX1_restoreSnapshot_0 14 rfl rfl)
theorem dX1_restoreSnapshot_15 : decode cX1_restoreSnapshot 15 = .ok (.aaload, 1) := dk_50 (dk_at dksX1_restoreSnapshot_0 15 rfl rfl)
theorem dX1_restoreSnapshot_16 : decode cX1_restoreSnapshot 16 = .ok (.ifnonnull 6, 3) := dk_199 0 6 (dk_at dksX1_restoreSnapshot_0 16 rfl rfl)
theorem dX1_restoreSnapshot_19 : decode cX1_restoreSnapshot 19 = .ok (.bipush (-4), 2) := dk_16 252 (dk_at dksX1_restoreSnapshot_0 19 rfl rfl)
theorem dX1_restoreSnapshot_21 : decode cX1_restoreSnapshot 21 = .ok (.ireturn, 1) := dk_172 (dk_at dksX1_restoreSnapshot_0 21 rfl rfl)
theorem dX1_restoreSnapshot_22 : decode cX1_restoreSnapshot 22 = .ok (.aload_n 0, 1) := dk_42 (dk_at dksX1_restoreSnapshot_0 22 rfl rfl)
theorem dX1_restoreSnapshot_23 : decode cX1_restoreSnapshot 23 = .ok (.aload_n 0, 1) := dk_42 (dk_at dksX1_restoreSnapshot_0 23 rfl rfl)
theorem dX1_restoreSnapshot_24 : decode cX1_restoreSnapshot 24 = .ok (.getfield 53, 3) := dk_180 0 53 (dk_at dksX1_restoreSnapshot_1 0 rfl rfl)
theorem dX1_restoreSnapshot_27 : decode cX1_restoreSnapshot 27 = .ok (.iload_n 1, 1) := dk_27 (dk_at dksX1_restoreSnapshot_1 3 rfl rfl)
theorem dX1_restoreSnapshot_28 : decode cX1_restoreSnapshot 28 = .ok (.aaload, 1) := dk_50 (dk_at dksX1_restoreSnapshot_1 4 rfl rfl)
theorem dX1_restoreSnapshot_29 : decode cX1_restoreSnapshot 29 = .ok (.invokevirtual 326, 3) := dk_182 1 70 (dk_at dksX1_restoreSnapshot_1 5 rfl rfl)
theorem dX1_restoreSnapshot_32 : decode cX1_restoreSnapshot 32 = .ok (.putfield 49, 3) := dk_181 0 49 (dk_at dksX1_restoreSnapshot_1 8 rfl rfl)
theorem dX1_restoreSnapshot_35 : decode cX1_restoreSnapshot 35 = .ok (.aload_n 0, 1) := dk_42 (dk_at dksX1_restoreSnapshot_1 11 rfl rfl)
theorem dX1_restoreSnapshot_36 : decode cX1_restoreSnapshot 36 = .ok (.getfield 49, 3) := dk_180 0 49 (dk_at dksX1_restoreSnapshot_1 12 rfl rfl)
theorem dX1_restoreSnapshot_39 : decode cX1_restoreSnapshot 39 = .ok (.getfield 105, 3) := dk_180 0 105 (dk_at dksX1_restoreSnapshot_1 15 rfl rfl)
theorem dX1_restoreSnapshot_42 : decode cX1_restoreSnapshot 42 = .ok (.ireturn, 1) := dk_172 (dk_at dksX1_restoreSnapshot_1 18 rfl rfl)
theorem q90 : (Jvm.Cond.initialized "LeaderLeases") ∈ lw_all := lw_g (lw_at lw_m1 1 rfl) rfl
theorem q136 : (Jvm.Cond.instantiable "LeaderLeases" (5 : Nat)) ∈ lw_all := lw_g (lw_at lw_m1 47 rfl) rfl
theorem q138 : (Jvm.Cond.instanceMethod ({ cls := "LeaderLeases", name := "<init>", desc := "()V" } : Jvm.MethodName)) ∈ lw_all := lw_g (lw_at lw_m1 49 rfl) rfl
theorem q139 : (Jvm.Cond.code ({ cls := "LeaderLeases", name := "<init>", desc := "()V" } : Jvm.MethodName) prog_1_method_3_code (1 : Nat) (Option.none : Option Jvm.ClassFile.FieldType)) ∈ lw_all := lw_g (lw_at lw_m1 50 rfl) rfl
theorem q140 : (Jvm.Cond.methodLink "LeaderLeases" (31 : Nat) ({ cls := "java/lang/Object", name := "<init>", desc := "()V" } : Jvm.MethodName)) ∈ lw_all := lw_g (lw_at lw_m1 51 rfl) rfl
theorem q143 : (Jvm.Cond.classLink "LeaderLeases" (40 : Nat) "LeaderLeases$Simulation") ∈ lw_all := lw_g (lw_at lw_m1 54 rfl) rfl
theorem q145 : (Jvm.Cond.methodLink "LeaderLeases" (42 : Nat) ({ cls := "LeaderLeases", name := "plain", desc := "()LLeaderLeases$Configuration;" } : Jvm.MethodName)) ∈ lw_all := lw_g (lw_at lw_m1 56 rfl) rfl
theorem q146 : (Jvm.Cond.static ({ cls := "LeaderLeases", name := "plain", desc := "()LLeaderLeases$Configuration;" } : Jvm.MethodName)) ∈ lw_all := lw_g (lw_at lw_m1 57 rfl) rfl
theorem q147 : (Jvm.Cond.code ({ cls := "LeaderLeases", name := "plain", desc := "()LLeaderLeases$Configuration;" } : Jvm.MethodName) prog_1_method_2_code (1 : Nat) (Option.some (Jvm.ClassFile.FieldType.object "LeaderLeases$Configuration"))) ∈ lw_all := lw_g (lw_at lw_m1 58 rfl) rfl
theorem q148 : (Jvm.Cond.classLink "LeaderLeases" (1 : Nat) "LeaderLeases$Configuration") ∈ lw_all := lw_g (lw_at lw_m1 59 rfl) rfl
theorem q150 : (Jvm.Cond.methodLinkNest "LeaderLeases" (3 : Nat) ({ cls := "LeaderLeases$Configuration", name := "<init>", desc := "()V" } : Jvm.MethodName) "LeaderLeases") ∈ lw_tbl := lw_at lw_m1 61 rfl
theorem q161 : (Jvm.Cond.fieldLinkNest "LeaderLeases" (336 : Nat) "LeaderLeases$Clock" "rate" "I" "LeaderLeases") ∈ lw_tbl := lw_at lw_m1 72 rfl
theorem q520 : (Jvm.Cond.fieldLinkNest "LeaderLeases" (263 : Nat) "LeaderLeases$Configuration" "server" "LLeaderLeases$Clock;" "LeaderLeases") ∈ lw_tbl := lw_at lw_m2 191 rfl
theorem q523 : (Jvm.Cond.fieldLinkNest "LeaderLeases" (7 : Nat) "LeaderLeases$Configuration" "clocks" "Ljava/util/List;" "LeaderLeases") ∈ lw_tbl := lw_at lw_m2 194 rfl
theorem q527 : (Jvm.Cond.fieldLinkNest "LeaderLeases" (22 : Nat) "LeaderLeases$Configuration" "delays" "Ljava/util/List;" "LeaderLeases") ∈ lw_tbl := lw_at lw_m2 198 rfl
theorem q565 : (Jvm.Cond.classLink "LeaderLeases" (11 : Nat) "LeaderLeases$Clock") ∈ lw_all := lw_g (lw_at lw_m2 236 rfl) rfl
theorem q566 : (Jvm.Cond.methodLink "LeaderLeases" (13 : Nat) ({ cls := "LeaderLeases$Clock", name := "<init>", desc := "(II)V" } : Jvm.MethodName)) ∈ lw_all := lw_g (lw_at lw_m2 237 rfl) rfl
theorem q567 : (Jvm.Cond.interfaceEntry "LeaderLeases" (16 : Nat)) ∈ lw_tbl := lw_at lw_m2 238 rfl
theorem q568 : (Jvm.Cond.methodLink "LeaderLeases" (16 : Nat) ({ cls := "java/util/List", name := "add", desc := "(Ljava/lang/Object;)Z" } : Jvm.MethodName)) ∈ lw_all := lw_g (lw_at lw_m2 239 rfl) rfl
theorem q598 : (Jvm.Cond.selects "LeaderLeases" ({ cls := "java/lang/Object", name := "getClass", desc := "()Ljava/lang/Class;" } : Jvm.MethodName) ({ cls := "java/lang/Object", name := "getClass", desc := "()Ljava/lang/Class;" } : Jvm.MethodName)) ∈ lw_all := lw_g (lw_at lw_m3 29 rfl) rfl
theorem q633 : (Jvm.Cond.methodLink "LeaderLeases" (25 : Nat) ({ cls := "java/lang/Integer", name := "valueOf", desc := "(I)Ljava/lang/Integer;" } : Jvm.MethodName)) ∈ lw_all := lw_g (lw_at lw_m3 64 rfl) rfl
theorem q653 : (Jvm.Cond.methodLink "LeaderLeases" (46 : Nat) ({ cls := "LeaderLeases$Simulation", name := "<init>", desc := "(LLeaderLeases$Configuration;)V" } : Jvm.MethodName)) ∈ lw_all := lw_g (lw_at lw_m3 84 rfl) rfl
theorem q666 : (Jvm.Cond.fieldLinkNest "LeaderLeases" (241 : Nat) "LeaderLeases$Storage" "values" "[I" "LeaderLeases") ∈ lw_tbl := lw_at lw_m3 97 rfl
theorem q669 : (Jvm.Cond.fieldLinkNest "LeaderLeases" (249 : Nat) "LeaderLeases$Storage" "versions" "[I" "LeaderLeases") ∈ lw_tbl := lw_at lw_m3 100 rfl
theorem q671 : (Jvm.Cond.fieldLinkNest "LeaderLeases" (252 : Nat) "LeaderLeases$Storage" "greatest" "I" "LeaderLeases") ∈ lw_tbl := lw_at lw_m3 102 rfl
theorem q723 : (Jvm.Cond.fieldLinkNest "LeaderLeases" (121 : Nat) "LeaderLeases$Node" "clock" "LLeaderLeases$Clock;" "LeaderLeases") ∈ lw_tbl := lw_at lw_m3 154 rfl
theorem q728 : (Jvm.Cond.fieldLinkNest "LeaderLeases" (134 : Nat) "LeaderLeases$Node" "isUp" "Z" "LeaderLeases") ∈ lw_tbl := lw_at lw_m3 159 rfl
theorem q731 : (Jvm.Cond.fieldLinkNest "LeaderLeases" (146 : Nat) "LeaderLeases$Node" "isCandidate" "Z" "LeaderLeases") ∈ lw_tbl := lw_at lw_m3 162 rfl
theorem q734 : (Jvm.Cond.fieldLinkNest "LeaderLeases" (186 : Nat) "LeaderLeases$Node" "isCut" "Z" "LeaderLeases") ∈ lw_tbl := lw_at lw_m3 165 rfl
theorem q737 : (Jvm.Cond.fieldLinkNest "LeaderLeases" (175 : Nat) "LeaderLeases$Node" "pausedUntil" "I" "LeaderLeases") ∈ lw_tbl := lw_at lw_m3 168 rfl
theorem q740 : (Jvm.Cond.fieldLinkNest "LeaderLeases" (152 : Nat) "LeaderLeases$Node" "token" "I" "LeaderLeases") ∈ lw_tbl := lw_at lw_m3 171 rfl
theorem q743 : (Jvm.Cond.fieldLinkNest "LeaderLeases" (278 : Nat) "LeaderLeases$Node" "limit" "I" "LeaderLeases") ∈ lw_tbl := lw_at lw_m3 174 rfl
theorem q746 : (Jvm.Cond.fieldLinkNest "LeaderLeases" (155 : Nat) "LeaderLeases$Node" "timer" "I" "LeaderLeases") ∈ lw_tbl := lw_at lw_m3 177 rfl
theorem q749 : (Jvm.Cond.fieldLinkNest "LeaderLeases" (227 : Nat) "LeaderLeases$Node" "cachedSet" "I" "LeaderLeases") ∈ lw_tbl := lw_at lw_m3 180 rfl
theorem q752 : (Jvm.Cond.fieldLinkNest "LeaderLeases" (323 : Nat) "LeaderLeases$Node" "led" "I" "LeaderLeases") ∈ lw_tbl := lw_at lw_m3 183 rfl
theorem q755 : (Jvm.Cond.fieldLinkNest "LeaderLeases" (361 : Nat) "LeaderLeases$Node" "acquires" "I" "LeaderLeases") ∈ lw_tbl := lw_at lw_m3 186 rfl
theorem q757 : (Jvm.Cond.fieldLinkNest "LeaderLeases" (233 : Nat) "LeaderLeases$Node" "cache" "[I" "LeaderLeases") ∈ lw_tbl := lw_at lw_m3 188 rfl
theorem q787 : (Jvm.Cond.fieldLinkNest "LeaderLeases" (259 : Nat) "LeaderLeases$Simulation" "of" "LLeaderLeases$Configuration;" "LeaderLeases") ∈ lw_tbl := lw_at lw_m3 218 rfl
theorem q789 : (Jvm.Cond.fieldLinkNest "LeaderLeases" (60 : Nat) "LeaderLeases$Simulation" "nodes" "[LLeaderLeases$Node;" "LeaderLeases") ∈ lw_tbl := lw_at lw_m3 220 rfl
theorem q791 : (Jvm.Cond.fieldLinkNest "LeaderLeases" (287 : Nat) "LeaderLeases$Simulation" "messages" "Ljava/util/List;" "LeaderLeases") ∈ lw_tbl := lw_at lw_m3 222 rfl
theorem q793 : (Jvm.Cond.fieldLinkNest "LeaderLeases" (216 : Nat) "LeaderLeases$Simulation" "delayed" "Ljava/util/List;" "LeaderLeases") ∈ lw_tbl := lw_at lw_m3 224 rfl
theorem q795 : (Jvm.Cond.fieldLinkNest "LeaderLeases" (189 : Nat) "LeaderLeases$Simulation" "outages" "Ljava/util/List;" "LeaderLeases") ∈ lw_tbl := lw_at lw_m3 226 rfl
theorem q797 : (Jvm.Cond.fieldLinkNest "LeaderLeases" (293 : Nat) "LeaderLeases$Simulation" "log" "Ljava/util/List;" "LeaderLeases") ∈ lw_tbl := lw_at lw_m3 228 rfl
theorem q799 : (Jvm.Cond.fieldLinkNest "LeaderLeases" (237 : Nat) "LeaderLeases$Simulation" "storage" "LLeaderLeases$Storage;" "LeaderLeases") ∈ lw_tbl := lw_at lw_m3 230 rfl
theorem q801 : (Jvm.Cond.fieldLinkNest "LeaderLeases" (317 : Nat) "LeaderLeases$Simulation" "events" "[I" "LeaderLeases") ∈ lw_tbl := lw_at lw_m3 232 rfl
theorem q803 : (Jvm.Cond.fieldLinkNest "LeaderLeases" (105 : Nat) "LeaderLeases$Simulation" "now" "I" "LeaderLeases") ∈ lw_tbl := lw_at lw_m3 234 rfl
theorem q807 : (Jvm.Cond.fieldLinkNest "LeaderLeases" (290 : Nat) "LeaderLeases$Simulation" "lost" "I" "LeaderLeases") ∈ lw_tbl := lw_at lw_m3 238 rfl
theorem q809 : (Jvm.Cond.fieldLinkNest "LeaderLeases" (255 : Nat) "LeaderLeases$Simulation" "holder" "I" "LeaderLeases") ∈ lw_tbl := lw_at lw_m4 0 rfl
theorem q811 : (Jvm.Cond.fieldLinkNest "LeaderLeases" (266 : Nat) "LeaderLeases$Simulation" "expiry" "I" "LeaderLeases") ∈ lw_tbl := lw_at lw_m4 2 rfl
theorem q813 : (Jvm.Cond.fieldLinkNest "LeaderLeases" (258 : Nat) "LeaderLeases$Simulation" "greatest" "I" "LeaderLeases") ∈ lw_tbl := lw_at lw_m4 4 rfl
theorem q815 : (Jvm.Cond.fieldLinkNest "LeaderLeases" (272 : Nat) "LeaderLeases$Simulation" "graceEnd" "I" "LeaderLeases") ∈ lw_tbl := lw_at lw_m4 6 rfl
theorem q817 : (Jvm.Cond.fieldLinkNest "LeaderLeases" (320 : Nat) "LeaderLeases$Simulation" "splitTime" "I" "LeaderLeases") ∈ lw_tbl := lw_at lw_m4 8 rfl
theorem q819 : (Jvm.Cond.fieldLinkNest "LeaderLeases" (333 : Nat) "LeaderLeases$Simulation" "leaderless" "I" "LeaderLeases") ∈ lw_tbl := lw_at lw_m4 10 rfl
theorem q821 : (Jvm.Cond.fieldLinkNest "LeaderLeases" (230 : Nat) "LeaderLeases$Simulation" "reads" "I" "LeaderLeases") ∈ lw_tbl := lw_at lw_m4 12 rfl
theorem q823 : (Jvm.Cond.fieldLinkNest "LeaderLeases" (246 : Nat) "LeaderLeases$Simulation" "staleReads" "I" "LeaderLeases") ∈ lw_tbl := lw_at lw_m4 14 rfl
theorem q873 : (Jvm.Cond.fieldLink "LeaderLeases" (36 : Nat) "LeaderLeases" "buffer" "[B") ∈ lw_all := lw_g (lw_at lw_m4 64 rfl) rfl
theorem q875 : (Jvm.Cond.fieldLink "LeaderLeases" (79 : Nat) "LeaderLeases" "length" "I") ∈ lw_all := lw_g (lw_at lw_m4 66 rfl) rfl
theorem q876 : (Jvm.Cond.fieldLink "LeaderLeases" (91 : Nat) "LeaderLeases" "loadError" "I") ∈ lw_all := lw_g (lw_at lw_m4 67 rfl) rfl
theorem q877 : (Jvm.Cond.fieldLink "LeaderLeases" (49 : Nat) "LeaderLeases" "simulation" "LLeaderLeases$Simulation;") ∈ lw_all := lw_g (lw_at lw_m4 68 rfl) rfl
theorem q878 : (Jvm.Cond.fieldLink "LeaderLeases" (53 : Nat) "LeaderLeases" "saved" "[LLeaderLeases$Simulation;") ∈ lw_all := lw_g (lw_at lw_m4 69 rfl) rfl
theorem q879 : (Jvm.Cond.laysFinal "LeaderLeases" "LeaderLeases" "buffer" "[B") ∈ lw_all := lw_g (lw_at lw_m4 70 rfl) rfl
theorem q880 : (Jvm.Cond.soleField "LeaderLeases" "buffer") ∈ lw_all := lw_g (lw_at lw_m4 71 rfl) rfl
theorem q881 : (Jvm.Cond.lays "LeaderLeases" "LeaderLeases" "length" "I") ∈ lw_all := lw_g (lw_at lw_m4 72 rfl) rfl
theorem q882 : (Jvm.Cond.soleField "LeaderLeases" "length") ∈ lw_all := lw_g (lw_at lw_m4 73 rfl) rfl
theorem q883 : (Jvm.Cond.lays "LeaderLeases" "LeaderLeases" "loadError" "I") ∈ lw_all := lw_g (lw_at lw_m4 74 rfl) rfl
theorem q884 : (Jvm.Cond.soleField "LeaderLeases" "loadError") ∈ lw_all := lw_g (lw_at lw_m4 75 rfl) rfl
theorem q885 : (Jvm.Cond.lays "LeaderLeases" "LeaderLeases" "simulation" "LLeaderLeases$Simulation;") ∈ lw_all := lw_g (lw_at lw_m4 76 rfl) rfl
theorem q886 : (Jvm.Cond.soleField "LeaderLeases" "simulation") ∈ lw_all := lw_g (lw_at lw_m4 77 rfl) rfl
theorem q887 : (Jvm.Cond.laysFinal "LeaderLeases" "LeaderLeases" "saved" "[LLeaderLeases$Simulation;") ∈ lw_all := lw_g (lw_at lw_m4 78 rfl) rfl
theorem q888 : (Jvm.Cond.soleField "LeaderLeases" "saved") ∈ lw_all := lw_g (lw_at lw_m4 79 rfl) rfl
theorem q889 : (Jvm.Cond.superclass "LeaderLeases" "java/lang/Object") ∈ lw_all := lw_g (lw_at lw_m4 80 rfl) rfl
theorem q891 : (Jvm.Cond.instanceMethod ({ cls := "LeaderLeases", name := "load", desc := "()I" } : Jvm.MethodName)) ∈ lw_all := lw_g (lw_at lw_m4 82 rfl) rfl
theorem q892 : (Jvm.Cond.selects "LeaderLeases" ({ cls := "LeaderLeases", name := "load", desc := "()I" } : Jvm.MethodName) ({ cls := "LeaderLeases", name := "load", desc := "()I" } : Jvm.MethodName)) ∈ lw_all := lw_g (lw_at lw_m4 83 rfl) rfl
theorem q893 : (Jvm.Cond.codeWith ({ cls := "LeaderLeases", name := "load", desc := "()I" } : Jvm.MethodName) prog_1_method_8_code (4 : Nat) (Option.some Jvm.ClassFile.FieldType.int) [((0 : Nat), (36 : Nat), (43 : Nat), (94 : Nat)), ((0 : Nat), (36 : Nat), (67 : Nat), (0 : Nat)), ((43 : Nat), (60 : Nat), (67 : Nat), (0 : Nat))]) ∈ lw_all := lw_g (lw_at lw_m4 84 rfl) rfl
theorem q894 : (Jvm.Cond.classLink "LeaderLeases" (94 : Nat) "LeaderLeases$ConfigurationException") ∈ lw_all := lw_g (lw_at lw_m4 85 rfl) rfl
theorem q895 : (Jvm.Cond.classLink "LeaderLeases" (83 : Nat) "LeaderLeases$Parser") ∈ lw_all := lw_g (lw_at lw_m4 86 rfl) rfl
theorem q897 : (Jvm.Cond.methodLinkNest "LeaderLeases" (85 : Nat) ({ cls := "LeaderLeases$Parser", name := "<init>", desc := "(LLeaderLeases;)V" } : Jvm.MethodName) "LeaderLeases") ∈ lw_tbl := lw_at lw_m4 88 rfl
theorem q918 : (Jvm.Cond.methodLink "LeaderLeases" (88 : Nat) ({ cls := "LeaderLeases$Parser", name := "configuration", desc := "()LLeaderLeases$Configuration;" } : Jvm.MethodName)) ∈ lw_all := lw_g (lw_at lw_m4 109 rfl) rfl
theorem q951 : (Jvm.Cond.static ({ cls := "LeaderLeases", name := "in", desc := "(JJJ)Z" } : Jvm.MethodName)) ∈ lw_all := lw_g (lw_at lw_m4 142 rfl) rfl
theorem q952 : (Jvm.Cond.code ({ cls := "LeaderLeases", name := "in", desc := "(JJJ)Z" } : Jvm.MethodName) prog_1_method_1_code (6 : Nat) (Option.some Jvm.ClassFile.FieldType.boolean)) ∈ lw_all := lw_g (lw_at lw_m4 143 rfl) rfl
theorem q1007 : (Jvm.Cond.selects "LeaderLeases" ({ cls := "java/lang/Object", name := "equals", desc := "(Ljava/lang/Object;)Z" } : Jvm.MethodName) ({ cls := "java/lang/Object", name := "equals", desc := "(Ljava/lang/Object;)Z" } : Jvm.MethodName)) ∈ lw_all := lw_g (lw_at lw_m4 198 rfl) rfl
theorem q1224 : (Jvm.Cond.methodLink "LeaderLeases" (96 : Nat) ({ cls := "LeaderLeases$ConfigurationException", name := "number", desc := "()I" } : Jvm.MethodName)) ∈ lw_all := lw_g (lw_at lw_m5 175 rfl) rfl
theorem q1237 : (Jvm.Cond.methodLink "LeaderLeases" (100 : Nat) ({ cls := "LeaderLeases$ConfigurationException", name := "position", desc := "()I" } : Jvm.MethodName)) ∈ lw_all := lw_g (lw_at lw_m5 188 rfl) rfl
theorem q1251 : (Jvm.Cond.instanceMethod ({ cls := "LeaderLeases", name := "loadError", desc := "()I" } : Jvm.MethodName)) ∈ lw_all := lw_g (lw_at lw_m5 202 rfl) rfl
theorem q1252 : (Jvm.Cond.selects "LeaderLeases" ({ cls := "LeaderLeases", name := "loadError", desc := "()I" } : Jvm.MethodName) ({ cls := "LeaderLeases", name := "loadError", desc := "()I" } : Jvm.MethodName)) ∈ lw_all := lw_g (lw_at lw_m5 203 rfl) rfl
theorem q1253 : (Jvm.Cond.code ({ cls := "LeaderLeases", name := "loadError", desc := "()I" } : Jvm.MethodName) prog_1_method_9_code (1 : Nat) (Option.some Jvm.ClassFile.FieldType.int)) ∈ lw_all := lw_g (lw_at lw_m5 204 rfl) rfl
theorem q1255 : (Jvm.Cond.instanceMethod ({ cls := "LeaderLeases", name := "advanceToNextEvent", desc := "()I" } : Jvm.MethodName)) ∈ lw_all := lw_g (lw_at lw_m5 206 rfl) rfl
theorem q1256 : (Jvm.Cond.selects "LeaderLeases" ({ cls := "LeaderLeases", name := "advanceToNextEvent", desc := "()I" } : Jvm.MethodName) ({ cls := "LeaderLeases", name := "advanceToNextEvent", desc := "()I" } : Jvm.MethodName)) ∈ lw_all := lw_g (lw_at lw_m5 207 rfl) rfl
theorem q1257 : (Jvm.Cond.code ({ cls := "LeaderLeases", name := "advanceToNextEvent", desc := "()I" } : Jvm.MethodName) prog_1_method_11_code (2 : Nat) (Option.some Jvm.ClassFile.FieldType.int)) ∈ lw_all := lw_g (lw_at lw_m5 208 rfl) rfl
theorem q1258 : (Jvm.Cond.methodLink "LeaderLeases" (113 : Nat) ({ cls := "LeaderLeases$Simulation", name := "nextEvent", desc := "()I" } : Jvm.MethodName)) ∈ lw_all := lw_g (lw_at lw_m5 209 rfl) rfl
theorem q1284 : (Jvm.Cond.constant "LeaderLeases" (116 : Nat) (2147483647 : Int32)) ∈ lw_all := lw_g (lw_at lw_m5 235 rfl) rfl
theorem q1285 : (Jvm.Cond.constant "LeaderLeases" (108 : Nat) (5000000 : Int32)) ∈ lw_all := lw_g (lw_at lw_m5 236 rfl) rfl
theorem q1286 : (Jvm.Cond.methodLink "LeaderLeases" (109 : Nat) ({ cls := "LeaderLeases$Simulation", name := "goOn", desc := "(I)V" } : Jvm.MethodName)) ∈ lw_all := lw_g (lw_at lw_m5 237 rfl) rfl
theorem q1436 : (Jvm.Cond.fieldLinkNest "LeaderLeases" (306 : Nat) "LeaderLeases$Event" "time" "I" "LeaderLeases") ∈ lw_tbl := lw_at lw_m6 147 rfl
theorem q1438 : (Jvm.Cond.fieldLinkNest "LeaderLeases" (309 : Nat) "LeaderLeases$Event" "kind" "I" "LeaderLeases") ∈ lw_tbl := lw_at lw_m6 149 rfl
theorem q1440 : (Jvm.Cond.fieldLinkNest "LeaderLeases" (312 : Nat) "LeaderLeases$Event" "node" "I" "LeaderLeases") ∈ lw_tbl := lw_at lw_m6 151 rfl
theorem q1442 : (Jvm.Cond.fieldLinkNest "LeaderLeases" (314 : Nat) "LeaderLeases$Event" "token" "I" "LeaderLeases") ∈ lw_tbl := lw_at lw_m6 153 rfl
theorem q1574 : (Jvm.Cond.instanceMethod ({ cls := "LeaderLeases", name := "now", desc := "()I" } : Jvm.MethodName)) ∈ lw_all := lw_g (lw_at lw_m7 45 rfl) rfl
theorem q1575 : (Jvm.Cond.selects "LeaderLeases" ({ cls := "LeaderLeases", name := "now", desc := "()I" } : Jvm.MethodName) ({ cls := "LeaderLeases", name := "now", desc := "()I" } : Jvm.MethodName)) ∈ lw_all := lw_g (lw_at lw_m7 46 rfl) rfl
theorem q1576 : (Jvm.Cond.code ({ cls := "LeaderLeases", name := "now", desc := "()I" } : Jvm.MethodName) prog_1_method_12_code (1 : Nat) (Option.some Jvm.ClassFile.FieldType.int)) ∈ lw_all := lw_g (lw_at lw_m7 47 rfl) rfl
theorem q1578 : (Jvm.Cond.instanceMethod ({ cls := "LeaderLeases", name := "nodeCount", desc := "()I" } : Jvm.MethodName)) ∈ lw_all := lw_g (lw_at lw_m7 49 rfl) rfl
theorem q1579 : (Jvm.Cond.selects "LeaderLeases" ({ cls := "LeaderLeases", name := "nodeCount", desc := "()I" } : Jvm.MethodName) ({ cls := "LeaderLeases", name := "nodeCount", desc := "()I" } : Jvm.MethodName)) ∈ lw_all := lw_g (lw_at lw_m7 50 rfl) rfl
theorem q1580 : (Jvm.Cond.code ({ cls := "LeaderLeases", name := "nodeCount", desc := "()I" } : Jvm.MethodName) prog_1_method_13_code (1 : Nat) (Option.some Jvm.ClassFile.FieldType.int)) ∈ lw_all := lw_g (lw_at lw_m7 51 rfl) rfl
theorem q1582 : (Jvm.Cond.instanceMethod ({ cls := "LeaderLeases", name := "serverClock", desc := "()I" } : Jvm.MethodName)) ∈ lw_all := lw_g (lw_at lw_m7 53 rfl) rfl
theorem q1583 : (Jvm.Cond.selects "LeaderLeases" ({ cls := "LeaderLeases", name := "serverClock", desc := "()I" } : Jvm.MethodName) ({ cls := "LeaderLeases", name := "serverClock", desc := "()I" } : Jvm.MethodName)) ∈ lw_all := lw_g (lw_at lw_m7 54 rfl) rfl
theorem q1584 : (Jvm.Cond.code ({ cls := "LeaderLeases", name := "serverClock", desc := "()I" } : Jvm.MethodName) prog_1_method_15_code (1 : Nat) (Option.some Jvm.ClassFile.FieldType.int)) ∈ lw_all := lw_g (lw_at lw_m7 55 rfl) rfl
theorem q1585 : (Jvm.Cond.methodLink "LeaderLeases" (131 : Nat) ({ cls := "LeaderLeases$Simulation", name := "serverClock", desc := "()I" } : Jvm.MethodName)) ∈ lw_all := lw_g (lw_at lw_m7 56 rfl) rfl
theorem q1587 : (Jvm.Cond.instanceMethod ({ cls := "LeaderLeases", name := "restartServer", desc := "()I" } : Jvm.MethodName)) ∈ lw_all := lw_g (lw_at lw_m7 58 rfl) rfl
theorem q1588 : (Jvm.Cond.selects "LeaderLeases" ({ cls := "LeaderLeases", name := "restartServer", desc := "()I" } : Jvm.MethodName) ({ cls := "LeaderLeases", name := "restartServer", desc := "()I" } : Jvm.MethodName)) ∈ lw_all := lw_g (lw_at lw_m7 59 rfl) rfl
theorem q1589 : (Jvm.Cond.code ({ cls := "LeaderLeases", name := "restartServer", desc := "()I" } : Jvm.MethodName) prog_1_method_24_code (1 : Nat) (Option.some Jvm.ClassFile.FieldType.int)) ∈ lw_all := lw_g (lw_at lw_m7 60 rfl) rfl
theorem q1590 : (Jvm.Cond.methodLink "LeaderLeases" (199 : Nat) ({ cls := "LeaderLeases$Simulation", name := "restartServer", desc := "()I" } : Jvm.MethodName)) ∈ lw_all := lw_g (lw_at lw_m7 61 rfl) rfl
theorem q1595 : (Jvm.Cond.instanceMethod ({ cls := "LeaderLeases", name := "storageToken", desc := "()I" } : Jvm.MethodName)) ∈ lw_all := lw_g (lw_at lw_m7 66 rfl) rfl
theorem q1596 : (Jvm.Cond.selects "LeaderLeases" ({ cls := "LeaderLeases", name := "storageToken", desc := "()I" } : Jvm.MethodName) ({ cls := "LeaderLeases", name := "storageToken", desc := "()I" } : Jvm.MethodName)) ∈ lw_all := lw_g (lw_at lw_m7 67 rfl) rfl
theorem q1597 : (Jvm.Cond.code ({ cls := "LeaderLeases", name := "storageToken", desc := "()I" } : Jvm.MethodName) prog_1_method_32_code (1 : Nat) (Option.some Jvm.ClassFile.FieldType.int)) ∈ lw_all := lw_g (lw_at lw_m7 68 rfl) rfl
theorem q1599 : (Jvm.Cond.instanceMethod ({ cls := "LeaderLeases", name := "holder", desc := "()I" } : Jvm.MethodName)) ∈ lw_all := lw_g (lw_at lw_m7 70 rfl) rfl
theorem q1600 : (Jvm.Cond.selects "LeaderLeases" ({ cls := "LeaderLeases", name := "holder", desc := "()I" } : Jvm.MethodName) ({ cls := "LeaderLeases", name := "holder", desc := "()I" } : Jvm.MethodName)) ∈ lw_all := lw_g (lw_at lw_m7 71 rfl) rfl
theorem q1601 : (Jvm.Cond.code ({ cls := "LeaderLeases", name := "holder", desc := "()I" } : Jvm.MethodName) prog_1_method_33_code (1 : Nat) (Option.some Jvm.ClassFile.FieldType.int)) ∈ lw_all := lw_g (lw_at lw_m7 72 rfl) rfl
theorem q1603 : (Jvm.Cond.instanceMethod ({ cls := "LeaderLeases", name := "greatestToken", desc := "()I" } : Jvm.MethodName)) ∈ lw_all := lw_g (lw_at lw_m7 74 rfl) rfl
theorem q1604 : (Jvm.Cond.selects "LeaderLeases" ({ cls := "LeaderLeases", name := "greatestToken", desc := "()I" } : Jvm.MethodName) ({ cls := "LeaderLeases", name := "greatestToken", desc := "()I" } : Jvm.MethodName)) ∈ lw_all := lw_g (lw_at lw_m7 75 rfl) rfl
theorem q1605 : (Jvm.Cond.code ({ cls := "LeaderLeases", name := "greatestToken", desc := "()I" } : Jvm.MethodName) prog_1_method_34_code (1 : Nat) (Option.some Jvm.ClassFile.FieldType.int)) ∈ lw_all := lw_g (lw_at lw_m7 76 rfl) rfl
theorem q1607 : (Jvm.Cond.instanceMethod ({ cls := "LeaderLeases", name := "serverExpiryTime", desc := "()I" } : Jvm.MethodName)) ∈ lw_all := lw_g (lw_at lw_m7 78 rfl) rfl
theorem q1608 : (Jvm.Cond.selects "LeaderLeases" ({ cls := "LeaderLeases", name := "serverExpiryTime", desc := "()I" } : Jvm.MethodName) ({ cls := "LeaderLeases", name := "serverExpiryTime", desc := "()I" } : Jvm.MethodName)) ∈ lw_all := lw_g (lw_at lw_m7 79 rfl) rfl
theorem q1609 : (Jvm.Cond.code ({ cls := "LeaderLeases", name := "serverExpiryTime", desc := "()I" } : Jvm.MethodName) prog_1_method_35_code (1 : Nat) (Option.some Jvm.ClassFile.FieldType.int)) ∈ lw_all := lw_g (lw_at lw_m7 80 rfl) rfl
theorem q1610 : (Jvm.Cond.methodLink "LeaderLeases" (269 : Nat) ({ cls := "LeaderLeases$Clock", name := "reaches", desc := "(I)I" } : Jvm.MethodName)) ∈ lw_all := lw_g (lw_at lw_m7 81 rfl) rfl
theorem q1612 : (Jvm.Cond.instanceMethod ({ cls := "LeaderLeases", name := "graceLeft", desc := "()I" } : Jvm.MethodName)) ∈ lw_all := lw_g (lw_at lw_m7 83 rfl) rfl
theorem q1613 : (Jvm.Cond.selects "LeaderLeases" ({ cls := "LeaderLeases", name := "graceLeft", desc := "()I" } : Jvm.MethodName) ({ cls := "LeaderLeases", name := "graceLeft", desc := "()I" } : Jvm.MethodName)) ∈ lw_all := lw_g (lw_at lw_m7 84 rfl) rfl
theorem q1614 : (Jvm.Cond.code ({ cls := "LeaderLeases", name := "graceLeft", desc := "()I" } : Jvm.MethodName) prog_1_method_36_code (1 : Nat) (Option.some Jvm.ClassFile.FieldType.int)) ∈ lw_all := lw_g (lw_at lw_m7 85 rfl) rfl
theorem q1615 : (Jvm.Cond.methodLink "LeaderLeases" (180 : Nat) ({ cls := "java/lang/Math", name := "max", desc := "(II)I" } : Jvm.MethodName)) ∈ lw_all := lw_g (lw_at lw_m7 86 rfl) rfl
theorem q1617 : (Jvm.Cond.instanceMethod ({ cls := "LeaderLeases", name := "leaders", desc := "()I" } : Jvm.MethodName)) ∈ lw_all := lw_g (lw_at lw_m7 88 rfl) rfl
theorem q1618 : (Jvm.Cond.selects "LeaderLeases" ({ cls := "LeaderLeases", name := "leaders", desc := "()I" } : Jvm.MethodName) ({ cls := "LeaderLeases", name := "leaders", desc := "()I" } : Jvm.MethodName)) ∈ lw_all := lw_g (lw_at lw_m7 89 rfl) rfl
theorem q1619 : (Jvm.Cond.code ({ cls := "LeaderLeases", name := "leaders", desc := "()I" } : Jvm.MethodName) prog_1_method_38_code (1 : Nat) (Option.some Jvm.ClassFile.FieldType.int)) ∈ lw_all := lw_g (lw_at lw_m7 90 rfl) rfl
theorem q1620 : (Jvm.Cond.methodLink "LeaderLeases" (275 : Nat) ({ cls := "LeaderLeases$Simulation", name := "leaders", desc := "()I" } : Jvm.MethodName)) ∈ lw_all := lw_g (lw_at lw_m7 91 rfl) rfl
theorem q1630 : (Jvm.Cond.instanceMethod ({ cls := "LeaderLeases", name := "messagesOnWay", desc := "()I" } : Jvm.MethodName)) ∈ lw_all := lw_g (lw_at lw_m7 101 rfl) rfl
theorem q1631 : (Jvm.Cond.selects "LeaderLeases" ({ cls := "LeaderLeases", name := "messagesOnWay", desc := "()I" } : Jvm.MethodName) ({ cls := "LeaderLeases", name := "messagesOnWay", desc := "()I" } : Jvm.MethodName)) ∈ lw_all := lw_g (lw_at lw_m7 102 rfl) rfl
theorem q1632 : (Jvm.Cond.code ({ cls := "LeaderLeases", name := "messagesOnWay", desc := "()I" } : Jvm.MethodName) prog_1_method_45_code (1 : Nat) (Option.some Jvm.ClassFile.FieldType.int)) ∈ lw_all := lw_g (lw_at lw_m7 103 rfl) rfl
theorem q1633 : (Jvm.Cond.interfaceEntry "LeaderLeases" (192 : Nat)) ∈ lw_tbl := lw_at lw_m7 104 rfl
theorem q1634 : (Jvm.Cond.methodLink "LeaderLeases" (192 : Nat) ({ cls := "java/util/List", name := "size", desc := "()I" } : Jvm.MethodName)) ∈ lw_all := lw_g (lw_at lw_m7 105 rfl) rfl
theorem q1636 : (Jvm.Cond.instanceMethod ({ cls := "LeaderLeases", name := "delayedWrites", desc := "()I" } : Jvm.MethodName)) ∈ lw_all := lw_g (lw_at lw_m7 107 rfl) rfl
theorem q1637 : (Jvm.Cond.selects "LeaderLeases" ({ cls := "LeaderLeases", name := "delayedWrites", desc := "()I" } : Jvm.MethodName) ({ cls := "LeaderLeases", name := "delayedWrites", desc := "()I" } : Jvm.MethodName)) ∈ lw_all := lw_g (lw_at lw_m7 108 rfl) rfl
theorem q1638 : (Jvm.Cond.code ({ cls := "LeaderLeases", name := "delayedWrites", desc := "()I" } : Jvm.MethodName) prog_1_method_46_code (1 : Nat) (Option.some Jvm.ClassFile.FieldType.int)) ∈ lw_all := lw_g (lw_at lw_m7 109 rfl) rfl
theorem q1640 : (Jvm.Cond.instanceMethod ({ cls := "LeaderLeases", name := "messagesLost", desc := "()I" } : Jvm.MethodName)) ∈ lw_all := lw_g (lw_at lw_m7 111 rfl) rfl
theorem q1641 : (Jvm.Cond.selects "LeaderLeases" ({ cls := "LeaderLeases", name := "messagesLost", desc := "()I" } : Jvm.MethodName) ({ cls := "LeaderLeases", name := "messagesLost", desc := "()I" } : Jvm.MethodName)) ∈ lw_all := lw_g (lw_at lw_m7 112 rfl) rfl
theorem q1642 : (Jvm.Cond.code ({ cls := "LeaderLeases", name := "messagesLost", desc := "()I" } : Jvm.MethodName) prog_1_method_47_code (1 : Nat) (Option.some Jvm.ClassFile.FieldType.int)) ∈ lw_all := lw_g (lw_at lw_m7 113 rfl) rfl
theorem q1644 : (Jvm.Cond.instanceMethod ({ cls := "LeaderLeases", name := "logSize", desc := "()I" } : Jvm.MethodName)) ∈ lw_all := lw_g (lw_at lw_m7 115 rfl) rfl
theorem q1645 : (Jvm.Cond.selects "LeaderLeases" ({ cls := "LeaderLeases", name := "logSize", desc := "()I" } : Jvm.MethodName) ({ cls := "LeaderLeases", name := "logSize", desc := "()I" } : Jvm.MethodName)) ∈ lw_all := lw_g (lw_at lw_m7 116 rfl) rfl
theorem q1646 : (Jvm.Cond.code ({ cls := "LeaderLeases", name := "logSize", desc := "()I" } : Jvm.MethodName) prog_1_method_48_code (1 : Nat) (Option.some Jvm.ClassFile.FieldType.int)) ∈ lw_all := lw_g (lw_at lw_m7 117 rfl) rfl
theorem q1648 : (Jvm.Cond.instanceMethod ({ cls := "LeaderLeases", name := "splitTime", desc := "()I" } : Jvm.MethodName)) ∈ lw_all := lw_g (lw_at lw_m7 119 rfl) rfl
theorem q1649 : (Jvm.Cond.selects "LeaderLeases" ({ cls := "LeaderLeases", name := "splitTime", desc := "()I" } : Jvm.MethodName) ({ cls := "LeaderLeases", name := "splitTime", desc := "()I" } : Jvm.MethodName)) ∈ lw_all := lw_g (lw_at lw_m7 120 rfl) rfl
theorem q1650 : (Jvm.Cond.code ({ cls := "LeaderLeases", name := "splitTime", desc := "()I" } : Jvm.MethodName) prog_1_method_55_code (1 : Nat) (Option.some Jvm.ClassFile.FieldType.int)) ∈ lw_all := lw_g (lw_at lw_m7 121 rfl) rfl
theorem q1652 : (Jvm.Cond.instanceMethod ({ cls := "LeaderLeases", name := "reads", desc := "()I" } : Jvm.MethodName)) ∈ lw_all := lw_g (lw_at lw_m7 123 rfl) rfl
theorem q1653 : (Jvm.Cond.selects "LeaderLeases" ({ cls := "LeaderLeases", name := "reads", desc := "()I" } : Jvm.MethodName) ({ cls := "LeaderLeases", name := "reads", desc := "()I" } : Jvm.MethodName)) ∈ lw_all := lw_g (lw_at lw_m7 124 rfl) rfl
theorem q1654 : (Jvm.Cond.code ({ cls := "LeaderLeases", name := "reads", desc := "()I" } : Jvm.MethodName) prog_1_method_56_code (1 : Nat) (Option.some Jvm.ClassFile.FieldType.int)) ∈ lw_all := lw_g (lw_at lw_m7 125 rfl) rfl
theorem q1656 : (Jvm.Cond.instanceMethod ({ cls := "LeaderLeases", name := "staleReads", desc := "()I" } : Jvm.MethodName)) ∈ lw_all := lw_g (lw_at lw_m7 127 rfl) rfl
theorem q1657 : (Jvm.Cond.selects "LeaderLeases" ({ cls := "LeaderLeases", name := "staleReads", desc := "()I" } : Jvm.MethodName) ({ cls := "LeaderLeases", name := "staleReads", desc := "()I" } : Jvm.MethodName)) ∈ lw_all := lw_g (lw_at lw_m7 128 rfl) rfl
theorem q1658 : (Jvm.Cond.code ({ cls := "LeaderLeases", name := "staleReads", desc := "()I" } : Jvm.MethodName) prog_1_method_57_code (1 : Nat) (Option.some Jvm.ClassFile.FieldType.int)) ∈ lw_all := lw_g (lw_at lw_m7 129 rfl) rfl
theorem q1660 : (Jvm.Cond.instanceMethod ({ cls := "LeaderLeases", name := "smallestBound", desc := "()I" } : Jvm.MethodName)) ∈ lw_all := lw_g (lw_at lw_m7 131 rfl) rfl
theorem q1661 : (Jvm.Cond.selects "LeaderLeases" ({ cls := "LeaderLeases", name := "smallestBound", desc := "()I" } : Jvm.MethodName) ({ cls := "LeaderLeases", name := "smallestBound", desc := "()I" } : Jvm.MethodName)) ∈ lw_all := lw_g (lw_at lw_m7 132 rfl) rfl
theorem q1662 : (Jvm.Cond.code ({ cls := "LeaderLeases", name := "smallestBound", desc := "()I" } : Jvm.MethodName) prog_1_method_62_code (6 : Nat) (Option.some Jvm.ClassFile.FieldType.int)) ∈ lw_all := lw_g (lw_at lw_m7 133 rfl) rfl
theorem q1663 : (Jvm.Cond.methodLink "LeaderLeases" (339 : Nat) ({ cls := "java/lang/Math", name := "abs", desc := "(I)I" } : Jvm.MethodName)) ∈ lw_all := lw_g (lw_at lw_m7 134 rfl) rfl
theorem q1667 : (Jvm.Cond.instanceMethod ({ cls := "LeaderLeases", name := "overtakingPairs", desc := "()I" } : Jvm.MethodName)) ∈ lw_all := lw_g (lw_at lw_m7 138 rfl) rfl
theorem q1668 : (Jvm.Cond.selects "LeaderLeases" ({ cls := "LeaderLeases", name := "overtakingPairs", desc := "()I" } : Jvm.MethodName) ({ cls := "LeaderLeases", name := "overtakingPairs", desc := "()I" } : Jvm.MethodName)) ∈ lw_all := lw_g (lw_at lw_m7 139 rfl) rfl
theorem q1669 : (Jvm.Cond.code ({ cls := "LeaderLeases", name := "overtakingPairs", desc := "()I" } : Jvm.MethodName) prog_1_method_63_code (1 : Nat) (Option.some Jvm.ClassFile.FieldType.int)) ∈ lw_all := lw_g (lw_at lw_m7 140 rfl) rfl
theorem q1670 : (Jvm.Cond.methodLink "LeaderLeases" (342 : Nat) ({ cls := "LeaderLeases$Simulation", name := "overtakingPairs", desc := "()I" } : Jvm.MethodName)) ∈ lw_all := lw_g (lw_at lw_m7 141 rfl) rfl
theorem q1679 : (Jvm.Cond.instanceMethod ({ cls := "LeaderLeases", name := "staleCaches", desc := "()I" } : Jvm.MethodName)) ∈ lw_all := lw_g (lw_at lw_m7 150 rfl) rfl
theorem q1680 : (Jvm.Cond.selects "LeaderLeases" ({ cls := "LeaderLeases", name := "staleCaches", desc := "()I" } : Jvm.MethodName) ({ cls := "LeaderLeases", name := "staleCaches", desc := "()I" } : Jvm.MethodName)) ∈ lw_all := lw_g (lw_at lw_m7 151 rfl) rfl
theorem q1681 : (Jvm.Cond.code ({ cls := "LeaderLeases", name := "staleCaches", desc := "()I" } : Jvm.MethodName) prog_1_method_64_code (3 : Nat) (Option.some Jvm.ClassFile.FieldType.int)) ∈ lw_all := lw_g (lw_at lw_m7 152 rfl) rfl
theorem q1682 : (Jvm.Cond.methodLink "LeaderLeases" (345 : Nat) ({ cls := "LeaderLeases$Simulation", name := "isStale", desc := "(LLeaderLeases$Node;)Z" } : Jvm.MethodName)) ∈ lw_all := lw_g (lw_at lw_m7 153 rfl) rfl
theorem q1691 : (Jvm.Cond.instanceMethod ({ cls := "LeaderLeases", name := "appendByte", desc := "(I)I" } : Jvm.MethodName)) ∈ lw_all := lw_g (lw_at lw_m7 162 rfl) rfl
theorem q1692 : (Jvm.Cond.selects "LeaderLeases" ({ cls := "LeaderLeases", name := "appendByte", desc := "(I)I" } : Jvm.MethodName) ({ cls := "LeaderLeases", name := "appendByte", desc := "(I)I" } : Jvm.MethodName)) ∈ lw_all := lw_g (lw_at lw_m7 163 rfl) rfl
theorem q1693 : (Jvm.Cond.code ({ cls := "LeaderLeases", name := "appendByte", desc := "(I)I" } : Jvm.MethodName) prog_1_method_7_code (2 : Nat) (Option.some Jvm.ClassFile.FieldType.int)) ∈ lw_all := lw_g (lw_at lw_m7 164 rfl) rfl
theorem q1694 : (Jvm.Cond.constantLong "LeaderLeases" (77 : Nat) (255 : Int64)) ∈ lw_all := lw_g (lw_at lw_m7 165 rfl) rfl
theorem q1695 : (Jvm.Cond.methodLink "LeaderLeases" (64 : Nat) ({ cls := "LeaderLeases", name := "in", desc := "(JJJ)Z" } : Jvm.MethodName)) ∈ lw_all := lw_g (lw_at lw_m7 166 rfl) rfl
theorem q1696 : (Jvm.Cond.methodLink "LeaderLeases" (73 : Nat) ({ cls := "LeaderLeases", name := "check", desc := "(Z)V" } : Jvm.MethodName)) ∈ lw_all := lw_g (lw_at lw_m7 167 rfl) rfl
theorem q1697 : (Jvm.Cond.static ({ cls := "LeaderLeases", name := "check", desc := "(Z)V" } : Jvm.MethodName)) ∈ lw_all := lw_g (lw_at lw_m7 168 rfl) rfl
theorem q1698 : (Jvm.Cond.code ({ cls := "LeaderLeases", name := "check", desc := "(Z)V" } : Jvm.MethodName) prog_1_method_4_code (1 : Nat) (Option.none : Option Jvm.ClassFile.FieldType)) ∈ lw_all := lw_g (lw_at lw_m7 169 rfl) rfl
theorem q1699 : (Jvm.Cond.classLink "LeaderLeases" (57 : Nat) "java/lang/IllegalArgumentException") ∈ lw_all := lw_g (lw_at lw_m7 170 rfl) rfl
theorem q1700 : (Jvm.Cond.methodLink "LeaderLeases" (59 : Nat) ({ cls := "java/lang/IllegalArgumentException", name := "<init>", desc := "()V" } : Jvm.MethodName)) ∈ lw_all := lw_g (lw_at lw_m7 171 rfl) rfl
theorem q1714 : (Jvm.Cond.instanceMethod ({ cls := "LeaderLeases", name := "advance", desc := "(I)I" } : Jvm.MethodName)) ∈ lw_all := lw_g (lw_at lw_m7 185 rfl) rfl
theorem q1715 : (Jvm.Cond.selects "LeaderLeases" ({ cls := "LeaderLeases", name := "advance", desc := "(I)I" } : Jvm.MethodName) ({ cls := "LeaderLeases", name := "advance", desc := "(I)I" } : Jvm.MethodName)) ∈ lw_all := lw_g (lw_at lw_m7 186 rfl) rfl
theorem q1716 : (Jvm.Cond.code ({ cls := "LeaderLeases", name := "advance", desc := "(I)I" } : Jvm.MethodName) prog_1_method_10_code (2 : Nat) (Option.some Jvm.ClassFile.FieldType.int)) ∈ lw_all := lw_g (lw_at lw_m7 187 rfl) rfl
theorem q1717 : (Jvm.Cond.constantLong "LeaderLeases" (103 : Nat) (5000 : Int64)) ∈ lw_all := lw_g (lw_at lw_m7 188 rfl) rfl
theorem q1741 : (Jvm.Cond.instanceMethod ({ cls := "LeaderLeases", name := "nodeClock", desc := "(I)I" } : Jvm.MethodName)) ∈ lw_all := lw_g (lw_at lw_m7 212 rfl) rfl
theorem q1742 : (Jvm.Cond.selects "LeaderLeases" ({ cls := "LeaderLeases", name := "nodeClock", desc := "(I)I" } : Jvm.MethodName) ({ cls := "LeaderLeases", name := "nodeClock", desc := "(I)I" } : Jvm.MethodName)) ∈ lw_all := lw_g (lw_at lw_m7 213 rfl) rfl
theorem q1743 : (Jvm.Cond.code ({ cls := "LeaderLeases", name := "nodeClock", desc := "(I)I" } : Jvm.MethodName) prog_1_method_14_code (2 : Nat) (Option.some Jvm.ClassFile.FieldType.int)) ∈ lw_all := lw_g (lw_at lw_m7 214 rfl) rfl
theorem q1744 : (Jvm.Cond.methodLink "LeaderLeases" (117 : Nat) ({ cls := "LeaderLeases", name := "node", desc := "(I)LLeaderLeases$Node;" } : Jvm.MethodName)) ∈ lw_all := lw_g (lw_at lw_m7 215 rfl) rfl
theorem q1745 : (Jvm.Cond.privateMethod ({ cls := "LeaderLeases", name := "node", desc := "(I)LLeaderLeases$Node;" } : Jvm.MethodName)) ∈ lw_tbl := lw_at lw_m7 216 rfl
theorem q1746 : (Jvm.Cond.instanceMethod ({ cls := "LeaderLeases", name := "node", desc := "(I)LLeaderLeases$Node;" } : Jvm.MethodName)) ∈ lw_all := lw_g (lw_at lw_m7 217 rfl) rfl
theorem q1747 : (Jvm.Cond.code ({ cls := "LeaderLeases", name := "node", desc := "(I)LLeaderLeases$Node;" } : Jvm.MethodName) prog_1_method_5_code (2 : Nat) (Option.some (Jvm.ClassFile.FieldType.object "LeaderLeases$Node"))) ∈ lw_all := lw_g (lw_at lw_m7 218 rfl) rfl
theorem q1748 : (Jvm.Cond.classLink "LeaderLeases" (68 : Nat) "java/lang/IndexOutOfBoundsException") ∈ lw_all := lw_g (lw_at lw_m7 219 rfl) rfl
theorem q1757 : (Jvm.Cond.methodLink "LeaderLeases" (70 : Nat) ({ cls := "java/lang/IndexOutOfBoundsException", name := "<init>", desc := "()V" } : Jvm.MethodName)) ∈ lw_all := lw_g (lw_at lw_m7 228 rfl) rfl
theorem q1763 : (Jvm.Cond.methodLink "LeaderLeases" (127 : Nat) ({ cls := "LeaderLeases$Clock", name := "at", desc := "(I)I" } : Jvm.MethodName)) ∈ lw_all := lw_g (lw_at lw_m7 234 rfl) rfl
theorem q1768 : (Jvm.Cond.instanceMethod ({ cls := "LeaderLeases", name := "campaign", desc := "(I)I" } : Jvm.MethodName)) ∈ lw_all := lw_g (lw_at lw_m7 239 rfl) rfl
theorem q1769 : (Jvm.Cond.selects "LeaderLeases" ({ cls := "LeaderLeases", name := "campaign", desc := "(I)I" } : Jvm.MethodName) ({ cls := "LeaderLeases", name := "campaign", desc := "(I)I" } : Jvm.MethodName)) ∈ lw_all := lw_g (lw_at lw_m8 0 rfl) rfl
theorem q1770 : (Jvm.Cond.code ({ cls := "LeaderLeases", name := "campaign", desc := "(I)I" } : Jvm.MethodName) prog_1_method_17_code (3 : Nat) (Option.some Jvm.ClassFile.FieldType.int)) ∈ lw_all := lw_g (lw_at lw_m8 1 rfl) rfl
theorem q1771 : (Jvm.Cond.methodLink "LeaderLeases" (142 : Nat) ({ cls := "LeaderLeases", name := "unable", desc := "(LLeaderLeases$Node;)I" } : Jvm.MethodName)) ∈ lw_all := lw_g (lw_at lw_m8 2 rfl) rfl
theorem q1772 : (Jvm.Cond.privateMethod ({ cls := "LeaderLeases", name := "unable", desc := "(LLeaderLeases$Node;)I" } : Jvm.MethodName)) ∈ lw_tbl := lw_at lw_m8 3 rfl
theorem q1773 : (Jvm.Cond.instanceMethod ({ cls := "LeaderLeases", name := "unable", desc := "(LLeaderLeases$Node;)I" } : Jvm.MethodName)) ∈ lw_all := lw_g (lw_at lw_m8 4 rfl) rfl
theorem q1774 : (Jvm.Cond.code ({ cls := "LeaderLeases", name := "unable", desc := "(LLeaderLeases$Node;)I" } : Jvm.MethodName) prog_1_method_16_code (2 : Nat) (Option.some Jvm.ClassFile.FieldType.int)) ∈ lw_all := lw_g (lw_at lw_m8 5 rfl) rfl
theorem q1775 : (Jvm.Cond.methodLink "LeaderLeases" (138 : Nat) ({ cls := "LeaderLeases$Node", name := "isPaused", desc := "(I)Z" } : Jvm.MethodName)) ∈ lw_all := lw_g (lw_at lw_m8 6 rfl) rfl
theorem q1776 : (Jvm.Cond.methodLink "LeaderLeases" (149 : Nat) ({ cls := "LeaderLeases$Simulation", name := "acquire", desc := "(I)V" } : Jvm.MethodName)) ∈ lw_all := lw_g (lw_at lw_m8 7 rfl) rfl
theorem q1781 : (Jvm.Cond.instanceMethod ({ cls := "LeaderLeases", name := "withdraw", desc := "(I)I" } : Jvm.MethodName)) ∈ lw_all := lw_g (lw_at lw_m8 12 rfl) rfl
theorem q1782 : (Jvm.Cond.selects "LeaderLeases" ({ cls := "LeaderLeases", name := "withdraw", desc := "(I)I" } : Jvm.MethodName) ({ cls := "LeaderLeases", name := "withdraw", desc := "(I)I" } : Jvm.MethodName)) ∈ lw_all := lw_g (lw_at lw_m8 13 rfl) rfl
theorem q1783 : (Jvm.Cond.code ({ cls := "LeaderLeases", name := "withdraw", desc := "(I)I" } : Jvm.MethodName) prog_1_method_18_code (4 : Nat) (Option.some Jvm.ClassFile.FieldType.int)) ∈ lw_all := lw_g (lw_at lw_m8 14 rfl) rfl
theorem q1784 : (Jvm.Cond.fieldLink "LeaderLeases" (158 : Nat) "LeaderLeases$Kind" "RELEASE" "LLeaderLeases$Kind;") ∈ lw_all := lw_g (lw_at lw_m8 15 rfl) rfl
theorem q1785 : (Jvm.Cond.methodLink "LeaderLeases" (164 : Nat) ({ cls := "LeaderLeases$Simulation", name := "send", desc := "(LLeaderLeases$Kind;I[I)V" } : Jvm.MethodName)) ∈ lw_all := lw_g (lw_at lw_m8 16 rfl) rfl
theorem q1786 : (Jvm.Cond.methodLink "LeaderLeases" (168 : Nat) ({ cls := "LeaderLeases$Node", name := "loseToken", desc := "()V" } : Jvm.MethodName)) ∈ lw_all := lw_g (lw_at lw_m8 17 rfl) rfl
theorem q1791 : (Jvm.Cond.instanceMethod ({ cls := "LeaderLeases", name := "crash", desc := "(I)I" } : Jvm.MethodName)) ∈ lw_all := lw_g (lw_at lw_m8 22 rfl) rfl
theorem q1792 : (Jvm.Cond.selects "LeaderLeases" ({ cls := "LeaderLeases", name := "crash", desc := "(I)I" } : Jvm.MethodName) ({ cls := "LeaderLeases", name := "crash", desc := "(I)I" } : Jvm.MethodName)) ∈ lw_all := lw_g (lw_at lw_m8 23 rfl) rfl
theorem q1793 : (Jvm.Cond.code ({ cls := "LeaderLeases", name := "crash", desc := "(I)I" } : Jvm.MethodName) prog_1_method_19_code (4 : Nat) (Option.some Jvm.ClassFile.FieldType.int)) ∈ lw_all := lw_g (lw_at lw_m8 24 rfl) rfl
theorem q1794 : (Jvm.Cond.methodLinkNest "LeaderLeases" (171 : Nat) ({ cls := "LeaderLeases$Simulation", name := "note", desc := "(III)V" } : Jvm.MethodName) "LeaderLeases") ∈ lw_tbl := lw_at lw_m8 25 rfl
theorem q1799 : (Jvm.Cond.instanceMethod ({ cls := "LeaderLeases", name := "restart", desc := "(I)Z" } : Jvm.MethodName)) ∈ lw_all := lw_g (lw_at lw_m8 30 rfl) rfl
theorem q1800 : (Jvm.Cond.selects "LeaderLeases" ({ cls := "LeaderLeases", name := "restart", desc := "(I)Z" } : Jvm.MethodName) ({ cls := "LeaderLeases", name := "restart", desc := "(I)Z" } : Jvm.MethodName)) ∈ lw_all := lw_g (lw_at lw_m8 31 rfl) rfl
theorem q1801 : (Jvm.Cond.code ({ cls := "LeaderLeases", name := "restart", desc := "(I)Z" } : Jvm.MethodName) prog_1_method_20_code (4 : Nat) (Option.some Jvm.ClassFile.FieldType.boolean)) ∈ lw_all := lw_g (lw_at lw_m8 32 rfl) rfl
theorem q1806 : (Jvm.Cond.instanceMethod ({ cls := "LeaderLeases", name := "pause", desc := "(II)I" } : Jvm.MethodName)) ∈ lw_all := lw_g (lw_at lw_m8 37 rfl) rfl
theorem q1807 : (Jvm.Cond.selects "LeaderLeases" ({ cls := "LeaderLeases", name := "pause", desc := "(II)I" } : Jvm.MethodName) ({ cls := "LeaderLeases", name := "pause", desc := "(II)I" } : Jvm.MethodName)) ∈ lw_all := lw_g (lw_at lw_m8 38 rfl) rfl
theorem q1808 : (Jvm.Cond.code ({ cls := "LeaderLeases", name := "pause", desc := "(II)I" } : Jvm.MethodName) prog_1_method_21_code (4 : Nat) (Option.some Jvm.ClassFile.FieldType.int)) ∈ lw_all := lw_g (lw_at lw_m8 39 rfl) rfl
theorem q1809 : (Jvm.Cond.constantLong "LeaderLeases" (178 : Nat) (20000 : Int64)) ∈ lw_all := lw_g (lw_at lw_m8 40 rfl) rfl
theorem q1814 : (Jvm.Cond.instanceMethod ({ cls := "LeaderLeases", name := "setCut", desc := "(IZ)Z" } : Jvm.MethodName)) ∈ lw_all := lw_g (lw_at lw_m8 45 rfl) rfl
theorem q1815 : (Jvm.Cond.selects "LeaderLeases" ({ cls := "LeaderLeases", name := "setCut", desc := "(IZ)Z" } : Jvm.MethodName) ({ cls := "LeaderLeases", name := "setCut", desc := "(IZ)Z" } : Jvm.MethodName)) ∈ lw_all := lw_g (lw_at lw_m8 46 rfl) rfl
theorem q1816 : (Jvm.Cond.code ({ cls := "LeaderLeases", name := "setCut", desc := "(IZ)Z" } : Jvm.MethodName) prog_1_method_22_code (5 : Nat) (Option.some Jvm.ClassFile.FieldType.boolean)) ∈ lw_all := lw_g (lw_at lw_m8 47 rfl) rfl
theorem q1821 : (Jvm.Cond.instanceMethod ({ cls := "LeaderLeases", name := "planOutage", desc := "(III)I" } : Jvm.MethodName)) ∈ lw_all := lw_g (lw_at lw_m8 52 rfl) rfl
theorem q1822 : (Jvm.Cond.selects "LeaderLeases" ({ cls := "LeaderLeases", name := "planOutage", desc := "(III)I" } : Jvm.MethodName) ({ cls := "LeaderLeases", name := "planOutage", desc := "(III)I" } : Jvm.MethodName)) ∈ lw_all := lw_g (lw_at lw_m8 53 rfl) rfl
theorem q1823 : (Jvm.Cond.code ({ cls := "LeaderLeases", name := "planOutage", desc := "(III)I" } : Jvm.MethodName) prog_1_method_23_code (5 : Nat) (Option.some Jvm.ClassFile.FieldType.int)) ∈ lw_all := lw_g (lw_at lw_m8 54 rfl) rfl
theorem q1824 : (Jvm.Cond.classLink "LeaderLeases" (195 : Nat) "LeaderLeases$Outage") ∈ lw_all := lw_g (lw_at lw_m8 55 rfl) rfl
theorem q1826 : (Jvm.Cond.methodLink "LeaderLeases" (197 : Nat) ({ cls := "LeaderLeases$Outage", name := "<init>", desc := "(III)V" } : Jvm.MethodName)) ∈ lw_all := lw_g (lw_at lw_m8 57 rfl) rfl
theorem q1847 : (Jvm.Cond.instanceMethod ({ cls := "LeaderLeases", name := "write", desc := "(III)I" } : Jvm.MethodName)) ∈ lw_all := lw_g (lw_at lw_m8 78 rfl) rfl
theorem q1848 : (Jvm.Cond.selects "LeaderLeases" ({ cls := "LeaderLeases", name := "write", desc := "(III)I" } : Jvm.MethodName) ({ cls := "LeaderLeases", name := "write", desc := "(III)I" } : Jvm.MethodName)) ∈ lw_all := lw_g (lw_at lw_m8 79 rfl) rfl
theorem q1849 : (Jvm.Cond.code ({ cls := "LeaderLeases", name := "write", desc := "(III)I" } : Jvm.MethodName) prog_1_method_26_code (5 : Nat) (Option.some Jvm.ClassFile.FieldType.int)) ∈ lw_all := lw_g (lw_at lw_m8 80 rfl) rfl
theorem q1850 : (Jvm.Cond.methodLink "LeaderLeases" (205 : Nat) ({ cls := "LeaderLeases", name := "checkRegister", desc := "(I)V" } : Jvm.MethodName)) ∈ lw_all := lw_g (lw_at lw_m8 81 rfl) rfl
theorem q1851 : (Jvm.Cond.static ({ cls := "LeaderLeases", name := "checkRegister", desc := "(I)V" } : Jvm.MethodName)) ∈ lw_all := lw_g (lw_at lw_m8 82 rfl) rfl
theorem q1852 : (Jvm.Cond.code ({ cls := "LeaderLeases", name := "checkRegister", desc := "(I)V" } : Jvm.MethodName) prog_1_method_6_code (1 : Nat) (Option.none : Option Jvm.ClassFile.FieldType)) ∈ lw_all := lw_g (lw_at lw_m8 83 rfl) rfl
theorem q1853 : (Jvm.Cond.constantLong "LeaderLeases" (71 : Nat) (7 : Int64)) ∈ lw_all := lw_g (lw_at lw_m8 84 rfl) rfl
theorem q1854 : (Jvm.Cond.constantLong "LeaderLeases" (208 : Nat) (999999 : Int64)) ∈ lw_all := lw_g (lw_at lw_m8 85 rfl) rfl
theorem q1855 : (Jvm.Cond.methodLink "LeaderLeases" (210 : Nat) ({ cls := "LeaderLeases", name := "unfit", desc := "(LLeaderLeases$Node;)I" } : Jvm.MethodName)) ∈ lw_all := lw_g (lw_at lw_m8 86 rfl) rfl
theorem q1856 : (Jvm.Cond.privateMethod ({ cls := "LeaderLeases", name := "unfit", desc := "(LLeaderLeases$Node;)I" } : Jvm.MethodName)) ∈ lw_tbl := lw_at lw_m8 87 rfl
theorem q1857 : (Jvm.Cond.instanceMethod ({ cls := "LeaderLeases", name := "unfit", desc := "(LLeaderLeases$Node;)I" } : Jvm.MethodName)) ∈ lw_all := lw_g (lw_at lw_m8 88 rfl) rfl
theorem q1858 : (Jvm.Cond.code ({ cls := "LeaderLeases", name := "unfit", desc := "(LLeaderLeases$Node;)I" } : Jvm.MethodName) prog_1_method_25_code (2 : Nat) (Option.some Jvm.ClassFile.FieldType.int)) ∈ lw_all := lw_g (lw_at lw_m8 89 rfl) rfl
theorem q1859 : (Jvm.Cond.methodLink "LeaderLeases" (202 : Nat) ({ cls := "LeaderLeases$Node", name := "leads", desc := "(I)Z" } : Jvm.MethodName)) ∈ lw_all := lw_g (lw_at lw_m8 90 rfl) rfl
theorem q1860 : (Jvm.Cond.fieldLink "LeaderLeases" (213 : Nat) "LeaderLeases$Kind" "WRITE" "LLeaderLeases$Kind;") ∈ lw_all := lw_g (lw_at lw_m8 91 rfl) rfl
theorem q1865 : (Jvm.Cond.instanceMethod ({ cls := "LeaderLeases", name := "writeLater", desc := "(IIII)I" } : Jvm.MethodName)) ∈ lw_all := lw_g (lw_at lw_m8 96 rfl) rfl
theorem q1866 : (Jvm.Cond.selects "LeaderLeases" ({ cls := "LeaderLeases", name := "writeLater", desc := "(IIII)I" } : Jvm.MethodName) ({ cls := "LeaderLeases", name := "writeLater", desc := "(IIII)I" } : Jvm.MethodName)) ∈ lw_all := lw_g (lw_at lw_m8 97 rfl) rfl
theorem q1867 : (Jvm.Cond.code ({ cls := "LeaderLeases", name := "writeLater", desc := "(IIII)I" } : Jvm.MethodName) prog_1_method_27_code (6 : Nat) (Option.some Jvm.ClassFile.FieldType.int)) ∈ lw_all := lw_g (lw_at lw_m8 98 rfl) rfl
theorem q1868 : (Jvm.Cond.classLink "LeaderLeases" (219 : Nat) "LeaderLeases$Delayed") ∈ lw_all := lw_g (lw_at lw_m8 99 rfl) rfl
theorem q1870 : (Jvm.Cond.methodLink "LeaderLeases" (221 : Nat) ({ cls := "LeaderLeases$Delayed", name := "<init>", desc := "(IIIII)V" } : Jvm.MethodName)) ∈ lw_all := lw_g (lw_at lw_m8 101 rfl) rfl
theorem q1899 : (Jvm.Cond.instanceMethod ({ cls := "LeaderLeases", name := "fetch", desc := "(II)I" } : Jvm.MethodName)) ∈ lw_all := lw_g (lw_at lw_m8 130 rfl) rfl
theorem q1900 : (Jvm.Cond.selects "LeaderLeases" ({ cls := "LeaderLeases", name := "fetch", desc := "(II)I" } : Jvm.MethodName) ({ cls := "LeaderLeases", name := "fetch", desc := "(II)I" } : Jvm.MethodName)) ∈ lw_all := lw_g (lw_at lw_m8 131 rfl) rfl
theorem q1901 : (Jvm.Cond.code ({ cls := "LeaderLeases", name := "fetch", desc := "(II)I" } : Jvm.MethodName) prog_1_method_28_code (4 : Nat) (Option.some Jvm.ClassFile.FieldType.int)) ∈ lw_all := lw_g (lw_at lw_m8 132 rfl) rfl
theorem q1902 : (Jvm.Cond.fieldLink "LeaderLeases" (224 : Nat) "LeaderLeases$Kind" "FETCH" "LLeaderLeases$Kind;") ∈ lw_all := lw_g (lw_at lw_m8 133 rfl) rfl
theorem q1907 : (Jvm.Cond.instanceMethod ({ cls := "LeaderLeases", name := "read", desc := "(II)I" } : Jvm.MethodName)) ∈ lw_all := lw_g (lw_at lw_m8 138 rfl) rfl
theorem q1908 : (Jvm.Cond.selects "LeaderLeases" ({ cls := "LeaderLeases", name := "read", desc := "(II)I" } : Jvm.MethodName) ({ cls := "LeaderLeases", name := "read", desc := "(II)I" } : Jvm.MethodName)) ∈ lw_all := lw_g (lw_at lw_m8 139 rfl) rfl
theorem q1909 : (Jvm.Cond.code ({ cls := "LeaderLeases", name := "read", desc := "(II)I" } : Jvm.MethodName) prog_1_method_29_code (4 : Nat) (Option.some Jvm.ClassFile.FieldType.int)) ∈ lw_all := lw_g (lw_at lw_m8 140 rfl) rfl
theorem q1914 : (Jvm.Cond.instanceMethod ({ cls := "LeaderLeases", name := "stored", desc := "(I)I" } : Jvm.MethodName)) ∈ lw_all := lw_g (lw_at lw_m8 145 rfl) rfl
theorem q1915 : (Jvm.Cond.selects "LeaderLeases" ({ cls := "LeaderLeases", name := "stored", desc := "(I)I" } : Jvm.MethodName) ({ cls := "LeaderLeases", name := "stored", desc := "(I)I" } : Jvm.MethodName)) ∈ lw_all := lw_g (lw_at lw_m8 146 rfl) rfl
theorem q1916 : (Jvm.Cond.code ({ cls := "LeaderLeases", name := "stored", desc := "(I)I" } : Jvm.MethodName) prog_1_method_30_code (2 : Nat) (Option.some Jvm.ClassFile.FieldType.int)) ∈ lw_all := lw_g (lw_at lw_m8 147 rfl) rfl
theorem q1921 : (Jvm.Cond.instanceMethod ({ cls := "LeaderLeases", name := "version", desc := "(I)I" } : Jvm.MethodName)) ∈ lw_all := lw_g (lw_at lw_m8 152 rfl) rfl
theorem q1922 : (Jvm.Cond.selects "LeaderLeases" ({ cls := "LeaderLeases", name := "version", desc := "(I)I" } : Jvm.MethodName) ({ cls := "LeaderLeases", name := "version", desc := "(I)I" } : Jvm.MethodName)) ∈ lw_all := lw_g (lw_at lw_m8 153 rfl) rfl
theorem q1923 : (Jvm.Cond.code ({ cls := "LeaderLeases", name := "version", desc := "(I)I" } : Jvm.MethodName) prog_1_method_31_code (2 : Nat) (Option.some Jvm.ClassFile.FieldType.int)) ∈ lw_all := lw_g (lw_at lw_m8 154 rfl) rfl
theorem q1928 : (Jvm.Cond.instanceMethod ({ cls := "LeaderLeases", name := "isLeading", desc := "(I)Z" } : Jvm.MethodName)) ∈ lw_all := lw_g (lw_at lw_m8 159 rfl) rfl
theorem q1929 : (Jvm.Cond.selects "LeaderLeases" ({ cls := "LeaderLeases", name := "isLeading", desc := "(I)Z" } : Jvm.MethodName) ({ cls := "LeaderLeases", name := "isLeading", desc := "(I)Z" } : Jvm.MethodName)) ∈ lw_all := lw_g (lw_at lw_m8 160 rfl) rfl
theorem q1930 : (Jvm.Cond.code ({ cls := "LeaderLeases", name := "isLeading", desc := "(I)Z" } : Jvm.MethodName) prog_1_method_37_code (2 : Nat) (Option.some Jvm.ClassFile.FieldType.boolean)) ∈ lw_all := lw_g (lw_at lw_m8 161 rfl) rfl
theorem q1935 : (Jvm.Cond.instanceMethod ({ cls := "LeaderLeases", name := "token", desc := "(I)I" } : Jvm.MethodName)) ∈ lw_all := lw_g (lw_at lw_m8 166 rfl) rfl
theorem q1936 : (Jvm.Cond.selects "LeaderLeases" ({ cls := "LeaderLeases", name := "token", desc := "(I)I" } : Jvm.MethodName) ({ cls := "LeaderLeases", name := "token", desc := "(I)I" } : Jvm.MethodName)) ∈ lw_all := lw_g (lw_at lw_m8 167 rfl) rfl
theorem q1937 : (Jvm.Cond.code ({ cls := "LeaderLeases", name := "token", desc := "(I)I" } : Jvm.MethodName) prog_1_method_39_code (2 : Nat) (Option.some Jvm.ClassFile.FieldType.int)) ∈ lw_all := lw_g (lw_at lw_m8 168 rfl) rfl
theorem q1942 : (Jvm.Cond.instanceMethod ({ cls := "LeaderLeases", name := "nodeExpiryTime", desc := "(I)I" } : Jvm.MethodName)) ∈ lw_all := lw_g (lw_at lw_m8 173 rfl) rfl
theorem q1943 : (Jvm.Cond.selects "LeaderLeases" ({ cls := "LeaderLeases", name := "nodeExpiryTime", desc := "(I)I" } : Jvm.MethodName) ({ cls := "LeaderLeases", name := "nodeExpiryTime", desc := "(I)I" } : Jvm.MethodName)) ∈ lw_all := lw_g (lw_at lw_m8 174 rfl) rfl
theorem q1944 : (Jvm.Cond.code ({ cls := "LeaderLeases", name := "nodeExpiryTime", desc := "(I)I" } : Jvm.MethodName) prog_1_method_40_code (3 : Nat) (Option.some Jvm.ClassFile.FieldType.int)) ∈ lw_all := lw_g (lw_at lw_m8 175 rfl) rfl
theorem q1949 : (Jvm.Cond.instanceMethod ({ cls := "LeaderLeases", name := "margin", desc := "(I)I" } : Jvm.MethodName)) ∈ lw_all := lw_g (lw_at lw_m8 180 rfl) rfl
theorem q1950 : (Jvm.Cond.selects "LeaderLeases" ({ cls := "LeaderLeases", name := "margin", desc := "(I)I" } : Jvm.MethodName) ({ cls := "LeaderLeases", name := "margin", desc := "(I)I" } : Jvm.MethodName)) ∈ lw_all := lw_g (lw_at lw_m8 181 rfl) rfl
theorem q1951 : (Jvm.Cond.code ({ cls := "LeaderLeases", name := "margin", desc := "(I)I" } : Jvm.MethodName) prog_1_method_41_code (3 : Nat) (Option.some Jvm.ClassFile.FieldType.int)) ∈ lw_all := lw_g (lw_at lw_m8 182 rfl) rfl
theorem q1952 : (Jvm.Cond.methodLink "LeaderLeases" (281 : Nat) ({ cls := "LeaderLeases", name := "serverExpiryTime", desc := "()I" } : Jvm.MethodName)) ∈ lw_all := lw_g (lw_at lw_m8 183 rfl) rfl
theorem q1953 : (Jvm.Cond.methodLink "LeaderLeases" (284 : Nat) ({ cls := "LeaderLeases", name := "nodeExpiryTime", desc := "(I)I" } : Jvm.MethodName)) ∈ lw_all := lw_g (lw_at lw_m8 184 rfl) rfl
theorem q1958 : (Jvm.Cond.instanceMethod ({ cls := "LeaderLeases", name := "timerTime", desc := "(I)I" } : Jvm.MethodName)) ∈ lw_all := lw_g (lw_at lw_m8 189 rfl) rfl
theorem q1959 : (Jvm.Cond.selects "LeaderLeases" ({ cls := "LeaderLeases", name := "timerTime", desc := "(I)I" } : Jvm.MethodName) ({ cls := "LeaderLeases", name := "timerTime", desc := "(I)I" } : Jvm.MethodName)) ∈ lw_all := lw_g (lw_at lw_m8 190 rfl) rfl
theorem q1960 : (Jvm.Cond.code ({ cls := "LeaderLeases", name := "timerTime", desc := "(I)I" } : Jvm.MethodName) prog_1_method_42_code (2 : Nat) (Option.some Jvm.ClassFile.FieldType.int)) ∈ lw_all := lw_g (lw_at lw_m8 191 rfl) rfl
theorem q1965 : (Jvm.Cond.instanceMethod ({ cls := "LeaderLeases", name := "nodeState", desc := "(I)I" } : Jvm.MethodName)) ∈ lw_all := lw_g (lw_at lw_m8 196 rfl) rfl
theorem q1966 : (Jvm.Cond.selects "LeaderLeases" ({ cls := "LeaderLeases", name := "nodeState", desc := "(I)I" } : Jvm.MethodName) ({ cls := "LeaderLeases", name := "nodeState", desc := "(I)I" } : Jvm.MethodName)) ∈ lw_all := lw_g (lw_at lw_m8 197 rfl) rfl
theorem q1967 : (Jvm.Cond.code ({ cls := "LeaderLeases", name := "nodeState", desc := "(I)I" } : Jvm.MethodName) prog_1_method_43_code (3 : Nat) (Option.some Jvm.ClassFile.FieldType.int)) ∈ lw_all := lw_g (lw_at lw_m8 198 rfl) rfl
theorem q1972 : (Jvm.Cond.instanceMethod ({ cls := "LeaderLeases", name := "cached", desc := "(I)I" } : Jvm.MethodName)) ∈ lw_all := lw_g (lw_at lw_m8 203 rfl) rfl
theorem q1973 : (Jvm.Cond.selects "LeaderLeases" ({ cls := "LeaderLeases", name := "cached", desc := "(I)I" } : Jvm.MethodName) ({ cls := "LeaderLeases", name := "cached", desc := "(I)I" } : Jvm.MethodName)) ∈ lw_all := lw_g (lw_at lw_m8 204 rfl) rfl
theorem q1974 : (Jvm.Cond.code ({ cls := "LeaderLeases", name := "cached", desc := "(I)I" } : Jvm.MethodName) prog_1_method_44_code (2 : Nat) (Option.some Jvm.ClassFile.FieldType.int)) ∈ lw_all := lw_g (lw_at lw_m8 205 rfl) rfl
theorem q1979 : (Jvm.Cond.instanceMethod ({ cls := "LeaderLeases", name := "logTime", desc := "(I)I" } : Jvm.MethodName)) ∈ lw_all := lw_g (lw_at lw_m8 210 rfl) rfl
theorem q1980 : (Jvm.Cond.selects "LeaderLeases" ({ cls := "LeaderLeases", name := "logTime", desc := "(I)I" } : Jvm.MethodName) ({ cls := "LeaderLeases", name := "logTime", desc := "(I)I" } : Jvm.MethodName)) ∈ lw_all := lw_g (lw_at lw_m8 211 rfl) rfl
theorem q1981 : (Jvm.Cond.code ({ cls := "LeaderLeases", name := "logTime", desc := "(I)I" } : Jvm.MethodName) prog_1_method_50_code (2 : Nat) (Option.some Jvm.ClassFile.FieldType.int)) ∈ lw_all := lw_g (lw_at lw_m8 212 rfl) rfl
theorem q1982 : (Jvm.Cond.methodLink "LeaderLeases" (302 : Nat) ({ cls := "LeaderLeases", name := "event", desc := "(I)LLeaderLeases$Event;" } : Jvm.MethodName)) ∈ lw_all := lw_g (lw_at lw_m8 213 rfl) rfl
theorem q1983 : (Jvm.Cond.privateMethod ({ cls := "LeaderLeases", name := "event", desc := "(I)LLeaderLeases$Event;" } : Jvm.MethodName)) ∈ lw_tbl := lw_at lw_m8 214 rfl
theorem q1984 : (Jvm.Cond.instanceMethod ({ cls := "LeaderLeases", name := "event", desc := "(I)LLeaderLeases$Event;" } : Jvm.MethodName)) ∈ lw_all := lw_g (lw_at lw_m8 215 rfl) rfl
theorem q1985 : (Jvm.Cond.code ({ cls := "LeaderLeases", name := "event", desc := "(I)LLeaderLeases$Event;" } : Jvm.MethodName) prog_1_method_49_code (2 : Nat) (Option.some (Jvm.ClassFile.FieldType.object "LeaderLeases$Event"))) ∈ lw_all := lw_g (lw_at lw_m8 216 rfl) rfl
theorem q1986 : (Jvm.Cond.interfaceEntry "LeaderLeases" (296 : Nat)) ∈ lw_tbl := lw_at lw_m8 217 rfl
theorem q1987 : (Jvm.Cond.methodLink "LeaderLeases" (296 : Nat) ({ cls := "java/util/List", name := "get", desc := "(I)Ljava/lang/Object;" } : Jvm.MethodName)) ∈ lw_all := lw_g (lw_at lw_m8 218 rfl) rfl
theorem q1988 : (Jvm.Cond.classLink "LeaderLeases" (300 : Nat) "LeaderLeases$Event") ∈ lw_all := lw_g (lw_at lw_m8 219 rfl) rfl
theorem q1993 : (Jvm.Cond.instanceMethod ({ cls := "LeaderLeases", name := "logKind", desc := "(I)I" } : Jvm.MethodName)) ∈ lw_all := lw_g (lw_at lw_m8 224 rfl) rfl
theorem q1994 : (Jvm.Cond.selects "LeaderLeases" ({ cls := "LeaderLeases", name := "logKind", desc := "(I)I" } : Jvm.MethodName) ({ cls := "LeaderLeases", name := "logKind", desc := "(I)I" } : Jvm.MethodName)) ∈ lw_all := lw_g (lw_at lw_m8 225 rfl) rfl
theorem q1995 : (Jvm.Cond.code ({ cls := "LeaderLeases", name := "logKind", desc := "(I)I" } : Jvm.MethodName) prog_1_method_51_code (2 : Nat) (Option.some Jvm.ClassFile.FieldType.int)) ∈ lw_all := lw_g (lw_at lw_m8 226 rfl) rfl
theorem q2000 : (Jvm.Cond.instanceMethod ({ cls := "LeaderLeases", name := "logNode", desc := "(I)I" } : Jvm.MethodName)) ∈ lw_all := lw_g (lw_at lw_m8 231 rfl) rfl
theorem q2001 : (Jvm.Cond.selects "LeaderLeases" ({ cls := "LeaderLeases", name := "logNode", desc := "(I)I" } : Jvm.MethodName) ({ cls := "LeaderLeases", name := "logNode", desc := "(I)I" } : Jvm.MethodName)) ∈ lw_all := lw_g (lw_at lw_m8 232 rfl) rfl
theorem q2002 : (Jvm.Cond.code ({ cls := "LeaderLeases", name := "logNode", desc := "(I)I" } : Jvm.MethodName) prog_1_method_52_code (2 : Nat) (Option.some Jvm.ClassFile.FieldType.int)) ∈ lw_all := lw_g (lw_at lw_m8 233 rfl) rfl
theorem q2007 : (Jvm.Cond.instanceMethod ({ cls := "LeaderLeases", name := "logToken", desc := "(I)I" } : Jvm.MethodName)) ∈ lw_all := lw_g (lw_at lw_m8 238 rfl) rfl
theorem q2008 : (Jvm.Cond.selects "LeaderLeases" ({ cls := "LeaderLeases", name := "logToken", desc := "(I)I" } : Jvm.MethodName) ({ cls := "LeaderLeases", name := "logToken", desc := "(I)I" } : Jvm.MethodName)) ∈ lw_all := lw_g (lw_at lw_m8 239 rfl) rfl
theorem q2009 : (Jvm.Cond.code ({ cls := "LeaderLeases", name := "logToken", desc := "(I)I" } : Jvm.MethodName) prog_1_method_53_code (2 : Nat) (Option.some Jvm.ClassFile.FieldType.int)) ∈ lw_all := lw_g (lw_at lw_m9 0 rfl) rfl
theorem q2014 : (Jvm.Cond.instanceMethod ({ cls := "LeaderLeases", name := "eventCount", desc := "(I)I" } : Jvm.MethodName)) ∈ lw_all := lw_g (lw_at lw_m9 5 rfl) rfl
theorem q2015 : (Jvm.Cond.selects "LeaderLeases" ({ cls := "LeaderLeases", name := "eventCount", desc := "(I)I" } : Jvm.MethodName) ({ cls := "LeaderLeases", name := "eventCount", desc := "(I)I" } : Jvm.MethodName)) ∈ lw_all := lw_g (lw_at lw_m9 6 rfl) rfl
theorem q2016 : (Jvm.Cond.code ({ cls := "LeaderLeases", name := "eventCount", desc := "(I)I" } : Jvm.MethodName) prog_1_method_54_code (2 : Nat) (Option.some Jvm.ClassFile.FieldType.int)) ∈ lw_all := lw_g (lw_at lw_m9 7 rfl) rfl
theorem q2017 : (Jvm.Cond.constantLong "LeaderLeases" (315 : Nat) (8 : Int64)) ∈ lw_all := lw_g (lw_at lw_m9 8 rfl) rfl
theorem q2022 : (Jvm.Cond.instanceMethod ({ cls := "LeaderLeases", name := "ledTime", desc := "(I)I" } : Jvm.MethodName)) ∈ lw_all := lw_g (lw_at lw_m9 13 rfl) rfl
theorem q2023 : (Jvm.Cond.selects "LeaderLeases" ({ cls := "LeaderLeases", name := "ledTime", desc := "(I)I" } : Jvm.MethodName) ({ cls := "LeaderLeases", name := "ledTime", desc := "(I)I" } : Jvm.MethodName)) ∈ lw_all := lw_g (lw_at lw_m9 14 rfl) rfl
theorem q2024 : (Jvm.Cond.code ({ cls := "LeaderLeases", name := "ledTime", desc := "(I)I" } : Jvm.MethodName) prog_1_method_58_code (2 : Nat) (Option.some Jvm.ClassFile.FieldType.int)) ∈ lw_all := lw_g (lw_at lw_m9 15 rfl) rfl
theorem q2029 : (Jvm.Cond.instanceMethod ({ cls := "LeaderLeases", name := "nextLeader", desc := "(I)I" } : Jvm.MethodName)) ∈ lw_all := lw_g (lw_at lw_m9 20 rfl) rfl
theorem q2030 : (Jvm.Cond.selects "LeaderLeases" ({ cls := "LeaderLeases", name := "nextLeader", desc := "(I)I" } : Jvm.MethodName) ({ cls := "LeaderLeases", name := "nextLeader", desc := "(I)I" } : Jvm.MethodName)) ∈ lw_all := lw_g (lw_at lw_m9 21 rfl) rfl
theorem q2031 : (Jvm.Cond.code ({ cls := "LeaderLeases", name := "nextLeader", desc := "(I)I" } : Jvm.MethodName) prog_1_method_59_code (3 : Nat) (Option.some Jvm.ClassFile.FieldType.int)) ∈ lw_all := lw_g (lw_at lw_m9 22 rfl) rfl
theorem q2032 : (Jvm.Cond.methodLink "LeaderLeases" (326 : Nat) ({ cls := "LeaderLeases$Simulation", name := "copy", desc := "()LLeaderLeases$Simulation;" } : Jvm.MethodName)) ∈ lw_all := lw_g (lw_at lw_m9 23 rfl) rfl
theorem q2069 : (Jvm.Cond.methodLink "LeaderLeases" (330 : Nat) ({ cls := "LeaderLeases$Simulation", name := "nextLeader", desc := "(I)I" } : Jvm.MethodName)) ∈ lw_all := lw_g (lw_at lw_m9 60 rfl) rfl
theorem q2078 : (Jvm.Cond.instanceMethod ({ cls := "LeaderLeases", name := "leaderlessTime", desc := "(I)I" } : Jvm.MethodName)) ∈ lw_all := lw_g (lw_at lw_m9 69 rfl) rfl
theorem q2079 : (Jvm.Cond.selects "LeaderLeases" ({ cls := "LeaderLeases", name := "leaderlessTime", desc := "(I)I" } : Jvm.MethodName) ({ cls := "LeaderLeases", name := "leaderlessTime", desc := "(I)I" } : Jvm.MethodName)) ∈ lw_all := lw_g (lw_at lw_m9 70 rfl) rfl
theorem q2080 : (Jvm.Cond.code ({ cls := "LeaderLeases", name := "leaderlessTime", desc := "(I)I" } : Jvm.MethodName) prog_1_method_60_code (4 : Nat) (Option.some Jvm.ClassFile.FieldType.int)) ∈ lw_all := lw_g (lw_at lw_m9 71 rfl) rfl
theorem q2085 : (Jvm.Cond.instanceMethod ({ cls := "LeaderLeases", name := "leaseLeft", desc := "(I)I" } : Jvm.MethodName)) ∈ lw_all := lw_g (lw_at lw_m9 76 rfl) rfl
theorem q2086 : (Jvm.Cond.selects "LeaderLeases" ({ cls := "LeaderLeases", name := "leaseLeft", desc := "(I)I" } : Jvm.MethodName) ({ cls := "LeaderLeases", name := "leaseLeft", desc := "(I)I" } : Jvm.MethodName)) ∈ lw_all := lw_g (lw_at lw_m9 77 rfl) rfl
theorem q2087 : (Jvm.Cond.code ({ cls := "LeaderLeases", name := "leaseLeft", desc := "(I)I" } : Jvm.MethodName) prog_1_method_61_code (3 : Nat) (Option.some Jvm.ClassFile.FieldType.int)) ∈ lw_all := lw_g (lw_at lw_m9 78 rfl) rfl
theorem q2092 : (Jvm.Cond.instanceMethod ({ cls := "LeaderLeases", name := "countInLog", desc := "(II)I" } : Jvm.MethodName)) ∈ lw_all := lw_g (lw_at lw_m9 83 rfl) rfl
theorem q2093 : (Jvm.Cond.selects "LeaderLeases" ({ cls := "LeaderLeases", name := "countInLog", desc := "(II)I" } : Jvm.MethodName) ({ cls := "LeaderLeases", name := "countInLog", desc := "(II)I" } : Jvm.MethodName)) ∈ lw_all := lw_g (lw_at lw_m9 84 rfl) rfl
theorem q2094 : (Jvm.Cond.code ({ cls := "LeaderLeases", name := "countInLog", desc := "(II)I" } : Jvm.MethodName) prog_1_method_65_code (5 : Nat) (Option.some Jvm.ClassFile.FieldType.int)) ∈ lw_all := lw_g (lw_at lw_m9 85 rfl) rfl
theorem q2099 : (Jvm.Cond.instanceMethod ({ cls := "LeaderLeases", name := "lastEventTime", desc := "(I)I" } : Jvm.MethodName)) ∈ lw_all := lw_g (lw_at lw_m9 90 rfl) rfl
theorem q2100 : (Jvm.Cond.selects "LeaderLeases" ({ cls := "LeaderLeases", name := "lastEventTime", desc := "(I)I" } : Jvm.MethodName) ({ cls := "LeaderLeases", name := "lastEventTime", desc := "(I)I" } : Jvm.MethodName)) ∈ lw_all := lw_g (lw_at lw_m9 91 rfl) rfl
theorem q2101 : (Jvm.Cond.code ({ cls := "LeaderLeases", name := "lastEventTime", desc := "(I)I" } : Jvm.MethodName) prog_1_method_66_code (3 : Nat) (Option.some Jvm.ClassFile.FieldType.int)) ∈ lw_all := lw_g (lw_at lw_m9 92 rfl) rfl
theorem q2106 : (Jvm.Cond.instanceMethod ({ cls := "LeaderLeases", name := "timeUntilLeader", desc := "(II)I" } : Jvm.MethodName)) ∈ lw_all := lw_g (lw_at lw_m9 97 rfl) rfl
theorem q2107 : (Jvm.Cond.selects "LeaderLeases" ({ cls := "LeaderLeases", name := "timeUntilLeader", desc := "(II)I" } : Jvm.MethodName) ({ cls := "LeaderLeases", name := "timeUntilLeader", desc := "(II)I" } : Jvm.MethodName)) ∈ lw_all := lw_g (lw_at lw_m9 98 rfl) rfl
theorem q2108 : (Jvm.Cond.code ({ cls := "LeaderLeases", name := "timeUntilLeader", desc := "(II)I" } : Jvm.MethodName) prog_1_method_68_code (5 : Nat) (Option.some Jvm.ClassFile.FieldType.int)) ∈ lw_all := lw_g (lw_at lw_m9 99 rfl) rfl
theorem q2109 : (Jvm.Cond.methodLink "LeaderLeases" (349 : Nat) ({ cls := "LeaderLeases", name := "until", desc := "(I)I" } : Jvm.MethodName)) ∈ lw_all := lw_g (lw_at lw_m9 100 rfl) rfl
theorem q2110 : (Jvm.Cond.privateMethod ({ cls := "LeaderLeases", name := "until", desc := "(I)I" } : Jvm.MethodName)) ∈ lw_tbl := lw_at lw_m9 101 rfl
theorem q2111 : (Jvm.Cond.instanceMethod ({ cls := "LeaderLeases", name := "until", desc := "(I)I" } : Jvm.MethodName)) ∈ lw_all := lw_g (lw_at lw_m9 102 rfl) rfl
theorem q2112 : (Jvm.Cond.code ({ cls := "LeaderLeases", name := "until", desc := "(I)I" } : Jvm.MethodName) prog_1_method_67_code (2 : Nat) (Option.some Jvm.ClassFile.FieldType.int)) ∈ lw_all := lw_g (lw_at lw_m9 103 rfl) rfl
theorem q2113 : (Jvm.Cond.methodLink "LeaderLeases" (352 : Nat) ({ cls := "LeaderLeases$Simulation", name := "leadsFrom", desc := "(II)I" } : Jvm.MethodName)) ∈ lw_all := lw_g (lw_at lw_m9 104 rfl) rfl
theorem q2121 : (Jvm.Cond.instanceMethod ({ cls := "LeaderLeases", name := "longestLeaderless", desc := "(I)I" } : Jvm.MethodName)) ∈ lw_all := lw_g (lw_at lw_m9 112 rfl) rfl
theorem q2122 : (Jvm.Cond.selects "LeaderLeases" ({ cls := "LeaderLeases", name := "longestLeaderless", desc := "(I)I" } : Jvm.MethodName) ({ cls := "LeaderLeases", name := "longestLeaderless", desc := "(I)I" } : Jvm.MethodName)) ∈ lw_all := lw_g (lw_at lw_m9 113 rfl) rfl
theorem q2123 : (Jvm.Cond.code ({ cls := "LeaderLeases", name := "longestLeaderless", desc := "(I)I" } : Jvm.MethodName) prog_1_method_69_code (3 : Nat) (Option.some Jvm.ClassFile.FieldType.int)) ∈ lw_all := lw_g (lw_at lw_m9 114 rfl) rfl
theorem q2124 : (Jvm.Cond.methodLink "LeaderLeases" (355 : Nat) ({ cls := "LeaderLeases$Simulation", name := "longestGap", desc := "(I)I" } : Jvm.MethodName)) ∈ lw_all := lw_g (lw_at lw_m9 115 rfl) rfl
theorem q2136 : (Jvm.Cond.instanceMethod ({ cls := "LeaderLeases", name := "tryWrite", desc := "(II)I" } : Jvm.MethodName)) ∈ lw_all := lw_g (lw_at lw_m9 127 rfl) rfl
theorem q2137 : (Jvm.Cond.selects "LeaderLeases" ({ cls := "LeaderLeases", name := "tryWrite", desc := "(II)I" } : Jvm.MethodName) ({ cls := "LeaderLeases", name := "tryWrite", desc := "(II)I" } : Jvm.MethodName)) ∈ lw_all := lw_g (lw_at lw_m9 128 rfl) rfl
theorem q2138 : (Jvm.Cond.code ({ cls := "LeaderLeases", name := "tryWrite", desc := "(II)I" } : Jvm.MethodName) prog_1_method_70_code (4 : Nat) (Option.some Jvm.ClassFile.FieldType.int)) ∈ lw_all := lw_g (lw_at lw_m9 129 rfl) rfl
theorem q2139 : (Jvm.Cond.methodLink "LeaderLeases" (358 : Nat) ({ cls := "LeaderLeases$Simulation", name := "tryWrite", desc := "(II)I" } : Jvm.MethodName)) ∈ lw_all := lw_g (lw_at lw_m9 130 rfl) rfl
theorem q2149 : (Jvm.Cond.instanceMethod ({ cls := "LeaderLeases", name := "predictRead", desc := "(III)I" } : Jvm.MethodName)) ∈ lw_all := lw_g (lw_at lw_m9 140 rfl) rfl
theorem q2150 : (Jvm.Cond.selects "LeaderLeases" ({ cls := "LeaderLeases", name := "predictRead", desc := "(III)I" } : Jvm.MethodName) ({ cls := "LeaderLeases", name := "predictRead", desc := "(III)I" } : Jvm.MethodName)) ∈ lw_all := lw_g (lw_at lw_m9 141 rfl) rfl
theorem q2151 : (Jvm.Cond.code ({ cls := "LeaderLeases", name := "predictRead", desc := "(III)I" } : Jvm.MethodName) prog_1_method_71_code (7 : Nat) (Option.some Jvm.ClassFile.FieldType.int)) ∈ lw_all := lw_g (lw_at lw_m9 142 rfl) rfl
theorem q2156 : (Jvm.Cond.instanceMethod ({ cls := "LeaderLeases", name := "acquiresUntil", desc := "(II)I" } : Jvm.MethodName)) ∈ lw_all := lw_g (lw_at lw_m9 147 rfl) rfl
theorem q2157 : (Jvm.Cond.selects "LeaderLeases" ({ cls := "LeaderLeases", name := "acquiresUntil", desc := "(II)I" } : Jvm.MethodName) ({ cls := "LeaderLeases", name := "acquiresUntil", desc := "(II)I" } : Jvm.MethodName)) ∈ lw_all := lw_g (lw_at lw_m9 148 rfl) rfl
theorem q2158 : (Jvm.Cond.code ({ cls := "LeaderLeases", name := "acquiresUntil", desc := "(II)I" } : Jvm.MethodName) prog_1_method_72_code (6 : Nat) (Option.some Jvm.ClassFile.FieldType.int)) ∈ lw_all := lw_g (lw_at lw_m9 149 rfl) rfl
theorem q2163 : (Jvm.Cond.instanceMethod ({ cls := "LeaderLeases", name := "saveSnapshot", desc := "(I)I" } : Jvm.MethodName)) ∈ lw_all := lw_g (lw_at lw_m9 154 rfl) rfl
theorem q2164 : (Jvm.Cond.selects "LeaderLeases" ({ cls := "LeaderLeases", name := "saveSnapshot", desc := "(I)I" } : Jvm.MethodName) ({ cls := "LeaderLeases", name := "saveSnapshot", desc := "(I)I" } : Jvm.MethodName)) ∈ lw_all := lw_g (lw_at lw_m9 155 rfl) rfl
theorem q2165 : (Jvm.Cond.code ({ cls := "LeaderLeases", name := "saveSnapshot", desc := "(I)I" } : Jvm.MethodName) prog_1_method_73_code (2 : Nat) (Option.some Jvm.ClassFile.FieldType.int)) ∈ lw_all := lw_g (lw_at lw_m9 156 rfl) rfl
theorem q2170 : (Jvm.Cond.instanceMethod ({ cls := "LeaderLeases", name := "restoreSnapshot", desc := "(I)I" } : Jvm.MethodName)) ∈ lw_all := lw_g (lw_at lw_m9 161 rfl) rfl
theorem q2171 : (Jvm.Cond.selects "LeaderLeases" ({ cls := "LeaderLeases", name := "restoreSnapshot", desc := "(I)I" } : Jvm.MethodName) ({ cls := "LeaderLeases", name := "restoreSnapshot", desc := "(I)I" } : Jvm.MethodName)) ∈ lw_all := lw_g (lw_at lw_m9 162 rfl) rfl
theorem q2172 : (Jvm.Cond.code ({ cls := "LeaderLeases", name := "restoreSnapshot", desc := "(I)I" } : Jvm.MethodName) prog_1_method_74_code (2 : Nat) (Option.some Jvm.ClassFile.FieldType.int)) ∈ lw_all := lw_g (lw_at lw_m9 163 rfl) rfl
theorem q2799 : (Jvm.Cond.castable "LeaderLeases" "java/lang/Object") ∈ lw_tbl := lw_at lw_m12 70 rfl
theorem in_X1 : ∀ w ∈ wsX10, w ∈ lw_all := lw_in wsX10 [879, 881, 883, 885, 887] (by decide +kernel) (by decide +kernel)

