/-! LeaderLeases$Simulation -/
set_option maxRecDepth 100000
def RX2 : String := "LeaderLeases$Simulation"
def TX2 : u_T := fun k => match k with
  | 0 => ("LeaderLeases$Simulation", "of", "LLeaderLeases$Configuration;", true)
  | 1 => ("LeaderLeases$Simulation", "nodes", "[LLeaderLeases$Node;", true)
  | 2 => ("LeaderLeases$Simulation", "messages", "Ljava/util/List;", true)
  | 3 => ("LeaderLeases$Simulation", "delayed", "Ljava/util/List;", true)
  | 4 => ("LeaderLeases$Simulation", "outages", "Ljava/util/List;", true)
  | 5 => ("LeaderLeases$Simulation", "log", "Ljava/util/List;", true)
  | 6 => ("LeaderLeases$Simulation", "storage", "LLeaderLeases$Storage;", true)
  | 7 => ("LeaderLeases$Simulation", "events", "[I", true)
  | 8 => ("LeaderLeases$Simulation", "now", "I", false)
  | 9 => ("LeaderLeases$Simulation", "random", "I", false)
  | 10 => ("LeaderLeases$Simulation", "sent", "I", false)
  | 11 => ("LeaderLeases$Simulation", "lost", "I", false)
  | 12 => ("LeaderLeases$Simulation", "holder", "I", false)
  | 13 => ("LeaderLeases$Simulation", "expiry", "I", false)
  | 14 => ("LeaderLeases$Simulation", "greatest", "I", false)
  | 15 => ("LeaderLeases$Simulation", "graceEnd", "I", false)
  | 16 => ("LeaderLeases$Simulation", "splitTime", "I", false)
  | 17 => ("LeaderLeases$Simulation", "leaderless", "I", false)
  | 18 => ("LeaderLeases$Simulation", "reads", "I", false)
  | 19 => ("LeaderLeases$Simulation", "staleReads", "I", false)
  | 20 => ("LeaderLeases$Simulation", "watched", "I", false)
  | _ => ("LeaderLeases$Simulation", "outcome", "I", false)
def tyX2 : Nat → FieldType := fun k => match k with
  | 0 => .object "LeaderLeases$Configuration"
  | 1 => .array (.object "LeaderLeases$Node")
  | 2 => .object "java/util/List"
  | 3 => .object "java/util/List"
  | 4 => .object "java/util/List"
  | 5 => .object "java/util/List"
  | 6 => .object "LeaderLeases$Storage"
  | 7 => .array .int
  | 8 => .int
  | 9 => .int
  | 10 => .int
  | 11 => .int
  | 12 => .int
  | 13 => .int
  | 14 => .int
  | 15 => .int
  | 16 => .int
  | 17 => .int
  | 18 => .int
  | 19 => .int
  | 20 => .int
  | _ => .int
abbrev wsX20 : List Cond := u_ws RX2 TX2 22
set_option maxRecDepth 100000 in
theorem nmX2 : ∀ a, a < 22 → ∀ b, b < 22 → a ≠ b → (TX2 a).2.1 ≠ (TX2 b).2.1 := by decide +kernel
set_option maxRecDepth 100000 in
theorem tyX2_ok : ∀ k, k < 22 → parseFieldDescriptor (TX2 k).2.2.1 = some (tyX2 k) := by decide +kernel
abbrev cX2_init : ByteArray := prog_17_method_1_code
def yX2_init : MethodName := ⟨RX2, "<init>", "(LLeaderLeases$Configuration;)V"⟩
def dkwX2_init_7 : List UInt8 := [132, 2, 1, 167, 255, 202, 42, 43, 180, 0, 85, 181, 0, 88, 177]
abbrev dktX2_init_7 : List UInt8 := dkwX2_init_7 ++ []
def dkwX2_init_6 : List UInt8 := [192, 0, 72, 43, 180, 0, 74, 28, 185, 0, 68, 2, 0, 192, 0, 77, 182, 0, 79, 183, 0, 82, 83]
abbrev dktX2_init_6 : List UInt8 := dkwX2_init_6 ++ dktX2_init_7
def dkwX2_init_5 : List UInt8 := [162, 0, 51, 42, 180, 0, 64, 28, 187, 0, 62, 89, 43, 180, 0, 51, 28, 185, 0, 68, 2, 0]
abbrev dktX2_init_5 : List UInt8 := dkwX2_init_5 ++ dktX2_init_6
def dkwX2_init_4 : List UInt8 := [180, 0, 51, 185, 0, 56, 1, 0, 189, 0, 62, 181, 0, 64, 3, 61, 28, 42, 180, 0, 64, 190]
abbrev dktX2_init_4 : List UInt8 := dkwX2_init_4 ++ dktX2_init_5
def dkwX2_init_3 : List UInt8 := [181, 0, 36, 42, 16, 252, 181, 0, 40, 42, 16, 252, 181, 0, 44, 42, 43, 181, 0, 47, 42, 43]
abbrev dktX2_init_3 : List UInt8 := dkwX2_init_3 ++ dktX2_init_4
def dkwX2_init_2 : List UInt8 := [183, 0, 11, 181, 0, 26, 42, 187, 0, 29, 89, 183, 0, 31, 181, 0, 32, 42, 16, 9, 188, 10]
abbrev dktX2_init_2 : List UInt8 := dkwX2_init_2 ++ dktX2_init_3
def dkwX2_init_1 : List UInt8 := [183, 0, 11, 181, 0, 20, 42, 187, 0, 9, 89, 5, 183, 0, 11, 181, 0, 23, 42, 187, 0, 9, 89, 7]
abbrev dktX2_init_1 : List UInt8 := dkwX2_init_1 ++ dktX2_init_2
def dkwX2_init_0 : List UInt8 := [42, 183, 0, 3, 42, 187, 0, 9, 89, 7, 183, 0, 11, 181, 0, 14, 42, 187, 0, 9, 89, 5]
abbrev dktX2_init_0 : List UInt8 := dkwX2_init_0 ++ dktX2_init_1
theorem dksX2_init_0 : cX2_init.data.toList.drop 0 = dktX2_init_0 := by decide +kernel
theorem dksX2_init_1 : cX2_init.data.toList.drop 22 = dktX2_init_1 := dk_seg dksX2_init_0 22 rfl rfl
theorem dksX2_init_2 : cX2_init.data.toList.drop 46 = dktX2_init_2 := dk_seg dksX2_init_1 24 rfl rfl
theorem dksX2_init_3 : cX2_init.data.toList.drop 68 = dktX2_init_3 := dk_seg dksX2_init_2 22 rfl rfl
theorem dksX2_init_4 : cX2_init.data.toList.drop 90 = dktX2_init_4 := dk_seg dksX2_init_3 22 rfl rfl
theorem dksX2_init_5 : cX2_init.data.toList.drop 112 = dktX2_init_5 := dk_seg dksX2_init_4 22 rfl rfl
theorem dksX2_init_6 : cX2_init.data.toList.drop 134 = dktX2_init_6 := dk_seg dksX2_init_5 22 rfl rfl
theorem dksX2_init_7 : cX2_init.data.toList.drop 157 = dktX2_init_7 := dk_seg dksX2_init_6 23 rfl rfl
theorem dX2_init_0 : decode cX2_init 0 = .ok (.aload_n 0, 1) := dk_42 (dk_at dksX2_init_0 0 rfl rfl)
theorem dX2_init_1 : decode cX2_init 1 = .ok (.invokespecial 3, 3) := dk_183 0 3 (dk_at dksX2_init_0 1 rfl rfl)
theorem dX2_init_4 : decode cX2_init 4 = .ok (.aload_n 0, 1) := dk_42 (dk_at dksX2_init_0 4 rfl rfl)
theorem dX2_init_5 : decode cX2_init 5 = .ok (.new 9, 3) := dk_187 0 9 (dk_at dksX2_init_0 5 rfl rfl)
theorem dX2_init_8 : decode cX2_init 8 = .ok (.dup, 1) := dk_89 (dk_at dksX2_init_0 8 rfl rfl)
theorem dX2_init_9 : decode cX2_init 9 = .ok (.iconst 4, 1) := dk_7 (dk_at dksX2_init_0 9 rfl rfl)
theorem dX2_init_10 : decode cX2_init 10 = .ok (.invokespecial 11, 3) := dk_183 0 11 (dk_at dksX2_init_0 10 rfl rfl)
theorem dX2_init_13 : decode cX2_init 13 = .ok (.putfield 14, 3) := dk_181 0 14 (dk_at dksX2_init_0 13 rfl rfl)
theorem dX2_init_16 : decode cX2_init 16 = .ok (.aload_n 0, 1) := dk_42 (dk_at dksX2_init_0 16 rfl rfl)
theorem dX2_init_17 : decode cX2_init 17 = .ok (.new 9, 3) := dk_187 0 9 (dk_at dksX2_init_0 17 rfl rfl)
theorem dX2_init_20 : decode cX2_init 20 = .ok (.dup, 1) := dk_89 (dk_at dksX2_init_0 20 rfl rfl)
theorem dX2_init_21 : decode cX2_init 21 = .ok (.iconst 2, 1) := dk_5 (dk_at dksX2_init_0 21 rfl rfl)
theorem dX2_init_22 : decode cX2_init 22 = .ok (.invokespecial 11, 3) := dk_183 0 11 (dk_at dksX2_init_1 0 rfl rfl)
theorem dX2_init_25 : decode cX2_init 25 = .ok (.putfield 20, 3) := dk_181 0 20 (dk_at dksX2_init_1 3 rfl rfl)
theorem dX2_init_28 : decode cX2_init 28 = .ok (.aload_n 0, 1) := dk_42 (dk_at dksX2_init_1 6 rfl rfl)
theorem dX2_init_29 : decode cX2_init 29 = .ok (.new 9, 3) := dk_187 0 9 (dk_at dksX2_init_1 7 rfl rfl)
theorem dX2_init_32 : decode cX2_init 32 = .ok (.dup, 1) := dk_89 (dk_at dksX2_init_1 10 rfl rfl)
theorem dX2_init_33 : decode cX2_init 33 = .ok (.iconst 2, 1) := dk_5 (dk_at dksX2_init_1 11 rfl rfl)
theorem dX2_init_34 : decode cX2_init 34 = .ok (.invokespecial 11, 3) := dk_183 0 11 (dk_at dksX2_init_1 12 rfl rfl)
theorem dX2_init_37 : decode cX2_init 37 = .ok (.putfield 23, 3) := dk_181 0 23 (dk_at dksX2_init_1 15 rfl rfl)
theorem dX2_init_40 : decode cX2_init 40 = .ok (.aload_n 0, 1) := dk_42 (dk_at dksX2_init_1 18 rfl rfl)
theorem dX2_init_41 : decode cX2_init 41 = .ok (.new 9, 3) := dk_187 0 9 (dk_at dksX2_init_1 19 rfl rfl)
theorem dX2_init_44 : decode cX2_init 44 = .ok (.dup, 1) := dk_89 (dk_at dksX2_init_1 22 rfl rfl)
theorem dX2_init_45 : decode cX2_init 45 = .ok (.iconst 4, 1) := dk_7 (dk_at dksX2_init_1 23 rfl rfl)
theorem dX2_init_46 : decode cX2_init 46 = .ok (.invokespecial 11, 3) := dk_183 0 11 (dk_at dksX2_init_2 0 rfl rfl)
theorem dX2_init_49 : decode cX2_init 49 = .ok (.putfield 26, 3) := dk_181 0 26 (dk_at dksX2_init_2 3 rfl rfl)
theorem dX2_init_52 : decode cX2_init 52 = .ok (.aload_n 0, 1) := dk_42 (dk_at dksX2_init_2 6 rfl rfl)
theorem dX2_init_53 : decode cX2_init 53 = .ok (.new 29, 3) := dk_187 0 29 (dk_at dksX2_init_2 7 rfl rfl)
theorem dX2_init_56 : decode cX2_init 56 = .ok (.dup, 1) := dk_89 (dk_at dksX2_init_2 10 rfl rfl)
theorem dX2_init_57 : decode cX2_init 57 = .ok (.invokespecial 31, 3) := dk_183 0 31 (dk_at dksX2_init_2 11 rfl rfl)
theorem dX2_init_60 : decode cX2_init 60 = .ok (.putfield 32, 3) := dk_181 0 32 (dk_at dksX2_init_2 14 rfl rfl)
theorem dX2_init_63 : decode cX2_init 63 = .ok (.aload_n 0, 1) := dk_42 (dk_at dksX2_init_2 17 rfl rfl)
theorem dX2_init_64 : decode cX2_init 64 = .ok (.bipush 9, 2) := dk_16 9 (dk_at dksX2_init_2 18 rfl rfl)
theorem dX2_init_66 : decode cX2_init 66 = .ok (.newarray .int, 2) := dk_188_10 (dk_at dksX2_init_2 20 rfl rfl)
theorem dX2_init_68 : decode cX2_init 68 = .ok (.putfield 36, 3) := dk_181 0 36 (dk_at dksX2_init_3 0 rfl rfl)
theorem dX2_init_71 : decode cX2_init 71 = .ok (.aload_n 0, 1) := dk_42 (dk_at dksX2_init_3 3 rfl rfl)
theorem dX2_init_72 : decode cX2_init 72 = .ok (.bipush (-4), 2) := dk_16 252 (dk_at dksX2_init_3 4 rfl rfl)
theorem dX2_init_74 : decode cX2_init 74 = .ok (.putfield 40, 3) := dk_181 0 40 (dk_at dksX2_init_3 6 rfl rfl)
theorem dX2_init_77 : decode cX2_init 77 = .ok (.aload_n 0, 1) := dk_42 (dk_at dksX2_init_3 9 rfl rfl)
theorem dX2_init_78 : decode cX2_init 78 = .ok (.bipush (-4), 2) := dk_16 252 (dk_at dksX2_init_3 10 rfl rfl)
theorem dX2_init_80 : decode cX2_init 80 = .ok (.putfield 44, 3) := dk_181 0 44 (dk_at dksX2_init_3 12 rfl rfl)
theorem dX2_init_83 : decode cX2_init 83 = .ok (.aload_n 0, 1) := dk_42 (dk_at dksX2_init_3 15 rfl rfl)
theorem dX2_init_84 : decode cX2_init 84 = .ok (.aload_n 1, 1) := dk_43 (dk_at dksX2_init_3 16 rfl rfl)
theorem dX2_init_85 : decode cX2_init 85 = .ok (.putfield 47, 3) := dk_181 0 47 (dk_at dksX2_init_3 17 rfl rfl)
theorem dX2_init_88 : decode cX2_init 88 = .ok (.aload_n 0, 1) := dk_42 (dk_at dksX2_init_3 20 rfl rfl)
theorem dX2_init_89 : decode cX2_init 89 = .ok (.aload_n 1, 1) := dk_43 (dk_at dksX2_init_3 21 rfl rfl)
theorem dX2_init_90 : decode cX2_init 90 = .ok (.getfield 51, 3) := dk_180 0 51 (dk_at dksX2_init_4 0 rfl rfl)
theorem dX2_init_93 : decode cX2_init 93 = .ok (.invokeinterface 56 1, 5) := by decide +kernel
theorem dX2_init_98 : decode cX2_init 98 = .ok (.anewarray 62, 3) := dk_189 0 62 (dk_at dksX2_init_4 8 rfl rfl)
theorem dX2_init_101 : decode cX2_init 101 = .ok (.putfield 64, 3) := dk_181 0 64 (dk_at dksX2_init_4 11 rfl rfl)
theorem dX2_init_104 : decode cX2_init 104 = .ok (.iconst 0, 1) := dk_3 (dk_at dksX2_init_4 14 rfl rfl)
theorem dX2_init_105 : decode cX2_init 105 = .ok (.istore_n 2, 1) := dk_61 (dk_at dksX2_init_4 15 rfl rfl)
theorem dX2_init_106 : decode cX2_init 106 = .ok (.iload_n 2, 1) := dk_28 (dk_at dksX2_init_4 16 rfl rfl)
theorem dX2_init_107 : decode cX2_init 107 = .ok (.aload_n 0, 1) := dk_42 (dk_at dksX2_init_4 17 rfl rfl)
theorem dX2_init_108 : decode cX2_init 108 = .ok (.getfield 64, 3) := dk_180 0 64 (dk_at dksX2_init_4 18 rfl rfl)
theorem dX2_init_111 : decode cX2_init 111 = .ok (.arraylength, 1) := dk_190 (dk_at dksX2_init_4 21 rfl rfl)
theorem dX2_init_112 : decode cX2_init 112 = .ok (.if_icmp .ge 51, 3) := dk_162 0 51 (dk_at dksX2_init_5 0 rfl rfl)
theorem dX2_init_115 : decode cX2_init 115 = .ok (.aload_n 0, 1) := dk_42 (dk_at dksX2_init_5 3 rfl rfl)
theorem dX2_init_116 : decode cX2_init 116 = .ok (.getfield 64, 3) := dk_180 0 64 (dk_at dksX2_init_5 4 rfl rfl)
theorem dX2_init_119 : decode cX2_init 119 = .ok (.iload_n 2, 1) := dk_28 (dk_at dksX2_init_5 7 rfl rfl)
theorem dX2_init_120 : decode cX2_init 120 = .ok (.new 62, 3) := dk_187 0 62 (dk_at dksX2_init_5 8 rfl rfl)
theorem dX2_init_123 : decode cX2_init 123 = .ok (.dup, 1) := dk_89 (dk_at dksX2_init_5 11 rfl rfl)
theorem dX2_init_124 : decode cX2_init 124 = .ok (.aload_n 1, 1) := dk_43 (dk_at dksX2_init_5 12 rfl rfl)
theorem dX2_init_125 : decode cX2_init 125 = .ok (.getfield 51, 3) := dk_180 0 51 (dk_at dksX2_init_5 13 rfl rfl)
theorem dX2_init_128 : decode cX2_init 128 = .ok (.iload_n 2, 1) := dk_28 (dk_at dksX2_init_5 16 rfl rfl)
theorem dX2_init_129 : decode cX2_init 129 = .ok (.invokeinterface 68 2, 5) := by decide +kernel
theorem dX2_init_134 : decode cX2_init 134 = .ok (.checkcast 72, 3) := dk_192 0 72 (dk_at dksX2_init_6 0 rfl rfl)
theorem dX2_init_137 : decode cX2_init 137 = .ok (.aload_n 1, 1) := dk_43 (dk_at dksX2_init_6 3 rfl rfl)
theorem dX2_init_138 : decode cX2_init 138 = .ok (.getfield 74, 3) := dk_180 0 74 (dk_at dksX2_init_6 4 rfl rfl)
theorem dX2_init_141 : decode cX2_init 141 = .ok (.iload_n 2, 1) := dk_28 (dk_at dksX2_init_6 7 rfl rfl)
theorem dX2_init_142 : decode cX2_init 142 = .ok (.invokeinterface 68 2, 5) := by decide +kernel
theorem dX2_init_147 : decode cX2_init 147 = .ok (.checkcast 77, 3) := dk_192 0 77 (dk_at dksX2_init_6 13 rfl rfl)
theorem dX2_init_150 : decode cX2_init 150 = .ok (.invokevirtual 79, 3) := dk_182 0 79 (dk_at dksX2_init_6 16 rfl rfl)
theorem dX2_init_153 : decode cX2_init 153 = .ok (.invokespecial 82, 3) := dk_183 0 82 (dk_at dksX2_init_6 19 rfl rfl)
theorem dX2_init_156 : decode cX2_init 156 = .ok (.aastore, 1) := dk_83 (dk_at dksX2_init_6 22 rfl rfl)
theorem dX2_init_157 : decode cX2_init 157 = .ok (.iinc 2 1, 3) := dk_132 2 1 (dk_at dksX2_init_7 0 rfl rfl)
theorem dX2_init_160 : decode cX2_init 160 = .ok (.goto (-54), 3) := dk_167 255 202 (dk_at dksX2_init_7 3 rfl rfl)
theorem dX2_init_163 : decode cX2_init 163 = .ok (.aload_n 0, 1) := dk_42 (dk_at dksX2_init_7 6 rfl rfl)
theorem dX2_init_164 : decode cX2_init 164 = .ok (.aload_n 1, 1) := dk_43 (dk_at dksX2_init_7 7 rfl rfl)
theorem dX2_init_165 : decode cX2_init 165 = .ok (.getfield 85, 3) := dk_180 0 85 (dk_at dksX2_init_7 8 rfl rfl)
theorem dX2_init_168 : decode cX2_init 168 = .ok (.putfield 88, 3) := dk_181 0 88 (dk_at dksX2_init_7 11 rfl rfl)
theorem dX2_init_171 : decode cX2_init 171 = .ok (.return_, 1) := dk_177 (dk_at dksX2_init_7 14 rfl rfl)
abbrev cX2_nextEvent : ByteArray := prog_17_method_16_code
def yX2_nextEvent : MethodName := ⟨RX2, "nextEvent", "()I"⟩
def dkwX2_nextEvent_8 : List UInt8 := [167, 255, 189, 28, 172]
abbrev dktX2_nextEvent_8 : List UInt8 := dkwX2_nextEvent_8 ++ []
def dkwX2_nextEvent_7 : List UInt8 := [153, 0, 21, 25, 6, 180, 1, 114, 155, 0, 13, 28, 25, 6, 180, 1, 114, 184, 1, 106, 61, 132, 5, 1]
abbrev dktX2_nextEvent_7 : List UInt8 := dkwX2_nextEvent_7 ++ dktX2_nextEvent_8
def dkwX2_nextEvent_6 : List UInt8 := [182, 0, 230, 153, 0, 16, 28, 25, 6, 180, 0, 234, 184, 1, 106, 61, 167, 0, 29, 25, 6, 180, 0, 223]
abbrev dktX2_nextEvent_6 : List UInt8 := dkwX2_nextEvent_6 ++ dktX2_nextEvent_7
def dkwX2_nextEvent_5 : List UInt8 := [54, 4, 3, 54, 5, 21, 5, 21, 4, 162, 0, 66, 45, 21, 5, 50, 58, 6, 25, 6, 42, 180, 0, 112]
abbrev dktX2_nextEvent_5 : List UInt8 := dkwX2_nextEvent_5 ++ dktX2_nextEvent_6
def dkwX2_nextEvent_4 : List UInt8 := [180, 0, 112, 182, 1, 111, 184, 1, 106, 61, 132, 3, 1, 167, 255, 215, 42, 180, 0, 64, 78, 45, 190]
abbrev dktX2_nextEvent_4 : List UInt8 := dkwX2_nextEvent_4 ++ dktX2_nextEvent_5
def dkwX2_nextEvent_3 : List UInt8 := [185, 0, 56, 1, 0, 162, 0, 34, 28, 42, 180, 0, 23, 29, 185, 0, 68, 2, 0, 192, 1, 109, 42]
abbrev dktX2_nextEvent_3 : List UInt8 := dkwX2_nextEvent_3 ++ dktX2_nextEvent_4
def dkwX2_nextEvent_2 : List UInt8 := [192, 1, 103, 180, 1, 105, 184, 1, 106, 61, 132, 3, 1, 167, 255, 219, 3, 62, 29, 42, 180, 0, 23]
abbrev dktX2_nextEvent_2 : List UInt8 := dkwX2_nextEvent_2 ++ dktX2_nextEvent_3
def dkwX2_nextEvent_1 : List UInt8 := [180, 0, 20, 185, 0, 56, 1, 0, 162, 0, 30, 28, 42, 180, 0, 20, 29, 185, 0, 68, 2, 0]
abbrev dktX2_nextEvent_1 : List UInt8 := dkwX2_nextEvent_1 ++ dktX2_nextEvent_2
def dkwX2_nextEvent_0 : List UInt8 := [42, 182, 1, 95, 76, 43, 199, 0, 9, 19, 1, 99, 167, 0, 7, 43, 180, 1, 100, 61, 3, 62, 29, 42]
abbrev dktX2_nextEvent_0 : List UInt8 := dkwX2_nextEvent_0 ++ dktX2_nextEvent_1
theorem dksX2_nextEvent_0 : cX2_nextEvent.data.toList.drop 0 = dktX2_nextEvent_0 := by decide +kernel
theorem dksX2_nextEvent_1 : cX2_nextEvent.data.toList.drop 24 = dktX2_nextEvent_1 := dk_seg dksX2_nextEvent_0 24 rfl rfl
theorem dksX2_nextEvent_2 : cX2_nextEvent.data.toList.drop 46 = dktX2_nextEvent_2 := dk_seg dksX2_nextEvent_1 22 rfl rfl
theorem dksX2_nextEvent_3 : cX2_nextEvent.data.toList.drop 69 = dktX2_nextEvent_3 := dk_seg dksX2_nextEvent_2 23 rfl rfl
theorem dksX2_nextEvent_4 : cX2_nextEvent.data.toList.drop 92 = dktX2_nextEvent_4 := dk_seg dksX2_nextEvent_3 23 rfl rfl
theorem dksX2_nextEvent_5 : cX2_nextEvent.data.toList.drop 115 = dktX2_nextEvent_5 := dk_seg dksX2_nextEvent_4 23 rfl rfl
theorem dksX2_nextEvent_6 : cX2_nextEvent.data.toList.drop 139 = dktX2_nextEvent_6 := dk_seg dksX2_nextEvent_5 24 rfl rfl
theorem dksX2_nextEvent_7 : cX2_nextEvent.data.toList.drop 163 = dktX2_nextEvent_7 := dk_seg dksX2_nextEvent_6 24 rfl rfl
theorem dksX2_nextEvent_8 : cX2_nextEvent.data.toList.drop 187 = dktX2_nextEvent_8 := dk_seg dksX2_nextEvent_7 24 rfl rfl
theorem dX2_nextEvent_0 : decode cX2_nextEvent 0 = .ok (.aload_n 0, 1) := dk_42 (dk_at dksX2_nextEvent_0 0 rfl rfl)
theorem dX2_nextEvent_1 : decode cX2_nextEvent 1 = .ok (.invokevirtual 351, 3) := dk_182 1 95 (dk_at dksX2_nextEvent_0 1 rfl rfl)
theorem dX2_nextEvent_4 : decode cX2_nextEvent 4 = .ok (.astore_n 1, 1) := dk_76 (dk_at dksX2_nextEvent_0 4 rfl rfl)
theorem dX2_nextEvent_5 : decode cX2_nextEvent 5 = .ok (.aload_n 1, 1) := dk_43 (dk_at dksX2_nextEvent_0 5 rfl rfl)
theorem dX2_nextEvent_6 : decode cX2_nextEvent 6 = .ok (.ifnonnull 9, 3) := dk_199 0 9 (dk_at dksX2_nextEvent_0 6 rfl rfl)
theorem dX2_nextEvent_9 : decode cX2_nextEvent 9 = .ok (.ldc_w 355, 3) := dk_19 1 99 (dk_at dksX2_nextEvent_0 9 rfl rfl)
theorem dX2_nextEvent_12 : decode cX2_nextEvent 12 = .ok (.goto 7, 3) := dk_167 0 7 (dk_at dksX2_nextEvent_0 12 rfl rfl)
theorem dX2_nextEvent_15 : decode cX2_nextEvent 15 = .ok (.aload_n 1, 1) := dk_43 (dk_at dksX2_nextEvent_0 15 rfl rfl)
theorem dX2_nextEvent_16 : decode cX2_nextEvent 16 = .ok (.getfield 356, 3) := dk_180 1 100 (dk_at dksX2_nextEvent_0 16 rfl rfl)
theorem dX2_nextEvent_19 : decode cX2_nextEvent 19 = .ok (.istore_n 2, 1) := dk_61 (dk_at dksX2_nextEvent_0 19 rfl rfl)
theorem dX2_nextEvent_20 : decode cX2_nextEvent 20 = .ok (.iconst 0, 1) := dk_3 (dk_at dksX2_nextEvent_0 20 rfl rfl)
theorem dX2_nextEvent_21 : decode cX2_nextEvent 21 = .ok (.istore_n 3, 1) := dk_62 (dk_at dksX2_nextEvent_0 21 rfl rfl)
theorem dX2_nextEvent_22 : decode cX2_nextEvent 22 = .ok (.iload_n 3, 1) := dk_29 (dk_at dksX2_nextEvent_0 22 rfl rfl)
theorem dX2_nextEvent_23 : decode cX2_nextEvent 23 = .ok (.aload_n 0, 1) := dk_42 (dk_at dksX2_nextEvent_0 23 rfl rfl)
theorem dX2_nextEvent_24 : decode cX2_nextEvent 24 = .ok (.getfield 20, 3) := dk_180 0 20 (dk_at dksX2_nextEvent_1 0 rfl rfl)
theorem dX2_nextEvent_27 : decode cX2_nextEvent 27 = .ok (.invokeinterface 56 1, 5) := by decide +kernel
theorem dX2_nextEvent_32 : decode cX2_nextEvent 32 = .ok (.if_icmp .ge 30, 3) := dk_162 0 30 (dk_at dksX2_nextEvent_1 8 rfl rfl)
theorem dX2_nextEvent_35 : decode cX2_nextEvent 35 = .ok (.iload_n 2, 1) := dk_28 (dk_at dksX2_nextEvent_1 11 rfl rfl)
theorem dX2_nextEvent_36 : decode cX2_nextEvent 36 = .ok (.aload_n 0, 1) := dk_42 (dk_at dksX2_nextEvent_1 12 rfl rfl)
theorem dX2_nextEvent_37 : decode cX2_nextEvent 37 = .ok (.getfield 20, 3) := dk_180 0 20 (dk_at dksX2_nextEvent_1 13 rfl rfl)
theorem dX2_nextEvent_40 : decode cX2_nextEvent 40 = .ok (.iload_n 3, 1) := dk_29 (dk_at dksX2_nextEvent_1 16 rfl rfl)
theorem dX2_nextEvent_41 : decode cX2_nextEvent 41 = .ok (.invokeinterface 68 2, 5) := by decide +kernel
theorem dX2_nextEvent_46 : decode cX2_nextEvent 46 = .ok (.checkcast 359, 3) := dk_192 1 103 (dk_at dksX2_nextEvent_2 0 rfl rfl)
theorem dX2_nextEvent_49 : decode cX2_nextEvent 49 = .ok (.getfield 361, 3) := dk_180 1 105 (dk_at dksX2_nextEvent_2 3 rfl rfl)
theorem dX2_nextEvent_52 : decode cX2_nextEvent 52 = .ok (.invokestatic 362, 3) := dk_184 1 106 (dk_at dksX2_nextEvent_2 6 rfl rfl)
theorem dX2_nextEvent_55 : decode cX2_nextEvent 55 = .ok (.istore_n 2, 1) := dk_61 (dk_at dksX2_nextEvent_2 9 rfl rfl)
theorem dX2_nextEvent_56 : decode cX2_nextEvent 56 = .ok (.iinc 3 1, 3) := dk_132 3 1 (dk_at dksX2_nextEvent_2 10 rfl rfl)
theorem dX2_nextEvent_59 : decode cX2_nextEvent 59 = .ok (.goto (-37), 3) := dk_167 255 219 (dk_at dksX2_nextEvent_2 13 rfl rfl)
theorem dX2_nextEvent_62 : decode cX2_nextEvent 62 = .ok (.iconst 0, 1) := dk_3 (dk_at dksX2_nextEvent_2 16 rfl rfl)
theorem dX2_nextEvent_63 : decode cX2_nextEvent 63 = .ok (.istore_n 3, 1) := dk_62 (dk_at dksX2_nextEvent_2 17 rfl rfl)
theorem dX2_nextEvent_64 : decode cX2_nextEvent 64 = .ok (.iload_n 3, 1) := dk_29 (dk_at dksX2_nextEvent_2 18 rfl rfl)
theorem dX2_nextEvent_65 : decode cX2_nextEvent 65 = .ok (.aload_n 0, 1) := dk_42 (dk_at dksX2_nextEvent_2 19 rfl rfl)
theorem dX2_nextEvent_66 : decode cX2_nextEvent 66 = .ok (.getfield 23, 3) := dk_180 0 23 (dk_at dksX2_nextEvent_2 20 rfl rfl)
theorem dX2_nextEvent_69 : decode cX2_nextEvent 69 = .ok (.invokeinterface 56 1, 5) := by decide +kernel
theorem dX2_nextEvent_74 : decode cX2_nextEvent 74 = .ok (.if_icmp .ge 34, 3) := dk_162 0 34 (dk_at dksX2_nextEvent_3 5 rfl rfl)
theorem dX2_nextEvent_77 : decode cX2_nextEvent 77 = .ok (.iload_n 2, 1) := dk_28 (dk_at dksX2_nextEvent_3 8 rfl rfl)
theorem dX2_nextEvent_78 : decode cX2_nextEvent 78 = .ok (.aload_n 0, 1) := dk_42 (dk_at dksX2_nextEvent_3 9 rfl rfl)
theorem dX2_nextEvent_79 : decode cX2_nextEvent 79 = .ok (.getfield 23, 3) := dk_180 0 23 (dk_at dksX2_nextEvent_3 10 rfl rfl)
theorem dX2_nextEvent_82 : decode cX2_nextEvent 82 = .ok (.iload_n 3, 1) := dk_29 (dk_at dksX2_nextEvent_3 13 rfl rfl)
theorem dX2_nextEvent_83 : decode cX2_nextEvent 83 = .ok (.invokeinterface 68 2, 5) := by decide +kernel
theorem dX2_nextEvent_88 : decode cX2_nextEvent 88 = .ok (.checkcast 365, 3) := dk_192 1 109 (dk_at dksX2_nextEvent_3 19 rfl rfl)
theorem dX2_nextEvent_91 : decode cX2_nextEvent 91 = .ok (.aload_n 0, 1) := dk_42 (dk_at dksX2_nextEvent_3 22 rfl rfl)
theorem dX2_nextEvent_92 : decode cX2_nextEvent 92 = .ok (.getfield 112, 3) := dk_180 0 112 (dk_at dksX2_nextEvent_4 0 rfl rfl)
theorem dX2_nextEvent_95 : decode cX2_nextEvent 95 = .ok (.invokevirtual 367, 3) := dk_182 1 111 (dk_at dksX2_nextEvent_4 3 rfl rfl)
theorem dX2_nextEvent_98 : decode cX2_nextEvent 98 = .ok (.invokestatic 362, 3) := dk_184 1 106 (dk_at dksX2_nextEvent_4 6 rfl rfl)
theorem dX2_nextEvent_101 : decode cX2_nextEvent 101 = .ok (.istore_n 2, 1) := dk_61 (dk_at dksX2_nextEvent_4 9 rfl rfl)
theorem dX2_nextEvent_102 : decode cX2_nextEvent 102 = .ok (.iinc 3 1, 3) := dk_132 3 1 (dk_at dksX2_nextEvent_4 10 rfl rfl)
theorem dX2_nextEvent_105 : decode cX2_nextEvent 105 = .ok (.goto (-41), 3) := dk_167 255 215 (dk_at dksX2_nextEvent_4 13 rfl rfl)
theorem dX2_nextEvent_108 : decode cX2_nextEvent 108 = .ok (.aload_n 0, 1) := dk_42 (dk_at dksX2_nextEvent_4 16 rfl rfl)
theorem dX2_nextEvent_109 : decode cX2_nextEvent 109 = .ok (.getfield 64, 3) := dk_180 0 64 (dk_at dksX2_nextEvent_4 17 rfl rfl)
theorem dX2_nextEvent_112 : decode cX2_nextEvent 112 = .ok (.astore_n 3, 1) := dk_78 (dk_at dksX2_nextEvent_4 20 rfl rfl)
theorem dX2_nextEvent_113 : decode cX2_nextEvent 113 = .ok (.aload_n 3, 1) := dk_45 (dk_at dksX2_nextEvent_4 21 rfl rfl)
theorem dX2_nextEvent_114 : decode cX2_nextEvent 114 = .ok (.arraylength, 1) := dk_190 (dk_at dksX2_nextEvent_4 22 rfl rfl)
theorem dX2_nextEvent_115 : decode cX2_nextEvent 115 = .ok (.istore 4, 2) := dk_54 4 (dk_at dksX2_nextEvent_5 0 rfl rfl)
theorem dX2_nextEvent_117 : decode cX2_nextEvent 117 = .ok (.iconst 0, 1) := dk_3 (dk_at dksX2_nextEvent_5 2 rfl rfl)
theorem dX2_nextEvent_118 : decode cX2_nextEvent 118 = .ok (.istore 5, 2) := dk_54 5 (dk_at dksX2_nextEvent_5 3 rfl rfl)
theorem dX2_nextEvent_120 : decode cX2_nextEvent 120 = .ok (.iload 5, 2) := dk_21 5 (dk_at dksX2_nextEvent_5 5 rfl rfl)
theorem dX2_nextEvent_122 : decode cX2_nextEvent 122 = .ok (.iload 4, 2) := dk_21 4 (dk_at dksX2_nextEvent_5 7 rfl rfl)
theorem dX2_nextEvent_124 : decode cX2_nextEvent 124 = .ok (.if_icmp .ge 66, 3) := dk_162 0 66 (dk_at dksX2_nextEvent_5 9 rfl rfl)
theorem dX2_nextEvent_127 : decode cX2_nextEvent 127 = .ok (.aload_n 3, 1) := dk_45 (dk_at dksX2_nextEvent_5 12 rfl rfl)
theorem dX2_nextEvent_128 : decode cX2_nextEvent 128 = .ok (.iload 5, 2) := dk_21 5 (dk_at dksX2_nextEvent_5 13 rfl rfl)
theorem dX2_nextEvent_130 : decode cX2_nextEvent 130 = .ok (.aaload, 1) := dk_50 (dk_at dksX2_nextEvent_5 15 rfl rfl)
theorem dX2_nextEvent_131 : decode cX2_nextEvent 131 = .ok (.astore 6, 2) := dk_58 6 (dk_at dksX2_nextEvent_5 16 rfl rfl)
theorem dX2_nextEvent_133 : decode cX2_nextEvent 133 = .ok (.aload 6, 2) := dk_25 6 (dk_at dksX2_nextEvent_5 18 rfl rfl)
theorem dX2_nextEvent_135 : decode cX2_nextEvent 135 = .ok (.aload_n 0, 1) := dk_42 (dk_at dksX2_nextEvent_5 20 rfl rfl)
theorem dX2_nextEvent_136 : decode cX2_nextEvent 136 = .ok (.getfield 112, 3) := dk_180 0 112 (dk_at dksX2_nextEvent_5 21 rfl rfl)
theorem dX2_nextEvent_139 : decode cX2_nextEvent 139 = .ok (.invokevirtual 230, 3) := dk_182 0 230 (dk_at dksX2_nextEvent_6 0 rfl rfl)
theorem dX2_nextEvent_142 : decode cX2_nextEvent 142 = .ok (.ifCond .eq 16, 3) := dk_153 0 16 (dk_at dksX2_nextEvent_6 3 rfl rfl)
theorem dX2_nextEvent_145 : decode cX2_nextEvent 145 = .ok (.iload_n 2, 1) := dk_28 (dk_at dksX2_nextEvent_6 6 rfl rfl)
theorem dX2_nextEvent_146 : decode cX2_nextEvent 146 = .ok (.aload 6, 2) := dk_25 6 (dk_at dksX2_nextEvent_6 7 rfl rfl)
theorem dX2_nextEvent_148 : decode cX2_nextEvent 148 = .ok (.getfield 234, 3) := dk_180 0 234 (dk_at dksX2_nextEvent_6 9 rfl rfl)
theorem dX2_nextEvent_151 : decode cX2_nextEvent 151 = .ok (.invokestatic 362, 3) := dk_184 1 106 (dk_at dksX2_nextEvent_6 12 rfl rfl)
theorem dX2_nextEvent_154 : decode cX2_nextEvent 154 = .ok (.istore_n 2, 1) := dk_61 (dk_at dksX2_nextEvent_6 15 rfl rfl)
theorem dX2_nextEvent_155 : decode cX2_nextEvent 155 = .ok (.goto 29, 3) := dk_167 0 29 (dk_at dksX2_nextEvent_6 16 rfl rfl)
theorem dX2_nextEvent_158 : decode cX2_nextEvent 158 = .ok (.aload 6, 2) := dk_25 6 (dk_at dksX2_nextEvent_6 19 rfl rfl)
theorem dX2_nextEvent_160 : decode cX2_nextEvent 160 = .ok (.getfield 223, 3) := dk_180 0 223 (dk_at dksX2_nextEvent_6 21 rfl rfl)
theorem dX2_nextEvent_163 : decode cX2_nextEvent 163 = .ok (.ifCond .eq 21, 3) := dk_153 0 21 (dk_at dksX2_nextEvent_7 0 rfl rfl)
theorem dX2_nextEvent_166 : decode cX2_nextEvent 166 = .ok (.aload 6, 2) := dk_25 6 (dk_at dksX2_nextEvent_7 3 rfl rfl)
theorem dX2_nextEvent_168 : decode cX2_nextEvent 168 = .ok (.getfield 370, 3) := dk_180 1 114 (dk_at dksX2_nextEvent_7 5 rfl rfl)
theorem dX2_nextEvent_171 : decode cX2_nextEvent 171 = .ok (.ifCond .lt 13, 3) := dk_155 0 13 (dk_at dksX2_nextEvent_7 8 rfl rfl)
theorem dX2_nextEvent_174 : decode cX2_nextEvent 174 = .ok (.iload_n 2, 1) := dk_28 (dk_at dksX2_nextEvent_7 11 rfl rfl)
theorem dX2_nextEvent_175 : decode cX2_nextEvent 175 = .ok (.aload 6, 2) := dk_25 6 (dk_at dksX2_nextEvent_7 12 rfl rfl)
theorem dX2_nextEvent_177 : decode cX2_nextEvent 177 = .ok (.getfield 370, 3) := dk_180 1 114 (dk_at dksX2_nextEvent_7 14 rfl rfl)
theorem dX2_nextEvent_180 : decode cX2_nextEvent 180 = .ok (.invokestatic 362, 3) := dk_184 1 106 (dk_at dksX2_nextEvent_7 17 rfl rfl)
theorem dX2_nextEvent_183 : decode cX2_nextEvent 183 = .ok (.istore_n 2, 1) := dk_61 (dk_at dksX2_nextEvent_7 20 rfl rfl)
theorem dX2_nextEvent_184 : decode cX2_nextEvent 184 = .ok (.iinc 5 1, 3) := dk_132 5 1 (dk_at dksX2_nextEvent_7 21 rfl rfl)
theorem dX2_nextEvent_187 : decode cX2_nextEvent 187 = .ok (.goto (-67), 3) := dk_167 255 189 (dk_at dksX2_nextEvent_8 0 rfl rfl)
theorem dX2_nextEvent_190 : decode cX2_nextEvent 190 = .ok (.iload_n 2, 1) := dk_28 (dk_at dksX2_nextEvent_8 3 rfl rfl)
theorem dX2_nextEvent_191 : decode cX2_nextEvent 191 = .ok (.ireturn, 1) := dk_172 (dk_at dksX2_nextEvent_8 4 rfl rfl)
abbrev cX2_firstMessage : ByteArray := prog_17_method_7_code
def yX2_firstMessage : MethodName := ⟨RX2, "firstMessage", "()LLeaderLeases$Message;"⟩
def dkwX2_firstMessage_2 : List UInt8 := [185, 0, 68, 2, 0, 192, 0, 179, 76, 132, 2, 1, 167, 255, 202, 43, 176]
abbrev dktX2_firstMessage_2 : List UInt8 := dkwX2_firstMessage_2 ++ []
def dkwX2_firstMessage_1 : List UInt8 := [180, 0, 14, 28, 185, 0, 68, 2, 0, 192, 0, 179, 43, 182, 0, 207, 153, 0, 17, 42, 180, 0, 14, 28]
abbrev dktX2_firstMessage_1 : List UInt8 := dkwX2_firstMessage_1 ++ dktX2_firstMessage_2
def dkwX2_firstMessage_0 : List UInt8 := [1, 76, 3, 61, 28, 42, 180, 0, 14, 185, 0, 56, 1, 0, 162, 0, 47, 43, 198, 0, 23, 42]
abbrev dktX2_firstMessage_0 : List UInt8 := dkwX2_firstMessage_0 ++ dktX2_firstMessage_1
theorem dksX2_firstMessage_0 : cX2_firstMessage.data.toList.drop 0 = dktX2_firstMessage_0 := by decide +kernel
theorem dksX2_firstMessage_1 : cX2_firstMessage.data.toList.drop 22 = dktX2_firstMessage_1 := dk_seg dksX2_firstMessage_0 22 rfl rfl
theorem dksX2_firstMessage_2 : cX2_firstMessage.data.toList.drop 46 = dktX2_firstMessage_2 := dk_seg dksX2_firstMessage_1 24 rfl rfl
theorem dX2_firstMessage_0 : decode cX2_firstMessage 0 = .ok (.aconst_null, 1) := dk_1 (dk_at dksX2_firstMessage_0 0 rfl rfl)
theorem dX2_firstMessage_1 : decode cX2_firstMessage 1 = .ok (.astore_n 1, 1) := dk_76 (dk_at dksX2_firstMessage_0 1 rfl rfl)
theorem dX2_firstMessage_2 : decode cX2_firstMessage 2 = .ok (.iconst 0, 1) := dk_3 (dk_at dksX2_firstMessage_0 2 rfl rfl)
theorem dX2_firstMessage_3 : decode cX2_firstMessage 3 = .ok (.istore_n 2, 1) := dk_61 (dk_at dksX2_firstMessage_0 3 rfl rfl)
theorem dX2_firstMessage_4 : decode cX2_firstMessage 4 = .ok (.iload_n 2, 1) := dk_28 (dk_at dksX2_firstMessage_0 4 rfl rfl)
theorem dX2_firstMessage_5 : decode cX2_firstMessage 5 = .ok (.aload_n 0, 1) := dk_42 (dk_at dksX2_firstMessage_0 5 rfl rfl)
theorem dX2_firstMessage_6 : decode cX2_firstMessage 6 = .ok (.getfield 14, 3) := dk_180 0 14 (dk_at dksX2_firstMessage_0 6 rfl rfl)
theorem dX2_firstMessage_9 : decode cX2_firstMessage 9 = .ok (.invokeinterface 56 1, 5) := by decide +kernel
theorem dX2_firstMessage_14 : decode cX2_firstMessage 14 = .ok (.if_icmp .ge 47, 3) := dk_162 0 47 (dk_at dksX2_firstMessage_0 14 rfl rfl)
theorem dX2_firstMessage_17 : decode cX2_firstMessage 17 = .ok (.aload_n 1, 1) := dk_43 (dk_at dksX2_firstMessage_0 17 rfl rfl)
theorem dX2_firstMessage_18 : decode cX2_firstMessage 18 = .ok (.ifnull 23, 3) := dk_198 0 23 (dk_at dksX2_firstMessage_0 18 rfl rfl)
theorem dX2_firstMessage_21 : decode cX2_firstMessage 21 = .ok (.aload_n 0, 1) := dk_42 (dk_at dksX2_firstMessage_0 21 rfl rfl)
theorem dX2_firstMessage_22 : decode cX2_firstMessage 22 = .ok (.getfield 14, 3) := dk_180 0 14 (dk_at dksX2_firstMessage_1 0 rfl rfl)
theorem dX2_firstMessage_25 : decode cX2_firstMessage 25 = .ok (.iload_n 2, 1) := dk_28 (dk_at dksX2_firstMessage_1 3 rfl rfl)
theorem dX2_firstMessage_26 : decode cX2_firstMessage 26 = .ok (.invokeinterface 68 2, 5) := by decide +kernel
theorem dX2_firstMessage_31 : decode cX2_firstMessage 31 = .ok (.checkcast 179, 3) := dk_192 0 179 (dk_at dksX2_firstMessage_1 9 rfl rfl)
theorem dX2_firstMessage_34 : decode cX2_firstMessage 34 = .ok (.aload_n 1, 1) := dk_43 (dk_at dksX2_firstMessage_1 12 rfl rfl)
theorem dX2_firstMessage_35 : decode cX2_firstMessage 35 = .ok (.invokevirtual 207, 3) := dk_182 0 207 (dk_at dksX2_firstMessage_1 13 rfl rfl)
theorem dX2_firstMessage_38 : decode cX2_firstMessage 38 = .ok (.ifCond .eq 17, 3) := dk_153 0 17 (dk_at dksX2_firstMessage_1 16 rfl rfl)
theorem dX2_firstMessage_41 : decode cX2_firstMessage 41 = .ok (.aload_n 0, 1) := dk_42 (dk_at dksX2_firstMessage_1 19 rfl rfl)
theorem dX2_firstMessage_42 : decode cX2_firstMessage 42 = .ok (.getfield 14, 3) := dk_180 0 14 (dk_at dksX2_firstMessage_1 20 rfl rfl)
theorem dX2_firstMessage_45 : decode cX2_firstMessage 45 = .ok (.iload_n 2, 1) := dk_28 (dk_at dksX2_firstMessage_1 23 rfl rfl)
theorem dX2_firstMessage_46 : decode cX2_firstMessage 46 = .ok (.invokeinterface 68 2, 5) := by decide +kernel
theorem dX2_firstMessage_51 : decode cX2_firstMessage 51 = .ok (.checkcast 179, 3) := dk_192 0 179 (dk_at dksX2_firstMessage_2 5 rfl rfl)
theorem dX2_firstMessage_54 : decode cX2_firstMessage 54 = .ok (.astore_n 1, 1) := dk_76 (dk_at dksX2_firstMessage_2 8 rfl rfl)
theorem dX2_firstMessage_55 : decode cX2_firstMessage 55 = .ok (.iinc 2 1, 3) := dk_132 2 1 (dk_at dksX2_firstMessage_2 9 rfl rfl)
theorem dX2_firstMessage_58 : decode cX2_firstMessage 58 = .ok (.goto (-54), 3) := dk_167 255 202 (dk_at dksX2_firstMessage_2 12 rfl rfl)
theorem dX2_firstMessage_61 : decode cX2_firstMessage 61 = .ok (.aload_n 1, 1) := dk_43 (dk_at dksX2_firstMessage_2 15 rfl rfl)
theorem dX2_firstMessage_62 : decode cX2_firstMessage 62 = .ok (.areturn, 1) := dk_176 (dk_at dksX2_firstMessage_2 16 rfl rfl)
abbrev cX2_goOn : ByteArray := prog_17_method_20_code
def yX2_goOn : MethodName := ⟨RX2, "goOn", "(I)V"⟩
def dkwX2_goOn_0 : List UInt8 := [42, 180, 0, 112, 27, 162, 0, 11, 42, 27, 182, 1, 153, 167, 255, 243, 177]
abbrev dktX2_goOn_0 : List UInt8 := dkwX2_goOn_0 ++ []
theorem dksX2_goOn_0 : cX2_goOn.data.toList.drop 0 = dktX2_goOn_0 := by decide +kernel
theorem dX2_goOn_0 : decode cX2_goOn 0 = .ok (.aload_n 0, 1) := dk_42 (dk_at dksX2_goOn_0 0 rfl rfl)
theorem dX2_goOn_1 : decode cX2_goOn 1 = .ok (.getfield 112, 3) := dk_180 0 112 (dk_at dksX2_goOn_0 1 rfl rfl)
theorem dX2_goOn_4 : decode cX2_goOn 4 = .ok (.iload_n 1, 1) := dk_27 (dk_at dksX2_goOn_0 4 rfl rfl)
theorem dX2_goOn_5 : decode cX2_goOn 5 = .ok (.if_icmp .ge 11, 3) := dk_162 0 11 (dk_at dksX2_goOn_0 5 rfl rfl)
theorem dX2_goOn_8 : decode cX2_goOn 8 = .ok (.aload_n 0, 1) := dk_42 (dk_at dksX2_goOn_0 8 rfl rfl)
theorem dX2_goOn_9 : decode cX2_goOn 9 = .ok (.iload_n 1, 1) := dk_27 (dk_at dksX2_goOn_0 9 rfl rfl)
theorem dX2_goOn_10 : decode cX2_goOn 10 = .ok (.invokevirtual 409, 3) := dk_182 1 153 (dk_at dksX2_goOn_0 10 rfl rfl)
theorem dX2_goOn_13 : decode cX2_goOn 13 = .ok (.goto (-13), 3) := dk_167 255 243 (dk_at dksX2_goOn_0 13 rfl rfl)
theorem dX2_goOn_16 : decode cX2_goOn 16 = .ok (.return_, 1) := dk_177 (dk_at dksX2_goOn_0 16 rfl rfl)
abbrev cX2_step : ByteArray := prog_17_method_21_code
def yX2_step : MethodName := ⟨RX2, "step", "(I)V"⟩
def dkwX2_step_0 : List UInt8 := [42, 182, 1, 156, 61, 42, 28, 27, 184, 1, 106, 182, 1, 159, 28, 27, 163, 0, 7, 42, 182, 1, 162, 177]
abbrev dktX2_step_0 : List UInt8 := dkwX2_step_0 ++ []
theorem dksX2_step_0 : cX2_step.data.toList.drop 0 = dktX2_step_0 := by decide +kernel
theorem dX2_step_0 : decode cX2_step 0 = .ok (.aload_n 0, 1) := dk_42 (dk_at dksX2_step_0 0 rfl rfl)
theorem dX2_step_1 : decode cX2_step 1 = .ok (.invokevirtual 412, 3) := dk_182 1 156 (dk_at dksX2_step_0 1 rfl rfl)
theorem dX2_step_4 : decode cX2_step 4 = .ok (.istore_n 2, 1) := dk_61 (dk_at dksX2_step_0 4 rfl rfl)
theorem dX2_step_5 : decode cX2_step 5 = .ok (.aload_n 0, 1) := dk_42 (dk_at dksX2_step_0 5 rfl rfl)
theorem dX2_step_6 : decode cX2_step 6 = .ok (.iload_n 2, 1) := dk_28 (dk_at dksX2_step_0 6 rfl rfl)
theorem dX2_step_7 : decode cX2_step 7 = .ok (.iload_n 1, 1) := dk_27 (dk_at dksX2_step_0 7 rfl rfl)
theorem dX2_step_8 : decode cX2_step 8 = .ok (.invokestatic 362, 3) := dk_184 1 106 (dk_at dksX2_step_0 8 rfl rfl)
theorem dX2_step_11 : decode cX2_step 11 = .ok (.invokevirtual 415, 3) := dk_182 1 159 (dk_at dksX2_step_0 11 rfl rfl)
theorem dX2_step_14 : decode cX2_step 14 = .ok (.iload_n 2, 1) := dk_28 (dk_at dksX2_step_0 14 rfl rfl)
theorem dX2_step_15 : decode cX2_step 15 = .ok (.iload_n 1, 1) := dk_27 (dk_at dksX2_step_0 15 rfl rfl)
theorem dX2_step_16 : decode cX2_step 16 = .ok (.if_icmp .gt 7, 3) := dk_163 0 7 (dk_at dksX2_step_0 16 rfl rfl)
theorem dX2_step_19 : decode cX2_step 19 = .ok (.aload_n 0, 1) := dk_42 (dk_at dksX2_step_0 19 rfl rfl)
theorem dX2_step_20 : decode cX2_step 20 = .ok (.invokevirtual 418, 3) := dk_182 1 162 (dk_at dksX2_step_0 20 rfl rfl)
theorem dX2_step_23 : decode cX2_step 23 = .ok (.return_, 1) := dk_177 (dk_at dksX2_step_0 23 rfl rfl)
abbrev cX2_pass : ByteArray := prog_17_method_17_code
def yX2_pass : MethodName := ⟨RX2, "pass", "(I)V"⟩
def dkwX2_pass_5 : List UInt8 := [180, 0, 133, 27, 28, 100, 96, 181, 0, 133, 42, 27, 181, 0, 112, 177]
abbrev dktX2_pass_5 : List UInt8 := dkwX2_pass_5 ++ []
def dkwX2_pass_4 : List UInt8 := [132, 6, 1, 167, 255, 183, 42, 89, 180, 0, 130, 29, 42, 180, 0, 112, 100, 96, 181, 0, 130, 42, 89]
abbrev dktX2_pass_4 : List UInt8 := dkwX2_pass_4 ++ dktX2_pass_5
def dkwX2_pass_3 : List UInt8 := [181, 1, 120, 21, 8, 28, 164, 0, 11, 28, 62, 21, 8, 61, 167, 0, 10, 29, 21, 8, 184, 1, 87, 62]
abbrev dktX2_pass_3 : List UInt8 := dkwX2_pass_3 ++ dktX2_pass_4
def dkwX2_pass_2 : List UInt8 := [184, 1, 106, 184, 1, 87, 54, 8, 25, 7, 89, 180, 1, 120, 21, 8, 42, 180, 0, 112, 100, 96]
abbrev dktX2_pass_2 : List UInt8 := dkwX2_pass_2 ++ dktX2_pass_3
def dkwX2_pass_1 : List UInt8 := [21, 6, 21, 5, 162, 0, 72, 25, 4, 21, 6, 50, 58, 7, 42, 180, 0, 112, 27, 25, 7, 182, 1, 117]
abbrev dktX2_pass_1 : List UInt8 := dkwX2_pass_1 ++ dktX2_pass_2
def dkwX2_pass_0 : List UInt8 := [42, 180, 0, 112, 61, 42, 180, 0, 112, 62, 42, 180, 0, 64, 58, 4, 25, 4, 190, 54, 5, 3, 54, 6]
abbrev dktX2_pass_0 : List UInt8 := dkwX2_pass_0 ++ dktX2_pass_1
theorem dksX2_pass_0 : cX2_pass.data.toList.drop 0 = dktX2_pass_0 := by decide +kernel
theorem dksX2_pass_1 : cX2_pass.data.toList.drop 24 = dktX2_pass_1 := dk_seg dksX2_pass_0 24 rfl rfl
theorem dksX2_pass_2 : cX2_pass.data.toList.drop 48 = dktX2_pass_2 := dk_seg dksX2_pass_1 24 rfl rfl
theorem dksX2_pass_3 : cX2_pass.data.toList.drop 70 = dktX2_pass_3 := dk_seg dksX2_pass_2 22 rfl rfl
theorem dksX2_pass_4 : cX2_pass.data.toList.drop 94 = dktX2_pass_4 := dk_seg dksX2_pass_3 24 rfl rfl
theorem dksX2_pass_5 : cX2_pass.data.toList.drop 117 = dktX2_pass_5 := dk_seg dksX2_pass_4 23 rfl rfl
theorem dX2_pass_0 : decode cX2_pass 0 = .ok (.aload_n 0, 1) := dk_42 (dk_at dksX2_pass_0 0 rfl rfl)
theorem dX2_pass_1 : decode cX2_pass 1 = .ok (.getfield 112, 3) := dk_180 0 112 (dk_at dksX2_pass_0 1 rfl rfl)
theorem dX2_pass_4 : decode cX2_pass 4 = .ok (.istore_n 2, 1) := dk_61 (dk_at dksX2_pass_0 4 rfl rfl)
theorem dX2_pass_5 : decode cX2_pass 5 = .ok (.aload_n 0, 1) := dk_42 (dk_at dksX2_pass_0 5 rfl rfl)
theorem dX2_pass_6 : decode cX2_pass 6 = .ok (.getfield 112, 3) := dk_180 0 112 (dk_at dksX2_pass_0 6 rfl rfl)
theorem dX2_pass_9 : decode cX2_pass 9 = .ok (.istore_n 3, 1) := dk_62 (dk_at dksX2_pass_0 9 rfl rfl)
theorem dX2_pass_10 : decode cX2_pass 10 = .ok (.aload_n 0, 1) := dk_42 (dk_at dksX2_pass_0 10 rfl rfl)
theorem dX2_pass_11 : decode cX2_pass 11 = .ok (.getfield 64, 3) := dk_180 0 64 (dk_at dksX2_pass_0 11 rfl rfl)
theorem dX2_pass_14 : decode cX2_pass 14 = .ok (.astore 4, 2) := dk_58 4 (dk_at dksX2_pass_0 14 rfl rfl)
theorem dX2_pass_16 : decode cX2_pass 16 = .ok (.aload 4, 2) := dk_25 4 (dk_at dksX2_pass_0 16 rfl rfl)
theorem dX2_pass_18 : decode cX2_pass 18 = .ok (.arraylength, 1) := dk_190 (dk_at dksX2_pass_0 18 rfl rfl)
theorem dX2_pass_19 : decode cX2_pass 19 = .ok (.istore 5, 2) := dk_54 5 (dk_at dksX2_pass_0 19 rfl rfl)
theorem dX2_pass_21 : decode cX2_pass 21 = .ok (.iconst 0, 1) := dk_3 (dk_at dksX2_pass_0 21 rfl rfl)
theorem dX2_pass_22 : decode cX2_pass 22 = .ok (.istore 6, 2) := dk_54 6 (dk_at dksX2_pass_0 22 rfl rfl)
theorem dX2_pass_24 : decode cX2_pass 24 = .ok (.iload 6, 2) := dk_21 6 (dk_at dksX2_pass_1 0 rfl rfl)
theorem dX2_pass_26 : decode cX2_pass 26 = .ok (.iload 5, 2) := dk_21 5 (dk_at dksX2_pass_1 2 rfl rfl)
theorem dX2_pass_28 : decode cX2_pass 28 = .ok (.if_icmp .ge 72, 3) := dk_162 0 72 (dk_at dksX2_pass_1 4 rfl rfl)
theorem dX2_pass_31 : decode cX2_pass 31 = .ok (.aload 4, 2) := dk_25 4 (dk_at dksX2_pass_1 7 rfl rfl)
theorem dX2_pass_33 : decode cX2_pass 33 = .ok (.iload 6, 2) := dk_21 6 (dk_at dksX2_pass_1 9 rfl rfl)
theorem dX2_pass_35 : decode cX2_pass 35 = .ok (.aaload, 1) := dk_50 (dk_at dksX2_pass_1 11 rfl rfl)
theorem dX2_pass_36 : decode cX2_pass 36 = .ok (.astore 7, 2) := dk_58 7 (dk_at dksX2_pass_1 12 rfl rfl)
theorem dX2_pass_38 : decode cX2_pass 38 = .ok (.aload_n 0, 1) := dk_42 (dk_at dksX2_pass_1 14 rfl rfl)
theorem dX2_pass_39 : decode cX2_pass 39 = .ok (.getfield 112, 3) := dk_180 0 112 (dk_at dksX2_pass_1 15 rfl rfl)
theorem dX2_pass_42 : decode cX2_pass 42 = .ok (.iload_n 1, 1) := dk_27 (dk_at dksX2_pass_1 18 rfl rfl)
theorem dX2_pass_43 : decode cX2_pass 43 = .ok (.aload 7, 2) := dk_25 7 (dk_at dksX2_pass_1 19 rfl rfl)
theorem dX2_pass_45 : decode cX2_pass 45 = .ok (.invokevirtual 373, 3) := dk_182 1 117 (dk_at dksX2_pass_1 21 rfl rfl)
theorem dX2_pass_48 : decode cX2_pass 48 = .ok (.invokestatic 362, 3) := dk_184 1 106 (dk_at dksX2_pass_2 0 rfl rfl)
theorem dX2_pass_51 : decode cX2_pass 51 = .ok (.invokestatic 343, 3) := dk_184 1 87 (dk_at dksX2_pass_2 3 rfl rfl)
theorem dX2_pass_54 : decode cX2_pass 54 = .ok (.istore 8, 2) := dk_54 8 (dk_at dksX2_pass_2 6 rfl rfl)
theorem dX2_pass_56 : decode cX2_pass 56 = .ok (.aload 7, 2) := dk_25 7 (dk_at dksX2_pass_2 8 rfl rfl)
theorem dX2_pass_58 : decode cX2_pass 58 = .ok (.dup, 1) := dk_89 (dk_at dksX2_pass_2 10 rfl rfl)
theorem dX2_pass_59 : decode cX2_pass 59 = .ok (.getfield 376, 3) := dk_180 1 120 (dk_at dksX2_pass_2 11 rfl rfl)
theorem dX2_pass_62 : decode cX2_pass 62 = .ok (.iload 8, 2) := dk_21 8 (dk_at dksX2_pass_2 14 rfl rfl)
theorem dX2_pass_64 : decode cX2_pass 64 = .ok (.aload_n 0, 1) := dk_42 (dk_at dksX2_pass_2 16 rfl rfl)
theorem dX2_pass_65 : decode cX2_pass 65 = .ok (.getfield 112, 3) := dk_180 0 112 (dk_at dksX2_pass_2 17 rfl rfl)
theorem dX2_pass_68 : decode cX2_pass 68 = .ok (.isub, 1) := dk_100 (dk_at dksX2_pass_2 20 rfl rfl)
theorem dX2_pass_69 : decode cX2_pass 69 = .ok (.iadd, 1) := dk_96 (dk_at dksX2_pass_2 21 rfl rfl)
theorem dX2_pass_70 : decode cX2_pass 70 = .ok (.putfield 376, 3) := dk_181 1 120 (dk_at dksX2_pass_3 0 rfl rfl)
theorem dX2_pass_73 : decode cX2_pass 73 = .ok (.iload 8, 2) := dk_21 8 (dk_at dksX2_pass_3 3 rfl rfl)
theorem dX2_pass_75 : decode cX2_pass 75 = .ok (.iload_n 2, 1) := dk_28 (dk_at dksX2_pass_3 5 rfl rfl)
theorem dX2_pass_76 : decode cX2_pass 76 = .ok (.if_icmp .le 11, 3) := dk_164 0 11 (dk_at dksX2_pass_3 6 rfl rfl)
theorem dX2_pass_79 : decode cX2_pass 79 = .ok (.iload_n 2, 1) := dk_28 (dk_at dksX2_pass_3 9 rfl rfl)
theorem dX2_pass_80 : decode cX2_pass 80 = .ok (.istore_n 3, 1) := dk_62 (dk_at dksX2_pass_3 10 rfl rfl)
theorem dX2_pass_81 : decode cX2_pass 81 = .ok (.iload 8, 2) := dk_21 8 (dk_at dksX2_pass_3 11 rfl rfl)
theorem dX2_pass_83 : decode cX2_pass 83 = .ok (.istore_n 2, 1) := dk_61 (dk_at dksX2_pass_3 13 rfl rfl)
theorem dX2_pass_84 : decode cX2_pass 84 = .ok (.goto 10, 3) := dk_167 0 10 (dk_at dksX2_pass_3 14 rfl rfl)
theorem dX2_pass_87 : decode cX2_pass 87 = .ok (.iload_n 3, 1) := dk_29 (dk_at dksX2_pass_3 17 rfl rfl)
theorem dX2_pass_88 : decode cX2_pass 88 = .ok (.iload 8, 2) := dk_21 8 (dk_at dksX2_pass_3 18 rfl rfl)
theorem dX2_pass_90 : decode cX2_pass 90 = .ok (.invokestatic 343, 3) := dk_184 1 87 (dk_at dksX2_pass_3 20 rfl rfl)
theorem dX2_pass_93 : decode cX2_pass 93 = .ok (.istore_n 3, 1) := dk_62 (dk_at dksX2_pass_3 23 rfl rfl)
theorem dX2_pass_94 : decode cX2_pass 94 = .ok (.iinc 6 1, 3) := dk_132 6 1 (dk_at dksX2_pass_4 0 rfl rfl)
theorem dX2_pass_97 : decode cX2_pass 97 = .ok (.goto (-73), 3) := dk_167 255 183 (dk_at dksX2_pass_4 3 rfl rfl)
theorem dX2_pass_100 : decode cX2_pass 100 = .ok (.aload_n 0, 1) := dk_42 (dk_at dksX2_pass_4 6 rfl rfl)
theorem dX2_pass_101 : decode cX2_pass 101 = .ok (.dup, 1) := dk_89 (dk_at dksX2_pass_4 7 rfl rfl)
theorem dX2_pass_102 : decode cX2_pass 102 = .ok (.getfield 130, 3) := dk_180 0 130 (dk_at dksX2_pass_4 8 rfl rfl)
theorem dX2_pass_105 : decode cX2_pass 105 = .ok (.iload_n 3, 1) := dk_29 (dk_at dksX2_pass_4 11 rfl rfl)
theorem dX2_pass_106 : decode cX2_pass 106 = .ok (.aload_n 0, 1) := dk_42 (dk_at dksX2_pass_4 12 rfl rfl)
theorem dX2_pass_107 : decode cX2_pass 107 = .ok (.getfield 112, 3) := dk_180 0 112 (dk_at dksX2_pass_4 13 rfl rfl)
theorem dX2_pass_110 : decode cX2_pass 110 = .ok (.isub, 1) := dk_100 (dk_at dksX2_pass_4 16 rfl rfl)
theorem dX2_pass_111 : decode cX2_pass 111 = .ok (.iadd, 1) := dk_96 (dk_at dksX2_pass_4 17 rfl rfl)
theorem dX2_pass_112 : decode cX2_pass 112 = .ok (.putfield 130, 3) := dk_181 0 130 (dk_at dksX2_pass_4 18 rfl rfl)
theorem dX2_pass_115 : decode cX2_pass 115 = .ok (.aload_n 0, 1) := dk_42 (dk_at dksX2_pass_4 21 rfl rfl)
theorem dX2_pass_116 : decode cX2_pass 116 = .ok (.dup, 1) := dk_89 (dk_at dksX2_pass_4 22 rfl rfl)
theorem dX2_pass_117 : decode cX2_pass 117 = .ok (.getfield 133, 3) := dk_180 0 133 (dk_at dksX2_pass_5 0 rfl rfl)
theorem dX2_pass_120 : decode cX2_pass 120 = .ok (.iload_n 1, 1) := dk_27 (dk_at dksX2_pass_5 3 rfl rfl)
theorem dX2_pass_121 : decode cX2_pass 121 = .ok (.iload_n 2, 1) := dk_28 (dk_at dksX2_pass_5 4 rfl rfl)
theorem dX2_pass_122 : decode cX2_pass 122 = .ok (.isub, 1) := dk_100 (dk_at dksX2_pass_5 5 rfl rfl)
theorem dX2_pass_123 : decode cX2_pass 123 = .ok (.iadd, 1) := dk_96 (dk_at dksX2_pass_5 6 rfl rfl)
theorem dX2_pass_124 : decode cX2_pass 124 = .ok (.putfield 133, 3) := dk_181 0 133 (dk_at dksX2_pass_5 7 rfl rfl)
theorem dX2_pass_127 : decode cX2_pass 127 = .ok (.aload_n 0, 1) := dk_42 (dk_at dksX2_pass_5 10 rfl rfl)
theorem dX2_pass_128 : decode cX2_pass 128 = .ok (.iload_n 1, 1) := dk_27 (dk_at dksX2_pass_5 11 rfl rfl)
theorem dX2_pass_129 : decode cX2_pass 129 = .ok (.putfield 112, 3) := dk_181 0 112 (dk_at dksX2_pass_5 12 rfl rfl)
theorem dX2_pass_132 : decode cX2_pass 132 = .ok (.return_, 1) := dk_177 (dk_at dksX2_pass_5 15 rfl rfl)
abbrev cX2_happen : ByteArray := prog_17_method_19_code
def yX2_happen : MethodName := ⟨RX2, "happen", "()V"⟩
def dkwX2_happen_8 : List UInt8 := [181, 1, 114, 132, 2, 1, 167, 255, 202, 177]
abbrev dktX2_happen_8 : List UInt8 := dkwX2_happen_8 ++ []
def dkwX2_happen_7 : List UInt8 := [154, 0, 6, 167, 0, 24, 45, 180, 1, 62, 153, 0, 11, 42, 28, 182, 1, 150, 167, 0, 9, 45, 16, 252]
abbrev dktX2_happen_7 : List UInt8 := dkwX2_happen_7 ++ dktX2_happen_8
def dkwX2_happen_6 : List UInt8 := [180, 0, 64, 190, 162, 0, 51, 42, 180, 0, 64, 28, 50, 78, 45, 42, 180, 0, 112, 182, 1, 147]
abbrev dktX2_happen_6 : List UInt8 := dkwX2_happen_6 ++ dktX2_happen_7
def dkwX2_happen_5 : List UInt8 := [89, 4, 44, 180, 1, 141, 79, 89, 5, 44, 180, 1, 144, 79, 182, 0, 203, 167, 255, 166, 3, 61, 28, 42]
abbrev dktX2_happen_5 : List UInt8 := dkwX2_happen_5 ++ dktX2_happen_6
def dkwX2_happen_4 : List UInt8 := [185, 0, 150, 2, 0, 87, 42, 178, 1, 136, 44, 180, 1, 139, 6, 188, 10, 89, 3, 44, 180, 1, 140, 79]
abbrev dktX2_happen_4 : List UInt8 := dkwX2_happen_4 ++ dktX2_happen_5
def dkwX2_happen_3 : List UInt8 := [180, 1, 105, 42, 180, 0, 112, 164, 0, 9, 132, 1, 1, 167, 255, 215, 42, 180, 0, 20, 27]
abbrev dktX2_happen_3 : List UInt8 := dkwX2_happen_3 ++ dktX2_happen_4
def dkwX2_happen_2 : List UInt8 := [185, 0, 56, 1, 0, 162, 0, 83, 42, 180, 0, 20, 27, 185, 0, 68, 2, 0, 192, 1, 103, 77, 44]
abbrev dktX2_happen_2 : List UInt8 := dkwX2_happen_2 ++ dktX2_happen_3
def dkwX2_happen_1 : List UInt8 := [42, 43, 182, 1, 133, 42, 182, 1, 95, 76, 167, 255, 231, 3, 60, 27, 42, 180, 0, 20]
abbrev dktX2_happen_1 : List UInt8 := dkwX2_happen_1 ++ dktX2_happen_2
def dkwX2_happen_0 : List UInt8 := [42, 182, 1, 130, 42, 182, 1, 95, 76, 43, 198, 0, 27, 43, 180, 1, 100, 42, 180, 0, 112, 163, 0, 16]
abbrev dktX2_happen_0 : List UInt8 := dkwX2_happen_0 ++ dktX2_happen_1
theorem dksX2_happen_0 : cX2_happen.data.toList.drop 0 = dktX2_happen_0 := by decide +kernel
theorem dksX2_happen_1 : cX2_happen.data.toList.drop 24 = dktX2_happen_1 := dk_seg dksX2_happen_0 24 rfl rfl
theorem dksX2_happen_2 : cX2_happen.data.toList.drop 44 = dktX2_happen_2 := dk_seg dksX2_happen_1 20 rfl rfl
theorem dksX2_happen_3 : cX2_happen.data.toList.drop 67 = dktX2_happen_3 := dk_seg dksX2_happen_2 23 rfl rfl
theorem dksX2_happen_4 : cX2_happen.data.toList.drop 88 = dktX2_happen_4 := dk_seg dksX2_happen_3 21 rfl rfl
theorem dksX2_happen_5 : cX2_happen.data.toList.drop 112 = dktX2_happen_5 := dk_seg dksX2_happen_4 24 rfl rfl
theorem dksX2_happen_6 : cX2_happen.data.toList.drop 136 = dktX2_happen_6 := dk_seg dksX2_happen_5 24 rfl rfl
theorem dksX2_happen_7 : cX2_happen.data.toList.drop 158 = dktX2_happen_7 := dk_seg dksX2_happen_6 22 rfl rfl
theorem dksX2_happen_8 : cX2_happen.data.toList.drop 182 = dktX2_happen_8 := dk_seg dksX2_happen_7 24 rfl rfl
theorem dX2_happen_0 : decode cX2_happen 0 = .ok (.aload_n 0, 1) := dk_42 (dk_at dksX2_happen_0 0 rfl rfl)
theorem dX2_happen_1 : decode cX2_happen 1 = .ok (.invokevirtual 386, 3) := dk_182 1 130 (dk_at dksX2_happen_0 1 rfl rfl)
theorem dX2_happen_4 : decode cX2_happen 4 = .ok (.aload_n 0, 1) := dk_42 (dk_at dksX2_happen_0 4 rfl rfl)
theorem dX2_happen_5 : decode cX2_happen 5 = .ok (.invokevirtual 351, 3) := dk_182 1 95 (dk_at dksX2_happen_0 5 rfl rfl)
theorem dX2_happen_8 : decode cX2_happen 8 = .ok (.astore_n 1, 1) := dk_76 (dk_at dksX2_happen_0 8 rfl rfl)
theorem dX2_happen_9 : decode cX2_happen 9 = .ok (.aload_n 1, 1) := dk_43 (dk_at dksX2_happen_0 9 rfl rfl)
theorem dX2_happen_10 : decode cX2_happen 10 = .ok (.ifnull 27, 3) := dk_198 0 27 (dk_at dksX2_happen_0 10 rfl rfl)
theorem dX2_happen_13 : decode cX2_happen 13 = .ok (.aload_n 1, 1) := dk_43 (dk_at dksX2_happen_0 13 rfl rfl)
theorem dX2_happen_14 : decode cX2_happen 14 = .ok (.getfield 356, 3) := dk_180 1 100 (dk_at dksX2_happen_0 14 rfl rfl)
theorem dX2_happen_17 : decode cX2_happen 17 = .ok (.aload_n 0, 1) := dk_42 (dk_at dksX2_happen_0 17 rfl rfl)
theorem dX2_happen_18 : decode cX2_happen 18 = .ok (.getfield 112, 3) := dk_180 0 112 (dk_at dksX2_happen_0 18 rfl rfl)
theorem dX2_happen_21 : decode cX2_happen 21 = .ok (.if_icmp .gt 16, 3) := dk_163 0 16 (dk_at dksX2_happen_0 21 rfl rfl)
theorem dX2_happen_24 : decode cX2_happen 24 = .ok (.aload_n 0, 1) := dk_42 (dk_at dksX2_happen_1 0 rfl rfl)
theorem dX2_happen_25 : decode cX2_happen 25 = .ok (.aload_n 1, 1) := dk_43 (dk_at dksX2_happen_1 1 rfl rfl)
theorem dX2_happen_26 : decode cX2_happen 26 = .ok (.invokevirtual 389, 3) := dk_182 1 133 (dk_at dksX2_happen_1 2 rfl rfl)
theorem dX2_happen_29 : decode cX2_happen 29 = .ok (.aload_n 0, 1) := dk_42 (dk_at dksX2_happen_1 5 rfl rfl)
theorem dX2_happen_30 : decode cX2_happen 30 = .ok (.invokevirtual 351, 3) := dk_182 1 95 (dk_at dksX2_happen_1 6 rfl rfl)
theorem dX2_happen_33 : decode cX2_happen 33 = .ok (.astore_n 1, 1) := dk_76 (dk_at dksX2_happen_1 9 rfl rfl)
theorem dX2_happen_34 : decode cX2_happen 34 = .ok (.goto (-25), 3) := dk_167 255 231 (dk_at dksX2_happen_1 10 rfl rfl)
theorem dX2_happen_37 : decode cX2_happen 37 = .ok (.iconst 0, 1) := dk_3 (dk_at dksX2_happen_1 13 rfl rfl)
theorem dX2_happen_38 : decode cX2_happen 38 = .ok (.istore_n 1, 1) := dk_60 (dk_at dksX2_happen_1 14 rfl rfl)
theorem dX2_happen_39 : decode cX2_happen 39 = .ok (.iload_n 1, 1) := dk_27 (dk_at dksX2_happen_1 15 rfl rfl)
theorem dX2_happen_40 : decode cX2_happen 40 = .ok (.aload_n 0, 1) := dk_42 (dk_at dksX2_happen_1 16 rfl rfl)
theorem dX2_happen_41 : decode cX2_happen 41 = .ok (.getfield 20, 3) := dk_180 0 20 (dk_at dksX2_happen_1 17 rfl rfl)
theorem dX2_happen_44 : decode cX2_happen 44 = .ok (.invokeinterface 56 1, 5) := by decide +kernel
theorem dX2_happen_49 : decode cX2_happen 49 = .ok (.if_icmp .ge 83, 3) := dk_162 0 83 (dk_at dksX2_happen_2 5 rfl rfl)
theorem dX2_happen_52 : decode cX2_happen 52 = .ok (.aload_n 0, 1) := dk_42 (dk_at dksX2_happen_2 8 rfl rfl)
theorem dX2_happen_53 : decode cX2_happen 53 = .ok (.getfield 20, 3) := dk_180 0 20 (dk_at dksX2_happen_2 9 rfl rfl)
theorem dX2_happen_56 : decode cX2_happen 56 = .ok (.iload_n 1, 1) := dk_27 (dk_at dksX2_happen_2 12 rfl rfl)
theorem dX2_happen_57 : decode cX2_happen 57 = .ok (.invokeinterface 68 2, 5) := by decide +kernel
theorem dX2_happen_62 : decode cX2_happen 62 = .ok (.checkcast 359, 3) := dk_192 1 103 (dk_at dksX2_happen_2 18 rfl rfl)
theorem dX2_happen_65 : decode cX2_happen 65 = .ok (.astore_n 2, 1) := dk_77 (dk_at dksX2_happen_2 21 rfl rfl)
theorem dX2_happen_66 : decode cX2_happen 66 = .ok (.aload_n 2, 1) := dk_44 (dk_at dksX2_happen_2 22 rfl rfl)
theorem dX2_happen_67 : decode cX2_happen 67 = .ok (.getfield 361, 3) := dk_180 1 105 (dk_at dksX2_happen_3 0 rfl rfl)
theorem dX2_happen_70 : decode cX2_happen 70 = .ok (.aload_n 0, 1) := dk_42 (dk_at dksX2_happen_3 3 rfl rfl)
theorem dX2_happen_71 : decode cX2_happen 71 = .ok (.getfield 112, 3) := dk_180 0 112 (dk_at dksX2_happen_3 4 rfl rfl)
theorem dX2_happen_74 : decode cX2_happen 74 = .ok (.if_icmp .le 9, 3) := dk_164 0 9 (dk_at dksX2_happen_3 7 rfl rfl)
theorem dX2_happen_77 : decode cX2_happen 77 = .ok (.iinc 1 1, 3) := dk_132 1 1 (dk_at dksX2_happen_3 10 rfl rfl)
theorem dX2_happen_80 : decode cX2_happen 80 = .ok (.goto (-41), 3) := dk_167 255 215 (dk_at dksX2_happen_3 13 rfl rfl)
theorem dX2_happen_83 : decode cX2_happen 83 = .ok (.aload_n 0, 1) := dk_42 (dk_at dksX2_happen_3 16 rfl rfl)
theorem dX2_happen_84 : decode cX2_happen 84 = .ok (.getfield 20, 3) := dk_180 0 20 (dk_at dksX2_happen_3 17 rfl rfl)
theorem dX2_happen_87 : decode cX2_happen 87 = .ok (.iload_n 1, 1) := dk_27 (dk_at dksX2_happen_3 20 rfl rfl)
theorem dX2_happen_88 : decode cX2_happen 88 = .ok (.invokeinterface 150 2, 5) := by decide +kernel
theorem dX2_happen_93 : decode cX2_happen 93 = .ok (.pop, 1) := dk_87 (dk_at dksX2_happen_4 5 rfl rfl)
theorem dX2_happen_94 : decode cX2_happen 94 = .ok (.aload_n 0, 1) := dk_42 (dk_at dksX2_happen_4 6 rfl rfl)
theorem dX2_happen_95 : decode cX2_happen 95 = .ok (.getstatic 392, 3) := dk_178 1 136 (dk_at dksX2_happen_4 7 rfl rfl)
theorem dX2_happen_98 : decode cX2_happen 98 = .ok (.aload_n 2, 1) := dk_44 (dk_at dksX2_happen_4 10 rfl rfl)
theorem dX2_happen_99 : decode cX2_happen 99 = .ok (.getfield 395, 3) := dk_180 1 139 (dk_at dksX2_happen_4 11 rfl rfl)
theorem dX2_happen_102 : decode cX2_happen 102 = .ok (.iconst 3, 1) := dk_6 (dk_at dksX2_happen_4 14 rfl rfl)
theorem dX2_happen_103 : decode cX2_happen 103 = .ok (.newarray .int, 2) := dk_188_10 (dk_at dksX2_happen_4 15 rfl rfl)
theorem dX2_happen_105 : decode cX2_happen 105 = .ok (.dup, 1) := dk_89 (dk_at dksX2_happen_4 17 rfl rfl)
theorem dX2_happen_106 : decode cX2_happen 106 = .ok (.iconst 0, 1) := dk_3 (dk_at dksX2_happen_4 18 rfl rfl)
theorem dX2_happen_107 : decode cX2_happen 107 = .ok (.aload_n 2, 1) := dk_44 (dk_at dksX2_happen_4 19 rfl rfl)
theorem dX2_happen_108 : decode cX2_happen 108 = .ok (.getfield 396, 3) := dk_180 1 140 (dk_at dksX2_happen_4 20 rfl rfl)
theorem dX2_happen_111 : decode cX2_happen 111 = .ok (.iastore, 1) := dk_79 (dk_at dksX2_happen_4 23 rfl rfl)
theorem dX2_happen_112 : decode cX2_happen 112 = .ok (.dup, 1) := dk_89 (dk_at dksX2_happen_5 0 rfl rfl)
theorem dX2_happen_113 : decode cX2_happen 113 = .ok (.iconst 1, 1) := dk_4 (dk_at dksX2_happen_5 1 rfl rfl)
theorem dX2_happen_114 : decode cX2_happen 114 = .ok (.aload_n 2, 1) := dk_44 (dk_at dksX2_happen_5 2 rfl rfl)
theorem dX2_happen_115 : decode cX2_happen 115 = .ok (.getfield 397, 3) := dk_180 1 141 (dk_at dksX2_happen_5 3 rfl rfl)
theorem dX2_happen_118 : decode cX2_happen 118 = .ok (.iastore, 1) := dk_79 (dk_at dksX2_happen_5 6 rfl rfl)
theorem dX2_happen_119 : decode cX2_happen 119 = .ok (.dup, 1) := dk_89 (dk_at dksX2_happen_5 7 rfl rfl)
theorem dX2_happen_120 : decode cX2_happen 120 = .ok (.iconst 2, 1) := dk_5 (dk_at dksX2_happen_5 8 rfl rfl)
theorem dX2_happen_121 : decode cX2_happen 121 = .ok (.aload_n 2, 1) := dk_44 (dk_at dksX2_happen_5 9 rfl rfl)
theorem dX2_happen_122 : decode cX2_happen 122 = .ok (.getfield 400, 3) := dk_180 1 144 (dk_at dksX2_happen_5 10 rfl rfl)
theorem dX2_happen_125 : decode cX2_happen 125 = .ok (.iastore, 1) := dk_79 (dk_at dksX2_happen_5 13 rfl rfl)
theorem dX2_happen_126 : decode cX2_happen 126 = .ok (.invokevirtual 203, 3) := dk_182 0 203 (dk_at dksX2_happen_5 14 rfl rfl)
theorem dX2_happen_129 : decode cX2_happen 129 = .ok (.goto (-90), 3) := dk_167 255 166 (dk_at dksX2_happen_5 17 rfl rfl)
theorem dX2_happen_132 : decode cX2_happen 132 = .ok (.iconst 0, 1) := dk_3 (dk_at dksX2_happen_5 20 rfl rfl)
theorem dX2_happen_133 : decode cX2_happen 133 = .ok (.istore_n 2, 1) := dk_61 (dk_at dksX2_happen_5 21 rfl rfl)
theorem dX2_happen_134 : decode cX2_happen 134 = .ok (.iload_n 2, 1) := dk_28 (dk_at dksX2_happen_5 22 rfl rfl)
theorem dX2_happen_135 : decode cX2_happen 135 = .ok (.aload_n 0, 1) := dk_42 (dk_at dksX2_happen_5 23 rfl rfl)
theorem dX2_happen_136 : decode cX2_happen 136 = .ok (.getfield 64, 3) := dk_180 0 64 (dk_at dksX2_happen_6 0 rfl rfl)
theorem dX2_happen_139 : decode cX2_happen 139 = .ok (.arraylength, 1) := dk_190 (dk_at dksX2_happen_6 3 rfl rfl)
theorem dX2_happen_140 : decode cX2_happen 140 = .ok (.if_icmp .ge 51, 3) := dk_162 0 51 (dk_at dksX2_happen_6 4 rfl rfl)
theorem dX2_happen_143 : decode cX2_happen 143 = .ok (.aload_n 0, 1) := dk_42 (dk_at dksX2_happen_6 7 rfl rfl)
theorem dX2_happen_144 : decode cX2_happen 144 = .ok (.getfield 64, 3) := dk_180 0 64 (dk_at dksX2_happen_6 8 rfl rfl)
theorem dX2_happen_147 : decode cX2_happen 147 = .ok (.iload_n 2, 1) := dk_28 (dk_at dksX2_happen_6 11 rfl rfl)
theorem dX2_happen_148 : decode cX2_happen 148 = .ok (.aaload, 1) := dk_50 (dk_at dksX2_happen_6 12 rfl rfl)
theorem dX2_happen_149 : decode cX2_happen 149 = .ok (.astore_n 3, 1) := dk_78 (dk_at dksX2_happen_6 13 rfl rfl)
theorem dX2_happen_150 : decode cX2_happen 150 = .ok (.aload_n 3, 1) := dk_45 (dk_at dksX2_happen_6 14 rfl rfl)
theorem dX2_happen_151 : decode cX2_happen 151 = .ok (.aload_n 0, 1) := dk_42 (dk_at dksX2_happen_6 15 rfl rfl)
theorem dX2_happen_152 : decode cX2_happen 152 = .ok (.getfield 112, 3) := dk_180 0 112 (dk_at dksX2_happen_6 16 rfl rfl)
theorem dX2_happen_155 : decode cX2_happen 155 = .ok (.invokevirtual 403, 3) := dk_182 1 147 (dk_at dksX2_happen_6 19 rfl rfl)
theorem dX2_happen_158 : decode cX2_happen 158 = .ok (.ifCond .ne 6, 3) := dk_154 0 6 (dk_at dksX2_happen_7 0 rfl rfl)
theorem dX2_happen_161 : decode cX2_happen 161 = .ok (.goto 24, 3) := dk_167 0 24 (dk_at dksX2_happen_7 3 rfl rfl)
theorem dX2_happen_164 : decode cX2_happen 164 = .ok (.aload_n 3, 1) := dk_45 (dk_at dksX2_happen_7 6 rfl rfl)
theorem dX2_happen_165 : decode cX2_happen 165 = .ok (.getfield 318, 3) := dk_180 1 62 (dk_at dksX2_happen_7 7 rfl rfl)
theorem dX2_happen_168 : decode cX2_happen 168 = .ok (.ifCond .eq 11, 3) := dk_153 0 11 (dk_at dksX2_happen_7 10 rfl rfl)
theorem dX2_happen_171 : decode cX2_happen 171 = .ok (.aload_n 0, 1) := dk_42 (dk_at dksX2_happen_7 13 rfl rfl)
theorem dX2_happen_172 : decode cX2_happen 172 = .ok (.iload_n 2, 1) := dk_28 (dk_at dksX2_happen_7 14 rfl rfl)
theorem dX2_happen_173 : decode cX2_happen 173 = .ok (.invokevirtual 406, 3) := dk_182 1 150 (dk_at dksX2_happen_7 15 rfl rfl)
theorem dX2_happen_176 : decode cX2_happen 176 = .ok (.goto 9, 3) := dk_167 0 9 (dk_at dksX2_happen_7 18 rfl rfl)
theorem dX2_happen_179 : decode cX2_happen 179 = .ok (.aload_n 3, 1) := dk_45 (dk_at dksX2_happen_7 21 rfl rfl)
theorem dX2_happen_180 : decode cX2_happen 180 = .ok (.bipush (-4), 2) := dk_16 252 (dk_at dksX2_happen_7 22 rfl rfl)
theorem dX2_happen_182 : decode cX2_happen 182 = .ok (.putfield 370, 3) := dk_181 1 114 (dk_at dksX2_happen_8 0 rfl rfl)
theorem dX2_happen_185 : decode cX2_happen 185 = .ok (.iinc 2 1, 3) := dk_132 2 1 (dk_at dksX2_happen_8 3 rfl rfl)
theorem dX2_happen_188 : decode cX2_happen 188 = .ok (.goto (-54), 3) := dk_167 255 202 (dk_at dksX2_happen_8 6 rfl rfl)
theorem dX2_happen_191 : decode cX2_happen 191 = .ok (.return_, 1) := dk_177 (dk_at dksX2_happen_8 9 rfl rfl)
abbrev cX2_changeLinks : ByteArray := prog_17_method_18_code
def yX2_changeLinks : MethodName := ⟨RX2, "changeLinks", "()V"⟩
def dkwX2_changeLinks_4 : List UInt8 := [132, 1, 1, 167, 255, 164, 177]
abbrev dktX2_changeLinks_4 : List UInt8 := dkwX2_changeLinks_4 ++ []
def dkwX2_changeLinks_3 : List UInt8 := [44, 180, 1, 126, 50, 3, 181, 0, 175, 42, 180, 0, 23, 27, 185, 0, 150, 2, 0, 87, 167, 0, 6]
abbrev dktX2_changeLinks_3 : List UInt8 := dkwX2_changeLinks_3 ++ dktX2_changeLinks_4
def dkwX2_changeLinks_2 : List UInt8 := [44, 180, 1, 126, 50, 4, 181, 0, 175, 44, 180, 1, 127, 42, 180, 0, 112, 160, 0, 30, 42, 180, 0, 64]
abbrev dktX2_changeLinks_2 : List UInt8 := dkwX2_changeLinks_2 ++ dktX2_changeLinks_3
def dkwX2_changeLinks_1 : List UInt8 := [185, 0, 68, 2, 0, 192, 1, 109, 77, 44, 180, 1, 123, 42, 180, 0, 112, 160, 0, 16, 42, 180, 0, 64]
abbrev dktX2_changeLinks_1 : List UInt8 := dkwX2_changeLinks_1 ++ dktX2_changeLinks_2
def dkwX2_changeLinks_0 : List UInt8 := [3, 60, 27, 42, 180, 0, 23, 185, 0, 56, 1, 0, 162, 0, 85, 42, 180, 0, 23, 27]
abbrev dktX2_changeLinks_0 : List UInt8 := dkwX2_changeLinks_0 ++ dktX2_changeLinks_1
theorem dksX2_changeLinks_0 : cX2_changeLinks.data.toList.drop 0 = dktX2_changeLinks_0 := by decide +kernel
theorem dksX2_changeLinks_1 : cX2_changeLinks.data.toList.drop 20 = dktX2_changeLinks_1 := dk_seg dksX2_changeLinks_0 20 rfl rfl
theorem dksX2_changeLinks_2 : cX2_changeLinks.data.toList.drop 44 = dktX2_changeLinks_2 := dk_seg dksX2_changeLinks_1 24 rfl rfl
theorem dksX2_changeLinks_3 : cX2_changeLinks.data.toList.drop 68 = dktX2_changeLinks_3 := dk_seg dksX2_changeLinks_2 24 rfl rfl
theorem dksX2_changeLinks_4 : cX2_changeLinks.data.toList.drop 91 = dktX2_changeLinks_4 := dk_seg dksX2_changeLinks_3 23 rfl rfl
theorem dX2_changeLinks_0 : decode cX2_changeLinks 0 = .ok (.iconst 0, 1) := dk_3 (dk_at dksX2_changeLinks_0 0 rfl rfl)
theorem dX2_changeLinks_1 : decode cX2_changeLinks 1 = .ok (.istore_n 1, 1) := dk_60 (dk_at dksX2_changeLinks_0 1 rfl rfl)
theorem dX2_changeLinks_2 : decode cX2_changeLinks 2 = .ok (.iload_n 1, 1) := dk_27 (dk_at dksX2_changeLinks_0 2 rfl rfl)
theorem dX2_changeLinks_3 : decode cX2_changeLinks 3 = .ok (.aload_n 0, 1) := dk_42 (dk_at dksX2_changeLinks_0 3 rfl rfl)
theorem dX2_changeLinks_4 : decode cX2_changeLinks 4 = .ok (.getfield 23, 3) := dk_180 0 23 (dk_at dksX2_changeLinks_0 4 rfl rfl)
theorem dX2_changeLinks_7 : decode cX2_changeLinks 7 = .ok (.invokeinterface 56 1, 5) := by decide +kernel
theorem dX2_changeLinks_12 : decode cX2_changeLinks 12 = .ok (.if_icmp .ge 85, 3) := dk_162 0 85 (dk_at dksX2_changeLinks_0 12 rfl rfl)
theorem dX2_changeLinks_15 : decode cX2_changeLinks 15 = .ok (.aload_n 0, 1) := dk_42 (dk_at dksX2_changeLinks_0 15 rfl rfl)
theorem dX2_changeLinks_16 : decode cX2_changeLinks 16 = .ok (.getfield 23, 3) := dk_180 0 23 (dk_at dksX2_changeLinks_0 16 rfl rfl)
theorem dX2_changeLinks_19 : decode cX2_changeLinks 19 = .ok (.iload_n 1, 1) := dk_27 (dk_at dksX2_changeLinks_0 19 rfl rfl)
theorem dX2_changeLinks_20 : decode cX2_changeLinks 20 = .ok (.invokeinterface 68 2, 5) := by decide +kernel
theorem dX2_changeLinks_25 : decode cX2_changeLinks 25 = .ok (.checkcast 365, 3) := dk_192 1 109 (dk_at dksX2_changeLinks_1 5 rfl rfl)
theorem dX2_changeLinks_28 : decode cX2_changeLinks 28 = .ok (.astore_n 2, 1) := dk_77 (dk_at dksX2_changeLinks_1 8 rfl rfl)
theorem dX2_changeLinks_29 : decode cX2_changeLinks 29 = .ok (.aload_n 2, 1) := dk_44 (dk_at dksX2_changeLinks_1 9 rfl rfl)
theorem dX2_changeLinks_30 : decode cX2_changeLinks 30 = .ok (.getfield 379, 3) := dk_180 1 123 (dk_at dksX2_changeLinks_1 10 rfl rfl)
theorem dX2_changeLinks_33 : decode cX2_changeLinks 33 = .ok (.aload_n 0, 1) := dk_42 (dk_at dksX2_changeLinks_1 13 rfl rfl)
theorem dX2_changeLinks_34 : decode cX2_changeLinks 34 = .ok (.getfield 112, 3) := dk_180 0 112 (dk_at dksX2_changeLinks_1 14 rfl rfl)
theorem dX2_changeLinks_37 : decode cX2_changeLinks 37 = .ok (.if_icmp .ne 16, 3) := dk_160 0 16 (dk_at dksX2_changeLinks_1 17 rfl rfl)
theorem dX2_changeLinks_40 : decode cX2_changeLinks 40 = .ok (.aload_n 0, 1) := dk_42 (dk_at dksX2_changeLinks_1 20 rfl rfl)
theorem dX2_changeLinks_41 : decode cX2_changeLinks 41 = .ok (.getfield 64, 3) := dk_180 0 64 (dk_at dksX2_changeLinks_1 21 rfl rfl)
theorem dX2_changeLinks_44 : decode cX2_changeLinks 44 = .ok (.aload_n 2, 1) := dk_44 (dk_at dksX2_changeLinks_2 0 rfl rfl)
theorem dX2_changeLinks_45 : decode cX2_changeLinks 45 = .ok (.getfield 382, 3) := dk_180 1 126 (dk_at dksX2_changeLinks_2 1 rfl rfl)
theorem dX2_changeLinks_48 : decode cX2_changeLinks 48 = .ok (.aaload, 1) := dk_50 (dk_at dksX2_changeLinks_2 4 rfl rfl)
theorem dX2_changeLinks_49 : decode cX2_changeLinks 49 = .ok (.iconst 1, 1) := dk_4 (dk_at dksX2_changeLinks_2 5 rfl rfl)
theorem dX2_changeLinks_50 : decode cX2_changeLinks 50 = .ok (.putfield 175, 3) := dk_181 0 175 (dk_at dksX2_changeLinks_2 6 rfl rfl)
theorem dX2_changeLinks_53 : decode cX2_changeLinks 53 = .ok (.aload_n 2, 1) := dk_44 (dk_at dksX2_changeLinks_2 9 rfl rfl)
theorem dX2_changeLinks_54 : decode cX2_changeLinks 54 = .ok (.getfield 383, 3) := dk_180 1 127 (dk_at dksX2_changeLinks_2 10 rfl rfl)
theorem dX2_changeLinks_57 : decode cX2_changeLinks 57 = .ok (.aload_n 0, 1) := dk_42 (dk_at dksX2_changeLinks_2 13 rfl rfl)
theorem dX2_changeLinks_58 : decode cX2_changeLinks 58 = .ok (.getfield 112, 3) := dk_180 0 112 (dk_at dksX2_changeLinks_2 14 rfl rfl)
theorem dX2_changeLinks_61 : decode cX2_changeLinks 61 = .ok (.if_icmp .ne 30, 3) := dk_160 0 30 (dk_at dksX2_changeLinks_2 17 rfl rfl)
theorem dX2_changeLinks_64 : decode cX2_changeLinks 64 = .ok (.aload_n 0, 1) := dk_42 (dk_at dksX2_changeLinks_2 20 rfl rfl)
theorem dX2_changeLinks_65 : decode cX2_changeLinks 65 = .ok (.getfield 64, 3) := dk_180 0 64 (dk_at dksX2_changeLinks_2 21 rfl rfl)
theorem dX2_changeLinks_68 : decode cX2_changeLinks 68 = .ok (.aload_n 2, 1) := dk_44 (dk_at dksX2_changeLinks_3 0 rfl rfl)
theorem dX2_changeLinks_69 : decode cX2_changeLinks 69 = .ok (.getfield 382, 3) := dk_180 1 126 (dk_at dksX2_changeLinks_3 1 rfl rfl)
theorem dX2_changeLinks_72 : decode cX2_changeLinks 72 = .ok (.aaload, 1) := dk_50 (dk_at dksX2_changeLinks_3 4 rfl rfl)
theorem dX2_changeLinks_73 : decode cX2_changeLinks 73 = .ok (.iconst 0, 1) := dk_3 (dk_at dksX2_changeLinks_3 5 rfl rfl)
theorem dX2_changeLinks_74 : decode cX2_changeLinks 74 = .ok (.putfield 175, 3) := dk_181 0 175 (dk_at dksX2_changeLinks_3 6 rfl rfl)
theorem dX2_changeLinks_77 : decode cX2_changeLinks 77 = .ok (.aload_n 0, 1) := dk_42 (dk_at dksX2_changeLinks_3 9 rfl rfl)
theorem dX2_changeLinks_78 : decode cX2_changeLinks 78 = .ok (.getfield 23, 3) := dk_180 0 23 (dk_at dksX2_changeLinks_3 10 rfl rfl)
theorem dX2_changeLinks_81 : decode cX2_changeLinks 81 = .ok (.iload_n 1, 1) := dk_27 (dk_at dksX2_changeLinks_3 13 rfl rfl)
theorem dX2_changeLinks_82 : decode cX2_changeLinks 82 = .ok (.invokeinterface 150 2, 5) := by decide +kernel
theorem dX2_changeLinks_87 : decode cX2_changeLinks 87 = .ok (.pop, 1) := dk_87 (dk_at dksX2_changeLinks_3 19 rfl rfl)
theorem dX2_changeLinks_88 : decode cX2_changeLinks 88 = .ok (.goto 6, 3) := dk_167 0 6 (dk_at dksX2_changeLinks_3 20 rfl rfl)
theorem dX2_changeLinks_91 : decode cX2_changeLinks 91 = .ok (.iinc 1 1, 3) := dk_132 1 1 (dk_at dksX2_changeLinks_4 0 rfl rfl)
theorem dX2_changeLinks_94 : decode cX2_changeLinks 94 = .ok (.goto (-92), 3) := dk_167 255 164 (dk_at dksX2_changeLinks_4 3 rfl rfl)
theorem dX2_changeLinks_97 : decode cX2_changeLinks 97 = .ok (.return_, 1) := dk_177 (dk_at dksX2_changeLinks_4 6 rfl rfl)
abbrev cX2_arrive : ByteArray := prog_17_method_8_code
def yX2_arrive : MethodName := ⟨RX2, "arrive", "(LLeaderLeases$Message;)V"⟩
def dkwX2_arrive_4 : List UInt8 := [180, 0, 234, 182, 0, 237, 185, 0, 158, 2, 0, 87, 167, 0, 8, 42, 43, 182, 0, 241, 177]
abbrev dktX2_arrive_4 : List UInt8 := dkwX2_arrive_4 ++ []
def dkwX2_arrive_3 : List UInt8 := [182, 0, 219, 153, 0, 35, 44, 42, 180, 0, 112, 182, 0, 230, 153, 0, 24, 42, 180, 0, 14, 43, 44]
abbrev dktX2_arrive_3 : List UInt8 := dkwX2_arrive_3 ++ dktX2_arrive_4
def dkwX2_arrive_2 : List UInt8 := [89, 180, 0, 118, 4, 96, 181, 0, 118, 42, 43, 5, 182, 0, 226, 167, 0, 50, 43, 180, 0, 216]
abbrev dktX2_arrive_2 : List UInt8 := dkwX2_arrive_2 ++ dktX2_arrive_3
def dkwX2_arrive_1 : List UInt8 := [180, 0, 175, 154, 0, 20, 43, 180, 0, 216, 182, 0, 219, 153, 0, 29, 44, 180, 0, 223, 154, 0, 22, 42]
abbrev dktX2_arrive_1 : List UInt8 := dkwX2_arrive_1 ++ dktX2_arrive_2
def dkwX2_arrive_0 : List UInt8 := [42, 180, 0, 14, 43, 185, 0, 211, 2, 0, 87, 42, 180, 0, 64, 43, 180, 0, 213, 50, 77, 44]
abbrev dktX2_arrive_0 : List UInt8 := dkwX2_arrive_0 ++ dktX2_arrive_1
theorem dksX2_arrive_0 : cX2_arrive.data.toList.drop 0 = dktX2_arrive_0 := by decide +kernel
theorem dksX2_arrive_1 : cX2_arrive.data.toList.drop 22 = dktX2_arrive_1 := dk_seg dksX2_arrive_0 22 rfl rfl
theorem dksX2_arrive_2 : cX2_arrive.data.toList.drop 46 = dktX2_arrive_2 := dk_seg dksX2_arrive_1 24 rfl rfl
theorem dksX2_arrive_3 : cX2_arrive.data.toList.drop 68 = dktX2_arrive_3 := dk_seg dksX2_arrive_2 22 rfl rfl
theorem dksX2_arrive_4 : cX2_arrive.data.toList.drop 91 = dktX2_arrive_4 := dk_seg dksX2_arrive_3 23 rfl rfl
theorem dX2_arrive_0 : decode cX2_arrive 0 = .ok (.aload_n 0, 1) := dk_42 (dk_at dksX2_arrive_0 0 rfl rfl)
theorem dX2_arrive_1 : decode cX2_arrive 1 = .ok (.getfield 14, 3) := dk_180 0 14 (dk_at dksX2_arrive_0 1 rfl rfl)
theorem dX2_arrive_4 : decode cX2_arrive 4 = .ok (.aload_n 1, 1) := dk_43 (dk_at dksX2_arrive_0 4 rfl rfl)
theorem dX2_arrive_5 : decode cX2_arrive 5 = .ok (.invokeinterface 211 2, 5) := by decide +kernel
theorem dX2_arrive_10 : decode cX2_arrive 10 = .ok (.pop, 1) := dk_87 (dk_at dksX2_arrive_0 10 rfl rfl)
theorem dX2_arrive_11 : decode cX2_arrive 11 = .ok (.aload_n 0, 1) := dk_42 (dk_at dksX2_arrive_0 11 rfl rfl)
theorem dX2_arrive_12 : decode cX2_arrive 12 = .ok (.getfield 64, 3) := dk_180 0 64 (dk_at dksX2_arrive_0 12 rfl rfl)
theorem dX2_arrive_15 : decode cX2_arrive 15 = .ok (.aload_n 1, 1) := dk_43 (dk_at dksX2_arrive_0 15 rfl rfl)
theorem dX2_arrive_16 : decode cX2_arrive 16 = .ok (.getfield 213, 3) := dk_180 0 213 (dk_at dksX2_arrive_0 16 rfl rfl)
theorem dX2_arrive_19 : decode cX2_arrive 19 = .ok (.aaload, 1) := dk_50 (dk_at dksX2_arrive_0 19 rfl rfl)
theorem dX2_arrive_20 : decode cX2_arrive 20 = .ok (.astore_n 2, 1) := dk_77 (dk_at dksX2_arrive_0 20 rfl rfl)
theorem dX2_arrive_21 : decode cX2_arrive 21 = .ok (.aload_n 2, 1) := dk_44 (dk_at dksX2_arrive_0 21 rfl rfl)
theorem dX2_arrive_22 : decode cX2_arrive 22 = .ok (.getfield 175, 3) := dk_180 0 175 (dk_at dksX2_arrive_1 0 rfl rfl)
theorem dX2_arrive_25 : decode cX2_arrive 25 = .ok (.ifCond .ne 20, 3) := dk_154 0 20 (dk_at dksX2_arrive_1 3 rfl rfl)
theorem dX2_arrive_28 : decode cX2_arrive 28 = .ok (.aload_n 1, 1) := dk_43 (dk_at dksX2_arrive_1 6 rfl rfl)
theorem dX2_arrive_29 : decode cX2_arrive 29 = .ok (.getfield 216, 3) := dk_180 0 216 (dk_at dksX2_arrive_1 7 rfl rfl)
theorem dX2_arrive_32 : decode cX2_arrive 32 = .ok (.invokevirtual 219, 3) := dk_182 0 219 (dk_at dksX2_arrive_1 10 rfl rfl)
theorem dX2_arrive_35 : decode cX2_arrive 35 = .ok (.ifCond .eq 29, 3) := dk_153 0 29 (dk_at dksX2_arrive_1 13 rfl rfl)
theorem dX2_arrive_38 : decode cX2_arrive 38 = .ok (.aload_n 2, 1) := dk_44 (dk_at dksX2_arrive_1 16 rfl rfl)
theorem dX2_arrive_39 : decode cX2_arrive 39 = .ok (.getfield 223, 3) := dk_180 0 223 (dk_at dksX2_arrive_1 17 rfl rfl)
theorem dX2_arrive_42 : decode cX2_arrive 42 = .ok (.ifCond .ne 22, 3) := dk_154 0 22 (dk_at dksX2_arrive_1 20 rfl rfl)
theorem dX2_arrive_45 : decode cX2_arrive 45 = .ok (.aload_n 0, 1) := dk_42 (dk_at dksX2_arrive_1 23 rfl rfl)
theorem dX2_arrive_46 : decode cX2_arrive 46 = .ok (.dup, 1) := dk_89 (dk_at dksX2_arrive_2 0 rfl rfl)
theorem dX2_arrive_47 : decode cX2_arrive 47 = .ok (.getfield 118, 3) := dk_180 0 118 (dk_at dksX2_arrive_2 1 rfl rfl)
theorem dX2_arrive_50 : decode cX2_arrive 50 = .ok (.iconst 1, 1) := dk_4 (dk_at dksX2_arrive_2 4 rfl rfl)
theorem dX2_arrive_51 : decode cX2_arrive 51 = .ok (.iadd, 1) := dk_96 (dk_at dksX2_arrive_2 5 rfl rfl)
theorem dX2_arrive_52 : decode cX2_arrive 52 = .ok (.putfield 118, 3) := dk_181 0 118 (dk_at dksX2_arrive_2 6 rfl rfl)
theorem dX2_arrive_55 : decode cX2_arrive 55 = .ok (.aload_n 0, 1) := dk_42 (dk_at dksX2_arrive_2 9 rfl rfl)
theorem dX2_arrive_56 : decode cX2_arrive 56 = .ok (.aload_n 1, 1) := dk_43 (dk_at dksX2_arrive_2 10 rfl rfl)
theorem dX2_arrive_57 : decode cX2_arrive 57 = .ok (.iconst 2, 1) := dk_5 (dk_at dksX2_arrive_2 11 rfl rfl)
theorem dX2_arrive_58 : decode cX2_arrive 58 = .ok (.invokevirtual 226, 3) := dk_182 0 226 (dk_at dksX2_arrive_2 12 rfl rfl)
theorem dX2_arrive_61 : decode cX2_arrive 61 = .ok (.goto 50, 3) := dk_167 0 50 (dk_at dksX2_arrive_2 15 rfl rfl)
theorem dX2_arrive_64 : decode cX2_arrive 64 = .ok (.aload_n 1, 1) := dk_43 (dk_at dksX2_arrive_2 18 rfl rfl)
theorem dX2_arrive_65 : decode cX2_arrive 65 = .ok (.getfield 216, 3) := dk_180 0 216 (dk_at dksX2_arrive_2 19 rfl rfl)
theorem dX2_arrive_68 : decode cX2_arrive 68 = .ok (.invokevirtual 219, 3) := dk_182 0 219 (dk_at dksX2_arrive_3 0 rfl rfl)
theorem dX2_arrive_71 : decode cX2_arrive 71 = .ok (.ifCond .eq 35, 3) := dk_153 0 35 (dk_at dksX2_arrive_3 3 rfl rfl)
theorem dX2_arrive_74 : decode cX2_arrive 74 = .ok (.aload_n 2, 1) := dk_44 (dk_at dksX2_arrive_3 6 rfl rfl)
theorem dX2_arrive_75 : decode cX2_arrive 75 = .ok (.aload_n 0, 1) := dk_42 (dk_at dksX2_arrive_3 7 rfl rfl)
theorem dX2_arrive_76 : decode cX2_arrive 76 = .ok (.getfield 112, 3) := dk_180 0 112 (dk_at dksX2_arrive_3 8 rfl rfl)
theorem dX2_arrive_79 : decode cX2_arrive 79 = .ok (.invokevirtual 230, 3) := dk_182 0 230 (dk_at dksX2_arrive_3 11 rfl rfl)
theorem dX2_arrive_82 : decode cX2_arrive 82 = .ok (.ifCond .eq 24, 3) := dk_153 0 24 (dk_at dksX2_arrive_3 14 rfl rfl)
theorem dX2_arrive_85 : decode cX2_arrive 85 = .ok (.aload_n 0, 1) := dk_42 (dk_at dksX2_arrive_3 17 rfl rfl)
theorem dX2_arrive_86 : decode cX2_arrive 86 = .ok (.getfield 14, 3) := dk_180 0 14 (dk_at dksX2_arrive_3 18 rfl rfl)
theorem dX2_arrive_89 : decode cX2_arrive 89 = .ok (.aload_n 1, 1) := dk_43 (dk_at dksX2_arrive_3 21 rfl rfl)
theorem dX2_arrive_90 : decode cX2_arrive 90 = .ok (.aload_n 2, 1) := dk_44 (dk_at dksX2_arrive_3 22 rfl rfl)
theorem dX2_arrive_91 : decode cX2_arrive 91 = .ok (.getfield 234, 3) := dk_180 0 234 (dk_at dksX2_arrive_4 0 rfl rfl)
theorem dX2_arrive_94 : decode cX2_arrive 94 = .ok (.invokevirtual 237, 3) := dk_182 0 237 (dk_at dksX2_arrive_4 3 rfl rfl)
theorem dX2_arrive_97 : decode cX2_arrive 97 = .ok (.invokeinterface 158 2, 5) := by decide +kernel
theorem dX2_arrive_102 : decode cX2_arrive 102 = .ok (.pop, 1) := dk_87 (dk_at dksX2_arrive_4 11 rfl rfl)
theorem dX2_arrive_103 : decode cX2_arrive 103 = .ok (.goto 8, 3) := dk_167 0 8 (dk_at dksX2_arrive_4 12 rfl rfl)
theorem dX2_arrive_106 : decode cX2_arrive 106 = .ok (.aload_n 0, 1) := dk_42 (dk_at dksX2_arrive_4 15 rfl rfl)
theorem dX2_arrive_107 : decode cX2_arrive 107 = .ok (.aload_n 1, 1) := dk_43 (dk_at dksX2_arrive_4 16 rfl rfl)
theorem dX2_arrive_108 : decode cX2_arrive 108 = .ok (.invokevirtual 241, 3) := dk_182 0 241 (dk_at dksX2_arrive_4 17 rfl rfl)
theorem dX2_arrive_111 : decode cX2_arrive 111 = .ok (.return_, 1) := dk_177 (dk_at dksX2_arrive_4 20 rfl rfl)
abbrev cX2_watch : ByteArray := prog_17_method_27_code
def yX2_watch : MethodName := ⟨RX2, "watch", "(LLeaderLeases$Message;I)V"⟩
def dkwX2_watch_0 : List UInt8 := [42, 43, 180, 1, 181, 42, 180, 1, 175, 160, 0, 7, 28, 167, 0, 7, 42, 180, 0, 44, 181, 0, 44, 177]
abbrev dktX2_watch_0 : List UInt8 := dkwX2_watch_0 ++ []
theorem dksX2_watch_0 : cX2_watch.data.toList.drop 0 = dktX2_watch_0 := by decide +kernel
theorem dX2_watch_0 : decode cX2_watch 0 = .ok (.aload_n 0, 1) := dk_42 (dk_at dksX2_watch_0 0 rfl rfl)
theorem dX2_watch_1 : decode cX2_watch 1 = .ok (.aload_n 1, 1) := dk_43 (dk_at dksX2_watch_0 1 rfl rfl)
theorem dX2_watch_2 : decode cX2_watch 2 = .ok (.getfield 437, 3) := dk_180 1 181 (dk_at dksX2_watch_0 2 rfl rfl)
theorem dX2_watch_5 : decode cX2_watch 5 = .ok (.aload_n 0, 1) := dk_42 (dk_at dksX2_watch_0 5 rfl rfl)
theorem dX2_watch_6 : decode cX2_watch 6 = .ok (.getfield 431, 3) := dk_180 1 175 (dk_at dksX2_watch_0 6 rfl rfl)
theorem dX2_watch_9 : decode cX2_watch 9 = .ok (.if_icmp .ne 7, 3) := dk_160 0 7 (dk_at dksX2_watch_0 9 rfl rfl)
theorem dX2_watch_12 : decode cX2_watch 12 = .ok (.iload_n 2, 1) := dk_28 (dk_at dksX2_watch_0 12 rfl rfl)
theorem dX2_watch_13 : decode cX2_watch 13 = .ok (.goto 7, 3) := dk_167 0 7 (dk_at dksX2_watch_0 13 rfl rfl)
theorem dX2_watch_16 : decode cX2_watch 16 = .ok (.aload_n 0, 1) := dk_42 (dk_at dksX2_watch_0 16 rfl rfl)
theorem dX2_watch_17 : decode cX2_watch 17 = .ok (.getfield 44, 3) := dk_180 0 44 (dk_at dksX2_watch_0 17 rfl rfl)
theorem dX2_watch_20 : decode cX2_watch 20 = .ok (.putfield 44, 3) := dk_181 0 44 (dk_at dksX2_watch_0 20 rfl rfl)
theorem dX2_watch_23 : decode cX2_watch 23 = .ok (.return_, 1) := dk_177 (dk_at dksX2_watch_0 23 rfl rfl)
abbrev cX2_handle : ByteArray := prog_17_method_9_code
def yX2_handle : MethodName := ⟨RX2, "handle", "(LLeaderLeases$Message;)V"⟩
def dkwX2_handle_5 : List UInt8 := [182, 1, 5, 177]
abbrev dktX2_handle_5 : List UInt8 := dkwX2_handle_5 ++ []
def dkwX2_handle_4 : List UInt8 := [167, 0, 25, 42, 43, 182, 1, 2, 167, 0, 17, 42, 43, 42, 180, 0, 64, 43, 180, 0, 213, 50]
abbrev dktX2_handle_4 : List UInt8 := dkwX2_handle_4 ++ dktX2_handle_5
def dkwX2_handle_3 : List UInt8 := [16, 252, 159, 0, 16, 42, 7, 43, 180, 0, 213, 43, 180, 0, 251, 182, 0, 254, 42, 16, 252, 181, 0, 40]
abbrev dktX2_handle_3 : List UInt8 := dkwX2_handle_3 ++ dktX2_handle_4
def dkwX2_handle_2 : List UInt8 := [42, 43, 182, 0, 248, 167, 0, 68, 43, 180, 0, 251, 42, 180, 0, 124, 159, 0, 4, 177, 42, 180, 0, 40]
abbrev dktX2_handle_2 : List UInt8 := dkwX2_handle_2 ++ dktX2_handle_3
def dkwX2_handle_1 : List UInt8 := [170, 0, 0, 0, 96, 0, 0, 0, 0, 0, 0, 0, 5, 0, 0, 0, 37, 0, 0, 0, 96, 0, 0, 0, 96, 0, 0, 0, 45, 0, 0, 0, 88, 0, 0, 0, 88]
abbrev dktX2_handle_1 : List UInt8 := dkwX2_handle_1 ++ dktX2_handle_2
def dkwX2_handle_0 : List UInt8 := [43, 180, 0, 216, 182, 0, 245]
abbrev dktX2_handle_0 : List UInt8 := dkwX2_handle_0 ++ dktX2_handle_1
theorem dksX2_handle_0 : cX2_handle.data.toList.drop 0 = dktX2_handle_0 := by decide +kernel
theorem dksX2_handle_1 : cX2_handle.data.toList.drop 7 = dktX2_handle_1 := dk_seg dksX2_handle_0 7 rfl rfl
theorem dksX2_handle_2 : cX2_handle.data.toList.drop 44 = dktX2_handle_2 := dk_seg dksX2_handle_1 37 rfl rfl
theorem dksX2_handle_3 : cX2_handle.data.toList.drop 68 = dktX2_handle_3 := dk_seg dksX2_handle_2 24 rfl rfl
theorem dksX2_handle_4 : cX2_handle.data.toList.drop 92 = dktX2_handle_4 := dk_seg dksX2_handle_3 24 rfl rfl
theorem dksX2_handle_5 : cX2_handle.data.toList.drop 114 = dktX2_handle_5 := dk_seg dksX2_handle_4 22 rfl rfl
theorem dX2_handle_0 : decode cX2_handle 0 = .ok (.aload_n 1, 1) := dk_43 (dk_at dksX2_handle_0 0 rfl rfl)
theorem dX2_handle_1 : decode cX2_handle 1 = .ok (.getfield 216, 3) := dk_180 0 216 (dk_at dksX2_handle_0 1 rfl rfl)
theorem dX2_handle_4 : decode cX2_handle 4 = .ok (.invokevirtual 245, 3) := dk_182 0 245 (dk_at dksX2_handle_0 4 rfl rfl)
theorem dX2_handle_7 : decode cX2_handle 7 = .ok (.tableswitch 96 0 5 #[37, 96, 96, 45, 88, 88], 37) := by decide +kernel
theorem dX2_handle_44 : decode cX2_handle 44 = .ok (.aload_n 0, 1) := dk_42 (dk_at dksX2_handle_2 0 rfl rfl)
theorem dX2_handle_45 : decode cX2_handle 45 = .ok (.aload_n 1, 1) := dk_43 (dk_at dksX2_handle_2 1 rfl rfl)
theorem dX2_handle_46 : decode cX2_handle 46 = .ok (.invokevirtual 248, 3) := dk_182 0 248 (dk_at dksX2_handle_2 2 rfl rfl)
theorem dX2_handle_49 : decode cX2_handle 49 = .ok (.goto 68, 3) := dk_167 0 68 (dk_at dksX2_handle_2 5 rfl rfl)
theorem dX2_handle_52 : decode cX2_handle 52 = .ok (.aload_n 1, 1) := dk_43 (dk_at dksX2_handle_2 8 rfl rfl)
theorem dX2_handle_53 : decode cX2_handle 53 = .ok (.getfield 251, 3) := dk_180 0 251 (dk_at dksX2_handle_2 9 rfl rfl)
theorem dX2_handle_56 : decode cX2_handle 56 = .ok (.aload_n 0, 1) := dk_42 (dk_at dksX2_handle_2 12 rfl rfl)
theorem dX2_handle_57 : decode cX2_handle 57 = .ok (.getfield 124, 3) := dk_180 0 124 (dk_at dksX2_handle_2 13 rfl rfl)
theorem dX2_handle_60 : decode cX2_handle 60 = .ok (.if_icmp .eq 4, 3) := dk_159 0 4 (dk_at dksX2_handle_2 16 rfl rfl)
theorem dX2_handle_63 : decode cX2_handle 63 = .ok (.return_, 1) := dk_177 (dk_at dksX2_handle_2 19 rfl rfl)
theorem dX2_handle_64 : decode cX2_handle 64 = .ok (.aload_n 0, 1) := dk_42 (dk_at dksX2_handle_2 20 rfl rfl)
theorem dX2_handle_65 : decode cX2_handle 65 = .ok (.getfield 40, 3) := dk_180 0 40 (dk_at dksX2_handle_2 21 rfl rfl)
theorem dX2_handle_68 : decode cX2_handle 68 = .ok (.bipush (-4), 2) := dk_16 252 (dk_at dksX2_handle_3 0 rfl rfl)
theorem dX2_handle_70 : decode cX2_handle 70 = .ok (.if_icmp .eq 16, 3) := dk_159 0 16 (dk_at dksX2_handle_3 2 rfl rfl)
theorem dX2_handle_73 : decode cX2_handle 73 = .ok (.aload_n 0, 1) := dk_42 (dk_at dksX2_handle_3 5 rfl rfl)
theorem dX2_handle_74 : decode cX2_handle 74 = .ok (.iconst 4, 1) := dk_7 (dk_at dksX2_handle_3 6 rfl rfl)
theorem dX2_handle_75 : decode cX2_handle 75 = .ok (.aload_n 1, 1) := dk_43 (dk_at dksX2_handle_3 7 rfl rfl)
theorem dX2_handle_76 : decode cX2_handle 76 = .ok (.getfield 213, 3) := dk_180 0 213 (dk_at dksX2_handle_3 8 rfl rfl)
theorem dX2_handle_79 : decode cX2_handle 79 = .ok (.aload_n 1, 1) := dk_43 (dk_at dksX2_handle_3 11 rfl rfl)
theorem dX2_handle_80 : decode cX2_handle 80 = .ok (.getfield 251, 3) := dk_180 0 251 (dk_at dksX2_handle_3 12 rfl rfl)
theorem dX2_handle_83 : decode cX2_handle 83 = .ok (.invokevirtual 254, 3) := dk_182 0 254 (dk_at dksX2_handle_3 15 rfl rfl)
theorem dX2_handle_86 : decode cX2_handle 86 = .ok (.aload_n 0, 1) := dk_42 (dk_at dksX2_handle_3 18 rfl rfl)
theorem dX2_handle_87 : decode cX2_handle 87 = .ok (.bipush (-4), 2) := dk_16 252 (dk_at dksX2_handle_3 19 rfl rfl)
theorem dX2_handle_89 : decode cX2_handle 89 = .ok (.putfield 40, 3) := dk_181 0 40 (dk_at dksX2_handle_3 21 rfl rfl)
theorem dX2_handle_92 : decode cX2_handle 92 = .ok (.goto 25, 3) := dk_167 0 25 (dk_at dksX2_handle_4 0 rfl rfl)
theorem dX2_handle_95 : decode cX2_handle 95 = .ok (.aload_n 0, 1) := dk_42 (dk_at dksX2_handle_4 3 rfl rfl)
theorem dX2_handle_96 : decode cX2_handle 96 = .ok (.aload_n 1, 1) := dk_43 (dk_at dksX2_handle_4 4 rfl rfl)
theorem dX2_handle_97 : decode cX2_handle 97 = .ok (.invokevirtual 258, 3) := dk_182 1 2 (dk_at dksX2_handle_4 5 rfl rfl)
theorem dX2_handle_100 : decode cX2_handle 100 = .ok (.goto 17, 3) := dk_167 0 17 (dk_at dksX2_handle_4 8 rfl rfl)
theorem dX2_handle_103 : decode cX2_handle 103 = .ok (.aload_n 0, 1) := dk_42 (dk_at dksX2_handle_4 11 rfl rfl)
theorem dX2_handle_104 : decode cX2_handle 104 = .ok (.aload_n 1, 1) := dk_43 (dk_at dksX2_handle_4 12 rfl rfl)
theorem dX2_handle_105 : decode cX2_handle 105 = .ok (.aload_n 0, 1) := dk_42 (dk_at dksX2_handle_4 13 rfl rfl)
theorem dX2_handle_106 : decode cX2_handle 106 = .ok (.getfield 64, 3) := dk_180 0 64 (dk_at dksX2_handle_4 14 rfl rfl)
theorem dX2_handle_109 : decode cX2_handle 109 = .ok (.aload_n 1, 1) := dk_43 (dk_at dksX2_handle_4 17 rfl rfl)
theorem dX2_handle_110 : decode cX2_handle 110 = .ok (.getfield 213, 3) := dk_180 0 213 (dk_at dksX2_handle_4 18 rfl rfl)
theorem dX2_handle_113 : decode cX2_handle 113 = .ok (.aaload, 1) := dk_50 (dk_at dksX2_handle_4 21 rfl rfl)
theorem dX2_handle_114 : decode cX2_handle 114 = .ok (.invokevirtual 261, 3) := dk_182 1 5 (dk_at dksX2_handle_5 0 rfl rfl)
theorem dX2_handle_117 : decode cX2_handle 117 = .ok (.return_, 1) := dk_177 (dk_at dksX2_handle_5 3 rfl rfl)
abbrev cX2_decide : ByteArray := prog_17_method_10_code
def yX2_decide : MethodName := ⟨RX2, "decide", "(LLeaderLeases$Message;)V"⟩
def dkwX2_decide_6 : List UInt8 := [180, 0, 213, 5, 188, 10, 89, 3, 43, 180, 0, 251, 79, 89, 4, 42, 180, 0, 124, 79, 182, 0, 203, 177]
abbrev dktX2_decide_6 : List UInt8 := dkwX2_decide_6 ++ []
def dkwX2_decide_5 : List UInt8 := [153, 0, 7, 5, 167, 0, 4, 4, 43, 180, 0, 213, 42, 180, 0, 124, 182, 0, 254, 42, 178, 1, 18, 43]
abbrev dktX2_decide_5 : List UInt8 := dkwX2_decide_5 ++ dktX2_decide_6
def dkwX2_decide_4 : List UInt8 := [42, 43, 180, 0, 213, 181, 0, 40, 42, 28, 42, 180, 0, 47, 180, 1, 15, 96, 181, 0, 121, 42, 29]
abbrev dktX2_decide_4 : List UInt8 := dkwX2_decide_4 ++ dktX2_decide_5
def dkwX2_decide_3 : List UInt8 := [180, 0, 213, 3, 188, 10, 182, 0, 203, 177, 29, 154, 0, 13, 42, 89, 180, 0, 124, 4, 96, 181, 0, 124]
abbrev dktX2_decide_3 : List UInt8 := dkwX2_decide_3 ++ dktX2_decide_4
def dkwX2_decide_2 : List UInt8 := [180, 0, 213, 159, 0, 31, 42, 6, 43, 180, 0, 213, 42, 180, 0, 124, 182, 0, 254, 42, 178, 1, 12, 43]
abbrev dktX2_decide_2 : List UInt8 := dkwX2_decide_2 ++ dktX2_decide_3
def dkwX2_decide_1 : List UInt8 := [167, 0, 4, 3, 62, 28, 42, 180, 0, 127, 161, 0, 18, 29, 153, 0, 42, 42, 180, 0, 40, 43]
abbrev dktX2_decide_1 : List UInt8 := dkwX2_decide_1 ++ dktX2_decide_2
def dkwX2_decide_0 : List UInt8 := [42, 182, 1, 9, 61, 42, 180, 0, 40, 16, 252, 159, 0, 15, 28, 42, 180, 0, 121, 162, 0, 7, 4]
abbrev dktX2_decide_0 : List UInt8 := dkwX2_decide_0 ++ dktX2_decide_1
theorem dksX2_decide_0 : cX2_decide.data.toList.drop 0 = dktX2_decide_0 := by decide +kernel
theorem dksX2_decide_1 : cX2_decide.data.toList.drop 23 = dktX2_decide_1 := dk_seg dksX2_decide_0 23 rfl rfl
theorem dksX2_decide_2 : cX2_decide.data.toList.drop 45 = dktX2_decide_2 := dk_seg dksX2_decide_1 22 rfl rfl
theorem dksX2_decide_3 : cX2_decide.data.toList.drop 69 = dktX2_decide_3 := dk_seg dksX2_decide_2 24 rfl rfl
theorem dksX2_decide_4 : cX2_decide.data.toList.drop 93 = dktX2_decide_4 := dk_seg dksX2_decide_3 24 rfl rfl
theorem dksX2_decide_5 : cX2_decide.data.toList.drop 116 = dktX2_decide_5 := dk_seg dksX2_decide_4 23 rfl rfl
theorem dksX2_decide_6 : cX2_decide.data.toList.drop 140 = dktX2_decide_6 := dk_seg dksX2_decide_5 24 rfl rfl
theorem dX2_decide_0 : decode cX2_decide 0 = .ok (.aload_n 0, 1) := dk_42 (dk_at dksX2_decide_0 0 rfl rfl)
theorem dX2_decide_1 : decode cX2_decide 1 = .ok (.invokevirtual 265, 3) := dk_182 1 9 (dk_at dksX2_decide_0 1 rfl rfl)
theorem dX2_decide_4 : decode cX2_decide 4 = .ok (.istore_n 2, 1) := dk_61 (dk_at dksX2_decide_0 4 rfl rfl)
theorem dX2_decide_5 : decode cX2_decide 5 = .ok (.aload_n 0, 1) := dk_42 (dk_at dksX2_decide_0 5 rfl rfl)
theorem dX2_decide_6 : decode cX2_decide 6 = .ok (.getfield 40, 3) := dk_180 0 40 (dk_at dksX2_decide_0 6 rfl rfl)
theorem dX2_decide_9 : decode cX2_decide 9 = .ok (.bipush (-4), 2) := dk_16 252 (dk_at dksX2_decide_0 9 rfl rfl)
theorem dX2_decide_11 : decode cX2_decide 11 = .ok (.if_icmp .eq 15, 3) := dk_159 0 15 (dk_at dksX2_decide_0 11 rfl rfl)
theorem dX2_decide_14 : decode cX2_decide 14 = .ok (.iload_n 2, 1) := dk_28 (dk_at dksX2_decide_0 14 rfl rfl)
theorem dX2_decide_15 : decode cX2_decide 15 = .ok (.aload_n 0, 1) := dk_42 (dk_at dksX2_decide_0 15 rfl rfl)
theorem dX2_decide_16 : decode cX2_decide 16 = .ok (.getfield 121, 3) := dk_180 0 121 (dk_at dksX2_decide_0 16 rfl rfl)
theorem dX2_decide_19 : decode cX2_decide 19 = .ok (.if_icmp .ge 7, 3) := dk_162 0 7 (dk_at dksX2_decide_0 19 rfl rfl)
theorem dX2_decide_22 : decode cX2_decide 22 = .ok (.iconst 1, 1) := dk_4 (dk_at dksX2_decide_0 22 rfl rfl)
theorem dX2_decide_23 : decode cX2_decide 23 = .ok (.goto 4, 3) := dk_167 0 4 (dk_at dksX2_decide_1 0 rfl rfl)
theorem dX2_decide_26 : decode cX2_decide 26 = .ok (.iconst 0, 1) := dk_3 (dk_at dksX2_decide_1 3 rfl rfl)
theorem dX2_decide_27 : decode cX2_decide 27 = .ok (.istore_n 3, 1) := dk_62 (dk_at dksX2_decide_1 4 rfl rfl)
theorem dX2_decide_28 : decode cX2_decide 28 = .ok (.iload_n 2, 1) := dk_28 (dk_at dksX2_decide_1 5 rfl rfl)
theorem dX2_decide_29 : decode cX2_decide 29 = .ok (.aload_n 0, 1) := dk_42 (dk_at dksX2_decide_1 6 rfl rfl)
theorem dX2_decide_30 : decode cX2_decide 30 = .ok (.getfield 127, 3) := dk_180 0 127 (dk_at dksX2_decide_1 7 rfl rfl)
theorem dX2_decide_33 : decode cX2_decide 33 = .ok (.if_icmp .lt 18, 3) := dk_161 0 18 (dk_at dksX2_decide_1 10 rfl rfl)
theorem dX2_decide_36 : decode cX2_decide 36 = .ok (.iload_n 3, 1) := dk_29 (dk_at dksX2_decide_1 13 rfl rfl)
theorem dX2_decide_37 : decode cX2_decide 37 = .ok (.ifCond .eq 42, 3) := dk_153 0 42 (dk_at dksX2_decide_1 14 rfl rfl)
theorem dX2_decide_40 : decode cX2_decide 40 = .ok (.aload_n 0, 1) := dk_42 (dk_at dksX2_decide_1 17 rfl rfl)
theorem dX2_decide_41 : decode cX2_decide 41 = .ok (.getfield 40, 3) := dk_180 0 40 (dk_at dksX2_decide_1 18 rfl rfl)
theorem dX2_decide_44 : decode cX2_decide 44 = .ok (.aload_n 1, 1) := dk_43 (dk_at dksX2_decide_1 21 rfl rfl)
theorem dX2_decide_45 : decode cX2_decide 45 = .ok (.getfield 213, 3) := dk_180 0 213 (dk_at dksX2_decide_2 0 rfl rfl)
theorem dX2_decide_48 : decode cX2_decide 48 = .ok (.if_icmp .eq 31, 3) := dk_159 0 31 (dk_at dksX2_decide_2 3 rfl rfl)
theorem dX2_decide_51 : decode cX2_decide 51 = .ok (.aload_n 0, 1) := dk_42 (dk_at dksX2_decide_2 6 rfl rfl)
theorem dX2_decide_52 : decode cX2_decide 52 = .ok (.iconst 3, 1) := dk_6 (dk_at dksX2_decide_2 7 rfl rfl)
theorem dX2_decide_53 : decode cX2_decide 53 = .ok (.aload_n 1, 1) := dk_43 (dk_at dksX2_decide_2 8 rfl rfl)
theorem dX2_decide_54 : decode cX2_decide 54 = .ok (.getfield 213, 3) := dk_180 0 213 (dk_at dksX2_decide_2 9 rfl rfl)
theorem dX2_decide_57 : decode cX2_decide 57 = .ok (.aload_n 0, 1) := dk_42 (dk_at dksX2_decide_2 12 rfl rfl)
theorem dX2_decide_58 : decode cX2_decide 58 = .ok (.getfield 124, 3) := dk_180 0 124 (dk_at dksX2_decide_2 13 rfl rfl)
theorem dX2_decide_61 : decode cX2_decide 61 = .ok (.invokevirtual 254, 3) := dk_182 0 254 (dk_at dksX2_decide_2 16 rfl rfl)
theorem dX2_decide_64 : decode cX2_decide 64 = .ok (.aload_n 0, 1) := dk_42 (dk_at dksX2_decide_2 19 rfl rfl)
theorem dX2_decide_65 : decode cX2_decide 65 = .ok (.getstatic 268, 3) := dk_178 1 12 (dk_at dksX2_decide_2 20 rfl rfl)
theorem dX2_decide_68 : decode cX2_decide 68 = .ok (.aload_n 1, 1) := dk_43 (dk_at dksX2_decide_2 23 rfl rfl)
theorem dX2_decide_69 : decode cX2_decide 69 = .ok (.getfield 213, 3) := dk_180 0 213 (dk_at dksX2_decide_3 0 rfl rfl)
theorem dX2_decide_72 : decode cX2_decide 72 = .ok (.iconst 0, 1) := dk_3 (dk_at dksX2_decide_3 3 rfl rfl)
theorem dX2_decide_73 : decode cX2_decide 73 = .ok (.newarray .int, 2) := dk_188_10 (dk_at dksX2_decide_3 4 rfl rfl)
theorem dX2_decide_75 : decode cX2_decide 75 = .ok (.invokevirtual 203, 3) := dk_182 0 203 (dk_at dksX2_decide_3 6 rfl rfl)
theorem dX2_decide_78 : decode cX2_decide 78 = .ok (.return_, 1) := dk_177 (dk_at dksX2_decide_3 9 rfl rfl)
theorem dX2_decide_79 : decode cX2_decide 79 = .ok (.iload_n 3, 1) := dk_29 (dk_at dksX2_decide_3 10 rfl rfl)
theorem dX2_decide_80 : decode cX2_decide 80 = .ok (.ifCond .ne 13, 3) := dk_154 0 13 (dk_at dksX2_decide_3 11 rfl rfl)
theorem dX2_decide_83 : decode cX2_decide 83 = .ok (.aload_n 0, 1) := dk_42 (dk_at dksX2_decide_3 14 rfl rfl)
theorem dX2_decide_84 : decode cX2_decide 84 = .ok (.dup, 1) := dk_89 (dk_at dksX2_decide_3 15 rfl rfl)
theorem dX2_decide_85 : decode cX2_decide 85 = .ok (.getfield 124, 3) := dk_180 0 124 (dk_at dksX2_decide_3 16 rfl rfl)
theorem dX2_decide_88 : decode cX2_decide 88 = .ok (.iconst 1, 1) := dk_4 (dk_at dksX2_decide_3 19 rfl rfl)
theorem dX2_decide_89 : decode cX2_decide 89 = .ok (.iadd, 1) := dk_96 (dk_at dksX2_decide_3 20 rfl rfl)
theorem dX2_decide_90 : decode cX2_decide 90 = .ok (.putfield 124, 3) := dk_181 0 124 (dk_at dksX2_decide_3 21 rfl rfl)
theorem dX2_decide_93 : decode cX2_decide 93 = .ok (.aload_n 0, 1) := dk_42 (dk_at dksX2_decide_4 0 rfl rfl)
theorem dX2_decide_94 : decode cX2_decide 94 = .ok (.aload_n 1, 1) := dk_43 (dk_at dksX2_decide_4 1 rfl rfl)
theorem dX2_decide_95 : decode cX2_decide 95 = .ok (.getfield 213, 3) := dk_180 0 213 (dk_at dksX2_decide_4 2 rfl rfl)
theorem dX2_decide_98 : decode cX2_decide 98 = .ok (.putfield 40, 3) := dk_181 0 40 (dk_at dksX2_decide_4 5 rfl rfl)
theorem dX2_decide_101 : decode cX2_decide 101 = .ok (.aload_n 0, 1) := dk_42 (dk_at dksX2_decide_4 8 rfl rfl)
theorem dX2_decide_102 : decode cX2_decide 102 = .ok (.iload_n 2, 1) := dk_28 (dk_at dksX2_decide_4 9 rfl rfl)
theorem dX2_decide_103 : decode cX2_decide 103 = .ok (.aload_n 0, 1) := dk_42 (dk_at dksX2_decide_4 10 rfl rfl)
theorem dX2_decide_104 : decode cX2_decide 104 = .ok (.getfield 47, 3) := dk_180 0 47 (dk_at dksX2_decide_4 11 rfl rfl)
theorem dX2_decide_107 : decode cX2_decide 107 = .ok (.getfield 271, 3) := dk_180 1 15 (dk_at dksX2_decide_4 14 rfl rfl)
theorem dX2_decide_110 : decode cX2_decide 110 = .ok (.iadd, 1) := dk_96 (dk_at dksX2_decide_4 17 rfl rfl)
theorem dX2_decide_111 : decode cX2_decide 111 = .ok (.putfield 121, 3) := dk_181 0 121 (dk_at dksX2_decide_4 18 rfl rfl)
theorem dX2_decide_114 : decode cX2_decide 114 = .ok (.aload_n 0, 1) := dk_42 (dk_at dksX2_decide_4 21 rfl rfl)
theorem dX2_decide_115 : decode cX2_decide 115 = .ok (.iload_n 3, 1) := dk_29 (dk_at dksX2_decide_4 22 rfl rfl)
theorem dX2_decide_116 : decode cX2_decide 116 = .ok (.ifCond .eq 7, 3) := dk_153 0 7 (dk_at dksX2_decide_5 0 rfl rfl)
theorem dX2_decide_119 : decode cX2_decide 119 = .ok (.iconst 2, 1) := dk_5 (dk_at dksX2_decide_5 3 rfl rfl)
theorem dX2_decide_120 : decode cX2_decide 120 = .ok (.goto 4, 3) := dk_167 0 4 (dk_at dksX2_decide_5 4 rfl rfl)
theorem dX2_decide_123 : decode cX2_decide 123 = .ok (.iconst 1, 1) := dk_4 (dk_at dksX2_decide_5 7 rfl rfl)
theorem dX2_decide_124 : decode cX2_decide 124 = .ok (.aload_n 1, 1) := dk_43 (dk_at dksX2_decide_5 8 rfl rfl)
theorem dX2_decide_125 : decode cX2_decide 125 = .ok (.getfield 213, 3) := dk_180 0 213 (dk_at dksX2_decide_5 9 rfl rfl)
theorem dX2_decide_128 : decode cX2_decide 128 = .ok (.aload_n 0, 1) := dk_42 (dk_at dksX2_decide_5 12 rfl rfl)
theorem dX2_decide_129 : decode cX2_decide 129 = .ok (.getfield 124, 3) := dk_180 0 124 (dk_at dksX2_decide_5 13 rfl rfl)
theorem dX2_decide_132 : decode cX2_decide 132 = .ok (.invokevirtual 254, 3) := dk_182 0 254 (dk_at dksX2_decide_5 16 rfl rfl)
theorem dX2_decide_135 : decode cX2_decide 135 = .ok (.aload_n 0, 1) := dk_42 (dk_at dksX2_decide_5 19 rfl rfl)
theorem dX2_decide_136 : decode cX2_decide 136 = .ok (.getstatic 274, 3) := dk_178 1 18 (dk_at dksX2_decide_5 20 rfl rfl)
theorem dX2_decide_139 : decode cX2_decide 139 = .ok (.aload_n 1, 1) := dk_43 (dk_at dksX2_decide_5 23 rfl rfl)
theorem dX2_decide_140 : decode cX2_decide 140 = .ok (.getfield 213, 3) := dk_180 0 213 (dk_at dksX2_decide_6 0 rfl rfl)
theorem dX2_decide_143 : decode cX2_decide 143 = .ok (.iconst 2, 1) := dk_5 (dk_at dksX2_decide_6 3 rfl rfl)
theorem dX2_decide_144 : decode cX2_decide 144 = .ok (.newarray .int, 2) := dk_188_10 (dk_at dksX2_decide_6 4 rfl rfl)
theorem dX2_decide_146 : decode cX2_decide 146 = .ok (.dup, 1) := dk_89 (dk_at dksX2_decide_6 6 rfl rfl)
theorem dX2_decide_147 : decode cX2_decide 147 = .ok (.iconst 0, 1) := dk_3 (dk_at dksX2_decide_6 7 rfl rfl)
theorem dX2_decide_148 : decode cX2_decide 148 = .ok (.aload_n 1, 1) := dk_43 (dk_at dksX2_decide_6 8 rfl rfl)
theorem dX2_decide_149 : decode cX2_decide 149 = .ok (.getfield 251, 3) := dk_180 0 251 (dk_at dksX2_decide_6 9 rfl rfl)
theorem dX2_decide_152 : decode cX2_decide 152 = .ok (.iastore, 1) := dk_79 (dk_at dksX2_decide_6 12 rfl rfl)
theorem dX2_decide_153 : decode cX2_decide 153 = .ok (.dup, 1) := dk_89 (dk_at dksX2_decide_6 13 rfl rfl)
theorem dX2_decide_154 : decode cX2_decide 154 = .ok (.iconst 1, 1) := dk_4 (dk_at dksX2_decide_6 14 rfl rfl)
theorem dX2_decide_155 : decode cX2_decide 155 = .ok (.aload_n 0, 1) := dk_42 (dk_at dksX2_decide_6 15 rfl rfl)
theorem dX2_decide_156 : decode cX2_decide 156 = .ok (.getfield 124, 3) := dk_180 0 124 (dk_at dksX2_decide_6 16 rfl rfl)
theorem dX2_decide_159 : decode cX2_decide 159 = .ok (.iastore, 1) := dk_79 (dk_at dksX2_decide_6 19 rfl rfl)
theorem dX2_decide_160 : decode cX2_decide 160 = .ok (.invokevirtual 203, 3) := dk_182 0 203 (dk_at dksX2_decide_6 20 rfl rfl)
theorem dX2_decide_163 : decode cX2_decide 163 = .ok (.return_, 1) := dk_177 (dk_at dksX2_decide_6 23 rfl rfl)
abbrev cX2_serverClock : ByteArray := prog_17_method_3_code
def yX2_serverClock : MethodName := ⟨RX2, "serverClock", "()I"⟩
def dkwX2_serverClock_0 : List UInt8 := [42, 180, 0, 47, 180, 0, 142, 42, 180, 0, 112, 182, 0, 146, 172]
abbrev dktX2_serverClock_0 : List UInt8 := dkwX2_serverClock_0 ++ []
theorem dksX2_serverClock_0 : cX2_serverClock.data.toList.drop 0 = dktX2_serverClock_0 := by decide +kernel
theorem dX2_serverClock_0 : decode cX2_serverClock 0 = .ok (.aload_n 0, 1) := dk_42 (dk_at dksX2_serverClock_0 0 rfl rfl)
theorem dX2_serverClock_1 : decode cX2_serverClock 1 = .ok (.getfield 47, 3) := dk_180 0 47 (dk_at dksX2_serverClock_0 1 rfl rfl)
theorem dX2_serverClock_4 : decode cX2_serverClock 4 = .ok (.getfield 142, 3) := dk_180 0 142 (dk_at dksX2_serverClock_0 4 rfl rfl)
theorem dX2_serverClock_7 : decode cX2_serverClock 7 = .ok (.aload_n 0, 1) := dk_42 (dk_at dksX2_serverClock_0 7 rfl rfl)
theorem dX2_serverClock_8 : decode cX2_serverClock 8 = .ok (.getfield 112, 3) := dk_180 0 112 (dk_at dksX2_serverClock_0 8 rfl rfl)
theorem dX2_serverClock_11 : decode cX2_serverClock 11 = .ok (.invokevirtual 146, 3) := dk_182 0 146 (dk_at dksX2_serverClock_0 11 rfl rfl)
theorem dX2_serverClock_14 : decode cX2_serverClock 14 = .ok (.ireturn, 1) := dk_172 (dk_at dksX2_serverClock_0 14 rfl rfl)
abbrev cX2_note : ByteArray := prog_17_method_4_code
def yX2_note : MethodName := ⟨RX2, "note", "(III)V"⟩
def dkwX2_note_2 : List UInt8 := [185, 0, 158, 2, 0, 87, 42, 180, 0, 36, 27, 92, 46, 4, 96, 79, 177]
abbrev dktX2_note_2 : List UInt8 := dkwX2_note_2 ++ []
def dkwX2_note_1 : List UInt8 := [185, 0, 150, 2, 0, 87, 42, 180, 0, 26, 187, 0, 153, 89, 42, 180, 0, 112, 27, 28, 29, 183, 0, 155]
abbrev dktX2_note_1 : List UInt8 := dkwX2_note_1 ++ dktX2_note_2
def dkwX2_note_0 : List UInt8 := [42, 180, 0, 26, 185, 0, 56, 1, 0, 17, 0, 200, 160, 0, 14, 42, 180, 0, 26, 3]
abbrev dktX2_note_0 : List UInt8 := dkwX2_note_0 ++ dktX2_note_1
theorem dksX2_note_0 : cX2_note.data.toList.drop 0 = dktX2_note_0 := by decide +kernel
theorem dksX2_note_1 : cX2_note.data.toList.drop 20 = dktX2_note_1 := dk_seg dksX2_note_0 20 rfl rfl
theorem dksX2_note_2 : cX2_note.data.toList.drop 44 = dktX2_note_2 := dk_seg dksX2_note_1 24 rfl rfl
theorem dX2_note_0 : decode cX2_note 0 = .ok (.aload_n 0, 1) := dk_42 (dk_at dksX2_note_0 0 rfl rfl)
theorem dX2_note_1 : decode cX2_note 1 = .ok (.getfield 26, 3) := dk_180 0 26 (dk_at dksX2_note_0 1 rfl rfl)
theorem dX2_note_4 : decode cX2_note 4 = .ok (.invokeinterface 56 1, 5) := by decide +kernel
theorem dX2_note_9 : decode cX2_note 9 = .ok (.sipush 200, 3) := dk_17 0 200 (dk_at dksX2_note_0 9 rfl rfl)
theorem dX2_note_12 : decode cX2_note 12 = .ok (.if_icmp .ne 14, 3) := dk_160 0 14 (dk_at dksX2_note_0 12 rfl rfl)
theorem dX2_note_15 : decode cX2_note 15 = .ok (.aload_n 0, 1) := dk_42 (dk_at dksX2_note_0 15 rfl rfl)
theorem dX2_note_16 : decode cX2_note 16 = .ok (.getfield 26, 3) := dk_180 0 26 (dk_at dksX2_note_0 16 rfl rfl)
theorem dX2_note_19 : decode cX2_note 19 = .ok (.iconst 0, 1) := dk_3 (dk_at dksX2_note_0 19 rfl rfl)
theorem dX2_note_20 : decode cX2_note 20 = .ok (.invokeinterface 150 2, 5) := by decide +kernel
theorem dX2_note_25 : decode cX2_note 25 = .ok (.pop, 1) := dk_87 (dk_at dksX2_note_1 5 rfl rfl)
theorem dX2_note_26 : decode cX2_note 26 = .ok (.aload_n 0, 1) := dk_42 (dk_at dksX2_note_1 6 rfl rfl)
theorem dX2_note_27 : decode cX2_note 27 = .ok (.getfield 26, 3) := dk_180 0 26 (dk_at dksX2_note_1 7 rfl rfl)
theorem dX2_note_30 : decode cX2_note 30 = .ok (.new 153, 3) := dk_187 0 153 (dk_at dksX2_note_1 10 rfl rfl)
theorem dX2_note_33 : decode cX2_note 33 = .ok (.dup, 1) := dk_89 (dk_at dksX2_note_1 13 rfl rfl)
theorem dX2_note_34 : decode cX2_note 34 = .ok (.aload_n 0, 1) := dk_42 (dk_at dksX2_note_1 14 rfl rfl)
theorem dX2_note_35 : decode cX2_note 35 = .ok (.getfield 112, 3) := dk_180 0 112 (dk_at dksX2_note_1 15 rfl rfl)
theorem dX2_note_38 : decode cX2_note 38 = .ok (.iload_n 1, 1) := dk_27 (dk_at dksX2_note_1 18 rfl rfl)
theorem dX2_note_39 : decode cX2_note 39 = .ok (.iload_n 2, 1) := dk_28 (dk_at dksX2_note_1 19 rfl rfl)
theorem dX2_note_40 : decode cX2_note 40 = .ok (.iload_n 3, 1) := dk_29 (dk_at dksX2_note_1 20 rfl rfl)
theorem dX2_note_41 : decode cX2_note 41 = .ok (.invokespecial 155, 3) := dk_183 0 155 (dk_at dksX2_note_1 21 rfl rfl)
theorem dX2_note_44 : decode cX2_note 44 = .ok (.invokeinterface 158 2, 5) := by decide +kernel
theorem dX2_note_49 : decode cX2_note 49 = .ok (.pop, 1) := dk_87 (dk_at dksX2_note_2 5 rfl rfl)
theorem dX2_note_50 : decode cX2_note 50 = .ok (.aload_n 0, 1) := dk_42 (dk_at dksX2_note_2 6 rfl rfl)
theorem dX2_note_51 : decode cX2_note 51 = .ok (.getfield 36, 3) := dk_180 0 36 (dk_at dksX2_note_2 7 rfl rfl)
theorem dX2_note_54 : decode cX2_note 54 = .ok (.iload_n 1, 1) := dk_27 (dk_at dksX2_note_2 10 rfl rfl)
theorem dX2_note_55 : decode cX2_note 55 = .ok (.dup2, 1) := dk_92 (dk_at dksX2_note_2 11 rfl rfl)
theorem dX2_note_56 : decode cX2_note 56 = .ok (.iaload, 1) := dk_46 (dk_at dksX2_note_2 12 rfl rfl)
theorem dX2_note_57 : decode cX2_note 57 = .ok (.iconst 1, 1) := dk_4 (dk_at dksX2_note_2 13 rfl rfl)
theorem dX2_note_58 : decode cX2_note 58 = .ok (.iadd, 1) := dk_96 (dk_at dksX2_note_2 14 rfl rfl)
theorem dX2_note_59 : decode cX2_note 59 = .ok (.iastore, 1) := dk_79 (dk_at dksX2_note_2 15 rfl rfl)
theorem dX2_note_60 : decode cX2_note 60 = .ok (.return_, 1) := dk_177 (dk_at dksX2_note_2 16 rfl rfl)
abbrev cX2_send : ByteArray := prog_17_method_5_code
def yX2_send : MethodName := ⟨RX2, "send", "(LLeaderLeases$Kind;I[I)V"⟩
def dkwX2_send_5 : List UInt8 := [25, 5, 21, 4, 183, 0, 181, 185, 0, 158, 2, 0, 87, 177]
abbrev dktX2_send_5 : List UInt8 := dkwX2_send_5 ++ []
def dkwX2_send_4 : List UInt8 := [3, 25, 5, 3, 45, 190, 184, 0, 106, 42, 180, 0, 14, 187, 0, 179, 89, 43, 28, 42, 180, 0, 115]
abbrev dktX2_send_4 : List UInt8 := dkwX2_send_4 ++ dktX2_send_5
def dkwX2_send_3 : List UInt8 := [50, 180, 0, 175, 153, 0, 14, 42, 89, 180, 0, 118, 4, 96, 181, 0, 118, 177, 6, 188, 10, 58, 5, 45]
abbrev dktX2_send_3 : List UInt8 := dkwX2_send_3 ++ dktX2_send_4
def dkwX2_send_2 : List UInt8 := [180, 0, 172, 4, 96, 112, 96, 54, 4, 42, 89, 180, 0, 115, 4, 96, 181, 0, 115, 42, 180, 0, 64, 28]
abbrev dktX2_send_2 : List UInt8 := dkwX2_send_2 ++ dktX2_send_3
def dkwX2_send_1 : List UInt8 := [180, 0, 112, 42, 180, 0, 64, 28, 50, 180, 0, 168, 96, 42, 180, 0, 88, 18, 171, 108, 42, 180, 0, 47]
abbrev dktX2_send_1 : List UInt8 := dkwX2_send_1 ++ dktX2_send_2
def dkwX2_send_0 : List UInt8 := [42, 20, 0, 162, 42, 180, 0, 88, 133, 105, 20, 0, 164, 97, 20, 0, 166, 113, 136, 181, 0, 88, 42]
abbrev dktX2_send_0 : List UInt8 := dkwX2_send_0 ++ dktX2_send_1
theorem dksX2_send_0 : cX2_send.data.toList.drop 0 = dktX2_send_0 := by decide +kernel
theorem dksX2_send_1 : cX2_send.data.toList.drop 23 = dktX2_send_1 := dk_seg dksX2_send_0 23 rfl rfl
theorem dksX2_send_2 : cX2_send.data.toList.drop 47 = dktX2_send_2 := dk_seg dksX2_send_1 24 rfl rfl
theorem dksX2_send_3 : cX2_send.data.toList.drop 71 = dktX2_send_3 := dk_seg dksX2_send_2 24 rfl rfl
theorem dksX2_send_4 : cX2_send.data.toList.drop 95 = dktX2_send_4 := dk_seg dksX2_send_3 24 rfl rfl
theorem dksX2_send_5 : cX2_send.data.toList.drop 118 = dktX2_send_5 := dk_seg dksX2_send_4 23 rfl rfl
theorem dX2_send_0 : decode cX2_send 0 = .ok (.aload_n 0, 1) := dk_42 (dk_at dksX2_send_0 0 rfl rfl)
theorem dX2_send_1 : decode cX2_send 1 = .ok (.ldc2_w 162, 3) := dk_20 0 162 (dk_at dksX2_send_0 1 rfl rfl)
theorem dX2_send_4 : decode cX2_send 4 = .ok (.aload_n 0, 1) := dk_42 (dk_at dksX2_send_0 4 rfl rfl)
theorem dX2_send_5 : decode cX2_send 5 = .ok (.getfield 88, 3) := dk_180 0 88 (dk_at dksX2_send_0 5 rfl rfl)
theorem dX2_send_8 : decode cX2_send 8 = .ok (.i2l, 1) := dk_133 (dk_at dksX2_send_0 8 rfl rfl)
theorem dX2_send_9 : decode cX2_send 9 = .ok (.lmul, 1) := dk_105 (dk_at dksX2_send_0 9 rfl rfl)
theorem dX2_send_10 : decode cX2_send 10 = .ok (.ldc2_w 164, 3) := dk_20 0 164 (dk_at dksX2_send_0 10 rfl rfl)
theorem dX2_send_13 : decode cX2_send 13 = .ok (.ladd, 1) := dk_97 (dk_at dksX2_send_0 13 rfl rfl)
theorem dX2_send_14 : decode cX2_send 14 = .ok (.ldc2_w 166, 3) := dk_20 0 166 (dk_at dksX2_send_0 14 rfl rfl)
theorem dX2_send_17 : decode cX2_send 17 = .ok (.lrem, 1) := dk_113 (dk_at dksX2_send_0 17 rfl rfl)
theorem dX2_send_18 : decode cX2_send 18 = .ok (.l2i, 1) := dk_136 (dk_at dksX2_send_0 18 rfl rfl)
theorem dX2_send_19 : decode cX2_send 19 = .ok (.putfield 88, 3) := dk_181 0 88 (dk_at dksX2_send_0 19 rfl rfl)
theorem dX2_send_22 : decode cX2_send 22 = .ok (.aload_n 0, 1) := dk_42 (dk_at dksX2_send_0 22 rfl rfl)
theorem dX2_send_23 : decode cX2_send 23 = .ok (.getfield 112, 3) := dk_180 0 112 (dk_at dksX2_send_1 0 rfl rfl)
theorem dX2_send_26 : decode cX2_send 26 = .ok (.aload_n 0, 1) := dk_42 (dk_at dksX2_send_1 3 rfl rfl)
theorem dX2_send_27 : decode cX2_send 27 = .ok (.getfield 64, 3) := dk_180 0 64 (dk_at dksX2_send_1 4 rfl rfl)
theorem dX2_send_30 : decode cX2_send 30 = .ok (.iload_n 2, 1) := dk_28 (dk_at dksX2_send_1 7 rfl rfl)
theorem dX2_send_31 : decode cX2_send 31 = .ok (.aaload, 1) := dk_50 (dk_at dksX2_send_1 8 rfl rfl)
theorem dX2_send_32 : decode cX2_send 32 = .ok (.getfield 168, 3) := dk_180 0 168 (dk_at dksX2_send_1 9 rfl rfl)
theorem dX2_send_35 : decode cX2_send 35 = .ok (.iadd, 1) := dk_96 (dk_at dksX2_send_1 12 rfl rfl)
theorem dX2_send_36 : decode cX2_send 36 = .ok (.aload_n 0, 1) := dk_42 (dk_at dksX2_send_1 13 rfl rfl)
theorem dX2_send_37 : decode cX2_send 37 = .ok (.getfield 88, 3) := dk_180 0 88 (dk_at dksX2_send_1 14 rfl rfl)
theorem dX2_send_40 : decode cX2_send 40 = .ok (.ldc 171, 2) := dk_18 171 (dk_at dksX2_send_1 17 rfl rfl)
theorem dX2_send_42 : decode cX2_send 42 = .ok (.idiv, 1) := dk_108 (dk_at dksX2_send_1 19 rfl rfl)
theorem dX2_send_43 : decode cX2_send 43 = .ok (.aload_n 0, 1) := dk_42 (dk_at dksX2_send_1 20 rfl rfl)
theorem dX2_send_44 : decode cX2_send 44 = .ok (.getfield 47, 3) := dk_180 0 47 (dk_at dksX2_send_1 21 rfl rfl)
theorem dX2_send_47 : decode cX2_send 47 = .ok (.getfield 172, 3) := dk_180 0 172 (dk_at dksX2_send_2 0 rfl rfl)
theorem dX2_send_50 : decode cX2_send 50 = .ok (.iconst 1, 1) := dk_4 (dk_at dksX2_send_2 3 rfl rfl)
theorem dX2_send_51 : decode cX2_send 51 = .ok (.iadd, 1) := dk_96 (dk_at dksX2_send_2 4 rfl rfl)
theorem dX2_send_52 : decode cX2_send 52 = .ok (.irem, 1) := dk_112 (dk_at dksX2_send_2 5 rfl rfl)
theorem dX2_send_53 : decode cX2_send 53 = .ok (.iadd, 1) := dk_96 (dk_at dksX2_send_2 6 rfl rfl)
theorem dX2_send_54 : decode cX2_send 54 = .ok (.istore 4, 2) := dk_54 4 (dk_at dksX2_send_2 7 rfl rfl)
theorem dX2_send_56 : decode cX2_send 56 = .ok (.aload_n 0, 1) := dk_42 (dk_at dksX2_send_2 9 rfl rfl)
theorem dX2_send_57 : decode cX2_send 57 = .ok (.dup, 1) := dk_89 (dk_at dksX2_send_2 10 rfl rfl)
theorem dX2_send_58 : decode cX2_send 58 = .ok (.getfield 115, 3) := dk_180 0 115 (dk_at dksX2_send_2 11 rfl rfl)
theorem dX2_send_61 : decode cX2_send 61 = .ok (.iconst 1, 1) := dk_4 (dk_at dksX2_send_2 14 rfl rfl)
theorem dX2_send_62 : decode cX2_send 62 = .ok (.iadd, 1) := dk_96 (dk_at dksX2_send_2 15 rfl rfl)
theorem dX2_send_63 : decode cX2_send 63 = .ok (.putfield 115, 3) := dk_181 0 115 (dk_at dksX2_send_2 16 rfl rfl)
theorem dX2_send_66 : decode cX2_send 66 = .ok (.aload_n 0, 1) := dk_42 (dk_at dksX2_send_2 19 rfl rfl)
theorem dX2_send_67 : decode cX2_send 67 = .ok (.getfield 64, 3) := dk_180 0 64 (dk_at dksX2_send_2 20 rfl rfl)
theorem dX2_send_70 : decode cX2_send 70 = .ok (.iload_n 2, 1) := dk_28 (dk_at dksX2_send_2 23 rfl rfl)
theorem dX2_send_71 : decode cX2_send 71 = .ok (.aaload, 1) := dk_50 (dk_at dksX2_send_3 0 rfl rfl)
theorem dX2_send_72 : decode cX2_send 72 = .ok (.getfield 175, 3) := dk_180 0 175 (dk_at dksX2_send_3 1 rfl rfl)
theorem dX2_send_75 : decode cX2_send 75 = .ok (.ifCond .eq 14, 3) := dk_153 0 14 (dk_at dksX2_send_3 4 rfl rfl)
theorem dX2_send_78 : decode cX2_send 78 = .ok (.aload_n 0, 1) := dk_42 (dk_at dksX2_send_3 7 rfl rfl)
theorem dX2_send_79 : decode cX2_send 79 = .ok (.dup, 1) := dk_89 (dk_at dksX2_send_3 8 rfl rfl)
theorem dX2_send_80 : decode cX2_send 80 = .ok (.getfield 118, 3) := dk_180 0 118 (dk_at dksX2_send_3 9 rfl rfl)
theorem dX2_send_83 : decode cX2_send 83 = .ok (.iconst 1, 1) := dk_4 (dk_at dksX2_send_3 12 rfl rfl)
theorem dX2_send_84 : decode cX2_send 84 = .ok (.iadd, 1) := dk_96 (dk_at dksX2_send_3 13 rfl rfl)
theorem dX2_send_85 : decode cX2_send 85 = .ok (.putfield 118, 3) := dk_181 0 118 (dk_at dksX2_send_3 14 rfl rfl)
theorem dX2_send_88 : decode cX2_send 88 = .ok (.return_, 1) := dk_177 (dk_at dksX2_send_3 17 rfl rfl)
theorem dX2_send_89 : decode cX2_send 89 = .ok (.iconst 3, 1) := dk_6 (dk_at dksX2_send_3 18 rfl rfl)
theorem dX2_send_90 : decode cX2_send 90 = .ok (.newarray .int, 2) := dk_188_10 (dk_at dksX2_send_3 19 rfl rfl)
theorem dX2_send_92 : decode cX2_send 92 = .ok (.astore 5, 2) := dk_58 5 (dk_at dksX2_send_3 21 rfl rfl)
theorem dX2_send_94 : decode cX2_send 94 = .ok (.aload_n 3, 1) := dk_45 (dk_at dksX2_send_3 23 rfl rfl)
theorem dX2_send_95 : decode cX2_send 95 = .ok (.iconst 0, 1) := dk_3 (dk_at dksX2_send_4 0 rfl rfl)
theorem dX2_send_96 : decode cX2_send 96 = .ok (.aload 5, 2) := dk_25 5 (dk_at dksX2_send_4 1 rfl rfl)
theorem dX2_send_98 : decode cX2_send 98 = .ok (.iconst 0, 1) := dk_3 (dk_at dksX2_send_4 3 rfl rfl)
theorem dX2_send_99 : decode cX2_send 99 = .ok (.aload_n 3, 1) := dk_45 (dk_at dksX2_send_4 4 rfl rfl)
theorem dX2_send_100 : decode cX2_send 100 = .ok (.arraylength, 1) := dk_190 (dk_at dksX2_send_4 5 rfl rfl)
theorem dX2_send_101 : decode cX2_send 101 = .ok (.invokestatic 106, 3) := dk_184 0 106 (dk_at dksX2_send_4 6 rfl rfl)
theorem dX2_send_104 : decode cX2_send 104 = .ok (.aload_n 0, 1) := dk_42 (dk_at dksX2_send_4 9 rfl rfl)
theorem dX2_send_105 : decode cX2_send 105 = .ok (.getfield 14, 3) := dk_180 0 14 (dk_at dksX2_send_4 10 rfl rfl)
theorem dX2_send_108 : decode cX2_send 108 = .ok (.new 179, 3) := dk_187 0 179 (dk_at dksX2_send_4 13 rfl rfl)
theorem dX2_send_111 : decode cX2_send 111 = .ok (.dup, 1) := dk_89 (dk_at dksX2_send_4 16 rfl rfl)
theorem dX2_send_112 : decode cX2_send 112 = .ok (.aload_n 1, 1) := dk_43 (dk_at dksX2_send_4 17 rfl rfl)
theorem dX2_send_113 : decode cX2_send 113 = .ok (.iload_n 2, 1) := dk_28 (dk_at dksX2_send_4 18 rfl rfl)
theorem dX2_send_114 : decode cX2_send 114 = .ok (.aload_n 0, 1) := dk_42 (dk_at dksX2_send_4 19 rfl rfl)
theorem dX2_send_115 : decode cX2_send 115 = .ok (.getfield 115, 3) := dk_180 0 115 (dk_at dksX2_send_4 20 rfl rfl)
theorem dX2_send_118 : decode cX2_send 118 = .ok (.aload 5, 2) := dk_25 5 (dk_at dksX2_send_5 0 rfl rfl)
theorem dX2_send_120 : decode cX2_send 120 = .ok (.iload 4, 2) := dk_21 4 (dk_at dksX2_send_5 2 rfl rfl)
theorem dX2_send_122 : decode cX2_send 122 = .ok (.invokespecial 181, 3) := dk_183 0 181 (dk_at dksX2_send_5 4 rfl rfl)
theorem dX2_send_125 : decode cX2_send 125 = .ok (.invokeinterface 158 2, 5) := by decide +kernel
theorem dX2_send_130 : decode cX2_send 130 = .ok (.pop, 1) := dk_87 (dk_at dksX2_send_5 12 rfl rfl)
theorem dX2_send_131 : decode cX2_send 131 = .ok (.return_, 1) := dk_177 (dk_at dksX2_send_5 13 rfl rfl)
abbrev cX2_atStorage : ByteArray := prog_17_method_12_code
def yX2_atStorage : MethodName := ⟨RX2, "atStorage", "(LLeaderLeases$Message;)V"⟩
def dkwX2_atStorage_2 : List UInt8 := [182, 0, 203, 177]
abbrev dktX2_atStorage_2 : List UInt8 := dkwX2_atStorage_2 ++ []
def dkwX2_atStorage_1 : List UInt8 := [4, 182, 0, 226, 42, 178, 1, 29, 43, 180, 0, 213, 4, 188, 10, 89, 3, 44, 182, 1, 26, 79]
abbrev dktX2_atStorage_1 : List UInt8 := dkwX2_atStorage_1 ++ dktX2_atStorage_2
def dkwX2_atStorage_0 : List UInt8 := [42, 43, 182, 1, 21, 167, 0, 44, 77, 42, 8, 43, 180, 0, 213, 44, 182, 1, 26, 182, 0, 254, 42, 43]
abbrev dktX2_atStorage_0 : List UInt8 := dkwX2_atStorage_0 ++ dktX2_atStorage_1
theorem dksX2_atStorage_0 : cX2_atStorage.data.toList.drop 0 = dktX2_atStorage_0 := by decide +kernel
theorem dksX2_atStorage_1 : cX2_atStorage.data.toList.drop 24 = dktX2_atStorage_1 := dk_seg dksX2_atStorage_0 24 rfl rfl
theorem dksX2_atStorage_2 : cX2_atStorage.data.toList.drop 46 = dktX2_atStorage_2 := dk_seg dksX2_atStorage_1 22 rfl rfl
theorem dX2_atStorage_0 : decode cX2_atStorage 0 = .ok (.aload_n 0, 1) := dk_42 (dk_at dksX2_atStorage_0 0 rfl rfl)
theorem dX2_atStorage_1 : decode cX2_atStorage 1 = .ok (.aload_n 1, 1) := dk_43 (dk_at dksX2_atStorage_0 1 rfl rfl)
theorem dX2_atStorage_2 : decode cX2_atStorage 2 = .ok (.invokevirtual 277, 3) := dk_182 1 21 (dk_at dksX2_atStorage_0 2 rfl rfl)
theorem dX2_atStorage_5 : decode cX2_atStorage 5 = .ok (.goto 44, 3) := dk_167 0 44 (dk_at dksX2_atStorage_0 5 rfl rfl)
theorem dX2_atStorage_8 : decode cX2_atStorage 8 = .ok (.astore_n 2, 1) := dk_77 (dk_at dksX2_atStorage_0 8 rfl rfl)
theorem dX2_atStorage_9 : decode cX2_atStorage 9 = .ok (.aload_n 0, 1) := dk_42 (dk_at dksX2_atStorage_0 9 rfl rfl)
theorem dX2_atStorage_10 : decode cX2_atStorage 10 = .ok (.iconst 5, 1) := dk_8 (dk_at dksX2_atStorage_0 10 rfl rfl)
theorem dX2_atStorage_11 : decode cX2_atStorage 11 = .ok (.aload_n 1, 1) := dk_43 (dk_at dksX2_atStorage_0 11 rfl rfl)
theorem dX2_atStorage_12 : decode cX2_atStorage 12 = .ok (.getfield 213, 3) := dk_180 0 213 (dk_at dksX2_atStorage_0 12 rfl rfl)
theorem dX2_atStorage_15 : decode cX2_atStorage 15 = .ok (.aload_n 2, 1) := dk_44 (dk_at dksX2_atStorage_0 15 rfl rfl)
theorem dX2_atStorage_16 : decode cX2_atStorage 16 = .ok (.invokevirtual 282, 3) := dk_182 1 26 (dk_at dksX2_atStorage_0 16 rfl rfl)
theorem dX2_atStorage_19 : decode cX2_atStorage 19 = .ok (.invokevirtual 254, 3) := dk_182 0 254 (dk_at dksX2_atStorage_0 19 rfl rfl)
theorem dX2_atStorage_22 : decode cX2_atStorage 22 = .ok (.aload_n 0, 1) := dk_42 (dk_at dksX2_atStorage_0 22 rfl rfl)
theorem dX2_atStorage_23 : decode cX2_atStorage 23 = .ok (.aload_n 1, 1) := dk_43 (dk_at dksX2_atStorage_0 23 rfl rfl)
theorem dX2_atStorage_24 : decode cX2_atStorage 24 = .ok (.iconst 1, 1) := dk_4 (dk_at dksX2_atStorage_1 0 rfl rfl)
theorem dX2_atStorage_25 : decode cX2_atStorage 25 = .ok (.invokevirtual 226, 3) := dk_182 0 226 (dk_at dksX2_atStorage_1 1 rfl rfl)
theorem dX2_atStorage_28 : decode cX2_atStorage 28 = .ok (.aload_n 0, 1) := dk_42 (dk_at dksX2_atStorage_1 4 rfl rfl)
theorem dX2_atStorage_29 : decode cX2_atStorage 29 = .ok (.getstatic 285, 3) := dk_178 1 29 (dk_at dksX2_atStorage_1 5 rfl rfl)
theorem dX2_atStorage_32 : decode cX2_atStorage 32 = .ok (.aload_n 1, 1) := dk_43 (dk_at dksX2_atStorage_1 8 rfl rfl)
theorem dX2_atStorage_33 : decode cX2_atStorage 33 = .ok (.getfield 213, 3) := dk_180 0 213 (dk_at dksX2_atStorage_1 9 rfl rfl)
theorem dX2_atStorage_36 : decode cX2_atStorage 36 = .ok (.iconst 1, 1) := dk_4 (dk_at dksX2_atStorage_1 12 rfl rfl)
theorem dX2_atStorage_37 : decode cX2_atStorage 37 = .ok (.newarray .int, 2) := dk_188_10 (dk_at dksX2_atStorage_1 13 rfl rfl)
theorem dX2_atStorage_39 : decode cX2_atStorage 39 = .ok (.dup, 1) := dk_89 (dk_at dksX2_atStorage_1 15 rfl rfl)
theorem dX2_atStorage_40 : decode cX2_atStorage 40 = .ok (.iconst 0, 1) := dk_3 (dk_at dksX2_atStorage_1 16 rfl rfl)
theorem dX2_atStorage_41 : decode cX2_atStorage 41 = .ok (.aload_n 2, 1) := dk_44 (dk_at dksX2_atStorage_1 17 rfl rfl)
theorem dX2_atStorage_42 : decode cX2_atStorage 42 = .ok (.invokevirtual 282, 3) := dk_182 1 26 (dk_at dksX2_atStorage_1 18 rfl rfl)
theorem dX2_atStorage_45 : decode cX2_atStorage 45 = .ok (.iastore, 1) := dk_79 (dk_at dksX2_atStorage_1 21 rfl rfl)
theorem dX2_atStorage_46 : decode cX2_atStorage 46 = .ok (.invokevirtual 203, 3) := dk_182 0 203 (dk_at dksX2_atStorage_2 0 rfl rfl)
theorem dX2_atStorage_49 : decode cX2_atStorage 49 = .ok (.return_, 1) := dk_177 (dk_at dksX2_atStorage_2 3 rfl rfl)
abbrev cX2_carryOut : ByteArray := prog_17_method_13_code
def yX2_carryOut : MethodName := ⟨RX2, "carryOut", "(LLeaderLeases$Message;)V"⟩
def dkwX2_carryOut_6 : List UInt8 := [89, 44, 183, 1, 56, 191, 177]
abbrev dktX2_carryOut_6 : List UInt8 := dkwX2_carryOut_6 ++ []
def dkwX2_carryOut_5 : List UInt8 := [89, 4, 43, 180, 1, 35, 79, 89, 5, 43, 180, 1, 45, 79, 182, 0, 203, 167, 0, 13, 77, 187, 1, 24]
abbrev dktX2_carryOut_5 : List UInt8 := dkwX2_carryOut_5 ++ dktX2_carryOut_6
def dkwX2_carryOut_4 : List UInt8 := [42, 43, 3, 182, 0, 226, 42, 178, 1, 51, 43, 180, 0, 213, 6, 188, 10, 89, 3, 43, 180, 0, 251, 79]
abbrev dktX2_carryOut_4 : List UInt8 := dkwX2_carryOut_4 ++ dktX2_carryOut_5
def dkwX2_carryOut_3 : List UInt8 := [180, 1, 35, 43, 180, 1, 45, 182, 1, 48, 42, 16, 6, 43, 180, 0, 213, 43, 180, 0, 251, 182, 0, 254]
abbrev dktX2_carryOut_3 : List UInt8 := dkwX2_carryOut_3 ++ dktX2_carryOut_4
def dkwX2_carryOut_2 : List UInt8 := [43, 180, 1, 35, 79, 89, 5, 28, 79, 182, 0, 203, 167, 0, 77, 42, 180, 0, 32, 43, 180, 0, 251, 43]
abbrev dktX2_carryOut_2 : List UInt8 := dkwX2_carryOut_2 ++ dktX2_carryOut_3
def dkwX2_carryOut_1 : List UInt8 := [182, 1, 38, 61, 42, 178, 1, 42, 43, 180, 0, 213, 6, 188, 10, 89, 3, 43, 180, 0, 251, 79, 89, 4]
abbrev dktX2_carryOut_1 : List UInt8 := dkwX2_carryOut_1 ++ dktX2_carryOut_2
def dkwX2_carryOut_0 : List UInt8 := [43, 180, 0, 216, 178, 1, 32, 166, 0, 54, 42, 180, 0, 32, 43, 180, 0, 251, 43, 180, 1, 35]
abbrev dktX2_carryOut_0 : List UInt8 := dkwX2_carryOut_0 ++ dktX2_carryOut_1
theorem dksX2_carryOut_0 : cX2_carryOut.data.toList.drop 0 = dktX2_carryOut_0 := by decide +kernel
theorem dksX2_carryOut_1 : cX2_carryOut.data.toList.drop 22 = dktX2_carryOut_1 := dk_seg dksX2_carryOut_0 22 rfl rfl
theorem dksX2_carryOut_2 : cX2_carryOut.data.toList.drop 46 = dktX2_carryOut_2 := dk_seg dksX2_carryOut_1 24 rfl rfl
theorem dksX2_carryOut_3 : cX2_carryOut.data.toList.drop 70 = dktX2_carryOut_3 := dk_seg dksX2_carryOut_2 24 rfl rfl
theorem dksX2_carryOut_4 : cX2_carryOut.data.toList.drop 94 = dktX2_carryOut_4 := dk_seg dksX2_carryOut_3 24 rfl rfl
theorem dksX2_carryOut_5 : cX2_carryOut.data.toList.drop 118 = dktX2_carryOut_5 := dk_seg dksX2_carryOut_4 24 rfl rfl
theorem dksX2_carryOut_6 : cX2_carryOut.data.toList.drop 142 = dktX2_carryOut_6 := dk_seg dksX2_carryOut_5 24 rfl rfl
theorem dX2_carryOut_0 : decode cX2_carryOut 0 = .ok (.aload_n 1, 1) := dk_43 (dk_at dksX2_carryOut_0 0 rfl rfl)
theorem dX2_carryOut_1 : decode cX2_carryOut 1 = .ok (.getfield 216, 3) := dk_180 0 216 (dk_at dksX2_carryOut_0 1 rfl rfl)
theorem dX2_carryOut_4 : decode cX2_carryOut 4 = .ok (.getstatic 288, 3) := dk_178 1 32 (dk_at dksX2_carryOut_0 4 rfl rfl)
theorem dX2_carryOut_7 : decode cX2_carryOut 7 = .ok (.if_acmp .ne 54, 3) := dk_166 0 54 (dk_at dksX2_carryOut_0 7 rfl rfl)
theorem dX2_carryOut_10 : decode cX2_carryOut 10 = .ok (.aload_n 0, 1) := dk_42 (dk_at dksX2_carryOut_0 10 rfl rfl)
theorem dX2_carryOut_11 : decode cX2_carryOut 11 = .ok (.getfield 32, 3) := dk_180 0 32 (dk_at dksX2_carryOut_0 11 rfl rfl)
theorem dX2_carryOut_14 : decode cX2_carryOut 14 = .ok (.aload_n 1, 1) := dk_43 (dk_at dksX2_carryOut_0 14 rfl rfl)
theorem dX2_carryOut_15 : decode cX2_carryOut 15 = .ok (.getfield 251, 3) := dk_180 0 251 (dk_at dksX2_carryOut_0 15 rfl rfl)
theorem dX2_carryOut_18 : decode cX2_carryOut 18 = .ok (.aload_n 1, 1) := dk_43 (dk_at dksX2_carryOut_0 18 rfl rfl)
theorem dX2_carryOut_19 : decode cX2_carryOut 19 = .ok (.getfield 291, 3) := dk_180 1 35 (dk_at dksX2_carryOut_0 19 rfl rfl)
theorem dX2_carryOut_22 : decode cX2_carryOut 22 = .ok (.invokevirtual 294, 3) := dk_182 1 38 (dk_at dksX2_carryOut_1 0 rfl rfl)
theorem dX2_carryOut_25 : decode cX2_carryOut 25 = .ok (.istore_n 2, 1) := dk_61 (dk_at dksX2_carryOut_1 3 rfl rfl)
theorem dX2_carryOut_26 : decode cX2_carryOut 26 = .ok (.aload_n 0, 1) := dk_42 (dk_at dksX2_carryOut_1 4 rfl rfl)
theorem dX2_carryOut_27 : decode cX2_carryOut 27 = .ok (.getstatic 298, 3) := dk_178 1 42 (dk_at dksX2_carryOut_1 5 rfl rfl)
theorem dX2_carryOut_30 : decode cX2_carryOut 30 = .ok (.aload_n 1, 1) := dk_43 (dk_at dksX2_carryOut_1 8 rfl rfl)
theorem dX2_carryOut_31 : decode cX2_carryOut 31 = .ok (.getfield 213, 3) := dk_180 0 213 (dk_at dksX2_carryOut_1 9 rfl rfl)
theorem dX2_carryOut_34 : decode cX2_carryOut 34 = .ok (.iconst 3, 1) := dk_6 (dk_at dksX2_carryOut_1 12 rfl rfl)
theorem dX2_carryOut_35 : decode cX2_carryOut 35 = .ok (.newarray .int, 2) := dk_188_10 (dk_at dksX2_carryOut_1 13 rfl rfl)
theorem dX2_carryOut_37 : decode cX2_carryOut 37 = .ok (.dup, 1) := dk_89 (dk_at dksX2_carryOut_1 15 rfl rfl)
theorem dX2_carryOut_38 : decode cX2_carryOut 38 = .ok (.iconst 0, 1) := dk_3 (dk_at dksX2_carryOut_1 16 rfl rfl)
theorem dX2_carryOut_39 : decode cX2_carryOut 39 = .ok (.aload_n 1, 1) := dk_43 (dk_at dksX2_carryOut_1 17 rfl rfl)
theorem dX2_carryOut_40 : decode cX2_carryOut 40 = .ok (.getfield 251, 3) := dk_180 0 251 (dk_at dksX2_carryOut_1 18 rfl rfl)
theorem dX2_carryOut_43 : decode cX2_carryOut 43 = .ok (.iastore, 1) := dk_79 (dk_at dksX2_carryOut_1 21 rfl rfl)
theorem dX2_carryOut_44 : decode cX2_carryOut 44 = .ok (.dup, 1) := dk_89 (dk_at dksX2_carryOut_1 22 rfl rfl)
theorem dX2_carryOut_45 : decode cX2_carryOut 45 = .ok (.iconst 1, 1) := dk_4 (dk_at dksX2_carryOut_1 23 rfl rfl)
theorem dX2_carryOut_46 : decode cX2_carryOut 46 = .ok (.aload_n 1, 1) := dk_43 (dk_at dksX2_carryOut_2 0 rfl rfl)
theorem dX2_carryOut_47 : decode cX2_carryOut 47 = .ok (.getfield 291, 3) := dk_180 1 35 (dk_at dksX2_carryOut_2 1 rfl rfl)
theorem dX2_carryOut_50 : decode cX2_carryOut 50 = .ok (.iastore, 1) := dk_79 (dk_at dksX2_carryOut_2 4 rfl rfl)
theorem dX2_carryOut_51 : decode cX2_carryOut 51 = .ok (.dup, 1) := dk_89 (dk_at dksX2_carryOut_2 5 rfl rfl)
theorem dX2_carryOut_52 : decode cX2_carryOut 52 = .ok (.iconst 2, 1) := dk_5 (dk_at dksX2_carryOut_2 6 rfl rfl)
theorem dX2_carryOut_53 : decode cX2_carryOut 53 = .ok (.iload_n 2, 1) := dk_28 (dk_at dksX2_carryOut_2 7 rfl rfl)
theorem dX2_carryOut_54 : decode cX2_carryOut 54 = .ok (.iastore, 1) := dk_79 (dk_at dksX2_carryOut_2 8 rfl rfl)
theorem dX2_carryOut_55 : decode cX2_carryOut 55 = .ok (.invokevirtual 203, 3) := dk_182 0 203 (dk_at dksX2_carryOut_2 9 rfl rfl)
theorem dX2_carryOut_58 : decode cX2_carryOut 58 = .ok (.goto 77, 3) := dk_167 0 77 (dk_at dksX2_carryOut_2 12 rfl rfl)
theorem dX2_carryOut_61 : decode cX2_carryOut 61 = .ok (.aload_n 0, 1) := dk_42 (dk_at dksX2_carryOut_2 15 rfl rfl)
theorem dX2_carryOut_62 : decode cX2_carryOut 62 = .ok (.getfield 32, 3) := dk_180 0 32 (dk_at dksX2_carryOut_2 16 rfl rfl)
theorem dX2_carryOut_65 : decode cX2_carryOut 65 = .ok (.aload_n 1, 1) := dk_43 (dk_at dksX2_carryOut_2 19 rfl rfl)
theorem dX2_carryOut_66 : decode cX2_carryOut 66 = .ok (.getfield 251, 3) := dk_180 0 251 (dk_at dksX2_carryOut_2 20 rfl rfl)
theorem dX2_carryOut_69 : decode cX2_carryOut 69 = .ok (.aload_n 1, 1) := dk_43 (dk_at dksX2_carryOut_2 23 rfl rfl)
theorem dX2_carryOut_70 : decode cX2_carryOut 70 = .ok (.getfield 291, 3) := dk_180 1 35 (dk_at dksX2_carryOut_3 0 rfl rfl)
theorem dX2_carryOut_73 : decode cX2_carryOut 73 = .ok (.aload_n 1, 1) := dk_43 (dk_at dksX2_carryOut_3 3 rfl rfl)
theorem dX2_carryOut_74 : decode cX2_carryOut 74 = .ok (.getfield 301, 3) := dk_180 1 45 (dk_at dksX2_carryOut_3 4 rfl rfl)
theorem dX2_carryOut_77 : decode cX2_carryOut 77 = .ok (.invokevirtual 304, 3) := dk_182 1 48 (dk_at dksX2_carryOut_3 7 rfl rfl)
theorem dX2_carryOut_80 : decode cX2_carryOut 80 = .ok (.aload_n 0, 1) := dk_42 (dk_at dksX2_carryOut_3 10 rfl rfl)
theorem dX2_carryOut_81 : decode cX2_carryOut 81 = .ok (.bipush 6, 2) := dk_16 6 (dk_at dksX2_carryOut_3 11 rfl rfl)
theorem dX2_carryOut_83 : decode cX2_carryOut 83 = .ok (.aload_n 1, 1) := dk_43 (dk_at dksX2_carryOut_3 13 rfl rfl)
theorem dX2_carryOut_84 : decode cX2_carryOut 84 = .ok (.getfield 213, 3) := dk_180 0 213 (dk_at dksX2_carryOut_3 14 rfl rfl)
theorem dX2_carryOut_87 : decode cX2_carryOut 87 = .ok (.aload_n 1, 1) := dk_43 (dk_at dksX2_carryOut_3 17 rfl rfl)
theorem dX2_carryOut_88 : decode cX2_carryOut 88 = .ok (.getfield 251, 3) := dk_180 0 251 (dk_at dksX2_carryOut_3 18 rfl rfl)
theorem dX2_carryOut_91 : decode cX2_carryOut 91 = .ok (.invokevirtual 254, 3) := dk_182 0 254 (dk_at dksX2_carryOut_3 21 rfl rfl)
theorem dX2_carryOut_94 : decode cX2_carryOut 94 = .ok (.aload_n 0, 1) := dk_42 (dk_at dksX2_carryOut_4 0 rfl rfl)
theorem dX2_carryOut_95 : decode cX2_carryOut 95 = .ok (.aload_n 1, 1) := dk_43 (dk_at dksX2_carryOut_4 1 rfl rfl)
theorem dX2_carryOut_96 : decode cX2_carryOut 96 = .ok (.iconst 0, 1) := dk_3 (dk_at dksX2_carryOut_4 2 rfl rfl)
theorem dX2_carryOut_97 : decode cX2_carryOut 97 = .ok (.invokevirtual 226, 3) := dk_182 0 226 (dk_at dksX2_carryOut_4 3 rfl rfl)
theorem dX2_carryOut_100 : decode cX2_carryOut 100 = .ok (.aload_n 0, 1) := dk_42 (dk_at dksX2_carryOut_4 6 rfl rfl)
theorem dX2_carryOut_101 : decode cX2_carryOut 101 = .ok (.getstatic 307, 3) := dk_178 1 51 (dk_at dksX2_carryOut_4 7 rfl rfl)
theorem dX2_carryOut_104 : decode cX2_carryOut 104 = .ok (.aload_n 1, 1) := dk_43 (dk_at dksX2_carryOut_4 10 rfl rfl)
theorem dX2_carryOut_105 : decode cX2_carryOut 105 = .ok (.getfield 213, 3) := dk_180 0 213 (dk_at dksX2_carryOut_4 11 rfl rfl)
theorem dX2_carryOut_108 : decode cX2_carryOut 108 = .ok (.iconst 3, 1) := dk_6 (dk_at dksX2_carryOut_4 14 rfl rfl)
theorem dX2_carryOut_109 : decode cX2_carryOut 109 = .ok (.newarray .int, 2) := dk_188_10 (dk_at dksX2_carryOut_4 15 rfl rfl)
theorem dX2_carryOut_111 : decode cX2_carryOut 111 = .ok (.dup, 1) := dk_89 (dk_at dksX2_carryOut_4 17 rfl rfl)
theorem dX2_carryOut_112 : decode cX2_carryOut 112 = .ok (.iconst 0, 1) := dk_3 (dk_at dksX2_carryOut_4 18 rfl rfl)
theorem dX2_carryOut_113 : decode cX2_carryOut 113 = .ok (.aload_n 1, 1) := dk_43 (dk_at dksX2_carryOut_4 19 rfl rfl)
theorem dX2_carryOut_114 : decode cX2_carryOut 114 = .ok (.getfield 251, 3) := dk_180 0 251 (dk_at dksX2_carryOut_4 20 rfl rfl)
theorem dX2_carryOut_117 : decode cX2_carryOut 117 = .ok (.iastore, 1) := dk_79 (dk_at dksX2_carryOut_4 23 rfl rfl)
theorem dX2_carryOut_118 : decode cX2_carryOut 118 = .ok (.dup, 1) := dk_89 (dk_at dksX2_carryOut_5 0 rfl rfl)
theorem dX2_carryOut_119 : decode cX2_carryOut 119 = .ok (.iconst 1, 1) := dk_4 (dk_at dksX2_carryOut_5 1 rfl rfl)
theorem dX2_carryOut_120 : decode cX2_carryOut 120 = .ok (.aload_n 1, 1) := dk_43 (dk_at dksX2_carryOut_5 2 rfl rfl)
theorem dX2_carryOut_121 : decode cX2_carryOut 121 = .ok (.getfield 291, 3) := dk_180 1 35 (dk_at dksX2_carryOut_5 3 rfl rfl)
theorem dX2_carryOut_124 : decode cX2_carryOut 124 = .ok (.iastore, 1) := dk_79 (dk_at dksX2_carryOut_5 6 rfl rfl)
theorem dX2_carryOut_125 : decode cX2_carryOut 125 = .ok (.dup, 1) := dk_89 (dk_at dksX2_carryOut_5 7 rfl rfl)
theorem dX2_carryOut_126 : decode cX2_carryOut 126 = .ok (.iconst 2, 1) := dk_5 (dk_at dksX2_carryOut_5 8 rfl rfl)
theorem dX2_carryOut_127 : decode cX2_carryOut 127 = .ok (.aload_n 1, 1) := dk_43 (dk_at dksX2_carryOut_5 9 rfl rfl)
theorem dX2_carryOut_128 : decode cX2_carryOut 128 = .ok (.getfield 301, 3) := dk_180 1 45 (dk_at dksX2_carryOut_5 10 rfl rfl)
theorem dX2_carryOut_131 : decode cX2_carryOut 131 = .ok (.iastore, 1) := dk_79 (dk_at dksX2_carryOut_5 13 rfl rfl)
theorem dX2_carryOut_132 : decode cX2_carryOut 132 = .ok (.invokevirtual 203, 3) := dk_182 0 203 (dk_at dksX2_carryOut_5 14 rfl rfl)
theorem dX2_carryOut_135 : decode cX2_carryOut 135 = .ok (.goto 13, 3) := dk_167 0 13 (dk_at dksX2_carryOut_5 17 rfl rfl)
theorem dX2_carryOut_138 : decode cX2_carryOut 138 = .ok (.astore_n 2, 1) := dk_77 (dk_at dksX2_carryOut_5 20 rfl rfl)
theorem dX2_carryOut_139 : decode cX2_carryOut 139 = .ok (.new 280, 3) := dk_187 1 24 (dk_at dksX2_carryOut_5 21 rfl rfl)
theorem dX2_carryOut_142 : decode cX2_carryOut 142 = .ok (.dup, 1) := dk_89 (dk_at dksX2_carryOut_6 0 rfl rfl)
theorem dX2_carryOut_143 : decode cX2_carryOut 143 = .ok (.aload_n 2, 1) := dk_44 (dk_at dksX2_carryOut_6 1 rfl rfl)
theorem dX2_carryOut_144 : decode cX2_carryOut 144 = .ok (.invokespecial 312, 3) := dk_183 1 56 (dk_at dksX2_carryOut_6 2 rfl rfl)
theorem dX2_carryOut_147 : decode cX2_carryOut 147 = .ok (.athrow, 1) := dk_191 (dk_at dksX2_carryOut_6 5 rfl rfl)
theorem dX2_carryOut_148 : decode cX2_carryOut 148 = .ok (.return_, 1) := dk_177 (dk_at dksX2_carryOut_6 6 rfl rfl)
abbrev cX2_atNode : ByteArray := prog_17_method_14_code
def yX2_atNode : MethodName := ⟨RX2, "atNode", "(LLeaderLeases$Message;LLeaderLeases$Node;)V"⟩
def dkwX2_atNode_5 : List UInt8 := [180, 0, 251, 160, 0, 15, 44, 43, 180, 1, 35, 43, 180, 1, 45, 182, 1, 70, 177]
abbrev dktX2_atNode_5 : List UInt8 := dkwX2_atNode_5 ++ []
def dkwX2_atNode_4 : List UInt8 := [44, 180, 1, 65, 43, 180, 0, 251, 160, 0, 33, 44, 182, 1, 67, 167, 0, 26, 44, 180, 1, 65, 43]
abbrev dktX2_atNode_4 : List UInt8 := dkwX2_atNode_4 ++ dktX2_atNode_5
def dkwX2_atNode_3 : List UInt8 := [180, 0, 184, 42, 180, 0, 112, 182, 0, 146, 42, 180, 0, 47, 180, 0, 187, 96, 182, 0, 190, 167, 0, 44]
abbrev dktX2_atNode_3 : List UInt8 := dkwX2_atNode_3 ++ dktX2_atNode_4
def dkwX2_atNode_2 : List UInt8 := [42, 43, 44, 182, 1, 59, 167, 0, 81, 44, 180, 1, 62, 153, 0, 74, 44, 42, 180, 0, 112, 44]
abbrev dktX2_atNode_2 : List UInt8 := dkwX2_atNode_2 ++ dktX2_atNode_3
def dkwX2_atNode_1 : List UInt8 := [171, 0, 0, 0, 97, 0, 0, 0, 3, 0, 0, 0, 1, 0, 0, 0, 33, 0, 0, 0, 2, 0, 0, 0, 42, 0, 0, 0, 8, 0, 0, 0, 79]
abbrev dktX2_atNode_1 : List UInt8 := dkwX2_atNode_1 ++ dktX2_atNode_2
def dkwX2_atNode_0 : List UInt8 := [43, 180, 0, 216, 182, 0, 245]
abbrev dktX2_atNode_0 : List UInt8 := dkwX2_atNode_0 ++ dktX2_atNode_1
theorem dksX2_atNode_0 : cX2_atNode.data.toList.drop 0 = dktX2_atNode_0 := by decide +kernel
theorem dksX2_atNode_1 : cX2_atNode.data.toList.drop 7 = dktX2_atNode_1 := dk_seg dksX2_atNode_0 7 rfl rfl
theorem dksX2_atNode_2 : cX2_atNode.data.toList.drop 40 = dktX2_atNode_2 := dk_seg dksX2_atNode_1 33 rfl rfl
theorem dksX2_atNode_3 : cX2_atNode.data.toList.drop 62 = dktX2_atNode_3 := dk_seg dksX2_atNode_2 22 rfl rfl
theorem dksX2_atNode_4 : cX2_atNode.data.toList.drop 86 = dktX2_atNode_4 := dk_seg dksX2_atNode_3 24 rfl rfl
theorem dksX2_atNode_5 : cX2_atNode.data.toList.drop 109 = dktX2_atNode_5 := dk_seg dksX2_atNode_4 23 rfl rfl
theorem dX2_atNode_0 : decode cX2_atNode 0 = .ok (.aload_n 1, 1) := dk_43 (dk_at dksX2_atNode_0 0 rfl rfl)
theorem dX2_atNode_1 : decode cX2_atNode 1 = .ok (.getfield 216, 3) := dk_180 0 216 (dk_at dksX2_atNode_0 1 rfl rfl)
theorem dX2_atNode_4 : decode cX2_atNode 4 = .ok (.invokevirtual 245, 3) := dk_182 0 245 (dk_at dksX2_atNode_0 4 rfl rfl)
theorem dX2_atNode_7 : decode cX2_atNode 7 = .ok (.lookupswitch 97 #[(1, 33), (2, 42), (8, 79)], 33) := by decide +kernel
theorem dX2_atNode_40 : decode cX2_atNode 40 = .ok (.aload_n 0, 1) := dk_42 (dk_at dksX2_atNode_2 0 rfl rfl)
theorem dX2_atNode_41 : decode cX2_atNode 41 = .ok (.aload_n 1, 1) := dk_43 (dk_at dksX2_atNode_2 1 rfl rfl)
theorem dX2_atNode_42 : decode cX2_atNode 42 = .ok (.aload_n 2, 1) := dk_44 (dk_at dksX2_atNode_2 2 rfl rfl)
theorem dX2_atNode_43 : decode cX2_atNode 43 = .ok (.invokevirtual 315, 3) := dk_182 1 59 (dk_at dksX2_atNode_2 3 rfl rfl)
theorem dX2_atNode_46 : decode cX2_atNode 46 = .ok (.goto 81, 3) := dk_167 0 81 (dk_at dksX2_atNode_2 6 rfl rfl)
theorem dX2_atNode_49 : decode cX2_atNode 49 = .ok (.aload_n 2, 1) := dk_44 (dk_at dksX2_atNode_2 9 rfl rfl)
theorem dX2_atNode_50 : decode cX2_atNode 50 = .ok (.getfield 318, 3) := dk_180 1 62 (dk_at dksX2_atNode_2 10 rfl rfl)
theorem dX2_atNode_53 : decode cX2_atNode 53 = .ok (.ifCond .eq 74, 3) := dk_153 0 74 (dk_at dksX2_atNode_2 13 rfl rfl)
theorem dX2_atNode_56 : decode cX2_atNode 56 = .ok (.aload_n 2, 1) := dk_44 (dk_at dksX2_atNode_2 16 rfl rfl)
theorem dX2_atNode_57 : decode cX2_atNode 57 = .ok (.aload_n 0, 1) := dk_42 (dk_at dksX2_atNode_2 17 rfl rfl)
theorem dX2_atNode_58 : decode cX2_atNode 58 = .ok (.getfield 112, 3) := dk_180 0 112 (dk_at dksX2_atNode_2 18 rfl rfl)
theorem dX2_atNode_61 : decode cX2_atNode 61 = .ok (.aload_n 2, 1) := dk_44 (dk_at dksX2_atNode_2 21 rfl rfl)
theorem dX2_atNode_62 : decode cX2_atNode 62 = .ok (.getfield 184, 3) := dk_180 0 184 (dk_at dksX2_atNode_3 0 rfl rfl)
theorem dX2_atNode_65 : decode cX2_atNode 65 = .ok (.aload_n 0, 1) := dk_42 (dk_at dksX2_atNode_3 3 rfl rfl)
theorem dX2_atNode_66 : decode cX2_atNode 66 = .ok (.getfield 112, 3) := dk_180 0 112 (dk_at dksX2_atNode_3 4 rfl rfl)
theorem dX2_atNode_69 : decode cX2_atNode 69 = .ok (.invokevirtual 146, 3) := dk_182 0 146 (dk_at dksX2_atNode_3 7 rfl rfl)
theorem dX2_atNode_72 : decode cX2_atNode 72 = .ok (.aload_n 0, 1) := dk_42 (dk_at dksX2_atNode_3 10 rfl rfl)
theorem dX2_atNode_73 : decode cX2_atNode 73 = .ok (.getfield 47, 3) := dk_180 0 47 (dk_at dksX2_atNode_3 11 rfl rfl)
theorem dX2_atNode_76 : decode cX2_atNode 76 = .ok (.getfield 187, 3) := dk_180 0 187 (dk_at dksX2_atNode_3 14 rfl rfl)
theorem dX2_atNode_79 : decode cX2_atNode 79 = .ok (.iadd, 1) := dk_96 (dk_at dksX2_atNode_3 17 rfl rfl)
theorem dX2_atNode_80 : decode cX2_atNode 80 = .ok (.invokevirtual 190, 3) := dk_182 0 190 (dk_at dksX2_atNode_3 18 rfl rfl)
theorem dX2_atNode_83 : decode cX2_atNode 83 = .ok (.goto 44, 3) := dk_167 0 44 (dk_at dksX2_atNode_3 21 rfl rfl)
theorem dX2_atNode_86 : decode cX2_atNode 86 = .ok (.aload_n 2, 1) := dk_44 (dk_at dksX2_atNode_4 0 rfl rfl)
theorem dX2_atNode_87 : decode cX2_atNode 87 = .ok (.getfield 321, 3) := dk_180 1 65 (dk_at dksX2_atNode_4 1 rfl rfl)
theorem dX2_atNode_90 : decode cX2_atNode 90 = .ok (.aload_n 1, 1) := dk_43 (dk_at dksX2_atNode_4 4 rfl rfl)
theorem dX2_atNode_91 : decode cX2_atNode 91 = .ok (.getfield 251, 3) := dk_180 0 251 (dk_at dksX2_atNode_4 5 rfl rfl)
theorem dX2_atNode_94 : decode cX2_atNode 94 = .ok (.if_icmp .ne 33, 3) := dk_160 0 33 (dk_at dksX2_atNode_4 8 rfl rfl)
theorem dX2_atNode_97 : decode cX2_atNode 97 = .ok (.aload_n 2, 1) := dk_44 (dk_at dksX2_atNode_4 11 rfl rfl)
theorem dX2_atNode_98 : decode cX2_atNode 98 = .ok (.invokevirtual 323, 3) := dk_182 1 67 (dk_at dksX2_atNode_4 12 rfl rfl)
theorem dX2_atNode_101 : decode cX2_atNode 101 = .ok (.goto 26, 3) := dk_167 0 26 (dk_at dksX2_atNode_4 15 rfl rfl)
theorem dX2_atNode_104 : decode cX2_atNode 104 = .ok (.aload_n 2, 1) := dk_44 (dk_at dksX2_atNode_4 18 rfl rfl)
theorem dX2_atNode_105 : decode cX2_atNode 105 = .ok (.getfield 321, 3) := dk_180 1 65 (dk_at dksX2_atNode_4 19 rfl rfl)
theorem dX2_atNode_108 : decode cX2_atNode 108 = .ok (.aload_n 1, 1) := dk_43 (dk_at dksX2_atNode_4 22 rfl rfl)
theorem dX2_atNode_109 : decode cX2_atNode 109 = .ok (.getfield 251, 3) := dk_180 0 251 (dk_at dksX2_atNode_5 0 rfl rfl)
theorem dX2_atNode_112 : decode cX2_atNode 112 = .ok (.if_icmp .ne 15, 3) := dk_160 0 15 (dk_at dksX2_atNode_5 3 rfl rfl)
theorem dX2_atNode_115 : decode cX2_atNode 115 = .ok (.aload_n 2, 1) := dk_44 (dk_at dksX2_atNode_5 6 rfl rfl)
theorem dX2_atNode_116 : decode cX2_atNode 116 = .ok (.aload_n 1, 1) := dk_43 (dk_at dksX2_atNode_5 7 rfl rfl)
theorem dX2_atNode_117 : decode cX2_atNode 117 = .ok (.getfield 291, 3) := dk_180 1 35 (dk_at dksX2_atNode_5 8 rfl rfl)
theorem dX2_atNode_120 : decode cX2_atNode 120 = .ok (.aload_n 1, 1) := dk_43 (dk_at dksX2_atNode_5 11 rfl rfl)
theorem dX2_atNode_121 : decode cX2_atNode 121 = .ok (.getfield 301, 3) := dk_180 1 45 (dk_at dksX2_atNode_5 12 rfl rfl)
theorem dX2_atNode_124 : decode cX2_atNode 124 = .ok (.invokevirtual 326, 3) := dk_182 1 70 (dk_at dksX2_atNode_5 15 rfl rfl)
theorem dX2_atNode_127 : decode cX2_atNode 127 = .ok (.return_, 1) := dk_177 (dk_at dksX2_atNode_5 18 rfl rfl)
abbrev cX2_granted : ByteArray := prog_17_method_15_code
def yX2_granted : MethodName := ⟨RX2, "granted", "(LLeaderLeases$Message;LLeaderLeases$Node;)V"⟩
def dkwX2_granted_5 : List UInt8 := [181, 1, 84, 44, 42, 180, 0, 112, 43, 180, 0, 251, 42, 180, 0, 47, 180, 1, 92, 96, 182, 0, 190, 177]
abbrev dktX2_granted_5 : List UInt8 := dkwX2_granted_5 ++ []
def dkwX2_granted_4 : List UInt8 := [181, 1, 81, 44, 29, 181, 1, 65, 44, 21, 4, 181, 1, 84, 44, 44, 180, 1, 84, 21, 4, 184, 1, 87]
abbrev dktX2_granted_4 : List UInt8 := dkwX2_granted_4 ++ dktX2_granted_5
def dkwX2_granted_3 : List UInt8 := [180, 0, 47, 180, 1, 78, 133, 97, 109, 97, 136, 54, 4, 29, 44, 180, 1, 65, 164, 0, 19, 44, 3]
abbrev dktX2_granted_3 : List UInt8 := dkwX2_granted_3 ++ dktX2_granted_4
def dkwX2_granted_2 : List UInt8 := [180, 0, 47, 180, 1, 15, 133, 20, 1, 76, 42, 180, 0, 47, 180, 1, 78, 133, 101, 105, 20, 1, 76, 42]
abbrev dktX2_granted_2 : List UInt8 := dkwX2_granted_2 ++ dktX2_granted_3
def dkwX2_granted_1 : List UInt8 := [3, 29, 79, 182, 0, 203, 177, 29, 44, 180, 1, 65, 162, 0, 4, 177, 43, 180, 0, 251, 133, 42]
abbrev dktX2_granted_1 : List UInt8 := dkwX2_granted_1 ++ dktX2_granted_2
def dkwX2_granted_0 : List UInt8 := [43, 180, 1, 35, 62, 44, 180, 1, 62, 154, 0, 22, 42, 178, 1, 73, 43, 180, 0, 213, 4, 188, 10, 89]
abbrev dktX2_granted_0 : List UInt8 := dkwX2_granted_0 ++ dktX2_granted_1
theorem dksX2_granted_0 : cX2_granted.data.toList.drop 0 = dktX2_granted_0 := by decide +kernel
theorem dksX2_granted_1 : cX2_granted.data.toList.drop 24 = dktX2_granted_1 := dk_seg dksX2_granted_0 24 rfl rfl
theorem dksX2_granted_2 : cX2_granted.data.toList.drop 46 = dktX2_granted_2 := dk_seg dksX2_granted_1 22 rfl rfl
theorem dksX2_granted_3 : cX2_granted.data.toList.drop 70 = dktX2_granted_3 := dk_seg dksX2_granted_2 24 rfl rfl
theorem dksX2_granted_4 : cX2_granted.data.toList.drop 93 = dktX2_granted_4 := dk_seg dksX2_granted_3 23 rfl rfl
theorem dksX2_granted_5 : cX2_granted.data.toList.drop 117 = dktX2_granted_5 := dk_seg dksX2_granted_4 24 rfl rfl
theorem dX2_granted_0 : decode cX2_granted 0 = .ok (.aload_n 1, 1) := dk_43 (dk_at dksX2_granted_0 0 rfl rfl)
theorem dX2_granted_1 : decode cX2_granted 1 = .ok (.getfield 291, 3) := dk_180 1 35 (dk_at dksX2_granted_0 1 rfl rfl)
theorem dX2_granted_4 : decode cX2_granted 4 = .ok (.istore_n 3, 1) := dk_62 (dk_at dksX2_granted_0 4 rfl rfl)
theorem dX2_granted_5 : decode cX2_granted 5 = .ok (.aload_n 2, 1) := dk_44 (dk_at dksX2_granted_0 5 rfl rfl)
theorem dX2_granted_6 : decode cX2_granted 6 = .ok (.getfield 318, 3) := dk_180 1 62 (dk_at dksX2_granted_0 6 rfl rfl)
theorem dX2_granted_9 : decode cX2_granted 9 = .ok (.ifCond .ne 22, 3) := dk_154 0 22 (dk_at dksX2_granted_0 9 rfl rfl)
theorem dX2_granted_12 : decode cX2_granted 12 = .ok (.aload_n 0, 1) := dk_42 (dk_at dksX2_granted_0 12 rfl rfl)
theorem dX2_granted_13 : decode cX2_granted 13 = .ok (.getstatic 329, 3) := dk_178 1 73 (dk_at dksX2_granted_0 13 rfl rfl)
theorem dX2_granted_16 : decode cX2_granted 16 = .ok (.aload_n 1, 1) := dk_43 (dk_at dksX2_granted_0 16 rfl rfl)
theorem dX2_granted_17 : decode cX2_granted 17 = .ok (.getfield 213, 3) := dk_180 0 213 (dk_at dksX2_granted_0 17 rfl rfl)
theorem dX2_granted_20 : decode cX2_granted 20 = .ok (.iconst 1, 1) := dk_4 (dk_at dksX2_granted_0 20 rfl rfl)
theorem dX2_granted_21 : decode cX2_granted 21 = .ok (.newarray .int, 2) := dk_188_10 (dk_at dksX2_granted_0 21 rfl rfl)
theorem dX2_granted_23 : decode cX2_granted 23 = .ok (.dup, 1) := dk_89 (dk_at dksX2_granted_0 23 rfl rfl)
theorem dX2_granted_24 : decode cX2_granted 24 = .ok (.iconst 0, 1) := dk_3 (dk_at dksX2_granted_1 0 rfl rfl)
theorem dX2_granted_25 : decode cX2_granted 25 = .ok (.iload_n 3, 1) := dk_29 (dk_at dksX2_granted_1 1 rfl rfl)
theorem dX2_granted_26 : decode cX2_granted 26 = .ok (.iastore, 1) := dk_79 (dk_at dksX2_granted_1 2 rfl rfl)
theorem dX2_granted_27 : decode cX2_granted 27 = .ok (.invokevirtual 203, 3) := dk_182 0 203 (dk_at dksX2_granted_1 3 rfl rfl)
theorem dX2_granted_30 : decode cX2_granted 30 = .ok (.return_, 1) := dk_177 (dk_at dksX2_granted_1 6 rfl rfl)
theorem dX2_granted_31 : decode cX2_granted 31 = .ok (.iload_n 3, 1) := dk_29 (dk_at dksX2_granted_1 7 rfl rfl)
theorem dX2_granted_32 : decode cX2_granted 32 = .ok (.aload_n 2, 1) := dk_44 (dk_at dksX2_granted_1 8 rfl rfl)
theorem dX2_granted_33 : decode cX2_granted 33 = .ok (.getfield 321, 3) := dk_180 1 65 (dk_at dksX2_granted_1 9 rfl rfl)
theorem dX2_granted_36 : decode cX2_granted 36 = .ok (.if_icmp .ge 4, 3) := dk_162 0 4 (dk_at dksX2_granted_1 12 rfl rfl)
theorem dX2_granted_39 : decode cX2_granted 39 = .ok (.return_, 1) := dk_177 (dk_at dksX2_granted_1 15 rfl rfl)
theorem dX2_granted_40 : decode cX2_granted 40 = .ok (.aload_n 1, 1) := dk_43 (dk_at dksX2_granted_1 16 rfl rfl)
theorem dX2_granted_41 : decode cX2_granted 41 = .ok (.getfield 251, 3) := dk_180 0 251 (dk_at dksX2_granted_1 17 rfl rfl)
theorem dX2_granted_44 : decode cX2_granted 44 = .ok (.i2l, 1) := dk_133 (dk_at dksX2_granted_1 20 rfl rfl)
theorem dX2_granted_45 : decode cX2_granted 45 = .ok (.aload_n 0, 1) := dk_42 (dk_at dksX2_granted_1 21 rfl rfl)
theorem dX2_granted_46 : decode cX2_granted 46 = .ok (.getfield 47, 3) := dk_180 0 47 (dk_at dksX2_granted_2 0 rfl rfl)
theorem dX2_granted_49 : decode cX2_granted 49 = .ok (.getfield 271, 3) := dk_180 1 15 (dk_at dksX2_granted_2 3 rfl rfl)
theorem dX2_granted_52 : decode cX2_granted 52 = .ok (.i2l, 1) := dk_133 (dk_at dksX2_granted_2 6 rfl rfl)
theorem dX2_granted_53 : decode cX2_granted 53 = .ok (.ldc2_w 332, 3) := dk_20 1 76 (dk_at dksX2_granted_2 7 rfl rfl)
theorem dX2_granted_56 : decode cX2_granted 56 = .ok (.aload_n 0, 1) := dk_42 (dk_at dksX2_granted_2 10 rfl rfl)
theorem dX2_granted_57 : decode cX2_granted 57 = .ok (.getfield 47, 3) := dk_180 0 47 (dk_at dksX2_granted_2 11 rfl rfl)
theorem dX2_granted_60 : decode cX2_granted 60 = .ok (.getfield 334, 3) := dk_180 1 78 (dk_at dksX2_granted_2 14 rfl rfl)
theorem dX2_granted_63 : decode cX2_granted 63 = .ok (.i2l, 1) := dk_133 (dk_at dksX2_granted_2 17 rfl rfl)
theorem dX2_granted_64 : decode cX2_granted 64 = .ok (.lsub, 1) := dk_101 (dk_at dksX2_granted_2 18 rfl rfl)
theorem dX2_granted_65 : decode cX2_granted 65 = .ok (.lmul, 1) := dk_105 (dk_at dksX2_granted_2 19 rfl rfl)
theorem dX2_granted_66 : decode cX2_granted 66 = .ok (.ldc2_w 332, 3) := dk_20 1 76 (dk_at dksX2_granted_2 20 rfl rfl)
theorem dX2_granted_69 : decode cX2_granted 69 = .ok (.aload_n 0, 1) := dk_42 (dk_at dksX2_granted_2 23 rfl rfl)
theorem dX2_granted_70 : decode cX2_granted 70 = .ok (.getfield 47, 3) := dk_180 0 47 (dk_at dksX2_granted_3 0 rfl rfl)
theorem dX2_granted_73 : decode cX2_granted 73 = .ok (.getfield 334, 3) := dk_180 1 78 (dk_at dksX2_granted_3 3 rfl rfl)
theorem dX2_granted_76 : decode cX2_granted 76 = .ok (.i2l, 1) := dk_133 (dk_at dksX2_granted_3 6 rfl rfl)
theorem dX2_granted_77 : decode cX2_granted 77 = .ok (.ladd, 1) := dk_97 (dk_at dksX2_granted_3 7 rfl rfl)
theorem dX2_granted_78 : decode cX2_granted 78 = .ok (.ldiv, 1) := dk_109 (dk_at dksX2_granted_3 8 rfl rfl)
theorem dX2_granted_79 : decode cX2_granted 79 = .ok (.ladd, 1) := dk_97 (dk_at dksX2_granted_3 9 rfl rfl)
theorem dX2_granted_80 : decode cX2_granted 80 = .ok (.l2i, 1) := dk_136 (dk_at dksX2_granted_3 10 rfl rfl)
theorem dX2_granted_81 : decode cX2_granted 81 = .ok (.istore 4, 2) := dk_54 4 (dk_at dksX2_granted_3 11 rfl rfl)
theorem dX2_granted_83 : decode cX2_granted 83 = .ok (.iload_n 3, 1) := dk_29 (dk_at dksX2_granted_3 13 rfl rfl)
theorem dX2_granted_84 : decode cX2_granted 84 = .ok (.aload_n 2, 1) := dk_44 (dk_at dksX2_granted_3 14 rfl rfl)
theorem dX2_granted_85 : decode cX2_granted 85 = .ok (.getfield 321, 3) := dk_180 1 65 (dk_at dksX2_granted_3 15 rfl rfl)
theorem dX2_granted_88 : decode cX2_granted 88 = .ok (.if_icmp .le 19, 3) := dk_164 0 19 (dk_at dksX2_granted_3 18 rfl rfl)
theorem dX2_granted_91 : decode cX2_granted 91 = .ok (.aload_n 2, 1) := dk_44 (dk_at dksX2_granted_3 21 rfl rfl)
theorem dX2_granted_92 : decode cX2_granted 92 = .ok (.iconst 0, 1) := dk_3 (dk_at dksX2_granted_3 22 rfl rfl)
theorem dX2_granted_93 : decode cX2_granted 93 = .ok (.putfield 337, 3) := dk_181 1 81 (dk_at dksX2_granted_4 0 rfl rfl)
theorem dX2_granted_96 : decode cX2_granted 96 = .ok (.aload_n 2, 1) := dk_44 (dk_at dksX2_granted_4 3 rfl rfl)
theorem dX2_granted_97 : decode cX2_granted 97 = .ok (.iload_n 3, 1) := dk_29 (dk_at dksX2_granted_4 4 rfl rfl)
theorem dX2_granted_98 : decode cX2_granted 98 = .ok (.putfield 321, 3) := dk_181 1 65 (dk_at dksX2_granted_4 5 rfl rfl)
theorem dX2_granted_101 : decode cX2_granted 101 = .ok (.aload_n 2, 1) := dk_44 (dk_at dksX2_granted_4 8 rfl rfl)
theorem dX2_granted_102 : decode cX2_granted 102 = .ok (.iload 4, 2) := dk_21 4 (dk_at dksX2_granted_4 9 rfl rfl)
theorem dX2_granted_104 : decode cX2_granted 104 = .ok (.putfield 340, 3) := dk_181 1 84 (dk_at dksX2_granted_4 11 rfl rfl)
theorem dX2_granted_107 : decode cX2_granted 107 = .ok (.aload_n 2, 1) := dk_44 (dk_at dksX2_granted_4 14 rfl rfl)
theorem dX2_granted_108 : decode cX2_granted 108 = .ok (.aload_n 2, 1) := dk_44 (dk_at dksX2_granted_4 15 rfl rfl)
theorem dX2_granted_109 : decode cX2_granted 109 = .ok (.getfield 340, 3) := dk_180 1 84 (dk_at dksX2_granted_4 16 rfl rfl)
theorem dX2_granted_112 : decode cX2_granted 112 = .ok (.iload 4, 2) := dk_21 4 (dk_at dksX2_granted_4 19 rfl rfl)
theorem dX2_granted_114 : decode cX2_granted 114 = .ok (.invokestatic 343, 3) := dk_184 1 87 (dk_at dksX2_granted_4 21 rfl rfl)
theorem dX2_granted_117 : decode cX2_granted 117 = .ok (.putfield 340, 3) := dk_181 1 84 (dk_at dksX2_granted_5 0 rfl rfl)
theorem dX2_granted_120 : decode cX2_granted 120 = .ok (.aload_n 2, 1) := dk_44 (dk_at dksX2_granted_5 3 rfl rfl)
theorem dX2_granted_121 : decode cX2_granted 121 = .ok (.aload_n 0, 1) := dk_42 (dk_at dksX2_granted_5 4 rfl rfl)
theorem dX2_granted_122 : decode cX2_granted 122 = .ok (.getfield 112, 3) := dk_180 0 112 (dk_at dksX2_granted_5 5 rfl rfl)
theorem dX2_granted_125 : decode cX2_granted 125 = .ok (.aload_n 1, 1) := dk_43 (dk_at dksX2_granted_5 8 rfl rfl)
theorem dX2_granted_126 : decode cX2_granted 126 = .ok (.getfield 251, 3) := dk_180 0 251 (dk_at dksX2_granted_5 9 rfl rfl)
theorem dX2_granted_129 : decode cX2_granted 129 = .ok (.aload_n 0, 1) := dk_42 (dk_at dksX2_granted_5 12 rfl rfl)
theorem dX2_granted_130 : decode cX2_granted 130 = .ok (.getfield 47, 3) := dk_180 0 47 (dk_at dksX2_granted_5 13 rfl rfl)
theorem dX2_granted_133 : decode cX2_granted 133 = .ok (.getfield 348, 3) := dk_180 1 92 (dk_at dksX2_granted_5 16 rfl rfl)
theorem dX2_granted_136 : decode cX2_granted 136 = .ok (.iadd, 1) := dk_96 (dk_at dksX2_granted_5 19 rfl rfl)
theorem dX2_granted_137 : decode cX2_granted 137 = .ok (.invokevirtual 190, 3) := dk_182 0 190 (dk_at dksX2_granted_5 20 rfl rfl)
theorem dX2_granted_140 : decode cX2_granted 140 = .ok (.return_, 1) := dk_177 (dk_at dksX2_granted_5 23 rfl rfl)
abbrev cX2_acquire : ByteArray := prog_17_method_6_code
def yX2_acquire : MethodName := ⟨RX2, "acquire", "(I)V"⟩
def dkwX2_acquire_2 : List UInt8 := [178, 0, 197, 27, 4, 188, 10, 89, 3, 29, 79, 182, 0, 203, 177]
abbrev dktX2_acquire_2 : List UInt8 := dkwX2_acquire_2 ++ []
def dkwX2_acquire_1 : List UInt8 := [29, 42, 180, 0, 47, 180, 0, 187, 96, 182, 0, 190, 44, 89, 180, 0, 194, 4, 96, 181, 0, 194, 42]
abbrev dktX2_acquire_1 : List UInt8 := dkwX2_acquire_1 ++ dktX2_acquire_2
def dkwX2_acquire_0 : List UInt8 := [42, 180, 0, 64, 27, 50, 77, 44, 180, 0, 184, 42, 180, 0, 112, 182, 0, 146, 62, 44, 42, 180, 0, 112]
abbrev dktX2_acquire_0 : List UInt8 := dkwX2_acquire_0 ++ dktX2_acquire_1
theorem dksX2_acquire_0 : cX2_acquire.data.toList.drop 0 = dktX2_acquire_0 := by decide +kernel
theorem dksX2_acquire_1 : cX2_acquire.data.toList.drop 24 = dktX2_acquire_1 := dk_seg dksX2_acquire_0 24 rfl rfl
theorem dksX2_acquire_2 : cX2_acquire.data.toList.drop 47 = dktX2_acquire_2 := dk_seg dksX2_acquire_1 23 rfl rfl
theorem dX2_acquire_0 : decode cX2_acquire 0 = .ok (.aload_n 0, 1) := dk_42 (dk_at dksX2_acquire_0 0 rfl rfl)
theorem dX2_acquire_1 : decode cX2_acquire 1 = .ok (.getfield 64, 3) := dk_180 0 64 (dk_at dksX2_acquire_0 1 rfl rfl)
theorem dX2_acquire_4 : decode cX2_acquire 4 = .ok (.iload_n 1, 1) := dk_27 (dk_at dksX2_acquire_0 4 rfl rfl)
theorem dX2_acquire_5 : decode cX2_acquire 5 = .ok (.aaload, 1) := dk_50 (dk_at dksX2_acquire_0 5 rfl rfl)
theorem dX2_acquire_6 : decode cX2_acquire 6 = .ok (.astore_n 2, 1) := dk_77 (dk_at dksX2_acquire_0 6 rfl rfl)
theorem dX2_acquire_7 : decode cX2_acquire 7 = .ok (.aload_n 2, 1) := dk_44 (dk_at dksX2_acquire_0 7 rfl rfl)
theorem dX2_acquire_8 : decode cX2_acquire 8 = .ok (.getfield 184, 3) := dk_180 0 184 (dk_at dksX2_acquire_0 8 rfl rfl)
theorem dX2_acquire_11 : decode cX2_acquire 11 = .ok (.aload_n 0, 1) := dk_42 (dk_at dksX2_acquire_0 11 rfl rfl)
theorem dX2_acquire_12 : decode cX2_acquire 12 = .ok (.getfield 112, 3) := dk_180 0 112 (dk_at dksX2_acquire_0 12 rfl rfl)
theorem dX2_acquire_15 : decode cX2_acquire 15 = .ok (.invokevirtual 146, 3) := dk_182 0 146 (dk_at dksX2_acquire_0 15 rfl rfl)
theorem dX2_acquire_18 : decode cX2_acquire 18 = .ok (.istore_n 3, 1) := dk_62 (dk_at dksX2_acquire_0 18 rfl rfl)
theorem dX2_acquire_19 : decode cX2_acquire 19 = .ok (.aload_n 2, 1) := dk_44 (dk_at dksX2_acquire_0 19 rfl rfl)
theorem dX2_acquire_20 : decode cX2_acquire 20 = .ok (.aload_n 0, 1) := dk_42 (dk_at dksX2_acquire_0 20 rfl rfl)
theorem dX2_acquire_21 : decode cX2_acquire 21 = .ok (.getfield 112, 3) := dk_180 0 112 (dk_at dksX2_acquire_0 21 rfl rfl)
theorem dX2_acquire_24 : decode cX2_acquire 24 = .ok (.iload_n 3, 1) := dk_29 (dk_at dksX2_acquire_1 0 rfl rfl)
theorem dX2_acquire_25 : decode cX2_acquire 25 = .ok (.aload_n 0, 1) := dk_42 (dk_at dksX2_acquire_1 1 rfl rfl)
theorem dX2_acquire_26 : decode cX2_acquire 26 = .ok (.getfield 47, 3) := dk_180 0 47 (dk_at dksX2_acquire_1 2 rfl rfl)
theorem dX2_acquire_29 : decode cX2_acquire 29 = .ok (.getfield 187, 3) := dk_180 0 187 (dk_at dksX2_acquire_1 5 rfl rfl)
theorem dX2_acquire_32 : decode cX2_acquire 32 = .ok (.iadd, 1) := dk_96 (dk_at dksX2_acquire_1 8 rfl rfl)
theorem dX2_acquire_33 : decode cX2_acquire 33 = .ok (.invokevirtual 190, 3) := dk_182 0 190 (dk_at dksX2_acquire_1 9 rfl rfl)
theorem dX2_acquire_36 : decode cX2_acquire 36 = .ok (.aload_n 2, 1) := dk_44 (dk_at dksX2_acquire_1 12 rfl rfl)
theorem dX2_acquire_37 : decode cX2_acquire 37 = .ok (.dup, 1) := dk_89 (dk_at dksX2_acquire_1 13 rfl rfl)
theorem dX2_acquire_38 : decode cX2_acquire 38 = .ok (.getfield 194, 3) := dk_180 0 194 (dk_at dksX2_acquire_1 14 rfl rfl)
theorem dX2_acquire_41 : decode cX2_acquire 41 = .ok (.iconst 1, 1) := dk_4 (dk_at dksX2_acquire_1 17 rfl rfl)
theorem dX2_acquire_42 : decode cX2_acquire 42 = .ok (.iadd, 1) := dk_96 (dk_at dksX2_acquire_1 18 rfl rfl)
theorem dX2_acquire_43 : decode cX2_acquire 43 = .ok (.putfield 194, 3) := dk_181 0 194 (dk_at dksX2_acquire_1 19 rfl rfl)
theorem dX2_acquire_46 : decode cX2_acquire 46 = .ok (.aload_n 0, 1) := dk_42 (dk_at dksX2_acquire_1 22 rfl rfl)
theorem dX2_acquire_47 : decode cX2_acquire 47 = .ok (.getstatic 197, 3) := dk_178 0 197 (dk_at dksX2_acquire_2 0 rfl rfl)
theorem dX2_acquire_50 : decode cX2_acquire 50 = .ok (.iload_n 1, 1) := dk_27 (dk_at dksX2_acquire_2 3 rfl rfl)
theorem dX2_acquire_51 : decode cX2_acquire 51 = .ok (.iconst 1, 1) := dk_4 (dk_at dksX2_acquire_2 4 rfl rfl)
theorem dX2_acquire_52 : decode cX2_acquire 52 = .ok (.newarray .int, 2) := dk_188_10 (dk_at dksX2_acquire_2 5 rfl rfl)
theorem dX2_acquire_54 : decode cX2_acquire 54 = .ok (.dup, 1) := dk_89 (dk_at dksX2_acquire_2 7 rfl rfl)
theorem dX2_acquire_55 : decode cX2_acquire 55 = .ok (.iconst 0, 1) := dk_3 (dk_at dksX2_acquire_2 8 rfl rfl)
theorem dX2_acquire_56 : decode cX2_acquire 56 = .ok (.iload_n 3, 1) := dk_29 (dk_at dksX2_acquire_2 9 rfl rfl)
theorem dX2_acquire_57 : decode cX2_acquire 57 = .ok (.iastore, 1) := dk_79 (dk_at dksX2_acquire_2 10 rfl rfl)
theorem dX2_acquire_58 : decode cX2_acquire 58 = .ok (.invokevirtual 203, 3) := dk_182 0 203 (dk_at dksX2_acquire_2 11 rfl rfl)
theorem dX2_acquire_61 : decode cX2_acquire 61 = .ok (.return_, 1) := dk_177 (dk_at dksX2_acquire_2 14 rfl rfl)
abbrev cX2_restartServer : ByteArray := prog_17_method_11_code
def yX2_restartServer : MethodName := ⟨RX2, "restartServer", "()I"⟩
def dkwX2_restartServer_1 : List UInt8 := [16, 8, 2, 42, 180, 0, 124, 182, 0, 254, 42, 180, 0, 127, 172]
abbrev dktX2_restartServer_1 : List UInt8 := dkwX2_restartServer_1 ++ []
def dkwX2_restartServer_0 : List UInt8 := [42, 16, 252, 181, 0, 40, 42, 42, 182, 1, 9, 42, 180, 0, 47, 180, 1, 15, 96, 181, 0, 127, 42]
abbrev dktX2_restartServer_0 : List UInt8 := dkwX2_restartServer_0 ++ dktX2_restartServer_1
theorem dksX2_restartServer_0 : cX2_restartServer.data.toList.drop 0 = dktX2_restartServer_0 := by decide +kernel
theorem dksX2_restartServer_1 : cX2_restartServer.data.toList.drop 23 = dktX2_restartServer_1 := dk_seg dksX2_restartServer_0 23 rfl rfl
theorem dX2_restartServer_0 : decode cX2_restartServer 0 = .ok (.aload_n 0, 1) := dk_42 (dk_at dksX2_restartServer_0 0 rfl rfl)
theorem dX2_restartServer_1 : decode cX2_restartServer 1 = .ok (.bipush (-4), 2) := dk_16 252 (dk_at dksX2_restartServer_0 1 rfl rfl)
theorem dX2_restartServer_3 : decode cX2_restartServer 3 = .ok (.putfield 40, 3) := dk_181 0 40 (dk_at dksX2_restartServer_0 3 rfl rfl)
theorem dX2_restartServer_6 : decode cX2_restartServer 6 = .ok (.aload_n 0, 1) := dk_42 (dk_at dksX2_restartServer_0 6 rfl rfl)
theorem dX2_restartServer_7 : decode cX2_restartServer 7 = .ok (.aload_n 0, 1) := dk_42 (dk_at dksX2_restartServer_0 7 rfl rfl)
theorem dX2_restartServer_8 : decode cX2_restartServer 8 = .ok (.invokevirtual 265, 3) := dk_182 1 9 (dk_at dksX2_restartServer_0 8 rfl rfl)
theorem dX2_restartServer_11 : decode cX2_restartServer 11 = .ok (.aload_n 0, 1) := dk_42 (dk_at dksX2_restartServer_0 11 rfl rfl)
theorem dX2_restartServer_12 : decode cX2_restartServer 12 = .ok (.getfield 47, 3) := dk_180 0 47 (dk_at dksX2_restartServer_0 12 rfl rfl)
theorem dX2_restartServer_15 : decode cX2_restartServer 15 = .ok (.getfield 271, 3) := dk_180 1 15 (dk_at dksX2_restartServer_0 15 rfl rfl)
theorem dX2_restartServer_18 : decode cX2_restartServer 18 = .ok (.iadd, 1) := dk_96 (dk_at dksX2_restartServer_0 18 rfl rfl)
theorem dX2_restartServer_19 : decode cX2_restartServer 19 = .ok (.putfield 127, 3) := dk_181 0 127 (dk_at dksX2_restartServer_0 19 rfl rfl)
theorem dX2_restartServer_22 : decode cX2_restartServer 22 = .ok (.aload_n 0, 1) := dk_42 (dk_at dksX2_restartServer_0 22 rfl rfl)
theorem dX2_restartServer_23 : decode cX2_restartServer 23 = .ok (.bipush 8, 2) := dk_16 8 (dk_at dksX2_restartServer_1 0 rfl rfl)
theorem dX2_restartServer_25 : decode cX2_restartServer 25 = .ok (.iconst (-1), 1) := dk_2 (dk_at dksX2_restartServer_1 2 rfl rfl)
theorem dX2_restartServer_26 : decode cX2_restartServer 26 = .ok (.aload_n 0, 1) := dk_42 (dk_at dksX2_restartServer_1 3 rfl rfl)
theorem dX2_restartServer_27 : decode cX2_restartServer 27 = .ok (.getfield 124, 3) := dk_180 0 124 (dk_at dksX2_restartServer_1 4 rfl rfl)
theorem dX2_restartServer_30 : decode cX2_restartServer 30 = .ok (.invokevirtual 254, 3) := dk_182 0 254 (dk_at dksX2_restartServer_1 7 rfl rfl)
theorem dX2_restartServer_33 : decode cX2_restartServer 33 = .ok (.aload_n 0, 1) := dk_42 (dk_at dksX2_restartServer_1 10 rfl rfl)
theorem dX2_restartServer_34 : decode cX2_restartServer 34 = .ok (.getfield 127, 3) := dk_180 0 127 (dk_at dksX2_restartServer_1 11 rfl rfl)
theorem dX2_restartServer_37 : decode cX2_restartServer 37 = .ok (.ireturn, 1) := dk_172 (dk_at dksX2_restartServer_1 14 rfl rfl)
abbrev cX2_leaders : ByteArray := prog_17_method_31_code
def yX2_leaders : MethodName := ⟨RX2, "leaders", "()I"⟩
def dkwX2_leaders_1 : List UInt8 := [182, 1, 168, 153, 0, 9, 4, 28, 120, 167, 0, 4, 3, 128, 60, 132, 2, 1, 167, 255, 218, 27, 172]
abbrev dktX2_leaders_1 : List UInt8 := dkwX2_leaders_1 ++ []
def dkwX2_leaders_0 : List UInt8 := [3, 60, 3, 61, 28, 42, 180, 0, 64, 190, 162, 0, 35, 27, 42, 180, 0, 64, 28, 50, 42, 180, 0, 112]
abbrev dktX2_leaders_0 : List UInt8 := dkwX2_leaders_0 ++ dktX2_leaders_1
theorem dksX2_leaders_0 : cX2_leaders.data.toList.drop 0 = dktX2_leaders_0 := by decide +kernel
theorem dksX2_leaders_1 : cX2_leaders.data.toList.drop 24 = dktX2_leaders_1 := dk_seg dksX2_leaders_0 24 rfl rfl
theorem dX2_leaders_0 : decode cX2_leaders 0 = .ok (.iconst 0, 1) := dk_3 (dk_at dksX2_leaders_0 0 rfl rfl)
theorem dX2_leaders_1 : decode cX2_leaders 1 = .ok (.istore_n 1, 1) := dk_60 (dk_at dksX2_leaders_0 1 rfl rfl)
theorem dX2_leaders_2 : decode cX2_leaders 2 = .ok (.iconst 0, 1) := dk_3 (dk_at dksX2_leaders_0 2 rfl rfl)
theorem dX2_leaders_3 : decode cX2_leaders 3 = .ok (.istore_n 2, 1) := dk_61 (dk_at dksX2_leaders_0 3 rfl rfl)
theorem dX2_leaders_4 : decode cX2_leaders 4 = .ok (.iload_n 2, 1) := dk_28 (dk_at dksX2_leaders_0 4 rfl rfl)
theorem dX2_leaders_5 : decode cX2_leaders 5 = .ok (.aload_n 0, 1) := dk_42 (dk_at dksX2_leaders_0 5 rfl rfl)
theorem dX2_leaders_6 : decode cX2_leaders 6 = .ok (.getfield 64, 3) := dk_180 0 64 (dk_at dksX2_leaders_0 6 rfl rfl)
theorem dX2_leaders_9 : decode cX2_leaders 9 = .ok (.arraylength, 1) := dk_190 (dk_at dksX2_leaders_0 9 rfl rfl)
theorem dX2_leaders_10 : decode cX2_leaders 10 = .ok (.if_icmp .ge 35, 3) := dk_162 0 35 (dk_at dksX2_leaders_0 10 rfl rfl)
theorem dX2_leaders_13 : decode cX2_leaders 13 = .ok (.iload_n 1, 1) := dk_27 (dk_at dksX2_leaders_0 13 rfl rfl)
theorem dX2_leaders_14 : decode cX2_leaders 14 = .ok (.aload_n 0, 1) := dk_42 (dk_at dksX2_leaders_0 14 rfl rfl)
theorem dX2_leaders_15 : decode cX2_leaders 15 = .ok (.getfield 64, 3) := dk_180 0 64 (dk_at dksX2_leaders_0 15 rfl rfl)
theorem dX2_leaders_18 : decode cX2_leaders 18 = .ok (.iload_n 2, 1) := dk_28 (dk_at dksX2_leaders_0 18 rfl rfl)
theorem dX2_leaders_19 : decode cX2_leaders 19 = .ok (.aaload, 1) := dk_50 (dk_at dksX2_leaders_0 19 rfl rfl)
theorem dX2_leaders_20 : decode cX2_leaders 20 = .ok (.aload_n 0, 1) := dk_42 (dk_at dksX2_leaders_0 20 rfl rfl)
theorem dX2_leaders_21 : decode cX2_leaders 21 = .ok (.getfield 112, 3) := dk_180 0 112 (dk_at dksX2_leaders_0 21 rfl rfl)
theorem dX2_leaders_24 : decode cX2_leaders 24 = .ok (.invokevirtual 424, 3) := dk_182 1 168 (dk_at dksX2_leaders_1 0 rfl rfl)
theorem dX2_leaders_27 : decode cX2_leaders 27 = .ok (.ifCond .eq 9, 3) := dk_153 0 9 (dk_at dksX2_leaders_1 3 rfl rfl)
theorem dX2_leaders_30 : decode cX2_leaders 30 = .ok (.iconst 1, 1) := dk_4 (dk_at dksX2_leaders_1 6 rfl rfl)
theorem dX2_leaders_31 : decode cX2_leaders 31 = .ok (.iload_n 2, 1) := dk_28 (dk_at dksX2_leaders_1 7 rfl rfl)
theorem dX2_leaders_32 : decode cX2_leaders 32 = .ok (.ishl, 1) := dk_120 (dk_at dksX2_leaders_1 8 rfl rfl)
theorem dX2_leaders_33 : decode cX2_leaders 33 = .ok (.goto 4, 3) := dk_167 0 4 (dk_at dksX2_leaders_1 9 rfl rfl)
theorem dX2_leaders_36 : decode cX2_leaders 36 = .ok (.iconst 0, 1) := dk_3 (dk_at dksX2_leaders_1 12 rfl rfl)
theorem dX2_leaders_37 : decode cX2_leaders 37 = .ok (.ior, 1) := dk_128 (dk_at dksX2_leaders_1 13 rfl rfl)
theorem dX2_leaders_38 : decode cX2_leaders 38 = .ok (.istore_n 1, 1) := dk_60 (dk_at dksX2_leaders_1 14 rfl rfl)
theorem dX2_leaders_39 : decode cX2_leaders 39 = .ok (.iinc 2 1, 3) := dk_132 2 1 (dk_at dksX2_leaders_1 15 rfl rfl)
theorem dX2_leaders_42 : decode cX2_leaders 42 = .ok (.goto (-38), 3) := dk_167 255 218 (dk_at dksX2_leaders_1 18 rfl rfl)
theorem dX2_leaders_45 : decode cX2_leaders 45 = .ok (.iload_n 1, 1) := dk_27 (dk_at dksX2_leaders_1 21 rfl rfl)
theorem dX2_leaders_46 : decode cX2_leaders 46 = .ok (.ireturn, 1) := dk_172 (dk_at dksX2_leaders_1 22 rfl rfl)
abbrev cX2_overtakingPairs : ByteArray := prog_17_method_29_code
def yX2_overtakingPairs : MethodName := ⟨RX2, "overtakingPairs", "()I"⟩
def dkwX2_overtakingPairs_5 : List UInt8 := [167, 255, 160, 132, 2, 1, 167, 255, 139, 27, 172]
abbrev dktX2_overtakingPairs_5 : List UInt8 := dkwX2_overtakingPairs_5 ++ []
def dkwX2_overtakingPairs_4 : List UInt8 := [185, 0, 68, 2, 0, 192, 0, 179, 182, 1, 184, 164, 0, 7, 4, 167, 0, 4, 3, 96, 60, 132, 3, 1]
abbrev dktX2_overtakingPairs_4 : List UInt8 := dkwX2_overtakingPairs_4 ++ dktX2_overtakingPairs_5
def dkwX2_overtakingPairs_3 : List UInt8 := [180, 0, 14, 28, 185, 0, 68, 2, 0, 192, 0, 179, 182, 1, 184, 42, 42, 180, 0, 14, 29]
abbrev dktX2_overtakingPairs_3 : List UInt8 := dkwX2_overtakingPairs_3 ++ dktX2_overtakingPairs_4
def dkwX2_overtakingPairs_2 : List UInt8 := [180, 1, 181, 42, 180, 0, 14, 29, 185, 0, 68, 2, 0, 192, 0, 179, 180, 1, 181, 162, 0, 44, 42, 42]
abbrev dktX2_overtakingPairs_2 : List UInt8 := dkwX2_overtakingPairs_2 ++ dktX2_overtakingPairs_3
def dkwX2_overtakingPairs_1 : List UInt8 := [185, 0, 56, 1, 0, 162, 0, 89, 27, 42, 180, 0, 14, 28, 185, 0, 68, 2, 0, 192, 0, 179]
abbrev dktX2_overtakingPairs_1 : List UInt8 := dkwX2_overtakingPairs_1 ++ dktX2_overtakingPairs_2
def dkwX2_overtakingPairs_0 : List UInt8 := [3, 60, 3, 61, 28, 42, 180, 0, 14, 185, 0, 56, 1, 0, 162, 0, 110, 3, 62, 29, 42, 180, 0, 14]
abbrev dktX2_overtakingPairs_0 : List UInt8 := dkwX2_overtakingPairs_0 ++ dktX2_overtakingPairs_1
theorem dksX2_overtakingPairs_0 : cX2_overtakingPairs.data.toList.drop 0 = dktX2_overtakingPairs_0 := by decide +kernel
theorem dksX2_overtakingPairs_1 : cX2_overtakingPairs.data.toList.drop 24 = dktX2_overtakingPairs_1 := dk_seg dksX2_overtakingPairs_0 24 rfl rfl
theorem dksX2_overtakingPairs_2 : cX2_overtakingPairs.data.toList.drop 46 = dktX2_overtakingPairs_2 := dk_seg dksX2_overtakingPairs_1 22 rfl rfl
theorem dksX2_overtakingPairs_3 : cX2_overtakingPairs.data.toList.drop 70 = dktX2_overtakingPairs_3 := dk_seg dksX2_overtakingPairs_2 24 rfl rfl
theorem dksX2_overtakingPairs_4 : cX2_overtakingPairs.data.toList.drop 91 = dktX2_overtakingPairs_4 := dk_seg dksX2_overtakingPairs_3 21 rfl rfl
theorem dksX2_overtakingPairs_5 : cX2_overtakingPairs.data.toList.drop 115 = dktX2_overtakingPairs_5 := dk_seg dksX2_overtakingPairs_4 24 rfl rfl
theorem dX2_overtakingPairs_0 : decode cX2_overtakingPairs 0 = .ok (.iconst 0, 1) := dk_3 (dk_at dksX2_overtakingPairs_0 0 rfl rfl)
theorem dX2_overtakingPairs_1 : decode cX2_overtakingPairs 1 = .ok (.istore_n 1, 1) := dk_60 (dk_at dksX2_overtakingPairs_0 1 rfl rfl)
theorem dX2_overtakingPairs_2 : decode cX2_overtakingPairs 2 = .ok (.iconst 0, 1) := dk_3 (dk_at dksX2_overtakingPairs_0 2 rfl rfl)
theorem dX2_overtakingPairs_3 : decode cX2_overtakingPairs 3 = .ok (.istore_n 2, 1) := dk_61 (dk_at dksX2_overtakingPairs_0 3 rfl rfl)
theorem dX2_overtakingPairs_4 : decode cX2_overtakingPairs 4 = .ok (.iload_n 2, 1) := dk_28 (dk_at dksX2_overtakingPairs_0 4 rfl rfl)
theorem dX2_overtakingPairs_5 : decode cX2_overtakingPairs 5 = .ok (.aload_n 0, 1) := dk_42 (dk_at dksX2_overtakingPairs_0 5 rfl rfl)
theorem dX2_overtakingPairs_6 : decode cX2_overtakingPairs 6 = .ok (.getfield 14, 3) := dk_180 0 14 (dk_at dksX2_overtakingPairs_0 6 rfl rfl)
theorem dX2_overtakingPairs_9 : decode cX2_overtakingPairs 9 = .ok (.invokeinterface 56 1, 5) := by decide +kernel
theorem dX2_overtakingPairs_14 : decode cX2_overtakingPairs 14 = .ok (.if_icmp .ge 110, 3) := dk_162 0 110 (dk_at dksX2_overtakingPairs_0 14 rfl rfl)
theorem dX2_overtakingPairs_17 : decode cX2_overtakingPairs 17 = .ok (.iconst 0, 1) := dk_3 (dk_at dksX2_overtakingPairs_0 17 rfl rfl)
theorem dX2_overtakingPairs_18 : decode cX2_overtakingPairs 18 = .ok (.istore_n 3, 1) := dk_62 (dk_at dksX2_overtakingPairs_0 18 rfl rfl)
theorem dX2_overtakingPairs_19 : decode cX2_overtakingPairs 19 = .ok (.iload_n 3, 1) := dk_29 (dk_at dksX2_overtakingPairs_0 19 rfl rfl)
theorem dX2_overtakingPairs_20 : decode cX2_overtakingPairs 20 = .ok (.aload_n 0, 1) := dk_42 (dk_at dksX2_overtakingPairs_0 20 rfl rfl)
theorem dX2_overtakingPairs_21 : decode cX2_overtakingPairs 21 = .ok (.getfield 14, 3) := dk_180 0 14 (dk_at dksX2_overtakingPairs_0 21 rfl rfl)
theorem dX2_overtakingPairs_24 : decode cX2_overtakingPairs 24 = .ok (.invokeinterface 56 1, 5) := by decide +kernel
theorem dX2_overtakingPairs_29 : decode cX2_overtakingPairs 29 = .ok (.if_icmp .ge 89, 3) := dk_162 0 89 (dk_at dksX2_overtakingPairs_1 5 rfl rfl)
theorem dX2_overtakingPairs_32 : decode cX2_overtakingPairs 32 = .ok (.iload_n 1, 1) := dk_27 (dk_at dksX2_overtakingPairs_1 8 rfl rfl)
theorem dX2_overtakingPairs_33 : decode cX2_overtakingPairs 33 = .ok (.aload_n 0, 1) := dk_42 (dk_at dksX2_overtakingPairs_1 9 rfl rfl)
theorem dX2_overtakingPairs_34 : decode cX2_overtakingPairs 34 = .ok (.getfield 14, 3) := dk_180 0 14 (dk_at dksX2_overtakingPairs_1 10 rfl rfl)
theorem dX2_overtakingPairs_37 : decode cX2_overtakingPairs 37 = .ok (.iload_n 2, 1) := dk_28 (dk_at dksX2_overtakingPairs_1 13 rfl rfl)
theorem dX2_overtakingPairs_38 : decode cX2_overtakingPairs 38 = .ok (.invokeinterface 68 2, 5) := by decide +kernel
theorem dX2_overtakingPairs_43 : decode cX2_overtakingPairs 43 = .ok (.checkcast 179, 3) := dk_192 0 179 (dk_at dksX2_overtakingPairs_1 19 rfl rfl)
theorem dX2_overtakingPairs_46 : decode cX2_overtakingPairs 46 = .ok (.getfield 437, 3) := dk_180 1 181 (dk_at dksX2_overtakingPairs_2 0 rfl rfl)
theorem dX2_overtakingPairs_49 : decode cX2_overtakingPairs 49 = .ok (.aload_n 0, 1) := dk_42 (dk_at dksX2_overtakingPairs_2 3 rfl rfl)
theorem dX2_overtakingPairs_50 : decode cX2_overtakingPairs 50 = .ok (.getfield 14, 3) := dk_180 0 14 (dk_at dksX2_overtakingPairs_2 4 rfl rfl)
theorem dX2_overtakingPairs_53 : decode cX2_overtakingPairs 53 = .ok (.iload_n 3, 1) := dk_29 (dk_at dksX2_overtakingPairs_2 7 rfl rfl)
theorem dX2_overtakingPairs_54 : decode cX2_overtakingPairs 54 = .ok (.invokeinterface 68 2, 5) := by decide +kernel
theorem dX2_overtakingPairs_59 : decode cX2_overtakingPairs 59 = .ok (.checkcast 179, 3) := dk_192 0 179 (dk_at dksX2_overtakingPairs_2 13 rfl rfl)
theorem dX2_overtakingPairs_62 : decode cX2_overtakingPairs 62 = .ok (.getfield 437, 3) := dk_180 1 181 (dk_at dksX2_overtakingPairs_2 16 rfl rfl)
theorem dX2_overtakingPairs_65 : decode cX2_overtakingPairs 65 = .ok (.if_icmp .ge 44, 3) := dk_162 0 44 (dk_at dksX2_overtakingPairs_2 19 rfl rfl)
theorem dX2_overtakingPairs_68 : decode cX2_overtakingPairs 68 = .ok (.aload_n 0, 1) := dk_42 (dk_at dksX2_overtakingPairs_2 22 rfl rfl)
theorem dX2_overtakingPairs_69 : decode cX2_overtakingPairs 69 = .ok (.aload_n 0, 1) := dk_42 (dk_at dksX2_overtakingPairs_2 23 rfl rfl)
theorem dX2_overtakingPairs_70 : decode cX2_overtakingPairs 70 = .ok (.getfield 14, 3) := dk_180 0 14 (dk_at dksX2_overtakingPairs_3 0 rfl rfl)
theorem dX2_overtakingPairs_73 : decode cX2_overtakingPairs 73 = .ok (.iload_n 2, 1) := dk_28 (dk_at dksX2_overtakingPairs_3 3 rfl rfl)
theorem dX2_overtakingPairs_74 : decode cX2_overtakingPairs 74 = .ok (.invokeinterface 68 2, 5) := by decide +kernel
theorem dX2_overtakingPairs_79 : decode cX2_overtakingPairs 79 = .ok (.checkcast 179, 3) := dk_192 0 179 (dk_at dksX2_overtakingPairs_3 9 rfl rfl)
theorem dX2_overtakingPairs_82 : decode cX2_overtakingPairs 82 = .ok (.invokevirtual 440, 3) := dk_182 1 184 (dk_at dksX2_overtakingPairs_3 12 rfl rfl)
theorem dX2_overtakingPairs_85 : decode cX2_overtakingPairs 85 = .ok (.aload_n 0, 1) := dk_42 (dk_at dksX2_overtakingPairs_3 15 rfl rfl)
theorem dX2_overtakingPairs_86 : decode cX2_overtakingPairs 86 = .ok (.aload_n 0, 1) := dk_42 (dk_at dksX2_overtakingPairs_3 16 rfl rfl)
theorem dX2_overtakingPairs_87 : decode cX2_overtakingPairs 87 = .ok (.getfield 14, 3) := dk_180 0 14 (dk_at dksX2_overtakingPairs_3 17 rfl rfl)
theorem dX2_overtakingPairs_90 : decode cX2_overtakingPairs 90 = .ok (.iload_n 3, 1) := dk_29 (dk_at dksX2_overtakingPairs_3 20 rfl rfl)
theorem dX2_overtakingPairs_91 : decode cX2_overtakingPairs 91 = .ok (.invokeinterface 68 2, 5) := by decide +kernel
theorem dX2_overtakingPairs_96 : decode cX2_overtakingPairs 96 = .ok (.checkcast 179, 3) := dk_192 0 179 (dk_at dksX2_overtakingPairs_4 5 rfl rfl)
theorem dX2_overtakingPairs_99 : decode cX2_overtakingPairs 99 = .ok (.invokevirtual 440, 3) := dk_182 1 184 (dk_at dksX2_overtakingPairs_4 8 rfl rfl)
theorem dX2_overtakingPairs_102 : decode cX2_overtakingPairs 102 = .ok (.if_icmp .le 7, 3) := dk_164 0 7 (dk_at dksX2_overtakingPairs_4 11 rfl rfl)
theorem dX2_overtakingPairs_105 : decode cX2_overtakingPairs 105 = .ok (.iconst 1, 1) := dk_4 (dk_at dksX2_overtakingPairs_4 14 rfl rfl)
theorem dX2_overtakingPairs_106 : decode cX2_overtakingPairs 106 = .ok (.goto 4, 3) := dk_167 0 4 (dk_at dksX2_overtakingPairs_4 15 rfl rfl)
theorem dX2_overtakingPairs_109 : decode cX2_overtakingPairs 109 = .ok (.iconst 0, 1) := dk_3 (dk_at dksX2_overtakingPairs_4 18 rfl rfl)
theorem dX2_overtakingPairs_110 : decode cX2_overtakingPairs 110 = .ok (.iadd, 1) := dk_96 (dk_at dksX2_overtakingPairs_4 19 rfl rfl)
theorem dX2_overtakingPairs_111 : decode cX2_overtakingPairs 111 = .ok (.istore_n 1, 1) := dk_60 (dk_at dksX2_overtakingPairs_4 20 rfl rfl)
theorem dX2_overtakingPairs_112 : decode cX2_overtakingPairs 112 = .ok (.iinc 3 1, 3) := dk_132 3 1 (dk_at dksX2_overtakingPairs_4 21 rfl rfl)
theorem dX2_overtakingPairs_115 : decode cX2_overtakingPairs 115 = .ok (.goto (-96), 3) := dk_167 255 160 (dk_at dksX2_overtakingPairs_5 0 rfl rfl)
theorem dX2_overtakingPairs_118 : decode cX2_overtakingPairs 118 = .ok (.iinc 2 1, 3) := dk_132 2 1 (dk_at dksX2_overtakingPairs_5 3 rfl rfl)
theorem dX2_overtakingPairs_121 : decode cX2_overtakingPairs 121 = .ok (.goto (-117), 3) := dk_167 255 139 (dk_at dksX2_overtakingPairs_5 6 rfl rfl)
theorem dX2_overtakingPairs_124 : decode cX2_overtakingPairs 124 = .ok (.iload_n 1, 1) := dk_27 (dk_at dksX2_overtakingPairs_5 9 rfl rfl)
theorem dX2_overtakingPairs_125 : decode cX2_overtakingPairs 125 = .ok (.ireturn, 1) := dk_172 (dk_at dksX2_overtakingPairs_5 10 rfl rfl)
abbrev cX2_arrival : ByteArray := prog_17_method_28_code
def yX2_arrival : MethodName := ⟨RX2, "arrival", "(LLeaderLeases$Message;)I"⟩
def dkwX2_arrival_2 : List UInt8 := [180, 1, 100, 172]
abbrev dktX2_arrival_2 : List UInt8 := dkwX2_arrival_2 ++ []
def dkwX2_arrival_1 : List UInt8 := [180, 0, 112, 182, 0, 230, 153, 0, 17, 43, 180, 1, 100, 44, 180, 0, 234, 184, 1, 87, 167, 0, 7, 43]
abbrev dktX2_arrival_1 : List UInt8 := dkwX2_arrival_1 ++ dktX2_arrival_2
def dkwX2_arrival_0 : List UInt8 := [42, 180, 0, 64, 43, 180, 0, 213, 50, 77, 43, 180, 0, 216, 182, 0, 219, 153, 0, 28, 44, 42]
abbrev dktX2_arrival_0 : List UInt8 := dkwX2_arrival_0 ++ dktX2_arrival_1
theorem dksX2_arrival_0 : cX2_arrival.data.toList.drop 0 = dktX2_arrival_0 := by decide +kernel
theorem dksX2_arrival_1 : cX2_arrival.data.toList.drop 22 = dktX2_arrival_1 := dk_seg dksX2_arrival_0 22 rfl rfl
theorem dksX2_arrival_2 : cX2_arrival.data.toList.drop 46 = dktX2_arrival_2 := dk_seg dksX2_arrival_1 24 rfl rfl
theorem dX2_arrival_0 : decode cX2_arrival 0 = .ok (.aload_n 0, 1) := dk_42 (dk_at dksX2_arrival_0 0 rfl rfl)
theorem dX2_arrival_1 : decode cX2_arrival 1 = .ok (.getfield 64, 3) := dk_180 0 64 (dk_at dksX2_arrival_0 1 rfl rfl)
theorem dX2_arrival_4 : decode cX2_arrival 4 = .ok (.aload_n 1, 1) := dk_43 (dk_at dksX2_arrival_0 4 rfl rfl)
theorem dX2_arrival_5 : decode cX2_arrival 5 = .ok (.getfield 213, 3) := dk_180 0 213 (dk_at dksX2_arrival_0 5 rfl rfl)
theorem dX2_arrival_8 : decode cX2_arrival 8 = .ok (.aaload, 1) := dk_50 (dk_at dksX2_arrival_0 8 rfl rfl)
theorem dX2_arrival_9 : decode cX2_arrival 9 = .ok (.astore_n 2, 1) := dk_77 (dk_at dksX2_arrival_0 9 rfl rfl)
theorem dX2_arrival_10 : decode cX2_arrival 10 = .ok (.aload_n 1, 1) := dk_43 (dk_at dksX2_arrival_0 10 rfl rfl)
theorem dX2_arrival_11 : decode cX2_arrival 11 = .ok (.getfield 216, 3) := dk_180 0 216 (dk_at dksX2_arrival_0 11 rfl rfl)
theorem dX2_arrival_14 : decode cX2_arrival 14 = .ok (.invokevirtual 219, 3) := dk_182 0 219 (dk_at dksX2_arrival_0 14 rfl rfl)
theorem dX2_arrival_17 : decode cX2_arrival 17 = .ok (.ifCond .eq 28, 3) := dk_153 0 28 (dk_at dksX2_arrival_0 17 rfl rfl)
theorem dX2_arrival_20 : decode cX2_arrival 20 = .ok (.aload_n 2, 1) := dk_44 (dk_at dksX2_arrival_0 20 rfl rfl)
theorem dX2_arrival_21 : decode cX2_arrival 21 = .ok (.aload_n 0, 1) := dk_42 (dk_at dksX2_arrival_0 21 rfl rfl)
theorem dX2_arrival_22 : decode cX2_arrival 22 = .ok (.getfield 112, 3) := dk_180 0 112 (dk_at dksX2_arrival_1 0 rfl rfl)
theorem dX2_arrival_25 : decode cX2_arrival 25 = .ok (.invokevirtual 230, 3) := dk_182 0 230 (dk_at dksX2_arrival_1 3 rfl rfl)
theorem dX2_arrival_28 : decode cX2_arrival 28 = .ok (.ifCond .eq 17, 3) := dk_153 0 17 (dk_at dksX2_arrival_1 6 rfl rfl)
theorem dX2_arrival_31 : decode cX2_arrival 31 = .ok (.aload_n 1, 1) := dk_43 (dk_at dksX2_arrival_1 9 rfl rfl)
theorem dX2_arrival_32 : decode cX2_arrival 32 = .ok (.getfield 356, 3) := dk_180 1 100 (dk_at dksX2_arrival_1 10 rfl rfl)
theorem dX2_arrival_35 : decode cX2_arrival 35 = .ok (.aload_n 2, 1) := dk_44 (dk_at dksX2_arrival_1 13 rfl rfl)
theorem dX2_arrival_36 : decode cX2_arrival 36 = .ok (.getfield 234, 3) := dk_180 0 234 (dk_at dksX2_arrival_1 14 rfl rfl)
theorem dX2_arrival_39 : decode cX2_arrival 39 = .ok (.invokestatic 343, 3) := dk_184 1 87 (dk_at dksX2_arrival_1 17 rfl rfl)
theorem dX2_arrival_42 : decode cX2_arrival 42 = .ok (.goto 7, 3) := dk_167 0 7 (dk_at dksX2_arrival_1 20 rfl rfl)
theorem dX2_arrival_45 : decode cX2_arrival 45 = .ok (.aload_n 1, 1) := dk_43 (dk_at dksX2_arrival_1 23 rfl rfl)
theorem dX2_arrival_46 : decode cX2_arrival 46 = .ok (.getfield 356, 3) := dk_180 1 100 (dk_at dksX2_arrival_2 0 rfl rfl)
theorem dX2_arrival_49 : decode cX2_arrival 49 = .ok (.ireturn, 1) := dk_172 (dk_at dksX2_arrival_2 3 rfl rfl)
abbrev cX2_isStale : ByteArray := prog_17_method_30_code
def yX2_isStale : MethodName := ⟨RX2, "isStale", "(LLeaderLeases$Node;)Z"⟩
def dkwX2_isStale_3 : List UInt8 := [153, 0, 7, 4, 167, 0, 4, 3, 172]
abbrev dktX2_isStale_3 : List UInt8 := dkwX2_isStale_3 ++ []
def dkwX2_isStale_2 : List UInt8 := [167, 0, 4, 3, 61, 132, 3, 1, 167, 255, 207, 28, 153, 0, 18, 43, 42, 180, 0, 112, 182, 1, 168]
abbrev dktX2_isStale_2 : List UInt8 := dkwX2_isStale_2 ++ dktX2_isStale_3
def dkwX2_isStale_1 : List UInt8 := [160, 0, 25, 43, 180, 1, 188, 29, 46, 42, 180, 0, 32, 180, 1, 190, 29, 46, 159, 0, 7, 4]
abbrev dktX2_isStale_1 : List UInt8 := dkwX2_isStale_1 ++ dktX2_isStale_2
def dkwX2_isStale_0 : List UInt8 := [3, 61, 3, 62, 29, 16, 8, 162, 0, 49, 28, 154, 0, 33, 43, 180, 1, 81, 29, 122, 4, 126, 4]
abbrev dktX2_isStale_0 : List UInt8 := dkwX2_isStale_0 ++ dktX2_isStale_1
theorem dksX2_isStale_0 : cX2_isStale.data.toList.drop 0 = dktX2_isStale_0 := by decide +kernel
theorem dksX2_isStale_1 : cX2_isStale.data.toList.drop 23 = dktX2_isStale_1 := dk_seg dksX2_isStale_0 23 rfl rfl
theorem dksX2_isStale_2 : cX2_isStale.data.toList.drop 45 = dktX2_isStale_2 := dk_seg dksX2_isStale_1 22 rfl rfl
theorem dksX2_isStale_3 : cX2_isStale.data.toList.drop 68 = dktX2_isStale_3 := dk_seg dksX2_isStale_2 23 rfl rfl
theorem dX2_isStale_0 : decode cX2_isStale 0 = .ok (.iconst 0, 1) := dk_3 (dk_at dksX2_isStale_0 0 rfl rfl)
theorem dX2_isStale_1 : decode cX2_isStale 1 = .ok (.istore_n 2, 1) := dk_61 (dk_at dksX2_isStale_0 1 rfl rfl)
theorem dX2_isStale_2 : decode cX2_isStale 2 = .ok (.iconst 0, 1) := dk_3 (dk_at dksX2_isStale_0 2 rfl rfl)
theorem dX2_isStale_3 : decode cX2_isStale 3 = .ok (.istore_n 3, 1) := dk_62 (dk_at dksX2_isStale_0 3 rfl rfl)
theorem dX2_isStale_4 : decode cX2_isStale 4 = .ok (.iload_n 3, 1) := dk_29 (dk_at dksX2_isStale_0 4 rfl rfl)
theorem dX2_isStale_5 : decode cX2_isStale 5 = .ok (.bipush 8, 2) := dk_16 8 (dk_at dksX2_isStale_0 5 rfl rfl)
theorem dX2_isStale_7 : decode cX2_isStale 7 = .ok (.if_icmp .ge 49, 3) := dk_162 0 49 (dk_at dksX2_isStale_0 7 rfl rfl)
theorem dX2_isStale_10 : decode cX2_isStale 10 = .ok (.iload_n 2, 1) := dk_28 (dk_at dksX2_isStale_0 10 rfl rfl)
theorem dX2_isStale_11 : decode cX2_isStale 11 = .ok (.ifCond .ne 33, 3) := dk_154 0 33 (dk_at dksX2_isStale_0 11 rfl rfl)
theorem dX2_isStale_14 : decode cX2_isStale 14 = .ok (.aload_n 1, 1) := dk_43 (dk_at dksX2_isStale_0 14 rfl rfl)
theorem dX2_isStale_15 : decode cX2_isStale 15 = .ok (.getfield 337, 3) := dk_180 1 81 (dk_at dksX2_isStale_0 15 rfl rfl)
theorem dX2_isStale_18 : decode cX2_isStale 18 = .ok (.iload_n 3, 1) := dk_29 (dk_at dksX2_isStale_0 18 rfl rfl)
theorem dX2_isStale_19 : decode cX2_isStale 19 = .ok (.ishr, 1) := dk_122 (dk_at dksX2_isStale_0 19 rfl rfl)
theorem dX2_isStale_20 : decode cX2_isStale 20 = .ok (.iconst 1, 1) := dk_4 (dk_at dksX2_isStale_0 20 rfl rfl)
theorem dX2_isStale_21 : decode cX2_isStale 21 = .ok (.iand, 1) := dk_126 (dk_at dksX2_isStale_0 21 rfl rfl)
theorem dX2_isStale_22 : decode cX2_isStale 22 = .ok (.iconst 1, 1) := dk_4 (dk_at dksX2_isStale_0 22 rfl rfl)
theorem dX2_isStale_23 : decode cX2_isStale 23 = .ok (.if_icmp .ne 25, 3) := dk_160 0 25 (dk_at dksX2_isStale_1 0 rfl rfl)
theorem dX2_isStale_26 : decode cX2_isStale 26 = .ok (.aload_n 1, 1) := dk_43 (dk_at dksX2_isStale_1 3 rfl rfl)
theorem dX2_isStale_27 : decode cX2_isStale 27 = .ok (.getfield 444, 3) := dk_180 1 188 (dk_at dksX2_isStale_1 4 rfl rfl)
theorem dX2_isStale_30 : decode cX2_isStale 30 = .ok (.iload_n 3, 1) := dk_29 (dk_at dksX2_isStale_1 7 rfl rfl)
theorem dX2_isStale_31 : decode cX2_isStale 31 = .ok (.iaload, 1) := dk_46 (dk_at dksX2_isStale_1 8 rfl rfl)
theorem dX2_isStale_32 : decode cX2_isStale 32 = .ok (.aload_n 0, 1) := dk_42 (dk_at dksX2_isStale_1 9 rfl rfl)
theorem dX2_isStale_33 : decode cX2_isStale 33 = .ok (.getfield 32, 3) := dk_180 0 32 (dk_at dksX2_isStale_1 10 rfl rfl)
theorem dX2_isStale_36 : decode cX2_isStale 36 = .ok (.getfield 446, 3) := dk_180 1 190 (dk_at dksX2_isStale_1 13 rfl rfl)
theorem dX2_isStale_39 : decode cX2_isStale 39 = .ok (.iload_n 3, 1) := dk_29 (dk_at dksX2_isStale_1 16 rfl rfl)
theorem dX2_isStale_40 : decode cX2_isStale 40 = .ok (.iaload, 1) := dk_46 (dk_at dksX2_isStale_1 17 rfl rfl)
theorem dX2_isStale_41 : decode cX2_isStale 41 = .ok (.if_icmp .eq 7, 3) := dk_159 0 7 (dk_at dksX2_isStale_1 18 rfl rfl)
theorem dX2_isStale_44 : decode cX2_isStale 44 = .ok (.iconst 1, 1) := dk_4 (dk_at dksX2_isStale_1 21 rfl rfl)
theorem dX2_isStale_45 : decode cX2_isStale 45 = .ok (.goto 4, 3) := dk_167 0 4 (dk_at dksX2_isStale_2 0 rfl rfl)
theorem dX2_isStale_48 : decode cX2_isStale 48 = .ok (.iconst 0, 1) := dk_3 (dk_at dksX2_isStale_2 3 rfl rfl)
theorem dX2_isStale_49 : decode cX2_isStale 49 = .ok (.istore_n 2, 1) := dk_61 (dk_at dksX2_isStale_2 4 rfl rfl)
theorem dX2_isStale_50 : decode cX2_isStale 50 = .ok (.iinc 3 1, 3) := dk_132 3 1 (dk_at dksX2_isStale_2 5 rfl rfl)
theorem dX2_isStale_53 : decode cX2_isStale 53 = .ok (.goto (-49), 3) := dk_167 255 207 (dk_at dksX2_isStale_2 8 rfl rfl)
theorem dX2_isStale_56 : decode cX2_isStale 56 = .ok (.iload_n 2, 1) := dk_28 (dk_at dksX2_isStale_2 11 rfl rfl)
theorem dX2_isStale_57 : decode cX2_isStale 57 = .ok (.ifCond .eq 18, 3) := dk_153 0 18 (dk_at dksX2_isStale_2 12 rfl rfl)
theorem dX2_isStale_60 : decode cX2_isStale 60 = .ok (.aload_n 1, 1) := dk_43 (dk_at dksX2_isStale_2 15 rfl rfl)
theorem dX2_isStale_61 : decode cX2_isStale 61 = .ok (.aload_n 0, 1) := dk_42 (dk_at dksX2_isStale_2 16 rfl rfl)
theorem dX2_isStale_62 : decode cX2_isStale 62 = .ok (.getfield 112, 3) := dk_180 0 112 (dk_at dksX2_isStale_2 17 rfl rfl)
theorem dX2_isStale_65 : decode cX2_isStale 65 = .ok (.invokevirtual 424, 3) := dk_182 1 168 (dk_at dksX2_isStale_2 20 rfl rfl)
theorem dX2_isStale_68 : decode cX2_isStale 68 = .ok (.ifCond .eq 7, 3) := dk_153 0 7 (dk_at dksX2_isStale_3 0 rfl rfl)
theorem dX2_isStale_71 : decode cX2_isStale 71 = .ok (.iconst 1, 1) := dk_4 (dk_at dksX2_isStale_3 3 rfl rfl)
theorem dX2_isStale_72 : decode cX2_isStale 72 = .ok (.goto 4, 3) := dk_167 0 4 (dk_at dksX2_isStale_3 4 rfl rfl)
theorem dX2_isStale_75 : decode cX2_isStale 75 = .ok (.iconst 0, 1) := dk_3 (dk_at dksX2_isStale_3 7 rfl rfl)
theorem dX2_isStale_76 : decode cX2_isStale 76 = .ok (.ireturn, 1) := dk_172 (dk_at dksX2_isStale_3 8 rfl rfl)
abbrev cX2_copy : ByteArray := prog_17_method_2_code
def yX2_copy : MethodName := ⟨RX2, "copy", "()LLeaderLeases$Simulation;"⟩
def dkwX2_copy_9 : List UInt8 := [181, 0, 136, 43, 42, 180, 0, 139, 181, 0, 139, 43, 176]
abbrev dktX2_copy_9 : List UInt8 := dkwX2_copy_9 ++ []
def dkwX2_copy_8 : List UInt8 := [181, 0, 127, 43, 42, 180, 0, 130, 181, 0, 130, 43, 42, 180, 0, 133, 181, 0, 133, 43, 42, 180, 0, 136]
abbrev dktX2_copy_8 : List UInt8 := dkwX2_copy_8 ++ dktX2_copy_9
def dkwX2_copy_7 : List UInt8 := [181, 0, 40, 43, 42, 180, 0, 121, 181, 0, 121, 43, 42, 180, 0, 124, 181, 0, 124, 43, 42, 180, 0, 127]
abbrev dktX2_copy_7 : List UInt8 := dkwX2_copy_7 ++ dktX2_copy_8
def dkwX2_copy_6 : List UInt8 := [181, 0, 88, 43, 42, 180, 0, 115, 181, 0, 115, 43, 42, 180, 0, 118, 181, 0, 118, 43, 42, 180, 0, 40]
abbrev dktX2_copy_6 : List UInt8 := dkwX2_copy_6 ++ dktX2_copy_7
def dkwX2_copy_5 : List UInt8 := [180, 0, 36, 3, 16, 9, 184, 0, 106, 43, 42, 180, 0, 112, 181, 0, 112, 43, 42, 180, 0, 88]
abbrev dktX2_copy_5 : List UInt8 := dkwX2_copy_5 ++ dktX2_copy_6
def dkwX2_copy_4 : List UInt8 := [185, 0, 98, 2, 0, 87, 43, 180, 0, 32, 42, 180, 0, 32, 182, 0, 102, 42, 180, 0, 36, 3, 43]
abbrev dktX2_copy_4 : List UInt8 := dkwX2_copy_4 ++ dktX2_copy_5
def dkwX2_copy_3 : List UInt8 := [43, 180, 0, 23, 42, 180, 0, 23, 185, 0, 98, 2, 0, 87, 43, 180, 0, 26, 42, 180, 0, 26]
abbrev dktX2_copy_3 : List UInt8 := dkwX2_copy_3 ++ dktX2_copy_4
def dkwX2_copy_2 : List UInt8 := [42, 180, 0, 14, 185, 0, 98, 2, 0, 87, 43, 180, 0, 20, 42, 180, 0, 20, 185, 0, 98, 2, 0, 87]
abbrev dktX2_copy_2 : List UInt8 := dkwX2_copy_2 ++ dktX2_copy_3
def dkwX2_copy_1 : List UInt8 := [180, 0, 64, 28, 42, 180, 0, 64, 28, 50, 182, 0, 94, 83, 132, 2, 1, 167, 255, 229, 43, 180, 0, 14]
abbrev dktX2_copy_1 : List UInt8 := dkwX2_copy_1 ++ dktX2_copy_2
def dkwX2_copy_0 : List UInt8 := [187, 0, 15, 89, 42, 180, 0, 47, 183, 0, 91, 76, 3, 61, 28, 42, 180, 0, 64, 190, 162, 0, 24, 43]
abbrev dktX2_copy_0 : List UInt8 := dkwX2_copy_0 ++ dktX2_copy_1
theorem dksX2_copy_0 : cX2_copy.data.toList.drop 0 = dktX2_copy_0 := by decide +kernel
theorem dksX2_copy_1 : cX2_copy.data.toList.drop 24 = dktX2_copy_1 := dk_seg dksX2_copy_0 24 rfl rfl
theorem dksX2_copy_2 : cX2_copy.data.toList.drop 48 = dktX2_copy_2 := dk_seg dksX2_copy_1 24 rfl rfl
theorem dksX2_copy_3 : cX2_copy.data.toList.drop 72 = dktX2_copy_3 := dk_seg dksX2_copy_2 24 rfl rfl
theorem dksX2_copy_4 : cX2_copy.data.toList.drop 94 = dktX2_copy_4 := dk_seg dksX2_copy_3 22 rfl rfl
theorem dksX2_copy_5 : cX2_copy.data.toList.drop 117 = dktX2_copy_5 := dk_seg dksX2_copy_4 23 rfl rfl
theorem dksX2_copy_6 : cX2_copy.data.toList.drop 139 = dktX2_copy_6 := dk_seg dksX2_copy_5 22 rfl rfl
theorem dksX2_copy_7 : cX2_copy.data.toList.drop 163 = dktX2_copy_7 := dk_seg dksX2_copy_6 24 rfl rfl
theorem dksX2_copy_8 : cX2_copy.data.toList.drop 187 = dktX2_copy_8 := dk_seg dksX2_copy_7 24 rfl rfl
theorem dksX2_copy_9 : cX2_copy.data.toList.drop 211 = dktX2_copy_9 := dk_seg dksX2_copy_8 24 rfl rfl
theorem dX2_copy_0 : decode cX2_copy 0 = .ok (.new 15, 3) := dk_187 0 15 (dk_at dksX2_copy_0 0 rfl rfl)
theorem dX2_copy_3 : decode cX2_copy 3 = .ok (.dup, 1) := dk_89 (dk_at dksX2_copy_0 3 rfl rfl)
theorem dX2_copy_4 : decode cX2_copy 4 = .ok (.aload_n 0, 1) := dk_42 (dk_at dksX2_copy_0 4 rfl rfl)
theorem dX2_copy_5 : decode cX2_copy 5 = .ok (.getfield 47, 3) := dk_180 0 47 (dk_at dksX2_copy_0 5 rfl rfl)
theorem dX2_copy_8 : decode cX2_copy 8 = .ok (.invokespecial 91, 3) := dk_183 0 91 (dk_at dksX2_copy_0 8 rfl rfl)
theorem dX2_copy_11 : decode cX2_copy 11 = .ok (.astore_n 1, 1) := dk_76 (dk_at dksX2_copy_0 11 rfl rfl)
theorem dX2_copy_12 : decode cX2_copy 12 = .ok (.iconst 0, 1) := dk_3 (dk_at dksX2_copy_0 12 rfl rfl)
theorem dX2_copy_13 : decode cX2_copy 13 = .ok (.istore_n 2, 1) := dk_61 (dk_at dksX2_copy_0 13 rfl rfl)
theorem dX2_copy_14 : decode cX2_copy 14 = .ok (.iload_n 2, 1) := dk_28 (dk_at dksX2_copy_0 14 rfl rfl)
theorem dX2_copy_15 : decode cX2_copy 15 = .ok (.aload_n 0, 1) := dk_42 (dk_at dksX2_copy_0 15 rfl rfl)
theorem dX2_copy_16 : decode cX2_copy 16 = .ok (.getfield 64, 3) := dk_180 0 64 (dk_at dksX2_copy_0 16 rfl rfl)
theorem dX2_copy_19 : decode cX2_copy 19 = .ok (.arraylength, 1) := dk_190 (dk_at dksX2_copy_0 19 rfl rfl)
theorem dX2_copy_20 : decode cX2_copy 20 = .ok (.if_icmp .ge 24, 3) := dk_162 0 24 (dk_at dksX2_copy_0 20 rfl rfl)
theorem dX2_copy_23 : decode cX2_copy 23 = .ok (.aload_n 1, 1) := dk_43 (dk_at dksX2_copy_0 23 rfl rfl)
theorem dX2_copy_24 : decode cX2_copy 24 = .ok (.getfield 64, 3) := dk_180 0 64 (dk_at dksX2_copy_1 0 rfl rfl)
theorem dX2_copy_27 : decode cX2_copy 27 = .ok (.iload_n 2, 1) := dk_28 (dk_at dksX2_copy_1 3 rfl rfl)
theorem dX2_copy_28 : decode cX2_copy 28 = .ok (.aload_n 0, 1) := dk_42 (dk_at dksX2_copy_1 4 rfl rfl)
theorem dX2_copy_29 : decode cX2_copy 29 = .ok (.getfield 64, 3) := dk_180 0 64 (dk_at dksX2_copy_1 5 rfl rfl)
theorem dX2_copy_32 : decode cX2_copy 32 = .ok (.iload_n 2, 1) := dk_28 (dk_at dksX2_copy_1 8 rfl rfl)
theorem dX2_copy_33 : decode cX2_copy 33 = .ok (.aaload, 1) := dk_50 (dk_at dksX2_copy_1 9 rfl rfl)
theorem dX2_copy_34 : decode cX2_copy 34 = .ok (.invokevirtual 94, 3) := dk_182 0 94 (dk_at dksX2_copy_1 10 rfl rfl)
theorem dX2_copy_37 : decode cX2_copy 37 = .ok (.aastore, 1) := dk_83 (dk_at dksX2_copy_1 13 rfl rfl)
theorem dX2_copy_38 : decode cX2_copy 38 = .ok (.iinc 2 1, 3) := dk_132 2 1 (dk_at dksX2_copy_1 14 rfl rfl)
theorem dX2_copy_41 : decode cX2_copy 41 = .ok (.goto (-27), 3) := dk_167 255 229 (dk_at dksX2_copy_1 17 rfl rfl)
theorem dX2_copy_44 : decode cX2_copy 44 = .ok (.aload_n 1, 1) := dk_43 (dk_at dksX2_copy_1 20 rfl rfl)
theorem dX2_copy_45 : decode cX2_copy 45 = .ok (.getfield 14, 3) := dk_180 0 14 (dk_at dksX2_copy_1 21 rfl rfl)
theorem dX2_copy_48 : decode cX2_copy 48 = .ok (.aload_n 0, 1) := dk_42 (dk_at dksX2_copy_2 0 rfl rfl)
theorem dX2_copy_49 : decode cX2_copy 49 = .ok (.getfield 14, 3) := dk_180 0 14 (dk_at dksX2_copy_2 1 rfl rfl)
theorem dX2_copy_52 : decode cX2_copy 52 = .ok (.invokeinterface 98 2, 5) := by decide +kernel
theorem dX2_copy_57 : decode cX2_copy 57 = .ok (.pop, 1) := dk_87 (dk_at dksX2_copy_2 9 rfl rfl)
theorem dX2_copy_58 : decode cX2_copy 58 = .ok (.aload_n 1, 1) := dk_43 (dk_at dksX2_copy_2 10 rfl rfl)
theorem dX2_copy_59 : decode cX2_copy 59 = .ok (.getfield 20, 3) := dk_180 0 20 (dk_at dksX2_copy_2 11 rfl rfl)
theorem dX2_copy_62 : decode cX2_copy 62 = .ok (.aload_n 0, 1) := dk_42 (dk_at dksX2_copy_2 14 rfl rfl)
theorem dX2_copy_63 : decode cX2_copy 63 = .ok (.getfield 20, 3) := dk_180 0 20 (dk_at dksX2_copy_2 15 rfl rfl)
theorem dX2_copy_66 : decode cX2_copy 66 = .ok (.invokeinterface 98 2, 5) := by decide +kernel
theorem dX2_copy_71 : decode cX2_copy 71 = .ok (.pop, 1) := dk_87 (dk_at dksX2_copy_2 23 rfl rfl)
theorem dX2_copy_72 : decode cX2_copy 72 = .ok (.aload_n 1, 1) := dk_43 (dk_at dksX2_copy_3 0 rfl rfl)
theorem dX2_copy_73 : decode cX2_copy 73 = .ok (.getfield 23, 3) := dk_180 0 23 (dk_at dksX2_copy_3 1 rfl rfl)
theorem dX2_copy_76 : decode cX2_copy 76 = .ok (.aload_n 0, 1) := dk_42 (dk_at dksX2_copy_3 4 rfl rfl)
theorem dX2_copy_77 : decode cX2_copy 77 = .ok (.getfield 23, 3) := dk_180 0 23 (dk_at dksX2_copy_3 5 rfl rfl)
theorem dX2_copy_80 : decode cX2_copy 80 = .ok (.invokeinterface 98 2, 5) := by decide +kernel
theorem dX2_copy_85 : decode cX2_copy 85 = .ok (.pop, 1) := dk_87 (dk_at dksX2_copy_3 13 rfl rfl)
theorem dX2_copy_86 : decode cX2_copy 86 = .ok (.aload_n 1, 1) := dk_43 (dk_at dksX2_copy_3 14 rfl rfl)
theorem dX2_copy_87 : decode cX2_copy 87 = .ok (.getfield 26, 3) := dk_180 0 26 (dk_at dksX2_copy_3 15 rfl rfl)
theorem dX2_copy_90 : decode cX2_copy 90 = .ok (.aload_n 0, 1) := dk_42 (dk_at dksX2_copy_3 18 rfl rfl)
theorem dX2_copy_91 : decode cX2_copy 91 = .ok (.getfield 26, 3) := dk_180 0 26 (dk_at dksX2_copy_3 19 rfl rfl)
theorem dX2_copy_94 : decode cX2_copy 94 = .ok (.invokeinterface 98 2, 5) := by decide +kernel
theorem dX2_copy_99 : decode cX2_copy 99 = .ok (.pop, 1) := dk_87 (dk_at dksX2_copy_4 5 rfl rfl)
theorem dX2_copy_100 : decode cX2_copy 100 = .ok (.aload_n 1, 1) := dk_43 (dk_at dksX2_copy_4 6 rfl rfl)
theorem dX2_copy_101 : decode cX2_copy 101 = .ok (.getfield 32, 3) := dk_180 0 32 (dk_at dksX2_copy_4 7 rfl rfl)
theorem dX2_copy_104 : decode cX2_copy 104 = .ok (.aload_n 0, 1) := dk_42 (dk_at dksX2_copy_4 10 rfl rfl)
theorem dX2_copy_105 : decode cX2_copy 105 = .ok (.getfield 32, 3) := dk_180 0 32 (dk_at dksX2_copy_4 11 rfl rfl)
theorem dX2_copy_108 : decode cX2_copy 108 = .ok (.invokevirtual 102, 3) := dk_182 0 102 (dk_at dksX2_copy_4 14 rfl rfl)
theorem dX2_copy_111 : decode cX2_copy 111 = .ok (.aload_n 0, 1) := dk_42 (dk_at dksX2_copy_4 17 rfl rfl)
theorem dX2_copy_112 : decode cX2_copy 112 = .ok (.getfield 36, 3) := dk_180 0 36 (dk_at dksX2_copy_4 18 rfl rfl)
theorem dX2_copy_115 : decode cX2_copy 115 = .ok (.iconst 0, 1) := dk_3 (dk_at dksX2_copy_4 21 rfl rfl)
theorem dX2_copy_116 : decode cX2_copy 116 = .ok (.aload_n 1, 1) := dk_43 (dk_at dksX2_copy_4 22 rfl rfl)
theorem dX2_copy_117 : decode cX2_copy 117 = .ok (.getfield 36, 3) := dk_180 0 36 (dk_at dksX2_copy_5 0 rfl rfl)
theorem dX2_copy_120 : decode cX2_copy 120 = .ok (.iconst 0, 1) := dk_3 (dk_at dksX2_copy_5 3 rfl rfl)
theorem dX2_copy_121 : decode cX2_copy 121 = .ok (.bipush 9, 2) := dk_16 9 (dk_at dksX2_copy_5 4 rfl rfl)
theorem dX2_copy_123 : decode cX2_copy 123 = .ok (.invokestatic 106, 3) := dk_184 0 106 (dk_at dksX2_copy_5 6 rfl rfl)
theorem dX2_copy_126 : decode cX2_copy 126 = .ok (.aload_n 1, 1) := dk_43 (dk_at dksX2_copy_5 9 rfl rfl)
theorem dX2_copy_127 : decode cX2_copy 127 = .ok (.aload_n 0, 1) := dk_42 (dk_at dksX2_copy_5 10 rfl rfl)
theorem dX2_copy_128 : decode cX2_copy 128 = .ok (.getfield 112, 3) := dk_180 0 112 (dk_at dksX2_copy_5 11 rfl rfl)
theorem dX2_copy_131 : decode cX2_copy 131 = .ok (.putfield 112, 3) := dk_181 0 112 (dk_at dksX2_copy_5 14 rfl rfl)
theorem dX2_copy_134 : decode cX2_copy 134 = .ok (.aload_n 1, 1) := dk_43 (dk_at dksX2_copy_5 17 rfl rfl)
theorem dX2_copy_135 : decode cX2_copy 135 = .ok (.aload_n 0, 1) := dk_42 (dk_at dksX2_copy_5 18 rfl rfl)
theorem dX2_copy_136 : decode cX2_copy 136 = .ok (.getfield 88, 3) := dk_180 0 88 (dk_at dksX2_copy_5 19 rfl rfl)
theorem dX2_copy_139 : decode cX2_copy 139 = .ok (.putfield 88, 3) := dk_181 0 88 (dk_at dksX2_copy_6 0 rfl rfl)
theorem dX2_copy_142 : decode cX2_copy 142 = .ok (.aload_n 1, 1) := dk_43 (dk_at dksX2_copy_6 3 rfl rfl)
theorem dX2_copy_143 : decode cX2_copy 143 = .ok (.aload_n 0, 1) := dk_42 (dk_at dksX2_copy_6 4 rfl rfl)
theorem dX2_copy_144 : decode cX2_copy 144 = .ok (.getfield 115, 3) := dk_180 0 115 (dk_at dksX2_copy_6 5 rfl rfl)
theorem dX2_copy_147 : decode cX2_copy 147 = .ok (.putfield 115, 3) := dk_181 0 115 (dk_at dksX2_copy_6 8 rfl rfl)
theorem dX2_copy_150 : decode cX2_copy 150 = .ok (.aload_n 1, 1) := dk_43 (dk_at dksX2_copy_6 11 rfl rfl)
theorem dX2_copy_151 : decode cX2_copy 151 = .ok (.aload_n 0, 1) := dk_42 (dk_at dksX2_copy_6 12 rfl rfl)
theorem dX2_copy_152 : decode cX2_copy 152 = .ok (.getfield 118, 3) := dk_180 0 118 (dk_at dksX2_copy_6 13 rfl rfl)
theorem dX2_copy_155 : decode cX2_copy 155 = .ok (.putfield 118, 3) := dk_181 0 118 (dk_at dksX2_copy_6 16 rfl rfl)
theorem dX2_copy_158 : decode cX2_copy 158 = .ok (.aload_n 1, 1) := dk_43 (dk_at dksX2_copy_6 19 rfl rfl)
theorem dX2_copy_159 : decode cX2_copy 159 = .ok (.aload_n 0, 1) := dk_42 (dk_at dksX2_copy_6 20 rfl rfl)
theorem dX2_copy_160 : decode cX2_copy 160 = .ok (.getfield 40, 3) := dk_180 0 40 (dk_at dksX2_copy_6 21 rfl rfl)
theorem dX2_copy_163 : decode cX2_copy 163 = .ok (.putfield 40, 3) := dk_181 0 40 (dk_at dksX2_copy_7 0 rfl rfl)
theorem dX2_copy_166 : decode cX2_copy 166 = .ok (.aload_n 1, 1) := dk_43 (dk_at dksX2_copy_7 3 rfl rfl)
theorem dX2_copy_167 : decode cX2_copy 167 = .ok (.aload_n 0, 1) := dk_42 (dk_at dksX2_copy_7 4 rfl rfl)
theorem dX2_copy_168 : decode cX2_copy 168 = .ok (.getfield 121, 3) := dk_180 0 121 (dk_at dksX2_copy_7 5 rfl rfl)
theorem dX2_copy_171 : decode cX2_copy 171 = .ok (.putfield 121, 3) := dk_181 0 121 (dk_at dksX2_copy_7 8 rfl rfl)
theorem dX2_copy_174 : decode cX2_copy 174 = .ok (.aload_n 1, 1) := dk_43 (dk_at dksX2_copy_7 11 rfl rfl)
theorem dX2_copy_175 : decode cX2_copy 175 = .ok (.aload_n 0, 1) := dk_42 (dk_at dksX2_copy_7 12 rfl rfl)
theorem dX2_copy_176 : decode cX2_copy 176 = .ok (.getfield 124, 3) := dk_180 0 124 (dk_at dksX2_copy_7 13 rfl rfl)
theorem dX2_copy_179 : decode cX2_copy 179 = .ok (.putfield 124, 3) := dk_181 0 124 (dk_at dksX2_copy_7 16 rfl rfl)
theorem dX2_copy_182 : decode cX2_copy 182 = .ok (.aload_n 1, 1) := dk_43 (dk_at dksX2_copy_7 19 rfl rfl)
theorem dX2_copy_183 : decode cX2_copy 183 = .ok (.aload_n 0, 1) := dk_42 (dk_at dksX2_copy_7 20 rfl rfl)
theorem dX2_copy_184 : decode cX2_copy 184 = .ok (.getfield 127, 3) := dk_180 0 127 (dk_at dksX2_copy_7 21 rfl rfl)
theorem dX2_copy_187 : decode cX2_copy 187 = .ok (.putfield 127, 3) := dk_181 0 127 (dk_at dksX2_copy_8 0 rfl rfl)
theorem dX2_copy_190 : decode cX2_copy 190 = .ok (.aload_n 1, 1) := dk_43 (dk_at dksX2_copy_8 3 rfl rfl)
theorem dX2_copy_191 : decode cX2_copy 191 = .ok (.aload_n 0, 1) := dk_42 (dk_at dksX2_copy_8 4 rfl rfl)
theorem dX2_copy_192 : decode cX2_copy 192 = .ok (.getfield 130, 3) := dk_180 0 130 (dk_at dksX2_copy_8 5 rfl rfl)
theorem dX2_copy_195 : decode cX2_copy 195 = .ok (.putfield 130, 3) := dk_181 0 130 (dk_at dksX2_copy_8 8 rfl rfl)
theorem dX2_copy_198 : decode cX2_copy 198 = .ok (.aload_n 1, 1) := dk_43 (dk_at dksX2_copy_8 11 rfl rfl)
theorem dX2_copy_199 : decode cX2_copy 199 = .ok (.aload_n 0, 1) := dk_42 (dk_at dksX2_copy_8 12 rfl rfl)
theorem dX2_copy_200 : decode cX2_copy 200 = .ok (.getfield 133, 3) := dk_180 0 133 (dk_at dksX2_copy_8 13 rfl rfl)
theorem dX2_copy_203 : decode cX2_copy 203 = .ok (.putfield 133, 3) := dk_181 0 133 (dk_at dksX2_copy_8 16 rfl rfl)
theorem dX2_copy_206 : decode cX2_copy 206 = .ok (.aload_n 1, 1) := dk_43 (dk_at dksX2_copy_8 19 rfl rfl)
theorem dX2_copy_207 : decode cX2_copy 207 = .ok (.aload_n 0, 1) := dk_42 (dk_at dksX2_copy_8 20 rfl rfl)
theorem dX2_copy_208 : decode cX2_copy 208 = .ok (.getfield 136, 3) := dk_180 0 136 (dk_at dksX2_copy_8 21 rfl rfl)
theorem dX2_copy_211 : decode cX2_copy 211 = .ok (.putfield 136, 3) := dk_181 0 136 (dk_at dksX2_copy_9 0 rfl rfl)
theorem dX2_copy_214 : decode cX2_copy 214 = .ok (.aload_n 1, 1) := dk_43 (dk_at dksX2_copy_9 3 rfl rfl)
theorem dX2_copy_215 : decode cX2_copy 215 = .ok (.aload_n 0, 1) := dk_42 (dk_at dksX2_copy_9 4 rfl rfl)
theorem dX2_copy_216 : decode cX2_copy 216 = .ok (.getfield 139, 3) := dk_180 0 139 (dk_at dksX2_copy_9 5 rfl rfl)
theorem dX2_copy_219 : decode cX2_copy 219 = .ok (.putfield 139, 3) := dk_181 0 139 (dk_at dksX2_copy_9 8 rfl rfl)
theorem dX2_copy_222 : decode cX2_copy 222 = .ok (.aload_n 1, 1) := dk_43 (dk_at dksX2_copy_9 11 rfl rfl)
theorem dX2_copy_223 : decode cX2_copy 223 = .ok (.areturn, 1) := dk_176 (dk_at dksX2_copy_9 12 rfl rfl)
abbrev cX2_nextLeader : ByteArray := prog_17_method_22_code
def yX2_nextLeader : MethodName := ⟨RX2, "nextLeader", "(I)I"⟩
def dkwX2_nextLeader_3 : List UInt8 := [132, 4, 255, 167, 255, 219, 167, 255, 188, 29, 172]
abbrev dktX2_nextLeader_3 : List UInt8 := dkwX2_nextLeader_3 ++ []
def dkwX2_nextLeader_2 : List UInt8 := [154, 0, 23, 42, 180, 0, 64, 21, 4, 50, 42, 180, 0, 112, 182, 1, 168, 153, 0, 6, 21, 4, 62]
abbrev dktX2_nextLeader_2 : List UInt8 := dkwX2_nextLeader_2 ++ dktX2_nextLeader_3
def dkwX2_nextLeader_1 : List UInt8 := [182, 1, 153, 42, 180, 0, 64, 190, 4, 100, 54, 4, 21, 4, 155, 0, 38, 28, 21, 4, 122, 4, 126]
abbrev dktX2_nextLeader_1 : List UInt8 := dkwX2_nextLeader_1 ++ dktX2_nextLeader_2
def dkwX2_nextLeader_0 : List UInt8 := [42, 182, 1, 165, 61, 16, 252, 62, 42, 180, 0, 112, 27, 162, 0, 66, 29, 16, 252, 160, 0, 60, 42, 27]
abbrev dktX2_nextLeader_0 : List UInt8 := dkwX2_nextLeader_0 ++ dktX2_nextLeader_1
theorem dksX2_nextLeader_0 : cX2_nextLeader.data.toList.drop 0 = dktX2_nextLeader_0 := by decide +kernel
theorem dksX2_nextLeader_1 : cX2_nextLeader.data.toList.drop 24 = dktX2_nextLeader_1 := dk_seg dksX2_nextLeader_0 24 rfl rfl
theorem dksX2_nextLeader_2 : cX2_nextLeader.data.toList.drop 47 = dktX2_nextLeader_2 := dk_seg dksX2_nextLeader_1 23 rfl rfl
theorem dksX2_nextLeader_3 : cX2_nextLeader.data.toList.drop 70 = dktX2_nextLeader_3 := dk_seg dksX2_nextLeader_2 23 rfl rfl
theorem dX2_nextLeader_0 : decode cX2_nextLeader 0 = .ok (.aload_n 0, 1) := dk_42 (dk_at dksX2_nextLeader_0 0 rfl rfl)
theorem dX2_nextLeader_1 : decode cX2_nextLeader 1 = .ok (.invokevirtual 421, 3) := dk_182 1 165 (dk_at dksX2_nextLeader_0 1 rfl rfl)
theorem dX2_nextLeader_4 : decode cX2_nextLeader 4 = .ok (.istore_n 2, 1) := dk_61 (dk_at dksX2_nextLeader_0 4 rfl rfl)
theorem dX2_nextLeader_5 : decode cX2_nextLeader 5 = .ok (.bipush (-4), 2) := dk_16 252 (dk_at dksX2_nextLeader_0 5 rfl rfl)
theorem dX2_nextLeader_7 : decode cX2_nextLeader 7 = .ok (.istore_n 3, 1) := dk_62 (dk_at dksX2_nextLeader_0 7 rfl rfl)
theorem dX2_nextLeader_8 : decode cX2_nextLeader 8 = .ok (.aload_n 0, 1) := dk_42 (dk_at dksX2_nextLeader_0 8 rfl rfl)
theorem dX2_nextLeader_9 : decode cX2_nextLeader 9 = .ok (.getfield 112, 3) := dk_180 0 112 (dk_at dksX2_nextLeader_0 9 rfl rfl)
theorem dX2_nextLeader_12 : decode cX2_nextLeader 12 = .ok (.iload_n 1, 1) := dk_27 (dk_at dksX2_nextLeader_0 12 rfl rfl)
theorem dX2_nextLeader_13 : decode cX2_nextLeader 13 = .ok (.if_icmp .ge 66, 3) := dk_162 0 66 (dk_at dksX2_nextLeader_0 13 rfl rfl)
theorem dX2_nextLeader_16 : decode cX2_nextLeader 16 = .ok (.iload_n 3, 1) := dk_29 (dk_at dksX2_nextLeader_0 16 rfl rfl)
theorem dX2_nextLeader_17 : decode cX2_nextLeader 17 = .ok (.bipush (-4), 2) := dk_16 252 (dk_at dksX2_nextLeader_0 17 rfl rfl)
theorem dX2_nextLeader_19 : decode cX2_nextLeader 19 = .ok (.if_icmp .ne 60, 3) := dk_160 0 60 (dk_at dksX2_nextLeader_0 19 rfl rfl)
theorem dX2_nextLeader_22 : decode cX2_nextLeader 22 = .ok (.aload_n 0, 1) := dk_42 (dk_at dksX2_nextLeader_0 22 rfl rfl)
theorem dX2_nextLeader_23 : decode cX2_nextLeader 23 = .ok (.iload_n 1, 1) := dk_27 (dk_at dksX2_nextLeader_0 23 rfl rfl)
theorem dX2_nextLeader_24 : decode cX2_nextLeader 24 = .ok (.invokevirtual 409, 3) := dk_182 1 153 (dk_at dksX2_nextLeader_1 0 rfl rfl)
theorem dX2_nextLeader_27 : decode cX2_nextLeader 27 = .ok (.aload_n 0, 1) := dk_42 (dk_at dksX2_nextLeader_1 3 rfl rfl)
theorem dX2_nextLeader_28 : decode cX2_nextLeader 28 = .ok (.getfield 64, 3) := dk_180 0 64 (dk_at dksX2_nextLeader_1 4 rfl rfl)
theorem dX2_nextLeader_31 : decode cX2_nextLeader 31 = .ok (.arraylength, 1) := dk_190 (dk_at dksX2_nextLeader_1 7 rfl rfl)
theorem dX2_nextLeader_32 : decode cX2_nextLeader 32 = .ok (.iconst 1, 1) := dk_4 (dk_at dksX2_nextLeader_1 8 rfl rfl)
theorem dX2_nextLeader_33 : decode cX2_nextLeader 33 = .ok (.isub, 1) := dk_100 (dk_at dksX2_nextLeader_1 9 rfl rfl)
theorem dX2_nextLeader_34 : decode cX2_nextLeader 34 = .ok (.istore 4, 2) := dk_54 4 (dk_at dksX2_nextLeader_1 10 rfl rfl)
theorem dX2_nextLeader_36 : decode cX2_nextLeader 36 = .ok (.iload 4, 2) := dk_21 4 (dk_at dksX2_nextLeader_1 12 rfl rfl)
theorem dX2_nextLeader_38 : decode cX2_nextLeader 38 = .ok (.ifCond .lt 38, 3) := dk_155 0 38 (dk_at dksX2_nextLeader_1 14 rfl rfl)
theorem dX2_nextLeader_41 : decode cX2_nextLeader 41 = .ok (.iload_n 2, 1) := dk_28 (dk_at dksX2_nextLeader_1 17 rfl rfl)
theorem dX2_nextLeader_42 : decode cX2_nextLeader 42 = .ok (.iload 4, 2) := dk_21 4 (dk_at dksX2_nextLeader_1 18 rfl rfl)
theorem dX2_nextLeader_44 : decode cX2_nextLeader 44 = .ok (.ishr, 1) := dk_122 (dk_at dksX2_nextLeader_1 20 rfl rfl)
theorem dX2_nextLeader_45 : decode cX2_nextLeader 45 = .ok (.iconst 1, 1) := dk_4 (dk_at dksX2_nextLeader_1 21 rfl rfl)
theorem dX2_nextLeader_46 : decode cX2_nextLeader 46 = .ok (.iand, 1) := dk_126 (dk_at dksX2_nextLeader_1 22 rfl rfl)
theorem dX2_nextLeader_47 : decode cX2_nextLeader 47 = .ok (.ifCond .ne 23, 3) := dk_154 0 23 (dk_at dksX2_nextLeader_2 0 rfl rfl)
theorem dX2_nextLeader_50 : decode cX2_nextLeader 50 = .ok (.aload_n 0, 1) := dk_42 (dk_at dksX2_nextLeader_2 3 rfl rfl)
theorem dX2_nextLeader_51 : decode cX2_nextLeader 51 = .ok (.getfield 64, 3) := dk_180 0 64 (dk_at dksX2_nextLeader_2 4 rfl rfl)
theorem dX2_nextLeader_54 : decode cX2_nextLeader 54 = .ok (.iload 4, 2) := dk_21 4 (dk_at dksX2_nextLeader_2 7 rfl rfl)
theorem dX2_nextLeader_56 : decode cX2_nextLeader 56 = .ok (.aaload, 1) := dk_50 (dk_at dksX2_nextLeader_2 9 rfl rfl)
theorem dX2_nextLeader_57 : decode cX2_nextLeader 57 = .ok (.aload_n 0, 1) := dk_42 (dk_at dksX2_nextLeader_2 10 rfl rfl)
theorem dX2_nextLeader_58 : decode cX2_nextLeader 58 = .ok (.getfield 112, 3) := dk_180 0 112 (dk_at dksX2_nextLeader_2 11 rfl rfl)
theorem dX2_nextLeader_61 : decode cX2_nextLeader 61 = .ok (.invokevirtual 424, 3) := dk_182 1 168 (dk_at dksX2_nextLeader_2 14 rfl rfl)
theorem dX2_nextLeader_64 : decode cX2_nextLeader 64 = .ok (.ifCond .eq 6, 3) := dk_153 0 6 (dk_at dksX2_nextLeader_2 17 rfl rfl)
theorem dX2_nextLeader_67 : decode cX2_nextLeader 67 = .ok (.iload 4, 2) := dk_21 4 (dk_at dksX2_nextLeader_2 20 rfl rfl)
theorem dX2_nextLeader_69 : decode cX2_nextLeader 69 = .ok (.istore_n 3, 1) := dk_62 (dk_at dksX2_nextLeader_2 22 rfl rfl)
theorem dX2_nextLeader_70 : decode cX2_nextLeader 70 = .ok (.iinc 4 (-1), 3) := dk_132 4 255 (dk_at dksX2_nextLeader_3 0 rfl rfl)
theorem dX2_nextLeader_73 : decode cX2_nextLeader 73 = .ok (.goto (-37), 3) := dk_167 255 219 (dk_at dksX2_nextLeader_3 3 rfl rfl)
theorem dX2_nextLeader_76 : decode cX2_nextLeader 76 = .ok (.goto (-68), 3) := dk_167 255 188 (dk_at dksX2_nextLeader_3 6 rfl rfl)
theorem dX2_nextLeader_79 : decode cX2_nextLeader 79 = .ok (.iload_n 3, 1) := dk_29 (dk_at dksX2_nextLeader_3 9 rfl rfl)
theorem dX2_nextLeader_80 : decode cX2_nextLeader 80 = .ok (.ireturn, 1) := dk_172 (dk_at dksX2_nextLeader_3 10 rfl rfl)
abbrev cX2_leadsFrom : ByteArray := prog_17_method_23_code
def yX2_leadsFrom : MethodName := ⟨RX2, "leadsFrom", "(II)I"⟩
def dkwX2_leadsFrom_2 : List UInt8 := [42, 180, 0, 112, 167, 0, 5, 16, 252, 172]
abbrev dktX2_leadsFrom_2 : List UInt8 := dkwX2_leadsFrom_2 ++ []
def dkwX2_leadsFrom_1 : List UInt8 := [42, 28, 182, 1, 153, 167, 255, 227, 42, 180, 0, 64, 27, 50, 42, 180, 0, 112, 182, 1, 168, 153, 0, 10]
abbrev dktX2_leadsFrom_1 : List UInt8 := dkwX2_leadsFrom_1 ++ dktX2_leadsFrom_2
def dkwX2_leadsFrom_0 : List UInt8 := [42, 180, 0, 112, 28, 162, 0, 27, 42, 180, 0, 64, 27, 50, 42, 180, 0, 112, 182, 1, 168, 154, 0, 11]
abbrev dktX2_leadsFrom_0 : List UInt8 := dkwX2_leadsFrom_0 ++ dktX2_leadsFrom_1
theorem dksX2_leadsFrom_0 : cX2_leadsFrom.data.toList.drop 0 = dktX2_leadsFrom_0 := by decide +kernel
theorem dksX2_leadsFrom_1 : cX2_leadsFrom.data.toList.drop 24 = dktX2_leadsFrom_1 := dk_seg dksX2_leadsFrom_0 24 rfl rfl
theorem dksX2_leadsFrom_2 : cX2_leadsFrom.data.toList.drop 48 = dktX2_leadsFrom_2 := dk_seg dksX2_leadsFrom_1 24 rfl rfl
theorem dX2_leadsFrom_0 : decode cX2_leadsFrom 0 = .ok (.aload_n 0, 1) := dk_42 (dk_at dksX2_leadsFrom_0 0 rfl rfl)
theorem dX2_leadsFrom_1 : decode cX2_leadsFrom 1 = .ok (.getfield 112, 3) := dk_180 0 112 (dk_at dksX2_leadsFrom_0 1 rfl rfl)
theorem dX2_leadsFrom_4 : decode cX2_leadsFrom 4 = .ok (.iload_n 2, 1) := dk_28 (dk_at dksX2_leadsFrom_0 4 rfl rfl)
theorem dX2_leadsFrom_5 : decode cX2_leadsFrom 5 = .ok (.if_icmp .ge 27, 3) := dk_162 0 27 (dk_at dksX2_leadsFrom_0 5 rfl rfl)
theorem dX2_leadsFrom_8 : decode cX2_leadsFrom 8 = .ok (.aload_n 0, 1) := dk_42 (dk_at dksX2_leadsFrom_0 8 rfl rfl)
theorem dX2_leadsFrom_9 : decode cX2_leadsFrom 9 = .ok (.getfield 64, 3) := dk_180 0 64 (dk_at dksX2_leadsFrom_0 9 rfl rfl)
theorem dX2_leadsFrom_12 : decode cX2_leadsFrom 12 = .ok (.iload_n 1, 1) := dk_27 (dk_at dksX2_leadsFrom_0 12 rfl rfl)
theorem dX2_leadsFrom_13 : decode cX2_leadsFrom 13 = .ok (.aaload, 1) := dk_50 (dk_at dksX2_leadsFrom_0 13 rfl rfl)
theorem dX2_leadsFrom_14 : decode cX2_leadsFrom 14 = .ok (.aload_n 0, 1) := dk_42 (dk_at dksX2_leadsFrom_0 14 rfl rfl)
theorem dX2_leadsFrom_15 : decode cX2_leadsFrom 15 = .ok (.getfield 112, 3) := dk_180 0 112 (dk_at dksX2_leadsFrom_0 15 rfl rfl)
theorem dX2_leadsFrom_18 : decode cX2_leadsFrom 18 = .ok (.invokevirtual 424, 3) := dk_182 1 168 (dk_at dksX2_leadsFrom_0 18 rfl rfl)
theorem dX2_leadsFrom_21 : decode cX2_leadsFrom 21 = .ok (.ifCond .ne 11, 3) := dk_154 0 11 (dk_at dksX2_leadsFrom_0 21 rfl rfl)
theorem dX2_leadsFrom_24 : decode cX2_leadsFrom 24 = .ok (.aload_n 0, 1) := dk_42 (dk_at dksX2_leadsFrom_1 0 rfl rfl)
theorem dX2_leadsFrom_25 : decode cX2_leadsFrom 25 = .ok (.iload_n 2, 1) := dk_28 (dk_at dksX2_leadsFrom_1 1 rfl rfl)
theorem dX2_leadsFrom_26 : decode cX2_leadsFrom 26 = .ok (.invokevirtual 409, 3) := dk_182 1 153 (dk_at dksX2_leadsFrom_1 2 rfl rfl)
theorem dX2_leadsFrom_29 : decode cX2_leadsFrom 29 = .ok (.goto (-29), 3) := dk_167 255 227 (dk_at dksX2_leadsFrom_1 5 rfl rfl)
theorem dX2_leadsFrom_32 : decode cX2_leadsFrom 32 = .ok (.aload_n 0, 1) := dk_42 (dk_at dksX2_leadsFrom_1 8 rfl rfl)
theorem dX2_leadsFrom_33 : decode cX2_leadsFrom 33 = .ok (.getfield 64, 3) := dk_180 0 64 (dk_at dksX2_leadsFrom_1 9 rfl rfl)
theorem dX2_leadsFrom_36 : decode cX2_leadsFrom 36 = .ok (.iload_n 1, 1) := dk_27 (dk_at dksX2_leadsFrom_1 12 rfl rfl)
theorem dX2_leadsFrom_37 : decode cX2_leadsFrom 37 = .ok (.aaload, 1) := dk_50 (dk_at dksX2_leadsFrom_1 13 rfl rfl)
theorem dX2_leadsFrom_38 : decode cX2_leadsFrom 38 = .ok (.aload_n 0, 1) := dk_42 (dk_at dksX2_leadsFrom_1 14 rfl rfl)
theorem dX2_leadsFrom_39 : decode cX2_leadsFrom 39 = .ok (.getfield 112, 3) := dk_180 0 112 (dk_at dksX2_leadsFrom_1 15 rfl rfl)
theorem dX2_leadsFrom_42 : decode cX2_leadsFrom 42 = .ok (.invokevirtual 424, 3) := dk_182 1 168 (dk_at dksX2_leadsFrom_1 18 rfl rfl)
theorem dX2_leadsFrom_45 : decode cX2_leadsFrom 45 = .ok (.ifCond .eq 10, 3) := dk_153 0 10 (dk_at dksX2_leadsFrom_1 21 rfl rfl)
theorem dX2_leadsFrom_48 : decode cX2_leadsFrom 48 = .ok (.aload_n 0, 1) := dk_42 (dk_at dksX2_leadsFrom_2 0 rfl rfl)
theorem dX2_leadsFrom_49 : decode cX2_leadsFrom 49 = .ok (.getfield 112, 3) := dk_180 0 112 (dk_at dksX2_leadsFrom_2 1 rfl rfl)
theorem dX2_leadsFrom_52 : decode cX2_leadsFrom 52 = .ok (.goto 5, 3) := dk_167 0 5 (dk_at dksX2_leadsFrom_2 4 rfl rfl)
theorem dX2_leadsFrom_55 : decode cX2_leadsFrom 55 = .ok (.bipush (-4), 2) := dk_16 252 (dk_at dksX2_leadsFrom_2 7 rfl rfl)
theorem dX2_leadsFrom_57 : decode cX2_leadsFrom 57 = .ok (.ireturn, 1) := dk_172 (dk_at dksX2_leadsFrom_2 9 rfl rfl)
abbrev cX2_longestGap : ByteArray := prog_17_method_25_code
def yX2_longestGap : MethodName := ⟨RX2, "longestGap", "(I)I"⟩
def dkwX2_longestGap_3 : List UInt8 := [182, 1, 153, 167, 255, 188, 28, 172]
abbrev dktX2_longestGap_3 : List UInt8 := dkwX2_longestGap_3 ++ []
def dkwX2_longestGap_2 : List UInt8 := [167, 0, 12, 29, 21, 4, 96, 42, 180, 0, 112, 100, 62, 28, 29, 184, 1, 87, 61, 42, 21, 4]
abbrev dktX2_longestGap_2 : List UInt8 := dkwX2_longestGap_2 ++ dktX2_longestGap_3
def dkwX2_longestGap_1 : List UInt8 := [42, 182, 1, 171, 184, 1, 106, 54, 5, 21, 5, 42, 180, 0, 112, 164, 0, 11, 21, 4, 21, 5, 100]
abbrev dktX2_longestGap_1 : List UInt8 := dkwX2_longestGap_1 ++ dktX2_longestGap_2
def dkwX2_longestGap_0 : List UInt8 := [3, 61, 3, 62, 42, 180, 0, 112, 27, 162, 0, 66, 27, 42, 182, 1, 156, 184, 1, 106, 54, 4, 21, 4]
abbrev dktX2_longestGap_0 : List UInt8 := dkwX2_longestGap_0 ++ dktX2_longestGap_1
theorem dksX2_longestGap_0 : cX2_longestGap.data.toList.drop 0 = dktX2_longestGap_0 := by decide +kernel
theorem dksX2_longestGap_1 : cX2_longestGap.data.toList.drop 24 = dktX2_longestGap_1 := dk_seg dksX2_longestGap_0 24 rfl rfl
theorem dksX2_longestGap_2 : cX2_longestGap.data.toList.drop 47 = dktX2_longestGap_2 := dk_seg dksX2_longestGap_1 23 rfl rfl
theorem dksX2_longestGap_3 : cX2_longestGap.data.toList.drop 69 = dktX2_longestGap_3 := dk_seg dksX2_longestGap_2 22 rfl rfl
theorem dX2_longestGap_0 : decode cX2_longestGap 0 = .ok (.iconst 0, 1) := dk_3 (dk_at dksX2_longestGap_0 0 rfl rfl)
theorem dX2_longestGap_1 : decode cX2_longestGap 1 = .ok (.istore_n 2, 1) := dk_61 (dk_at dksX2_longestGap_0 1 rfl rfl)
theorem dX2_longestGap_2 : decode cX2_longestGap 2 = .ok (.iconst 0, 1) := dk_3 (dk_at dksX2_longestGap_0 2 rfl rfl)
theorem dX2_longestGap_3 : decode cX2_longestGap 3 = .ok (.istore_n 3, 1) := dk_62 (dk_at dksX2_longestGap_0 3 rfl rfl)
theorem dX2_longestGap_4 : decode cX2_longestGap 4 = .ok (.aload_n 0, 1) := dk_42 (dk_at dksX2_longestGap_0 4 rfl rfl)
theorem dX2_longestGap_5 : decode cX2_longestGap 5 = .ok (.getfield 112, 3) := dk_180 0 112 (dk_at dksX2_longestGap_0 5 rfl rfl)
theorem dX2_longestGap_8 : decode cX2_longestGap 8 = .ok (.iload_n 1, 1) := dk_27 (dk_at dksX2_longestGap_0 8 rfl rfl)
theorem dX2_longestGap_9 : decode cX2_longestGap 9 = .ok (.if_icmp .ge 66, 3) := dk_162 0 66 (dk_at dksX2_longestGap_0 9 rfl rfl)
theorem dX2_longestGap_12 : decode cX2_longestGap 12 = .ok (.iload_n 1, 1) := dk_27 (dk_at dksX2_longestGap_0 12 rfl rfl)
theorem dX2_longestGap_13 : decode cX2_longestGap 13 = .ok (.aload_n 0, 1) := dk_42 (dk_at dksX2_longestGap_0 13 rfl rfl)
theorem dX2_longestGap_14 : decode cX2_longestGap 14 = .ok (.invokevirtual 412, 3) := dk_182 1 156 (dk_at dksX2_longestGap_0 14 rfl rfl)
theorem dX2_longestGap_17 : decode cX2_longestGap 17 = .ok (.invokestatic 362, 3) := dk_184 1 106 (dk_at dksX2_longestGap_0 17 rfl rfl)
theorem dX2_longestGap_20 : decode cX2_longestGap 20 = .ok (.istore 4, 2) := dk_54 4 (dk_at dksX2_longestGap_0 20 rfl rfl)
theorem dX2_longestGap_22 : decode cX2_longestGap 22 = .ok (.iload 4, 2) := dk_21 4 (dk_at dksX2_longestGap_0 22 rfl rfl)
theorem dX2_longestGap_24 : decode cX2_longestGap 24 = .ok (.aload_n 0, 1) := dk_42 (dk_at dksX2_longestGap_1 0 rfl rfl)
theorem dX2_longestGap_25 : decode cX2_longestGap 25 = .ok (.invokevirtual 427, 3) := dk_182 1 171 (dk_at dksX2_longestGap_1 1 rfl rfl)
theorem dX2_longestGap_28 : decode cX2_longestGap 28 = .ok (.invokestatic 362, 3) := dk_184 1 106 (dk_at dksX2_longestGap_1 4 rfl rfl)
theorem dX2_longestGap_31 : decode cX2_longestGap 31 = .ok (.istore 5, 2) := dk_54 5 (dk_at dksX2_longestGap_1 7 rfl rfl)
theorem dX2_longestGap_33 : decode cX2_longestGap 33 = .ok (.iload 5, 2) := dk_21 5 (dk_at dksX2_longestGap_1 9 rfl rfl)
theorem dX2_longestGap_35 : decode cX2_longestGap 35 = .ok (.aload_n 0, 1) := dk_42 (dk_at dksX2_longestGap_1 11 rfl rfl)
theorem dX2_longestGap_36 : decode cX2_longestGap 36 = .ok (.getfield 112, 3) := dk_180 0 112 (dk_at dksX2_longestGap_1 12 rfl rfl)
theorem dX2_longestGap_39 : decode cX2_longestGap 39 = .ok (.if_icmp .le 11, 3) := dk_164 0 11 (dk_at dksX2_longestGap_1 15 rfl rfl)
theorem dX2_longestGap_42 : decode cX2_longestGap 42 = .ok (.iload 4, 2) := dk_21 4 (dk_at dksX2_longestGap_1 18 rfl rfl)
theorem dX2_longestGap_44 : decode cX2_longestGap 44 = .ok (.iload 5, 2) := dk_21 5 (dk_at dksX2_longestGap_1 20 rfl rfl)
theorem dX2_longestGap_46 : decode cX2_longestGap 46 = .ok (.isub, 1) := dk_100 (dk_at dksX2_longestGap_1 22 rfl rfl)
theorem dX2_longestGap_47 : decode cX2_longestGap 47 = .ok (.goto 12, 3) := dk_167 0 12 (dk_at dksX2_longestGap_2 0 rfl rfl)
theorem dX2_longestGap_50 : decode cX2_longestGap 50 = .ok (.iload_n 3, 1) := dk_29 (dk_at dksX2_longestGap_2 3 rfl rfl)
theorem dX2_longestGap_51 : decode cX2_longestGap 51 = .ok (.iload 4, 2) := dk_21 4 (dk_at dksX2_longestGap_2 4 rfl rfl)
theorem dX2_longestGap_53 : decode cX2_longestGap 53 = .ok (.iadd, 1) := dk_96 (dk_at dksX2_longestGap_2 6 rfl rfl)
theorem dX2_longestGap_54 : decode cX2_longestGap 54 = .ok (.aload_n 0, 1) := dk_42 (dk_at dksX2_longestGap_2 7 rfl rfl)
theorem dX2_longestGap_55 : decode cX2_longestGap 55 = .ok (.getfield 112, 3) := dk_180 0 112 (dk_at dksX2_longestGap_2 8 rfl rfl)
theorem dX2_longestGap_58 : decode cX2_longestGap 58 = .ok (.isub, 1) := dk_100 (dk_at dksX2_longestGap_2 11 rfl rfl)
theorem dX2_longestGap_59 : decode cX2_longestGap 59 = .ok (.istore_n 3, 1) := dk_62 (dk_at dksX2_longestGap_2 12 rfl rfl)
theorem dX2_longestGap_60 : decode cX2_longestGap 60 = .ok (.iload_n 2, 1) := dk_28 (dk_at dksX2_longestGap_2 13 rfl rfl)
theorem dX2_longestGap_61 : decode cX2_longestGap 61 = .ok (.iload_n 3, 1) := dk_29 (dk_at dksX2_longestGap_2 14 rfl rfl)
theorem dX2_longestGap_62 : decode cX2_longestGap 62 = .ok (.invokestatic 343, 3) := dk_184 1 87 (dk_at dksX2_longestGap_2 15 rfl rfl)
theorem dX2_longestGap_65 : decode cX2_longestGap 65 = .ok (.istore_n 2, 1) := dk_61 (dk_at dksX2_longestGap_2 18 rfl rfl)
theorem dX2_longestGap_66 : decode cX2_longestGap 66 = .ok (.aload_n 0, 1) := dk_42 (dk_at dksX2_longestGap_2 19 rfl rfl)
theorem dX2_longestGap_67 : decode cX2_longestGap 67 = .ok (.iload 4, 2) := dk_21 4 (dk_at dksX2_longestGap_2 20 rfl rfl)
theorem dX2_longestGap_69 : decode cX2_longestGap 69 = .ok (.invokevirtual 409, 3) := dk_182 1 153 (dk_at dksX2_longestGap_3 0 rfl rfl)
theorem dX2_longestGap_72 : decode cX2_longestGap 72 = .ok (.goto (-68), 3) := dk_167 255 188 (dk_at dksX2_longestGap_3 3 rfl rfl)
theorem dX2_longestGap_75 : decode cX2_longestGap 75 = .ok (.iload_n 2, 1) := dk_28 (dk_at dksX2_longestGap_3 6 rfl rfl)
theorem dX2_longestGap_76 : decode cX2_longestGap 76 = .ok (.ireturn, 1) := dk_172 (dk_at dksX2_longestGap_3 7 rfl rfl)
abbrev cX2_lastEnd : ByteArray := prog_17_method_24_code
def yX2_lastEnd : MethodName := ⟨RX2, "lastEnd", "()I"⟩
def dkwX2_lastEnd_1 : List UInt8 := [21, 4, 50, 58, 5, 27, 25, 5, 182, 1, 117, 184, 1, 87, 60, 132, 4, 1, 167, 255, 231, 27, 172]
abbrev dktX2_lastEnd_1 : List UInt8 := dkwX2_lastEnd_1 ++ []
def dkwX2_lastEnd_0 : List UInt8 := [42, 180, 0, 112, 60, 42, 180, 0, 64, 77, 44, 190, 62, 3, 54, 4, 21, 4, 29, 162, 0, 25, 44]
abbrev dktX2_lastEnd_0 : List UInt8 := dkwX2_lastEnd_0 ++ dktX2_lastEnd_1
theorem dksX2_lastEnd_0 : cX2_lastEnd.data.toList.drop 0 = dktX2_lastEnd_0 := by decide +kernel
theorem dksX2_lastEnd_1 : cX2_lastEnd.data.toList.drop 23 = dktX2_lastEnd_1 := dk_seg dksX2_lastEnd_0 23 rfl rfl
theorem dX2_lastEnd_0 : decode cX2_lastEnd 0 = .ok (.aload_n 0, 1) := dk_42 (dk_at dksX2_lastEnd_0 0 rfl rfl)
theorem dX2_lastEnd_1 : decode cX2_lastEnd 1 = .ok (.getfield 112, 3) := dk_180 0 112 (dk_at dksX2_lastEnd_0 1 rfl rfl)
theorem dX2_lastEnd_4 : decode cX2_lastEnd 4 = .ok (.istore_n 1, 1) := dk_60 (dk_at dksX2_lastEnd_0 4 rfl rfl)
theorem dX2_lastEnd_5 : decode cX2_lastEnd 5 = .ok (.aload_n 0, 1) := dk_42 (dk_at dksX2_lastEnd_0 5 rfl rfl)
theorem dX2_lastEnd_6 : decode cX2_lastEnd 6 = .ok (.getfield 64, 3) := dk_180 0 64 (dk_at dksX2_lastEnd_0 6 rfl rfl)
theorem dX2_lastEnd_9 : decode cX2_lastEnd 9 = .ok (.astore_n 2, 1) := dk_77 (dk_at dksX2_lastEnd_0 9 rfl rfl)
theorem dX2_lastEnd_10 : decode cX2_lastEnd 10 = .ok (.aload_n 2, 1) := dk_44 (dk_at dksX2_lastEnd_0 10 rfl rfl)
theorem dX2_lastEnd_11 : decode cX2_lastEnd 11 = .ok (.arraylength, 1) := dk_190 (dk_at dksX2_lastEnd_0 11 rfl rfl)
theorem dX2_lastEnd_12 : decode cX2_lastEnd 12 = .ok (.istore_n 3, 1) := dk_62 (dk_at dksX2_lastEnd_0 12 rfl rfl)
theorem dX2_lastEnd_13 : decode cX2_lastEnd 13 = .ok (.iconst 0, 1) := dk_3 (dk_at dksX2_lastEnd_0 13 rfl rfl)
theorem dX2_lastEnd_14 : decode cX2_lastEnd 14 = .ok (.istore 4, 2) := dk_54 4 (dk_at dksX2_lastEnd_0 14 rfl rfl)
theorem dX2_lastEnd_16 : decode cX2_lastEnd 16 = .ok (.iload 4, 2) := dk_21 4 (dk_at dksX2_lastEnd_0 16 rfl rfl)
theorem dX2_lastEnd_18 : decode cX2_lastEnd 18 = .ok (.iload_n 3, 1) := dk_29 (dk_at dksX2_lastEnd_0 18 rfl rfl)
theorem dX2_lastEnd_19 : decode cX2_lastEnd 19 = .ok (.if_icmp .ge 25, 3) := dk_162 0 25 (dk_at dksX2_lastEnd_0 19 rfl rfl)
theorem dX2_lastEnd_22 : decode cX2_lastEnd 22 = .ok (.aload_n 2, 1) := dk_44 (dk_at dksX2_lastEnd_0 22 rfl rfl)
theorem dX2_lastEnd_23 : decode cX2_lastEnd 23 = .ok (.iload 4, 2) := dk_21 4 (dk_at dksX2_lastEnd_1 0 rfl rfl)
theorem dX2_lastEnd_25 : decode cX2_lastEnd 25 = .ok (.aaload, 1) := dk_50 (dk_at dksX2_lastEnd_1 2 rfl rfl)
theorem dX2_lastEnd_26 : decode cX2_lastEnd 26 = .ok (.astore 5, 2) := dk_58 5 (dk_at dksX2_lastEnd_1 3 rfl rfl)
theorem dX2_lastEnd_28 : decode cX2_lastEnd 28 = .ok (.iload_n 1, 1) := dk_27 (dk_at dksX2_lastEnd_1 5 rfl rfl)
theorem dX2_lastEnd_29 : decode cX2_lastEnd 29 = .ok (.aload 5, 2) := dk_25 5 (dk_at dksX2_lastEnd_1 6 rfl rfl)
theorem dX2_lastEnd_31 : decode cX2_lastEnd 31 = .ok (.invokevirtual 373, 3) := dk_182 1 117 (dk_at dksX2_lastEnd_1 8 rfl rfl)
theorem dX2_lastEnd_34 : decode cX2_lastEnd 34 = .ok (.invokestatic 343, 3) := dk_184 1 87 (dk_at dksX2_lastEnd_1 11 rfl rfl)
theorem dX2_lastEnd_37 : decode cX2_lastEnd 37 = .ok (.istore_n 1, 1) := dk_60 (dk_at dksX2_lastEnd_1 14 rfl rfl)
theorem dX2_lastEnd_38 : decode cX2_lastEnd 38 = .ok (.iinc 4 1, 3) := dk_132 4 1 (dk_at dksX2_lastEnd_1 15 rfl rfl)
theorem dX2_lastEnd_41 : decode cX2_lastEnd 41 = .ok (.goto (-25), 3) := dk_167 255 231 (dk_at dksX2_lastEnd_1 18 rfl rfl)
theorem dX2_lastEnd_44 : decode cX2_lastEnd 44 = .ok (.iload_n 1, 1) := dk_27 (dk_at dksX2_lastEnd_1 21 rfl rfl)
theorem dX2_lastEnd_45 : decode cX2_lastEnd 45 = .ok (.ireturn, 1) := dk_172 (dk_at dksX2_lastEnd_1 22 rfl rfl)
abbrev cX2_tryWrite : ByteArray := prog_17_method_26_code
def yX2_tryWrite : MethodName := ⟨RX2, "tryWrite", "(II)I"⟩
def dkwX2_tryWrite_4 : List UInt8 := [42, 21, 4, 182, 1, 178, 42, 180, 0, 44, 172]
abbrev dktX2_tryWrite_4 : List UInt8 := dkwX2_tryWrite_4 ++ []
def dkwX2_tryWrite_3 : List UInt8 := [180, 1, 100, 54, 4, 21, 4, 19, 1, 174, 164, 0, 6, 16, 251, 172, 42, 42, 180, 0, 115, 181, 1, 175]
abbrev dktX2_tryWrite_3 : List UInt8 := dkwX2_tryWrite_3 ++ dktX2_tryWrite_4
def dkwX2_tryWrite_2 : List UInt8 := [185, 0, 56, 1, 0, 29, 160, 0, 5, 5, 172, 42, 180, 0, 14, 29, 185, 0, 68, 2, 0, 192, 0, 179]
abbrev dktX2_tryWrite_2 : List UInt8 := dkwX2_tryWrite_2 ++ dktX2_tryWrite_3
def dkwX2_tryWrite_1 : List UInt8 := [27, 50, 180, 1, 65, 79, 89, 4, 28, 79, 89, 5, 3, 79, 182, 0, 203, 42, 180, 0, 14]
abbrev dktX2_tryWrite_1 : List UInt8 := dkwX2_tryWrite_1 ++ dktX2_tryWrite_2
def dkwX2_tryWrite_0 : List UInt8 := [42, 180, 0, 14, 185, 0, 56, 1, 0, 62, 42, 178, 1, 136, 27, 6, 188, 10, 89, 3, 42, 180, 0, 64]
abbrev dktX2_tryWrite_0 : List UInt8 := dkwX2_tryWrite_0 ++ dktX2_tryWrite_1
theorem dksX2_tryWrite_0 : cX2_tryWrite.data.toList.drop 0 = dktX2_tryWrite_0 := by decide +kernel
theorem dksX2_tryWrite_1 : cX2_tryWrite.data.toList.drop 24 = dktX2_tryWrite_1 := dk_seg dksX2_tryWrite_0 24 rfl rfl
theorem dksX2_tryWrite_2 : cX2_tryWrite.data.toList.drop 45 = dktX2_tryWrite_2 := dk_seg dksX2_tryWrite_1 21 rfl rfl
theorem dksX2_tryWrite_3 : cX2_tryWrite.data.toList.drop 69 = dktX2_tryWrite_3 := dk_seg dksX2_tryWrite_2 24 rfl rfl
theorem dksX2_tryWrite_4 : cX2_tryWrite.data.toList.drop 93 = dktX2_tryWrite_4 := dk_seg dksX2_tryWrite_3 24 rfl rfl
theorem dX2_tryWrite_0 : decode cX2_tryWrite 0 = .ok (.aload_n 0, 1) := dk_42 (dk_at dksX2_tryWrite_0 0 rfl rfl)
theorem dX2_tryWrite_1 : decode cX2_tryWrite 1 = .ok (.getfield 14, 3) := dk_180 0 14 (dk_at dksX2_tryWrite_0 1 rfl rfl)
theorem dX2_tryWrite_4 : decode cX2_tryWrite 4 = .ok (.invokeinterface 56 1, 5) := by decide +kernel
theorem dX2_tryWrite_9 : decode cX2_tryWrite 9 = .ok (.istore_n 3, 1) := dk_62 (dk_at dksX2_tryWrite_0 9 rfl rfl)
theorem dX2_tryWrite_10 : decode cX2_tryWrite 10 = .ok (.aload_n 0, 1) := dk_42 (dk_at dksX2_tryWrite_0 10 rfl rfl)
theorem dX2_tryWrite_11 : decode cX2_tryWrite 11 = .ok (.getstatic 392, 3) := dk_178 1 136 (dk_at dksX2_tryWrite_0 11 rfl rfl)
theorem dX2_tryWrite_14 : decode cX2_tryWrite 14 = .ok (.iload_n 1, 1) := dk_27 (dk_at dksX2_tryWrite_0 14 rfl rfl)
theorem dX2_tryWrite_15 : decode cX2_tryWrite 15 = .ok (.iconst 3, 1) := dk_6 (dk_at dksX2_tryWrite_0 15 rfl rfl)
theorem dX2_tryWrite_16 : decode cX2_tryWrite 16 = .ok (.newarray .int, 2) := dk_188_10 (dk_at dksX2_tryWrite_0 16 rfl rfl)
theorem dX2_tryWrite_18 : decode cX2_tryWrite 18 = .ok (.dup, 1) := dk_89 (dk_at dksX2_tryWrite_0 18 rfl rfl)
theorem dX2_tryWrite_19 : decode cX2_tryWrite 19 = .ok (.iconst 0, 1) := dk_3 (dk_at dksX2_tryWrite_0 19 rfl rfl)
theorem dX2_tryWrite_20 : decode cX2_tryWrite 20 = .ok (.aload_n 0, 1) := dk_42 (dk_at dksX2_tryWrite_0 20 rfl rfl)
theorem dX2_tryWrite_21 : decode cX2_tryWrite 21 = .ok (.getfield 64, 3) := dk_180 0 64 (dk_at dksX2_tryWrite_0 21 rfl rfl)
theorem dX2_tryWrite_24 : decode cX2_tryWrite 24 = .ok (.iload_n 1, 1) := dk_27 (dk_at dksX2_tryWrite_1 0 rfl rfl)
theorem dX2_tryWrite_25 : decode cX2_tryWrite 25 = .ok (.aaload, 1) := dk_50 (dk_at dksX2_tryWrite_1 1 rfl rfl)
theorem dX2_tryWrite_26 : decode cX2_tryWrite 26 = .ok (.getfield 321, 3) := dk_180 1 65 (dk_at dksX2_tryWrite_1 2 rfl rfl)
theorem dX2_tryWrite_29 : decode cX2_tryWrite 29 = .ok (.iastore, 1) := dk_79 (dk_at dksX2_tryWrite_1 5 rfl rfl)
theorem dX2_tryWrite_30 : decode cX2_tryWrite 30 = .ok (.dup, 1) := dk_89 (dk_at dksX2_tryWrite_1 6 rfl rfl)
theorem dX2_tryWrite_31 : decode cX2_tryWrite 31 = .ok (.iconst 1, 1) := dk_4 (dk_at dksX2_tryWrite_1 7 rfl rfl)
theorem dX2_tryWrite_32 : decode cX2_tryWrite 32 = .ok (.iload_n 2, 1) := dk_28 (dk_at dksX2_tryWrite_1 8 rfl rfl)
theorem dX2_tryWrite_33 : decode cX2_tryWrite 33 = .ok (.iastore, 1) := dk_79 (dk_at dksX2_tryWrite_1 9 rfl rfl)
theorem dX2_tryWrite_34 : decode cX2_tryWrite 34 = .ok (.dup, 1) := dk_89 (dk_at dksX2_tryWrite_1 10 rfl rfl)
theorem dX2_tryWrite_35 : decode cX2_tryWrite 35 = .ok (.iconst 2, 1) := dk_5 (dk_at dksX2_tryWrite_1 11 rfl rfl)
theorem dX2_tryWrite_36 : decode cX2_tryWrite 36 = .ok (.iconst 0, 1) := dk_3 (dk_at dksX2_tryWrite_1 12 rfl rfl)
theorem dX2_tryWrite_37 : decode cX2_tryWrite 37 = .ok (.iastore, 1) := dk_79 (dk_at dksX2_tryWrite_1 13 rfl rfl)
theorem dX2_tryWrite_38 : decode cX2_tryWrite 38 = .ok (.invokevirtual 203, 3) := dk_182 0 203 (dk_at dksX2_tryWrite_1 14 rfl rfl)
theorem dX2_tryWrite_41 : decode cX2_tryWrite 41 = .ok (.aload_n 0, 1) := dk_42 (dk_at dksX2_tryWrite_1 17 rfl rfl)
theorem dX2_tryWrite_42 : decode cX2_tryWrite 42 = .ok (.getfield 14, 3) := dk_180 0 14 (dk_at dksX2_tryWrite_1 18 rfl rfl)
theorem dX2_tryWrite_45 : decode cX2_tryWrite 45 = .ok (.invokeinterface 56 1, 5) := by decide +kernel
theorem dX2_tryWrite_50 : decode cX2_tryWrite 50 = .ok (.iload_n 3, 1) := dk_29 (dk_at dksX2_tryWrite_2 5 rfl rfl)
theorem dX2_tryWrite_51 : decode cX2_tryWrite 51 = .ok (.if_icmp .ne 5, 3) := dk_160 0 5 (dk_at dksX2_tryWrite_2 6 rfl rfl)
theorem dX2_tryWrite_54 : decode cX2_tryWrite 54 = .ok (.iconst 2, 1) := dk_5 (dk_at dksX2_tryWrite_2 9 rfl rfl)
theorem dX2_tryWrite_55 : decode cX2_tryWrite 55 = .ok (.ireturn, 1) := dk_172 (dk_at dksX2_tryWrite_2 10 rfl rfl)
theorem dX2_tryWrite_56 : decode cX2_tryWrite 56 = .ok (.aload_n 0, 1) := dk_42 (dk_at dksX2_tryWrite_2 11 rfl rfl)
theorem dX2_tryWrite_57 : decode cX2_tryWrite 57 = .ok (.getfield 14, 3) := dk_180 0 14 (dk_at dksX2_tryWrite_2 12 rfl rfl)
theorem dX2_tryWrite_60 : decode cX2_tryWrite 60 = .ok (.iload_n 3, 1) := dk_29 (dk_at dksX2_tryWrite_2 15 rfl rfl)
theorem dX2_tryWrite_61 : decode cX2_tryWrite 61 = .ok (.invokeinterface 68 2, 5) := by decide +kernel
theorem dX2_tryWrite_66 : decode cX2_tryWrite 66 = .ok (.checkcast 179, 3) := dk_192 0 179 (dk_at dksX2_tryWrite_2 21 rfl rfl)
theorem dX2_tryWrite_69 : decode cX2_tryWrite 69 = .ok (.getfield 356, 3) := dk_180 1 100 (dk_at dksX2_tryWrite_3 0 rfl rfl)
theorem dX2_tryWrite_72 : decode cX2_tryWrite 72 = .ok (.istore 4, 2) := dk_54 4 (dk_at dksX2_tryWrite_3 3 rfl rfl)
theorem dX2_tryWrite_74 : decode cX2_tryWrite 74 = .ok (.iload 4, 2) := dk_21 4 (dk_at dksX2_tryWrite_3 5 rfl rfl)
theorem dX2_tryWrite_76 : decode cX2_tryWrite 76 = .ok (.ldc_w 430, 3) := dk_19 1 174 (dk_at dksX2_tryWrite_3 7 rfl rfl)
theorem dX2_tryWrite_79 : decode cX2_tryWrite 79 = .ok (.if_icmp .le 6, 3) := dk_164 0 6 (dk_at dksX2_tryWrite_3 10 rfl rfl)
theorem dX2_tryWrite_82 : decode cX2_tryWrite 82 = .ok (.bipush (-5), 2) := dk_16 251 (dk_at dksX2_tryWrite_3 13 rfl rfl)
theorem dX2_tryWrite_84 : decode cX2_tryWrite 84 = .ok (.ireturn, 1) := dk_172 (dk_at dksX2_tryWrite_3 15 rfl rfl)
theorem dX2_tryWrite_85 : decode cX2_tryWrite 85 = .ok (.aload_n 0, 1) := dk_42 (dk_at dksX2_tryWrite_3 16 rfl rfl)
theorem dX2_tryWrite_86 : decode cX2_tryWrite 86 = .ok (.aload_n 0, 1) := dk_42 (dk_at dksX2_tryWrite_3 17 rfl rfl)
theorem dX2_tryWrite_87 : decode cX2_tryWrite 87 = .ok (.getfield 115, 3) := dk_180 0 115 (dk_at dksX2_tryWrite_3 18 rfl rfl)
theorem dX2_tryWrite_90 : decode cX2_tryWrite 90 = .ok (.putfield 431, 3) := dk_181 1 175 (dk_at dksX2_tryWrite_3 21 rfl rfl)
theorem dX2_tryWrite_93 : decode cX2_tryWrite 93 = .ok (.aload_n 0, 1) := dk_42 (dk_at dksX2_tryWrite_4 0 rfl rfl)
theorem dX2_tryWrite_94 : decode cX2_tryWrite 94 = .ok (.iload 4, 2) := dk_21 4 (dk_at dksX2_tryWrite_4 1 rfl rfl)
theorem dX2_tryWrite_96 : decode cX2_tryWrite 96 = .ok (.invokevirtual 434, 3) := dk_182 1 178 (dk_at dksX2_tryWrite_4 3 rfl rfl)
theorem dX2_tryWrite_99 : decode cX2_tryWrite 99 = .ok (.aload_n 0, 1) := dk_42 (dk_at dksX2_tryWrite_4 6 rfl rfl)
theorem dX2_tryWrite_100 : decode cX2_tryWrite 100 = .ok (.getfield 44, 3) := dk_180 0 44 (dk_at dksX2_tryWrite_4 7 rfl rfl)
theorem dX2_tryWrite_103 : decode cX2_tryWrite 103 = .ok (.ireturn, 1) := dk_172 (dk_at dksX2_tryWrite_4 10 rfl rfl)
theorem q91 : (Jvm.Cond.initialized "LeaderLeases$Simulation") ∈ lw_all := lw_g (lw_at lw_m1 2 rfl) rfl
theorem q144 : (Jvm.Cond.instantiable "LeaderLeases$Simulation" (22 : Nat)) ∈ lw_all := lw_g (lw_at lw_m1 55 rfl) rfl
theorem q518 : (Jvm.Cond.fieldLinkNest "LeaderLeases$Simulation" (142 : Nat) "LeaderLeases$Configuration" "server" "LLeaderLeases$Clock;" "LeaderLeases") ∈ lw_tbl := lw_at lw_m2 189 rfl
theorem q522 : (Jvm.Cond.fieldLinkNest "LeaderLeases$Simulation" (51 : Nat) "LeaderLeases$Configuration" "clocks" "Ljava/util/List;" "LeaderLeases") ∈ lw_tbl := lw_at lw_m2 193 rfl
theorem q526 : (Jvm.Cond.fieldLinkNest "LeaderLeases$Simulation" (74 : Nat) "LeaderLeases$Configuration" "delays" "Ljava/util/List;" "LeaderLeases") ∈ lw_tbl := lw_at lw_m2 197 rfl
theorem q531 : (Jvm.Cond.fieldLinkNest "LeaderLeases$Simulation" (271 : Nat) "LeaderLeases$Configuration" "duration" "I" "LeaderLeases") ∈ lw_tbl := lw_at lw_m2 202 rfl
theorem q534 : (Jvm.Cond.fieldLinkNest "LeaderLeases$Simulation" (334 : Nat) "LeaderLeases$Configuration" "bound" "I" "LeaderLeases") ∈ lw_tbl := lw_at lw_m2 205 rfl
theorem q537 : (Jvm.Cond.fieldLinkNest "LeaderLeases$Simulation" (348 : Nat) "LeaderLeases$Configuration" "renewal" "I" "LeaderLeases") ∈ lw_tbl := lw_at lw_m2 208 rfl
theorem q539 : (Jvm.Cond.fieldLinkNest "LeaderLeases$Simulation" (187 : Nat) "LeaderLeases$Configuration" "retry" "I" "LeaderLeases") ∈ lw_tbl := lw_at lw_m2 210 rfl
theorem q541 : (Jvm.Cond.fieldLinkNest "LeaderLeases$Simulation" (172 : Nat) "LeaderLeases$Configuration" "jitter" "I" "LeaderLeases") ∈ lw_tbl := lw_at lw_m2 212 rfl
theorem q544 : (Jvm.Cond.fieldLinkNest "LeaderLeases$Simulation" (85 : Nat) "LeaderLeases$Configuration" "seed" "I" "LeaderLeases") ∈ lw_tbl := lw_at lw_m2 215 rfl
theorem q613 : (Jvm.Cond.selects "LeaderLeases$Simulation" ({ cls := "java/lang/Object", name := "getClass", desc := "()Ljava/lang/Class;" } : Jvm.MethodName) ({ cls := "java/lang/Object", name := "getClass", desc := "()Ljava/lang/Class;" } : Jvm.MethodName)) ∈ lw_all := lw_g (lw_at lw_m3 44 rfl) rfl
theorem q654 : (Jvm.Cond.instanceMethod ({ cls := "LeaderLeases$Simulation", name := "<init>", desc := "(LLeaderLeases$Configuration;)V" } : Jvm.MethodName)) ∈ lw_all := lw_g (lw_at lw_m3 85 rfl) rfl
theorem q655 : (Jvm.Cond.code ({ cls := "LeaderLeases$Simulation", name := "<init>", desc := "(LLeaderLeases$Configuration;)V" } : Jvm.MethodName) prog_17_method_1_code (3 : Nat) (Option.none : Option Jvm.ClassFile.FieldType)) ∈ lw_all := lw_g (lw_at lw_m3 86 rfl) rfl
theorem q656 : (Jvm.Cond.methodLink "LeaderLeases$Simulation" (3 : Nat) ({ cls := "java/lang/Object", name := "<init>", desc := "()V" } : Jvm.MethodName)) ∈ lw_all := lw_g (lw_at lw_m3 87 rfl) rfl
theorem q657 : (Jvm.Cond.classLink "LeaderLeases$Simulation" (9 : Nat) "java/util/ArrayList") ∈ lw_all := lw_g (lw_at lw_m3 88 rfl) rfl
theorem q658 : (Jvm.Cond.methodLink "LeaderLeases$Simulation" (11 : Nat) ({ cls := "java/util/ArrayList", name := "<init>", desc := "(I)V" } : Jvm.MethodName)) ∈ lw_all := lw_g (lw_at lw_m3 89 rfl) rfl
theorem q659 : (Jvm.Cond.classLink "LeaderLeases$Simulation" (29 : Nat) "LeaderLeases$Storage") ∈ lw_all := lw_g (lw_at lw_m3 90 rfl) rfl
theorem q661 : (Jvm.Cond.methodLinkNest "LeaderLeases$Simulation" (31 : Nat) ({ cls := "LeaderLeases$Storage", name := "<init>", desc := "()V" } : Jvm.MethodName) "LeaderLeases") ∈ lw_tbl := lw_at lw_m3 92 rfl
theorem q667 : (Jvm.Cond.fieldLinkNest "LeaderLeases$Simulation" (446 : Nat) "LeaderLeases$Storage" "values" "[I" "LeaderLeases") ∈ lw_tbl := lw_at lw_m3 98 rfl
theorem q680 : (Jvm.Cond.interfaceEntry "LeaderLeases$Simulation" (56 : Nat)) ∈ lw_tbl := lw_at lw_m3 111 rfl
theorem q681 : (Jvm.Cond.methodLink "LeaderLeases$Simulation" (56 : Nat) ({ cls := "java/util/List", name := "size", desc := "()I" } : Jvm.MethodName)) ∈ lw_all := lw_g (lw_at lw_m3 112 rfl) rfl
theorem q689 : (Jvm.Cond.classLink "LeaderLeases$Simulation" (62 : Nat) "LeaderLeases$Node") ∈ lw_all := lw_g (lw_at lw_m3 120 rfl) rfl
theorem q692 : (Jvm.Cond.interfaceEntry "LeaderLeases$Simulation" (68 : Nat)) ∈ lw_tbl := lw_at lw_m3 123 rfl
theorem q693 : (Jvm.Cond.methodLink "LeaderLeases$Simulation" (68 : Nat) ({ cls := "java/util/List", name := "get", desc := "(I)Ljava/lang/Object;" } : Jvm.MethodName)) ∈ lw_all := lw_g (lw_at lw_m3 124 rfl) rfl
theorem q711 : (Jvm.Cond.classLink "LeaderLeases$Simulation" (72 : Nat) "LeaderLeases$Clock") ∈ lw_all := lw_g (lw_at lw_m3 142 rfl) rfl
theorem q712 : (Jvm.Cond.classLink "LeaderLeases$Simulation" (77 : Nat) "java/lang/Integer") ∈ lw_all := lw_g (lw_at lw_m3 143 rfl) rfl
theorem q713 : (Jvm.Cond.methodLink "LeaderLeases$Simulation" (79 : Nat) ({ cls := "java/lang/Integer", name := "intValue", desc := "()I" } : Jvm.MethodName)) ∈ lw_all := lw_g (lw_at lw_m3 144 rfl) rfl
theorem q717 : (Jvm.Cond.methodLink "LeaderLeases$Simulation" (82 : Nat) ({ cls := "LeaderLeases$Node", name := "<init>", desc := "(LLeaderLeases$Clock;I)V" } : Jvm.MethodName)) ∈ lw_all := lw_g (lw_at lw_m3 148 rfl) rfl
theorem q722 : (Jvm.Cond.fieldLinkNest "LeaderLeases$Simulation" (184 : Nat) "LeaderLeases$Node" "clock" "LLeaderLeases$Clock;" "LeaderLeases") ∈ lw_tbl := lw_at lw_m3 153 rfl
theorem q725 : (Jvm.Cond.fieldLinkNest "LeaderLeases$Simulation" (168 : Nat) "LeaderLeases$Node" "delay" "I" "LeaderLeases") ∈ lw_tbl := lw_at lw_m3 156 rfl
theorem q727 : (Jvm.Cond.fieldLinkNest "LeaderLeases$Simulation" (223 : Nat) "LeaderLeases$Node" "isUp" "Z" "LeaderLeases") ∈ lw_tbl := lw_at lw_m3 158 rfl
theorem q730 : (Jvm.Cond.fieldLinkNest "LeaderLeases$Simulation" (318 : Nat) "LeaderLeases$Node" "isCandidate" "Z" "LeaderLeases") ∈ lw_tbl := lw_at lw_m3 161 rfl
theorem q733 : (Jvm.Cond.fieldLinkNest "LeaderLeases$Simulation" (175 : Nat) "LeaderLeases$Node" "isCut" "Z" "LeaderLeases") ∈ lw_tbl := lw_at lw_m3 164 rfl
theorem q736 : (Jvm.Cond.fieldLinkNest "LeaderLeases$Simulation" (234 : Nat) "LeaderLeases$Node" "pausedUntil" "I" "LeaderLeases") ∈ lw_tbl := lw_at lw_m3 167 rfl
theorem q739 : (Jvm.Cond.fieldLinkNest "LeaderLeases$Simulation" (321 : Nat) "LeaderLeases$Node" "token" "I" "LeaderLeases") ∈ lw_tbl := lw_at lw_m3 170 rfl
theorem q742 : (Jvm.Cond.fieldLinkNest "LeaderLeases$Simulation" (340 : Nat) "LeaderLeases$Node" "limit" "I" "LeaderLeases") ∈ lw_tbl := lw_at lw_m3 173 rfl
theorem q745 : (Jvm.Cond.fieldLinkNest "LeaderLeases$Simulation" (370 : Nat) "LeaderLeases$Node" "timer" "I" "LeaderLeases") ∈ lw_tbl := lw_at lw_m3 176 rfl
theorem q748 : (Jvm.Cond.fieldLinkNest "LeaderLeases$Simulation" (337 : Nat) "LeaderLeases$Node" "cachedSet" "I" "LeaderLeases") ∈ lw_tbl := lw_at lw_m3 179 rfl
theorem q751 : (Jvm.Cond.fieldLinkNest "LeaderLeases$Simulation" (376 : Nat) "LeaderLeases$Node" "led" "I" "LeaderLeases") ∈ lw_tbl := lw_at lw_m3 182 rfl
theorem q754 : (Jvm.Cond.fieldLinkNest "LeaderLeases$Simulation" (194 : Nat) "LeaderLeases$Node" "acquires" "I" "LeaderLeases") ∈ lw_tbl := lw_at lw_m3 185 rfl
theorem q758 : (Jvm.Cond.fieldLinkNest "LeaderLeases$Simulation" (444 : Nat) "LeaderLeases$Node" "cache" "[I" "LeaderLeases") ∈ lw_tbl := lw_at lw_m3 189 rfl
theorem q786 : (Jvm.Cond.fieldLink "LeaderLeases$Simulation" (47 : Nat) "LeaderLeases$Simulation" "of" "LLeaderLeases$Configuration;") ∈ lw_all := lw_g (lw_at lw_m3 217 rfl) rfl
theorem q788 : (Jvm.Cond.fieldLink "LeaderLeases$Simulation" (64 : Nat) "LeaderLeases$Simulation" "nodes" "[LLeaderLeases$Node;") ∈ lw_all := lw_g (lw_at lw_m3 219 rfl) rfl
theorem q790 : (Jvm.Cond.fieldLink "LeaderLeases$Simulation" (14 : Nat) "LeaderLeases$Simulation" "messages" "Ljava/util/List;") ∈ lw_all := lw_g (lw_at lw_m3 221 rfl) rfl
theorem q792 : (Jvm.Cond.fieldLink "LeaderLeases$Simulation" (20 : Nat) "LeaderLeases$Simulation" "delayed" "Ljava/util/List;") ∈ lw_all := lw_g (lw_at lw_m3 223 rfl) rfl
theorem q794 : (Jvm.Cond.fieldLink "LeaderLeases$Simulation" (23 : Nat) "LeaderLeases$Simulation" "outages" "Ljava/util/List;") ∈ lw_all := lw_g (lw_at lw_m3 225 rfl) rfl
theorem q796 : (Jvm.Cond.fieldLink "LeaderLeases$Simulation" (26 : Nat) "LeaderLeases$Simulation" "log" "Ljava/util/List;") ∈ lw_all := lw_g (lw_at lw_m3 227 rfl) rfl
theorem q798 : (Jvm.Cond.fieldLink "LeaderLeases$Simulation" (32 : Nat) "LeaderLeases$Simulation" "storage" "LLeaderLeases$Storage;") ∈ lw_all := lw_g (lw_at lw_m3 229 rfl) rfl
theorem q800 : (Jvm.Cond.fieldLink "LeaderLeases$Simulation" (36 : Nat) "LeaderLeases$Simulation" "events" "[I") ∈ lw_all := lw_g (lw_at lw_m3 231 rfl) rfl
theorem q802 : (Jvm.Cond.fieldLink "LeaderLeases$Simulation" (112 : Nat) "LeaderLeases$Simulation" "now" "I") ∈ lw_all := lw_g (lw_at lw_m3 233 rfl) rfl
theorem q804 : (Jvm.Cond.fieldLink "LeaderLeases$Simulation" (88 : Nat) "LeaderLeases$Simulation" "random" "I") ∈ lw_all := lw_g (lw_at lw_m3 235 rfl) rfl
theorem q805 : (Jvm.Cond.fieldLink "LeaderLeases$Simulation" (115 : Nat) "LeaderLeases$Simulation" "sent" "I") ∈ lw_all := lw_g (lw_at lw_m3 236 rfl) rfl
theorem q806 : (Jvm.Cond.fieldLink "LeaderLeases$Simulation" (118 : Nat) "LeaderLeases$Simulation" "lost" "I") ∈ lw_all := lw_g (lw_at lw_m3 237 rfl) rfl
theorem q808 : (Jvm.Cond.fieldLink "LeaderLeases$Simulation" (40 : Nat) "LeaderLeases$Simulation" "holder" "I") ∈ lw_all := lw_g (lw_at lw_m3 239 rfl) rfl
theorem q810 : (Jvm.Cond.fieldLink "LeaderLeases$Simulation" (121 : Nat) "LeaderLeases$Simulation" "expiry" "I") ∈ lw_all := lw_g (lw_at lw_m4 1 rfl) rfl
theorem q812 : (Jvm.Cond.fieldLink "LeaderLeases$Simulation" (124 : Nat) "LeaderLeases$Simulation" "greatest" "I") ∈ lw_all := lw_g (lw_at lw_m4 3 rfl) rfl
theorem q814 : (Jvm.Cond.fieldLink "LeaderLeases$Simulation" (127 : Nat) "LeaderLeases$Simulation" "graceEnd" "I") ∈ lw_all := lw_g (lw_at lw_m4 5 rfl) rfl
theorem q816 : (Jvm.Cond.fieldLink "LeaderLeases$Simulation" (130 : Nat) "LeaderLeases$Simulation" "splitTime" "I") ∈ lw_all := lw_g (lw_at lw_m4 7 rfl) rfl
theorem q818 : (Jvm.Cond.fieldLink "LeaderLeases$Simulation" (133 : Nat) "LeaderLeases$Simulation" "leaderless" "I") ∈ lw_all := lw_g (lw_at lw_m4 9 rfl) rfl
theorem q820 : (Jvm.Cond.fieldLink "LeaderLeases$Simulation" (136 : Nat) "LeaderLeases$Simulation" "reads" "I") ∈ lw_all := lw_g (lw_at lw_m4 11 rfl) rfl
theorem q822 : (Jvm.Cond.fieldLink "LeaderLeases$Simulation" (139 : Nat) "LeaderLeases$Simulation" "staleReads" "I") ∈ lw_all := lw_g (lw_at lw_m4 13 rfl) rfl
theorem q824 : (Jvm.Cond.fieldLink "LeaderLeases$Simulation" (431 : Nat) "LeaderLeases$Simulation" "watched" "I") ∈ lw_all := lw_g (lw_at lw_m4 15 rfl) rfl
theorem q825 : (Jvm.Cond.fieldLink "LeaderLeases$Simulation" (44 : Nat) "LeaderLeases$Simulation" "outcome" "I") ∈ lw_all := lw_g (lw_at lw_m4 16 rfl) rfl
theorem q826 : (Jvm.Cond.laysFinal "LeaderLeases$Simulation" "LeaderLeases$Simulation" "of" "LLeaderLeases$Configuration;") ∈ lw_all := lw_g (lw_at lw_m4 17 rfl) rfl
theorem q827 : (Jvm.Cond.soleField "LeaderLeases$Simulation" "of") ∈ lw_all := lw_g (lw_at lw_m4 18 rfl) rfl
theorem q828 : (Jvm.Cond.laysFinal "LeaderLeases$Simulation" "LeaderLeases$Simulation" "nodes" "[LLeaderLeases$Node;") ∈ lw_all := lw_g (lw_at lw_m4 19 rfl) rfl
theorem q829 : (Jvm.Cond.soleField "LeaderLeases$Simulation" "nodes") ∈ lw_all := lw_g (lw_at lw_m4 20 rfl) rfl
theorem q830 : (Jvm.Cond.laysFinal "LeaderLeases$Simulation" "LeaderLeases$Simulation" "messages" "Ljava/util/List;") ∈ lw_all := lw_g (lw_at lw_m4 21 rfl) rfl
theorem q831 : (Jvm.Cond.soleField "LeaderLeases$Simulation" "messages") ∈ lw_all := lw_g (lw_at lw_m4 22 rfl) rfl
theorem q832 : (Jvm.Cond.laysFinal "LeaderLeases$Simulation" "LeaderLeases$Simulation" "delayed" "Ljava/util/List;") ∈ lw_all := lw_g (lw_at lw_m4 23 rfl) rfl
theorem q833 : (Jvm.Cond.soleField "LeaderLeases$Simulation" "delayed") ∈ lw_all := lw_g (lw_at lw_m4 24 rfl) rfl
theorem q834 : (Jvm.Cond.laysFinal "LeaderLeases$Simulation" "LeaderLeases$Simulation" "outages" "Ljava/util/List;") ∈ lw_all := lw_g (lw_at lw_m4 25 rfl) rfl
theorem q835 : (Jvm.Cond.soleField "LeaderLeases$Simulation" "outages") ∈ lw_all := lw_g (lw_at lw_m4 26 rfl) rfl
theorem q836 : (Jvm.Cond.laysFinal "LeaderLeases$Simulation" "LeaderLeases$Simulation" "log" "Ljava/util/List;") ∈ lw_all := lw_g (lw_at lw_m4 27 rfl) rfl
theorem q837 : (Jvm.Cond.soleField "LeaderLeases$Simulation" "log") ∈ lw_all := lw_g (lw_at lw_m4 28 rfl) rfl
theorem q838 : (Jvm.Cond.laysFinal "LeaderLeases$Simulation" "LeaderLeases$Simulation" "storage" "LLeaderLeases$Storage;") ∈ lw_all := lw_g (lw_at lw_m4 29 rfl) rfl
theorem q839 : (Jvm.Cond.soleField "LeaderLeases$Simulation" "storage") ∈ lw_all := lw_g (lw_at lw_m4 30 rfl) rfl
theorem q840 : (Jvm.Cond.laysFinal "LeaderLeases$Simulation" "LeaderLeases$Simulation" "events" "[I") ∈ lw_all := lw_g (lw_at lw_m4 31 rfl) rfl
theorem q841 : (Jvm.Cond.soleField "LeaderLeases$Simulation" "events") ∈ lw_all := lw_g (lw_at lw_m4 32 rfl) rfl
theorem q842 : (Jvm.Cond.lays "LeaderLeases$Simulation" "LeaderLeases$Simulation" "now" "I") ∈ lw_all := lw_g (lw_at lw_m4 33 rfl) rfl
theorem q843 : (Jvm.Cond.soleField "LeaderLeases$Simulation" "now") ∈ lw_all := lw_g (lw_at lw_m4 34 rfl) rfl
theorem q844 : (Jvm.Cond.lays "LeaderLeases$Simulation" "LeaderLeases$Simulation" "random" "I") ∈ lw_all := lw_g (lw_at lw_m4 35 rfl) rfl
theorem q845 : (Jvm.Cond.soleField "LeaderLeases$Simulation" "random") ∈ lw_all := lw_g (lw_at lw_m4 36 rfl) rfl
theorem q846 : (Jvm.Cond.lays "LeaderLeases$Simulation" "LeaderLeases$Simulation" "sent" "I") ∈ lw_all := lw_g (lw_at lw_m4 37 rfl) rfl
theorem q847 : (Jvm.Cond.soleField "LeaderLeases$Simulation" "sent") ∈ lw_all := lw_g (lw_at lw_m4 38 rfl) rfl
theorem q848 : (Jvm.Cond.lays "LeaderLeases$Simulation" "LeaderLeases$Simulation" "lost" "I") ∈ lw_all := lw_g (lw_at lw_m4 39 rfl) rfl
theorem q849 : (Jvm.Cond.soleField "LeaderLeases$Simulation" "lost") ∈ lw_all := lw_g (lw_at lw_m4 40 rfl) rfl
theorem q850 : (Jvm.Cond.lays "LeaderLeases$Simulation" "LeaderLeases$Simulation" "holder" "I") ∈ lw_all := lw_g (lw_at lw_m4 41 rfl) rfl
theorem q851 : (Jvm.Cond.soleField "LeaderLeases$Simulation" "holder") ∈ lw_all := lw_g (lw_at lw_m4 42 rfl) rfl
theorem q852 : (Jvm.Cond.lays "LeaderLeases$Simulation" "LeaderLeases$Simulation" "expiry" "I") ∈ lw_all := lw_g (lw_at lw_m4 43 rfl) rfl
theorem q853 : (Jvm.Cond.soleField "LeaderLeases$Simulation" "expiry") ∈ lw_all := lw_g (lw_at lw_m4 44 rfl) rfl
theorem q854 : (Jvm.Cond.lays "LeaderLeases$Simulation" "LeaderLeases$Simulation" "greatest" "I") ∈ lw_all := lw_g (lw_at lw_m4 45 rfl) rfl
theorem q855 : (Jvm.Cond.soleField "LeaderLeases$Simulation" "greatest") ∈ lw_all := lw_g (lw_at lw_m4 46 rfl) rfl
theorem q856 : (Jvm.Cond.lays "LeaderLeases$Simulation" "LeaderLeases$Simulation" "graceEnd" "I") ∈ lw_all := lw_g (lw_at lw_m4 47 rfl) rfl
theorem q857 : (Jvm.Cond.soleField "LeaderLeases$Simulation" "graceEnd") ∈ lw_all := lw_g (lw_at lw_m4 48 rfl) rfl
theorem q858 : (Jvm.Cond.lays "LeaderLeases$Simulation" "LeaderLeases$Simulation" "splitTime" "I") ∈ lw_all := lw_g (lw_at lw_m4 49 rfl) rfl
theorem q859 : (Jvm.Cond.soleField "LeaderLeases$Simulation" "splitTime") ∈ lw_all := lw_g (lw_at lw_m4 50 rfl) rfl
theorem q860 : (Jvm.Cond.lays "LeaderLeases$Simulation" "LeaderLeases$Simulation" "leaderless" "I") ∈ lw_all := lw_g (lw_at lw_m4 51 rfl) rfl
theorem q861 : (Jvm.Cond.soleField "LeaderLeases$Simulation" "leaderless") ∈ lw_all := lw_g (lw_at lw_m4 52 rfl) rfl
theorem q862 : (Jvm.Cond.lays "LeaderLeases$Simulation" "LeaderLeases$Simulation" "reads" "I") ∈ lw_all := lw_g (lw_at lw_m4 53 rfl) rfl
theorem q863 : (Jvm.Cond.soleField "LeaderLeases$Simulation" "reads") ∈ lw_all := lw_g (lw_at lw_m4 54 rfl) rfl
theorem q864 : (Jvm.Cond.lays "LeaderLeases$Simulation" "LeaderLeases$Simulation" "staleReads" "I") ∈ lw_all := lw_g (lw_at lw_m4 55 rfl) rfl
theorem q865 : (Jvm.Cond.soleField "LeaderLeases$Simulation" "staleReads") ∈ lw_all := lw_g (lw_at lw_m4 56 rfl) rfl
theorem q866 : (Jvm.Cond.lays "LeaderLeases$Simulation" "LeaderLeases$Simulation" "watched" "I") ∈ lw_all := lw_g (lw_at lw_m4 57 rfl) rfl
theorem q867 : (Jvm.Cond.soleField "LeaderLeases$Simulation" "watched") ∈ lw_all := lw_g (lw_at lw_m4 58 rfl) rfl
theorem q868 : (Jvm.Cond.lays "LeaderLeases$Simulation" "LeaderLeases$Simulation" "outcome" "I") ∈ lw_all := lw_g (lw_at lw_m4 59 rfl) rfl
theorem q869 : (Jvm.Cond.soleField "LeaderLeases$Simulation" "outcome") ∈ lw_all := lw_g (lw_at lw_m4 60 rfl) rfl
theorem q870 : (Jvm.Cond.superclass "LeaderLeases$Simulation" "java/lang/Object") ∈ lw_all := lw_g (lw_at lw_m4 61 rfl) rfl
theorem q1024 : (Jvm.Cond.selects "LeaderLeases$Simulation" ({ cls := "java/lang/Object", name := "equals", desc := "(Ljava/lang/Object;)Z" } : Jvm.MethodName) ({ cls := "java/lang/Object", name := "equals", desc := "(Ljava/lang/Object;)Z" } : Jvm.MethodName)) ∈ lw_all := lw_g (lw_at lw_m4 215 rfl) rfl
theorem q1259 : (Jvm.Cond.instanceMethod ({ cls := "LeaderLeases$Simulation", name := "nextEvent", desc := "()I" } : Jvm.MethodName)) ∈ lw_all := lw_g (lw_at lw_m5 210 rfl) rfl
theorem q1260 : (Jvm.Cond.selects "LeaderLeases$Simulation" ({ cls := "LeaderLeases$Simulation", name := "nextEvent", desc := "()I" } : Jvm.MethodName) ({ cls := "LeaderLeases$Simulation", name := "nextEvent", desc := "()I" } : Jvm.MethodName)) ∈ lw_all := lw_g (lw_at lw_m5 211 rfl) rfl
theorem q1261 : (Jvm.Cond.code ({ cls := "LeaderLeases$Simulation", name := "nextEvent", desc := "()I" } : Jvm.MethodName) prog_17_method_16_code (7 : Nat) (Option.some Jvm.ClassFile.FieldType.int)) ∈ lw_all := lw_g (lw_at lw_m5 212 rfl) rfl
theorem q1262 : (Jvm.Cond.methodLink "LeaderLeases$Simulation" (351 : Nat) ({ cls := "LeaderLeases$Simulation", name := "firstMessage", desc := "()LLeaderLeases$Message;" } : Jvm.MethodName)) ∈ lw_all := lw_g (lw_at lw_m5 213 rfl) rfl
theorem q1263 : (Jvm.Cond.privateMethod ({ cls := "LeaderLeases$Simulation", name := "firstMessage", desc := "()LLeaderLeases$Message;" } : Jvm.MethodName)) ∈ lw_tbl := lw_at lw_m5 214 rfl
theorem q1264 : (Jvm.Cond.instanceMethod ({ cls := "LeaderLeases$Simulation", name := "firstMessage", desc := "()LLeaderLeases$Message;" } : Jvm.MethodName)) ∈ lw_all := lw_g (lw_at lw_m5 215 rfl) rfl
theorem q1265 : (Jvm.Cond.code ({ cls := "LeaderLeases$Simulation", name := "firstMessage", desc := "()LLeaderLeases$Message;" } : Jvm.MethodName) prog_17_method_7_code (3 : Nat) (Option.some (Jvm.ClassFile.FieldType.object "LeaderLeases$Message"))) ∈ lw_all := lw_g (lw_at lw_m5 216 rfl) rfl
theorem q1266 : (Jvm.Cond.classLink "LeaderLeases$Simulation" (179 : Nat) "LeaderLeases$Message") ∈ lw_all := lw_g (lw_at lw_m5 217 rfl) rfl
theorem q1267 : (Jvm.Cond.methodLink "LeaderLeases$Simulation" (207 : Nat) ({ cls := "LeaderLeases$Message", name := "isBefore", desc := "(LLeaderLeases$Message;)Z" } : Jvm.MethodName)) ∈ lw_all := lw_g (lw_at lw_m5 218 rfl) rfl
theorem q1271 : (Jvm.Cond.constant "LeaderLeases$Simulation" (355 : Nat) (2147483647 : Int32)) ∈ lw_all := lw_g (lw_at lw_m5 222 rfl) rfl
theorem q1272 : (Jvm.Cond.classLink "LeaderLeases$Simulation" (359 : Nat) "LeaderLeases$Delayed") ∈ lw_all := lw_g (lw_at lw_m5 223 rfl) rfl
theorem q1273 : (Jvm.Cond.methodLink "LeaderLeases$Simulation" (362 : Nat) ({ cls := "java/lang/Math", name := "min", desc := "(II)I" } : Jvm.MethodName)) ∈ lw_all := lw_g (lw_at lw_m5 224 rfl) rfl
theorem q1274 : (Jvm.Cond.classLink "LeaderLeases$Simulation" (365 : Nat) "LeaderLeases$Outage") ∈ lw_all := lw_g (lw_at lw_m5 225 rfl) rfl
theorem q1275 : (Jvm.Cond.methodLink "LeaderLeases$Simulation" (367 : Nat) ({ cls := "LeaderLeases$Outage", name := "next", desc := "(I)I" } : Jvm.MethodName)) ∈ lw_all := lw_g (lw_at lw_m5 226 rfl) rfl
theorem q1280 : (Jvm.Cond.methodLink "LeaderLeases$Simulation" (230 : Nat) ({ cls := "LeaderLeases$Node", name := "isPaused", desc := "(I)Z" } : Jvm.MethodName)) ∈ lw_all := lw_g (lw_at lw_m5 231 rfl) rfl
theorem q1287 : (Jvm.Cond.instanceMethod ({ cls := "LeaderLeases$Simulation", name := "goOn", desc := "(I)V" } : Jvm.MethodName)) ∈ lw_all := lw_g (lw_at lw_m5 238 rfl) rfl
theorem q1288 : (Jvm.Cond.selects "LeaderLeases$Simulation" ({ cls := "LeaderLeases$Simulation", name := "goOn", desc := "(I)V" } : Jvm.MethodName) ({ cls := "LeaderLeases$Simulation", name := "goOn", desc := "(I)V" } : Jvm.MethodName)) ∈ lw_all := lw_g (lw_at lw_m5 239 rfl) rfl
theorem q1289 : (Jvm.Cond.code ({ cls := "LeaderLeases$Simulation", name := "goOn", desc := "(I)V" } : Jvm.MethodName) prog_17_method_20_code (2 : Nat) (Option.none : Option Jvm.ClassFile.FieldType)) ∈ lw_all := lw_g (lw_at lw_m6 0 rfl) rfl
theorem q1290 : (Jvm.Cond.methodLink "LeaderLeases$Simulation" (409 : Nat) ({ cls := "LeaderLeases$Simulation", name := "step", desc := "(I)V" } : Jvm.MethodName)) ∈ lw_all := lw_g (lw_at lw_m6 1 rfl) rfl
theorem q1291 : (Jvm.Cond.privateMethod ({ cls := "LeaderLeases$Simulation", name := "step", desc := "(I)V" } : Jvm.MethodName)) ∈ lw_tbl := lw_at lw_m6 2 rfl
theorem q1292 : (Jvm.Cond.instanceMethod ({ cls := "LeaderLeases$Simulation", name := "step", desc := "(I)V" } : Jvm.MethodName)) ∈ lw_all := lw_g (lw_at lw_m6 3 rfl) rfl
theorem q1293 : (Jvm.Cond.code ({ cls := "LeaderLeases$Simulation", name := "step", desc := "(I)V" } : Jvm.MethodName) prog_17_method_21_code (3 : Nat) (Option.none : Option Jvm.ClassFile.FieldType)) ∈ lw_all := lw_g (lw_at lw_m6 4 rfl) rfl
theorem q1294 : (Jvm.Cond.methodLink "LeaderLeases$Simulation" (412 : Nat) ({ cls := "LeaderLeases$Simulation", name := "nextEvent", desc := "()I" } : Jvm.MethodName)) ∈ lw_all := lw_g (lw_at lw_m6 5 rfl) rfl
theorem q1295 : (Jvm.Cond.methodLink "LeaderLeases$Simulation" (415 : Nat) ({ cls := "LeaderLeases$Simulation", name := "pass", desc := "(I)V" } : Jvm.MethodName)) ∈ lw_all := lw_g (lw_at lw_m6 6 rfl) rfl
theorem q1296 : (Jvm.Cond.privateMethod ({ cls := "LeaderLeases$Simulation", name := "pass", desc := "(I)V" } : Jvm.MethodName)) ∈ lw_tbl := lw_at lw_m6 7 rfl
theorem q1297 : (Jvm.Cond.instanceMethod ({ cls := "LeaderLeases$Simulation", name := "pass", desc := "(I)V" } : Jvm.MethodName)) ∈ lw_all := lw_g (lw_at lw_m6 8 rfl) rfl
theorem q1298 : (Jvm.Cond.code ({ cls := "LeaderLeases$Simulation", name := "pass", desc := "(I)V" } : Jvm.MethodName) prog_17_method_17_code (9 : Nat) (Option.none : Option Jvm.ClassFile.FieldType)) ∈ lw_all := lw_g (lw_at lw_m6 9 rfl) rfl
theorem q1299 : (Jvm.Cond.methodLink "LeaderLeases$Simulation" (373 : Nat) ({ cls := "LeaderLeases$Node", name := "leadsUntil", desc := "()I" } : Jvm.MethodName)) ∈ lw_all := lw_g (lw_at lw_m6 10 rfl) rfl
theorem q1311 : (Jvm.Cond.methodLink "LeaderLeases$Simulation" (343 : Nat) ({ cls := "java/lang/Math", name := "max", desc := "(II)I" } : Jvm.MethodName)) ∈ lw_all := lw_g (lw_at lw_m6 22 rfl) rfl
theorem q1312 : (Jvm.Cond.methodLink "LeaderLeases$Simulation" (418 : Nat) ({ cls := "LeaderLeases$Simulation", name := "happen", desc := "()V" } : Jvm.MethodName)) ∈ lw_all := lw_g (lw_at lw_m6 23 rfl) rfl
theorem q1313 : (Jvm.Cond.privateMethod ({ cls := "LeaderLeases$Simulation", name := "happen", desc := "()V" } : Jvm.MethodName)) ∈ lw_tbl := lw_at lw_m6 24 rfl
theorem q1314 : (Jvm.Cond.instanceMethod ({ cls := "LeaderLeases$Simulation", name := "happen", desc := "()V" } : Jvm.MethodName)) ∈ lw_all := lw_g (lw_at lw_m6 25 rfl) rfl
theorem q1315 : (Jvm.Cond.code ({ cls := "LeaderLeases$Simulation", name := "happen", desc := "()V" } : Jvm.MethodName) prog_17_method_19_code (4 : Nat) (Option.none : Option Jvm.ClassFile.FieldType)) ∈ lw_all := lw_g (lw_at lw_m6 26 rfl) rfl
theorem q1316 : (Jvm.Cond.methodLink "LeaderLeases$Simulation" (386 : Nat) ({ cls := "LeaderLeases$Simulation", name := "changeLinks", desc := "()V" } : Jvm.MethodName)) ∈ lw_all := lw_g (lw_at lw_m6 27 rfl) rfl
theorem q1317 : (Jvm.Cond.privateMethod ({ cls := "LeaderLeases$Simulation", name := "changeLinks", desc := "()V" } : Jvm.MethodName)) ∈ lw_tbl := lw_at lw_m6 28 rfl
theorem q1318 : (Jvm.Cond.instanceMethod ({ cls := "LeaderLeases$Simulation", name := "changeLinks", desc := "()V" } : Jvm.MethodName)) ∈ lw_all := lw_g (lw_at lw_m6 29 rfl) rfl
theorem q1319 : (Jvm.Cond.code ({ cls := "LeaderLeases$Simulation", name := "changeLinks", desc := "()V" } : Jvm.MethodName) prog_17_method_18_code (3 : Nat) (Option.none : Option Jvm.ClassFile.FieldType)) ∈ lw_all := lw_g (lw_at lw_m6 30 rfl) rfl
theorem q1320 : (Jvm.Cond.interfaceEntry "LeaderLeases$Simulation" (150 : Nat)) ∈ lw_tbl := lw_at lw_m6 31 rfl
theorem q1321 : (Jvm.Cond.methodLink "LeaderLeases$Simulation" (150 : Nat) ({ cls := "java/util/List", name := "remove", desc := "(I)Ljava/lang/Object;" } : Jvm.MethodName)) ∈ lw_all := lw_g (lw_at lw_m6 32 rfl) rfl
theorem q1334 : (Jvm.Cond.methodLink "LeaderLeases$Simulation" (389 : Nat) ({ cls := "LeaderLeases$Simulation", name := "arrive", desc := "(LLeaderLeases$Message;)V" } : Jvm.MethodName)) ∈ lw_all := lw_g (lw_at lw_m6 45 rfl) rfl
theorem q1335 : (Jvm.Cond.privateMethod ({ cls := "LeaderLeases$Simulation", name := "arrive", desc := "(LLeaderLeases$Message;)V" } : Jvm.MethodName)) ∈ lw_tbl := lw_at lw_m6 46 rfl
theorem q1336 : (Jvm.Cond.instanceMethod ({ cls := "LeaderLeases$Simulation", name := "arrive", desc := "(LLeaderLeases$Message;)V" } : Jvm.MethodName)) ∈ lw_all := lw_g (lw_at lw_m6 47 rfl) rfl
theorem q1337 : (Jvm.Cond.code ({ cls := "LeaderLeases$Simulation", name := "arrive", desc := "(LLeaderLeases$Message;)V" } : Jvm.MethodName) prog_17_method_8_code (3 : Nat) (Option.none : Option Jvm.ClassFile.FieldType)) ∈ lw_all := lw_g (lw_at lw_m6 48 rfl) rfl
theorem q1338 : (Jvm.Cond.interfaceEntry "LeaderLeases$Simulation" (211 : Nat)) ∈ lw_tbl := lw_at lw_m6 49 rfl
theorem q1339 : (Jvm.Cond.methodLink "LeaderLeases$Simulation" (211 : Nat) ({ cls := "java/util/List", name := "remove", desc := "(Ljava/lang/Object;)Z" } : Jvm.MethodName)) ∈ lw_all := lw_g (lw_at lw_m6 50 rfl) rfl
theorem q1347 : (Jvm.Cond.methodLink "LeaderLeases$Simulation" (219 : Nat) ({ cls := "LeaderLeases$Kind", name := "isToNode", desc := "()Z" } : Jvm.MethodName)) ∈ lw_all := lw_g (lw_at lw_m6 58 rfl) rfl
theorem q1363 : (Jvm.Cond.methodLink "LeaderLeases$Simulation" (226 : Nat) ({ cls := "LeaderLeases$Simulation", name := "watch", desc := "(LLeaderLeases$Message;I)V" } : Jvm.MethodName)) ∈ lw_all := lw_g (lw_at lw_m6 74 rfl) rfl
theorem q1364 : (Jvm.Cond.privateMethod ({ cls := "LeaderLeases$Simulation", name := "watch", desc := "(LLeaderLeases$Message;I)V" } : Jvm.MethodName)) ∈ lw_tbl := lw_at lw_m6 75 rfl
theorem q1365 : (Jvm.Cond.instanceMethod ({ cls := "LeaderLeases$Simulation", name := "watch", desc := "(LLeaderLeases$Message;I)V" } : Jvm.MethodName)) ∈ lw_all := lw_g (lw_at lw_m6 76 rfl) rfl
theorem q1366 : (Jvm.Cond.code ({ cls := "LeaderLeases$Simulation", name := "watch", desc := "(LLeaderLeases$Message;I)V" } : Jvm.MethodName) prog_17_method_27_code (3 : Nat) (Option.none : Option Jvm.ClassFile.FieldType)) ∈ lw_all := lw_g (lw_at lw_m6 77 rfl) rfl
theorem q1367 : (Jvm.Cond.methodLink "LeaderLeases$Simulation" (237 : Nat) ({ cls := "LeaderLeases$Message", name := "postponedTo", desc := "(I)LLeaderLeases$Message;" } : Jvm.MethodName)) ∈ lw_all := lw_g (lw_at lw_m6 78 rfl) rfl
theorem q1378 : (Jvm.Cond.fieldLinkNest "LeaderLeases$Simulation" (216 : Nat) "LeaderLeases$Message" "kind" "LLeaderLeases$Kind;" "LeaderLeases") ∈ lw_tbl := lw_at lw_m6 89 rfl
theorem q1380 : (Jvm.Cond.fieldLinkNest "LeaderLeases$Simulation" (213 : Nat) "LeaderLeases$Message" "node" "I" "LeaderLeases") ∈ lw_tbl := lw_at lw_m6 91 rfl
theorem q1382 : (Jvm.Cond.fieldLinkNest "LeaderLeases$Simulation" (437 : Nat) "LeaderLeases$Message" "sequence" "I" "LeaderLeases") ∈ lw_tbl := lw_at lw_m6 93 rfl
theorem q1384 : (Jvm.Cond.fieldLinkNest "LeaderLeases$Simulation" (251 : Nat) "LeaderLeases$Message" "first" "I" "LeaderLeases") ∈ lw_tbl := lw_at lw_m6 95 rfl
theorem q1386 : (Jvm.Cond.fieldLinkNest "LeaderLeases$Simulation" (291 : Nat) "LeaderLeases$Message" "second" "I" "LeaderLeases") ∈ lw_tbl := lw_at lw_m6 97 rfl
theorem q1388 : (Jvm.Cond.fieldLinkNest "LeaderLeases$Simulation" (301 : Nat) "LeaderLeases$Message" "third" "I" "LeaderLeases") ∈ lw_tbl := lw_at lw_m6 99 rfl
theorem q1390 : (Jvm.Cond.fieldLinkNest "LeaderLeases$Simulation" (356 : Nat) "LeaderLeases$Message" "time" "I" "LeaderLeases") ∈ lw_tbl := lw_at lw_m6 101 rfl
theorem q1406 : (Jvm.Cond.interfaceEntry "LeaderLeases$Simulation" (158 : Nat)) ∈ lw_tbl := lw_at lw_m6 117 rfl
theorem q1407 : (Jvm.Cond.methodLink "LeaderLeases$Simulation" (158 : Nat) ({ cls := "java/util/List", name := "add", desc := "(Ljava/lang/Object;)Z" } : Jvm.MethodName)) ∈ lw_all := lw_g (lw_at lw_m6 118 rfl) rfl
theorem q1408 : (Jvm.Cond.methodLink "LeaderLeases$Simulation" (241 : Nat) ({ cls := "LeaderLeases$Simulation", name := "handle", desc := "(LLeaderLeases$Message;)V" } : Jvm.MethodName)) ∈ lw_all := lw_g (lw_at lw_m6 119 rfl) rfl
theorem q1409 : (Jvm.Cond.privateMethod ({ cls := "LeaderLeases$Simulation", name := "handle", desc := "(LLeaderLeases$Message;)V" } : Jvm.MethodName)) ∈ lw_tbl := lw_at lw_m6 120 rfl
theorem q1410 : (Jvm.Cond.instanceMethod ({ cls := "LeaderLeases$Simulation", name := "handle", desc := "(LLeaderLeases$Message;)V" } : Jvm.MethodName)) ∈ lw_all := lw_g (lw_at lw_m6 121 rfl) rfl
theorem q1411 : (Jvm.Cond.code ({ cls := "LeaderLeases$Simulation", name := "handle", desc := "(LLeaderLeases$Message;)V" } : Jvm.MethodName) prog_17_method_9_code (2 : Nat) (Option.none : Option Jvm.ClassFile.FieldType)) ∈ lw_all := lw_g (lw_at lw_m6 122 rfl) rfl
theorem q1412 : (Jvm.Cond.methodLink "LeaderLeases$Simulation" (245 : Nat) ({ cls := "LeaderLeases$Kind", name := "ordinal", desc := "()I" } : Jvm.MethodName)) ∈ lw_all := lw_g (lw_at lw_m6 123 rfl) rfl
theorem q1413 : (Jvm.Cond.methodLink "LeaderLeases$Simulation" (248 : Nat) ({ cls := "LeaderLeases$Simulation", name := "decide", desc := "(LLeaderLeases$Message;)V" } : Jvm.MethodName)) ∈ lw_all := lw_g (lw_at lw_m6 124 rfl) rfl
theorem q1414 : (Jvm.Cond.privateMethod ({ cls := "LeaderLeases$Simulation", name := "decide", desc := "(LLeaderLeases$Message;)V" } : Jvm.MethodName)) ∈ lw_tbl := lw_at lw_m6 125 rfl
theorem q1415 : (Jvm.Cond.instanceMethod ({ cls := "LeaderLeases$Simulation", name := "decide", desc := "(LLeaderLeases$Message;)V" } : Jvm.MethodName)) ∈ lw_all := lw_g (lw_at lw_m6 126 rfl) rfl
theorem q1416 : (Jvm.Cond.code ({ cls := "LeaderLeases$Simulation", name := "decide", desc := "(LLeaderLeases$Message;)V" } : Jvm.MethodName) prog_17_method_10_code (4 : Nat) (Option.none : Option Jvm.ClassFile.FieldType)) ∈ lw_all := lw_g (lw_at lw_m6 127 rfl) rfl
theorem q1417 : (Jvm.Cond.methodLink "LeaderLeases$Simulation" (265 : Nat) ({ cls := "LeaderLeases$Simulation", name := "serverClock", desc := "()I" } : Jvm.MethodName)) ∈ lw_all := lw_g (lw_at lw_m6 128 rfl) rfl
theorem q1418 : (Jvm.Cond.instanceMethod ({ cls := "LeaderLeases$Simulation", name := "serverClock", desc := "()I" } : Jvm.MethodName)) ∈ lw_all := lw_g (lw_at lw_m6 129 rfl) rfl
theorem q1419 : (Jvm.Cond.selects "LeaderLeases$Simulation" ({ cls := "LeaderLeases$Simulation", name := "serverClock", desc := "()I" } : Jvm.MethodName) ({ cls := "LeaderLeases$Simulation", name := "serverClock", desc := "()I" } : Jvm.MethodName)) ∈ lw_all := lw_g (lw_at lw_m6 130 rfl) rfl
theorem q1420 : (Jvm.Cond.code ({ cls := "LeaderLeases$Simulation", name := "serverClock", desc := "()I" } : Jvm.MethodName) prog_17_method_3_code (1 : Nat) (Option.some Jvm.ClassFile.FieldType.int)) ∈ lw_all := lw_g (lw_at lw_m6 131 rfl) rfl
theorem q1421 : (Jvm.Cond.methodLink "LeaderLeases$Simulation" (146 : Nat) ({ cls := "LeaderLeases$Clock", name := "at", desc := "(I)I" } : Jvm.MethodName)) ∈ lw_all := lw_g (lw_at lw_m6 132 rfl) rfl
theorem q1425 : (Jvm.Cond.methodLink "LeaderLeases$Simulation" (254 : Nat) ({ cls := "LeaderLeases$Simulation", name := "note", desc := "(III)V" } : Jvm.MethodName)) ∈ lw_all := lw_g (lw_at lw_m6 136 rfl) rfl
theorem q1426 : (Jvm.Cond.privateMethod ({ cls := "LeaderLeases$Simulation", name := "note", desc := "(III)V" } : Jvm.MethodName)) ∈ lw_tbl := lw_at lw_m6 137 rfl
theorem q1427 : (Jvm.Cond.instanceMethod ({ cls := "LeaderLeases$Simulation", name := "note", desc := "(III)V" } : Jvm.MethodName)) ∈ lw_all := lw_g (lw_at lw_m6 138 rfl) rfl
theorem q1428 : (Jvm.Cond.code ({ cls := "LeaderLeases$Simulation", name := "note", desc := "(III)V" } : Jvm.MethodName) prog_17_method_4_code (4 : Nat) (Option.none : Option Jvm.ClassFile.FieldType)) ∈ lw_all := lw_g (lw_at lw_m6 139 rfl) rfl
theorem q1429 : (Jvm.Cond.classLink "LeaderLeases$Simulation" (153 : Nat) "LeaderLeases$Event") ∈ lw_all := lw_g (lw_at lw_m6 140 rfl) rfl
theorem q1431 : (Jvm.Cond.methodLink "LeaderLeases$Simulation" (155 : Nat) ({ cls := "LeaderLeases$Event", name := "<init>", desc := "(IIII)V" } : Jvm.MethodName)) ∈ lw_all := lw_g (lw_at lw_m6 142 rfl) rfl
theorem q1452 : (Jvm.Cond.fieldLink "LeaderLeases$Simulation" (268 : Nat) "LeaderLeases$Kind" "DENY" "LLeaderLeases$Kind;") ∈ lw_all := lw_g (lw_at lw_m6 163 rfl) rfl
theorem q1453 : (Jvm.Cond.methodLink "LeaderLeases$Simulation" (203 : Nat) ({ cls := "LeaderLeases$Simulation", name := "send", desc := "(LLeaderLeases$Kind;I[I)V" } : Jvm.MethodName)) ∈ lw_all := lw_g (lw_at lw_m6 164 rfl) rfl
theorem q1454 : (Jvm.Cond.instanceMethod ({ cls := "LeaderLeases$Simulation", name := "send", desc := "(LLeaderLeases$Kind;I[I)V" } : Jvm.MethodName)) ∈ lw_all := lw_g (lw_at lw_m6 165 rfl) rfl
theorem q1455 : (Jvm.Cond.selects "LeaderLeases$Simulation" ({ cls := "LeaderLeases$Simulation", name := "send", desc := "(LLeaderLeases$Kind;I[I)V" } : Jvm.MethodName) ({ cls := "LeaderLeases$Simulation", name := "send", desc := "(LLeaderLeases$Kind;I[I)V" } : Jvm.MethodName)) ∈ lw_all := lw_g (lw_at lw_m6 166 rfl) rfl
theorem q1456 : (Jvm.Cond.code ({ cls := "LeaderLeases$Simulation", name := "send", desc := "(LLeaderLeases$Kind;I[I)V" } : Jvm.MethodName) prog_17_method_5_code (6 : Nat) (Option.none : Option Jvm.ClassFile.FieldType)) ∈ lw_all := lw_g (lw_at lw_m6 167 rfl) rfl
theorem q1457 : (Jvm.Cond.constantLong "LeaderLeases$Simulation" (162 : Nat) (1103515245 : Int64)) ∈ lw_all := lw_g (lw_at lw_m6 168 rfl) rfl
theorem q1458 : (Jvm.Cond.constantLong "LeaderLeases$Simulation" (164 : Nat) (12345 : Int64)) ∈ lw_all := lw_g (lw_at lw_m6 169 rfl) rfl
theorem q1459 : (Jvm.Cond.constantLong "LeaderLeases$Simulation" (166 : Nat) (2147483648 : Int64)) ∈ lw_all := lw_g (lw_at lw_m6 170 rfl) rfl
theorem q1460 : (Jvm.Cond.constant "LeaderLeases$Simulation" (171 : Nat) (65536 : Int32)) ∈ lw_all := lw_g (lw_at lw_m6 171 rfl) rfl
theorem q1461 : (Jvm.Cond.methodLink "LeaderLeases$Simulation" (106 : Nat) ({ cls := "java/lang/System", name := "arraycopy", desc := "(Ljava/lang/Object;ILjava/lang/Object;II)V" } : Jvm.MethodName)) ∈ lw_all := lw_g (lw_at lw_m6 172 rfl) rfl
theorem q1462 : (Jvm.Cond.methodLink "LeaderLeases$Simulation" (181 : Nat) ({ cls := "LeaderLeases$Message", name := "<init>", desc := "(LLeaderLeases$Kind;II[II)V" } : Jvm.MethodName)) ∈ lw_all := lw_g (lw_at lw_m6 173 rfl) rfl
theorem q1465 : (Jvm.Cond.fieldLink "LeaderLeases$Simulation" (274 : Nat) "LeaderLeases$Kind" "GRANT" "LLeaderLeases$Kind;") ∈ lw_all := lw_g (lw_at lw_m6 176 rfl) rfl
theorem q1466 : (Jvm.Cond.methodLink "LeaderLeases$Simulation" (258 : Nat) ({ cls := "LeaderLeases$Simulation", name := "atStorage", desc := "(LLeaderLeases$Message;)V" } : Jvm.MethodName)) ∈ lw_all := lw_g (lw_at lw_m6 177 rfl) rfl
theorem q1467 : (Jvm.Cond.privateMethod ({ cls := "LeaderLeases$Simulation", name := "atStorage", desc := "(LLeaderLeases$Message;)V" } : Jvm.MethodName)) ∈ lw_tbl := lw_at lw_m6 178 rfl
theorem q1468 : (Jvm.Cond.instanceMethod ({ cls := "LeaderLeases$Simulation", name := "atStorage", desc := "(LLeaderLeases$Message;)V" } : Jvm.MethodName)) ∈ lw_all := lw_g (lw_at lw_m6 179 rfl) rfl
theorem q1469 : (Jvm.Cond.codeWith ({ cls := "LeaderLeases$Simulation", name := "atStorage", desc := "(LLeaderLeases$Message;)V" } : Jvm.MethodName) prog_17_method_12_code (3 : Nat) (Option.none : Option Jvm.ClassFile.FieldType) [((0 : Nat), (5 : Nat), (8 : Nat), (280 : Nat))]) ∈ lw_all := lw_g (lw_at lw_m6 180 rfl) rfl
theorem q1470 : (Jvm.Cond.classLink "LeaderLeases$Simulation" (280 : Nat) "LeaderLeases$Rejection") ∈ lw_all := lw_g (lw_at lw_m6 181 rfl) rfl
theorem q1471 : (Jvm.Cond.methodLink "LeaderLeases$Simulation" (277 : Nat) ({ cls := "LeaderLeases$Simulation", name := "carryOut", desc := "(LLeaderLeases$Message;)V" } : Jvm.MethodName)) ∈ lw_all := lw_g (lw_at lw_m6 182 rfl) rfl
theorem q1472 : (Jvm.Cond.privateMethod ({ cls := "LeaderLeases$Simulation", name := "carryOut", desc := "(LLeaderLeases$Message;)V" } : Jvm.MethodName)) ∈ lw_tbl := lw_at lw_m6 183 rfl
theorem q1473 : (Jvm.Cond.instanceMethod ({ cls := "LeaderLeases$Simulation", name := "carryOut", desc := "(LLeaderLeases$Message;)V" } : Jvm.MethodName)) ∈ lw_all := lw_g (lw_at lw_m6 184 rfl) rfl
theorem q1474 : (Jvm.Cond.codeWith ({ cls := "LeaderLeases$Simulation", name := "carryOut", desc := "(LLeaderLeases$Message;)V" } : Jvm.MethodName) prog_17_method_13_code (3 : Nat) (Option.none : Option Jvm.ClassFile.FieldType) [((0 : Nat), (135 : Nat), (138 : Nat), (310 : Nat))]) ∈ lw_all := lw_g (lw_at lw_m6 185 rfl) rfl
theorem q1475 : (Jvm.Cond.classLink "LeaderLeases$Simulation" (310 : Nat) "LeaderLeases$StaleToken") ∈ lw_all := lw_g (lw_at lw_m6 186 rfl) rfl
theorem q1476 : (Jvm.Cond.fieldLink "LeaderLeases$Simulation" (288 : Nat) "LeaderLeases$Kind" "FETCH" "LLeaderLeases$Kind;") ∈ lw_all := lw_g (lw_at lw_m6 187 rfl) rfl
theorem q1478 : (Jvm.Cond.methodLink "LeaderLeases$Simulation" (294 : Nat) ({ cls := "LeaderLeases$Storage", name := "fetch", desc := "(II)I" } : Jvm.MethodName)) ∈ lw_all := lw_g (lw_at lw_m6 189 rfl) rfl
theorem q1505 : (Jvm.Cond.fieldLink "LeaderLeases$Simulation" (298 : Nat) "LeaderLeases$Kind" "FETCHED" "LLeaderLeases$Kind;") ∈ lw_all := lw_g (lw_at lw_m6 216 rfl) rfl
theorem q1507 : (Jvm.Cond.methodLink "LeaderLeases$Simulation" (304 : Nat) ({ cls := "LeaderLeases$Storage", name := "write", desc := "(III)V" } : Jvm.MethodName)) ∈ lw_all := lw_g (lw_at lw_m6 218 rfl) rfl
theorem q1511 : (Jvm.Cond.fieldLink "LeaderLeases$Simulation" (307 : Nat) "LeaderLeases$Kind" "WRITTEN" "LLeaderLeases$Kind;") ∈ lw_all := lw_g (lw_at lw_m6 222 rfl) rfl
theorem q1520 : (Jvm.Cond.methodLink "LeaderLeases$Simulation" (312 : Nat) ({ cls := "LeaderLeases$Rejection", name := "<init>", desc := "(LLeaderLeases$StaleToken;)V" } : Jvm.MethodName)) ∈ lw_all := lw_g (lw_at lw_m6 231 rfl) rfl
theorem q1526 : (Jvm.Cond.methodLink "LeaderLeases$Simulation" (282 : Nat) ({ cls := "LeaderLeases$Rejection", name := "token", desc := "()I" } : Jvm.MethodName)) ∈ lw_all := lw_g (lw_at lw_m6 237 rfl) rfl
theorem q1534 : (Jvm.Cond.fieldLink "LeaderLeases$Simulation" (285 : Nat) "LeaderLeases$Kind" "FENCED" "LLeaderLeases$Kind;") ∈ lw_all := lw_g (lw_at lw_m7 5 rfl) rfl
theorem q1536 : (Jvm.Cond.methodLink "LeaderLeases$Simulation" (261 : Nat) ({ cls := "LeaderLeases$Simulation", name := "atNode", desc := "(LLeaderLeases$Message;LLeaderLeases$Node;)V" } : Jvm.MethodName)) ∈ lw_all := lw_g (lw_at lw_m7 7 rfl) rfl
theorem q1537 : (Jvm.Cond.privateMethod ({ cls := "LeaderLeases$Simulation", name := "atNode", desc := "(LLeaderLeases$Message;LLeaderLeases$Node;)V" } : Jvm.MethodName)) ∈ lw_tbl := lw_at lw_m7 8 rfl
theorem q1538 : (Jvm.Cond.instanceMethod ({ cls := "LeaderLeases$Simulation", name := "atNode", desc := "(LLeaderLeases$Message;LLeaderLeases$Node;)V" } : Jvm.MethodName)) ∈ lw_all := lw_g (lw_at lw_m7 9 rfl) rfl
theorem q1539 : (Jvm.Cond.code ({ cls := "LeaderLeases$Simulation", name := "atNode", desc := "(LLeaderLeases$Message;LLeaderLeases$Node;)V" } : Jvm.MethodName) prog_17_method_14_code (3 : Nat) (Option.none : Option Jvm.ClassFile.FieldType)) ∈ lw_all := lw_g (lw_at lw_m7 10 rfl) rfl
theorem q1540 : (Jvm.Cond.methodLink "LeaderLeases$Simulation" (315 : Nat) ({ cls := "LeaderLeases$Simulation", name := "granted", desc := "(LLeaderLeases$Message;LLeaderLeases$Node;)V" } : Jvm.MethodName)) ∈ lw_all := lw_g (lw_at lw_m7 11 rfl) rfl
theorem q1541 : (Jvm.Cond.privateMethod ({ cls := "LeaderLeases$Simulation", name := "granted", desc := "(LLeaderLeases$Message;LLeaderLeases$Node;)V" } : Jvm.MethodName)) ∈ lw_tbl := lw_at lw_m7 12 rfl
theorem q1542 : (Jvm.Cond.instanceMethod ({ cls := "LeaderLeases$Simulation", name := "granted", desc := "(LLeaderLeases$Message;LLeaderLeases$Node;)V" } : Jvm.MethodName)) ∈ lw_all := lw_g (lw_at lw_m7 13 rfl) rfl
theorem q1543 : (Jvm.Cond.code ({ cls := "LeaderLeases$Simulation", name := "granted", desc := "(LLeaderLeases$Message;LLeaderLeases$Node;)V" } : Jvm.MethodName) prog_17_method_15_code (5 : Nat) (Option.none : Option Jvm.ClassFile.FieldType)) ∈ lw_all := lw_g (lw_at lw_m7 14 rfl) rfl
theorem q1544 : (Jvm.Cond.fieldLink "LeaderLeases$Simulation" (329 : Nat) "LeaderLeases$Kind" "RELEASE" "LLeaderLeases$Kind;") ∈ lw_all := lw_g (lw_at lw_m7 15 rfl) rfl
theorem q1546 : (Jvm.Cond.constantLong "LeaderLeases$Simulation" (332 : Nat) (1000 : Int64)) ∈ lw_all := lw_g (lw_at lw_m7 17 rfl) rfl
theorem q1547 : (Jvm.Cond.methodLink "LeaderLeases$Simulation" (190 : Nat) ({ cls := "LeaderLeases$Node", name := "setTimer", desc := "(II)V" } : Jvm.MethodName)) ∈ lw_all := lw_g (lw_at lw_m7 18 rfl) rfl
theorem q1552 : (Jvm.Cond.methodLink "LeaderLeases$Simulation" (323 : Nat) ({ cls := "LeaderLeases$Node", name := "loseToken", desc := "()V" } : Jvm.MethodName)) ∈ lw_all := lw_g (lw_at lw_m7 23 rfl) rfl
theorem q1556 : (Jvm.Cond.methodLink "LeaderLeases$Simulation" (326 : Nat) ({ cls := "LeaderLeases$Node", name := "cache", desc := "(II)V" } : Jvm.MethodName)) ∈ lw_all := lw_g (lw_at lw_m7 27 rfl) rfl
theorem q1560 : (Jvm.Cond.fieldLink "LeaderLeases$Simulation" (392 : Nat) "LeaderLeases$Kind" "WRITE" "LLeaderLeases$Kind;") ∈ lw_all := lw_g (lw_at lw_m7 31 rfl) rfl
theorem q1562 : (Jvm.Cond.methodLink "LeaderLeases$Simulation" (403 : Nat) ({ cls := "LeaderLeases$Node", name := "isDue", desc := "(I)Z" } : Jvm.MethodName)) ∈ lw_all := lw_g (lw_at lw_m7 33 rfl) rfl
theorem q1567 : (Jvm.Cond.methodLink "LeaderLeases$Simulation" (406 : Nat) ({ cls := "LeaderLeases$Simulation", name := "acquire", desc := "(I)V" } : Jvm.MethodName)) ∈ lw_all := lw_g (lw_at lw_m7 38 rfl) rfl
theorem q1568 : (Jvm.Cond.instanceMethod ({ cls := "LeaderLeases$Simulation", name := "acquire", desc := "(I)V" } : Jvm.MethodName)) ∈ lw_all := lw_g (lw_at lw_m7 39 rfl) rfl
theorem q1569 : (Jvm.Cond.selects "LeaderLeases$Simulation" ({ cls := "LeaderLeases$Simulation", name := "acquire", desc := "(I)V" } : Jvm.MethodName) ({ cls := "LeaderLeases$Simulation", name := "acquire", desc := "(I)V" } : Jvm.MethodName)) ∈ lw_all := lw_g (lw_at lw_m7 40 rfl) rfl
theorem q1570 : (Jvm.Cond.code ({ cls := "LeaderLeases$Simulation", name := "acquire", desc := "(I)V" } : Jvm.MethodName) prog_17_method_6_code (4 : Nat) (Option.none : Option Jvm.ClassFile.FieldType)) ∈ lw_all := lw_g (lw_at lw_m7 41 rfl) rfl
theorem q1571 : (Jvm.Cond.fieldLink "LeaderLeases$Simulation" (197 : Nat) "LeaderLeases$Kind" "ACQUIRE" "LLeaderLeases$Kind;") ∈ lw_all := lw_g (lw_at lw_m7 42 rfl) rfl
theorem q1591 : (Jvm.Cond.instanceMethod ({ cls := "LeaderLeases$Simulation", name := "restartServer", desc := "()I" } : Jvm.MethodName)) ∈ lw_all := lw_g (lw_at lw_m7 62 rfl) rfl
theorem q1592 : (Jvm.Cond.selects "LeaderLeases$Simulation" ({ cls := "LeaderLeases$Simulation", name := "restartServer", desc := "()I" } : Jvm.MethodName) ({ cls := "LeaderLeases$Simulation", name := "restartServer", desc := "()I" } : Jvm.MethodName)) ∈ lw_all := lw_g (lw_at lw_m7 63 rfl) rfl
theorem q1593 : (Jvm.Cond.code ({ cls := "LeaderLeases$Simulation", name := "restartServer", desc := "()I" } : Jvm.MethodName) prog_17_method_11_code (1 : Nat) (Option.some Jvm.ClassFile.FieldType.int)) ∈ lw_all := lw_g (lw_at lw_m7 64 rfl) rfl
theorem q1621 : (Jvm.Cond.instanceMethod ({ cls := "LeaderLeases$Simulation", name := "leaders", desc := "()I" } : Jvm.MethodName)) ∈ lw_all := lw_g (lw_at lw_m7 92 rfl) rfl
theorem q1622 : (Jvm.Cond.selects "LeaderLeases$Simulation" ({ cls := "LeaderLeases$Simulation", name := "leaders", desc := "()I" } : Jvm.MethodName) ({ cls := "LeaderLeases$Simulation", name := "leaders", desc := "()I" } : Jvm.MethodName)) ∈ lw_all := lw_g (lw_at lw_m7 93 rfl) rfl
theorem q1623 : (Jvm.Cond.code ({ cls := "LeaderLeases$Simulation", name := "leaders", desc := "()I" } : Jvm.MethodName) prog_17_method_31_code (3 : Nat) (Option.some Jvm.ClassFile.FieldType.int)) ∈ lw_all := lw_g (lw_at lw_m7 94 rfl) rfl
theorem q1624 : (Jvm.Cond.methodLink "LeaderLeases$Simulation" (424 : Nat) ({ cls := "LeaderLeases$Node", name := "leads", desc := "(I)Z" } : Jvm.MethodName)) ∈ lw_all := lw_g (lw_at lw_m7 95 rfl) rfl
theorem q1671 : (Jvm.Cond.instanceMethod ({ cls := "LeaderLeases$Simulation", name := "overtakingPairs", desc := "()I" } : Jvm.MethodName)) ∈ lw_all := lw_g (lw_at lw_m7 142 rfl) rfl
theorem q1672 : (Jvm.Cond.selects "LeaderLeases$Simulation" ({ cls := "LeaderLeases$Simulation", name := "overtakingPairs", desc := "()I" } : Jvm.MethodName) ({ cls := "LeaderLeases$Simulation", name := "overtakingPairs", desc := "()I" } : Jvm.MethodName)) ∈ lw_all := lw_g (lw_at lw_m7 143 rfl) rfl
theorem q1673 : (Jvm.Cond.code ({ cls := "LeaderLeases$Simulation", name := "overtakingPairs", desc := "()I" } : Jvm.MethodName) prog_17_method_29_code (4 : Nat) (Option.some Jvm.ClassFile.FieldType.int)) ∈ lw_all := lw_g (lw_at lw_m7 144 rfl) rfl
theorem q1674 : (Jvm.Cond.methodLink "LeaderLeases$Simulation" (440 : Nat) ({ cls := "LeaderLeases$Simulation", name := "arrival", desc := "(LLeaderLeases$Message;)I" } : Jvm.MethodName)) ∈ lw_all := lw_g (lw_at lw_m7 145 rfl) rfl
theorem q1675 : (Jvm.Cond.privateMethod ({ cls := "LeaderLeases$Simulation", name := "arrival", desc := "(LLeaderLeases$Message;)I" } : Jvm.MethodName)) ∈ lw_tbl := lw_at lw_m7 146 rfl
theorem q1676 : (Jvm.Cond.instanceMethod ({ cls := "LeaderLeases$Simulation", name := "arrival", desc := "(LLeaderLeases$Message;)I" } : Jvm.MethodName)) ∈ lw_all := lw_g (lw_at lw_m7 147 rfl) rfl
theorem q1677 : (Jvm.Cond.code ({ cls := "LeaderLeases$Simulation", name := "arrival", desc := "(LLeaderLeases$Message;)I" } : Jvm.MethodName) prog_17_method_28_code (3 : Nat) (Option.some Jvm.ClassFile.FieldType.int)) ∈ lw_all := lw_g (lw_at lw_m7 148 rfl) rfl
theorem q1683 : (Jvm.Cond.instanceMethod ({ cls := "LeaderLeases$Simulation", name := "isStale", desc := "(LLeaderLeases$Node;)Z" } : Jvm.MethodName)) ∈ lw_all := lw_g (lw_at lw_m7 154 rfl) rfl
theorem q1684 : (Jvm.Cond.selects "LeaderLeases$Simulation" ({ cls := "LeaderLeases$Simulation", name := "isStale", desc := "(LLeaderLeases$Node;)Z" } : Jvm.MethodName) ({ cls := "LeaderLeases$Simulation", name := "isStale", desc := "(LLeaderLeases$Node;)Z" } : Jvm.MethodName)) ∈ lw_all := lw_g (lw_at lw_m7 155 rfl) rfl
theorem q1685 : (Jvm.Cond.code ({ cls := "LeaderLeases$Simulation", name := "isStale", desc := "(LLeaderLeases$Node;)Z" } : Jvm.MethodName) prog_17_method_30_code (4 : Nat) (Option.some Jvm.ClassFile.FieldType.boolean)) ∈ lw_all := lw_g (lw_at lw_m7 156 rfl) rfl
theorem q1831 : (Jvm.Cond.fieldLinkNest "LeaderLeases$Simulation" (382 : Nat) "LeaderLeases$Outage" "node" "I" "LeaderLeases") ∈ lw_tbl := lw_at lw_m8 62 rfl
theorem q1833 : (Jvm.Cond.fieldLinkNest "LeaderLeases$Simulation" (379 : Nat) "LeaderLeases$Outage" "from" "I" "LeaderLeases") ∈ lw_tbl := lw_at lw_m8 64 rfl
theorem q1835 : (Jvm.Cond.fieldLinkNest "LeaderLeases$Simulation" (383 : Nat) "LeaderLeases$Outage" "to" "I" "LeaderLeases") ∈ lw_tbl := lw_at lw_m8 66 rfl
theorem q1875 : (Jvm.Cond.fieldLinkNest "LeaderLeases$Simulation" (395 : Nat) "LeaderLeases$Delayed" "node" "I" "LeaderLeases") ∈ lw_tbl := lw_at lw_m8 106 rfl
theorem q1877 : (Jvm.Cond.fieldLinkNest "LeaderLeases$Simulation" (396 : Nat) "LeaderLeases$Delayed" "token" "I" "LeaderLeases") ∈ lw_tbl := lw_at lw_m8 108 rfl
theorem q1879 : (Jvm.Cond.fieldLinkNest "LeaderLeases$Simulation" (397 : Nat) "LeaderLeases$Delayed" "register" "I" "LeaderLeases") ∈ lw_tbl := lw_at lw_m8 110 rfl
theorem q1881 : (Jvm.Cond.fieldLinkNest "LeaderLeases$Simulation" (400 : Nat) "LeaderLeases$Delayed" "value" "I" "LeaderLeases") ∈ lw_tbl := lw_at lw_m8 112 rfl
theorem q1883 : (Jvm.Cond.fieldLinkNest "LeaderLeases$Simulation" (361 : Nat) "LeaderLeases$Delayed" "time" "I" "LeaderLeases") ∈ lw_tbl := lw_at lw_m8 114 rfl
theorem q2033 : (Jvm.Cond.instanceMethod ({ cls := "LeaderLeases$Simulation", name := "copy", desc := "()LLeaderLeases$Simulation;" } : Jvm.MethodName)) ∈ lw_all := lw_g (lw_at lw_m9 24 rfl) rfl
theorem q2034 : (Jvm.Cond.selects "LeaderLeases$Simulation" ({ cls := "LeaderLeases$Simulation", name := "copy", desc := "()LLeaderLeases$Simulation;" } : Jvm.MethodName) ({ cls := "LeaderLeases$Simulation", name := "copy", desc := "()LLeaderLeases$Simulation;" } : Jvm.MethodName)) ∈ lw_all := lw_g (lw_at lw_m9 25 rfl) rfl
theorem q2035 : (Jvm.Cond.code ({ cls := "LeaderLeases$Simulation", name := "copy", desc := "()LLeaderLeases$Simulation;" } : Jvm.MethodName) prog_17_method_2_code (3 : Nat) (Option.some (Jvm.ClassFile.FieldType.object "LeaderLeases$Simulation"))) ∈ lw_all := lw_g (lw_at lw_m9 26 rfl) rfl
theorem q2036 : (Jvm.Cond.classLink "LeaderLeases$Simulation" (15 : Nat) "LeaderLeases$Simulation") ∈ lw_all := lw_g (lw_at lw_m9 27 rfl) rfl
theorem q2037 : (Jvm.Cond.methodLink "LeaderLeases$Simulation" (91 : Nat) ({ cls := "LeaderLeases$Simulation", name := "<init>", desc := "(LLeaderLeases$Configuration;)V" } : Jvm.MethodName)) ∈ lw_all := lw_g (lw_at lw_m9 28 rfl) rfl
theorem q2038 : (Jvm.Cond.methodLink "LeaderLeases$Simulation" (94 : Nat) ({ cls := "LeaderLeases$Node", name := "copy", desc := "()LLeaderLeases$Node;" } : Jvm.MethodName)) ∈ lw_all := lw_g (lw_at lw_m9 29 rfl) rfl
theorem q2045 : (Jvm.Cond.interfaceEntry "LeaderLeases$Simulation" (98 : Nat)) ∈ lw_tbl := lw_at lw_m9 36 rfl
theorem q2046 : (Jvm.Cond.methodLink "LeaderLeases$Simulation" (98 : Nat) ({ cls := "java/util/List", name := "addAll", desc := "(Ljava/util/Collection;)Z" } : Jvm.MethodName)) ∈ lw_all := lw_g (lw_at lw_m9 37 rfl) rfl
theorem q2064 : (Jvm.Cond.methodLink "LeaderLeases$Simulation" (102 : Nat) ({ cls := "LeaderLeases$Storage", name := "copyFrom", desc := "(LLeaderLeases$Storage;)V" } : Jvm.MethodName)) ∈ lw_all := lw_g (lw_at lw_m9 55 rfl) rfl
theorem q2070 : (Jvm.Cond.instanceMethod ({ cls := "LeaderLeases$Simulation", name := "nextLeader", desc := "(I)I" } : Jvm.MethodName)) ∈ lw_all := lw_g (lw_at lw_m9 61 rfl) rfl
theorem q2071 : (Jvm.Cond.selects "LeaderLeases$Simulation" ({ cls := "LeaderLeases$Simulation", name := "nextLeader", desc := "(I)I" } : Jvm.MethodName) ({ cls := "LeaderLeases$Simulation", name := "nextLeader", desc := "(I)I" } : Jvm.MethodName)) ∈ lw_all := lw_g (lw_at lw_m9 62 rfl) rfl
theorem q2072 : (Jvm.Cond.code ({ cls := "LeaderLeases$Simulation", name := "nextLeader", desc := "(I)I" } : Jvm.MethodName) prog_17_method_22_code (5 : Nat) (Option.some Jvm.ClassFile.FieldType.int)) ∈ lw_all := lw_g (lw_at lw_m9 63 rfl) rfl
theorem q2073 : (Jvm.Cond.methodLink "LeaderLeases$Simulation" (421 : Nat) ({ cls := "LeaderLeases$Simulation", name := "leaders", desc := "()I" } : Jvm.MethodName)) ∈ lw_all := lw_g (lw_at lw_m9 64 rfl) rfl
theorem q2114 : (Jvm.Cond.instanceMethod ({ cls := "LeaderLeases$Simulation", name := "leadsFrom", desc := "(II)I" } : Jvm.MethodName)) ∈ lw_all := lw_g (lw_at lw_m9 105 rfl) rfl
theorem q2115 : (Jvm.Cond.selects "LeaderLeases$Simulation" ({ cls := "LeaderLeases$Simulation", name := "leadsFrom", desc := "(II)I" } : Jvm.MethodName) ({ cls := "LeaderLeases$Simulation", name := "leadsFrom", desc := "(II)I" } : Jvm.MethodName)) ∈ lw_all := lw_g (lw_at lw_m9 106 rfl) rfl
theorem q2116 : (Jvm.Cond.code ({ cls := "LeaderLeases$Simulation", name := "leadsFrom", desc := "(II)I" } : Jvm.MethodName) prog_17_method_23_code (3 : Nat) (Option.some Jvm.ClassFile.FieldType.int)) ∈ lw_all := lw_g (lw_at lw_m9 107 rfl) rfl
theorem q2125 : (Jvm.Cond.instanceMethod ({ cls := "LeaderLeases$Simulation", name := "longestGap", desc := "(I)I" } : Jvm.MethodName)) ∈ lw_all := lw_g (lw_at lw_m9 116 rfl) rfl
theorem q2126 : (Jvm.Cond.selects "LeaderLeases$Simulation" ({ cls := "LeaderLeases$Simulation", name := "longestGap", desc := "(I)I" } : Jvm.MethodName) ({ cls := "LeaderLeases$Simulation", name := "longestGap", desc := "(I)I" } : Jvm.MethodName)) ∈ lw_all := lw_g (lw_at lw_m9 117 rfl) rfl
theorem q2127 : (Jvm.Cond.code ({ cls := "LeaderLeases$Simulation", name := "longestGap", desc := "(I)I" } : Jvm.MethodName) prog_17_method_25_code (6 : Nat) (Option.some Jvm.ClassFile.FieldType.int)) ∈ lw_all := lw_g (lw_at lw_m9 118 rfl) rfl
theorem q2128 : (Jvm.Cond.methodLink "LeaderLeases$Simulation" (427 : Nat) ({ cls := "LeaderLeases$Simulation", name := "lastEnd", desc := "()I" } : Jvm.MethodName)) ∈ lw_all := lw_g (lw_at lw_m9 119 rfl) rfl
theorem q2129 : (Jvm.Cond.privateMethod ({ cls := "LeaderLeases$Simulation", name := "lastEnd", desc := "()I" } : Jvm.MethodName)) ∈ lw_tbl := lw_at lw_m9 120 rfl
theorem q2130 : (Jvm.Cond.instanceMethod ({ cls := "LeaderLeases$Simulation", name := "lastEnd", desc := "()I" } : Jvm.MethodName)) ∈ lw_all := lw_g (lw_at lw_m9 121 rfl) rfl
theorem q2131 : (Jvm.Cond.code ({ cls := "LeaderLeases$Simulation", name := "lastEnd", desc := "()I" } : Jvm.MethodName) prog_17_method_24_code (6 : Nat) (Option.some Jvm.ClassFile.FieldType.int)) ∈ lw_all := lw_g (lw_at lw_m9 122 rfl) rfl
theorem q2140 : (Jvm.Cond.instanceMethod ({ cls := "LeaderLeases$Simulation", name := "tryWrite", desc := "(II)I" } : Jvm.MethodName)) ∈ lw_all := lw_g (lw_at lw_m9 131 rfl) rfl
theorem q2141 : (Jvm.Cond.selects "LeaderLeases$Simulation" ({ cls := "LeaderLeases$Simulation", name := "tryWrite", desc := "(II)I" } : Jvm.MethodName) ({ cls := "LeaderLeases$Simulation", name := "tryWrite", desc := "(II)I" } : Jvm.MethodName)) ∈ lw_all := lw_g (lw_at lw_m9 132 rfl) rfl
theorem q2142 : (Jvm.Cond.code ({ cls := "LeaderLeases$Simulation", name := "tryWrite", desc := "(II)I" } : Jvm.MethodName) prog_17_method_26_code (5 : Nat) (Option.some Jvm.ClassFile.FieldType.int)) ∈ lw_all := lw_g (lw_at lw_m9 133 rfl) rfl
theorem q2143 : (Jvm.Cond.constant "LeaderLeases$Simulation" (430 : Nat) (5000000 : Int32)) ∈ lw_all := lw_g (lw_at lw_m9 134 rfl) rfl
theorem q2144 : (Jvm.Cond.methodLink "LeaderLeases$Simulation" (434 : Nat) ({ cls := "LeaderLeases$Simulation", name := "goOn", desc := "(I)V" } : Jvm.MethodName)) ∈ lw_all := lw_g (lw_at lw_m9 135 rfl) rfl
theorem q2797 : (Jvm.Cond.castable "LeaderLeases$Simulation" "java/lang/Object") ∈ lw_tbl := lw_at lw_m12 68 rfl
theorem in_X2 : ∀ w ∈ wsX20, w ∈ lw_all := lw_in wsX20 [826, 828, 830, 832, 834, 836, 838, 840, 842, 844, 846, 848, 850, 852, 854, 856, 858, 860, 862, 864, 866, 868] (by decide +kernel) (by decide +kernel)

