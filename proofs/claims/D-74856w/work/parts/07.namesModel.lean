/-! LeaderLeasesModel -/
set_option maxRecDepth 100000
def RX7 : String := "LeaderLeasesModel"
def TX7 : u_T := fun k => match k with
  | 0 => ("LeaderLeasesModel", "w", "[I", true)
  | 1 => ("LeaderLeasesModel", "thrown", "I", false)
  | 2 => ("LeaderLeasesModel", "buffer", "[I", true)
  | 3 => ("LeaderLeasesModel", "length", "I", false)
  | 4 => ("LeaderLeasesModel", "point", "I", false)
  | 5 => ("LeaderLeasesModel", "begin", "I", false)
  | 6 => ("LeaderLeasesModel", "wrong", "I", false)
  | 7 => ("LeaderLeasesModel", "wrongKind", "I", false)
  | 8 => ("LeaderLeasesModel", "loadError", "I", false)
  | 9 => ("LeaderLeasesModel", "met", "I", false)
  | 10 => ("LeaderLeasesModel", "read", "[I", true)
  | 11 => ("LeaderLeasesModel", "words", "[Ljava/lang/String;", true)
  | 12 => ("LeaderLeasesModel", "countedNode", "I", false)
  | 13 => ("LeaderLeasesModel", "counted", "I", false)
  | 14 => ("LeaderLeasesModel", "outcome", "I", false)
  | 15 => ("LeaderLeasesModel", "aside", "[I", true)
  | 16 => ("LeaderLeasesModel", "kept", "[I", true)
  | _ => ("LeaderLeasesModel", "isKept", "[Z", true)
def tyX7 : Nat → FieldType := fun k => match k with
  | 0 => .array .int
  | 1 => .int
  | 2 => .array .int
  | 3 => .int
  | 4 => .int
  | 5 => .int
  | 6 => .int
  | 7 => .int
  | 8 => .int
  | 9 => .int
  | 10 => .array .int
  | 11 => .array (.object "java/lang/String")
  | 12 => .int
  | 13 => .int
  | 14 => .int
  | 15 => .array .int
  | 16 => .array .int
  | _ => .array .boolean
abbrev wsX70 : List Cond := u_ws RX7 TX7 18
set_option maxRecDepth 100000 in
theorem nmX7 : ∀ a, a < 18 → ∀ b, b < 18 → a ≠ b → (TX7 a).2.1 ≠ (TX7 b).2.1 := by decide +kernel
set_option maxRecDepth 100000 in
theorem tyX7_ok : ∀ k, k < 18 → parseFieldDescriptor (TX7 k).2.2.1 = some (tyX7 k) := by decide +kernel
abbrev cX7_init : ByteArray := prog_22_method_1_code
def yX7_init : MethodName := ⟨RX7, "<init>", "()V"⟩
def dkwX7_init_5 : List UInt8 := [182, 0, 58, 42, 182, 0, 62, 177]
abbrev dktX7_init_5 : List UInt8 := dkwX7_init_5 ++ []
def dkwX7_init_4 : List UInt8 := [188, 10, 181, 0, 48, 42, 5, 188, 4, 181, 0, 51, 42, 182, 0, 55, 42, 17, 3, 232, 3, 16, 10]
abbrev dktX7_init_4 : List UInt8 := dkwX7_init_4 ++ dktX7_init_5
def dkwX7_init_3 : List UInt8 := [18, 34, 83, 181, 0, 36, 42, 16, 252, 181, 0, 40, 42, 18, 9, 188, 10, 181, 0, 44, 42, 18, 47]
abbrev dktX7_init_3 : List UInt8 := dkwX7_init_3 ++ dktX7_init_4
def dkwX7_init_2 : List UInt8 := [89, 5, 18, 26, 83, 89, 6, 18, 28, 83, 89, 7, 18, 30, 83, 89, 8, 18, 32, 83, 89, 16, 6]
abbrev dktX7_init_2 : List UInt8 := dkwX7_init_2 ++ dktX7_init_3
def dkwX7_init_1 : List UInt8 := [17, 0, 160, 188, 10, 181, 0, 17, 42, 16, 7, 189, 0, 20, 89, 3, 18, 22, 83, 89, 4, 18, 24, 83]
abbrev dktX7_init_1 : List UInt8 := dkwX7_init_1 ++ dktX7_init_2
def dkwX7_init_0 : List UInt8 := [42, 183, 0, 3, 42, 18, 9, 188, 10, 181, 0, 10, 42, 17, 1, 144, 188, 10, 181, 0, 14, 42]
abbrev dktX7_init_0 : List UInt8 := dkwX7_init_0 ++ dktX7_init_1
theorem dksX7_init_0 : cX7_init.data.toList.drop 0 = dktX7_init_0 := by decide +kernel
theorem dksX7_init_1 : cX7_init.data.toList.drop 22 = dktX7_init_1 := dk_seg dksX7_init_0 22 rfl rfl
theorem dksX7_init_2 : cX7_init.data.toList.drop 46 = dktX7_init_2 := dk_seg dksX7_init_1 24 rfl rfl
theorem dksX7_init_3 : cX7_init.data.toList.drop 69 = dktX7_init_3 := dk_seg dksX7_init_2 23 rfl rfl
theorem dksX7_init_4 : cX7_init.data.toList.drop 92 = dktX7_init_4 := dk_seg dksX7_init_3 23 rfl rfl
theorem dksX7_init_5 : cX7_init.data.toList.drop 115 = dktX7_init_5 := dk_seg dksX7_init_4 23 rfl rfl
theorem dX7_init_0 : decode cX7_init 0 = .ok (.aload_n 0, 1) := dk_42 (dk_at dksX7_init_0 0 rfl rfl)
theorem dX7_init_1 : decode cX7_init 1 = .ok (.invokespecial 3, 3) := dk_183 0 3 (dk_at dksX7_init_0 1 rfl rfl)
theorem dX7_init_4 : decode cX7_init 4 = .ok (.aload_n 0, 1) := dk_42 (dk_at dksX7_init_0 4 rfl rfl)
theorem dX7_init_5 : decode cX7_init 5 = .ok (.ldc 9, 2) := dk_18 9 (dk_at dksX7_init_0 5 rfl rfl)
theorem dX7_init_7 : decode cX7_init 7 = .ok (.newarray .int, 2) := dk_188_10 (dk_at dksX7_init_0 7 rfl rfl)
theorem dX7_init_9 : decode cX7_init 9 = .ok (.putfield 10, 3) := dk_181 0 10 (dk_at dksX7_init_0 9 rfl rfl)
theorem dX7_init_12 : decode cX7_init 12 = .ok (.aload_n 0, 1) := dk_42 (dk_at dksX7_init_0 12 rfl rfl)
theorem dX7_init_13 : decode cX7_init 13 = .ok (.sipush 400, 3) := dk_17 1 144 (dk_at dksX7_init_0 13 rfl rfl)
theorem dX7_init_16 : decode cX7_init 16 = .ok (.newarray .int, 2) := dk_188_10 (dk_at dksX7_init_0 16 rfl rfl)
theorem dX7_init_18 : decode cX7_init 18 = .ok (.putfield 14, 3) := dk_181 0 14 (dk_at dksX7_init_0 18 rfl rfl)
theorem dX7_init_21 : decode cX7_init 21 = .ok (.aload_n 0, 1) := dk_42 (dk_at dksX7_init_0 21 rfl rfl)
theorem dX7_init_22 : decode cX7_init 22 = .ok (.sipush 160, 3) := dk_17 0 160 (dk_at dksX7_init_1 0 rfl rfl)
theorem dX7_init_25 : decode cX7_init 25 = .ok (.newarray .int, 2) := dk_188_10 (dk_at dksX7_init_1 3 rfl rfl)
theorem dX7_init_27 : decode cX7_init 27 = .ok (.putfield 17, 3) := dk_181 0 17 (dk_at dksX7_init_1 5 rfl rfl)
theorem dX7_init_30 : decode cX7_init 30 = .ok (.aload_n 0, 1) := dk_42 (dk_at dksX7_init_1 8 rfl rfl)
theorem dX7_init_31 : decode cX7_init 31 = .ok (.bipush 7, 2) := dk_16 7 (dk_at dksX7_init_1 9 rfl rfl)
theorem dX7_init_33 : decode cX7_init 33 = .ok (.anewarray 20, 3) := dk_189 0 20 (dk_at dksX7_init_1 11 rfl rfl)
theorem dX7_init_36 : decode cX7_init 36 = .ok (.dup, 1) := dk_89 (dk_at dksX7_init_1 14 rfl rfl)
theorem dX7_init_37 : decode cX7_init 37 = .ok (.iconst 0, 1) := dk_3 (dk_at dksX7_init_1 15 rfl rfl)
theorem dX7_init_38 : decode cX7_init 38 = .ok (.ldc 22, 2) := dk_18 22 (dk_at dksX7_init_1 16 rfl rfl)
theorem dX7_init_40 : decode cX7_init 40 = .ok (.aastore, 1) := dk_83 (dk_at dksX7_init_1 18 rfl rfl)
theorem dX7_init_41 : decode cX7_init 41 = .ok (.dup, 1) := dk_89 (dk_at dksX7_init_1 19 rfl rfl)
theorem dX7_init_42 : decode cX7_init 42 = .ok (.iconst 1, 1) := dk_4 (dk_at dksX7_init_1 20 rfl rfl)
theorem dX7_init_43 : decode cX7_init 43 = .ok (.ldc 24, 2) := dk_18 24 (dk_at dksX7_init_1 21 rfl rfl)
theorem dX7_init_45 : decode cX7_init 45 = .ok (.aastore, 1) := dk_83 (dk_at dksX7_init_1 23 rfl rfl)
theorem dX7_init_46 : decode cX7_init 46 = .ok (.dup, 1) := dk_89 (dk_at dksX7_init_2 0 rfl rfl)
theorem dX7_init_47 : decode cX7_init 47 = .ok (.iconst 2, 1) := dk_5 (dk_at dksX7_init_2 1 rfl rfl)
theorem dX7_init_48 : decode cX7_init 48 = .ok (.ldc 26, 2) := dk_18 26 (dk_at dksX7_init_2 2 rfl rfl)
theorem dX7_init_50 : decode cX7_init 50 = .ok (.aastore, 1) := dk_83 (dk_at dksX7_init_2 4 rfl rfl)
theorem dX7_init_51 : decode cX7_init 51 = .ok (.dup, 1) := dk_89 (dk_at dksX7_init_2 5 rfl rfl)
theorem dX7_init_52 : decode cX7_init 52 = .ok (.iconst 3, 1) := dk_6 (dk_at dksX7_init_2 6 rfl rfl)
theorem dX7_init_53 : decode cX7_init 53 = .ok (.ldc 28, 2) := dk_18 28 (dk_at dksX7_init_2 7 rfl rfl)
theorem dX7_init_55 : decode cX7_init 55 = .ok (.aastore, 1) := dk_83 (dk_at dksX7_init_2 9 rfl rfl)
theorem dX7_init_56 : decode cX7_init 56 = .ok (.dup, 1) := dk_89 (dk_at dksX7_init_2 10 rfl rfl)
theorem dX7_init_57 : decode cX7_init 57 = .ok (.iconst 4, 1) := dk_7 (dk_at dksX7_init_2 11 rfl rfl)
theorem dX7_init_58 : decode cX7_init 58 = .ok (.ldc 30, 2) := dk_18 30 (dk_at dksX7_init_2 12 rfl rfl)
theorem dX7_init_60 : decode cX7_init 60 = .ok (.aastore, 1) := dk_83 (dk_at dksX7_init_2 14 rfl rfl)
theorem dX7_init_61 : decode cX7_init 61 = .ok (.dup, 1) := dk_89 (dk_at dksX7_init_2 15 rfl rfl)
theorem dX7_init_62 : decode cX7_init 62 = .ok (.iconst 5, 1) := dk_8 (dk_at dksX7_init_2 16 rfl rfl)
theorem dX7_init_63 : decode cX7_init 63 = .ok (.ldc 32, 2) := dk_18 32 (dk_at dksX7_init_2 17 rfl rfl)
theorem dX7_init_65 : decode cX7_init 65 = .ok (.aastore, 1) := dk_83 (dk_at dksX7_init_2 19 rfl rfl)
theorem dX7_init_66 : decode cX7_init 66 = .ok (.dup, 1) := dk_89 (dk_at dksX7_init_2 20 rfl rfl)
theorem dX7_init_67 : decode cX7_init 67 = .ok (.bipush 6, 2) := dk_16 6 (dk_at dksX7_init_2 21 rfl rfl)
theorem dX7_init_69 : decode cX7_init 69 = .ok (.ldc 34, 2) := dk_18 34 (dk_at dksX7_init_3 0 rfl rfl)
theorem dX7_init_71 : decode cX7_init 71 = .ok (.aastore, 1) := dk_83 (dk_at dksX7_init_3 2 rfl rfl)
theorem dX7_init_72 : decode cX7_init 72 = .ok (.putfield 36, 3) := dk_181 0 36 (dk_at dksX7_init_3 3 rfl rfl)
theorem dX7_init_75 : decode cX7_init 75 = .ok (.aload_n 0, 1) := dk_42 (dk_at dksX7_init_3 6 rfl rfl)
theorem dX7_init_76 : decode cX7_init 76 = .ok (.bipush (-4), 2) := dk_16 252 (dk_at dksX7_init_3 7 rfl rfl)
theorem dX7_init_78 : decode cX7_init 78 = .ok (.putfield 40, 3) := dk_181 0 40 (dk_at dksX7_init_3 9 rfl rfl)
theorem dX7_init_81 : decode cX7_init 81 = .ok (.aload_n 0, 1) := dk_42 (dk_at dksX7_init_3 12 rfl rfl)
theorem dX7_init_82 : decode cX7_init 82 = .ok (.ldc 9, 2) := dk_18 9 (dk_at dksX7_init_3 13 rfl rfl)
theorem dX7_init_84 : decode cX7_init 84 = .ok (.newarray .int, 2) := dk_188_10 (dk_at dksX7_init_3 15 rfl rfl)
theorem dX7_init_86 : decode cX7_init 86 = .ok (.putfield 44, 3) := dk_181 0 44 (dk_at dksX7_init_3 17 rfl rfl)
theorem dX7_init_89 : decode cX7_init 89 = .ok (.aload_n 0, 1) := dk_42 (dk_at dksX7_init_3 20 rfl rfl)
theorem dX7_init_90 : decode cX7_init 90 = .ok (.ldc 47, 2) := dk_18 47 (dk_at dksX7_init_3 21 rfl rfl)
theorem dX7_init_92 : decode cX7_init 92 = .ok (.newarray .int, 2) := dk_188_10 (dk_at dksX7_init_4 0 rfl rfl)
theorem dX7_init_94 : decode cX7_init 94 = .ok (.putfield 48, 3) := dk_181 0 48 (dk_at dksX7_init_4 2 rfl rfl)
theorem dX7_init_97 : decode cX7_init 97 = .ok (.aload_n 0, 1) := dk_42 (dk_at dksX7_init_4 5 rfl rfl)
theorem dX7_init_98 : decode cX7_init 98 = .ok (.iconst 2, 1) := dk_5 (dk_at dksX7_init_4 6 rfl rfl)
theorem dX7_init_99 : decode cX7_init 99 = .ok (.newarray .boolean, 2) := dk_188_4 (dk_at dksX7_init_4 7 rfl rfl)
theorem dX7_init_101 : decode cX7_init 101 = .ok (.putfield 51, 3) := dk_181 0 51 (dk_at dksX7_init_4 9 rfl rfl)
theorem dX7_init_104 : decode cX7_init 104 = .ok (.aload_n 0, 1) := dk_42 (dk_at dksX7_init_4 12 rfl rfl)
theorem dX7_init_105 : decode cX7_init 105 = .ok (.invokevirtual 55, 3) := dk_182 0 55 (dk_at dksX7_init_4 13 rfl rfl)
theorem dX7_init_108 : decode cX7_init 108 = .ok (.aload_n 0, 1) := dk_42 (dk_at dksX7_init_4 16 rfl rfl)
theorem dX7_init_109 : decode cX7_init 109 = .ok (.sipush 1000, 3) := dk_17 3 232 (dk_at dksX7_init_4 17 rfl rfl)
theorem dX7_init_112 : decode cX7_init 112 = .ok (.iconst 0, 1) := dk_3 (dk_at dksX7_init_4 20 rfl rfl)
theorem dX7_init_113 : decode cX7_init 113 = .ok (.bipush 10, 2) := dk_16 10 (dk_at dksX7_init_4 21 rfl rfl)
theorem dX7_init_115 : decode cX7_init 115 = .ok (.invokevirtual 58, 3) := dk_182 0 58 (dk_at dksX7_init_5 0 rfl rfl)
theorem dX7_init_118 : decode cX7_init 118 = .ok (.aload_n 0, 1) := dk_42 (dk_at dksX7_init_5 3 rfl rfl)
theorem dX7_init_119 : decode cX7_init 119 = .ok (.invokevirtual 62, 3) := dk_182 0 62 (dk_at dksX7_init_5 4 rfl rfl)
theorem dX7_init_122 : decode cX7_init 122 = .ok (.return_, 1) := dk_177 (dk_at dksX7_init_5 7 rfl rfl)
abbrev cX7_beginsRead : ByteArray := prog_22_method_9_code
def yX7_beginsRead : MethodName := ⟨RX7, "beginsRead", "()V"⟩
def dkwX7_beginsRead_3 : List UInt8 := [16, 8, 17, 1, 244, 79, 42, 180, 0, 17, 16, 10, 16, 252, 79, 177]
abbrev dktX7_beginsRead_3 : List UInt8 := dkwX7_beginsRead_3 ++ []
def dkwX7_beginsRead_2 : List UInt8 := [79, 42, 180, 0, 17, 16, 6, 16, 20, 79, 42, 180, 0, 17, 16, 7, 17, 7, 208, 79, 42, 180, 0, 17]
abbrev dktX7_beginsRead_2 : List UInt8 := dkwX7_beginsRead_2 ++ dktX7_beginsRead_3
def dkwX7_beginsRead_1 : List UInt8 := [42, 180, 0, 17, 4, 4, 79, 42, 180, 0, 17, 6, 17, 3, 232, 79, 42, 180, 0, 17, 8, 17, 19, 136]
abbrev dktX7_beginsRead_1 : List UInt8 := dkwX7_beginsRead_1 ++ dktX7_beginsRead_2
def dkwX7_beginsRead_0 : List UInt8 := [3, 60, 27, 42, 180, 0, 17, 190, 162, 0, 16, 42, 180, 0, 17, 27, 3, 79, 132, 1, 1, 167, 255, 237]
abbrev dktX7_beginsRead_0 : List UInt8 := dkwX7_beginsRead_0 ++ dktX7_beginsRead_1
theorem dksX7_beginsRead_0 : cX7_beginsRead.data.toList.drop 0 = dktX7_beginsRead_0 := by decide +kernel
theorem dksX7_beginsRead_1 : cX7_beginsRead.data.toList.drop 24 = dktX7_beginsRead_1 := dk_seg dksX7_beginsRead_0 24 rfl rfl
theorem dksX7_beginsRead_2 : cX7_beginsRead.data.toList.drop 48 = dktX7_beginsRead_2 := dk_seg dksX7_beginsRead_1 24 rfl rfl
theorem dksX7_beginsRead_3 : cX7_beginsRead.data.toList.drop 72 = dktX7_beginsRead_3 := dk_seg dksX7_beginsRead_2 24 rfl rfl
theorem dX7_beginsRead_0 : decode cX7_beginsRead 0 = .ok (.iconst 0, 1) := dk_3 (dk_at dksX7_beginsRead_0 0 rfl rfl)
theorem dX7_beginsRead_1 : decode cX7_beginsRead 1 = .ok (.istore_n 1, 1) := dk_60 (dk_at dksX7_beginsRead_0 1 rfl rfl)
theorem dX7_beginsRead_2 : decode cX7_beginsRead 2 = .ok (.iload_n 1, 1) := dk_27 (dk_at dksX7_beginsRead_0 2 rfl rfl)
theorem dX7_beginsRead_3 : decode cX7_beginsRead 3 = .ok (.aload_n 0, 1) := dk_42 (dk_at dksX7_beginsRead_0 3 rfl rfl)
theorem dX7_beginsRead_4 : decode cX7_beginsRead 4 = .ok (.getfield 17, 3) := dk_180 0 17 (dk_at dksX7_beginsRead_0 4 rfl rfl)
theorem dX7_beginsRead_7 : decode cX7_beginsRead 7 = .ok (.arraylength, 1) := dk_190 (dk_at dksX7_beginsRead_0 7 rfl rfl)
theorem dX7_beginsRead_8 : decode cX7_beginsRead 8 = .ok (.if_icmp .ge 16, 3) := dk_162 0 16 (dk_at dksX7_beginsRead_0 8 rfl rfl)
theorem dX7_beginsRead_11 : decode cX7_beginsRead 11 = .ok (.aload_n 0, 1) := dk_42 (dk_at dksX7_beginsRead_0 11 rfl rfl)
theorem dX7_beginsRead_12 : decode cX7_beginsRead 12 = .ok (.getfield 17, 3) := dk_180 0 17 (dk_at dksX7_beginsRead_0 12 rfl rfl)
theorem dX7_beginsRead_15 : decode cX7_beginsRead 15 = .ok (.iload_n 1, 1) := dk_27 (dk_at dksX7_beginsRead_0 15 rfl rfl)
theorem dX7_beginsRead_16 : decode cX7_beginsRead 16 = .ok (.iconst 0, 1) := dk_3 (dk_at dksX7_beginsRead_0 16 rfl rfl)
theorem dX7_beginsRead_17 : decode cX7_beginsRead 17 = .ok (.iastore, 1) := dk_79 (dk_at dksX7_beginsRead_0 17 rfl rfl)
theorem dX7_beginsRead_18 : decode cX7_beginsRead 18 = .ok (.iinc 1 1, 3) := dk_132 1 1 (dk_at dksX7_beginsRead_0 18 rfl rfl)
theorem dX7_beginsRead_21 : decode cX7_beginsRead 21 = .ok (.goto (-19), 3) := dk_167 255 237 (dk_at dksX7_beginsRead_0 21 rfl rfl)
theorem dX7_beginsRead_24 : decode cX7_beginsRead 24 = .ok (.aload_n 0, 1) := dk_42 (dk_at dksX7_beginsRead_1 0 rfl rfl)
theorem dX7_beginsRead_25 : decode cX7_beginsRead 25 = .ok (.getfield 17, 3) := dk_180 0 17 (dk_at dksX7_beginsRead_1 1 rfl rfl)
theorem dX7_beginsRead_28 : decode cX7_beginsRead 28 = .ok (.iconst 1, 1) := dk_4 (dk_at dksX7_beginsRead_1 4 rfl rfl)
theorem dX7_beginsRead_29 : decode cX7_beginsRead 29 = .ok (.iconst 1, 1) := dk_4 (dk_at dksX7_beginsRead_1 5 rfl rfl)
theorem dX7_beginsRead_30 : decode cX7_beginsRead 30 = .ok (.iastore, 1) := dk_79 (dk_at dksX7_beginsRead_1 6 rfl rfl)
theorem dX7_beginsRead_31 : decode cX7_beginsRead 31 = .ok (.aload_n 0, 1) := dk_42 (dk_at dksX7_beginsRead_1 7 rfl rfl)
theorem dX7_beginsRead_32 : decode cX7_beginsRead 32 = .ok (.getfield 17, 3) := dk_180 0 17 (dk_at dksX7_beginsRead_1 8 rfl rfl)
theorem dX7_beginsRead_35 : decode cX7_beginsRead 35 = .ok (.iconst 3, 1) := dk_6 (dk_at dksX7_beginsRead_1 11 rfl rfl)
theorem dX7_beginsRead_36 : decode cX7_beginsRead 36 = .ok (.sipush 1000, 3) := dk_17 3 232 (dk_at dksX7_beginsRead_1 12 rfl rfl)
theorem dX7_beginsRead_39 : decode cX7_beginsRead 39 = .ok (.iastore, 1) := dk_79 (dk_at dksX7_beginsRead_1 15 rfl rfl)
theorem dX7_beginsRead_40 : decode cX7_beginsRead 40 = .ok (.aload_n 0, 1) := dk_42 (dk_at dksX7_beginsRead_1 16 rfl rfl)
theorem dX7_beginsRead_41 : decode cX7_beginsRead 41 = .ok (.getfield 17, 3) := dk_180 0 17 (dk_at dksX7_beginsRead_1 17 rfl rfl)
theorem dX7_beginsRead_44 : decode cX7_beginsRead 44 = .ok (.iconst 5, 1) := dk_8 (dk_at dksX7_beginsRead_1 20 rfl rfl)
theorem dX7_beginsRead_45 : decode cX7_beginsRead 45 = .ok (.sipush 5000, 3) := dk_17 19 136 (dk_at dksX7_beginsRead_1 21 rfl rfl)
theorem dX7_beginsRead_48 : decode cX7_beginsRead 48 = .ok (.iastore, 1) := dk_79 (dk_at dksX7_beginsRead_2 0 rfl rfl)
theorem dX7_beginsRead_49 : decode cX7_beginsRead 49 = .ok (.aload_n 0, 1) := dk_42 (dk_at dksX7_beginsRead_2 1 rfl rfl)
theorem dX7_beginsRead_50 : decode cX7_beginsRead 50 = .ok (.getfield 17, 3) := dk_180 0 17 (dk_at dksX7_beginsRead_2 2 rfl rfl)
theorem dX7_beginsRead_53 : decode cX7_beginsRead 53 = .ok (.bipush 6, 2) := dk_16 6 (dk_at dksX7_beginsRead_2 5 rfl rfl)
theorem dX7_beginsRead_55 : decode cX7_beginsRead 55 = .ok (.bipush 20, 2) := dk_16 20 (dk_at dksX7_beginsRead_2 7 rfl rfl)
theorem dX7_beginsRead_57 : decode cX7_beginsRead 57 = .ok (.iastore, 1) := dk_79 (dk_at dksX7_beginsRead_2 9 rfl rfl)
theorem dX7_beginsRead_58 : decode cX7_beginsRead 58 = .ok (.aload_n 0, 1) := dk_42 (dk_at dksX7_beginsRead_2 10 rfl rfl)
theorem dX7_beginsRead_59 : decode cX7_beginsRead 59 = .ok (.getfield 17, 3) := dk_180 0 17 (dk_at dksX7_beginsRead_2 11 rfl rfl)
theorem dX7_beginsRead_62 : decode cX7_beginsRead 62 = .ok (.bipush 7, 2) := dk_16 7 (dk_at dksX7_beginsRead_2 14 rfl rfl)
theorem dX7_beginsRead_64 : decode cX7_beginsRead 64 = .ok (.sipush 2000, 3) := dk_17 7 208 (dk_at dksX7_beginsRead_2 16 rfl rfl)
theorem dX7_beginsRead_67 : decode cX7_beginsRead 67 = .ok (.iastore, 1) := dk_79 (dk_at dksX7_beginsRead_2 19 rfl rfl)
theorem dX7_beginsRead_68 : decode cX7_beginsRead 68 = .ok (.aload_n 0, 1) := dk_42 (dk_at dksX7_beginsRead_2 20 rfl rfl)
theorem dX7_beginsRead_69 : decode cX7_beginsRead 69 = .ok (.getfield 17, 3) := dk_180 0 17 (dk_at dksX7_beginsRead_2 21 rfl rfl)
theorem dX7_beginsRead_72 : decode cX7_beginsRead 72 = .ok (.bipush 8, 2) := dk_16 8 (dk_at dksX7_beginsRead_3 0 rfl rfl)
theorem dX7_beginsRead_74 : decode cX7_beginsRead 74 = .ok (.sipush 500, 3) := dk_17 1 244 (dk_at dksX7_beginsRead_3 2 rfl rfl)
theorem dX7_beginsRead_77 : decode cX7_beginsRead 77 = .ok (.iastore, 1) := dk_79 (dk_at dksX7_beginsRead_3 5 rfl rfl)
theorem dX7_beginsRead_78 : decode cX7_beginsRead 78 = .ok (.aload_n 0, 1) := dk_42 (dk_at dksX7_beginsRead_3 6 rfl rfl)
theorem dX7_beginsRead_79 : decode cX7_beginsRead 79 = .ok (.getfield 17, 3) := dk_180 0 17 (dk_at dksX7_beginsRead_3 7 rfl rfl)
theorem dX7_beginsRead_82 : decode cX7_beginsRead 82 = .ok (.bipush 10, 2) := dk_16 10 (dk_at dksX7_beginsRead_3 10 rfl rfl)
theorem dX7_beginsRead_84 : decode cX7_beginsRead 84 = .ok (.bipush (-4), 2) := dk_16 252 (dk_at dksX7_beginsRead_3 12 rfl rfl)
theorem dX7_beginsRead_86 : decode cX7_beginsRead 86 = .ok (.iastore, 1) := dk_79 (dk_at dksX7_beginsRead_3 14 rfl rfl)
theorem dX7_beginsRead_87 : decode cX7_beginsRead 87 = .ok (.return_, 1) := dk_177 (dk_at dksX7_beginsRead_3 15 rfl rfl)
abbrev cX7_readNode : ByteArray := prog_22_method_10_code
def yX7_readNode : MethodName := ⟨RX7, "readNode", "(III)V"⟩
def dkwX7_readNode_3 : List UInt8 := [4, 96, 79, 177]
abbrev dktX7_readNode_3 : List UInt8 := dkwX7_readNode_3 ++ []
def dkwX7_readNode_2 : List UInt8 := [21, 4, 6, 96, 4, 79, 42, 180, 0, 17, 21, 4, 16, 9, 96, 2, 79, 42, 180, 0, 17, 5, 92, 46]
abbrev dktX7_readNode_2 : List UInt8 := dkwX7_readNode_2 ++ dktX7_readNode_3
def dkwX7_readNode_1 : List UInt8 := [42, 180, 0, 17, 21, 4, 4, 96, 28, 79, 42, 180, 0, 17, 21, 4, 5, 96, 29, 79, 42, 180, 0, 17]
abbrev dktX7_readNode_1 : List UInt8 := dkwX7_readNode_1 ++ dktX7_readNode_2
def dkwX7_readNode_0 : List UInt8 := [16, 40, 16, 20, 42, 180, 0, 17, 5, 46, 104, 96, 54, 4, 42, 180, 0, 17, 21, 4, 3, 96, 27, 79]
abbrev dktX7_readNode_0 : List UInt8 := dkwX7_readNode_0 ++ dktX7_readNode_1
theorem dksX7_readNode_0 : cX7_readNode.data.toList.drop 0 = dktX7_readNode_0 := by decide +kernel
theorem dksX7_readNode_1 : cX7_readNode.data.toList.drop 24 = dktX7_readNode_1 := dk_seg dksX7_readNode_0 24 rfl rfl
theorem dksX7_readNode_2 : cX7_readNode.data.toList.drop 48 = dktX7_readNode_2 := dk_seg dksX7_readNode_1 24 rfl rfl
theorem dksX7_readNode_3 : cX7_readNode.data.toList.drop 72 = dktX7_readNode_3 := dk_seg dksX7_readNode_2 24 rfl rfl
theorem dX7_readNode_0 : decode cX7_readNode 0 = .ok (.bipush 40, 2) := dk_16 40 (dk_at dksX7_readNode_0 0 rfl rfl)
theorem dX7_readNode_2 : decode cX7_readNode 2 = .ok (.bipush 20, 2) := dk_16 20 (dk_at dksX7_readNode_0 2 rfl rfl)
theorem dX7_readNode_4 : decode cX7_readNode 4 = .ok (.aload_n 0, 1) := dk_42 (dk_at dksX7_readNode_0 4 rfl rfl)
theorem dX7_readNode_5 : decode cX7_readNode 5 = .ok (.getfield 17, 3) := dk_180 0 17 (dk_at dksX7_readNode_0 5 rfl rfl)
theorem dX7_readNode_8 : decode cX7_readNode 8 = .ok (.iconst 2, 1) := dk_5 (dk_at dksX7_readNode_0 8 rfl rfl)
theorem dX7_readNode_9 : decode cX7_readNode 9 = .ok (.iaload, 1) := dk_46 (dk_at dksX7_readNode_0 9 rfl rfl)
theorem dX7_readNode_10 : decode cX7_readNode 10 = .ok (.imul, 1) := dk_104 (dk_at dksX7_readNode_0 10 rfl rfl)
theorem dX7_readNode_11 : decode cX7_readNode 11 = .ok (.iadd, 1) := dk_96 (dk_at dksX7_readNode_0 11 rfl rfl)
theorem dX7_readNode_12 : decode cX7_readNode 12 = .ok (.istore 4, 2) := dk_54 4 (dk_at dksX7_readNode_0 12 rfl rfl)
theorem dX7_readNode_14 : decode cX7_readNode 14 = .ok (.aload_n 0, 1) := dk_42 (dk_at dksX7_readNode_0 14 rfl rfl)
theorem dX7_readNode_15 : decode cX7_readNode 15 = .ok (.getfield 17, 3) := dk_180 0 17 (dk_at dksX7_readNode_0 15 rfl rfl)
theorem dX7_readNode_18 : decode cX7_readNode 18 = .ok (.iload 4, 2) := dk_21 4 (dk_at dksX7_readNode_0 18 rfl rfl)
theorem dX7_readNode_20 : decode cX7_readNode 20 = .ok (.iconst 0, 1) := dk_3 (dk_at dksX7_readNode_0 20 rfl rfl)
theorem dX7_readNode_21 : decode cX7_readNode 21 = .ok (.iadd, 1) := dk_96 (dk_at dksX7_readNode_0 21 rfl rfl)
theorem dX7_readNode_22 : decode cX7_readNode 22 = .ok (.iload_n 1, 1) := dk_27 (dk_at dksX7_readNode_0 22 rfl rfl)
theorem dX7_readNode_23 : decode cX7_readNode 23 = .ok (.iastore, 1) := dk_79 (dk_at dksX7_readNode_0 23 rfl rfl)
theorem dX7_readNode_24 : decode cX7_readNode 24 = .ok (.aload_n 0, 1) := dk_42 (dk_at dksX7_readNode_1 0 rfl rfl)
theorem dX7_readNode_25 : decode cX7_readNode 25 = .ok (.getfield 17, 3) := dk_180 0 17 (dk_at dksX7_readNode_1 1 rfl rfl)
theorem dX7_readNode_28 : decode cX7_readNode 28 = .ok (.iload 4, 2) := dk_21 4 (dk_at dksX7_readNode_1 4 rfl rfl)
theorem dX7_readNode_30 : decode cX7_readNode 30 = .ok (.iconst 1, 1) := dk_4 (dk_at dksX7_readNode_1 6 rfl rfl)
theorem dX7_readNode_31 : decode cX7_readNode 31 = .ok (.iadd, 1) := dk_96 (dk_at dksX7_readNode_1 7 rfl rfl)
theorem dX7_readNode_32 : decode cX7_readNode 32 = .ok (.iload_n 2, 1) := dk_28 (dk_at dksX7_readNode_1 8 rfl rfl)
theorem dX7_readNode_33 : decode cX7_readNode 33 = .ok (.iastore, 1) := dk_79 (dk_at dksX7_readNode_1 9 rfl rfl)
theorem dX7_readNode_34 : decode cX7_readNode 34 = .ok (.aload_n 0, 1) := dk_42 (dk_at dksX7_readNode_1 10 rfl rfl)
theorem dX7_readNode_35 : decode cX7_readNode 35 = .ok (.getfield 17, 3) := dk_180 0 17 (dk_at dksX7_readNode_1 11 rfl rfl)
theorem dX7_readNode_38 : decode cX7_readNode 38 = .ok (.iload 4, 2) := dk_21 4 (dk_at dksX7_readNode_1 14 rfl rfl)
theorem dX7_readNode_40 : decode cX7_readNode 40 = .ok (.iconst 2, 1) := dk_5 (dk_at dksX7_readNode_1 16 rfl rfl)
theorem dX7_readNode_41 : decode cX7_readNode 41 = .ok (.iadd, 1) := dk_96 (dk_at dksX7_readNode_1 17 rfl rfl)
theorem dX7_readNode_42 : decode cX7_readNode 42 = .ok (.iload_n 3, 1) := dk_29 (dk_at dksX7_readNode_1 18 rfl rfl)
theorem dX7_readNode_43 : decode cX7_readNode 43 = .ok (.iastore, 1) := dk_79 (dk_at dksX7_readNode_1 19 rfl rfl)
theorem dX7_readNode_44 : decode cX7_readNode 44 = .ok (.aload_n 0, 1) := dk_42 (dk_at dksX7_readNode_1 20 rfl rfl)
theorem dX7_readNode_45 : decode cX7_readNode 45 = .ok (.getfield 17, 3) := dk_180 0 17 (dk_at dksX7_readNode_1 21 rfl rfl)
theorem dX7_readNode_48 : decode cX7_readNode 48 = .ok (.iload 4, 2) := dk_21 4 (dk_at dksX7_readNode_2 0 rfl rfl)
theorem dX7_readNode_50 : decode cX7_readNode 50 = .ok (.iconst 3, 1) := dk_6 (dk_at dksX7_readNode_2 2 rfl rfl)
theorem dX7_readNode_51 : decode cX7_readNode 51 = .ok (.iadd, 1) := dk_96 (dk_at dksX7_readNode_2 3 rfl rfl)
theorem dX7_readNode_52 : decode cX7_readNode 52 = .ok (.iconst 1, 1) := dk_4 (dk_at dksX7_readNode_2 4 rfl rfl)
theorem dX7_readNode_53 : decode cX7_readNode 53 = .ok (.iastore, 1) := dk_79 (dk_at dksX7_readNode_2 5 rfl rfl)
theorem dX7_readNode_54 : decode cX7_readNode 54 = .ok (.aload_n 0, 1) := dk_42 (dk_at dksX7_readNode_2 6 rfl rfl)
theorem dX7_readNode_55 : decode cX7_readNode 55 = .ok (.getfield 17, 3) := dk_180 0 17 (dk_at dksX7_readNode_2 7 rfl rfl)
theorem dX7_readNode_58 : decode cX7_readNode 58 = .ok (.iload 4, 2) := dk_21 4 (dk_at dksX7_readNode_2 10 rfl rfl)
theorem dX7_readNode_60 : decode cX7_readNode 60 = .ok (.bipush 9, 2) := dk_16 9 (dk_at dksX7_readNode_2 12 rfl rfl)
theorem dX7_readNode_62 : decode cX7_readNode 62 = .ok (.iadd, 1) := dk_96 (dk_at dksX7_readNode_2 14 rfl rfl)
theorem dX7_readNode_63 : decode cX7_readNode 63 = .ok (.iconst (-1), 1) := dk_2 (dk_at dksX7_readNode_2 15 rfl rfl)
theorem dX7_readNode_64 : decode cX7_readNode 64 = .ok (.iastore, 1) := dk_79 (dk_at dksX7_readNode_2 16 rfl rfl)
theorem dX7_readNode_65 : decode cX7_readNode 65 = .ok (.aload_n 0, 1) := dk_42 (dk_at dksX7_readNode_2 17 rfl rfl)
theorem dX7_readNode_66 : decode cX7_readNode 66 = .ok (.getfield 17, 3) := dk_180 0 17 (dk_at dksX7_readNode_2 18 rfl rfl)
theorem dX7_readNode_69 : decode cX7_readNode 69 = .ok (.iconst 2, 1) := dk_5 (dk_at dksX7_readNode_2 21 rfl rfl)
theorem dX7_readNode_70 : decode cX7_readNode 70 = .ok (.dup2, 1) := dk_92 (dk_at dksX7_readNode_2 22 rfl rfl)
theorem dX7_readNode_71 : decode cX7_readNode 71 = .ok (.iaload, 1) := dk_46 (dk_at dksX7_readNode_2 23 rfl rfl)
theorem dX7_readNode_72 : decode cX7_readNode 72 = .ok (.iconst 1, 1) := dk_4 (dk_at dksX7_readNode_3 0 rfl rfl)
theorem dX7_readNode_73 : decode cX7_readNode 73 = .ok (.iadd, 1) := dk_96 (dk_at dksX7_readNode_3 1 rfl rfl)
theorem dX7_readNode_74 : decode cX7_readNode 74 = .ok (.iastore, 1) := dk_79 (dk_at dksX7_readNode_3 2 rfl rfl)
theorem dX7_readNode_75 : decode cX7_readNode 75 = .ok (.return_, 1) := dk_177 (dk_at dksX7_readNode_3 3 rfl rfl)
abbrev cX7_takesRead : ByteArray := prog_22_method_11_code
def yX7_takesRead : MethodName := ⟨RX7, "takesRead", "()V"⟩
def dkwX7_takesRead_1 : List UInt8 := [180, 0, 17, 27, 46, 167, 0, 4, 3, 79, 132, 1, 1, 167, 255, 222, 177]
abbrev dktX7_takesRead_1 : List UInt8 := dkwX7_takesRead_1 ++ []
def dkwX7_takesRead_0 : List UInt8 := [3, 60, 27, 18, 9, 162, 0, 34, 42, 180, 0, 10, 27, 27, 42, 180, 0, 17, 190, 162, 0, 12, 42]
abbrev dktX7_takesRead_0 : List UInt8 := dkwX7_takesRead_0 ++ dktX7_takesRead_1
theorem dksX7_takesRead_0 : cX7_takesRead.data.toList.drop 0 = dktX7_takesRead_0 := by decide +kernel
theorem dksX7_takesRead_1 : cX7_takesRead.data.toList.drop 23 = dktX7_takesRead_1 := dk_seg dksX7_takesRead_0 23 rfl rfl
theorem dX7_takesRead_0 : decode cX7_takesRead 0 = .ok (.iconst 0, 1) := dk_3 (dk_at dksX7_takesRead_0 0 rfl rfl)
theorem dX7_takesRead_1 : decode cX7_takesRead 1 = .ok (.istore_n 1, 1) := dk_60 (dk_at dksX7_takesRead_0 1 rfl rfl)
theorem dX7_takesRead_2 : decode cX7_takesRead 2 = .ok (.iload_n 1, 1) := dk_27 (dk_at dksX7_takesRead_0 2 rfl rfl)
theorem dX7_takesRead_3 : decode cX7_takesRead 3 = .ok (.ldc 9, 2) := dk_18 9 (dk_at dksX7_takesRead_0 3 rfl rfl)
theorem dX7_takesRead_5 : decode cX7_takesRead 5 = .ok (.if_icmp .ge 34, 3) := dk_162 0 34 (dk_at dksX7_takesRead_0 5 rfl rfl)
theorem dX7_takesRead_8 : decode cX7_takesRead 8 = .ok (.aload_n 0, 1) := dk_42 (dk_at dksX7_takesRead_0 8 rfl rfl)
theorem dX7_takesRead_9 : decode cX7_takesRead 9 = .ok (.getfield 10, 3) := dk_180 0 10 (dk_at dksX7_takesRead_0 9 rfl rfl)
theorem dX7_takesRead_12 : decode cX7_takesRead 12 = .ok (.iload_n 1, 1) := dk_27 (dk_at dksX7_takesRead_0 12 rfl rfl)
theorem dX7_takesRead_13 : decode cX7_takesRead 13 = .ok (.iload_n 1, 1) := dk_27 (dk_at dksX7_takesRead_0 13 rfl rfl)
theorem dX7_takesRead_14 : decode cX7_takesRead 14 = .ok (.aload_n 0, 1) := dk_42 (dk_at dksX7_takesRead_0 14 rfl rfl)
theorem dX7_takesRead_15 : decode cX7_takesRead 15 = .ok (.getfield 17, 3) := dk_180 0 17 (dk_at dksX7_takesRead_0 15 rfl rfl)
theorem dX7_takesRead_18 : decode cX7_takesRead 18 = .ok (.arraylength, 1) := dk_190 (dk_at dksX7_takesRead_0 18 rfl rfl)
theorem dX7_takesRead_19 : decode cX7_takesRead 19 = .ok (.if_icmp .ge 12, 3) := dk_162 0 12 (dk_at dksX7_takesRead_0 19 rfl rfl)
theorem dX7_takesRead_22 : decode cX7_takesRead 22 = .ok (.aload_n 0, 1) := dk_42 (dk_at dksX7_takesRead_0 22 rfl rfl)
theorem dX7_takesRead_23 : decode cX7_takesRead 23 = .ok (.getfield 17, 3) := dk_180 0 17 (dk_at dksX7_takesRead_1 0 rfl rfl)
theorem dX7_takesRead_26 : decode cX7_takesRead 26 = .ok (.iload_n 1, 1) := dk_27 (dk_at dksX7_takesRead_1 3 rfl rfl)
theorem dX7_takesRead_27 : decode cX7_takesRead 27 = .ok (.iaload, 1) := dk_46 (dk_at dksX7_takesRead_1 4 rfl rfl)
theorem dX7_takesRead_28 : decode cX7_takesRead 28 = .ok (.goto 4, 3) := dk_167 0 4 (dk_at dksX7_takesRead_1 5 rfl rfl)
theorem dX7_takesRead_31 : decode cX7_takesRead 31 = .ok (.iconst 0, 1) := dk_3 (dk_at dksX7_takesRead_1 8 rfl rfl)
theorem dX7_takesRead_32 : decode cX7_takesRead 32 = .ok (.iastore, 1) := dk_79 (dk_at dksX7_takesRead_1 9 rfl rfl)
theorem dX7_takesRead_33 : decode cX7_takesRead 33 = .ok (.iinc 1 1, 3) := dk_132 1 1 (dk_at dksX7_takesRead_1 10 rfl rfl)
theorem dX7_takesRead_36 : decode cX7_takesRead 36 = .ok (.goto (-34), 3) := dk_167 255 222 (dk_at dksX7_takesRead_1 13 rfl rfl)
theorem dX7_takesRead_39 : decode cX7_takesRead 39 = .ok (.return_, 1) := dk_177 (dk_at dksX7_takesRead_1 16 rfl rfl)
abbrev cX7_thrown : ByteArray := prog_22_method_2_code
def yX7_thrown : MethodName := ⟨RX7, "thrown", "()I"⟩
theorem dX7_thrown_0 : decode cX7_thrown 0 = .ok (.aload_n 0, 1) := by decide +kernel
theorem dX7_thrown_1 : decode cX7_thrown 1 = .ok (.getfield 65, 3) := by decide +kernel
theorem dX7_thrown_4 : decode cX7_thrown 4 = .ok (.ireturn, 1) := by decide +kernel
abbrev cX7_appendByte : ByteArray := prog_22_method_8_code
def yX7_appendByte : MethodName := ⟨RX7, "appendByte", "(I)I"⟩
def dkwX7_appendByte_2 : List UInt8 := [180, 0, 14, 42, 180, 0, 78, 27, 79, 42, 89, 180, 0, 78, 4, 96, 181, 0, 78, 42, 180, 0, 78, 172]
abbrev dktX7_appendByte_2 : List UInt8 := dkwX7_appendByte_2 ++ []
def dkwX7_appendByte_1 : List UInt8 := [182, 0, 72, 153, 0, 5, 3, 172, 42, 180, 0, 78, 17, 1, 144, 160, 0, 6, 16, 251, 172, 42]
abbrev dktX7_appendByte_1 : List UInt8 := dkwX7_appendByte_1 ++ dktX7_appendByte_2
def dkwX7_appendByte_0 : List UInt8 := [42, 3, 181, 0, 65, 42, 27, 133, 9, 20, 0, 76, 184, 0, 68, 154, 0, 7, 4, 167, 0, 4, 3, 4]
abbrev dktX7_appendByte_0 : List UInt8 := dkwX7_appendByte_0 ++ dktX7_appendByte_1
theorem dksX7_appendByte_0 : cX7_appendByte.data.toList.drop 0 = dktX7_appendByte_0 := by decide +kernel
theorem dksX7_appendByte_1 : cX7_appendByte.data.toList.drop 24 = dktX7_appendByte_1 := dk_seg dksX7_appendByte_0 24 rfl rfl
theorem dksX7_appendByte_2 : cX7_appendByte.data.toList.drop 46 = dktX7_appendByte_2 := dk_seg dksX7_appendByte_1 22 rfl rfl
theorem dX7_appendByte_0 : decode cX7_appendByte 0 = .ok (.aload_n 0, 1) := dk_42 (dk_at dksX7_appendByte_0 0 rfl rfl)
theorem dX7_appendByte_1 : decode cX7_appendByte 1 = .ok (.iconst 0, 1) := dk_3 (dk_at dksX7_appendByte_0 1 rfl rfl)
theorem dX7_appendByte_2 : decode cX7_appendByte 2 = .ok (.putfield 65, 3) := dk_181 0 65 (dk_at dksX7_appendByte_0 2 rfl rfl)
theorem dX7_appendByte_5 : decode cX7_appendByte 5 = .ok (.aload_n 0, 1) := dk_42 (dk_at dksX7_appendByte_0 5 rfl rfl)
theorem dX7_appendByte_6 : decode cX7_appendByte 6 = .ok (.iload_n 1, 1) := dk_27 (dk_at dksX7_appendByte_0 6 rfl rfl)
theorem dX7_appendByte_7 : decode cX7_appendByte 7 = .ok (.i2l, 1) := dk_133 (dk_at dksX7_appendByte_0 7 rfl rfl)
theorem dX7_appendByte_8 : decode cX7_appendByte 8 = .ok (.lconst 0, 1) := dk_9 (dk_at dksX7_appendByte_0 8 rfl rfl)
theorem dX7_appendByte_9 : decode cX7_appendByte 9 = .ok (.ldc2_w 76, 3) := dk_20 0 76 (dk_at dksX7_appendByte_0 9 rfl rfl)
theorem dX7_appendByte_12 : decode cX7_appendByte 12 = .ok (.invokestatic 68, 3) := dk_184 0 68 (dk_at dksX7_appendByte_0 12 rfl rfl)
theorem dX7_appendByte_15 : decode cX7_appendByte 15 = .ok (.ifCond .ne 7, 3) := dk_154 0 7 (dk_at dksX7_appendByte_0 15 rfl rfl)
theorem dX7_appendByte_18 : decode cX7_appendByte 18 = .ok (.iconst 1, 1) := dk_4 (dk_at dksX7_appendByte_0 18 rfl rfl)
theorem dX7_appendByte_19 : decode cX7_appendByte 19 = .ok (.goto 4, 3) := dk_167 0 4 (dk_at dksX7_appendByte_0 19 rfl rfl)
theorem dX7_appendByte_22 : decode cX7_appendByte 22 = .ok (.iconst 0, 1) := dk_3 (dk_at dksX7_appendByte_0 22 rfl rfl)
theorem dX7_appendByte_23 : decode cX7_appendByte 23 = .ok (.iconst 1, 1) := dk_4 (dk_at dksX7_appendByte_0 23 rfl rfl)
theorem dX7_appendByte_24 : decode cX7_appendByte 24 = .ok (.invokevirtual 72, 3) := dk_182 0 72 (dk_at dksX7_appendByte_1 0 rfl rfl)
theorem dX7_appendByte_27 : decode cX7_appendByte 27 = .ok (.ifCond .eq 5, 3) := dk_153 0 5 (dk_at dksX7_appendByte_1 3 rfl rfl)
theorem dX7_appendByte_30 : decode cX7_appendByte 30 = .ok (.iconst 0, 1) := dk_3 (dk_at dksX7_appendByte_1 6 rfl rfl)
theorem dX7_appendByte_31 : decode cX7_appendByte 31 = .ok (.ireturn, 1) := dk_172 (dk_at dksX7_appendByte_1 7 rfl rfl)
theorem dX7_appendByte_32 : decode cX7_appendByte 32 = .ok (.aload_n 0, 1) := dk_42 (dk_at dksX7_appendByte_1 8 rfl rfl)
theorem dX7_appendByte_33 : decode cX7_appendByte 33 = .ok (.getfield 78, 3) := dk_180 0 78 (dk_at dksX7_appendByte_1 9 rfl rfl)
theorem dX7_appendByte_36 : decode cX7_appendByte 36 = .ok (.sipush 400, 3) := dk_17 1 144 (dk_at dksX7_appendByte_1 12 rfl rfl)
theorem dX7_appendByte_39 : decode cX7_appendByte 39 = .ok (.if_icmp .ne 6, 3) := dk_160 0 6 (dk_at dksX7_appendByte_1 15 rfl rfl)
theorem dX7_appendByte_42 : decode cX7_appendByte 42 = .ok (.bipush (-5), 2) := dk_16 251 (dk_at dksX7_appendByte_1 18 rfl rfl)
theorem dX7_appendByte_44 : decode cX7_appendByte 44 = .ok (.ireturn, 1) := dk_172 (dk_at dksX7_appendByte_1 20 rfl rfl)
theorem dX7_appendByte_45 : decode cX7_appendByte 45 = .ok (.aload_n 0, 1) := dk_42 (dk_at dksX7_appendByte_1 21 rfl rfl)
theorem dX7_appendByte_46 : decode cX7_appendByte 46 = .ok (.getfield 14, 3) := dk_180 0 14 (dk_at dksX7_appendByte_2 0 rfl rfl)
theorem dX7_appendByte_49 : decode cX7_appendByte 49 = .ok (.aload_n 0, 1) := dk_42 (dk_at dksX7_appendByte_2 3 rfl rfl)
theorem dX7_appendByte_50 : decode cX7_appendByte 50 = .ok (.getfield 78, 3) := dk_180 0 78 (dk_at dksX7_appendByte_2 4 rfl rfl)
theorem dX7_appendByte_53 : decode cX7_appendByte 53 = .ok (.iload_n 1, 1) := dk_27 (dk_at dksX7_appendByte_2 7 rfl rfl)
theorem dX7_appendByte_54 : decode cX7_appendByte 54 = .ok (.iastore, 1) := dk_79 (dk_at dksX7_appendByte_2 8 rfl rfl)
theorem dX7_appendByte_55 : decode cX7_appendByte 55 = .ok (.aload_n 0, 1) := dk_42 (dk_at dksX7_appendByte_2 9 rfl rfl)
theorem dX7_appendByte_56 : decode cX7_appendByte 56 = .ok (.dup, 1) := dk_89 (dk_at dksX7_appendByte_2 10 rfl rfl)
theorem dX7_appendByte_57 : decode cX7_appendByte 57 = .ok (.getfield 78, 3) := dk_180 0 78 (dk_at dksX7_appendByte_2 11 rfl rfl)
theorem dX7_appendByte_60 : decode cX7_appendByte 60 = .ok (.iconst 1, 1) := dk_4 (dk_at dksX7_appendByte_2 14 rfl rfl)
theorem dX7_appendByte_61 : decode cX7_appendByte 61 = .ok (.iadd, 1) := dk_96 (dk_at dksX7_appendByte_2 15 rfl rfl)
theorem dX7_appendByte_62 : decode cX7_appendByte 62 = .ok (.putfield 78, 3) := dk_181 0 78 (dk_at dksX7_appendByte_2 16 rfl rfl)
theorem dX7_appendByte_65 : decode cX7_appendByte 65 = .ok (.aload_n 0, 1) := dk_42 (dk_at dksX7_appendByte_2 19 rfl rfl)
theorem dX7_appendByte_66 : decode cX7_appendByte 66 = .ok (.getfield 78, 3) := dk_180 0 78 (dk_at dksX7_appendByte_2 20 rfl rfl)
theorem dX7_appendByte_69 : decode cX7_appendByte 69 = .ok (.ireturn, 1) := dk_172 (dk_at dksX7_appendByte_2 23 rfl rfl)
abbrev cX7_in : ByteArray := prog_22_method_3_code
def yX7_in : MethodName := ⟨RX7, "in", "(JJJ)Z"⟩
def dkwX7_in_0 : List UInt8 := [30, 32, 148, 155, 0, 14, 30, 22, 4, 148, 157, 0, 7, 4, 167, 0, 4, 3, 172]
abbrev dktX7_in_0 : List UInt8 := dkwX7_in_0 ++ []
theorem dksX7_in_0 : cX7_in.data.toList.drop 0 = dktX7_in_0 := by decide +kernel
theorem dX7_in_0 : decode cX7_in 0 = .ok (.lload_n 0, 1) := dk_30 (dk_at dksX7_in_0 0 rfl rfl)
theorem dX7_in_1 : decode cX7_in 1 = .ok (.lload_n 2, 1) := dk_32 (dk_at dksX7_in_0 1 rfl rfl)
theorem dX7_in_2 : decode cX7_in 2 = .ok (.lcmp, 1) := dk_148 (dk_at dksX7_in_0 2 rfl rfl)
theorem dX7_in_3 : decode cX7_in 3 = .ok (.ifCond .lt 14, 3) := dk_155 0 14 (dk_at dksX7_in_0 3 rfl rfl)
theorem dX7_in_6 : decode cX7_in 6 = .ok (.lload_n 0, 1) := dk_30 (dk_at dksX7_in_0 6 rfl rfl)
theorem dX7_in_7 : decode cX7_in 7 = .ok (.lload 4, 2) := dk_22 4 (dk_at dksX7_in_0 7 rfl rfl)
theorem dX7_in_9 : decode cX7_in 9 = .ok (.lcmp, 1) := dk_148 (dk_at dksX7_in_0 9 rfl rfl)
theorem dX7_in_10 : decode cX7_in 10 = .ok (.ifCond .gt 7, 3) := dk_157 0 7 (dk_at dksX7_in_0 10 rfl rfl)
theorem dX7_in_13 : decode cX7_in 13 = .ok (.iconst 1, 1) := dk_4 (dk_at dksX7_in_0 13 rfl rfl)
theorem dX7_in_14 : decode cX7_in 14 = .ok (.goto 4, 3) := dk_167 0 4 (dk_at dksX7_in_0 14 rfl rfl)
theorem dX7_in_17 : decode cX7_in 17 = .ok (.iconst 0, 1) := dk_3 (dk_at dksX7_in_0 17 rfl rfl)
theorem dX7_in_18 : decode cX7_in 18 = .ok (.ireturn, 1) := dk_172 (dk_at dksX7_in_0 18 rfl rfl)
abbrev cX7_throwsIf : ByteArray := prog_22_method_4_code
def yX7_throwsIf : MethodName := ⟨RX7, "throwsIf", "(ZI)Z"⟩
def dkwX7_throwsIf_1 : List UInt8 := [167, 0, 4, 3, 172]
abbrev dktX7_throwsIf_1 : List UInt8 := dkwX7_throwsIf_1 ++ []
def dkwX7_throwsIf_0 : List UInt8 := [42, 180, 0, 65, 154, 0, 12, 27, 153, 0, 8, 42, 28, 181, 0, 65, 42, 180, 0, 65, 153, 0, 7, 4]
abbrev dktX7_throwsIf_0 : List UInt8 := dkwX7_throwsIf_0 ++ dktX7_throwsIf_1
theorem dksX7_throwsIf_0 : cX7_throwsIf.data.toList.drop 0 = dktX7_throwsIf_0 := by decide +kernel
theorem dksX7_throwsIf_1 : cX7_throwsIf.data.toList.drop 24 = dktX7_throwsIf_1 := dk_seg dksX7_throwsIf_0 24 rfl rfl
theorem dX7_throwsIf_0 : decode cX7_throwsIf 0 = .ok (.aload_n 0, 1) := dk_42 (dk_at dksX7_throwsIf_0 0 rfl rfl)
theorem dX7_throwsIf_1 : decode cX7_throwsIf 1 = .ok (.getfield 65, 3) := dk_180 0 65 (dk_at dksX7_throwsIf_0 1 rfl rfl)
theorem dX7_throwsIf_4 : decode cX7_throwsIf 4 = .ok (.ifCond .ne 12, 3) := dk_154 0 12 (dk_at dksX7_throwsIf_0 4 rfl rfl)
theorem dX7_throwsIf_7 : decode cX7_throwsIf 7 = .ok (.iload_n 1, 1) := dk_27 (dk_at dksX7_throwsIf_0 7 rfl rfl)
theorem dX7_throwsIf_8 : decode cX7_throwsIf 8 = .ok (.ifCond .eq 8, 3) := dk_153 0 8 (dk_at dksX7_throwsIf_0 8 rfl rfl)
theorem dX7_throwsIf_11 : decode cX7_throwsIf 11 = .ok (.aload_n 0, 1) := dk_42 (dk_at dksX7_throwsIf_0 11 rfl rfl)
theorem dX7_throwsIf_12 : decode cX7_throwsIf 12 = .ok (.iload_n 2, 1) := dk_28 (dk_at dksX7_throwsIf_0 12 rfl rfl)
theorem dX7_throwsIf_13 : decode cX7_throwsIf 13 = .ok (.putfield 65, 3) := dk_181 0 65 (dk_at dksX7_throwsIf_0 13 rfl rfl)
theorem dX7_throwsIf_16 : decode cX7_throwsIf 16 = .ok (.aload_n 0, 1) := dk_42 (dk_at dksX7_throwsIf_0 16 rfl rfl)
theorem dX7_throwsIf_17 : decode cX7_throwsIf 17 = .ok (.getfield 65, 3) := dk_180 0 65 (dk_at dksX7_throwsIf_0 17 rfl rfl)
theorem dX7_throwsIf_20 : decode cX7_throwsIf 20 = .ok (.ifCond .eq 7, 3) := dk_153 0 7 (dk_at dksX7_throwsIf_0 20 rfl rfl)
theorem dX7_throwsIf_23 : decode cX7_throwsIf 23 = .ok (.iconst 1, 1) := dk_4 (dk_at dksX7_throwsIf_0 23 rfl rfl)
theorem dX7_throwsIf_24 : decode cX7_throwsIf 24 = .ok (.goto 4, 3) := dk_167 0 4 (dk_at dksX7_throwsIf_1 0 rfl rfl)
theorem dX7_throwsIf_27 : decode cX7_throwsIf 27 = .ok (.iconst 0, 1) := dk_3 (dk_at dksX7_throwsIf_1 3 rfl rfl)
theorem dX7_throwsIf_28 : decode cX7_throwsIf 28 = .ok (.ireturn, 1) := dk_172 (dk_at dksX7_throwsIf_1 4 rfl rfl)
abbrev cX7_load : ByteArray := prog_22_method_19_code
def yX7_load : MethodName := ⟨RX7, "load", "()I"⟩
def dkwX7_load_6 : List UInt8 := [16, 156, 42, 180, 0, 94, 100, 172, 42, 182, 0, 62, 42, 180, 0, 10, 5, 46, 172]
abbrev dktX7_load_6 : List UInt8 := dkwX7_load_6 ++ []
def dkwX7_load_5 : List UInt8 := [182, 0, 114, 42, 3, 181, 0, 78, 42, 42, 180, 0, 91, 181, 0, 147, 42, 180, 0, 91, 153, 0, 11]
abbrev dktX7_load_5 : List UInt8 := dkwX7_load_5 ++ dktX7_load_6
def dkwX7_load_4 : List UInt8 := [4, 182, 0, 114, 42, 180, 0, 91, 154, 0, 17, 42, 180, 0, 17, 5, 46, 154, 0, 8, 42, 7]
abbrev dktX7_load_4 : List UInt8 := dkwX7_load_4 ++ dktX7_load_5
def dkwX7_load_3 : List UInt8 := [96, 181, 0, 81, 167, 255, 208, 42, 180, 0, 91, 154, 0, 17, 42, 182, 0, 84, 16, 252, 159, 0, 8, 42]
abbrev dktX7_load_3 : List UInt8 := dkwX7_load_3 ++ dktX7_load_4
def dkwX7_load_2 : List UInt8 := [182, 0, 84, 16, 59, 160, 0, 7, 4, 167, 0, 4, 3, 60, 27, 153, 255, 221, 42, 89, 180, 0, 81, 4]
abbrev dktX7_load_2 : List UInt8 := dkwX7_load_2 ++ dktX7_load_3
def dkwX7_load_1 : List UInt8 := [4, 60, 27, 153, 0, 50, 42, 180, 0, 91, 154, 0, 43, 42, 182, 0, 144, 42, 182, 0, 97, 42]
abbrev dktX7_load_1 : List UInt8 := dkwX7_load_1 ++ dktX7_load_2
def dkwX7_load_0 : List UInt8 := [42, 3, 181, 0, 65, 42, 182, 0, 55, 42, 3, 181, 0, 81, 42, 3, 181, 0, 91, 42, 3, 181, 0, 131]
abbrev dktX7_load_0 : List UInt8 := dkwX7_load_0 ++ dktX7_load_1
theorem dksX7_load_0 : cX7_load.data.toList.drop 0 = dktX7_load_0 := by decide +kernel
theorem dksX7_load_1 : cX7_load.data.toList.drop 24 = dktX7_load_1 := dk_seg dksX7_load_0 24 rfl rfl
theorem dksX7_load_2 : cX7_load.data.toList.drop 46 = dktX7_load_2 := dk_seg dksX7_load_1 22 rfl rfl
theorem dksX7_load_3 : cX7_load.data.toList.drop 70 = dktX7_load_3 := dk_seg dksX7_load_2 24 rfl rfl
theorem dksX7_load_4 : cX7_load.data.toList.drop 94 = dktX7_load_4 := dk_seg dksX7_load_3 24 rfl rfl
theorem dksX7_load_5 : cX7_load.data.toList.drop 116 = dktX7_load_5 := dk_seg dksX7_load_4 22 rfl rfl
theorem dksX7_load_6 : cX7_load.data.toList.drop 139 = dktX7_load_6 := dk_seg dksX7_load_5 23 rfl rfl
theorem dX7_load_0 : decode cX7_load 0 = .ok (.aload_n 0, 1) := dk_42 (dk_at dksX7_load_0 0 rfl rfl)
theorem dX7_load_1 : decode cX7_load 1 = .ok (.iconst 0, 1) := dk_3 (dk_at dksX7_load_0 1 rfl rfl)
theorem dX7_load_2 : decode cX7_load 2 = .ok (.putfield 65, 3) := dk_181 0 65 (dk_at dksX7_load_0 2 rfl rfl)
theorem dX7_load_5 : decode cX7_load 5 = .ok (.aload_n 0, 1) := dk_42 (dk_at dksX7_load_0 5 rfl rfl)
theorem dX7_load_6 : decode cX7_load 6 = .ok (.invokevirtual 55, 3) := dk_182 0 55 (dk_at dksX7_load_0 6 rfl rfl)
theorem dX7_load_9 : decode cX7_load 9 = .ok (.aload_n 0, 1) := dk_42 (dk_at dksX7_load_0 9 rfl rfl)
theorem dX7_load_10 : decode cX7_load 10 = .ok (.iconst 0, 1) := dk_3 (dk_at dksX7_load_0 10 rfl rfl)
theorem dX7_load_11 : decode cX7_load 11 = .ok (.putfield 81, 3) := dk_181 0 81 (dk_at dksX7_load_0 11 rfl rfl)
theorem dX7_load_14 : decode cX7_load 14 = .ok (.aload_n 0, 1) := dk_42 (dk_at dksX7_load_0 14 rfl rfl)
theorem dX7_load_15 : decode cX7_load 15 = .ok (.iconst 0, 1) := dk_3 (dk_at dksX7_load_0 15 rfl rfl)
theorem dX7_load_16 : decode cX7_load 16 = .ok (.putfield 91, 3) := dk_181 0 91 (dk_at dksX7_load_0 16 rfl rfl)
theorem dX7_load_19 : decode cX7_load 19 = .ok (.aload_n 0, 1) := dk_42 (dk_at dksX7_load_0 19 rfl rfl)
theorem dX7_load_20 : decode cX7_load 20 = .ok (.iconst 0, 1) := dk_3 (dk_at dksX7_load_0 20 rfl rfl)
theorem dX7_load_21 : decode cX7_load 21 = .ok (.putfield 131, 3) := dk_181 0 131 (dk_at dksX7_load_0 21 rfl rfl)
theorem dX7_load_24 : decode cX7_load 24 = .ok (.iconst 1, 1) := dk_4 (dk_at dksX7_load_1 0 rfl rfl)
theorem dX7_load_25 : decode cX7_load 25 = .ok (.istore_n 1, 1) := dk_60 (dk_at dksX7_load_1 1 rfl rfl)
theorem dX7_load_26 : decode cX7_load 26 = .ok (.iload_n 1, 1) := dk_27 (dk_at dksX7_load_1 2 rfl rfl)
theorem dX7_load_27 : decode cX7_load 27 = .ok (.ifCond .eq 50, 3) := dk_153 0 50 (dk_at dksX7_load_1 3 rfl rfl)
theorem dX7_load_30 : decode cX7_load 30 = .ok (.aload_n 0, 1) := dk_42 (dk_at dksX7_load_1 6 rfl rfl)
theorem dX7_load_31 : decode cX7_load 31 = .ok (.getfield 91, 3) := dk_180 0 91 (dk_at dksX7_load_1 7 rfl rfl)
theorem dX7_load_34 : decode cX7_load 34 = .ok (.ifCond .ne 43, 3) := dk_154 0 43 (dk_at dksX7_load_1 10 rfl rfl)
theorem dX7_load_37 : decode cX7_load 37 = .ok (.aload_n 0, 1) := dk_42 (dk_at dksX7_load_1 13 rfl rfl)
theorem dX7_load_38 : decode cX7_load 38 = .ok (.invokevirtual 144, 3) := dk_182 0 144 (dk_at dksX7_load_1 14 rfl rfl)
theorem dX7_load_41 : decode cX7_load 41 = .ok (.aload_n 0, 1) := dk_42 (dk_at dksX7_load_1 17 rfl rfl)
theorem dX7_load_42 : decode cX7_load 42 = .ok (.invokevirtual 97, 3) := dk_182 0 97 (dk_at dksX7_load_1 18 rfl rfl)
theorem dX7_load_45 : decode cX7_load 45 = .ok (.aload_n 0, 1) := dk_42 (dk_at dksX7_load_1 21 rfl rfl)
theorem dX7_load_46 : decode cX7_load 46 = .ok (.invokevirtual 84, 3) := dk_182 0 84 (dk_at dksX7_load_2 0 rfl rfl)
theorem dX7_load_49 : decode cX7_load 49 = .ok (.bipush 59, 2) := dk_16 59 (dk_at dksX7_load_2 3 rfl rfl)
theorem dX7_load_51 : decode cX7_load 51 = .ok (.if_icmp .ne 7, 3) := dk_160 0 7 (dk_at dksX7_load_2 5 rfl rfl)
theorem dX7_load_54 : decode cX7_load 54 = .ok (.iconst 1, 1) := dk_4 (dk_at dksX7_load_2 8 rfl rfl)
theorem dX7_load_55 : decode cX7_load 55 = .ok (.goto 4, 3) := dk_167 0 4 (dk_at dksX7_load_2 9 rfl rfl)
theorem dX7_load_58 : decode cX7_load 58 = .ok (.iconst 0, 1) := dk_3 (dk_at dksX7_load_2 12 rfl rfl)
theorem dX7_load_59 : decode cX7_load 59 = .ok (.istore_n 1, 1) := dk_60 (dk_at dksX7_load_2 13 rfl rfl)
theorem dX7_load_60 : decode cX7_load 60 = .ok (.iload_n 1, 1) := dk_27 (dk_at dksX7_load_2 14 rfl rfl)
theorem dX7_load_61 : decode cX7_load 61 = .ok (.ifCond .eq (-35), 3) := dk_153 255 221 (dk_at dksX7_load_2 15 rfl rfl)
theorem dX7_load_64 : decode cX7_load 64 = .ok (.aload_n 0, 1) := dk_42 (dk_at dksX7_load_2 18 rfl rfl)
theorem dX7_load_65 : decode cX7_load 65 = .ok (.dup, 1) := dk_89 (dk_at dksX7_load_2 19 rfl rfl)
theorem dX7_load_66 : decode cX7_load 66 = .ok (.getfield 81, 3) := dk_180 0 81 (dk_at dksX7_load_2 20 rfl rfl)
theorem dX7_load_69 : decode cX7_load 69 = .ok (.iconst 1, 1) := dk_4 (dk_at dksX7_load_2 23 rfl rfl)
theorem dX7_load_70 : decode cX7_load 70 = .ok (.iadd, 1) := dk_96 (dk_at dksX7_load_3 0 rfl rfl)
theorem dX7_load_71 : decode cX7_load 71 = .ok (.putfield 81, 3) := dk_181 0 81 (dk_at dksX7_load_3 1 rfl rfl)
theorem dX7_load_74 : decode cX7_load 74 = .ok (.goto (-48), 3) := dk_167 255 208 (dk_at dksX7_load_3 4 rfl rfl)
theorem dX7_load_77 : decode cX7_load 77 = .ok (.aload_n 0, 1) := dk_42 (dk_at dksX7_load_3 7 rfl rfl)
theorem dX7_load_78 : decode cX7_load 78 = .ok (.getfield 91, 3) := dk_180 0 91 (dk_at dksX7_load_3 8 rfl rfl)
theorem dX7_load_81 : decode cX7_load 81 = .ok (.ifCond .ne 17, 3) := dk_154 0 17 (dk_at dksX7_load_3 11 rfl rfl)
theorem dX7_load_84 : decode cX7_load 84 = .ok (.aload_n 0, 1) := dk_42 (dk_at dksX7_load_3 14 rfl rfl)
theorem dX7_load_85 : decode cX7_load 85 = .ok (.invokevirtual 84, 3) := dk_182 0 84 (dk_at dksX7_load_3 15 rfl rfl)
theorem dX7_load_88 : decode cX7_load 88 = .ok (.bipush (-4), 2) := dk_16 252 (dk_at dksX7_load_3 18 rfl rfl)
theorem dX7_load_90 : decode cX7_load 90 = .ok (.if_icmp .eq 8, 3) := dk_159 0 8 (dk_at dksX7_load_3 20 rfl rfl)
theorem dX7_load_93 : decode cX7_load 93 = .ok (.aload_n 0, 1) := dk_42 (dk_at dksX7_load_3 23 rfl rfl)
theorem dX7_load_94 : decode cX7_load 94 = .ok (.iconst 1, 1) := dk_4 (dk_at dksX7_load_4 0 rfl rfl)
theorem dX7_load_95 : decode cX7_load 95 = .ok (.invokevirtual 114, 3) := dk_182 0 114 (dk_at dksX7_load_4 1 rfl rfl)
theorem dX7_load_98 : decode cX7_load 98 = .ok (.aload_n 0, 1) := dk_42 (dk_at dksX7_load_4 4 rfl rfl)
theorem dX7_load_99 : decode cX7_load 99 = .ok (.getfield 91, 3) := dk_180 0 91 (dk_at dksX7_load_4 5 rfl rfl)
theorem dX7_load_102 : decode cX7_load 102 = .ok (.ifCond .ne 17, 3) := dk_154 0 17 (dk_at dksX7_load_4 8 rfl rfl)
theorem dX7_load_105 : decode cX7_load 105 = .ok (.aload_n 0, 1) := dk_42 (dk_at dksX7_load_4 11 rfl rfl)
theorem dX7_load_106 : decode cX7_load 106 = .ok (.getfield 17, 3) := dk_180 0 17 (dk_at dksX7_load_4 12 rfl rfl)
theorem dX7_load_109 : decode cX7_load 109 = .ok (.iconst 2, 1) := dk_5 (dk_at dksX7_load_4 15 rfl rfl)
theorem dX7_load_110 : decode cX7_load 110 = .ok (.iaload, 1) := dk_46 (dk_at dksX7_load_4 16 rfl rfl)
theorem dX7_load_111 : decode cX7_load 111 = .ok (.ifCond .ne 8, 3) := dk_154 0 8 (dk_at dksX7_load_4 17 rfl rfl)
theorem dX7_load_114 : decode cX7_load 114 = .ok (.aload_n 0, 1) := dk_42 (dk_at dksX7_load_4 20 rfl rfl)
theorem dX7_load_115 : decode cX7_load 115 = .ok (.iconst 4, 1) := dk_7 (dk_at dksX7_load_4 21 rfl rfl)
theorem dX7_load_116 : decode cX7_load 116 = .ok (.invokevirtual 114, 3) := dk_182 0 114 (dk_at dksX7_load_5 0 rfl rfl)
theorem dX7_load_119 : decode cX7_load 119 = .ok (.aload_n 0, 1) := dk_42 (dk_at dksX7_load_5 3 rfl rfl)
theorem dX7_load_120 : decode cX7_load 120 = .ok (.iconst 0, 1) := dk_3 (dk_at dksX7_load_5 4 rfl rfl)
theorem dX7_load_121 : decode cX7_load 121 = .ok (.putfield 78, 3) := dk_181 0 78 (dk_at dksX7_load_5 5 rfl rfl)
theorem dX7_load_124 : decode cX7_load 124 = .ok (.aload_n 0, 1) := dk_42 (dk_at dksX7_load_5 8 rfl rfl)
theorem dX7_load_125 : decode cX7_load 125 = .ok (.aload_n 0, 1) := dk_42 (dk_at dksX7_load_5 9 rfl rfl)
theorem dX7_load_126 : decode cX7_load 126 = .ok (.getfield 91, 3) := dk_180 0 91 (dk_at dksX7_load_5 10 rfl rfl)
theorem dX7_load_129 : decode cX7_load 129 = .ok (.putfield 147, 3) := dk_181 0 147 (dk_at dksX7_load_5 13 rfl rfl)
theorem dX7_load_132 : decode cX7_load 132 = .ok (.aload_n 0, 1) := dk_42 (dk_at dksX7_load_5 16 rfl rfl)
theorem dX7_load_133 : decode cX7_load 133 = .ok (.getfield 91, 3) := dk_180 0 91 (dk_at dksX7_load_5 17 rfl rfl)
theorem dX7_load_136 : decode cX7_load 136 = .ok (.ifCond .eq 11, 3) := dk_153 0 11 (dk_at dksX7_load_5 20 rfl rfl)
theorem dX7_load_139 : decode cX7_load 139 = .ok (.bipush (-100), 2) := dk_16 156 (dk_at dksX7_load_6 0 rfl rfl)
theorem dX7_load_141 : decode cX7_load 141 = .ok (.aload_n 0, 1) := dk_42 (dk_at dksX7_load_6 2 rfl rfl)
theorem dX7_load_142 : decode cX7_load 142 = .ok (.getfield 94, 3) := dk_180 0 94 (dk_at dksX7_load_6 3 rfl rfl)
theorem dX7_load_145 : decode cX7_load 145 = .ok (.isub, 1) := dk_100 (dk_at dksX7_load_6 6 rfl rfl)
theorem dX7_load_146 : decode cX7_load 146 = .ok (.ireturn, 1) := dk_172 (dk_at dksX7_load_6 7 rfl rfl)
theorem dX7_load_147 : decode cX7_load 147 = .ok (.aload_n 0, 1) := dk_42 (dk_at dksX7_load_6 8 rfl rfl)
theorem dX7_load_148 : decode cX7_load 148 = .ok (.invokevirtual 62, 3) := dk_182 0 62 (dk_at dksX7_load_6 9 rfl rfl)
theorem dX7_load_151 : decode cX7_load 151 = .ok (.aload_n 0, 1) := dk_42 (dk_at dksX7_load_6 12 rfl rfl)
theorem dX7_load_152 : decode cX7_load 152 = .ok (.getfield 10, 3) := dk_180 0 10 (dk_at dksX7_load_6 13 rfl rfl)
theorem dX7_load_155 : decode cX7_load 155 = .ok (.iconst 2, 1) := dk_5 (dk_at dksX7_load_6 16 rfl rfl)
theorem dX7_load_156 : decode cX7_load 156 = .ok (.iaload, 1) := dk_46 (dk_at dksX7_load_6 17 rfl rfl)
theorem dX7_load_157 : decode cX7_load 157 = .ok (.ireturn, 1) := dk_172 (dk_at dksX7_load_6 18 rfl rfl)
abbrev cX7_readStatement : ByteArray := prog_22_method_17_code
def yX7_readStatement : MethodName := ⟨RX7, "readStatement", "()V"⟩
def dkwX7_readStatement_10 : List UInt8 := [182, 0, 134, 79, 167, 0, 16, 42, 180, 0, 17, 4, 42, 3, 18, 143, 182, 0, 134, 79, 177]
abbrev dktX7_readStatement_10 : List UInt8 := dkwX7_readStatement_10 ++ []
def dkwX7_readStatement_9 : List UInt8 := [16, 50, 18, 142, 182, 0, 134, 79, 167, 0, 34, 42, 180, 0, 17, 16, 9, 42, 3, 17, 3, 232]
abbrev dktX7_readStatement_9 : List UInt8 := dkwX7_readStatement_9 ++ dktX7_readStatement_10
def dkwX7_readStatement_8 : List UInt8 := [180, 0, 17, 16, 7, 42, 16, 50, 18, 142, 182, 0, 134, 79, 167, 0, 52, 42, 180, 0, 17, 16, 8, 42]
abbrev dktX7_readStatement_8 : List UInt8 := dkwX7_readStatement_8 ++ dktX7_readStatement_9
def dkwX7_readStatement_7 : List UInt8 := [18, 142, 182, 0, 134, 79, 42, 180, 0, 17, 16, 6, 42, 3, 16, 100, 182, 0, 134, 79, 167, 0, 70, 42]
abbrev dktX7_readStatement_7 : List UInt8 := dkwX7_readStatement_7 ++ dktX7_readStatement_8
def dkwX7_readStatement_6 : List UInt8 := [18, 138, 182, 0, 134, 79, 167, 0, 108, 42, 182, 0, 139, 167, 0, 101, 42, 180, 0, 17, 8, 42, 16, 100]
abbrev dktX7_readStatement_6 : List UInt8 := dkwX7_readStatement_6 ++ dktX7_readStatement_7
def dkwX7_readStatement_5 : List UInt8 := [42, 180, 0, 17, 6, 42, 17, 3, 132, 17, 4, 76, 182, 0, 134, 79, 42, 180, 0, 17, 7, 42, 3]
abbrev dktX7_readStatement_5 : List UInt8 := dkwX7_readStatement_5 ++ dktX7_readStatement_6
def dkwX7_readStatement_4 : List UInt8 := [170, 0, 0, 0, 0, 162, 0, 0, 0, 0, 0, 0, 0, 5, 0, 0, 0, 38, 0, 0, 0, 70, 0, 0, 0, 77, 0, 0, 0, 108, 0, 0, 0, 126, 0, 0, 0, 144]
abbrev dktX7_readStatement_4 : List UInt8 := dkwX7_readStatement_4 ++ dktX7_readStatement_5
def dkwX7_readStatement_3 : List UInt8 := [128, 181, 0, 131, 27]
abbrev dktX7_readStatement_3 : List UInt8 := dkwX7_readStatement_3 ++ dktX7_readStatement_4
def dkwX7_readStatement_2 : List UInt8 := [160, 0, 8, 42, 6, 182, 0, 114, 42, 180, 0, 91, 153, 0, 4, 177, 42, 89, 180, 0, 131, 4, 27, 120]
abbrev dktX7_readStatement_2 : List UInt8 := dkwX7_readStatement_2 ++ dktX7_readStatement_3
def dkwX7_readStatement_1 : List UInt8 := [180, 0, 17, 5, 46, 16, 6, 160, 0, 23, 167, 0, 15, 42, 180, 0, 131, 27, 122, 4, 126, 4]
abbrev dktX7_readStatement_1 : List UInt8 := dkwX7_readStatement_1 ++ dktX7_readStatement_2
def dkwX7_readStatement_0 : List UInt8 := [42, 182, 0, 128, 60, 27, 156, 0, 11, 42, 4, 182, 0, 114, 167, 0, 39, 27, 4, 160, 0, 17, 42]
abbrev dktX7_readStatement_0 : List UInt8 := dkwX7_readStatement_0 ++ dktX7_readStatement_1
theorem dksX7_readStatement_0 : cX7_readStatement.data.toList.drop 0 = dktX7_readStatement_0 := by decide +kernel
theorem dksX7_readStatement_1 : cX7_readStatement.data.toList.drop 23 = dktX7_readStatement_1 := dk_seg dksX7_readStatement_0 23 rfl rfl
theorem dksX7_readStatement_2 : cX7_readStatement.data.toList.drop 45 = dktX7_readStatement_2 := dk_seg dksX7_readStatement_1 22 rfl rfl
theorem dksX7_readStatement_3 : cX7_readStatement.data.toList.drop 69 = dktX7_readStatement_3 := dk_seg dksX7_readStatement_2 24 rfl rfl
theorem dksX7_readStatement_4 : cX7_readStatement.data.toList.drop 74 = dktX7_readStatement_4 := dk_seg dksX7_readStatement_3 5 rfl rfl
theorem dksX7_readStatement_5 : cX7_readStatement.data.toList.drop 112 = dktX7_readStatement_5 := dk_seg dksX7_readStatement_4 38 rfl rfl
theorem dksX7_readStatement_6 : cX7_readStatement.data.toList.drop 135 = dktX7_readStatement_6 := dk_seg dksX7_readStatement_5 23 rfl rfl
theorem dksX7_readStatement_7 : cX7_readStatement.data.toList.drop 159 = dktX7_readStatement_7 := dk_seg dksX7_readStatement_6 24 rfl rfl
theorem dksX7_readStatement_8 : cX7_readStatement.data.toList.drop 183 = dktX7_readStatement_8 := dk_seg dksX7_readStatement_7 24 rfl rfl
theorem dksX7_readStatement_9 : cX7_readStatement.data.toList.drop 207 = dktX7_readStatement_9 := dk_seg dksX7_readStatement_8 24 rfl rfl
theorem dksX7_readStatement_10 : cX7_readStatement.data.toList.drop 229 = dktX7_readStatement_10 := dk_seg dksX7_readStatement_9 22 rfl rfl
theorem dX7_readStatement_0 : decode cX7_readStatement 0 = .ok (.aload_n 0, 1) := dk_42 (dk_at dksX7_readStatement_0 0 rfl rfl)
theorem dX7_readStatement_1 : decode cX7_readStatement 1 = .ok (.invokevirtual 128, 3) := dk_182 0 128 (dk_at dksX7_readStatement_0 1 rfl rfl)
theorem dX7_readStatement_4 : decode cX7_readStatement 4 = .ok (.istore_n 1, 1) := dk_60 (dk_at dksX7_readStatement_0 4 rfl rfl)
theorem dX7_readStatement_5 : decode cX7_readStatement 5 = .ok (.iload_n 1, 1) := dk_27 (dk_at dksX7_readStatement_0 5 rfl rfl)
theorem dX7_readStatement_6 : decode cX7_readStatement 6 = .ok (.ifCond .ge 11, 3) := dk_156 0 11 (dk_at dksX7_readStatement_0 6 rfl rfl)
theorem dX7_readStatement_9 : decode cX7_readStatement 9 = .ok (.aload_n 0, 1) := dk_42 (dk_at dksX7_readStatement_0 9 rfl rfl)
theorem dX7_readStatement_10 : decode cX7_readStatement 10 = .ok (.iconst 1, 1) := dk_4 (dk_at dksX7_readStatement_0 10 rfl rfl)
theorem dX7_readStatement_11 : decode cX7_readStatement 11 = .ok (.invokevirtual 114, 3) := dk_182 0 114 (dk_at dksX7_readStatement_0 11 rfl rfl)
theorem dX7_readStatement_14 : decode cX7_readStatement 14 = .ok (.goto 39, 3) := dk_167 0 39 (dk_at dksX7_readStatement_0 14 rfl rfl)
theorem dX7_readStatement_17 : decode cX7_readStatement 17 = .ok (.iload_n 1, 1) := dk_27 (dk_at dksX7_readStatement_0 17 rfl rfl)
theorem dX7_readStatement_18 : decode cX7_readStatement 18 = .ok (.iconst 1, 1) := dk_4 (dk_at dksX7_readStatement_0 18 rfl rfl)
theorem dX7_readStatement_19 : decode cX7_readStatement 19 = .ok (.if_icmp .ne 17, 3) := dk_160 0 17 (dk_at dksX7_readStatement_0 19 rfl rfl)
theorem dX7_readStatement_22 : decode cX7_readStatement 22 = .ok (.aload_n 0, 1) := dk_42 (dk_at dksX7_readStatement_0 22 rfl rfl)
theorem dX7_readStatement_23 : decode cX7_readStatement 23 = .ok (.getfield 17, 3) := dk_180 0 17 (dk_at dksX7_readStatement_1 0 rfl rfl)
theorem dX7_readStatement_26 : decode cX7_readStatement 26 = .ok (.iconst 2, 1) := dk_5 (dk_at dksX7_readStatement_1 3 rfl rfl)
theorem dX7_readStatement_27 : decode cX7_readStatement 27 = .ok (.iaload, 1) := dk_46 (dk_at dksX7_readStatement_1 4 rfl rfl)
theorem dX7_readStatement_28 : decode cX7_readStatement 28 = .ok (.bipush 6, 2) := dk_16 6 (dk_at dksX7_readStatement_1 5 rfl rfl)
theorem dX7_readStatement_30 : decode cX7_readStatement 30 = .ok (.if_icmp .ne 23, 3) := dk_160 0 23 (dk_at dksX7_readStatement_1 7 rfl rfl)
theorem dX7_readStatement_33 : decode cX7_readStatement 33 = .ok (.goto 15, 3) := dk_167 0 15 (dk_at dksX7_readStatement_1 10 rfl rfl)
theorem dX7_readStatement_36 : decode cX7_readStatement 36 = .ok (.aload_n 0, 1) := dk_42 (dk_at dksX7_readStatement_1 13 rfl rfl)
theorem dX7_readStatement_37 : decode cX7_readStatement 37 = .ok (.getfield 131, 3) := dk_180 0 131 (dk_at dksX7_readStatement_1 14 rfl rfl)
theorem dX7_readStatement_40 : decode cX7_readStatement 40 = .ok (.iload_n 1, 1) := dk_27 (dk_at dksX7_readStatement_1 17 rfl rfl)
theorem dX7_readStatement_41 : decode cX7_readStatement 41 = .ok (.ishr, 1) := dk_122 (dk_at dksX7_readStatement_1 18 rfl rfl)
theorem dX7_readStatement_42 : decode cX7_readStatement 42 = .ok (.iconst 1, 1) := dk_4 (dk_at dksX7_readStatement_1 19 rfl rfl)
theorem dX7_readStatement_43 : decode cX7_readStatement 43 = .ok (.iand, 1) := dk_126 (dk_at dksX7_readStatement_1 20 rfl rfl)
theorem dX7_readStatement_44 : decode cX7_readStatement 44 = .ok (.iconst 1, 1) := dk_4 (dk_at dksX7_readStatement_1 21 rfl rfl)
theorem dX7_readStatement_45 : decode cX7_readStatement 45 = .ok (.if_icmp .ne 8, 3) := dk_160 0 8 (dk_at dksX7_readStatement_2 0 rfl rfl)
theorem dX7_readStatement_48 : decode cX7_readStatement 48 = .ok (.aload_n 0, 1) := dk_42 (dk_at dksX7_readStatement_2 3 rfl rfl)
theorem dX7_readStatement_49 : decode cX7_readStatement 49 = .ok (.iconst 3, 1) := dk_6 (dk_at dksX7_readStatement_2 4 rfl rfl)
theorem dX7_readStatement_50 : decode cX7_readStatement 50 = .ok (.invokevirtual 114, 3) := dk_182 0 114 (dk_at dksX7_readStatement_2 5 rfl rfl)
theorem dX7_readStatement_53 : decode cX7_readStatement 53 = .ok (.aload_n 0, 1) := dk_42 (dk_at dksX7_readStatement_2 8 rfl rfl)
theorem dX7_readStatement_54 : decode cX7_readStatement 54 = .ok (.getfield 91, 3) := dk_180 0 91 (dk_at dksX7_readStatement_2 9 rfl rfl)
theorem dX7_readStatement_57 : decode cX7_readStatement 57 = .ok (.ifCond .eq 4, 3) := dk_153 0 4 (dk_at dksX7_readStatement_2 12 rfl rfl)
theorem dX7_readStatement_60 : decode cX7_readStatement 60 = .ok (.return_, 1) := dk_177 (dk_at dksX7_readStatement_2 15 rfl rfl)
theorem dX7_readStatement_61 : decode cX7_readStatement 61 = .ok (.aload_n 0, 1) := dk_42 (dk_at dksX7_readStatement_2 16 rfl rfl)
theorem dX7_readStatement_62 : decode cX7_readStatement 62 = .ok (.dup, 1) := dk_89 (dk_at dksX7_readStatement_2 17 rfl rfl)
theorem dX7_readStatement_63 : decode cX7_readStatement 63 = .ok (.getfield 131, 3) := dk_180 0 131 (dk_at dksX7_readStatement_2 18 rfl rfl)
theorem dX7_readStatement_66 : decode cX7_readStatement 66 = .ok (.iconst 1, 1) := dk_4 (dk_at dksX7_readStatement_2 21 rfl rfl)
theorem dX7_readStatement_67 : decode cX7_readStatement 67 = .ok (.iload_n 1, 1) := dk_27 (dk_at dksX7_readStatement_2 22 rfl rfl)
theorem dX7_readStatement_68 : decode cX7_readStatement 68 = .ok (.ishl, 1) := dk_120 (dk_at dksX7_readStatement_2 23 rfl rfl)
theorem dX7_readStatement_69 : decode cX7_readStatement 69 = .ok (.ior, 1) := dk_128 (dk_at dksX7_readStatement_3 0 rfl rfl)
theorem dX7_readStatement_70 : decode cX7_readStatement 70 = .ok (.putfield 131, 3) := dk_181 0 131 (dk_at dksX7_readStatement_3 1 rfl rfl)
theorem dX7_readStatement_73 : decode cX7_readStatement 73 = .ok (.iload_n 1, 1) := dk_27 (dk_at dksX7_readStatement_3 4 rfl rfl)
theorem dX7_readStatement_74 : decode cX7_readStatement 74 = .ok (.tableswitch 162 0 5 #[38, 70, 77, 108, 126, 144], 38) := by decide +kernel
theorem dX7_readStatement_112 : decode cX7_readStatement 112 = .ok (.aload_n 0, 1) := dk_42 (dk_at dksX7_readStatement_5 0 rfl rfl)
theorem dX7_readStatement_113 : decode cX7_readStatement 113 = .ok (.getfield 17, 3) := dk_180 0 17 (dk_at dksX7_readStatement_5 1 rfl rfl)
theorem dX7_readStatement_116 : decode cX7_readStatement 116 = .ok (.iconst 3, 1) := dk_6 (dk_at dksX7_readStatement_5 4 rfl rfl)
theorem dX7_readStatement_117 : decode cX7_readStatement 117 = .ok (.aload_n 0, 1) := dk_42 (dk_at dksX7_readStatement_5 5 rfl rfl)
theorem dX7_readStatement_118 : decode cX7_readStatement 118 = .ok (.sipush 900, 3) := dk_17 3 132 (dk_at dksX7_readStatement_5 6 rfl rfl)
theorem dX7_readStatement_121 : decode cX7_readStatement 121 = .ok (.sipush 1100, 3) := dk_17 4 76 (dk_at dksX7_readStatement_5 9 rfl rfl)
theorem dX7_readStatement_124 : decode cX7_readStatement 124 = .ok (.invokevirtual 134, 3) := dk_182 0 134 (dk_at dksX7_readStatement_5 12 rfl rfl)
theorem dX7_readStatement_127 : decode cX7_readStatement 127 = .ok (.iastore, 1) := dk_79 (dk_at dksX7_readStatement_5 15 rfl rfl)
theorem dX7_readStatement_128 : decode cX7_readStatement 128 = .ok (.aload_n 0, 1) := dk_42 (dk_at dksX7_readStatement_5 16 rfl rfl)
theorem dX7_readStatement_129 : decode cX7_readStatement 129 = .ok (.getfield 17, 3) := dk_180 0 17 (dk_at dksX7_readStatement_5 17 rfl rfl)
theorem dX7_readStatement_132 : decode cX7_readStatement 132 = .ok (.iconst 4, 1) := dk_7 (dk_at dksX7_readStatement_5 20 rfl rfl)
theorem dX7_readStatement_133 : decode cX7_readStatement 133 = .ok (.aload_n 0, 1) := dk_42 (dk_at dksX7_readStatement_5 21 rfl rfl)
theorem dX7_readStatement_134 : decode cX7_readStatement 134 = .ok (.iconst 0, 1) := dk_3 (dk_at dksX7_readStatement_5 22 rfl rfl)
theorem dX7_readStatement_135 : decode cX7_readStatement 135 = .ok (.ldc 138, 2) := dk_18 138 (dk_at dksX7_readStatement_6 0 rfl rfl)
theorem dX7_readStatement_137 : decode cX7_readStatement 137 = .ok (.invokevirtual 134, 3) := dk_182 0 134 (dk_at dksX7_readStatement_6 2 rfl rfl)
theorem dX7_readStatement_140 : decode cX7_readStatement 140 = .ok (.iastore, 1) := dk_79 (dk_at dksX7_readStatement_6 5 rfl rfl)
theorem dX7_readStatement_141 : decode cX7_readStatement 141 = .ok (.goto 108, 3) := dk_167 0 108 (dk_at dksX7_readStatement_6 6 rfl rfl)
theorem dX7_readStatement_144 : decode cX7_readStatement 144 = .ok (.aload_n 0, 1) := dk_42 (dk_at dksX7_readStatement_6 9 rfl rfl)
theorem dX7_readStatement_145 : decode cX7_readStatement 145 = .ok (.invokevirtual 139, 3) := dk_182 0 139 (dk_at dksX7_readStatement_6 10 rfl rfl)
theorem dX7_readStatement_148 : decode cX7_readStatement 148 = .ok (.goto 101, 3) := dk_167 0 101 (dk_at dksX7_readStatement_6 13 rfl rfl)
theorem dX7_readStatement_151 : decode cX7_readStatement 151 = .ok (.aload_n 0, 1) := dk_42 (dk_at dksX7_readStatement_6 16 rfl rfl)
theorem dX7_readStatement_152 : decode cX7_readStatement 152 = .ok (.getfield 17, 3) := dk_180 0 17 (dk_at dksX7_readStatement_6 17 rfl rfl)
theorem dX7_readStatement_155 : decode cX7_readStatement 155 = .ok (.iconst 5, 1) := dk_8 (dk_at dksX7_readStatement_6 20 rfl rfl)
theorem dX7_readStatement_156 : decode cX7_readStatement 156 = .ok (.aload_n 0, 1) := dk_42 (dk_at dksX7_readStatement_6 21 rfl rfl)
theorem dX7_readStatement_157 : decode cX7_readStatement 157 = .ok (.bipush 100, 2) := dk_16 100 (dk_at dksX7_readStatement_6 22 rfl rfl)
theorem dX7_readStatement_159 : decode cX7_readStatement 159 = .ok (.ldc 142, 2) := dk_18 142 (dk_at dksX7_readStatement_7 0 rfl rfl)
theorem dX7_readStatement_161 : decode cX7_readStatement 161 = .ok (.invokevirtual 134, 3) := dk_182 0 134 (dk_at dksX7_readStatement_7 2 rfl rfl)
theorem dX7_readStatement_164 : decode cX7_readStatement 164 = .ok (.iastore, 1) := dk_79 (dk_at dksX7_readStatement_7 5 rfl rfl)
theorem dX7_readStatement_165 : decode cX7_readStatement 165 = .ok (.aload_n 0, 1) := dk_42 (dk_at dksX7_readStatement_7 6 rfl rfl)
theorem dX7_readStatement_166 : decode cX7_readStatement 166 = .ok (.getfield 17, 3) := dk_180 0 17 (dk_at dksX7_readStatement_7 7 rfl rfl)
theorem dX7_readStatement_169 : decode cX7_readStatement 169 = .ok (.bipush 6, 2) := dk_16 6 (dk_at dksX7_readStatement_7 10 rfl rfl)
theorem dX7_readStatement_171 : decode cX7_readStatement 171 = .ok (.aload_n 0, 1) := dk_42 (dk_at dksX7_readStatement_7 12 rfl rfl)
theorem dX7_readStatement_172 : decode cX7_readStatement 172 = .ok (.iconst 0, 1) := dk_3 (dk_at dksX7_readStatement_7 13 rfl rfl)
theorem dX7_readStatement_173 : decode cX7_readStatement 173 = .ok (.bipush 100, 2) := dk_16 100 (dk_at dksX7_readStatement_7 14 rfl rfl)
theorem dX7_readStatement_175 : decode cX7_readStatement 175 = .ok (.invokevirtual 134, 3) := dk_182 0 134 (dk_at dksX7_readStatement_7 16 rfl rfl)
theorem dX7_readStatement_178 : decode cX7_readStatement 178 = .ok (.iastore, 1) := dk_79 (dk_at dksX7_readStatement_7 19 rfl rfl)
theorem dX7_readStatement_179 : decode cX7_readStatement 179 = .ok (.goto 70, 3) := dk_167 0 70 (dk_at dksX7_readStatement_7 20 rfl rfl)
theorem dX7_readStatement_182 : decode cX7_readStatement 182 = .ok (.aload_n 0, 1) := dk_42 (dk_at dksX7_readStatement_7 23 rfl rfl)
theorem dX7_readStatement_183 : decode cX7_readStatement 183 = .ok (.getfield 17, 3) := dk_180 0 17 (dk_at dksX7_readStatement_8 0 rfl rfl)
theorem dX7_readStatement_186 : decode cX7_readStatement 186 = .ok (.bipush 7, 2) := dk_16 7 (dk_at dksX7_readStatement_8 3 rfl rfl)
theorem dX7_readStatement_188 : decode cX7_readStatement 188 = .ok (.aload_n 0, 1) := dk_42 (dk_at dksX7_readStatement_8 5 rfl rfl)
theorem dX7_readStatement_189 : decode cX7_readStatement 189 = .ok (.bipush 50, 2) := dk_16 50 (dk_at dksX7_readStatement_8 6 rfl rfl)
theorem dX7_readStatement_191 : decode cX7_readStatement 191 = .ok (.ldc 142, 2) := dk_18 142 (dk_at dksX7_readStatement_8 8 rfl rfl)
theorem dX7_readStatement_193 : decode cX7_readStatement 193 = .ok (.invokevirtual 134, 3) := dk_182 0 134 (dk_at dksX7_readStatement_8 10 rfl rfl)
theorem dX7_readStatement_196 : decode cX7_readStatement 196 = .ok (.iastore, 1) := dk_79 (dk_at dksX7_readStatement_8 13 rfl rfl)
theorem dX7_readStatement_197 : decode cX7_readStatement 197 = .ok (.goto 52, 3) := dk_167 0 52 (dk_at dksX7_readStatement_8 14 rfl rfl)
theorem dX7_readStatement_200 : decode cX7_readStatement 200 = .ok (.aload_n 0, 1) := dk_42 (dk_at dksX7_readStatement_8 17 rfl rfl)
theorem dX7_readStatement_201 : decode cX7_readStatement 201 = .ok (.getfield 17, 3) := dk_180 0 17 (dk_at dksX7_readStatement_8 18 rfl rfl)
theorem dX7_readStatement_204 : decode cX7_readStatement 204 = .ok (.bipush 8, 2) := dk_16 8 (dk_at dksX7_readStatement_8 21 rfl rfl)
theorem dX7_readStatement_206 : decode cX7_readStatement 206 = .ok (.aload_n 0, 1) := dk_42 (dk_at dksX7_readStatement_8 23 rfl rfl)
theorem dX7_readStatement_207 : decode cX7_readStatement 207 = .ok (.bipush 50, 2) := dk_16 50 (dk_at dksX7_readStatement_9 0 rfl rfl)
theorem dX7_readStatement_209 : decode cX7_readStatement 209 = .ok (.ldc 142, 2) := dk_18 142 (dk_at dksX7_readStatement_9 2 rfl rfl)
theorem dX7_readStatement_211 : decode cX7_readStatement 211 = .ok (.invokevirtual 134, 3) := dk_182 0 134 (dk_at dksX7_readStatement_9 4 rfl rfl)
theorem dX7_readStatement_214 : decode cX7_readStatement 214 = .ok (.iastore, 1) := dk_79 (dk_at dksX7_readStatement_9 7 rfl rfl)
theorem dX7_readStatement_215 : decode cX7_readStatement 215 = .ok (.goto 34, 3) := dk_167 0 34 (dk_at dksX7_readStatement_9 8 rfl rfl)
theorem dX7_readStatement_218 : decode cX7_readStatement 218 = .ok (.aload_n 0, 1) := dk_42 (dk_at dksX7_readStatement_9 11 rfl rfl)
theorem dX7_readStatement_219 : decode cX7_readStatement 219 = .ok (.getfield 17, 3) := dk_180 0 17 (dk_at dksX7_readStatement_9 12 rfl rfl)
theorem dX7_readStatement_222 : decode cX7_readStatement 222 = .ok (.bipush 9, 2) := dk_16 9 (dk_at dksX7_readStatement_9 15 rfl rfl)
theorem dX7_readStatement_224 : decode cX7_readStatement 224 = .ok (.aload_n 0, 1) := dk_42 (dk_at dksX7_readStatement_9 17 rfl rfl)
theorem dX7_readStatement_225 : decode cX7_readStatement 225 = .ok (.iconst 0, 1) := dk_3 (dk_at dksX7_readStatement_9 18 rfl rfl)
theorem dX7_readStatement_226 : decode cX7_readStatement 226 = .ok (.sipush 1000, 3) := dk_17 3 232 (dk_at dksX7_readStatement_9 19 rfl rfl)
theorem dX7_readStatement_229 : decode cX7_readStatement 229 = .ok (.invokevirtual 134, 3) := dk_182 0 134 (dk_at dksX7_readStatement_10 0 rfl rfl)
theorem dX7_readStatement_232 : decode cX7_readStatement 232 = .ok (.iastore, 1) := dk_79 (dk_at dksX7_readStatement_10 3 rfl rfl)
theorem dX7_readStatement_233 : decode cX7_readStatement 233 = .ok (.goto 16, 3) := dk_167 0 16 (dk_at dksX7_readStatement_10 4 rfl rfl)
theorem dX7_readStatement_236 : decode cX7_readStatement 236 = .ok (.aload_n 0, 1) := dk_42 (dk_at dksX7_readStatement_10 7 rfl rfl)
theorem dX7_readStatement_237 : decode cX7_readStatement 237 = .ok (.getfield 17, 3) := dk_180 0 17 (dk_at dksX7_readStatement_10 8 rfl rfl)
theorem dX7_readStatement_240 : decode cX7_readStatement 240 = .ok (.iconst 1, 1) := dk_4 (dk_at dksX7_readStatement_10 11 rfl rfl)
theorem dX7_readStatement_241 : decode cX7_readStatement 241 = .ok (.aload_n 0, 1) := dk_42 (dk_at dksX7_readStatement_10 12 rfl rfl)
theorem dX7_readStatement_242 : decode cX7_readStatement 242 = .ok (.iconst 0, 1) := dk_3 (dk_at dksX7_readStatement_10 13 rfl rfl)
theorem dX7_readStatement_243 : decode cX7_readStatement 243 = .ok (.ldc 143, 2) := dk_18 143 (dk_at dksX7_readStatement_10 14 rfl rfl)
theorem dX7_readStatement_245 : decode cX7_readStatement 245 = .ok (.invokevirtual 134, 3) := dk_182 0 134 (dk_at dksX7_readStatement_10 16 rfl rfl)
theorem dX7_readStatement_248 : decode cX7_readStatement 248 = .ok (.iastore, 1) := dk_79 (dk_at dksX7_readStatement_10 19 rfl rfl)
theorem dX7_readStatement_249 : decode cX7_readStatement 249 = .ok (.return_, 1) := dk_177 (dk_at dksX7_readStatement_10 20 rfl rfl)
abbrev cX7_word : ByteArray := prog_22_method_16_code
def yX7_word : MethodName := ⟨RX7, "word", "()I"⟩
def dkwX7_word_6 : List UInt8 := [16, 252, 172]
abbrev dktX7_word_6 : List UInt8 := dkwX7_word_6 ++ []
def dkwX7_word_5 : List UInt8 := [167, 0, 4, 3, 61, 132, 3, 1, 167, 255, 206, 28, 153, 0, 5, 27, 172, 132, 1, 1, 167, 255, 156]
abbrev dktX7_word_5 : List UInt8 := dkwX7_word_5 ++ dktX7_word_6
def dkwX7_word_4 : List UInt8 := [180, 0, 36, 27, 50, 29, 182, 0, 124, 42, 180, 0, 14, 42, 180, 0, 88, 29, 96, 46, 160, 0, 7, 4]
abbrev dktX7_word_4 : List UInt8 := dkwX7_word_4 ++ dktX7_word_5
def dkwX7_word_3 : List UInt8 := [3, 61, 3, 62, 28, 153, 0, 52, 29, 42, 180, 0, 36, 27, 50, 182, 0, 122, 162, 0, 39, 42]
abbrev dktX7_word_3 : List UInt8 := dkwX7_word_3 ++ dktX7_word_4
def dkwX7_word_2 : List UInt8 := [180, 0, 36, 27, 50, 182, 0, 122, 42, 180, 0, 81, 42, 180, 0, 88, 100, 160, 0, 7, 4, 167, 0, 4]
abbrev dktX7_word_2 : List UInt8 := dkwX7_word_2 ++ dktX7_word_3
def dkwX7_word_1 : List UInt8 := [180, 0, 81, 4, 96, 181, 0, 81, 167, 255, 229, 3, 60, 27, 42, 180, 0, 36, 190, 162, 0, 97, 42]
abbrev dktX7_word_1 : List UInt8 := dkwX7_word_1 ++ dktX7_word_2
def dkwX7_word_0 : List UInt8 := [42, 182, 0, 97, 42, 182, 0, 84, 133, 20, 0, 118, 20, 0, 120, 184, 0, 68, 153, 0, 16, 42, 89]
abbrev dktX7_word_0 : List UInt8 := dkwX7_word_0 ++ dktX7_word_1
theorem dksX7_word_0 : cX7_word.data.toList.drop 0 = dktX7_word_0 := by decide +kernel
theorem dksX7_word_1 : cX7_word.data.toList.drop 23 = dktX7_word_1 := dk_seg dksX7_word_0 23 rfl rfl
theorem dksX7_word_2 : cX7_word.data.toList.drop 46 = dktX7_word_2 := dk_seg dksX7_word_1 23 rfl rfl
theorem dksX7_word_3 : cX7_word.data.toList.drop 70 = dktX7_word_3 := dk_seg dksX7_word_2 24 rfl rfl
theorem dksX7_word_4 : cX7_word.data.toList.drop 92 = dktX7_word_4 := dk_seg dksX7_word_3 22 rfl rfl
theorem dksX7_word_5 : cX7_word.data.toList.drop 116 = dktX7_word_5 := dk_seg dksX7_word_4 24 rfl rfl
theorem dksX7_word_6 : cX7_word.data.toList.drop 139 = dktX7_word_6 := dk_seg dksX7_word_5 23 rfl rfl
theorem dX7_word_0 : decode cX7_word 0 = .ok (.aload_n 0, 1) := dk_42 (dk_at dksX7_word_0 0 rfl rfl)
theorem dX7_word_1 : decode cX7_word 1 = .ok (.invokevirtual 97, 3) := dk_182 0 97 (dk_at dksX7_word_0 1 rfl rfl)
theorem dX7_word_4 : decode cX7_word 4 = .ok (.aload_n 0, 1) := dk_42 (dk_at dksX7_word_0 4 rfl rfl)
theorem dX7_word_5 : decode cX7_word 5 = .ok (.invokevirtual 84, 3) := dk_182 0 84 (dk_at dksX7_word_0 5 rfl rfl)
theorem dX7_word_8 : decode cX7_word 8 = .ok (.i2l, 1) := dk_133 (dk_at dksX7_word_0 8 rfl rfl)
theorem dX7_word_9 : decode cX7_word 9 = .ok (.ldc2_w 118, 3) := dk_20 0 118 (dk_at dksX7_word_0 9 rfl rfl)
theorem dX7_word_12 : decode cX7_word 12 = .ok (.ldc2_w 120, 3) := dk_20 0 120 (dk_at dksX7_word_0 12 rfl rfl)
theorem dX7_word_15 : decode cX7_word 15 = .ok (.invokestatic 68, 3) := dk_184 0 68 (dk_at dksX7_word_0 15 rfl rfl)
theorem dX7_word_18 : decode cX7_word 18 = .ok (.ifCond .eq 16, 3) := dk_153 0 16 (dk_at dksX7_word_0 18 rfl rfl)
theorem dX7_word_21 : decode cX7_word 21 = .ok (.aload_n 0, 1) := dk_42 (dk_at dksX7_word_0 21 rfl rfl)
theorem dX7_word_22 : decode cX7_word 22 = .ok (.dup, 1) := dk_89 (dk_at dksX7_word_0 22 rfl rfl)
theorem dX7_word_23 : decode cX7_word 23 = .ok (.getfield 81, 3) := dk_180 0 81 (dk_at dksX7_word_1 0 rfl rfl)
theorem dX7_word_26 : decode cX7_word 26 = .ok (.iconst 1, 1) := dk_4 (dk_at dksX7_word_1 3 rfl rfl)
theorem dX7_word_27 : decode cX7_word 27 = .ok (.iadd, 1) := dk_96 (dk_at dksX7_word_1 4 rfl rfl)
theorem dX7_word_28 : decode cX7_word 28 = .ok (.putfield 81, 3) := dk_181 0 81 (dk_at dksX7_word_1 5 rfl rfl)
theorem dX7_word_31 : decode cX7_word 31 = .ok (.goto (-27), 3) := dk_167 255 229 (dk_at dksX7_word_1 8 rfl rfl)
theorem dX7_word_34 : decode cX7_word 34 = .ok (.iconst 0, 1) := dk_3 (dk_at dksX7_word_1 11 rfl rfl)
theorem dX7_word_35 : decode cX7_word 35 = .ok (.istore_n 1, 1) := dk_60 (dk_at dksX7_word_1 12 rfl rfl)
theorem dX7_word_36 : decode cX7_word 36 = .ok (.iload_n 1, 1) := dk_27 (dk_at dksX7_word_1 13 rfl rfl)
theorem dX7_word_37 : decode cX7_word 37 = .ok (.aload_n 0, 1) := dk_42 (dk_at dksX7_word_1 14 rfl rfl)
theorem dX7_word_38 : decode cX7_word 38 = .ok (.getfield 36, 3) := dk_180 0 36 (dk_at dksX7_word_1 15 rfl rfl)
theorem dX7_word_41 : decode cX7_word 41 = .ok (.arraylength, 1) := dk_190 (dk_at dksX7_word_1 18 rfl rfl)
theorem dX7_word_42 : decode cX7_word 42 = .ok (.if_icmp .ge 97, 3) := dk_162 0 97 (dk_at dksX7_word_1 19 rfl rfl)
theorem dX7_word_45 : decode cX7_word 45 = .ok (.aload_n 0, 1) := dk_42 (dk_at dksX7_word_1 22 rfl rfl)
theorem dX7_word_46 : decode cX7_word 46 = .ok (.getfield 36, 3) := dk_180 0 36 (dk_at dksX7_word_2 0 rfl rfl)
theorem dX7_word_49 : decode cX7_word 49 = .ok (.iload_n 1, 1) := dk_27 (dk_at dksX7_word_2 3 rfl rfl)
theorem dX7_word_50 : decode cX7_word 50 = .ok (.aaload, 1) := dk_50 (dk_at dksX7_word_2 4 rfl rfl)
theorem dX7_word_51 : decode cX7_word 51 = .ok (.invokevirtual 122, 3) := dk_182 0 122 (dk_at dksX7_word_2 5 rfl rfl)
theorem dX7_word_54 : decode cX7_word 54 = .ok (.aload_n 0, 1) := dk_42 (dk_at dksX7_word_2 8 rfl rfl)
theorem dX7_word_55 : decode cX7_word 55 = .ok (.getfield 81, 3) := dk_180 0 81 (dk_at dksX7_word_2 9 rfl rfl)
theorem dX7_word_58 : decode cX7_word 58 = .ok (.aload_n 0, 1) := dk_42 (dk_at dksX7_word_2 12 rfl rfl)
theorem dX7_word_59 : decode cX7_word 59 = .ok (.getfield 88, 3) := dk_180 0 88 (dk_at dksX7_word_2 13 rfl rfl)
theorem dX7_word_62 : decode cX7_word 62 = .ok (.isub, 1) := dk_100 (dk_at dksX7_word_2 16 rfl rfl)
theorem dX7_word_63 : decode cX7_word 63 = .ok (.if_icmp .ne 7, 3) := dk_160 0 7 (dk_at dksX7_word_2 17 rfl rfl)
theorem dX7_word_66 : decode cX7_word 66 = .ok (.iconst 1, 1) := dk_4 (dk_at dksX7_word_2 20 rfl rfl)
theorem dX7_word_67 : decode cX7_word 67 = .ok (.goto 4, 3) := dk_167 0 4 (dk_at dksX7_word_2 21 rfl rfl)
theorem dX7_word_70 : decode cX7_word 70 = .ok (.iconst 0, 1) := dk_3 (dk_at dksX7_word_3 0 rfl rfl)
theorem dX7_word_71 : decode cX7_word 71 = .ok (.istore_n 2, 1) := dk_61 (dk_at dksX7_word_3 1 rfl rfl)
theorem dX7_word_72 : decode cX7_word 72 = .ok (.iconst 0, 1) := dk_3 (dk_at dksX7_word_3 2 rfl rfl)
theorem dX7_word_73 : decode cX7_word 73 = .ok (.istore_n 3, 1) := dk_62 (dk_at dksX7_word_3 3 rfl rfl)
theorem dX7_word_74 : decode cX7_word 74 = .ok (.iload_n 2, 1) := dk_28 (dk_at dksX7_word_3 4 rfl rfl)
theorem dX7_word_75 : decode cX7_word 75 = .ok (.ifCond .eq 52, 3) := dk_153 0 52 (dk_at dksX7_word_3 5 rfl rfl)
theorem dX7_word_78 : decode cX7_word 78 = .ok (.iload_n 3, 1) := dk_29 (dk_at dksX7_word_3 8 rfl rfl)
theorem dX7_word_79 : decode cX7_word 79 = .ok (.aload_n 0, 1) := dk_42 (dk_at dksX7_word_3 9 rfl rfl)
theorem dX7_word_80 : decode cX7_word 80 = .ok (.getfield 36, 3) := dk_180 0 36 (dk_at dksX7_word_3 10 rfl rfl)
theorem dX7_word_83 : decode cX7_word 83 = .ok (.iload_n 1, 1) := dk_27 (dk_at dksX7_word_3 13 rfl rfl)
theorem dX7_word_84 : decode cX7_word 84 = .ok (.aaload, 1) := dk_50 (dk_at dksX7_word_3 14 rfl rfl)
theorem dX7_word_85 : decode cX7_word 85 = .ok (.invokevirtual 122, 3) := dk_182 0 122 (dk_at dksX7_word_3 15 rfl rfl)
theorem dX7_word_88 : decode cX7_word 88 = .ok (.if_icmp .ge 39, 3) := dk_162 0 39 (dk_at dksX7_word_3 18 rfl rfl)
theorem dX7_word_91 : decode cX7_word 91 = .ok (.aload_n 0, 1) := dk_42 (dk_at dksX7_word_3 21 rfl rfl)
theorem dX7_word_92 : decode cX7_word 92 = .ok (.getfield 36, 3) := dk_180 0 36 (dk_at dksX7_word_4 0 rfl rfl)
theorem dX7_word_95 : decode cX7_word 95 = .ok (.iload_n 1, 1) := dk_27 (dk_at dksX7_word_4 3 rfl rfl)
theorem dX7_word_96 : decode cX7_word 96 = .ok (.aaload, 1) := dk_50 (dk_at dksX7_word_4 4 rfl rfl)
theorem dX7_word_97 : decode cX7_word 97 = .ok (.iload_n 3, 1) := dk_29 (dk_at dksX7_word_4 5 rfl rfl)
theorem dX7_word_98 : decode cX7_word 98 = .ok (.invokevirtual 124, 3) := dk_182 0 124 (dk_at dksX7_word_4 6 rfl rfl)
theorem dX7_word_101 : decode cX7_word 101 = .ok (.aload_n 0, 1) := dk_42 (dk_at dksX7_word_4 9 rfl rfl)
theorem dX7_word_102 : decode cX7_word 102 = .ok (.getfield 14, 3) := dk_180 0 14 (dk_at dksX7_word_4 10 rfl rfl)
theorem dX7_word_105 : decode cX7_word 105 = .ok (.aload_n 0, 1) := dk_42 (dk_at dksX7_word_4 13 rfl rfl)
theorem dX7_word_106 : decode cX7_word 106 = .ok (.getfield 88, 3) := dk_180 0 88 (dk_at dksX7_word_4 14 rfl rfl)
theorem dX7_word_109 : decode cX7_word 109 = .ok (.iload_n 3, 1) := dk_29 (dk_at dksX7_word_4 17 rfl rfl)
theorem dX7_word_110 : decode cX7_word 110 = .ok (.iadd, 1) := dk_96 (dk_at dksX7_word_4 18 rfl rfl)
theorem dX7_word_111 : decode cX7_word 111 = .ok (.iaload, 1) := dk_46 (dk_at dksX7_word_4 19 rfl rfl)
theorem dX7_word_112 : decode cX7_word 112 = .ok (.if_icmp .ne 7, 3) := dk_160 0 7 (dk_at dksX7_word_4 20 rfl rfl)
theorem dX7_word_115 : decode cX7_word 115 = .ok (.iconst 1, 1) := dk_4 (dk_at dksX7_word_4 23 rfl rfl)
theorem dX7_word_116 : decode cX7_word 116 = .ok (.goto 4, 3) := dk_167 0 4 (dk_at dksX7_word_5 0 rfl rfl)
theorem dX7_word_119 : decode cX7_word 119 = .ok (.iconst 0, 1) := dk_3 (dk_at dksX7_word_5 3 rfl rfl)
theorem dX7_word_120 : decode cX7_word 120 = .ok (.istore_n 2, 1) := dk_61 (dk_at dksX7_word_5 4 rfl rfl)
theorem dX7_word_121 : decode cX7_word 121 = .ok (.iinc 3 1, 3) := dk_132 3 1 (dk_at dksX7_word_5 5 rfl rfl)
theorem dX7_word_124 : decode cX7_word 124 = .ok (.goto (-50), 3) := dk_167 255 206 (dk_at dksX7_word_5 8 rfl rfl)
theorem dX7_word_127 : decode cX7_word 127 = .ok (.iload_n 2, 1) := dk_28 (dk_at dksX7_word_5 11 rfl rfl)
theorem dX7_word_128 : decode cX7_word 128 = .ok (.ifCond .eq 5, 3) := dk_153 0 5 (dk_at dksX7_word_5 12 rfl rfl)
theorem dX7_word_131 : decode cX7_word 131 = .ok (.iload_n 1, 1) := dk_27 (dk_at dksX7_word_5 15 rfl rfl)
theorem dX7_word_132 : decode cX7_word 132 = .ok (.ireturn, 1) := dk_172 (dk_at dksX7_word_5 16 rfl rfl)
theorem dX7_word_133 : decode cX7_word 133 = .ok (.iinc 1 1, 3) := dk_132 1 1 (dk_at dksX7_word_5 17 rfl rfl)
theorem dX7_word_136 : decode cX7_word 136 = .ok (.goto (-100), 3) := dk_167 255 156 (dk_at dksX7_word_5 20 rfl rfl)
theorem dX7_word_139 : decode cX7_word 139 = .ok (.bipush (-4), 2) := dk_16 252 (dk_at dksX7_word_6 0 rfl rfl)
theorem dX7_word_141 : decode cX7_word 141 = .ok (.ireturn, 1) := dk_172 (dk_at dksX7_word_6 2 rfl rfl)
abbrev cX7_looks : ByteArray := prog_22_method_13_code
def yX7_looks : MethodName := ⟨RX7, "looks", "()V"⟩
def dkwX7_looks_1 : List UInt8 := [180, 0, 81, 181, 0, 88, 177]
abbrev dktX7_looks_1 : List UInt8 := dkwX7_looks_1 ++ []
def dkwX7_looks_0 : List UInt8 := [42, 182, 0, 84, 16, 32, 160, 0, 16, 42, 89, 180, 0, 81, 4, 96, 181, 0, 81, 167, 255, 237, 42, 42]
abbrev dktX7_looks_0 : List UInt8 := dkwX7_looks_0 ++ dktX7_looks_1
theorem dksX7_looks_0 : cX7_looks.data.toList.drop 0 = dktX7_looks_0 := by decide +kernel
theorem dksX7_looks_1 : cX7_looks.data.toList.drop 24 = dktX7_looks_1 := dk_seg dksX7_looks_0 24 rfl rfl
theorem dX7_looks_0 : decode cX7_looks 0 = .ok (.aload_n 0, 1) := dk_42 (dk_at dksX7_looks_0 0 rfl rfl)
theorem dX7_looks_1 : decode cX7_looks 1 = .ok (.invokevirtual 84, 3) := dk_182 0 84 (dk_at dksX7_looks_0 1 rfl rfl)
theorem dX7_looks_4 : decode cX7_looks 4 = .ok (.bipush 32, 2) := dk_16 32 (dk_at dksX7_looks_0 4 rfl rfl)
theorem dX7_looks_6 : decode cX7_looks 6 = .ok (.if_icmp .ne 16, 3) := dk_160 0 16 (dk_at dksX7_looks_0 6 rfl rfl)
theorem dX7_looks_9 : decode cX7_looks 9 = .ok (.aload_n 0, 1) := dk_42 (dk_at dksX7_looks_0 9 rfl rfl)
theorem dX7_looks_10 : decode cX7_looks 10 = .ok (.dup, 1) := dk_89 (dk_at dksX7_looks_0 10 rfl rfl)
theorem dX7_looks_11 : decode cX7_looks 11 = .ok (.getfield 81, 3) := dk_180 0 81 (dk_at dksX7_looks_0 11 rfl rfl)
theorem dX7_looks_14 : decode cX7_looks 14 = .ok (.iconst 1, 1) := dk_4 (dk_at dksX7_looks_0 14 rfl rfl)
theorem dX7_looks_15 : decode cX7_looks 15 = .ok (.iadd, 1) := dk_96 (dk_at dksX7_looks_0 15 rfl rfl)
theorem dX7_looks_16 : decode cX7_looks 16 = .ok (.putfield 81, 3) := dk_181 0 81 (dk_at dksX7_looks_0 16 rfl rfl)
theorem dX7_looks_19 : decode cX7_looks 19 = .ok (.goto (-19), 3) := dk_167 255 237 (dk_at dksX7_looks_0 19 rfl rfl)
theorem dX7_looks_22 : decode cX7_looks 22 = .ok (.aload_n 0, 1) := dk_42 (dk_at dksX7_looks_0 22 rfl rfl)
theorem dX7_looks_23 : decode cX7_looks 23 = .ok (.aload_n 0, 1) := dk_42 (dk_at dksX7_looks_0 23 rfl rfl)
theorem dX7_looks_24 : decode cX7_looks 24 = .ok (.getfield 81, 3) := dk_180 0 81 (dk_at dksX7_looks_1 0 rfl rfl)
theorem dX7_looks_27 : decode cX7_looks 27 = .ok (.putfield 88, 3) := dk_181 0 88 (dk_at dksX7_looks_1 3 rfl rfl)
theorem dX7_looks_30 : decode cX7_looks 30 = .ok (.return_, 1) := dk_177 (dk_at dksX7_looks_1 6 rfl rfl)
abbrev cX7_here : ByteArray := prog_22_method_12_code
def yX7_here : MethodName := ⟨RX7, "here", "()I"⟩
def dkwX7_here_1 : List UInt8 := [16, 252, 172]
abbrev dktX7_here_1 : List UInt8 := dkwX7_here_1 ++ []
def dkwX7_here_0 : List UInt8 := [42, 180, 0, 81, 42, 180, 0, 78, 162, 0, 15, 42, 180, 0, 14, 42, 180, 0, 81, 46, 167, 0, 5]
abbrev dktX7_here_0 : List UInt8 := dkwX7_here_0 ++ dktX7_here_1
theorem dksX7_here_0 : cX7_here.data.toList.drop 0 = dktX7_here_0 := by decide +kernel
theorem dksX7_here_1 : cX7_here.data.toList.drop 23 = dktX7_here_1 := dk_seg dksX7_here_0 23 rfl rfl
theorem dX7_here_0 : decode cX7_here 0 = .ok (.aload_n 0, 1) := dk_42 (dk_at dksX7_here_0 0 rfl rfl)
theorem dX7_here_1 : decode cX7_here 1 = .ok (.getfield 81, 3) := dk_180 0 81 (dk_at dksX7_here_0 1 rfl rfl)
theorem dX7_here_4 : decode cX7_here 4 = .ok (.aload_n 0, 1) := dk_42 (dk_at dksX7_here_0 4 rfl rfl)
theorem dX7_here_5 : decode cX7_here 5 = .ok (.getfield 78, 3) := dk_180 0 78 (dk_at dksX7_here_0 5 rfl rfl)
theorem dX7_here_8 : decode cX7_here 8 = .ok (.if_icmp .ge 15, 3) := dk_162 0 15 (dk_at dksX7_here_0 8 rfl rfl)
theorem dX7_here_11 : decode cX7_here 11 = .ok (.aload_n 0, 1) := dk_42 (dk_at dksX7_here_0 11 rfl rfl)
theorem dX7_here_12 : decode cX7_here 12 = .ok (.getfield 14, 3) := dk_180 0 14 (dk_at dksX7_here_0 12 rfl rfl)
theorem dX7_here_15 : decode cX7_here 15 = .ok (.aload_n 0, 1) := dk_42 (dk_at dksX7_here_0 15 rfl rfl)
theorem dX7_here_16 : decode cX7_here 16 = .ok (.getfield 81, 3) := dk_180 0 81 (dk_at dksX7_here_0 16 rfl rfl)
theorem dX7_here_19 : decode cX7_here 19 = .ok (.iaload, 1) := dk_46 (dk_at dksX7_here_0 19 rfl rfl)
theorem dX7_here_20 : decode cX7_here 20 = .ok (.goto 5, 3) := dk_167 0 5 (dk_at dksX7_here_0 20 rfl rfl)
theorem dX7_here_23 : decode cX7_here 23 = .ok (.bipush (-4), 2) := dk_16 252 (dk_at dksX7_here_1 0 rfl rfl)
theorem dX7_here_25 : decode cX7_here 25 = .ok (.ireturn, 1) := dk_172 (dk_at dksX7_here_1 2 rfl rfl)
abbrev cX7_fails : ByteArray := prog_22_method_14_code
def yX7_fails : MethodName := ⟨RX7, "fails", "(I)V"⟩
def dkwX7_fails_0 : List UInt8 := [42, 180, 0, 91, 153, 0, 4, 177, 42, 27, 181, 0, 91, 42, 42, 180, 0, 88, 181, 0, 94, 177]
abbrev dktX7_fails_0 : List UInt8 := dkwX7_fails_0 ++ []
theorem dksX7_fails_0 : cX7_fails.data.toList.drop 0 = dktX7_fails_0 := by decide +kernel
theorem dX7_fails_0 : decode cX7_fails 0 = .ok (.aload_n 0, 1) := dk_42 (dk_at dksX7_fails_0 0 rfl rfl)
theorem dX7_fails_1 : decode cX7_fails 1 = .ok (.getfield 91, 3) := dk_180 0 91 (dk_at dksX7_fails_0 1 rfl rfl)
theorem dX7_fails_4 : decode cX7_fails 4 = .ok (.ifCond .eq 4, 3) := dk_153 0 4 (dk_at dksX7_fails_0 4 rfl rfl)
theorem dX7_fails_7 : decode cX7_fails 7 = .ok (.return_, 1) := dk_177 (dk_at dksX7_fails_0 7 rfl rfl)
theorem dX7_fails_8 : decode cX7_fails 8 = .ok (.aload_n 0, 1) := dk_42 (dk_at dksX7_fails_0 8 rfl rfl)
theorem dX7_fails_9 : decode cX7_fails 9 = .ok (.iload_n 1, 1) := dk_27 (dk_at dksX7_fails_0 9 rfl rfl)
theorem dX7_fails_10 : decode cX7_fails 10 = .ok (.putfield 91, 3) := dk_181 0 91 (dk_at dksX7_fails_0 10 rfl rfl)
theorem dX7_fails_13 : decode cX7_fails 13 = .ok (.aload_n 0, 1) := dk_42 (dk_at dksX7_fails_0 13 rfl rfl)
theorem dX7_fails_14 : decode cX7_fails 14 = .ok (.aload_n 0, 1) := dk_42 (dk_at dksX7_fails_0 14 rfl rfl)
theorem dX7_fails_15 : decode cX7_fails 15 = .ok (.getfield 88, 3) := dk_180 0 88 (dk_at dksX7_fails_0 15 rfl rfl)
theorem dX7_fails_18 : decode cX7_fails 18 = .ok (.putfield 94, 3) := dk_181 0 94 (dk_at dksX7_fails_0 18 rfl rfl)
theorem dX7_fails_21 : decode cX7_fails 21 = .ok (.return_, 1) := dk_177 (dk_at dksX7_fails_0 21 rfl rfl)
abbrev cX7_number : ByteArray := prog_22_method_15_code
def yX7_number : MethodName := ⟨RX7, "number", "(II)I"⟩
def dkwX7_number_5 : List UInt8 := [172]
abbrev dktX7_number_5 : List UInt8 := dkwX7_number_5 ++ []
def dkwX7_number_4 : List UInt8 := [184, 0, 68, 154, 0, 8, 42, 5, 182, 0, 114, 42, 180, 0, 91, 154, 0, 8, 33, 136, 167, 0, 4, 27]
abbrev dktX7_number_4 : List UInt8 := dkwX7_number_4 ++ dktX7_number_5
def dkwX7_number_3 : List UInt8 := [180, 0, 81, 42, 180, 0, 88, 160, 0, 11, 42, 4, 182, 0, 114, 167, 0, 19, 33, 27, 133, 28, 133]
abbrev dktX7_number_3 : List UInt8 := dkwX7_number_3 ++ dktX7_number_4
def dkwX7_number_2 : List UInt8 := [20, 0, 100, 101, 184, 0, 108, 66, 42, 89, 180, 0, 81, 4, 96, 181, 0, 81, 167, 255, 207, 42]
abbrev dktX7_number_2 : List UInt8 := dkwX7_number_2 ++ dktX7_number_3
def dkwX7_number_1 : List UInt8 := [20, 0, 102, 184, 0, 68, 153, 0, 38, 20, 0, 104, 20, 0, 106, 33, 105, 42, 182, 0, 84, 133, 97]
abbrev dktX7_number_1 : List UInt8 := dkwX7_number_1 ++ dktX7_number_2
def dkwX7_number_0 : List UInt8 := [42, 180, 0, 91, 153, 0, 5, 27, 172, 42, 182, 0, 97, 9, 66, 42, 182, 0, 84, 133, 20, 0, 100]
abbrev dktX7_number_0 : List UInt8 := dkwX7_number_0 ++ dktX7_number_1
theorem dksX7_number_0 : cX7_number.data.toList.drop 0 = dktX7_number_0 := by decide +kernel
theorem dksX7_number_1 : cX7_number.data.toList.drop 23 = dktX7_number_1 := dk_seg dksX7_number_0 23 rfl rfl
theorem dksX7_number_2 : cX7_number.data.toList.drop 46 = dktX7_number_2 := dk_seg dksX7_number_1 23 rfl rfl
theorem dksX7_number_3 : cX7_number.data.toList.drop 68 = dktX7_number_3 := dk_seg dksX7_number_2 22 rfl rfl
theorem dksX7_number_4 : cX7_number.data.toList.drop 91 = dktX7_number_4 := dk_seg dksX7_number_3 23 rfl rfl
theorem dksX7_number_5 : cX7_number.data.toList.drop 115 = dktX7_number_5 := dk_seg dksX7_number_4 24 rfl rfl
theorem dX7_number_0 : decode cX7_number 0 = .ok (.aload_n 0, 1) := dk_42 (dk_at dksX7_number_0 0 rfl rfl)
theorem dX7_number_1 : decode cX7_number 1 = .ok (.getfield 91, 3) := dk_180 0 91 (dk_at dksX7_number_0 1 rfl rfl)
theorem dX7_number_4 : decode cX7_number 4 = .ok (.ifCond .eq 5, 3) := dk_153 0 5 (dk_at dksX7_number_0 4 rfl rfl)
theorem dX7_number_7 : decode cX7_number 7 = .ok (.iload_n 1, 1) := dk_27 (dk_at dksX7_number_0 7 rfl rfl)
theorem dX7_number_8 : decode cX7_number 8 = .ok (.ireturn, 1) := dk_172 (dk_at dksX7_number_0 8 rfl rfl)
theorem dX7_number_9 : decode cX7_number 9 = .ok (.aload_n 0, 1) := dk_42 (dk_at dksX7_number_0 9 rfl rfl)
theorem dX7_number_10 : decode cX7_number 10 = .ok (.invokevirtual 97, 3) := dk_182 0 97 (dk_at dksX7_number_0 10 rfl rfl)
theorem dX7_number_13 : decode cX7_number 13 = .ok (.lconst 0, 1) := dk_9 (dk_at dksX7_number_0 13 rfl rfl)
theorem dX7_number_14 : decode cX7_number 14 = .ok (.lstore_n 3, 1) := dk_66 (dk_at dksX7_number_0 14 rfl rfl)
theorem dX7_number_15 : decode cX7_number 15 = .ok (.aload_n 0, 1) := dk_42 (dk_at dksX7_number_0 15 rfl rfl)
theorem dX7_number_16 : decode cX7_number 16 = .ok (.invokevirtual 84, 3) := dk_182 0 84 (dk_at dksX7_number_0 16 rfl rfl)
theorem dX7_number_19 : decode cX7_number 19 = .ok (.i2l, 1) := dk_133 (dk_at dksX7_number_0 19 rfl rfl)
theorem dX7_number_20 : decode cX7_number 20 = .ok (.ldc2_w 100, 3) := dk_20 0 100 (dk_at dksX7_number_0 20 rfl rfl)
theorem dX7_number_23 : decode cX7_number 23 = .ok (.ldc2_w 102, 3) := dk_20 0 102 (dk_at dksX7_number_1 0 rfl rfl)
theorem dX7_number_26 : decode cX7_number 26 = .ok (.invokestatic 68, 3) := dk_184 0 68 (dk_at dksX7_number_1 3 rfl rfl)
theorem dX7_number_29 : decode cX7_number 29 = .ok (.ifCond .eq 38, 3) := dk_153 0 38 (dk_at dksX7_number_1 6 rfl rfl)
theorem dX7_number_32 : decode cX7_number 32 = .ok (.ldc2_w 104, 3) := dk_20 0 104 (dk_at dksX7_number_1 9 rfl rfl)
theorem dX7_number_35 : decode cX7_number 35 = .ok (.ldc2_w 106, 3) := dk_20 0 106 (dk_at dksX7_number_1 12 rfl rfl)
theorem dX7_number_38 : decode cX7_number 38 = .ok (.lload_n 3, 1) := dk_33 (dk_at dksX7_number_1 15 rfl rfl)
theorem dX7_number_39 : decode cX7_number 39 = .ok (.lmul, 1) := dk_105 (dk_at dksX7_number_1 16 rfl rfl)
theorem dX7_number_40 : decode cX7_number 40 = .ok (.aload_n 0, 1) := dk_42 (dk_at dksX7_number_1 17 rfl rfl)
theorem dX7_number_41 : decode cX7_number 41 = .ok (.invokevirtual 84, 3) := dk_182 0 84 (dk_at dksX7_number_1 18 rfl rfl)
theorem dX7_number_44 : decode cX7_number 44 = .ok (.i2l, 1) := dk_133 (dk_at dksX7_number_1 21 rfl rfl)
theorem dX7_number_45 : decode cX7_number 45 = .ok (.ladd, 1) := dk_97 (dk_at dksX7_number_1 22 rfl rfl)
theorem dX7_number_46 : decode cX7_number 46 = .ok (.ldc2_w 100, 3) := dk_20 0 100 (dk_at dksX7_number_2 0 rfl rfl)
theorem dX7_number_49 : decode cX7_number 49 = .ok (.lsub, 1) := dk_101 (dk_at dksX7_number_2 3 rfl rfl)
theorem dX7_number_50 : decode cX7_number 50 = .ok (.invokestatic 108, 3) := dk_184 0 108 (dk_at dksX7_number_2 4 rfl rfl)
theorem dX7_number_53 : decode cX7_number 53 = .ok (.lstore_n 3, 1) := dk_66 (dk_at dksX7_number_2 7 rfl rfl)
theorem dX7_number_54 : decode cX7_number 54 = .ok (.aload_n 0, 1) := dk_42 (dk_at dksX7_number_2 8 rfl rfl)
theorem dX7_number_55 : decode cX7_number 55 = .ok (.dup, 1) := dk_89 (dk_at dksX7_number_2 9 rfl rfl)
theorem dX7_number_56 : decode cX7_number 56 = .ok (.getfield 81, 3) := dk_180 0 81 (dk_at dksX7_number_2 10 rfl rfl)
theorem dX7_number_59 : decode cX7_number 59 = .ok (.iconst 1, 1) := dk_4 (dk_at dksX7_number_2 13 rfl rfl)
theorem dX7_number_60 : decode cX7_number 60 = .ok (.iadd, 1) := dk_96 (dk_at dksX7_number_2 14 rfl rfl)
theorem dX7_number_61 : decode cX7_number 61 = .ok (.putfield 81, 3) := dk_181 0 81 (dk_at dksX7_number_2 15 rfl rfl)
theorem dX7_number_64 : decode cX7_number 64 = .ok (.goto (-49), 3) := dk_167 255 207 (dk_at dksX7_number_2 18 rfl rfl)
theorem dX7_number_67 : decode cX7_number 67 = .ok (.aload_n 0, 1) := dk_42 (dk_at dksX7_number_2 21 rfl rfl)
theorem dX7_number_68 : decode cX7_number 68 = .ok (.getfield 81, 3) := dk_180 0 81 (dk_at dksX7_number_3 0 rfl rfl)
theorem dX7_number_71 : decode cX7_number 71 = .ok (.aload_n 0, 1) := dk_42 (dk_at dksX7_number_3 3 rfl rfl)
theorem dX7_number_72 : decode cX7_number 72 = .ok (.getfield 88, 3) := dk_180 0 88 (dk_at dksX7_number_3 4 rfl rfl)
theorem dX7_number_75 : decode cX7_number 75 = .ok (.if_icmp .ne 11, 3) := dk_160 0 11 (dk_at dksX7_number_3 7 rfl rfl)
theorem dX7_number_78 : decode cX7_number 78 = .ok (.aload_n 0, 1) := dk_42 (dk_at dksX7_number_3 10 rfl rfl)
theorem dX7_number_79 : decode cX7_number 79 = .ok (.iconst 1, 1) := dk_4 (dk_at dksX7_number_3 11 rfl rfl)
theorem dX7_number_80 : decode cX7_number 80 = .ok (.invokevirtual 114, 3) := dk_182 0 114 (dk_at dksX7_number_3 12 rfl rfl)
theorem dX7_number_83 : decode cX7_number 83 = .ok (.goto 19, 3) := dk_167 0 19 (dk_at dksX7_number_3 15 rfl rfl)
theorem dX7_number_86 : decode cX7_number 86 = .ok (.lload_n 3, 1) := dk_33 (dk_at dksX7_number_3 18 rfl rfl)
theorem dX7_number_87 : decode cX7_number 87 = .ok (.iload_n 1, 1) := dk_27 (dk_at dksX7_number_3 19 rfl rfl)
theorem dX7_number_88 : decode cX7_number 88 = .ok (.i2l, 1) := dk_133 (dk_at dksX7_number_3 20 rfl rfl)
theorem dX7_number_89 : decode cX7_number 89 = .ok (.iload_n 2, 1) := dk_28 (dk_at dksX7_number_3 21 rfl rfl)
theorem dX7_number_90 : decode cX7_number 90 = .ok (.i2l, 1) := dk_133 (dk_at dksX7_number_3 22 rfl rfl)
theorem dX7_number_91 : decode cX7_number 91 = .ok (.invokestatic 68, 3) := dk_184 0 68 (dk_at dksX7_number_4 0 rfl rfl)
theorem dX7_number_94 : decode cX7_number 94 = .ok (.ifCond .ne 8, 3) := dk_154 0 8 (dk_at dksX7_number_4 3 rfl rfl)
theorem dX7_number_97 : decode cX7_number 97 = .ok (.aload_n 0, 1) := dk_42 (dk_at dksX7_number_4 6 rfl rfl)
theorem dX7_number_98 : decode cX7_number 98 = .ok (.iconst 2, 1) := dk_5 (dk_at dksX7_number_4 7 rfl rfl)
theorem dX7_number_99 : decode cX7_number 99 = .ok (.invokevirtual 114, 3) := dk_182 0 114 (dk_at dksX7_number_4 8 rfl rfl)
theorem dX7_number_102 : decode cX7_number 102 = .ok (.aload_n 0, 1) := dk_42 (dk_at dksX7_number_4 11 rfl rfl)
theorem dX7_number_103 : decode cX7_number 103 = .ok (.getfield 91, 3) := dk_180 0 91 (dk_at dksX7_number_4 12 rfl rfl)
theorem dX7_number_106 : decode cX7_number 106 = .ok (.ifCond .ne 8, 3) := dk_154 0 8 (dk_at dksX7_number_4 15 rfl rfl)
theorem dX7_number_109 : decode cX7_number 109 = .ok (.lload_n 3, 1) := dk_33 (dk_at dksX7_number_4 18 rfl rfl)
theorem dX7_number_110 : decode cX7_number 110 = .ok (.l2i, 1) := dk_136 (dk_at dksX7_number_4 19 rfl rfl)
theorem dX7_number_111 : decode cX7_number 111 = .ok (.goto 4, 3) := dk_167 0 4 (dk_at dksX7_number_4 20 rfl rfl)
theorem dX7_number_114 : decode cX7_number 114 = .ok (.iload_n 1, 1) := dk_27 (dk_at dksX7_number_4 23 rfl rfl)
theorem dX7_number_115 : decode cX7_number 115 = .ok (.ireturn, 1) := dk_172 (dk_at dksX7_number_5 0 rfl rfl)
abbrev cX7_readNodeHere : ByteArray := prog_22_method_18_code
def yX7_readNodeHere : MethodName := ⟨RX7, "readNodeHere", "()V"⟩
def dkwX7_readNodeHere_1 : List UInt8 := [182, 0, 134, 62, 42, 180, 0, 91, 154, 0, 10, 42, 27, 28, 29, 182, 0, 58, 177]
abbrev dktX7_readNodeHere_1 : List UInt8 := dkwX7_readNodeHere_1 ++ []
def dkwX7_readNodeHere_0 : List UInt8 := [42, 17, 3, 132, 17, 4, 76, 182, 0, 134, 60, 42, 3, 18, 138, 182, 0, 134, 61, 42, 4, 17, 3, 232]
abbrev dktX7_readNodeHere_0 : List UInt8 := dkwX7_readNodeHere_0 ++ dktX7_readNodeHere_1
theorem dksX7_readNodeHere_0 : cX7_readNodeHere.data.toList.drop 0 = dktX7_readNodeHere_0 := by decide +kernel
theorem dksX7_readNodeHere_1 : cX7_readNodeHere.data.toList.drop 24 = dktX7_readNodeHere_1 := dk_seg dksX7_readNodeHere_0 24 rfl rfl
theorem dX7_readNodeHere_0 : decode cX7_readNodeHere 0 = .ok (.aload_n 0, 1) := dk_42 (dk_at dksX7_readNodeHere_0 0 rfl rfl)
theorem dX7_readNodeHere_1 : decode cX7_readNodeHere 1 = .ok (.sipush 900, 3) := dk_17 3 132 (dk_at dksX7_readNodeHere_0 1 rfl rfl)
theorem dX7_readNodeHere_4 : decode cX7_readNodeHere 4 = .ok (.sipush 1100, 3) := dk_17 4 76 (dk_at dksX7_readNodeHere_0 4 rfl rfl)
theorem dX7_readNodeHere_7 : decode cX7_readNodeHere 7 = .ok (.invokevirtual 134, 3) := dk_182 0 134 (dk_at dksX7_readNodeHere_0 7 rfl rfl)
theorem dX7_readNodeHere_10 : decode cX7_readNodeHere 10 = .ok (.istore_n 1, 1) := dk_60 (dk_at dksX7_readNodeHere_0 10 rfl rfl)
theorem dX7_readNodeHere_11 : decode cX7_readNodeHere 11 = .ok (.aload_n 0, 1) := dk_42 (dk_at dksX7_readNodeHere_0 11 rfl rfl)
theorem dX7_readNodeHere_12 : decode cX7_readNodeHere 12 = .ok (.iconst 0, 1) := dk_3 (dk_at dksX7_readNodeHere_0 12 rfl rfl)
theorem dX7_readNodeHere_13 : decode cX7_readNodeHere 13 = .ok (.ldc 138, 2) := dk_18 138 (dk_at dksX7_readNodeHere_0 13 rfl rfl)
theorem dX7_readNodeHere_15 : decode cX7_readNodeHere 15 = .ok (.invokevirtual 134, 3) := dk_182 0 134 (dk_at dksX7_readNodeHere_0 15 rfl rfl)
theorem dX7_readNodeHere_18 : decode cX7_readNodeHere 18 = .ok (.istore_n 2, 1) := dk_61 (dk_at dksX7_readNodeHere_0 18 rfl rfl)
theorem dX7_readNodeHere_19 : decode cX7_readNodeHere 19 = .ok (.aload_n 0, 1) := dk_42 (dk_at dksX7_readNodeHere_0 19 rfl rfl)
theorem dX7_readNodeHere_20 : decode cX7_readNodeHere 20 = .ok (.iconst 1, 1) := dk_4 (dk_at dksX7_readNodeHere_0 20 rfl rfl)
theorem dX7_readNodeHere_21 : decode cX7_readNodeHere 21 = .ok (.sipush 1000, 3) := dk_17 3 232 (dk_at dksX7_readNodeHere_0 21 rfl rfl)
theorem dX7_readNodeHere_24 : decode cX7_readNodeHere 24 = .ok (.invokevirtual 134, 3) := dk_182 0 134 (dk_at dksX7_readNodeHere_1 0 rfl rfl)
theorem dX7_readNodeHere_27 : decode cX7_readNodeHere 27 = .ok (.istore_n 3, 1) := dk_62 (dk_at dksX7_readNodeHere_1 3 rfl rfl)
theorem dX7_readNodeHere_28 : decode cX7_readNodeHere 28 = .ok (.aload_n 0, 1) := dk_42 (dk_at dksX7_readNodeHere_1 4 rfl rfl)
theorem dX7_readNodeHere_29 : decode cX7_readNodeHere 29 = .ok (.getfield 91, 3) := dk_180 0 91 (dk_at dksX7_readNodeHere_1 5 rfl rfl)
theorem dX7_readNodeHere_32 : decode cX7_readNodeHere 32 = .ok (.ifCond .ne 10, 3) := dk_154 0 10 (dk_at dksX7_readNodeHere_1 8 rfl rfl)
theorem dX7_readNodeHere_35 : decode cX7_readNodeHere 35 = .ok (.aload_n 0, 1) := dk_42 (dk_at dksX7_readNodeHere_1 11 rfl rfl)
theorem dX7_readNodeHere_36 : decode cX7_readNodeHere 36 = .ok (.iload_n 1, 1) := dk_27 (dk_at dksX7_readNodeHere_1 12 rfl rfl)
theorem dX7_readNodeHere_37 : decode cX7_readNodeHere 37 = .ok (.iload_n 2, 1) := dk_28 (dk_at dksX7_readNodeHere_1 13 rfl rfl)
theorem dX7_readNodeHere_38 : decode cX7_readNodeHere 38 = .ok (.iload_n 3, 1) := dk_29 (dk_at dksX7_readNodeHere_1 14 rfl rfl)
theorem dX7_readNodeHere_39 : decode cX7_readNodeHere 39 = .ok (.invokevirtual 58, 3) := dk_182 0 58 (dk_at dksX7_readNodeHere_1 15 rfl rfl)
theorem dX7_readNodeHere_42 : decode cX7_readNodeHere 42 = .ok (.return_, 1) := dk_177 (dk_at dksX7_readNodeHere_1 18 rfl rfl)
abbrev cX7_loadError : ByteArray := prog_22_method_20_code
def yX7_loadError : MethodName := ⟨RX7, "loadError", "()I"⟩
def dkwX7_loadError_0 : List UInt8 := [42, 3, 181, 0, 65, 42, 180, 0, 147, 172]
abbrev dktX7_loadError_0 : List UInt8 := dkwX7_loadError_0 ++ []
theorem dksX7_loadError_0 : cX7_loadError.data.toList.drop 0 = dktX7_loadError_0 := by decide +kernel
theorem dX7_loadError_0 : decode cX7_loadError 0 = .ok (.aload_n 0, 1) := dk_42 (dk_at dksX7_loadError_0 0 rfl rfl)
theorem dX7_loadError_1 : decode cX7_loadError 1 = .ok (.iconst 0, 1) := dk_3 (dk_at dksX7_loadError_0 1 rfl rfl)
theorem dX7_loadError_2 : decode cX7_loadError 2 = .ok (.putfield 65, 3) := dk_181 0 65 (dk_at dksX7_loadError_0 2 rfl rfl)
theorem dX7_loadError_5 : decode cX7_loadError 5 = .ok (.aload_n 0, 1) := dk_42 (dk_at dksX7_loadError_0 5 rfl rfl)
theorem dX7_loadError_6 : decode cX7_loadError 6 = .ok (.getfield 147, 3) := dk_180 0 147 (dk_at dksX7_loadError_0 6 rfl rfl)
theorem dX7_loadError_9 : decode cX7_loadError 9 = .ok (.ireturn, 1) := dk_172 (dk_at dksX7_loadError_0 9 rfl rfl)
abbrev cX7_now : ByteArray := prog_22_method_29_code
def yX7_now : MethodName := ⟨RX7, "now", "()I"⟩
def dkwX7_now_0 : List UInt8 := [42, 3, 181, 0, 65, 42, 180, 0, 10, 3, 46, 172]
abbrev dktX7_now_0 : List UInt8 := dkwX7_now_0 ++ []
theorem dksX7_now_0 : cX7_now.data.toList.drop 0 = dktX7_now_0 := by decide +kernel
theorem dX7_now_0 : decode cX7_now 0 = .ok (.aload_n 0, 1) := dk_42 (dk_at dksX7_now_0 0 rfl rfl)
theorem dX7_now_1 : decode cX7_now 1 = .ok (.iconst 0, 1) := dk_3 (dk_at dksX7_now_0 1 rfl rfl)
theorem dX7_now_2 : decode cX7_now 2 = .ok (.putfield 65, 3) := dk_181 0 65 (dk_at dksX7_now_0 2 rfl rfl)
theorem dX7_now_5 : decode cX7_now 5 = .ok (.aload_n 0, 1) := dk_42 (dk_at dksX7_now_0 5 rfl rfl)
theorem dX7_now_6 : decode cX7_now 6 = .ok (.getfield 10, 3) := dk_180 0 10 (dk_at dksX7_now_0 6 rfl rfl)
theorem dX7_now_9 : decode cX7_now 9 = .ok (.iconst 0, 1) := dk_3 (dk_at dksX7_now_0 9 rfl rfl)
theorem dX7_now_10 : decode cX7_now 10 = .ok (.iaload, 1) := dk_46 (dk_at dksX7_now_0 10 rfl rfl)
theorem dX7_now_11 : decode cX7_now 11 = .ok (.ireturn, 1) := dk_172 (dk_at dksX7_now_0 11 rfl rfl)
abbrev cX7_nodeCount : ByteArray := prog_22_method_30_code
def yX7_nodeCount : MethodName := ⟨RX7, "nodeCount", "()I"⟩
def dkwX7_nodeCount_0 : List UInt8 := [42, 3, 181, 0, 65, 42, 180, 0, 10, 5, 46, 172]
abbrev dktX7_nodeCount_0 : List UInt8 := dkwX7_nodeCount_0 ++ []
theorem dksX7_nodeCount_0 : cX7_nodeCount.data.toList.drop 0 = dktX7_nodeCount_0 := by decide +kernel
theorem dX7_nodeCount_0 : decode cX7_nodeCount 0 = .ok (.aload_n 0, 1) := dk_42 (dk_at dksX7_nodeCount_0 0 rfl rfl)
theorem dX7_nodeCount_1 : decode cX7_nodeCount 1 = .ok (.iconst 0, 1) := dk_3 (dk_at dksX7_nodeCount_0 1 rfl rfl)
theorem dX7_nodeCount_2 : decode cX7_nodeCount 2 = .ok (.putfield 65, 3) := dk_181 0 65 (dk_at dksX7_nodeCount_0 2 rfl rfl)
theorem dX7_nodeCount_5 : decode cX7_nodeCount 5 = .ok (.aload_n 0, 1) := dk_42 (dk_at dksX7_nodeCount_0 5 rfl rfl)
theorem dX7_nodeCount_6 : decode cX7_nodeCount 6 = .ok (.getfield 10, 3) := dk_180 0 10 (dk_at dksX7_nodeCount_0 6 rfl rfl)
theorem dX7_nodeCount_9 : decode cX7_nodeCount 9 = .ok (.iconst 2, 1) := dk_5 (dk_at dksX7_nodeCount_0 9 rfl rfl)
theorem dX7_nodeCount_10 : decode cX7_nodeCount 10 = .ok (.iaload, 1) := dk_46 (dk_at dksX7_nodeCount_0 10 rfl rfl)
theorem dX7_nodeCount_11 : decode cX7_nodeCount 11 = .ok (.ireturn, 1) := dk_172 (dk_at dksX7_nodeCount_0 11 rfl rfl)
abbrev cX7_nodeClock : ByteArray := prog_22_method_31_code
def yX7_nodeClock : MethodName := ⟨RX7, "nodeClock", "(I)I"⟩
def dkwX7_nodeClock_0 : List UInt8 := [42, 27, 182, 0, 172, 153, 0, 7, 3, 167, 0, 8, 42, 27, 182, 0, 162, 172]
abbrev dktX7_nodeClock_0 : List UInt8 := dkwX7_nodeClock_0 ++ []
theorem dksX7_nodeClock_0 : cX7_nodeClock.data.toList.drop 0 = dktX7_nodeClock_0 := by decide +kernel
theorem dX7_nodeClock_0 : decode cX7_nodeClock 0 = .ok (.aload_n 0, 1) := dk_42 (dk_at dksX7_nodeClock_0 0 rfl rfl)
theorem dX7_nodeClock_1 : decode cX7_nodeClock 1 = .ok (.iload_n 1, 1) := dk_27 (dk_at dksX7_nodeClock_0 1 rfl rfl)
theorem dX7_nodeClock_2 : decode cX7_nodeClock 2 = .ok (.invokevirtual 172, 3) := dk_182 0 172 (dk_at dksX7_nodeClock_0 2 rfl rfl)
theorem dX7_nodeClock_5 : decode cX7_nodeClock 5 = .ok (.ifCond .eq 7, 3) := dk_153 0 7 (dk_at dksX7_nodeClock_0 5 rfl rfl)
theorem dX7_nodeClock_8 : decode cX7_nodeClock 8 = .ok (.iconst 0, 1) := dk_3 (dk_at dksX7_nodeClock_0 8 rfl rfl)
theorem dX7_nodeClock_9 : decode cX7_nodeClock 9 = .ok (.goto 8, 3) := dk_167 0 8 (dk_at dksX7_nodeClock_0 9 rfl rfl)
theorem dX7_nodeClock_12 : decode cX7_nodeClock 12 = .ok (.aload_n 0, 1) := dk_42 (dk_at dksX7_nodeClock_0 12 rfl rfl)
theorem dX7_nodeClock_13 : decode cX7_nodeClock 13 = .ok (.iload_n 1, 1) := dk_27 (dk_at dksX7_nodeClock_0 13 rfl rfl)
theorem dX7_nodeClock_14 : decode cX7_nodeClock 14 = .ok (.invokevirtual 162, 3) := dk_182 0 162 (dk_at dksX7_nodeClock_0 14 rfl rfl)
theorem dX7_nodeClock_17 : decode cX7_nodeClock 17 = .ok (.ireturn, 1) := dk_172 (dk_at dksX7_nodeClock_0 17 rfl rfl)
abbrev cX7_noNode : ByteArray := prog_22_method_5_code
def yX7_noNode : MethodName := ⟨RX7, "noNode", "(I)Z"⟩
def dkwX7_noNode_1 : List UInt8 := [4, 167, 0, 4, 3, 4, 182, 0, 72, 172]
abbrev dktX7_noNode_1 : List UInt8 := dkwX7_noNode_1 ++ []
def dkwX7_noNode_0 : List UInt8 := [42, 3, 181, 0, 65, 42, 27, 133, 9, 42, 180, 0, 10, 5, 46, 4, 100, 133, 184, 0, 68, 154, 0, 7]
abbrev dktX7_noNode_0 : List UInt8 := dkwX7_noNode_0 ++ dktX7_noNode_1
theorem dksX7_noNode_0 : cX7_noNode.data.toList.drop 0 = dktX7_noNode_0 := by decide +kernel
theorem dksX7_noNode_1 : cX7_noNode.data.toList.drop 24 = dktX7_noNode_1 := dk_seg dksX7_noNode_0 24 rfl rfl
theorem dX7_noNode_0 : decode cX7_noNode 0 = .ok (.aload_n 0, 1) := dk_42 (dk_at dksX7_noNode_0 0 rfl rfl)
theorem dX7_noNode_1 : decode cX7_noNode 1 = .ok (.iconst 0, 1) := dk_3 (dk_at dksX7_noNode_0 1 rfl rfl)
theorem dX7_noNode_2 : decode cX7_noNode 2 = .ok (.putfield 65, 3) := dk_181 0 65 (dk_at dksX7_noNode_0 2 rfl rfl)
theorem dX7_noNode_5 : decode cX7_noNode 5 = .ok (.aload_n 0, 1) := dk_42 (dk_at dksX7_noNode_0 5 rfl rfl)
theorem dX7_noNode_6 : decode cX7_noNode 6 = .ok (.iload_n 1, 1) := dk_27 (dk_at dksX7_noNode_0 6 rfl rfl)
theorem dX7_noNode_7 : decode cX7_noNode 7 = .ok (.i2l, 1) := dk_133 (dk_at dksX7_noNode_0 7 rfl rfl)
theorem dX7_noNode_8 : decode cX7_noNode 8 = .ok (.lconst 0, 1) := dk_9 (dk_at dksX7_noNode_0 8 rfl rfl)
theorem dX7_noNode_9 : decode cX7_noNode 9 = .ok (.aload_n 0, 1) := dk_42 (dk_at dksX7_noNode_0 9 rfl rfl)
theorem dX7_noNode_10 : decode cX7_noNode 10 = .ok (.getfield 10, 3) := dk_180 0 10 (dk_at dksX7_noNode_0 10 rfl rfl)
theorem dX7_noNode_13 : decode cX7_noNode 13 = .ok (.iconst 2, 1) := dk_5 (dk_at dksX7_noNode_0 13 rfl rfl)
theorem dX7_noNode_14 : decode cX7_noNode 14 = .ok (.iaload, 1) := dk_46 (dk_at dksX7_noNode_0 14 rfl rfl)
theorem dX7_noNode_15 : decode cX7_noNode 15 = .ok (.iconst 1, 1) := dk_4 (dk_at dksX7_noNode_0 15 rfl rfl)
theorem dX7_noNode_16 : decode cX7_noNode 16 = .ok (.isub, 1) := dk_100 (dk_at dksX7_noNode_0 16 rfl rfl)
theorem dX7_noNode_17 : decode cX7_noNode 17 = .ok (.i2l, 1) := dk_133 (dk_at dksX7_noNode_0 17 rfl rfl)
theorem dX7_noNode_18 : decode cX7_noNode 18 = .ok (.invokestatic 68, 3) := dk_184 0 68 (dk_at dksX7_noNode_0 18 rfl rfl)
theorem dX7_noNode_21 : decode cX7_noNode 21 = .ok (.ifCond .ne 7, 3) := dk_154 0 7 (dk_at dksX7_noNode_0 21 rfl rfl)
theorem dX7_noNode_24 : decode cX7_noNode 24 = .ok (.iconst 1, 1) := dk_4 (dk_at dksX7_noNode_1 0 rfl rfl)
theorem dX7_noNode_25 : decode cX7_noNode 25 = .ok (.goto 4, 3) := dk_167 0 4 (dk_at dksX7_noNode_1 1 rfl rfl)
theorem dX7_noNode_28 : decode cX7_noNode 28 = .ok (.iconst 0, 1) := dk_3 (dk_at dksX7_noNode_1 4 rfl rfl)
theorem dX7_noNode_29 : decode cX7_noNode 29 = .ok (.iconst 1, 1) := dk_4 (dk_at dksX7_noNode_1 5 rfl rfl)
theorem dX7_noNode_30 : decode cX7_noNode 30 = .ok (.invokevirtual 72, 3) := dk_182 0 72 (dk_at dksX7_noNode_1 6 rfl rfl)
theorem dX7_noNode_33 : decode cX7_noNode 33 = .ok (.ireturn, 1) := dk_172 (dk_at dksX7_noNode_1 9 rfl rfl)
abbrev cX7_clock : ByteArray := prog_22_method_23_code
def yX7_clock : MethodName := ⟨RX7, "clock", "(I)I"⟩
def dkwX7_clock_0 : List UInt8 := [42, 27, 3, 182, 0, 152, 42, 27, 4, 182, 0, 152, 42, 180, 0, 10, 3, 46, 184, 0, 155, 172]
abbrev dktX7_clock_0 : List UInt8 := dkwX7_clock_0 ++ []
theorem dksX7_clock_0 : cX7_clock.data.toList.drop 0 = dktX7_clock_0 := by decide +kernel
theorem dX7_clock_0 : decode cX7_clock 0 = .ok (.aload_n 0, 1) := dk_42 (dk_at dksX7_clock_0 0 rfl rfl)
theorem dX7_clock_1 : decode cX7_clock 1 = .ok (.iload_n 1, 1) := dk_27 (dk_at dksX7_clock_0 1 rfl rfl)
theorem dX7_clock_2 : decode cX7_clock 2 = .ok (.iconst 0, 1) := dk_3 (dk_at dksX7_clock_0 2 rfl rfl)
theorem dX7_clock_3 : decode cX7_clock 3 = .ok (.invokevirtual 152, 3) := dk_182 0 152 (dk_at dksX7_clock_0 3 rfl rfl)
theorem dX7_clock_6 : decode cX7_clock 6 = .ok (.aload_n 0, 1) := dk_42 (dk_at dksX7_clock_0 6 rfl rfl)
theorem dX7_clock_7 : decode cX7_clock 7 = .ok (.iload_n 1, 1) := dk_27 (dk_at dksX7_clock_0 7 rfl rfl)
theorem dX7_clock_8 : decode cX7_clock 8 = .ok (.iconst 1, 1) := dk_4 (dk_at dksX7_clock_0 8 rfl rfl)
theorem dX7_clock_9 : decode cX7_clock 9 = .ok (.invokevirtual 152, 3) := dk_182 0 152 (dk_at dksX7_clock_0 9 rfl rfl)
theorem dX7_clock_12 : decode cX7_clock 12 = .ok (.aload_n 0, 1) := dk_42 (dk_at dksX7_clock_0 12 rfl rfl)
theorem dX7_clock_13 : decode cX7_clock 13 = .ok (.getfield 10, 3) := dk_180 0 10 (dk_at dksX7_clock_0 13 rfl rfl)
theorem dX7_clock_16 : decode cX7_clock 16 = .ok (.iconst 0, 1) := dk_3 (dk_at dksX7_clock_0 16 rfl rfl)
theorem dX7_clock_17 : decode cX7_clock 17 = .ok (.iaload, 1) := dk_46 (dk_at dksX7_clock_0 17 rfl rfl)
theorem dX7_clock_18 : decode cX7_clock 18 = .ok (.invokestatic 155, 3) := dk_184 0 155 (dk_at dksX7_clock_0 18 rfl rfl)
theorem dX7_clock_21 : decode cX7_clock 21 = .ok (.ireturn, 1) := dk_172 (dk_at dksX7_clock_0 21 rfl rfl)
abbrev cX7_of : ByteArray := prog_22_method_6_code
def yX7_of : MethodName := ⟨RX7, "of", "(II)I"⟩
def dkwX7_of_0 : List UInt8 := [42, 180, 0, 10, 16, 40, 16, 20, 27, 104, 96, 28, 96, 46, 172]
abbrev dktX7_of_0 : List UInt8 := dkwX7_of_0 ++ []
theorem dksX7_of_0 : cX7_of.data.toList.drop 0 = dktX7_of_0 := by decide +kernel
theorem dX7_of_0 : decode cX7_of 0 = .ok (.aload_n 0, 1) := dk_42 (dk_at dksX7_of_0 0 rfl rfl)
theorem dX7_of_1 : decode cX7_of 1 = .ok (.getfield 10, 3) := dk_180 0 10 (dk_at dksX7_of_0 1 rfl rfl)
theorem dX7_of_4 : decode cX7_of 4 = .ok (.bipush 40, 2) := dk_16 40 (dk_at dksX7_of_0 4 rfl rfl)
theorem dX7_of_6 : decode cX7_of 6 = .ok (.bipush 20, 2) := dk_16 20 (dk_at dksX7_of_0 6 rfl rfl)
theorem dX7_of_8 : decode cX7_of 8 = .ok (.iload_n 1, 1) := dk_27 (dk_at dksX7_of_0 8 rfl rfl)
theorem dX7_of_9 : decode cX7_of 9 = .ok (.imul, 1) := dk_104 (dk_at dksX7_of_0 9 rfl rfl)
theorem dX7_of_10 : decode cX7_of 10 = .ok (.iadd, 1) := dk_96 (dk_at dksX7_of_0 10 rfl rfl)
theorem dX7_of_11 : decode cX7_of 11 = .ok (.iload_n 2, 1) := dk_28 (dk_at dksX7_of_0 11 rfl rfl)
theorem dX7_of_12 : decode cX7_of 12 = .ok (.iadd, 1) := dk_96 (dk_at dksX7_of_0 12 rfl rfl)
theorem dX7_of_13 : decode cX7_of 13 = .ok (.iaload, 1) := dk_46 (dk_at dksX7_of_0 13 rfl rfl)
theorem dX7_of_14 : decode cX7_of 14 = .ok (.ireturn, 1) := dk_172 (dk_at dksX7_of_0 14 rfl rfl)
abbrev cX7_shows : ByteArray := prog_22_method_21_code
def yX7_shows : MethodName := ⟨RX7, "shows", "(III)I"⟩
def dkwX7_shows_0 : List UInt8 := [27, 26, 133, 28, 133, 105, 20, 0, 150, 109, 136, 96, 172]
abbrev dktX7_shows_0 : List UInt8 := dkwX7_shows_0 ++ []
theorem dksX7_shows_0 : cX7_shows.data.toList.drop 0 = dktX7_shows_0 := by decide +kernel
theorem dX7_shows_0 : decode cX7_shows 0 = .ok (.iload_n 1, 1) := dk_27 (dk_at dksX7_shows_0 0 rfl rfl)
theorem dX7_shows_1 : decode cX7_shows 1 = .ok (.iload_n 0, 1) := dk_26 (dk_at dksX7_shows_0 1 rfl rfl)
theorem dX7_shows_2 : decode cX7_shows 2 = .ok (.i2l, 1) := dk_133 (dk_at dksX7_shows_0 2 rfl rfl)
theorem dX7_shows_3 : decode cX7_shows 3 = .ok (.iload_n 2, 1) := dk_28 (dk_at dksX7_shows_0 3 rfl rfl)
theorem dX7_shows_4 : decode cX7_shows 4 = .ok (.i2l, 1) := dk_133 (dk_at dksX7_shows_0 4 rfl rfl)
theorem dX7_shows_5 : decode cX7_shows 5 = .ok (.lmul, 1) := dk_105 (dk_at dksX7_shows_0 5 rfl rfl)
theorem dX7_shows_6 : decode cX7_shows 6 = .ok (.ldc2_w 150, 3) := dk_20 0 150 (dk_at dksX7_shows_0 6 rfl rfl)
theorem dX7_shows_9 : decode cX7_shows 9 = .ok (.ldiv, 1) := dk_109 (dk_at dksX7_shows_0 9 rfl rfl)
theorem dX7_shows_10 : decode cX7_shows 10 = .ok (.l2i, 1) := dk_136 (dk_at dksX7_shows_0 10 rfl rfl)
theorem dX7_shows_11 : decode cX7_shows 11 = .ok (.iadd, 1) := dk_96 (dk_at dksX7_shows_0 11 rfl rfl)
theorem dX7_shows_12 : decode cX7_shows 12 = .ok (.ireturn, 1) := dk_172 (dk_at dksX7_shows_0 12 rfl rfl)
abbrev cX7_serverClock : ByteArray := prog_22_method_32_code
def yX7_serverClock : MethodName := ⟨RX7, "serverClock", "()I"⟩
def dkwX7_serverClock_0 : List UInt8 := [42, 3, 181, 0, 65, 42, 182, 0, 176, 172]
abbrev dktX7_serverClock_0 : List UInt8 := dkwX7_serverClock_0 ++ []
theorem dksX7_serverClock_0 : cX7_serverClock.data.toList.drop 0 = dktX7_serverClock_0 := by decide +kernel
theorem dX7_serverClock_0 : decode cX7_serverClock 0 = .ok (.aload_n 0, 1) := dk_42 (dk_at dksX7_serverClock_0 0 rfl rfl)
theorem dX7_serverClock_1 : decode cX7_serverClock 1 = .ok (.iconst 0, 1) := dk_3 (dk_at dksX7_serverClock_0 1 rfl rfl)
theorem dX7_serverClock_2 : decode cX7_serverClock 2 = .ok (.putfield 65, 3) := dk_181 0 65 (dk_at dksX7_serverClock_0 2 rfl rfl)
theorem dX7_serverClock_5 : decode cX7_serverClock 5 = .ok (.aload_n 0, 1) := dk_42 (dk_at dksX7_serverClock_0 5 rfl rfl)
theorem dX7_serverClock_6 : decode cX7_serverClock 6 = .ok (.invokevirtual 176, 3) := dk_182 0 176 (dk_at dksX7_serverClock_0 6 rfl rfl)
theorem dX7_serverClock_9 : decode cX7_serverClock 9 = .ok (.ireturn, 1) := dk_172 (dk_at dksX7_serverClock_0 9 rfl rfl)
abbrev cX7_serverShows : ByteArray := prog_22_method_24_code
def yX7_serverShows : MethodName := ⟨RX7, "serverShows", "()I"⟩
def dkwX7_serverShows_0 : List UInt8 := [42, 180, 0, 10, 6, 46, 42, 180, 0, 10, 7, 46, 42, 180, 0, 10, 3, 46, 184, 0, 155, 172]
abbrev dktX7_serverShows_0 : List UInt8 := dkwX7_serverShows_0 ++ []
theorem dksX7_serverShows_0 : cX7_serverShows.data.toList.drop 0 = dktX7_serverShows_0 := by decide +kernel
theorem dX7_serverShows_0 : decode cX7_serverShows 0 = .ok (.aload_n 0, 1) := dk_42 (dk_at dksX7_serverShows_0 0 rfl rfl)
theorem dX7_serverShows_1 : decode cX7_serverShows 1 = .ok (.getfield 10, 3) := dk_180 0 10 (dk_at dksX7_serverShows_0 1 rfl rfl)
theorem dX7_serverShows_4 : decode cX7_serverShows 4 = .ok (.iconst 3, 1) := dk_6 (dk_at dksX7_serverShows_0 4 rfl rfl)
theorem dX7_serverShows_5 : decode cX7_serverShows 5 = .ok (.iaload, 1) := dk_46 (dk_at dksX7_serverShows_0 5 rfl rfl)
theorem dX7_serverShows_6 : decode cX7_serverShows 6 = .ok (.aload_n 0, 1) := dk_42 (dk_at dksX7_serverShows_0 6 rfl rfl)
theorem dX7_serverShows_7 : decode cX7_serverShows 7 = .ok (.getfield 10, 3) := dk_180 0 10 (dk_at dksX7_serverShows_0 7 rfl rfl)
theorem dX7_serverShows_10 : decode cX7_serverShows 10 = .ok (.iconst 4, 1) := dk_7 (dk_at dksX7_serverShows_0 10 rfl rfl)
theorem dX7_serverShows_11 : decode cX7_serverShows 11 = .ok (.iaload, 1) := dk_46 (dk_at dksX7_serverShows_0 11 rfl rfl)
theorem dX7_serverShows_12 : decode cX7_serverShows 12 = .ok (.aload_n 0, 1) := dk_42 (dk_at dksX7_serverShows_0 12 rfl rfl)
theorem dX7_serverShows_13 : decode cX7_serverShows 13 = .ok (.getfield 10, 3) := dk_180 0 10 (dk_at dksX7_serverShows_0 13 rfl rfl)
theorem dX7_serverShows_16 : decode cX7_serverShows 16 = .ok (.iconst 0, 1) := dk_3 (dk_at dksX7_serverShows_0 16 rfl rfl)
theorem dX7_serverShows_17 : decode cX7_serverShows 17 = .ok (.iaload, 1) := dk_46 (dk_at dksX7_serverShows_0 17 rfl rfl)
theorem dX7_serverShows_18 : decode cX7_serverShows 18 = .ok (.invokestatic 155, 3) := dk_184 0 155 (dk_at dksX7_serverShows_0 18 rfl rfl)
theorem dX7_serverShows_21 : decode cX7_serverShows 21 = .ok (.ireturn, 1) := dk_172 (dk_at dksX7_serverShows_0 21 rfl rfl)
abbrev cX7_advance : ByteArray := prog_22_method_56_code
def yX7_advance : MethodName := ⟨RX7, "advance", "(I)I"⟩
def dkwX7_advance_2 : List UInt8 := [172, 42, 42, 180, 0, 10, 3, 46, 27, 96, 182, 1, 24, 42, 180, 0, 10, 3, 46, 172]
abbrev dktX7_advance_2 : List UInt8 := dkwX7_advance_2 ++ []
def dkwX7_advance_1 : List UInt8 := [182, 0, 72, 153, 0, 5, 3, 172, 42, 180, 0, 10, 3, 46, 27, 96, 19, 1, 23, 164, 0, 6, 16, 251]
abbrev dktX7_advance_1 : List UInt8 := dkwX7_advance_1 ++ dktX7_advance_2
def dkwX7_advance_0 : List UInt8 := [42, 3, 181, 0, 65, 42, 27, 133, 10, 20, 1, 21, 184, 0, 68, 154, 0, 7, 4, 167, 0, 4, 3, 4]
abbrev dktX7_advance_0 : List UInt8 := dkwX7_advance_0 ++ dktX7_advance_1
theorem dksX7_advance_0 : cX7_advance.data.toList.drop 0 = dktX7_advance_0 := by decide +kernel
theorem dksX7_advance_1 : cX7_advance.data.toList.drop 24 = dktX7_advance_1 := dk_seg dksX7_advance_0 24 rfl rfl
theorem dksX7_advance_2 : cX7_advance.data.toList.drop 48 = dktX7_advance_2 := dk_seg dksX7_advance_1 24 rfl rfl
theorem dX7_advance_0 : decode cX7_advance 0 = .ok (.aload_n 0, 1) := dk_42 (dk_at dksX7_advance_0 0 rfl rfl)
theorem dX7_advance_1 : decode cX7_advance 1 = .ok (.iconst 0, 1) := dk_3 (dk_at dksX7_advance_0 1 rfl rfl)
theorem dX7_advance_2 : decode cX7_advance 2 = .ok (.putfield 65, 3) := dk_181 0 65 (dk_at dksX7_advance_0 2 rfl rfl)
theorem dX7_advance_5 : decode cX7_advance 5 = .ok (.aload_n 0, 1) := dk_42 (dk_at dksX7_advance_0 5 rfl rfl)
theorem dX7_advance_6 : decode cX7_advance 6 = .ok (.iload_n 1, 1) := dk_27 (dk_at dksX7_advance_0 6 rfl rfl)
theorem dX7_advance_7 : decode cX7_advance 7 = .ok (.i2l, 1) := dk_133 (dk_at dksX7_advance_0 7 rfl rfl)
theorem dX7_advance_8 : decode cX7_advance 8 = .ok (.lconst 1, 1) := dk_10 (dk_at dksX7_advance_0 8 rfl rfl)
theorem dX7_advance_9 : decode cX7_advance 9 = .ok (.ldc2_w 277, 3) := dk_20 1 21 (dk_at dksX7_advance_0 9 rfl rfl)
theorem dX7_advance_12 : decode cX7_advance 12 = .ok (.invokestatic 68, 3) := dk_184 0 68 (dk_at dksX7_advance_0 12 rfl rfl)
theorem dX7_advance_15 : decode cX7_advance 15 = .ok (.ifCond .ne 7, 3) := dk_154 0 7 (dk_at dksX7_advance_0 15 rfl rfl)
theorem dX7_advance_18 : decode cX7_advance 18 = .ok (.iconst 1, 1) := dk_4 (dk_at dksX7_advance_0 18 rfl rfl)
theorem dX7_advance_19 : decode cX7_advance 19 = .ok (.goto 4, 3) := dk_167 0 4 (dk_at dksX7_advance_0 19 rfl rfl)
theorem dX7_advance_22 : decode cX7_advance 22 = .ok (.iconst 0, 1) := dk_3 (dk_at dksX7_advance_0 22 rfl rfl)
theorem dX7_advance_23 : decode cX7_advance 23 = .ok (.iconst 1, 1) := dk_4 (dk_at dksX7_advance_0 23 rfl rfl)
theorem dX7_advance_24 : decode cX7_advance 24 = .ok (.invokevirtual 72, 3) := dk_182 0 72 (dk_at dksX7_advance_1 0 rfl rfl)
theorem dX7_advance_27 : decode cX7_advance 27 = .ok (.ifCond .eq 5, 3) := dk_153 0 5 (dk_at dksX7_advance_1 3 rfl rfl)
theorem dX7_advance_30 : decode cX7_advance 30 = .ok (.iconst 0, 1) := dk_3 (dk_at dksX7_advance_1 6 rfl rfl)
theorem dX7_advance_31 : decode cX7_advance 31 = .ok (.ireturn, 1) := dk_172 (dk_at dksX7_advance_1 7 rfl rfl)
theorem dX7_advance_32 : decode cX7_advance 32 = .ok (.aload_n 0, 1) := dk_42 (dk_at dksX7_advance_1 8 rfl rfl)
theorem dX7_advance_33 : decode cX7_advance 33 = .ok (.getfield 10, 3) := dk_180 0 10 (dk_at dksX7_advance_1 9 rfl rfl)
theorem dX7_advance_36 : decode cX7_advance 36 = .ok (.iconst 0, 1) := dk_3 (dk_at dksX7_advance_1 12 rfl rfl)
theorem dX7_advance_37 : decode cX7_advance 37 = .ok (.iaload, 1) := dk_46 (dk_at dksX7_advance_1 13 rfl rfl)
theorem dX7_advance_38 : decode cX7_advance 38 = .ok (.iload_n 1, 1) := dk_27 (dk_at dksX7_advance_1 14 rfl rfl)
theorem dX7_advance_39 : decode cX7_advance 39 = .ok (.iadd, 1) := dk_96 (dk_at dksX7_advance_1 15 rfl rfl)
theorem dX7_advance_40 : decode cX7_advance 40 = .ok (.ldc_w 279, 3) := dk_19 1 23 (dk_at dksX7_advance_1 16 rfl rfl)
theorem dX7_advance_43 : decode cX7_advance 43 = .ok (.if_icmp .le 6, 3) := dk_164 0 6 (dk_at dksX7_advance_1 19 rfl rfl)
theorem dX7_advance_46 : decode cX7_advance 46 = .ok (.bipush (-5), 2) := dk_16 251 (dk_at dksX7_advance_1 22 rfl rfl)
theorem dX7_advance_48 : decode cX7_advance 48 = .ok (.ireturn, 1) := dk_172 (dk_at dksX7_advance_2 0 rfl rfl)
theorem dX7_advance_49 : decode cX7_advance 49 = .ok (.aload_n 0, 1) := dk_42 (dk_at dksX7_advance_2 1 rfl rfl)
theorem dX7_advance_50 : decode cX7_advance 50 = .ok (.aload_n 0, 1) := dk_42 (dk_at dksX7_advance_2 2 rfl rfl)
theorem dX7_advance_51 : decode cX7_advance 51 = .ok (.getfield 10, 3) := dk_180 0 10 (dk_at dksX7_advance_2 3 rfl rfl)
theorem dX7_advance_54 : decode cX7_advance 54 = .ok (.iconst 0, 1) := dk_3 (dk_at dksX7_advance_2 6 rfl rfl)
theorem dX7_advance_55 : decode cX7_advance 55 = .ok (.iaload, 1) := dk_46 (dk_at dksX7_advance_2 7 rfl rfl)
theorem dX7_advance_56 : decode cX7_advance 56 = .ok (.iload_n 1, 1) := dk_27 (dk_at dksX7_advance_2 8 rfl rfl)
theorem dX7_advance_57 : decode cX7_advance 57 = .ok (.iadd, 1) := dk_96 (dk_at dksX7_advance_2 9 rfl rfl)
theorem dX7_advance_58 : decode cX7_advance 58 = .ok (.invokevirtual 280, 3) := dk_182 1 24 (dk_at dksX7_advance_2 10 rfl rfl)
theorem dX7_advance_61 : decode cX7_advance 61 = .ok (.aload_n 0, 1) := dk_42 (dk_at dksX7_advance_2 13 rfl rfl)
theorem dX7_advance_62 : decode cX7_advance 62 = .ok (.getfield 10, 3) := dk_180 0 10 (dk_at dksX7_advance_2 14 rfl rfl)
theorem dX7_advance_65 : decode cX7_advance 65 = .ok (.iconst 0, 1) := dk_3 (dk_at dksX7_advance_2 17 rfl rfl)
theorem dX7_advance_66 : decode cX7_advance 66 = .ok (.iaload, 1) := dk_46 (dk_at dksX7_advance_2 18 rfl rfl)
theorem dX7_advance_67 : decode cX7_advance 67 = .ok (.ireturn, 1) := dk_172 (dk_at dksX7_advance_2 19 rfl rfl)
abbrev cX7_goesTo : ByteArray := prog_22_method_55_code
def yX7_goesTo : MethodName := ⟨RX7, "goesTo", "(I)V"⟩
def dkwX7_goesTo_1 : List UInt8 := [182, 1, 15, 42, 182, 1, 18, 42, 182, 1, 3, 61, 167, 255, 225, 42, 27, 182, 1, 6, 177]
abbrev dktX7_goesTo_1 : List UInt8 := dkwX7_goesTo_1 ++ []
def dkwX7_goesTo_0 : List UInt8 := [42, 182, 1, 3, 61, 28, 27, 163, 0, 32, 42, 28, 182, 1, 6, 42, 182, 1, 9, 42, 182, 1, 12, 42]
abbrev dktX7_goesTo_0 : List UInt8 := dkwX7_goesTo_0 ++ dktX7_goesTo_1
theorem dksX7_goesTo_0 : cX7_goesTo.data.toList.drop 0 = dktX7_goesTo_0 := by decide +kernel
theorem dksX7_goesTo_1 : cX7_goesTo.data.toList.drop 24 = dktX7_goesTo_1 := dk_seg dksX7_goesTo_0 24 rfl rfl
theorem dX7_goesTo_0 : decode cX7_goesTo 0 = .ok (.aload_n 0, 1) := dk_42 (dk_at dksX7_goesTo_0 0 rfl rfl)
theorem dX7_goesTo_1 : decode cX7_goesTo 1 = .ok (.invokevirtual 259, 3) := dk_182 1 3 (dk_at dksX7_goesTo_0 1 rfl rfl)
theorem dX7_goesTo_4 : decode cX7_goesTo 4 = .ok (.istore_n 2, 1) := dk_61 (dk_at dksX7_goesTo_0 4 rfl rfl)
theorem dX7_goesTo_5 : decode cX7_goesTo 5 = .ok (.iload_n 2, 1) := dk_28 (dk_at dksX7_goesTo_0 5 rfl rfl)
theorem dX7_goesTo_6 : decode cX7_goesTo 6 = .ok (.iload_n 1, 1) := dk_27 (dk_at dksX7_goesTo_0 6 rfl rfl)
theorem dX7_goesTo_7 : decode cX7_goesTo 7 = .ok (.if_icmp .gt 32, 3) := dk_163 0 32 (dk_at dksX7_goesTo_0 7 rfl rfl)
theorem dX7_goesTo_10 : decode cX7_goesTo 10 = .ok (.aload_n 0, 1) := dk_42 (dk_at dksX7_goesTo_0 10 rfl rfl)
theorem dX7_goesTo_11 : decode cX7_goesTo 11 = .ok (.iload_n 2, 1) := dk_28 (dk_at dksX7_goesTo_0 11 rfl rfl)
theorem dX7_goesTo_12 : decode cX7_goesTo 12 = .ok (.invokevirtual 262, 3) := dk_182 1 6 (dk_at dksX7_goesTo_0 12 rfl rfl)
theorem dX7_goesTo_15 : decode cX7_goesTo 15 = .ok (.aload_n 0, 1) := dk_42 (dk_at dksX7_goesTo_0 15 rfl rfl)
theorem dX7_goesTo_16 : decode cX7_goesTo 16 = .ok (.invokevirtual 265, 3) := dk_182 1 9 (dk_at dksX7_goesTo_0 16 rfl rfl)
theorem dX7_goesTo_19 : decode cX7_goesTo 19 = .ok (.aload_n 0, 1) := dk_42 (dk_at dksX7_goesTo_0 19 rfl rfl)
theorem dX7_goesTo_20 : decode cX7_goesTo 20 = .ok (.invokevirtual 268, 3) := dk_182 1 12 (dk_at dksX7_goesTo_0 20 rfl rfl)
theorem dX7_goesTo_23 : decode cX7_goesTo 23 = .ok (.aload_n 0, 1) := dk_42 (dk_at dksX7_goesTo_0 23 rfl rfl)
theorem dX7_goesTo_24 : decode cX7_goesTo 24 = .ok (.invokevirtual 271, 3) := dk_182 1 15 (dk_at dksX7_goesTo_1 0 rfl rfl)
theorem dX7_goesTo_27 : decode cX7_goesTo 27 = .ok (.aload_n 0, 1) := dk_42 (dk_at dksX7_goesTo_1 3 rfl rfl)
theorem dX7_goesTo_28 : decode cX7_goesTo 28 = .ok (.invokevirtual 274, 3) := dk_182 1 18 (dk_at dksX7_goesTo_1 4 rfl rfl)
theorem dX7_goesTo_31 : decode cX7_goesTo 31 = .ok (.aload_n 0, 1) := dk_42 (dk_at dksX7_goesTo_1 7 rfl rfl)
theorem dX7_goesTo_32 : decode cX7_goesTo 32 = .ok (.invokevirtual 259, 3) := dk_182 1 3 (dk_at dksX7_goesTo_1 8 rfl rfl)
theorem dX7_goesTo_35 : decode cX7_goesTo 35 = .ok (.istore_n 2, 1) := dk_61 (dk_at dksX7_goesTo_1 11 rfl rfl)
theorem dX7_goesTo_36 : decode cX7_goesTo 36 = .ok (.goto (-31), 3) := dk_167 255 225 (dk_at dksX7_goesTo_1 12 rfl rfl)
theorem dX7_goesTo_39 : decode cX7_goesTo 39 = .ok (.aload_n 0, 1) := dk_42 (dk_at dksX7_goesTo_1 15 rfl rfl)
theorem dX7_goesTo_40 : decode cX7_goesTo 40 = .ok (.iload_n 1, 1) := dk_27 (dk_at dksX7_goesTo_1 16 rfl rfl)
theorem dX7_goesTo_41 : decode cX7_goesTo 41 = .ok (.invokevirtual 262, 3) := dk_182 1 6 (dk_at dksX7_goesTo_1 17 rfl rfl)
theorem dX7_goesTo_44 : decode cX7_goesTo 44 = .ok (.return_, 1) := dk_177 (dk_at dksX7_goesTo_1 20 rfl rfl)
abbrev cX7_nextTime : ByteArray := prog_22_method_53_code
def yX7_nextTime : MethodName := ⟨RX7, "nextTime", "()I"⟩
def dkwX7_nextTime_9 : List UInt8 := [184, 0, 251, 60, 132, 2, 1, 167, 255, 186, 27, 172]
abbrev dktX7_nextTime_9 : List UInt8 := dkwX7_nextTime_9 ++ []
def dkwX7_nextTime_8 : List UInt8 := [167, 0, 26, 42, 28, 16, 9, 182, 0, 152, 2, 159, 0, 15, 27, 42, 28, 16, 9, 182, 0, 152]
abbrev dktX7_nextTime_8 : List UInt8 := dkwX7_nextTime_8 ++ dktX7_nextTime_9
def dkwX7_nextTime_7 : List UInt8 := [167, 0, 48, 42, 28, 182, 0, 229, 153, 0, 17, 27, 42, 28, 7, 182, 0, 152, 184, 0, 251, 60]
abbrev dktX7_nextTime_7 : List UInt8 := dkwX7_nextTime_7 ++ dktX7_nextTime_8
def dkwX7_nextTime_6 : List UInt8 := [167, 255, 198, 3, 61, 28, 42, 180, 0, 10, 5, 46, 162, 0, 66, 42, 28, 6, 182, 0, 152, 154, 0, 6]
abbrev dktX7_nextTime_6 : List UInt8 := dkwX7_nextTime_6 ++ dktX7_nextTime_7
def dkwX7_nextTime_5 : List UInt8 := [180, 0, 10, 3, 46, 164, 0, 7, 3, 167, 0, 4, 4, 96, 46, 184, 0, 251, 60, 132, 2, 1]
abbrev dktX7_nextTime_5 : List UInt8 := dkwX7_nextTime_5 ++ dktX7_nextTime_6
def dkwX7_nextTime_4 : List UInt8 := [42, 180, 0, 10, 17, 0, 176, 6, 28, 104, 96, 42, 180, 0, 10, 17, 0, 176, 6, 28, 104, 96, 46, 42]
abbrev dktX7_nextTime_4 : List UInt8 := dkwX7_nextTime_4 ++ dktX7_nextTime_5
def dkwX7_nextTime_3 : List UInt8 := [184, 0, 251, 60, 132, 2, 1, 167, 255, 225, 3, 61, 28, 42, 180, 0, 10, 16, 35, 46, 162, 0, 53, 27]
abbrev dktX7_nextTime_3 : List UInt8 := dkwX7_nextTime_3 ++ dktX7_nextTime_4
def dkwX7_nextTime_2 : List UInt8 := [180, 0, 10, 16, 21, 46, 162, 0, 26, 27, 42, 180, 0, 10, 17, 0, 236, 8, 28, 104, 96, 46]
abbrev dktX7_nextTime_2 : List UInt8 := dkwX7_nextTime_2 ++ dktX7_nextTime_3
def dkwX7_nextTime_1 : List UInt8 := [16, 6, 28, 104, 96, 5, 96, 46, 184, 0, 251, 60, 132, 2, 1, 167, 255, 222, 3, 61, 28, 42]
abbrev dktX7_nextTime_1 : List UInt8 := dkwX7_nextTime_1 ++ dktX7_nextTime_2
def dkwX7_nextTime_0 : List UInt8 := [18, 250, 60, 3, 61, 28, 42, 180, 0, 10, 16, 20, 46, 162, 0, 29, 27, 42, 180, 0, 10, 17, 4, 112]
abbrev dktX7_nextTime_0 : List UInt8 := dkwX7_nextTime_0 ++ dktX7_nextTime_1
theorem dksX7_nextTime_0 : cX7_nextTime.data.toList.drop 0 = dktX7_nextTime_0 := by decide +kernel
theorem dksX7_nextTime_1 : cX7_nextTime.data.toList.drop 24 = dktX7_nextTime_1 := dk_seg dksX7_nextTime_0 24 rfl rfl
theorem dksX7_nextTime_2 : cX7_nextTime.data.toList.drop 46 = dktX7_nextTime_2 := dk_seg dksX7_nextTime_1 22 rfl rfl
theorem dksX7_nextTime_3 : cX7_nextTime.data.toList.drop 68 = dktX7_nextTime_3 := dk_seg dksX7_nextTime_2 22 rfl rfl
theorem dksX7_nextTime_4 : cX7_nextTime.data.toList.drop 92 = dktX7_nextTime_4 := dk_seg dksX7_nextTime_3 24 rfl rfl
theorem dksX7_nextTime_5 : cX7_nextTime.data.toList.drop 116 = dktX7_nextTime_5 := dk_seg dksX7_nextTime_4 24 rfl rfl
theorem dksX7_nextTime_6 : cX7_nextTime.data.toList.drop 138 = dktX7_nextTime_6 := dk_seg dksX7_nextTime_5 22 rfl rfl
theorem dksX7_nextTime_7 : cX7_nextTime.data.toList.drop 162 = dktX7_nextTime_7 := dk_seg dksX7_nextTime_6 24 rfl rfl
theorem dksX7_nextTime_8 : cX7_nextTime.data.toList.drop 184 = dktX7_nextTime_8 := dk_seg dksX7_nextTime_7 22 rfl rfl
theorem dksX7_nextTime_9 : cX7_nextTime.data.toList.drop 206 = dktX7_nextTime_9 := dk_seg dksX7_nextTime_8 22 rfl rfl
theorem dX7_nextTime_0 : decode cX7_nextTime 0 = .ok (.ldc 250, 2) := dk_18 250 (dk_at dksX7_nextTime_0 0 rfl rfl)
theorem dX7_nextTime_2 : decode cX7_nextTime 2 = .ok (.istore_n 1, 1) := dk_60 (dk_at dksX7_nextTime_0 2 rfl rfl)
theorem dX7_nextTime_3 : decode cX7_nextTime 3 = .ok (.iconst 0, 1) := dk_3 (dk_at dksX7_nextTime_0 3 rfl rfl)
theorem dX7_nextTime_4 : decode cX7_nextTime 4 = .ok (.istore_n 2, 1) := dk_61 (dk_at dksX7_nextTime_0 4 rfl rfl)
theorem dX7_nextTime_5 : decode cX7_nextTime 5 = .ok (.iload_n 2, 1) := dk_28 (dk_at dksX7_nextTime_0 5 rfl rfl)
theorem dX7_nextTime_6 : decode cX7_nextTime 6 = .ok (.aload_n 0, 1) := dk_42 (dk_at dksX7_nextTime_0 6 rfl rfl)
theorem dX7_nextTime_7 : decode cX7_nextTime 7 = .ok (.getfield 10, 3) := dk_180 0 10 (dk_at dksX7_nextTime_0 7 rfl rfl)
theorem dX7_nextTime_10 : decode cX7_nextTime 10 = .ok (.bipush 20, 2) := dk_16 20 (dk_at dksX7_nextTime_0 10 rfl rfl)
theorem dX7_nextTime_12 : decode cX7_nextTime 12 = .ok (.iaload, 1) := dk_46 (dk_at dksX7_nextTime_0 12 rfl rfl)
theorem dX7_nextTime_13 : decode cX7_nextTime 13 = .ok (.if_icmp .ge 29, 3) := dk_162 0 29 (dk_at dksX7_nextTime_0 13 rfl rfl)
theorem dX7_nextTime_16 : decode cX7_nextTime 16 = .ok (.iload_n 1, 1) := dk_27 (dk_at dksX7_nextTime_0 16 rfl rfl)
theorem dX7_nextTime_17 : decode cX7_nextTime 17 = .ok (.aload_n 0, 1) := dk_42 (dk_at dksX7_nextTime_0 17 rfl rfl)
theorem dX7_nextTime_18 : decode cX7_nextTime 18 = .ok (.getfield 10, 3) := dk_180 0 10 (dk_at dksX7_nextTime_0 18 rfl rfl)
theorem dX7_nextTime_21 : decode cX7_nextTime 21 = .ok (.sipush 1136, 3) := dk_17 4 112 (dk_at dksX7_nextTime_0 21 rfl rfl)
theorem dX7_nextTime_24 : decode cX7_nextTime 24 = .ok (.bipush 6, 2) := dk_16 6 (dk_at dksX7_nextTime_1 0 rfl rfl)
theorem dX7_nextTime_26 : decode cX7_nextTime 26 = .ok (.iload_n 2, 1) := dk_28 (dk_at dksX7_nextTime_1 2 rfl rfl)
theorem dX7_nextTime_27 : decode cX7_nextTime 27 = .ok (.imul, 1) := dk_104 (dk_at dksX7_nextTime_1 3 rfl rfl)
theorem dX7_nextTime_28 : decode cX7_nextTime 28 = .ok (.iadd, 1) := dk_96 (dk_at dksX7_nextTime_1 4 rfl rfl)
theorem dX7_nextTime_29 : decode cX7_nextTime 29 = .ok (.iconst 2, 1) := dk_5 (dk_at dksX7_nextTime_1 5 rfl rfl)
theorem dX7_nextTime_30 : decode cX7_nextTime 30 = .ok (.iadd, 1) := dk_96 (dk_at dksX7_nextTime_1 6 rfl rfl)
theorem dX7_nextTime_31 : decode cX7_nextTime 31 = .ok (.iaload, 1) := dk_46 (dk_at dksX7_nextTime_1 7 rfl rfl)
theorem dX7_nextTime_32 : decode cX7_nextTime 32 = .ok (.invokestatic 251, 3) := dk_184 0 251 (dk_at dksX7_nextTime_1 8 rfl rfl)
theorem dX7_nextTime_35 : decode cX7_nextTime 35 = .ok (.istore_n 1, 1) := dk_60 (dk_at dksX7_nextTime_1 11 rfl rfl)
theorem dX7_nextTime_36 : decode cX7_nextTime 36 = .ok (.iinc 2 1, 3) := dk_132 2 1 (dk_at dksX7_nextTime_1 12 rfl rfl)
theorem dX7_nextTime_39 : decode cX7_nextTime 39 = .ok (.goto (-34), 3) := dk_167 255 222 (dk_at dksX7_nextTime_1 15 rfl rfl)
theorem dX7_nextTime_42 : decode cX7_nextTime 42 = .ok (.iconst 0, 1) := dk_3 (dk_at dksX7_nextTime_1 18 rfl rfl)
theorem dX7_nextTime_43 : decode cX7_nextTime 43 = .ok (.istore_n 2, 1) := dk_61 (dk_at dksX7_nextTime_1 19 rfl rfl)
theorem dX7_nextTime_44 : decode cX7_nextTime 44 = .ok (.iload_n 2, 1) := dk_28 (dk_at dksX7_nextTime_1 20 rfl rfl)
theorem dX7_nextTime_45 : decode cX7_nextTime 45 = .ok (.aload_n 0, 1) := dk_42 (dk_at dksX7_nextTime_1 21 rfl rfl)
theorem dX7_nextTime_46 : decode cX7_nextTime 46 = .ok (.getfield 10, 3) := dk_180 0 10 (dk_at dksX7_nextTime_2 0 rfl rfl)
theorem dX7_nextTime_49 : decode cX7_nextTime 49 = .ok (.bipush 21, 2) := dk_16 21 (dk_at dksX7_nextTime_2 3 rfl rfl)
theorem dX7_nextTime_51 : decode cX7_nextTime 51 = .ok (.iaload, 1) := dk_46 (dk_at dksX7_nextTime_2 5 rfl rfl)
theorem dX7_nextTime_52 : decode cX7_nextTime 52 = .ok (.if_icmp .ge 26, 3) := dk_162 0 26 (dk_at dksX7_nextTime_2 6 rfl rfl)
theorem dX7_nextTime_55 : decode cX7_nextTime 55 = .ok (.iload_n 1, 1) := dk_27 (dk_at dksX7_nextTime_2 9 rfl rfl)
theorem dX7_nextTime_56 : decode cX7_nextTime 56 = .ok (.aload_n 0, 1) := dk_42 (dk_at dksX7_nextTime_2 10 rfl rfl)
theorem dX7_nextTime_57 : decode cX7_nextTime 57 = .ok (.getfield 10, 3) := dk_180 0 10 (dk_at dksX7_nextTime_2 11 rfl rfl)
theorem dX7_nextTime_60 : decode cX7_nextTime 60 = .ok (.sipush 236, 3) := dk_17 0 236 (dk_at dksX7_nextTime_2 14 rfl rfl)
theorem dX7_nextTime_63 : decode cX7_nextTime 63 = .ok (.iconst 5, 1) := dk_8 (dk_at dksX7_nextTime_2 17 rfl rfl)
theorem dX7_nextTime_64 : decode cX7_nextTime 64 = .ok (.iload_n 2, 1) := dk_28 (dk_at dksX7_nextTime_2 18 rfl rfl)
theorem dX7_nextTime_65 : decode cX7_nextTime 65 = .ok (.imul, 1) := dk_104 (dk_at dksX7_nextTime_2 19 rfl rfl)
theorem dX7_nextTime_66 : decode cX7_nextTime 66 = .ok (.iadd, 1) := dk_96 (dk_at dksX7_nextTime_2 20 rfl rfl)
theorem dX7_nextTime_67 : decode cX7_nextTime 67 = .ok (.iaload, 1) := dk_46 (dk_at dksX7_nextTime_2 21 rfl rfl)
theorem dX7_nextTime_68 : decode cX7_nextTime 68 = .ok (.invokestatic 251, 3) := dk_184 0 251 (dk_at dksX7_nextTime_3 0 rfl rfl)
theorem dX7_nextTime_71 : decode cX7_nextTime 71 = .ok (.istore_n 1, 1) := dk_60 (dk_at dksX7_nextTime_3 3 rfl rfl)
theorem dX7_nextTime_72 : decode cX7_nextTime 72 = .ok (.iinc 2 1, 3) := dk_132 2 1 (dk_at dksX7_nextTime_3 4 rfl rfl)
theorem dX7_nextTime_75 : decode cX7_nextTime 75 = .ok (.goto (-31), 3) := dk_167 255 225 (dk_at dksX7_nextTime_3 7 rfl rfl)
theorem dX7_nextTime_78 : decode cX7_nextTime 78 = .ok (.iconst 0, 1) := dk_3 (dk_at dksX7_nextTime_3 10 rfl rfl)
theorem dX7_nextTime_79 : decode cX7_nextTime 79 = .ok (.istore_n 2, 1) := dk_61 (dk_at dksX7_nextTime_3 11 rfl rfl)
theorem dX7_nextTime_80 : decode cX7_nextTime 80 = .ok (.iload_n 2, 1) := dk_28 (dk_at dksX7_nextTime_3 12 rfl rfl)
theorem dX7_nextTime_81 : decode cX7_nextTime 81 = .ok (.aload_n 0, 1) := dk_42 (dk_at dksX7_nextTime_3 13 rfl rfl)
theorem dX7_nextTime_82 : decode cX7_nextTime 82 = .ok (.getfield 10, 3) := dk_180 0 10 (dk_at dksX7_nextTime_3 14 rfl rfl)
theorem dX7_nextTime_85 : decode cX7_nextTime 85 = .ok (.bipush 35, 2) := dk_16 35 (dk_at dksX7_nextTime_3 17 rfl rfl)
theorem dX7_nextTime_87 : decode cX7_nextTime 87 = .ok (.iaload, 1) := dk_46 (dk_at dksX7_nextTime_3 19 rfl rfl)
theorem dX7_nextTime_88 : decode cX7_nextTime 88 = .ok (.if_icmp .ge 53, 3) := dk_162 0 53 (dk_at dksX7_nextTime_3 20 rfl rfl)
theorem dX7_nextTime_91 : decode cX7_nextTime 91 = .ok (.iload_n 1, 1) := dk_27 (dk_at dksX7_nextTime_3 23 rfl rfl)
theorem dX7_nextTime_92 : decode cX7_nextTime 92 = .ok (.aload_n 0, 1) := dk_42 (dk_at dksX7_nextTime_4 0 rfl rfl)
theorem dX7_nextTime_93 : decode cX7_nextTime 93 = .ok (.getfield 10, 3) := dk_180 0 10 (dk_at dksX7_nextTime_4 1 rfl rfl)
theorem dX7_nextTime_96 : decode cX7_nextTime 96 = .ok (.sipush 176, 3) := dk_17 0 176 (dk_at dksX7_nextTime_4 4 rfl rfl)
theorem dX7_nextTime_99 : decode cX7_nextTime 99 = .ok (.iconst 3, 1) := dk_6 (dk_at dksX7_nextTime_4 7 rfl rfl)
theorem dX7_nextTime_100 : decode cX7_nextTime 100 = .ok (.iload_n 2, 1) := dk_28 (dk_at dksX7_nextTime_4 8 rfl rfl)
theorem dX7_nextTime_101 : decode cX7_nextTime 101 = .ok (.imul, 1) := dk_104 (dk_at dksX7_nextTime_4 9 rfl rfl)
theorem dX7_nextTime_102 : decode cX7_nextTime 102 = .ok (.iadd, 1) := dk_96 (dk_at dksX7_nextTime_4 10 rfl rfl)
theorem dX7_nextTime_103 : decode cX7_nextTime 103 = .ok (.aload_n 0, 1) := dk_42 (dk_at dksX7_nextTime_4 11 rfl rfl)
theorem dX7_nextTime_104 : decode cX7_nextTime 104 = .ok (.getfield 10, 3) := dk_180 0 10 (dk_at dksX7_nextTime_4 12 rfl rfl)
theorem dX7_nextTime_107 : decode cX7_nextTime 107 = .ok (.sipush 176, 3) := dk_17 0 176 (dk_at dksX7_nextTime_4 15 rfl rfl)
theorem dX7_nextTime_110 : decode cX7_nextTime 110 = .ok (.iconst 3, 1) := dk_6 (dk_at dksX7_nextTime_4 18 rfl rfl)
theorem dX7_nextTime_111 : decode cX7_nextTime 111 = .ok (.iload_n 2, 1) := dk_28 (dk_at dksX7_nextTime_4 19 rfl rfl)
theorem dX7_nextTime_112 : decode cX7_nextTime 112 = .ok (.imul, 1) := dk_104 (dk_at dksX7_nextTime_4 20 rfl rfl)
theorem dX7_nextTime_113 : decode cX7_nextTime 113 = .ok (.iadd, 1) := dk_96 (dk_at dksX7_nextTime_4 21 rfl rfl)
theorem dX7_nextTime_114 : decode cX7_nextTime 114 = .ok (.iaload, 1) := dk_46 (dk_at dksX7_nextTime_4 22 rfl rfl)
theorem dX7_nextTime_115 : decode cX7_nextTime 115 = .ok (.aload_n 0, 1) := dk_42 (dk_at dksX7_nextTime_4 23 rfl rfl)
theorem dX7_nextTime_116 : decode cX7_nextTime 116 = .ok (.getfield 10, 3) := dk_180 0 10 (dk_at dksX7_nextTime_5 0 rfl rfl)
theorem dX7_nextTime_119 : decode cX7_nextTime 119 = .ok (.iconst 0, 1) := dk_3 (dk_at dksX7_nextTime_5 3 rfl rfl)
theorem dX7_nextTime_120 : decode cX7_nextTime 120 = .ok (.iaload, 1) := dk_46 (dk_at dksX7_nextTime_5 4 rfl rfl)
theorem dX7_nextTime_121 : decode cX7_nextTime 121 = .ok (.if_icmp .le 7, 3) := dk_164 0 7 (dk_at dksX7_nextTime_5 5 rfl rfl)
theorem dX7_nextTime_124 : decode cX7_nextTime 124 = .ok (.iconst 0, 1) := dk_3 (dk_at dksX7_nextTime_5 8 rfl rfl)
theorem dX7_nextTime_125 : decode cX7_nextTime 125 = .ok (.goto 4, 3) := dk_167 0 4 (dk_at dksX7_nextTime_5 9 rfl rfl)
theorem dX7_nextTime_128 : decode cX7_nextTime 128 = .ok (.iconst 1, 1) := dk_4 (dk_at dksX7_nextTime_5 12 rfl rfl)
theorem dX7_nextTime_129 : decode cX7_nextTime 129 = .ok (.iadd, 1) := dk_96 (dk_at dksX7_nextTime_5 13 rfl rfl)
theorem dX7_nextTime_130 : decode cX7_nextTime 130 = .ok (.iaload, 1) := dk_46 (dk_at dksX7_nextTime_5 14 rfl rfl)
theorem dX7_nextTime_131 : decode cX7_nextTime 131 = .ok (.invokestatic 251, 3) := dk_184 0 251 (dk_at dksX7_nextTime_5 15 rfl rfl)
theorem dX7_nextTime_134 : decode cX7_nextTime 134 = .ok (.istore_n 1, 1) := dk_60 (dk_at dksX7_nextTime_5 18 rfl rfl)
theorem dX7_nextTime_135 : decode cX7_nextTime 135 = .ok (.iinc 2 1, 3) := dk_132 2 1 (dk_at dksX7_nextTime_5 19 rfl rfl)
theorem dX7_nextTime_138 : decode cX7_nextTime 138 = .ok (.goto (-58), 3) := dk_167 255 198 (dk_at dksX7_nextTime_6 0 rfl rfl)
theorem dX7_nextTime_141 : decode cX7_nextTime 141 = .ok (.iconst 0, 1) := dk_3 (dk_at dksX7_nextTime_6 3 rfl rfl)
theorem dX7_nextTime_142 : decode cX7_nextTime 142 = .ok (.istore_n 2, 1) := dk_61 (dk_at dksX7_nextTime_6 4 rfl rfl)
theorem dX7_nextTime_143 : decode cX7_nextTime 143 = .ok (.iload_n 2, 1) := dk_28 (dk_at dksX7_nextTime_6 5 rfl rfl)
theorem dX7_nextTime_144 : decode cX7_nextTime 144 = .ok (.aload_n 0, 1) := dk_42 (dk_at dksX7_nextTime_6 6 rfl rfl)
theorem dX7_nextTime_145 : decode cX7_nextTime 145 = .ok (.getfield 10, 3) := dk_180 0 10 (dk_at dksX7_nextTime_6 7 rfl rfl)
theorem dX7_nextTime_148 : decode cX7_nextTime 148 = .ok (.iconst 2, 1) := dk_5 (dk_at dksX7_nextTime_6 10 rfl rfl)
theorem dX7_nextTime_149 : decode cX7_nextTime 149 = .ok (.iaload, 1) := dk_46 (dk_at dksX7_nextTime_6 11 rfl rfl)
theorem dX7_nextTime_150 : decode cX7_nextTime 150 = .ok (.if_icmp .ge 66, 3) := dk_162 0 66 (dk_at dksX7_nextTime_6 12 rfl rfl)
theorem dX7_nextTime_153 : decode cX7_nextTime 153 = .ok (.aload_n 0, 1) := dk_42 (dk_at dksX7_nextTime_6 15 rfl rfl)
theorem dX7_nextTime_154 : decode cX7_nextTime 154 = .ok (.iload_n 2, 1) := dk_28 (dk_at dksX7_nextTime_6 16 rfl rfl)
theorem dX7_nextTime_155 : decode cX7_nextTime 155 = .ok (.iconst 3, 1) := dk_6 (dk_at dksX7_nextTime_6 17 rfl rfl)
theorem dX7_nextTime_156 : decode cX7_nextTime 156 = .ok (.invokevirtual 152, 3) := dk_182 0 152 (dk_at dksX7_nextTime_6 18 rfl rfl)
theorem dX7_nextTime_159 : decode cX7_nextTime 159 = .ok (.ifCond .ne 6, 3) := dk_154 0 6 (dk_at dksX7_nextTime_6 21 rfl rfl)
theorem dX7_nextTime_162 : decode cX7_nextTime 162 = .ok (.goto 48, 3) := dk_167 0 48 (dk_at dksX7_nextTime_7 0 rfl rfl)
theorem dX7_nextTime_165 : decode cX7_nextTime 165 = .ok (.aload_n 0, 1) := dk_42 (dk_at dksX7_nextTime_7 3 rfl rfl)
theorem dX7_nextTime_166 : decode cX7_nextTime 166 = .ok (.iload_n 2, 1) := dk_28 (dk_at dksX7_nextTime_7 4 rfl rfl)
theorem dX7_nextTime_167 : decode cX7_nextTime 167 = .ok (.invokevirtual 229, 3) := dk_182 0 229 (dk_at dksX7_nextTime_7 5 rfl rfl)
theorem dX7_nextTime_170 : decode cX7_nextTime 170 = .ok (.ifCond .eq 17, 3) := dk_153 0 17 (dk_at dksX7_nextTime_7 8 rfl rfl)
theorem dX7_nextTime_173 : decode cX7_nextTime 173 = .ok (.iload_n 1, 1) := dk_27 (dk_at dksX7_nextTime_7 11 rfl rfl)
theorem dX7_nextTime_174 : decode cX7_nextTime 174 = .ok (.aload_n 0, 1) := dk_42 (dk_at dksX7_nextTime_7 12 rfl rfl)
theorem dX7_nextTime_175 : decode cX7_nextTime 175 = .ok (.iload_n 2, 1) := dk_28 (dk_at dksX7_nextTime_7 13 rfl rfl)
theorem dX7_nextTime_176 : decode cX7_nextTime 176 = .ok (.iconst 4, 1) := dk_7 (dk_at dksX7_nextTime_7 14 rfl rfl)
theorem dX7_nextTime_177 : decode cX7_nextTime 177 = .ok (.invokevirtual 152, 3) := dk_182 0 152 (dk_at dksX7_nextTime_7 15 rfl rfl)
theorem dX7_nextTime_180 : decode cX7_nextTime 180 = .ok (.invokestatic 251, 3) := dk_184 0 251 (dk_at dksX7_nextTime_7 18 rfl rfl)
theorem dX7_nextTime_183 : decode cX7_nextTime 183 = .ok (.istore_n 1, 1) := dk_60 (dk_at dksX7_nextTime_7 21 rfl rfl)
theorem dX7_nextTime_184 : decode cX7_nextTime 184 = .ok (.goto 26, 3) := dk_167 0 26 (dk_at dksX7_nextTime_8 0 rfl rfl)
theorem dX7_nextTime_187 : decode cX7_nextTime 187 = .ok (.aload_n 0, 1) := dk_42 (dk_at dksX7_nextTime_8 3 rfl rfl)
theorem dX7_nextTime_188 : decode cX7_nextTime 188 = .ok (.iload_n 2, 1) := dk_28 (dk_at dksX7_nextTime_8 4 rfl rfl)
theorem dX7_nextTime_189 : decode cX7_nextTime 189 = .ok (.bipush 9, 2) := dk_16 9 (dk_at dksX7_nextTime_8 5 rfl rfl)
theorem dX7_nextTime_191 : decode cX7_nextTime 191 = .ok (.invokevirtual 152, 3) := dk_182 0 152 (dk_at dksX7_nextTime_8 7 rfl rfl)
theorem dX7_nextTime_194 : decode cX7_nextTime 194 = .ok (.iconst (-1), 1) := dk_2 (dk_at dksX7_nextTime_8 10 rfl rfl)
theorem dX7_nextTime_195 : decode cX7_nextTime 195 = .ok (.if_icmp .eq 15, 3) := dk_159 0 15 (dk_at dksX7_nextTime_8 11 rfl rfl)
theorem dX7_nextTime_198 : decode cX7_nextTime 198 = .ok (.iload_n 1, 1) := dk_27 (dk_at dksX7_nextTime_8 14 rfl rfl)
theorem dX7_nextTime_199 : decode cX7_nextTime 199 = .ok (.aload_n 0, 1) := dk_42 (dk_at dksX7_nextTime_8 15 rfl rfl)
theorem dX7_nextTime_200 : decode cX7_nextTime 200 = .ok (.iload_n 2, 1) := dk_28 (dk_at dksX7_nextTime_8 16 rfl rfl)
theorem dX7_nextTime_201 : decode cX7_nextTime 201 = .ok (.bipush 9, 2) := dk_16 9 (dk_at dksX7_nextTime_8 17 rfl rfl)
theorem dX7_nextTime_203 : decode cX7_nextTime 203 = .ok (.invokevirtual 152, 3) := dk_182 0 152 (dk_at dksX7_nextTime_8 19 rfl rfl)
theorem dX7_nextTime_206 : decode cX7_nextTime 206 = .ok (.invokestatic 251, 3) := dk_184 0 251 (dk_at dksX7_nextTime_9 0 rfl rfl)
theorem dX7_nextTime_209 : decode cX7_nextTime 209 = .ok (.istore_n 1, 1) := dk_60 (dk_at dksX7_nextTime_9 3 rfl rfl)
theorem dX7_nextTime_210 : decode cX7_nextTime 210 = .ok (.iinc 2 1, 3) := dk_132 2 1 (dk_at dksX7_nextTime_9 4 rfl rfl)
theorem dX7_nextTime_213 : decode cX7_nextTime 213 = .ok (.goto (-70), 3) := dk_167 255 186 (dk_at dksX7_nextTime_9 7 rfl rfl)
theorem dX7_nextTime_216 : decode cX7_nextTime 216 = .ok (.iload_n 1, 1) := dk_27 (dk_at dksX7_nextTime_9 10 rfl rfl)
theorem dX7_nextTime_217 : decode cX7_nextTime 217 = .ok (.ireturn, 1) := dk_172 (dk_at dksX7_nextTime_9 11 rfl rfl)
abbrev cX7_isPaused : ByteArray := prog_22_method_27_code
def yX7_isPaused : MethodName := ⟨RX7, "isPaused", "(I)Z"⟩
def dkwX7_isPaused_0 : List UInt8 := [42, 27, 7, 182, 0, 152, 42, 180, 0, 10, 3, 46, 164, 0, 7, 4, 167, 0, 4, 3, 172]
abbrev dktX7_isPaused_0 : List UInt8 := dkwX7_isPaused_0 ++ []
theorem dksX7_isPaused_0 : cX7_isPaused.data.toList.drop 0 = dktX7_isPaused_0 := by decide +kernel
theorem dX7_isPaused_0 : decode cX7_isPaused 0 = .ok (.aload_n 0, 1) := dk_42 (dk_at dksX7_isPaused_0 0 rfl rfl)
theorem dX7_isPaused_1 : decode cX7_isPaused 1 = .ok (.iload_n 1, 1) := dk_27 (dk_at dksX7_isPaused_0 1 rfl rfl)
theorem dX7_isPaused_2 : decode cX7_isPaused 2 = .ok (.iconst 4, 1) := dk_7 (dk_at dksX7_isPaused_0 2 rfl rfl)
theorem dX7_isPaused_3 : decode cX7_isPaused 3 = .ok (.invokevirtual 152, 3) := dk_182 0 152 (dk_at dksX7_isPaused_0 3 rfl rfl)
theorem dX7_isPaused_6 : decode cX7_isPaused 6 = .ok (.aload_n 0, 1) := dk_42 (dk_at dksX7_isPaused_0 6 rfl rfl)
theorem dX7_isPaused_7 : decode cX7_isPaused 7 = .ok (.getfield 10, 3) := dk_180 0 10 (dk_at dksX7_isPaused_0 7 rfl rfl)
theorem dX7_isPaused_10 : decode cX7_isPaused 10 = .ok (.iconst 0, 1) := dk_3 (dk_at dksX7_isPaused_0 10 rfl rfl)
theorem dX7_isPaused_11 : decode cX7_isPaused 11 = .ok (.iaload, 1) := dk_46 (dk_at dksX7_isPaused_0 11 rfl rfl)
theorem dX7_isPaused_12 : decode cX7_isPaused 12 = .ok (.if_icmp .le 7, 3) := dk_164 0 7 (dk_at dksX7_isPaused_0 12 rfl rfl)
theorem dX7_isPaused_15 : decode cX7_isPaused 15 = .ok (.iconst 1, 1) := dk_4 (dk_at dksX7_isPaused_0 15 rfl rfl)
theorem dX7_isPaused_16 : decode cX7_isPaused 16 = .ok (.goto 4, 3) := dk_167 0 4 (dk_at dksX7_isPaused_0 16 rfl rfl)
theorem dX7_isPaused_19 : decode cX7_isPaused 19 = .ok (.iconst 0, 1) := dk_3 (dk_at dksX7_isPaused_0 19 rfl rfl)
theorem dX7_isPaused_20 : decode cX7_isPaused 20 = .ok (.ireturn, 1) := dk_172 (dk_at dksX7_isPaused_0 20 rfl rfl)
abbrev cX7_passes : ByteArray := prog_22_method_54_code
def yX7_passes : MethodName := ⟨RX7, "passes", "(I)V"⟩
def dkwX7_passes_7 : List UInt8 := [16, 34, 46, 42, 180, 0, 10, 16, 33, 46, 184, 0, 166, 79, 42, 180, 0, 10, 3, 27, 79, 177]
abbrev dktX7_passes_7 : List UInt8 := dkwX7_passes_7 ++ []
def dkwX7_passes_6 : List UInt8 := [16, 33, 46, 27, 96, 28, 100, 167, 0, 6, 27, 29, 100, 79, 42, 180, 0, 10, 16, 34, 42, 180, 0, 10]
abbrev dktX7_passes_6 : List UInt8 := dkwX7_passes_6 ++ dktX7_passes_7
def dkwX7_passes_5 : List UInt8 := [16, 23, 92, 46, 27, 29, 100, 96, 79, 42, 180, 0, 10, 16, 33, 29, 28, 160, 0, 17, 42, 180, 0, 10]
abbrev dktX7_passes_5 : List UInt8 := dkwX7_passes_5 ++ dktX7_passes_6
def dkwX7_passes_4 : List UInt8 := [132, 5, 1, 167, 255, 177, 42, 180, 0, 10, 16, 17, 92, 46, 21, 4, 28, 100, 96, 79, 42, 180, 0, 10]
abbrev dktX7_passes_4 : List UInt8 := dkwX7_passes_4 ++ dktX7_passes_5
def dkwX7_passes_3 : List UInt8 := [182, 0, 169, 21, 4, 29, 21, 6, 184, 0, 251, 184, 0, 166, 54, 4, 29, 21, 6, 184, 0, 166, 62]
abbrev dktX7_passes_3 : List UInt8 := dkwX7_passes_3 ++ dktX7_passes_4
def dkwX7_passes_2 : List UInt8 := [184, 0, 251, 54, 6, 42, 21, 5, 16, 10, 42, 21, 5, 16, 10, 182, 0, 152, 21, 6, 96, 28, 100]
abbrev dktX7_passes_2 : List UInt8 := dkwX7_passes_2 ++ dktX7_passes_3
def dkwX7_passes_1 : List UInt8 := [162, 0, 74, 42, 21, 5, 182, 0, 253, 154, 0, 6, 167, 0, 56, 27, 42, 21, 5, 182, 1, 0]
abbrev dktX7_passes_1 : List UInt8 := dkwX7_passes_1 ++ dktX7_passes_2
def dkwX7_passes_0 : List UInt8 := [42, 180, 0, 10, 3, 46, 61, 28, 62, 28, 54, 4, 3, 54, 5, 21, 5, 42, 180, 0, 10, 5, 46]
abbrev dktX7_passes_0 : List UInt8 := dkwX7_passes_0 ++ dktX7_passes_1
theorem dksX7_passes_0 : cX7_passes.data.toList.drop 0 = dktX7_passes_0 := by decide +kernel
theorem dksX7_passes_1 : cX7_passes.data.toList.drop 23 = dktX7_passes_1 := dk_seg dksX7_passes_0 23 rfl rfl
theorem dksX7_passes_2 : cX7_passes.data.toList.drop 45 = dktX7_passes_2 := dk_seg dksX7_passes_1 22 rfl rfl
theorem dksX7_passes_3 : cX7_passes.data.toList.drop 68 = dktX7_passes_3 := dk_seg dksX7_passes_2 23 rfl rfl
theorem dksX7_passes_4 : cX7_passes.data.toList.drop 91 = dktX7_passes_4 := dk_seg dksX7_passes_3 23 rfl rfl
theorem dksX7_passes_5 : cX7_passes.data.toList.drop 115 = dktX7_passes_5 := dk_seg dksX7_passes_4 24 rfl rfl
theorem dksX7_passes_6 : cX7_passes.data.toList.drop 139 = dktX7_passes_6 := dk_seg dksX7_passes_5 24 rfl rfl
theorem dksX7_passes_7 : cX7_passes.data.toList.drop 163 = dktX7_passes_7 := dk_seg dksX7_passes_6 24 rfl rfl
theorem dX7_passes_0 : decode cX7_passes 0 = .ok (.aload_n 0, 1) := dk_42 (dk_at dksX7_passes_0 0 rfl rfl)
theorem dX7_passes_1 : decode cX7_passes 1 = .ok (.getfield 10, 3) := dk_180 0 10 (dk_at dksX7_passes_0 1 rfl rfl)
theorem dX7_passes_4 : decode cX7_passes 4 = .ok (.iconst 0, 1) := dk_3 (dk_at dksX7_passes_0 4 rfl rfl)
theorem dX7_passes_5 : decode cX7_passes 5 = .ok (.iaload, 1) := dk_46 (dk_at dksX7_passes_0 5 rfl rfl)
theorem dX7_passes_6 : decode cX7_passes 6 = .ok (.istore_n 2, 1) := dk_61 (dk_at dksX7_passes_0 6 rfl rfl)
theorem dX7_passes_7 : decode cX7_passes 7 = .ok (.iload_n 2, 1) := dk_28 (dk_at dksX7_passes_0 7 rfl rfl)
theorem dX7_passes_8 : decode cX7_passes 8 = .ok (.istore_n 3, 1) := dk_62 (dk_at dksX7_passes_0 8 rfl rfl)
theorem dX7_passes_9 : decode cX7_passes 9 = .ok (.iload_n 2, 1) := dk_28 (dk_at dksX7_passes_0 9 rfl rfl)
theorem dX7_passes_10 : decode cX7_passes 10 = .ok (.istore 4, 2) := dk_54 4 (dk_at dksX7_passes_0 10 rfl rfl)
theorem dX7_passes_12 : decode cX7_passes 12 = .ok (.iconst 0, 1) := dk_3 (dk_at dksX7_passes_0 12 rfl rfl)
theorem dX7_passes_13 : decode cX7_passes 13 = .ok (.istore 5, 2) := dk_54 5 (dk_at dksX7_passes_0 13 rfl rfl)
theorem dX7_passes_15 : decode cX7_passes 15 = .ok (.iload 5, 2) := dk_21 5 (dk_at dksX7_passes_0 15 rfl rfl)
theorem dX7_passes_17 : decode cX7_passes 17 = .ok (.aload_n 0, 1) := dk_42 (dk_at dksX7_passes_0 17 rfl rfl)
theorem dX7_passes_18 : decode cX7_passes 18 = .ok (.getfield 10, 3) := dk_180 0 10 (dk_at dksX7_passes_0 18 rfl rfl)
theorem dX7_passes_21 : decode cX7_passes 21 = .ok (.iconst 2, 1) := dk_5 (dk_at dksX7_passes_0 21 rfl rfl)
theorem dX7_passes_22 : decode cX7_passes 22 = .ok (.iaload, 1) := dk_46 (dk_at dksX7_passes_0 22 rfl rfl)
theorem dX7_passes_23 : decode cX7_passes 23 = .ok (.if_icmp .ge 74, 3) := dk_162 0 74 (dk_at dksX7_passes_1 0 rfl rfl)
theorem dX7_passes_26 : decode cX7_passes 26 = .ok (.aload_n 0, 1) := dk_42 (dk_at dksX7_passes_1 3 rfl rfl)
theorem dX7_passes_27 : decode cX7_passes 27 = .ok (.iload 5, 2) := dk_21 5 (dk_at dksX7_passes_1 4 rfl rfl)
theorem dX7_passes_29 : decode cX7_passes 29 = .ok (.invokevirtual 253, 3) := dk_182 0 253 (dk_at dksX7_passes_1 6 rfl rfl)
theorem dX7_passes_32 : decode cX7_passes 32 = .ok (.ifCond .ne 6, 3) := dk_154 0 6 (dk_at dksX7_passes_1 9 rfl rfl)
theorem dX7_passes_35 : decode cX7_passes 35 = .ok (.goto 56, 3) := dk_167 0 56 (dk_at dksX7_passes_1 12 rfl rfl)
theorem dX7_passes_38 : decode cX7_passes 38 = .ok (.iload_n 1, 1) := dk_27 (dk_at dksX7_passes_1 15 rfl rfl)
theorem dX7_passes_39 : decode cX7_passes 39 = .ok (.aload_n 0, 1) := dk_42 (dk_at dksX7_passes_1 16 rfl rfl)
theorem dX7_passes_40 : decode cX7_passes 40 = .ok (.iload 5, 2) := dk_21 5 (dk_at dksX7_passes_1 17 rfl rfl)
theorem dX7_passes_42 : decode cX7_passes 42 = .ok (.invokevirtual 256, 3) := dk_182 1 0 (dk_at dksX7_passes_1 19 rfl rfl)
theorem dX7_passes_45 : decode cX7_passes 45 = .ok (.invokestatic 251, 3) := dk_184 0 251 (dk_at dksX7_passes_2 0 rfl rfl)
theorem dX7_passes_48 : decode cX7_passes 48 = .ok (.istore 6, 2) := dk_54 6 (dk_at dksX7_passes_2 3 rfl rfl)
theorem dX7_passes_50 : decode cX7_passes 50 = .ok (.aload_n 0, 1) := dk_42 (dk_at dksX7_passes_2 5 rfl rfl)
theorem dX7_passes_51 : decode cX7_passes 51 = .ok (.iload 5, 2) := dk_21 5 (dk_at dksX7_passes_2 6 rfl rfl)
theorem dX7_passes_53 : decode cX7_passes 53 = .ok (.bipush 10, 2) := dk_16 10 (dk_at dksX7_passes_2 8 rfl rfl)
theorem dX7_passes_55 : decode cX7_passes 55 = .ok (.aload_n 0, 1) := dk_42 (dk_at dksX7_passes_2 10 rfl rfl)
theorem dX7_passes_56 : decode cX7_passes 56 = .ok (.iload 5, 2) := dk_21 5 (dk_at dksX7_passes_2 11 rfl rfl)
theorem dX7_passes_58 : decode cX7_passes 58 = .ok (.bipush 10, 2) := dk_16 10 (dk_at dksX7_passes_2 13 rfl rfl)
theorem dX7_passes_60 : decode cX7_passes 60 = .ok (.invokevirtual 152, 3) := dk_182 0 152 (dk_at dksX7_passes_2 15 rfl rfl)
theorem dX7_passes_63 : decode cX7_passes 63 = .ok (.iload 6, 2) := dk_21 6 (dk_at dksX7_passes_2 18 rfl rfl)
theorem dX7_passes_65 : decode cX7_passes 65 = .ok (.iadd, 1) := dk_96 (dk_at dksX7_passes_2 20 rfl rfl)
theorem dX7_passes_66 : decode cX7_passes 66 = .ok (.iload_n 2, 1) := dk_28 (dk_at dksX7_passes_2 21 rfl rfl)
theorem dX7_passes_67 : decode cX7_passes 67 = .ok (.isub, 1) := dk_100 (dk_at dksX7_passes_2 22 rfl rfl)
theorem dX7_passes_68 : decode cX7_passes 68 = .ok (.invokevirtual 169, 3) := dk_182 0 169 (dk_at dksX7_passes_3 0 rfl rfl)
theorem dX7_passes_71 : decode cX7_passes 71 = .ok (.iload 4, 2) := dk_21 4 (dk_at dksX7_passes_3 3 rfl rfl)
theorem dX7_passes_73 : decode cX7_passes 73 = .ok (.iload_n 3, 1) := dk_29 (dk_at dksX7_passes_3 5 rfl rfl)
theorem dX7_passes_74 : decode cX7_passes 74 = .ok (.iload 6, 2) := dk_21 6 (dk_at dksX7_passes_3 6 rfl rfl)
theorem dX7_passes_76 : decode cX7_passes 76 = .ok (.invokestatic 251, 3) := dk_184 0 251 (dk_at dksX7_passes_3 8 rfl rfl)
theorem dX7_passes_79 : decode cX7_passes 79 = .ok (.invokestatic 166, 3) := dk_184 0 166 (dk_at dksX7_passes_3 11 rfl rfl)
theorem dX7_passes_82 : decode cX7_passes 82 = .ok (.istore 4, 2) := dk_54 4 (dk_at dksX7_passes_3 14 rfl rfl)
theorem dX7_passes_84 : decode cX7_passes 84 = .ok (.iload_n 3, 1) := dk_29 (dk_at dksX7_passes_3 16 rfl rfl)
theorem dX7_passes_85 : decode cX7_passes 85 = .ok (.iload 6, 2) := dk_21 6 (dk_at dksX7_passes_3 17 rfl rfl)
theorem dX7_passes_87 : decode cX7_passes 87 = .ok (.invokestatic 166, 3) := dk_184 0 166 (dk_at dksX7_passes_3 19 rfl rfl)
theorem dX7_passes_90 : decode cX7_passes 90 = .ok (.istore_n 3, 1) := dk_62 (dk_at dksX7_passes_3 22 rfl rfl)
theorem dX7_passes_91 : decode cX7_passes 91 = .ok (.iinc 5 1, 3) := dk_132 5 1 (dk_at dksX7_passes_4 0 rfl rfl)
theorem dX7_passes_94 : decode cX7_passes 94 = .ok (.goto (-79), 3) := dk_167 255 177 (dk_at dksX7_passes_4 3 rfl rfl)
theorem dX7_passes_97 : decode cX7_passes 97 = .ok (.aload_n 0, 1) := dk_42 (dk_at dksX7_passes_4 6 rfl rfl)
theorem dX7_passes_98 : decode cX7_passes 98 = .ok (.getfield 10, 3) := dk_180 0 10 (dk_at dksX7_passes_4 7 rfl rfl)
theorem dX7_passes_101 : decode cX7_passes 101 = .ok (.bipush 17, 2) := dk_16 17 (dk_at dksX7_passes_4 10 rfl rfl)
theorem dX7_passes_103 : decode cX7_passes 103 = .ok (.dup2, 1) := dk_92 (dk_at dksX7_passes_4 12 rfl rfl)
theorem dX7_passes_104 : decode cX7_passes 104 = .ok (.iaload, 1) := dk_46 (dk_at dksX7_passes_4 13 rfl rfl)
theorem dX7_passes_105 : decode cX7_passes 105 = .ok (.iload 4, 2) := dk_21 4 (dk_at dksX7_passes_4 14 rfl rfl)
theorem dX7_passes_107 : decode cX7_passes 107 = .ok (.iload_n 2, 1) := dk_28 (dk_at dksX7_passes_4 16 rfl rfl)
theorem dX7_passes_108 : decode cX7_passes 108 = .ok (.isub, 1) := dk_100 (dk_at dksX7_passes_4 17 rfl rfl)
theorem dX7_passes_109 : decode cX7_passes 109 = .ok (.iadd, 1) := dk_96 (dk_at dksX7_passes_4 18 rfl rfl)
theorem dX7_passes_110 : decode cX7_passes 110 = .ok (.iastore, 1) := dk_79 (dk_at dksX7_passes_4 19 rfl rfl)
theorem dX7_passes_111 : decode cX7_passes 111 = .ok (.aload_n 0, 1) := dk_42 (dk_at dksX7_passes_4 20 rfl rfl)
theorem dX7_passes_112 : decode cX7_passes 112 = .ok (.getfield 10, 3) := dk_180 0 10 (dk_at dksX7_passes_4 21 rfl rfl)
theorem dX7_passes_115 : decode cX7_passes 115 = .ok (.bipush 23, 2) := dk_16 23 (dk_at dksX7_passes_5 0 rfl rfl)
theorem dX7_passes_117 : decode cX7_passes 117 = .ok (.dup2, 1) := dk_92 (dk_at dksX7_passes_5 2 rfl rfl)
theorem dX7_passes_118 : decode cX7_passes 118 = .ok (.iaload, 1) := dk_46 (dk_at dksX7_passes_5 3 rfl rfl)
theorem dX7_passes_119 : decode cX7_passes 119 = .ok (.iload_n 1, 1) := dk_27 (dk_at dksX7_passes_5 4 rfl rfl)
theorem dX7_passes_120 : decode cX7_passes 120 = .ok (.iload_n 3, 1) := dk_29 (dk_at dksX7_passes_5 5 rfl rfl)
theorem dX7_passes_121 : decode cX7_passes 121 = .ok (.isub, 1) := dk_100 (dk_at dksX7_passes_5 6 rfl rfl)
theorem dX7_passes_122 : decode cX7_passes 122 = .ok (.iadd, 1) := dk_96 (dk_at dksX7_passes_5 7 rfl rfl)
theorem dX7_passes_123 : decode cX7_passes 123 = .ok (.iastore, 1) := dk_79 (dk_at dksX7_passes_5 8 rfl rfl)
theorem dX7_passes_124 : decode cX7_passes 124 = .ok (.aload_n 0, 1) := dk_42 (dk_at dksX7_passes_5 9 rfl rfl)
theorem dX7_passes_125 : decode cX7_passes 125 = .ok (.getfield 10, 3) := dk_180 0 10 (dk_at dksX7_passes_5 10 rfl rfl)
theorem dX7_passes_128 : decode cX7_passes 128 = .ok (.bipush 33, 2) := dk_16 33 (dk_at dksX7_passes_5 13 rfl rfl)
theorem dX7_passes_130 : decode cX7_passes 130 = .ok (.iload_n 3, 1) := dk_29 (dk_at dksX7_passes_5 15 rfl rfl)
theorem dX7_passes_131 : decode cX7_passes 131 = .ok (.iload_n 2, 1) := dk_28 (dk_at dksX7_passes_5 16 rfl rfl)
theorem dX7_passes_132 : decode cX7_passes 132 = .ok (.if_icmp .ne 17, 3) := dk_160 0 17 (dk_at dksX7_passes_5 17 rfl rfl)
theorem dX7_passes_135 : decode cX7_passes 135 = .ok (.aload_n 0, 1) := dk_42 (dk_at dksX7_passes_5 20 rfl rfl)
theorem dX7_passes_136 : decode cX7_passes 136 = .ok (.getfield 10, 3) := dk_180 0 10 (dk_at dksX7_passes_5 21 rfl rfl)
theorem dX7_passes_139 : decode cX7_passes 139 = .ok (.bipush 33, 2) := dk_16 33 (dk_at dksX7_passes_6 0 rfl rfl)
theorem dX7_passes_141 : decode cX7_passes 141 = .ok (.iaload, 1) := dk_46 (dk_at dksX7_passes_6 2 rfl rfl)
theorem dX7_passes_142 : decode cX7_passes 142 = .ok (.iload_n 1, 1) := dk_27 (dk_at dksX7_passes_6 3 rfl rfl)
theorem dX7_passes_143 : decode cX7_passes 143 = .ok (.iadd, 1) := dk_96 (dk_at dksX7_passes_6 4 rfl rfl)
theorem dX7_passes_144 : decode cX7_passes 144 = .ok (.iload_n 2, 1) := dk_28 (dk_at dksX7_passes_6 5 rfl rfl)
theorem dX7_passes_145 : decode cX7_passes 145 = .ok (.isub, 1) := dk_100 (dk_at dksX7_passes_6 6 rfl rfl)
theorem dX7_passes_146 : decode cX7_passes 146 = .ok (.goto 6, 3) := dk_167 0 6 (dk_at dksX7_passes_6 7 rfl rfl)
theorem dX7_passes_149 : decode cX7_passes 149 = .ok (.iload_n 1, 1) := dk_27 (dk_at dksX7_passes_6 10 rfl rfl)
theorem dX7_passes_150 : decode cX7_passes 150 = .ok (.iload_n 3, 1) := dk_29 (dk_at dksX7_passes_6 11 rfl rfl)
theorem dX7_passes_151 : decode cX7_passes 151 = .ok (.isub, 1) := dk_100 (dk_at dksX7_passes_6 12 rfl rfl)
theorem dX7_passes_152 : decode cX7_passes 152 = .ok (.iastore, 1) := dk_79 (dk_at dksX7_passes_6 13 rfl rfl)
theorem dX7_passes_153 : decode cX7_passes 153 = .ok (.aload_n 0, 1) := dk_42 (dk_at dksX7_passes_6 14 rfl rfl)
theorem dX7_passes_154 : decode cX7_passes 154 = .ok (.getfield 10, 3) := dk_180 0 10 (dk_at dksX7_passes_6 15 rfl rfl)
theorem dX7_passes_157 : decode cX7_passes 157 = .ok (.bipush 34, 2) := dk_16 34 (dk_at dksX7_passes_6 18 rfl rfl)
theorem dX7_passes_159 : decode cX7_passes 159 = .ok (.aload_n 0, 1) := dk_42 (dk_at dksX7_passes_6 20 rfl rfl)
theorem dX7_passes_160 : decode cX7_passes 160 = .ok (.getfield 10, 3) := dk_180 0 10 (dk_at dksX7_passes_6 21 rfl rfl)
theorem dX7_passes_163 : decode cX7_passes 163 = .ok (.bipush 34, 2) := dk_16 34 (dk_at dksX7_passes_7 0 rfl rfl)
theorem dX7_passes_165 : decode cX7_passes 165 = .ok (.iaload, 1) := dk_46 (dk_at dksX7_passes_7 2 rfl rfl)
theorem dX7_passes_166 : decode cX7_passes 166 = .ok (.aload_n 0, 1) := dk_42 (dk_at dksX7_passes_7 3 rfl rfl)
theorem dX7_passes_167 : decode cX7_passes 167 = .ok (.getfield 10, 3) := dk_180 0 10 (dk_at dksX7_passes_7 4 rfl rfl)
theorem dX7_passes_170 : decode cX7_passes 170 = .ok (.bipush 33, 2) := dk_16 33 (dk_at dksX7_passes_7 7 rfl rfl)
theorem dX7_passes_172 : decode cX7_passes 172 = .ok (.iaload, 1) := dk_46 (dk_at dksX7_passes_7 9 rfl rfl)
theorem dX7_passes_173 : decode cX7_passes 173 = .ok (.invokestatic 166, 3) := dk_184 0 166 (dk_at dksX7_passes_7 10 rfl rfl)
theorem dX7_passes_176 : decode cX7_passes 176 = .ok (.iastore, 1) := dk_79 (dk_at dksX7_passes_7 13 rfl rfl)
theorem dX7_passes_177 : decode cX7_passes 177 = .ok (.aload_n 0, 1) := dk_42 (dk_at dksX7_passes_7 14 rfl rfl)
theorem dX7_passes_178 : decode cX7_passes 178 = .ok (.getfield 10, 3) := dk_180 0 10 (dk_at dksX7_passes_7 15 rfl rfl)
theorem dX7_passes_181 : decode cX7_passes 181 = .ok (.iconst 0, 1) := dk_3 (dk_at dksX7_passes_7 18 rfl rfl)
theorem dX7_passes_182 : decode cX7_passes 182 = .ok (.iload_n 1, 1) := dk_27 (dk_at dksX7_passes_7 19 rfl rfl)
theorem dX7_passes_183 : decode cX7_passes 183 = .ok (.iastore, 1) := dk_79 (dk_at dksX7_passes_7 20 rfl rfl)
theorem dX7_passes_184 : decode cX7_passes 184 = .ok (.return_, 1) := dk_177 (dk_at dksX7_passes_7 21 rfl rfl)
abbrev cX7_leads : ByteArray := prog_22_method_26_code
def yX7_leads : MethodName := ⟨RX7, "leads", "(I)Z"⟩
def dkwX7_leads_1 : List UInt8 := [182, 0, 162, 42, 27, 16, 8, 182, 0, 152, 162, 0, 7, 4, 167, 0, 4, 3, 172]
abbrev dktX7_leads_1 : List UInt8 := dkwX7_leads_1 ++ []
def dkwX7_leads_0 : List UInt8 := [42, 27, 6, 182, 0, 152, 4, 160, 0, 32, 42, 27, 16, 7, 182, 0, 152, 153, 0, 22, 42, 27]
abbrev dktX7_leads_0 : List UInt8 := dkwX7_leads_0 ++ dktX7_leads_1
theorem dksX7_leads_0 : cX7_leads.data.toList.drop 0 = dktX7_leads_0 := by decide +kernel
theorem dksX7_leads_1 : cX7_leads.data.toList.drop 22 = dktX7_leads_1 := dk_seg dksX7_leads_0 22 rfl rfl
theorem dX7_leads_0 : decode cX7_leads 0 = .ok (.aload_n 0, 1) := dk_42 (dk_at dksX7_leads_0 0 rfl rfl)
theorem dX7_leads_1 : decode cX7_leads 1 = .ok (.iload_n 1, 1) := dk_27 (dk_at dksX7_leads_0 1 rfl rfl)
theorem dX7_leads_2 : decode cX7_leads 2 = .ok (.iconst 3, 1) := dk_6 (dk_at dksX7_leads_0 2 rfl rfl)
theorem dX7_leads_3 : decode cX7_leads 3 = .ok (.invokevirtual 152, 3) := dk_182 0 152 (dk_at dksX7_leads_0 3 rfl rfl)
theorem dX7_leads_6 : decode cX7_leads 6 = .ok (.iconst 1, 1) := dk_4 (dk_at dksX7_leads_0 6 rfl rfl)
theorem dX7_leads_7 : decode cX7_leads 7 = .ok (.if_icmp .ne 32, 3) := dk_160 0 32 (dk_at dksX7_leads_0 7 rfl rfl)
theorem dX7_leads_10 : decode cX7_leads 10 = .ok (.aload_n 0, 1) := dk_42 (dk_at dksX7_leads_0 10 rfl rfl)
theorem dX7_leads_11 : decode cX7_leads 11 = .ok (.iload_n 1, 1) := dk_27 (dk_at dksX7_leads_0 11 rfl rfl)
theorem dX7_leads_12 : decode cX7_leads 12 = .ok (.bipush 7, 2) := dk_16 7 (dk_at dksX7_leads_0 12 rfl rfl)
theorem dX7_leads_14 : decode cX7_leads 14 = .ok (.invokevirtual 152, 3) := dk_182 0 152 (dk_at dksX7_leads_0 14 rfl rfl)
theorem dX7_leads_17 : decode cX7_leads 17 = .ok (.ifCond .eq 22, 3) := dk_153 0 22 (dk_at dksX7_leads_0 17 rfl rfl)
theorem dX7_leads_20 : decode cX7_leads 20 = .ok (.aload_n 0, 1) := dk_42 (dk_at dksX7_leads_0 20 rfl rfl)
theorem dX7_leads_21 : decode cX7_leads 21 = .ok (.iload_n 1, 1) := dk_27 (dk_at dksX7_leads_0 21 rfl rfl)
theorem dX7_leads_22 : decode cX7_leads 22 = .ok (.invokevirtual 162, 3) := dk_182 0 162 (dk_at dksX7_leads_1 0 rfl rfl)
theorem dX7_leads_25 : decode cX7_leads 25 = .ok (.aload_n 0, 1) := dk_42 (dk_at dksX7_leads_1 3 rfl rfl)
theorem dX7_leads_26 : decode cX7_leads 26 = .ok (.iload_n 1, 1) := dk_27 (dk_at dksX7_leads_1 4 rfl rfl)
theorem dX7_leads_27 : decode cX7_leads 27 = .ok (.bipush 8, 2) := dk_16 8 (dk_at dksX7_leads_1 5 rfl rfl)
theorem dX7_leads_29 : decode cX7_leads 29 = .ok (.invokevirtual 152, 3) := dk_182 0 152 (dk_at dksX7_leads_1 7 rfl rfl)
theorem dX7_leads_32 : decode cX7_leads 32 = .ok (.if_icmp .ge 7, 3) := dk_162 0 7 (dk_at dksX7_leads_1 10 rfl rfl)
theorem dX7_leads_35 : decode cX7_leads 35 = .ok (.iconst 1, 1) := dk_4 (dk_at dksX7_leads_1 13 rfl rfl)
theorem dX7_leads_36 : decode cX7_leads 36 = .ok (.goto 4, 3) := dk_167 0 4 (dk_at dksX7_leads_1 14 rfl rfl)
theorem dX7_leads_39 : decode cX7_leads 39 = .ok (.iconst 0, 1) := dk_3 (dk_at dksX7_leads_1 17 rfl rfl)
theorem dX7_leads_40 : decode cX7_leads 40 = .ok (.ireturn, 1) := dk_172 (dk_at dksX7_leads_1 18 rfl rfl)
abbrev cX7_endOf : ByteArray := prog_22_method_25_code
def yX7_endOf : MethodName := ⟨RX7, "endOf", "(I)I"⟩
def dkwX7_endOf_0 : List UInt8 := [42, 27, 3, 182, 0, 152, 42, 27, 4, 182, 0, 152, 42, 27, 16, 8, 182, 0, 152, 184, 0, 159, 172]
abbrev dktX7_endOf_0 : List UInt8 := dkwX7_endOf_0 ++ []
theorem dksX7_endOf_0 : cX7_endOf.data.toList.drop 0 = dktX7_endOf_0 := by decide +kernel
theorem dX7_endOf_0 : decode cX7_endOf 0 = .ok (.aload_n 0, 1) := dk_42 (dk_at dksX7_endOf_0 0 rfl rfl)
theorem dX7_endOf_1 : decode cX7_endOf 1 = .ok (.iload_n 1, 1) := dk_27 (dk_at dksX7_endOf_0 1 rfl rfl)
theorem dX7_endOf_2 : decode cX7_endOf 2 = .ok (.iconst 0, 1) := dk_3 (dk_at dksX7_endOf_0 2 rfl rfl)
theorem dX7_endOf_3 : decode cX7_endOf 3 = .ok (.invokevirtual 152, 3) := dk_182 0 152 (dk_at dksX7_endOf_0 3 rfl rfl)
theorem dX7_endOf_6 : decode cX7_endOf 6 = .ok (.aload_n 0, 1) := dk_42 (dk_at dksX7_endOf_0 6 rfl rfl)
theorem dX7_endOf_7 : decode cX7_endOf 7 = .ok (.iload_n 1, 1) := dk_27 (dk_at dksX7_endOf_0 7 rfl rfl)
theorem dX7_endOf_8 : decode cX7_endOf 8 = .ok (.iconst 1, 1) := dk_4 (dk_at dksX7_endOf_0 8 rfl rfl)
theorem dX7_endOf_9 : decode cX7_endOf 9 = .ok (.invokevirtual 152, 3) := dk_182 0 152 (dk_at dksX7_endOf_0 9 rfl rfl)
theorem dX7_endOf_12 : decode cX7_endOf 12 = .ok (.aload_n 0, 1) := dk_42 (dk_at dksX7_endOf_0 12 rfl rfl)
theorem dX7_endOf_13 : decode cX7_endOf 13 = .ok (.iload_n 1, 1) := dk_27 (dk_at dksX7_endOf_0 13 rfl rfl)
theorem dX7_endOf_14 : decode cX7_endOf 14 = .ok (.bipush 8, 2) := dk_16 8 (dk_at dksX7_endOf_0 14 rfl rfl)
theorem dX7_endOf_16 : decode cX7_endOf 16 = .ok (.invokevirtual 152, 3) := dk_182 0 152 (dk_at dksX7_endOf_0 16 rfl rfl)
theorem dX7_endOf_19 : decode cX7_endOf 19 = .ok (.invokestatic 159, 3) := dk_184 0 159 (dk_at dksX7_endOf_0 19 rfl rfl)
theorem dX7_endOf_22 : decode cX7_endOf 22 = .ok (.ireturn, 1) := dk_172 (dk_at dksX7_endOf_0 22 rfl rfl)
abbrev cX7_timeOf : ByteArray := prog_22_method_22_code
def yX7_timeOf : MethodName := ⟨RX7, "timeOf", "(III)I"⟩
def dkwX7_timeOf_0 : List UInt8 := [20, 0, 150, 28, 27, 100, 133, 105, 66, 33, 26, 133, 97, 10, 101, 26, 133, 109, 136, 172]
abbrev dktX7_timeOf_0 : List UInt8 := dkwX7_timeOf_0 ++ []
theorem dksX7_timeOf_0 : cX7_timeOf.data.toList.drop 0 = dktX7_timeOf_0 := by decide +kernel
theorem dX7_timeOf_0 : decode cX7_timeOf 0 = .ok (.ldc2_w 150, 3) := dk_20 0 150 (dk_at dksX7_timeOf_0 0 rfl rfl)
theorem dX7_timeOf_3 : decode cX7_timeOf 3 = .ok (.iload_n 2, 1) := dk_28 (dk_at dksX7_timeOf_0 3 rfl rfl)
theorem dX7_timeOf_4 : decode cX7_timeOf 4 = .ok (.iload_n 1, 1) := dk_27 (dk_at dksX7_timeOf_0 4 rfl rfl)
theorem dX7_timeOf_5 : decode cX7_timeOf 5 = .ok (.isub, 1) := dk_100 (dk_at dksX7_timeOf_0 5 rfl rfl)
theorem dX7_timeOf_6 : decode cX7_timeOf 6 = .ok (.i2l, 1) := dk_133 (dk_at dksX7_timeOf_0 6 rfl rfl)
theorem dX7_timeOf_7 : decode cX7_timeOf 7 = .ok (.lmul, 1) := dk_105 (dk_at dksX7_timeOf_0 7 rfl rfl)
theorem dX7_timeOf_8 : decode cX7_timeOf 8 = .ok (.lstore_n 3, 1) := dk_66 (dk_at dksX7_timeOf_0 8 rfl rfl)
theorem dX7_timeOf_9 : decode cX7_timeOf 9 = .ok (.lload_n 3, 1) := dk_33 (dk_at dksX7_timeOf_0 9 rfl rfl)
theorem dX7_timeOf_10 : decode cX7_timeOf 10 = .ok (.iload_n 0, 1) := dk_26 (dk_at dksX7_timeOf_0 10 rfl rfl)
theorem dX7_timeOf_11 : decode cX7_timeOf 11 = .ok (.i2l, 1) := dk_133 (dk_at dksX7_timeOf_0 11 rfl rfl)
theorem dX7_timeOf_12 : decode cX7_timeOf 12 = .ok (.ladd, 1) := dk_97 (dk_at dksX7_timeOf_0 12 rfl rfl)
theorem dX7_timeOf_13 : decode cX7_timeOf 13 = .ok (.lconst 1, 1) := dk_10 (dk_at dksX7_timeOf_0 13 rfl rfl)
theorem dX7_timeOf_14 : decode cX7_timeOf 14 = .ok (.lsub, 1) := dk_101 (dk_at dksX7_timeOf_0 14 rfl rfl)
theorem dX7_timeOf_15 : decode cX7_timeOf 15 = .ok (.iload_n 0, 1) := dk_26 (dk_at dksX7_timeOf_0 15 rfl rfl)
theorem dX7_timeOf_16 : decode cX7_timeOf 16 = .ok (.i2l, 1) := dk_133 (dk_at dksX7_timeOf_0 16 rfl rfl)
theorem dX7_timeOf_17 : decode cX7_timeOf 17 = .ok (.ldiv, 1) := dk_109 (dk_at dksX7_timeOf_0 17 rfl rfl)
theorem dX7_timeOf_18 : decode cX7_timeOf 18 = .ok (.l2i, 1) := dk_136 (dk_at dksX7_timeOf_0 18 rfl rfl)
theorem dX7_timeOf_19 : decode cX7_timeOf 19 = .ok (.ireturn, 1) := dk_172 (dk_at dksX7_timeOf_0 19 rfl rfl)
abbrev cX7_puts : ByteArray := prog_22_method_7_code
def yX7_puts : MethodName := ⟨RX7, "puts", "(III)V"⟩
def dkwX7_puts_0 : List UInt8 := [42, 180, 0, 10, 16, 40, 16, 20, 27, 104, 96, 28, 96, 29, 79, 177]
abbrev dktX7_puts_0 : List UInt8 := dkwX7_puts_0 ++ []
theorem dksX7_puts_0 : cX7_puts.data.toList.drop 0 = dktX7_puts_0 := by decide +kernel
theorem dX7_puts_0 : decode cX7_puts 0 = .ok (.aload_n 0, 1) := dk_42 (dk_at dksX7_puts_0 0 rfl rfl)
theorem dX7_puts_1 : decode cX7_puts 1 = .ok (.getfield 10, 3) := dk_180 0 10 (dk_at dksX7_puts_0 1 rfl rfl)
theorem dX7_puts_4 : decode cX7_puts 4 = .ok (.bipush 40, 2) := dk_16 40 (dk_at dksX7_puts_0 4 rfl rfl)
theorem dX7_puts_6 : decode cX7_puts 6 = .ok (.bipush 20, 2) := dk_16 20 (dk_at dksX7_puts_0 6 rfl rfl)
theorem dX7_puts_8 : decode cX7_puts 8 = .ok (.iload_n 1, 1) := dk_27 (dk_at dksX7_puts_0 8 rfl rfl)
theorem dX7_puts_9 : decode cX7_puts 9 = .ok (.imul, 1) := dk_104 (dk_at dksX7_puts_0 9 rfl rfl)
theorem dX7_puts_10 : decode cX7_puts 10 = .ok (.iadd, 1) := dk_96 (dk_at dksX7_puts_0 10 rfl rfl)
theorem dX7_puts_11 : decode cX7_puts 11 = .ok (.iload_n 2, 1) := dk_28 (dk_at dksX7_puts_0 11 rfl rfl)
theorem dX7_puts_12 : decode cX7_puts 12 = .ok (.iadd, 1) := dk_96 (dk_at dksX7_puts_0 12 rfl rfl)
theorem dX7_puts_13 : decode cX7_puts 13 = .ok (.iload_n 3, 1) := dk_29 (dk_at dksX7_puts_0 13 rfl rfl)
theorem dX7_puts_14 : decode cX7_puts 14 = .ok (.iastore, 1) := dk_79 (dk_at dksX7_puts_0 14 rfl rfl)
theorem dX7_puts_15 : decode cX7_puts 15 = .ok (.return_, 1) := dk_177 (dk_at dksX7_puts_0 15 rfl rfl)
abbrev cX7_outagesNow : ByteArray := prog_22_method_50_code
def yX7_outagesNow : MethodName := ⟨RX7, "outagesNow", "()V"⟩
def dkwX7_outagesNow_3 : List UInt8 := [42, 29, 16, 6, 3, 182, 0, 169, 42, 27, 182, 0, 244, 167, 0, 6, 132, 1, 1, 167, 255, 169, 177]
abbrev dktX7_outagesNow_3 : List UInt8 := dkwX7_outagesNow_3 ++ []
def dkwX7_outagesNow_2 : List UInt8 := [29, 16, 6, 4, 182, 0, 169, 42, 180, 0, 10, 28, 4, 96, 46, 42, 180, 0, 10, 3, 46, 160, 0, 19]
abbrev dktX7_outagesNow_2 : List UInt8 := dkwX7_outagesNow_2 ++ dktX7_outagesNow_3
def dkwX7_outagesNow_1 : List UInt8 := [180, 0, 10, 28, 5, 96, 46, 62, 42, 180, 0, 10, 28, 46, 42, 180, 0, 10, 3, 46, 160, 0, 11, 42]
abbrev dktX7_outagesNow_1 : List UInt8 := dkwX7_outagesNow_1 ++ dktX7_outagesNow_2
def dkwX7_outagesNow_0 : List UInt8 := [3, 60, 27, 42, 180, 0, 10, 16, 35, 46, 162, 0, 82, 17, 0, 176, 6, 27, 104, 96, 61, 42]
abbrev dktX7_outagesNow_0 : List UInt8 := dkwX7_outagesNow_0 ++ dktX7_outagesNow_1
theorem dksX7_outagesNow_0 : cX7_outagesNow.data.toList.drop 0 = dktX7_outagesNow_0 := by decide +kernel
theorem dksX7_outagesNow_1 : cX7_outagesNow.data.toList.drop 22 = dktX7_outagesNow_1 := dk_seg dksX7_outagesNow_0 22 rfl rfl
theorem dksX7_outagesNow_2 : cX7_outagesNow.data.toList.drop 46 = dktX7_outagesNow_2 := dk_seg dksX7_outagesNow_1 24 rfl rfl
theorem dksX7_outagesNow_3 : cX7_outagesNow.data.toList.drop 70 = dktX7_outagesNow_3 := dk_seg dksX7_outagesNow_2 24 rfl rfl
theorem dX7_outagesNow_0 : decode cX7_outagesNow 0 = .ok (.iconst 0, 1) := dk_3 (dk_at dksX7_outagesNow_0 0 rfl rfl)
theorem dX7_outagesNow_1 : decode cX7_outagesNow 1 = .ok (.istore_n 1, 1) := dk_60 (dk_at dksX7_outagesNow_0 1 rfl rfl)
theorem dX7_outagesNow_2 : decode cX7_outagesNow 2 = .ok (.iload_n 1, 1) := dk_27 (dk_at dksX7_outagesNow_0 2 rfl rfl)
theorem dX7_outagesNow_3 : decode cX7_outagesNow 3 = .ok (.aload_n 0, 1) := dk_42 (dk_at dksX7_outagesNow_0 3 rfl rfl)
theorem dX7_outagesNow_4 : decode cX7_outagesNow 4 = .ok (.getfield 10, 3) := dk_180 0 10 (dk_at dksX7_outagesNow_0 4 rfl rfl)
theorem dX7_outagesNow_7 : decode cX7_outagesNow 7 = .ok (.bipush 35, 2) := dk_16 35 (dk_at dksX7_outagesNow_0 7 rfl rfl)
theorem dX7_outagesNow_9 : decode cX7_outagesNow 9 = .ok (.iaload, 1) := dk_46 (dk_at dksX7_outagesNow_0 9 rfl rfl)
theorem dX7_outagesNow_10 : decode cX7_outagesNow 10 = .ok (.if_icmp .ge 82, 3) := dk_162 0 82 (dk_at dksX7_outagesNow_0 10 rfl rfl)
theorem dX7_outagesNow_13 : decode cX7_outagesNow 13 = .ok (.sipush 176, 3) := dk_17 0 176 (dk_at dksX7_outagesNow_0 13 rfl rfl)
theorem dX7_outagesNow_16 : decode cX7_outagesNow 16 = .ok (.iconst 3, 1) := dk_6 (dk_at dksX7_outagesNow_0 16 rfl rfl)
theorem dX7_outagesNow_17 : decode cX7_outagesNow 17 = .ok (.iload_n 1, 1) := dk_27 (dk_at dksX7_outagesNow_0 17 rfl rfl)
theorem dX7_outagesNow_18 : decode cX7_outagesNow 18 = .ok (.imul, 1) := dk_104 (dk_at dksX7_outagesNow_0 18 rfl rfl)
theorem dX7_outagesNow_19 : decode cX7_outagesNow 19 = .ok (.iadd, 1) := dk_96 (dk_at dksX7_outagesNow_0 19 rfl rfl)
theorem dX7_outagesNow_20 : decode cX7_outagesNow 20 = .ok (.istore_n 2, 1) := dk_61 (dk_at dksX7_outagesNow_0 20 rfl rfl)
theorem dX7_outagesNow_21 : decode cX7_outagesNow 21 = .ok (.aload_n 0, 1) := dk_42 (dk_at dksX7_outagesNow_0 21 rfl rfl)
theorem dX7_outagesNow_22 : decode cX7_outagesNow 22 = .ok (.getfield 10, 3) := dk_180 0 10 (dk_at dksX7_outagesNow_1 0 rfl rfl)
theorem dX7_outagesNow_25 : decode cX7_outagesNow 25 = .ok (.iload_n 2, 1) := dk_28 (dk_at dksX7_outagesNow_1 3 rfl rfl)
theorem dX7_outagesNow_26 : decode cX7_outagesNow 26 = .ok (.iconst 2, 1) := dk_5 (dk_at dksX7_outagesNow_1 4 rfl rfl)
theorem dX7_outagesNow_27 : decode cX7_outagesNow 27 = .ok (.iadd, 1) := dk_96 (dk_at dksX7_outagesNow_1 5 rfl rfl)
theorem dX7_outagesNow_28 : decode cX7_outagesNow 28 = .ok (.iaload, 1) := dk_46 (dk_at dksX7_outagesNow_1 6 rfl rfl)
theorem dX7_outagesNow_29 : decode cX7_outagesNow 29 = .ok (.istore_n 3, 1) := dk_62 (dk_at dksX7_outagesNow_1 7 rfl rfl)
theorem dX7_outagesNow_30 : decode cX7_outagesNow 30 = .ok (.aload_n 0, 1) := dk_42 (dk_at dksX7_outagesNow_1 8 rfl rfl)
theorem dX7_outagesNow_31 : decode cX7_outagesNow 31 = .ok (.getfield 10, 3) := dk_180 0 10 (dk_at dksX7_outagesNow_1 9 rfl rfl)
theorem dX7_outagesNow_34 : decode cX7_outagesNow 34 = .ok (.iload_n 2, 1) := dk_28 (dk_at dksX7_outagesNow_1 12 rfl rfl)
theorem dX7_outagesNow_35 : decode cX7_outagesNow 35 = .ok (.iaload, 1) := dk_46 (dk_at dksX7_outagesNow_1 13 rfl rfl)
theorem dX7_outagesNow_36 : decode cX7_outagesNow 36 = .ok (.aload_n 0, 1) := dk_42 (dk_at dksX7_outagesNow_1 14 rfl rfl)
theorem dX7_outagesNow_37 : decode cX7_outagesNow 37 = .ok (.getfield 10, 3) := dk_180 0 10 (dk_at dksX7_outagesNow_1 15 rfl rfl)
theorem dX7_outagesNow_40 : decode cX7_outagesNow 40 = .ok (.iconst 0, 1) := dk_3 (dk_at dksX7_outagesNow_1 18 rfl rfl)
theorem dX7_outagesNow_41 : decode cX7_outagesNow 41 = .ok (.iaload, 1) := dk_46 (dk_at dksX7_outagesNow_1 19 rfl rfl)
theorem dX7_outagesNow_42 : decode cX7_outagesNow 42 = .ok (.if_icmp .ne 11, 3) := dk_160 0 11 (dk_at dksX7_outagesNow_1 20 rfl rfl)
theorem dX7_outagesNow_45 : decode cX7_outagesNow 45 = .ok (.aload_n 0, 1) := dk_42 (dk_at dksX7_outagesNow_1 23 rfl rfl)
theorem dX7_outagesNow_46 : decode cX7_outagesNow 46 = .ok (.iload_n 3, 1) := dk_29 (dk_at dksX7_outagesNow_2 0 rfl rfl)
theorem dX7_outagesNow_47 : decode cX7_outagesNow 47 = .ok (.bipush 6, 2) := dk_16 6 (dk_at dksX7_outagesNow_2 1 rfl rfl)
theorem dX7_outagesNow_49 : decode cX7_outagesNow 49 = .ok (.iconst 1, 1) := dk_4 (dk_at dksX7_outagesNow_2 3 rfl rfl)
theorem dX7_outagesNow_50 : decode cX7_outagesNow 50 = .ok (.invokevirtual 169, 3) := dk_182 0 169 (dk_at dksX7_outagesNow_2 4 rfl rfl)
theorem dX7_outagesNow_53 : decode cX7_outagesNow 53 = .ok (.aload_n 0, 1) := dk_42 (dk_at dksX7_outagesNow_2 7 rfl rfl)
theorem dX7_outagesNow_54 : decode cX7_outagesNow 54 = .ok (.getfield 10, 3) := dk_180 0 10 (dk_at dksX7_outagesNow_2 8 rfl rfl)
theorem dX7_outagesNow_57 : decode cX7_outagesNow 57 = .ok (.iload_n 2, 1) := dk_28 (dk_at dksX7_outagesNow_2 11 rfl rfl)
theorem dX7_outagesNow_58 : decode cX7_outagesNow 58 = .ok (.iconst 1, 1) := dk_4 (dk_at dksX7_outagesNow_2 12 rfl rfl)
theorem dX7_outagesNow_59 : decode cX7_outagesNow 59 = .ok (.iadd, 1) := dk_96 (dk_at dksX7_outagesNow_2 13 rfl rfl)
theorem dX7_outagesNow_60 : decode cX7_outagesNow 60 = .ok (.iaload, 1) := dk_46 (dk_at dksX7_outagesNow_2 14 rfl rfl)
theorem dX7_outagesNow_61 : decode cX7_outagesNow 61 = .ok (.aload_n 0, 1) := dk_42 (dk_at dksX7_outagesNow_2 15 rfl rfl)
theorem dX7_outagesNow_62 : decode cX7_outagesNow 62 = .ok (.getfield 10, 3) := dk_180 0 10 (dk_at dksX7_outagesNow_2 16 rfl rfl)
theorem dX7_outagesNow_65 : decode cX7_outagesNow 65 = .ok (.iconst 0, 1) := dk_3 (dk_at dksX7_outagesNow_2 19 rfl rfl)
theorem dX7_outagesNow_66 : decode cX7_outagesNow 66 = .ok (.iaload, 1) := dk_46 (dk_at dksX7_outagesNow_2 20 rfl rfl)
theorem dX7_outagesNow_67 : decode cX7_outagesNow 67 = .ok (.if_icmp .ne 19, 3) := dk_160 0 19 (dk_at dksX7_outagesNow_2 21 rfl rfl)
theorem dX7_outagesNow_70 : decode cX7_outagesNow 70 = .ok (.aload_n 0, 1) := dk_42 (dk_at dksX7_outagesNow_3 0 rfl rfl)
theorem dX7_outagesNow_71 : decode cX7_outagesNow 71 = .ok (.iload_n 3, 1) := dk_29 (dk_at dksX7_outagesNow_3 1 rfl rfl)
theorem dX7_outagesNow_72 : decode cX7_outagesNow 72 = .ok (.bipush 6, 2) := dk_16 6 (dk_at dksX7_outagesNow_3 2 rfl rfl)
theorem dX7_outagesNow_74 : decode cX7_outagesNow 74 = .ok (.iconst 0, 1) := dk_3 (dk_at dksX7_outagesNow_3 4 rfl rfl)
theorem dX7_outagesNow_75 : decode cX7_outagesNow 75 = .ok (.invokevirtual 169, 3) := dk_182 0 169 (dk_at dksX7_outagesNow_3 5 rfl rfl)
theorem dX7_outagesNow_78 : decode cX7_outagesNow 78 = .ok (.aload_n 0, 1) := dk_42 (dk_at dksX7_outagesNow_3 8 rfl rfl)
theorem dX7_outagesNow_79 : decode cX7_outagesNow 79 = .ok (.iload_n 1, 1) := dk_27 (dk_at dksX7_outagesNow_3 9 rfl rfl)
theorem dX7_outagesNow_80 : decode cX7_outagesNow 80 = .ok (.invokevirtual 244, 3) := dk_182 0 244 (dk_at dksX7_outagesNow_3 10 rfl rfl)
theorem dX7_outagesNow_83 : decode cX7_outagesNow 83 = .ok (.goto 6, 3) := dk_167 0 6 (dk_at dksX7_outagesNow_3 13 rfl rfl)
theorem dX7_outagesNow_86 : decode cX7_outagesNow 86 = .ok (.iinc 1 1, 3) := dk_132 1 1 (dk_at dksX7_outagesNow_3 16 rfl rfl)
theorem dX7_outagesNow_89 : decode cX7_outagesNow 89 = .ok (.goto (-87), 3) := dk_167 255 169 (dk_at dksX7_outagesNow_3 19 rfl rfl)
theorem dX7_outagesNow_92 : decode cX7_outagesNow 92 = .ok (.return_, 1) := dk_177 (dk_at dksX7_outagesNow_3 22 rfl rfl)
abbrev cX7_endsOutage : ByteArray := prog_22_method_49_code
def yX7_endsOutage : MethodName := ⟨RX7, "endsOutage", "(I)V"⟩
def dkwX7_endsOutage_2 : List UInt8 := [180, 0, 10, 16, 35, 92, 46, 4, 100, 79, 177]
abbrev dktX7_endsOutage_2 : List UInt8 := dkwX7_endsOutage_2 ++ []
def dkwX7_endsOutage_1 : List UInt8 := [162, 0, 23, 42, 180, 0, 10, 28, 42, 180, 0, 10, 28, 6, 96, 46, 79, 132, 2, 1, 167, 255, 220, 42]
abbrev dktX7_endsOutage_1 : List UInt8 := dkwX7_endsOutage_1 ++ dktX7_endsOutage_2
def dkwX7_endsOutage_0 : List UInt8 := [17, 0, 176, 6, 27, 104, 96, 61, 28, 17, 0, 176, 6, 42, 180, 0, 10, 16, 35, 46, 4, 100, 104, 96]
abbrev dktX7_endsOutage_0 : List UInt8 := dkwX7_endsOutage_0 ++ dktX7_endsOutage_1
theorem dksX7_endsOutage_0 : cX7_endsOutage.data.toList.drop 0 = dktX7_endsOutage_0 := by decide +kernel
theorem dksX7_endsOutage_1 : cX7_endsOutage.data.toList.drop 24 = dktX7_endsOutage_1 := dk_seg dksX7_endsOutage_0 24 rfl rfl
theorem dksX7_endsOutage_2 : cX7_endsOutage.data.toList.drop 48 = dktX7_endsOutage_2 := dk_seg dksX7_endsOutage_1 24 rfl rfl
theorem dX7_endsOutage_0 : decode cX7_endsOutage 0 = .ok (.sipush 176, 3) := dk_17 0 176 (dk_at dksX7_endsOutage_0 0 rfl rfl)
theorem dX7_endsOutage_3 : decode cX7_endsOutage 3 = .ok (.iconst 3, 1) := dk_6 (dk_at dksX7_endsOutage_0 3 rfl rfl)
theorem dX7_endsOutage_4 : decode cX7_endsOutage 4 = .ok (.iload_n 1, 1) := dk_27 (dk_at dksX7_endsOutage_0 4 rfl rfl)
theorem dX7_endsOutage_5 : decode cX7_endsOutage 5 = .ok (.imul, 1) := dk_104 (dk_at dksX7_endsOutage_0 5 rfl rfl)
theorem dX7_endsOutage_6 : decode cX7_endsOutage 6 = .ok (.iadd, 1) := dk_96 (dk_at dksX7_endsOutage_0 6 rfl rfl)
theorem dX7_endsOutage_7 : decode cX7_endsOutage 7 = .ok (.istore_n 2, 1) := dk_61 (dk_at dksX7_endsOutage_0 7 rfl rfl)
theorem dX7_endsOutage_8 : decode cX7_endsOutage 8 = .ok (.iload_n 2, 1) := dk_28 (dk_at dksX7_endsOutage_0 8 rfl rfl)
theorem dX7_endsOutage_9 : decode cX7_endsOutage 9 = .ok (.sipush 176, 3) := dk_17 0 176 (dk_at dksX7_endsOutage_0 9 rfl rfl)
theorem dX7_endsOutage_12 : decode cX7_endsOutage 12 = .ok (.iconst 3, 1) := dk_6 (dk_at dksX7_endsOutage_0 12 rfl rfl)
theorem dX7_endsOutage_13 : decode cX7_endsOutage 13 = .ok (.aload_n 0, 1) := dk_42 (dk_at dksX7_endsOutage_0 13 rfl rfl)
theorem dX7_endsOutage_14 : decode cX7_endsOutage 14 = .ok (.getfield 10, 3) := dk_180 0 10 (dk_at dksX7_endsOutage_0 14 rfl rfl)
theorem dX7_endsOutage_17 : decode cX7_endsOutage 17 = .ok (.bipush 35, 2) := dk_16 35 (dk_at dksX7_endsOutage_0 17 rfl rfl)
theorem dX7_endsOutage_19 : decode cX7_endsOutage 19 = .ok (.iaload, 1) := dk_46 (dk_at dksX7_endsOutage_0 19 rfl rfl)
theorem dX7_endsOutage_20 : decode cX7_endsOutage 20 = .ok (.iconst 1, 1) := dk_4 (dk_at dksX7_endsOutage_0 20 rfl rfl)
theorem dX7_endsOutage_21 : decode cX7_endsOutage 21 = .ok (.isub, 1) := dk_100 (dk_at dksX7_endsOutage_0 21 rfl rfl)
theorem dX7_endsOutage_22 : decode cX7_endsOutage 22 = .ok (.imul, 1) := dk_104 (dk_at dksX7_endsOutage_0 22 rfl rfl)
theorem dX7_endsOutage_23 : decode cX7_endsOutage 23 = .ok (.iadd, 1) := dk_96 (dk_at dksX7_endsOutage_0 23 rfl rfl)
theorem dX7_endsOutage_24 : decode cX7_endsOutage 24 = .ok (.if_icmp .ge 23, 3) := dk_162 0 23 (dk_at dksX7_endsOutage_1 0 rfl rfl)
theorem dX7_endsOutage_27 : decode cX7_endsOutage 27 = .ok (.aload_n 0, 1) := dk_42 (dk_at dksX7_endsOutage_1 3 rfl rfl)
theorem dX7_endsOutage_28 : decode cX7_endsOutage 28 = .ok (.getfield 10, 3) := dk_180 0 10 (dk_at dksX7_endsOutage_1 4 rfl rfl)
theorem dX7_endsOutage_31 : decode cX7_endsOutage 31 = .ok (.iload_n 2, 1) := dk_28 (dk_at dksX7_endsOutage_1 7 rfl rfl)
theorem dX7_endsOutage_32 : decode cX7_endsOutage 32 = .ok (.aload_n 0, 1) := dk_42 (dk_at dksX7_endsOutage_1 8 rfl rfl)
theorem dX7_endsOutage_33 : decode cX7_endsOutage 33 = .ok (.getfield 10, 3) := dk_180 0 10 (dk_at dksX7_endsOutage_1 9 rfl rfl)
theorem dX7_endsOutage_36 : decode cX7_endsOutage 36 = .ok (.iload_n 2, 1) := dk_28 (dk_at dksX7_endsOutage_1 12 rfl rfl)
theorem dX7_endsOutage_37 : decode cX7_endsOutage 37 = .ok (.iconst 3, 1) := dk_6 (dk_at dksX7_endsOutage_1 13 rfl rfl)
theorem dX7_endsOutage_38 : decode cX7_endsOutage 38 = .ok (.iadd, 1) := dk_96 (dk_at dksX7_endsOutage_1 14 rfl rfl)
theorem dX7_endsOutage_39 : decode cX7_endsOutage 39 = .ok (.iaload, 1) := dk_46 (dk_at dksX7_endsOutage_1 15 rfl rfl)
theorem dX7_endsOutage_40 : decode cX7_endsOutage 40 = .ok (.iastore, 1) := dk_79 (dk_at dksX7_endsOutage_1 16 rfl rfl)
theorem dX7_endsOutage_41 : decode cX7_endsOutage 41 = .ok (.iinc 2 1, 3) := dk_132 2 1 (dk_at dksX7_endsOutage_1 17 rfl rfl)
theorem dX7_endsOutage_44 : decode cX7_endsOutage 44 = .ok (.goto (-36), 3) := dk_167 255 220 (dk_at dksX7_endsOutage_1 20 rfl rfl)
theorem dX7_endsOutage_47 : decode cX7_endsOutage 47 = .ok (.aload_n 0, 1) := dk_42 (dk_at dksX7_endsOutage_1 23 rfl rfl)
theorem dX7_endsOutage_48 : decode cX7_endsOutage 48 = .ok (.getfield 10, 3) := dk_180 0 10 (dk_at dksX7_endsOutage_2 0 rfl rfl)
theorem dX7_endsOutage_51 : decode cX7_endsOutage 51 = .ok (.bipush 35, 2) := dk_16 35 (dk_at dksX7_endsOutage_2 3 rfl rfl)
theorem dX7_endsOutage_53 : decode cX7_endsOutage 53 = .ok (.dup2, 1) := dk_92 (dk_at dksX7_endsOutage_2 5 rfl rfl)
theorem dX7_endsOutage_54 : decode cX7_endsOutage 54 = .ok (.iaload, 1) := dk_46 (dk_at dksX7_endsOutage_2 6 rfl rfl)
theorem dX7_endsOutage_55 : decode cX7_endsOutage 55 = .ok (.iconst 1, 1) := dk_4 (dk_at dksX7_endsOutage_2 7 rfl rfl)
theorem dX7_endsOutage_56 : decode cX7_endsOutage 56 = .ok (.isub, 1) := dk_100 (dk_at dksX7_endsOutage_2 8 rfl rfl)
theorem dX7_endsOutage_57 : decode cX7_endsOutage 57 = .ok (.iastore, 1) := dk_79 (dk_at dksX7_endsOutage_2 9 rfl rfl)
theorem dX7_endsOutage_58 : decode cX7_endsOutage 58 = .ok (.return_, 1) := dk_177 (dk_at dksX7_endsOutage_2 10 rfl rfl)
abbrev cX7_messagesNow : ByteArray := prog_22_method_48_code
def yX7_messagesNow : MethodName := ⟨RX7, "messagesNow", "()V"⟩
def dkwX7_messagesNow_3 : List UInt8 := [132, 3, 1, 167, 255, 194, 28, 153, 0, 7, 42, 182, 0, 241, 177]
abbrev dktX7_messagesNow_3 : List UInt8 := dkwX7_messagesNow_3 ++ []
def dkwX7_messagesNow_2 : List UInt8 := [21, 4, 153, 0, 11, 42, 29, 182, 0, 238, 154, 0, 7, 28, 153, 0, 7, 4, 167, 0, 4, 3, 61]
abbrev dktX7_messagesNow_2 : List UInt8 := dkwX7_messagesNow_2 ++ dktX7_messagesNow_3
def dkwX7_messagesNow_1 : List UInt8 := [16, 6, 29, 104, 96, 5, 96, 46, 42, 180, 0, 10, 3, 46, 160, 0, 7, 4, 167, 0, 4, 3, 54, 4]
abbrev dktX7_messagesNow_1 : List UInt8 := dkwX7_messagesNow_1 ++ dktX7_messagesNow_2
def dkwX7_messagesNow_0 : List UInt8 := [42, 180, 0, 10, 16, 20, 46, 60, 3, 61, 3, 62, 29, 27, 162, 0, 63, 42, 180, 0, 10, 17, 4, 112]
abbrev dktX7_messagesNow_0 : List UInt8 := dkwX7_messagesNow_0 ++ dktX7_messagesNow_1
theorem dksX7_messagesNow_0 : cX7_messagesNow.data.toList.drop 0 = dktX7_messagesNow_0 := by decide +kernel
theorem dksX7_messagesNow_1 : cX7_messagesNow.data.toList.drop 24 = dktX7_messagesNow_1 := dk_seg dksX7_messagesNow_0 24 rfl rfl
theorem dksX7_messagesNow_2 : cX7_messagesNow.data.toList.drop 48 = dktX7_messagesNow_2 := dk_seg dksX7_messagesNow_1 24 rfl rfl
theorem dksX7_messagesNow_3 : cX7_messagesNow.data.toList.drop 71 = dktX7_messagesNow_3 := dk_seg dksX7_messagesNow_2 23 rfl rfl
theorem dX7_messagesNow_0 : decode cX7_messagesNow 0 = .ok (.aload_n 0, 1) := dk_42 (dk_at dksX7_messagesNow_0 0 rfl rfl)
theorem dX7_messagesNow_1 : decode cX7_messagesNow 1 = .ok (.getfield 10, 3) := dk_180 0 10 (dk_at dksX7_messagesNow_0 1 rfl rfl)
theorem dX7_messagesNow_4 : decode cX7_messagesNow 4 = .ok (.bipush 20, 2) := dk_16 20 (dk_at dksX7_messagesNow_0 4 rfl rfl)
theorem dX7_messagesNow_6 : decode cX7_messagesNow 6 = .ok (.iaload, 1) := dk_46 (dk_at dksX7_messagesNow_0 6 rfl rfl)
theorem dX7_messagesNow_7 : decode cX7_messagesNow 7 = .ok (.istore_n 1, 1) := dk_60 (dk_at dksX7_messagesNow_0 7 rfl rfl)
theorem dX7_messagesNow_8 : decode cX7_messagesNow 8 = .ok (.iconst 0, 1) := dk_3 (dk_at dksX7_messagesNow_0 8 rfl rfl)
theorem dX7_messagesNow_9 : decode cX7_messagesNow 9 = .ok (.istore_n 2, 1) := dk_61 (dk_at dksX7_messagesNow_0 9 rfl rfl)
theorem dX7_messagesNow_10 : decode cX7_messagesNow 10 = .ok (.iconst 0, 1) := dk_3 (dk_at dksX7_messagesNow_0 10 rfl rfl)
theorem dX7_messagesNow_11 : decode cX7_messagesNow 11 = .ok (.istore_n 3, 1) := dk_62 (dk_at dksX7_messagesNow_0 11 rfl rfl)
theorem dX7_messagesNow_12 : decode cX7_messagesNow 12 = .ok (.iload_n 3, 1) := dk_29 (dk_at dksX7_messagesNow_0 12 rfl rfl)
theorem dX7_messagesNow_13 : decode cX7_messagesNow 13 = .ok (.iload_n 1, 1) := dk_27 (dk_at dksX7_messagesNow_0 13 rfl rfl)
theorem dX7_messagesNow_14 : decode cX7_messagesNow 14 = .ok (.if_icmp .ge 63, 3) := dk_162 0 63 (dk_at dksX7_messagesNow_0 14 rfl rfl)
theorem dX7_messagesNow_17 : decode cX7_messagesNow 17 = .ok (.aload_n 0, 1) := dk_42 (dk_at dksX7_messagesNow_0 17 rfl rfl)
theorem dX7_messagesNow_18 : decode cX7_messagesNow 18 = .ok (.getfield 10, 3) := dk_180 0 10 (dk_at dksX7_messagesNow_0 18 rfl rfl)
theorem dX7_messagesNow_21 : decode cX7_messagesNow 21 = .ok (.sipush 1136, 3) := dk_17 4 112 (dk_at dksX7_messagesNow_0 21 rfl rfl)
theorem dX7_messagesNow_24 : decode cX7_messagesNow 24 = .ok (.bipush 6, 2) := dk_16 6 (dk_at dksX7_messagesNow_1 0 rfl rfl)
theorem dX7_messagesNow_26 : decode cX7_messagesNow 26 = .ok (.iload_n 3, 1) := dk_29 (dk_at dksX7_messagesNow_1 2 rfl rfl)
theorem dX7_messagesNow_27 : decode cX7_messagesNow 27 = .ok (.imul, 1) := dk_104 (dk_at dksX7_messagesNow_1 3 rfl rfl)
theorem dX7_messagesNow_28 : decode cX7_messagesNow 28 = .ok (.iadd, 1) := dk_96 (dk_at dksX7_messagesNow_1 4 rfl rfl)
theorem dX7_messagesNow_29 : decode cX7_messagesNow 29 = .ok (.iconst 2, 1) := dk_5 (dk_at dksX7_messagesNow_1 5 rfl rfl)
theorem dX7_messagesNow_30 : decode cX7_messagesNow 30 = .ok (.iadd, 1) := dk_96 (dk_at dksX7_messagesNow_1 6 rfl rfl)
theorem dX7_messagesNow_31 : decode cX7_messagesNow 31 = .ok (.iaload, 1) := dk_46 (dk_at dksX7_messagesNow_1 7 rfl rfl)
theorem dX7_messagesNow_32 : decode cX7_messagesNow 32 = .ok (.aload_n 0, 1) := dk_42 (dk_at dksX7_messagesNow_1 8 rfl rfl)
theorem dX7_messagesNow_33 : decode cX7_messagesNow 33 = .ok (.getfield 10, 3) := dk_180 0 10 (dk_at dksX7_messagesNow_1 9 rfl rfl)
theorem dX7_messagesNow_36 : decode cX7_messagesNow 36 = .ok (.iconst 0, 1) := dk_3 (dk_at dksX7_messagesNow_1 12 rfl rfl)
theorem dX7_messagesNow_37 : decode cX7_messagesNow 37 = .ok (.iaload, 1) := dk_46 (dk_at dksX7_messagesNow_1 13 rfl rfl)
theorem dX7_messagesNow_38 : decode cX7_messagesNow 38 = .ok (.if_icmp .ne 7, 3) := dk_160 0 7 (dk_at dksX7_messagesNow_1 14 rfl rfl)
theorem dX7_messagesNow_41 : decode cX7_messagesNow 41 = .ok (.iconst 1, 1) := dk_4 (dk_at dksX7_messagesNow_1 17 rfl rfl)
theorem dX7_messagesNow_42 : decode cX7_messagesNow 42 = .ok (.goto 4, 3) := dk_167 0 4 (dk_at dksX7_messagesNow_1 18 rfl rfl)
theorem dX7_messagesNow_45 : decode cX7_messagesNow 45 = .ok (.iconst 0, 1) := dk_3 (dk_at dksX7_messagesNow_1 21 rfl rfl)
theorem dX7_messagesNow_46 : decode cX7_messagesNow 46 = .ok (.istore 4, 2) := dk_54 4 (dk_at dksX7_messagesNow_1 22 rfl rfl)
theorem dX7_messagesNow_48 : decode cX7_messagesNow 48 = .ok (.iload 4, 2) := dk_21 4 (dk_at dksX7_messagesNow_2 0 rfl rfl)
theorem dX7_messagesNow_50 : decode cX7_messagesNow 50 = .ok (.ifCond .eq 11, 3) := dk_153 0 11 (dk_at dksX7_messagesNow_2 2 rfl rfl)
theorem dX7_messagesNow_53 : decode cX7_messagesNow 53 = .ok (.aload_n 0, 1) := dk_42 (dk_at dksX7_messagesNow_2 5 rfl rfl)
theorem dX7_messagesNow_54 : decode cX7_messagesNow 54 = .ok (.iload_n 3, 1) := dk_29 (dk_at dksX7_messagesNow_2 6 rfl rfl)
theorem dX7_messagesNow_55 : decode cX7_messagesNow 55 = .ok (.invokevirtual 238, 3) := dk_182 0 238 (dk_at dksX7_messagesNow_2 7 rfl rfl)
theorem dX7_messagesNow_58 : decode cX7_messagesNow 58 = .ok (.ifCond .ne 7, 3) := dk_154 0 7 (dk_at dksX7_messagesNow_2 10 rfl rfl)
theorem dX7_messagesNow_61 : decode cX7_messagesNow 61 = .ok (.iload_n 2, 1) := dk_28 (dk_at dksX7_messagesNow_2 13 rfl rfl)
theorem dX7_messagesNow_62 : decode cX7_messagesNow 62 = .ok (.ifCond .eq 7, 3) := dk_153 0 7 (dk_at dksX7_messagesNow_2 14 rfl rfl)
theorem dX7_messagesNow_65 : decode cX7_messagesNow 65 = .ok (.iconst 1, 1) := dk_4 (dk_at dksX7_messagesNow_2 17 rfl rfl)
theorem dX7_messagesNow_66 : decode cX7_messagesNow 66 = .ok (.goto 4, 3) := dk_167 0 4 (dk_at dksX7_messagesNow_2 18 rfl rfl)
theorem dX7_messagesNow_69 : decode cX7_messagesNow 69 = .ok (.iconst 0, 1) := dk_3 (dk_at dksX7_messagesNow_2 21 rfl rfl)
theorem dX7_messagesNow_70 : decode cX7_messagesNow 70 = .ok (.istore_n 2, 1) := dk_61 (dk_at dksX7_messagesNow_2 22 rfl rfl)
theorem dX7_messagesNow_71 : decode cX7_messagesNow 71 = .ok (.iinc 3 1, 3) := dk_132 3 1 (dk_at dksX7_messagesNow_3 0 rfl rfl)
theorem dX7_messagesNow_74 : decode cX7_messagesNow 74 = .ok (.goto (-62), 3) := dk_167 255 194 (dk_at dksX7_messagesNow_3 3 rfl rfl)
theorem dX7_messagesNow_77 : decode cX7_messagesNow 77 = .ok (.iload_n 2, 1) := dk_28 (dk_at dksX7_messagesNow_3 6 rfl rfl)
theorem dX7_messagesNow_78 : decode cX7_messagesNow 78 = .ok (.ifCond .eq 7, 3) := dk_153 0 7 (dk_at dksX7_messagesNow_3 7 rfl rfl)
theorem dX7_messagesNow_81 : decode cX7_messagesNow 81 = .ok (.aload_n 0, 1) := dk_42 (dk_at dksX7_messagesNow_3 10 rfl rfl)
theorem dX7_messagesNow_82 : decode cX7_messagesNow 82 = .ok (.invokevirtual 241, 3) := dk_182 0 241 (dk_at dksX7_messagesNow_3 11 rfl rfl)
theorem dX7_messagesNow_85 : decode cX7_messagesNow 85 = .ok (.return_, 1) := dk_177 (dk_at dksX7_messagesNow_3 14 rfl rfl)
abbrev cX7_arrives : ByteArray := prog_22_method_47_code
def yX7_arrives : MethodName := ⟨RX7, "arrives", "(I)Z"⟩
def dkwX7_arrives_9 : List UInt8 := [172]
abbrev dktX7_arrives_9 : List UInt8 := dkwX7_arrives_9 ++ []
def dkwX7_arrives_8 : List UInt8 := [16, 16, 92, 46, 4, 96, 79, 167, 0, 16, 42, 29, 21, 4, 21, 5, 21, 6, 21, 7, 182, 0, 235, 4]
abbrev dktX7_arrives_8 : List UInt8 := dkwX7_arrives_8 ++ dktX7_arrives_9
def dkwX7_arrives_7 : List UInt8 := [16, 14, 46, 162, 0, 7, 4, 167, 0, 4, 3, 181, 0, 232, 21, 8, 153, 0, 17, 42, 180, 0, 10]
abbrev dktX7_arrives_7 : List UInt8 := dkwX7_arrives_7 ++ dktX7_arrives_8
def dkwX7_arrives_6 : List UInt8 := [21, 7, 16, 249, 160, 0, 33, 42, 21, 8, 153, 0, 7, 5, 167, 0, 20, 21, 5, 42, 180, 0, 10]
abbrev dktX7_arrives_6 : List UInt8 := dkwX7_arrives_6 ++ dktX7_arrives_7
def dkwX7_arrives_5 : List UInt8 := [180, 0, 10, 28, 5, 96, 42, 21, 4, 7, 182, 0, 152, 79, 3, 172, 42, 180, 0, 10, 28, 3, 79]
abbrev dktX7_arrives_5 : List UInt8 := dkwX7_arrives_5 ++ dktX7_arrives_6
def dkwX7_arrives_4 : List UInt8 := [21, 8, 154, 0, 37, 42, 29, 182, 0, 226, 153, 0, 29, 42, 21, 4, 182, 0, 229, 153, 0, 20, 42]
abbrev dktX7_arrives_4 : List UInt8 := dkwX7_arrives_4 ++ dktX7_arrives_5
def dkwX7_arrives_3 : List UInt8 := [182, 0, 226, 153, 0, 17, 42, 21, 4, 6, 182, 0, 152, 154, 0, 7, 4, 167, 0, 4, 3, 54, 8]
abbrev dktX7_arrives_3 : List UInt8 := dkwX7_arrives_3 ++ dktX7_arrives_4
def dkwX7_arrives_2 : List UInt8 := [180, 0, 10, 28, 8, 96, 46, 54, 7, 42, 21, 4, 16, 6, 182, 0, 152, 4, 159, 0, 21, 42, 29]
abbrev dktX7_arrives_2 : List UInt8 := dkwX7_arrives_2 ++ dktX7_arrives_3
def dkwX7_arrives_1 : List UInt8 := [54, 4, 42, 180, 0, 10, 28, 6, 96, 46, 54, 5, 42, 180, 0, 10, 28, 7, 96, 46, 54, 6, 42]
abbrev dktX7_arrives_1 : List UInt8 := dkwX7_arrives_1 ++ dktX7_arrives_2
def dkwX7_arrives_0 : List UInt8 := [17, 4, 112, 16, 6, 27, 104, 96, 61, 42, 180, 0, 10, 28, 46, 62, 42, 180, 0, 10, 28, 4, 96, 46]
abbrev dktX7_arrives_0 : List UInt8 := dkwX7_arrives_0 ++ dktX7_arrives_1
theorem dksX7_arrives_0 : cX7_arrives.data.toList.drop 0 = dktX7_arrives_0 := by decide +kernel
theorem dksX7_arrives_1 : cX7_arrives.data.toList.drop 24 = dktX7_arrives_1 := dk_seg dksX7_arrives_0 24 rfl rfl
theorem dksX7_arrives_2 : cX7_arrives.data.toList.drop 47 = dktX7_arrives_2 := dk_seg dksX7_arrives_1 23 rfl rfl
theorem dksX7_arrives_3 : cX7_arrives.data.toList.drop 70 = dktX7_arrives_3 := dk_seg dksX7_arrives_2 23 rfl rfl
theorem dksX7_arrives_4 : cX7_arrives.data.toList.drop 93 = dktX7_arrives_4 := dk_seg dksX7_arrives_3 23 rfl rfl
theorem dksX7_arrives_5 : cX7_arrives.data.toList.drop 116 = dktX7_arrives_5 := dk_seg dksX7_arrives_4 23 rfl rfl
theorem dksX7_arrives_6 : cX7_arrives.data.toList.drop 139 = dktX7_arrives_6 := dk_seg dksX7_arrives_5 23 rfl rfl
theorem dksX7_arrives_7 : cX7_arrives.data.toList.drop 162 = dktX7_arrives_7 := dk_seg dksX7_arrives_6 23 rfl rfl
theorem dksX7_arrives_8 : cX7_arrives.data.toList.drop 185 = dktX7_arrives_8 := dk_seg dksX7_arrives_7 23 rfl rfl
theorem dksX7_arrives_9 : cX7_arrives.data.toList.drop 209 = dktX7_arrives_9 := dk_seg dksX7_arrives_8 24 rfl rfl
theorem dX7_arrives_0 : decode cX7_arrives 0 = .ok (.sipush 1136, 3) := dk_17 4 112 (dk_at dksX7_arrives_0 0 rfl rfl)
theorem dX7_arrives_3 : decode cX7_arrives 3 = .ok (.bipush 6, 2) := dk_16 6 (dk_at dksX7_arrives_0 3 rfl rfl)
theorem dX7_arrives_5 : decode cX7_arrives 5 = .ok (.iload_n 1, 1) := dk_27 (dk_at dksX7_arrives_0 5 rfl rfl)
theorem dX7_arrives_6 : decode cX7_arrives 6 = .ok (.imul, 1) := dk_104 (dk_at dksX7_arrives_0 6 rfl rfl)
theorem dX7_arrives_7 : decode cX7_arrives 7 = .ok (.iadd, 1) := dk_96 (dk_at dksX7_arrives_0 7 rfl rfl)
theorem dX7_arrives_8 : decode cX7_arrives 8 = .ok (.istore_n 2, 1) := dk_61 (dk_at dksX7_arrives_0 8 rfl rfl)
theorem dX7_arrives_9 : decode cX7_arrives 9 = .ok (.aload_n 0, 1) := dk_42 (dk_at dksX7_arrives_0 9 rfl rfl)
theorem dX7_arrives_10 : decode cX7_arrives 10 = .ok (.getfield 10, 3) := dk_180 0 10 (dk_at dksX7_arrives_0 10 rfl rfl)
theorem dX7_arrives_13 : decode cX7_arrives 13 = .ok (.iload_n 2, 1) := dk_28 (dk_at dksX7_arrives_0 13 rfl rfl)
theorem dX7_arrives_14 : decode cX7_arrives 14 = .ok (.iaload, 1) := dk_46 (dk_at dksX7_arrives_0 14 rfl rfl)
theorem dX7_arrives_15 : decode cX7_arrives 15 = .ok (.istore_n 3, 1) := dk_62 (dk_at dksX7_arrives_0 15 rfl rfl)
theorem dX7_arrives_16 : decode cX7_arrives 16 = .ok (.aload_n 0, 1) := dk_42 (dk_at dksX7_arrives_0 16 rfl rfl)
theorem dX7_arrives_17 : decode cX7_arrives 17 = .ok (.getfield 10, 3) := dk_180 0 10 (dk_at dksX7_arrives_0 17 rfl rfl)
theorem dX7_arrives_20 : decode cX7_arrives 20 = .ok (.iload_n 2, 1) := dk_28 (dk_at dksX7_arrives_0 20 rfl rfl)
theorem dX7_arrives_21 : decode cX7_arrives 21 = .ok (.iconst 1, 1) := dk_4 (dk_at dksX7_arrives_0 21 rfl rfl)
theorem dX7_arrives_22 : decode cX7_arrives 22 = .ok (.iadd, 1) := dk_96 (dk_at dksX7_arrives_0 22 rfl rfl)
theorem dX7_arrives_23 : decode cX7_arrives 23 = .ok (.iaload, 1) := dk_46 (dk_at dksX7_arrives_0 23 rfl rfl)
theorem dX7_arrives_24 : decode cX7_arrives 24 = .ok (.istore 4, 2) := dk_54 4 (dk_at dksX7_arrives_1 0 rfl rfl)
theorem dX7_arrives_26 : decode cX7_arrives 26 = .ok (.aload_n 0, 1) := dk_42 (dk_at dksX7_arrives_1 2 rfl rfl)
theorem dX7_arrives_27 : decode cX7_arrives 27 = .ok (.getfield 10, 3) := dk_180 0 10 (dk_at dksX7_arrives_1 3 rfl rfl)
theorem dX7_arrives_30 : decode cX7_arrives 30 = .ok (.iload_n 2, 1) := dk_28 (dk_at dksX7_arrives_1 6 rfl rfl)
theorem dX7_arrives_31 : decode cX7_arrives 31 = .ok (.iconst 3, 1) := dk_6 (dk_at dksX7_arrives_1 7 rfl rfl)
theorem dX7_arrives_32 : decode cX7_arrives 32 = .ok (.iadd, 1) := dk_96 (dk_at dksX7_arrives_1 8 rfl rfl)
theorem dX7_arrives_33 : decode cX7_arrives 33 = .ok (.iaload, 1) := dk_46 (dk_at dksX7_arrives_1 9 rfl rfl)
theorem dX7_arrives_34 : decode cX7_arrives 34 = .ok (.istore 5, 2) := dk_54 5 (dk_at dksX7_arrives_1 10 rfl rfl)
theorem dX7_arrives_36 : decode cX7_arrives 36 = .ok (.aload_n 0, 1) := dk_42 (dk_at dksX7_arrives_1 12 rfl rfl)
theorem dX7_arrives_37 : decode cX7_arrives 37 = .ok (.getfield 10, 3) := dk_180 0 10 (dk_at dksX7_arrives_1 13 rfl rfl)
theorem dX7_arrives_40 : decode cX7_arrives 40 = .ok (.iload_n 2, 1) := dk_28 (dk_at dksX7_arrives_1 16 rfl rfl)
theorem dX7_arrives_41 : decode cX7_arrives 41 = .ok (.iconst 4, 1) := dk_7 (dk_at dksX7_arrives_1 17 rfl rfl)
theorem dX7_arrives_42 : decode cX7_arrives 42 = .ok (.iadd, 1) := dk_96 (dk_at dksX7_arrives_1 18 rfl rfl)
theorem dX7_arrives_43 : decode cX7_arrives 43 = .ok (.iaload, 1) := dk_46 (dk_at dksX7_arrives_1 19 rfl rfl)
theorem dX7_arrives_44 : decode cX7_arrives 44 = .ok (.istore 6, 2) := dk_54 6 (dk_at dksX7_arrives_1 20 rfl rfl)
theorem dX7_arrives_46 : decode cX7_arrives 46 = .ok (.aload_n 0, 1) := dk_42 (dk_at dksX7_arrives_1 22 rfl rfl)
theorem dX7_arrives_47 : decode cX7_arrives 47 = .ok (.getfield 10, 3) := dk_180 0 10 (dk_at dksX7_arrives_2 0 rfl rfl)
theorem dX7_arrives_50 : decode cX7_arrives 50 = .ok (.iload_n 2, 1) := dk_28 (dk_at dksX7_arrives_2 3 rfl rfl)
theorem dX7_arrives_51 : decode cX7_arrives 51 = .ok (.iconst 5, 1) := dk_8 (dk_at dksX7_arrives_2 4 rfl rfl)
theorem dX7_arrives_52 : decode cX7_arrives 52 = .ok (.iadd, 1) := dk_96 (dk_at dksX7_arrives_2 5 rfl rfl)
theorem dX7_arrives_53 : decode cX7_arrives 53 = .ok (.iaload, 1) := dk_46 (dk_at dksX7_arrives_2 6 rfl rfl)
theorem dX7_arrives_54 : decode cX7_arrives 54 = .ok (.istore 7, 2) := dk_54 7 (dk_at dksX7_arrives_2 7 rfl rfl)
theorem dX7_arrives_56 : decode cX7_arrives 56 = .ok (.aload_n 0, 1) := dk_42 (dk_at dksX7_arrives_2 9 rfl rfl)
theorem dX7_arrives_57 : decode cX7_arrives 57 = .ok (.iload 4, 2) := dk_21 4 (dk_at dksX7_arrives_2 10 rfl rfl)
theorem dX7_arrives_59 : decode cX7_arrives 59 = .ok (.bipush 6, 2) := dk_16 6 (dk_at dksX7_arrives_2 12 rfl rfl)
theorem dX7_arrives_61 : decode cX7_arrives 61 = .ok (.invokevirtual 152, 3) := dk_182 0 152 (dk_at dksX7_arrives_2 14 rfl rfl)
theorem dX7_arrives_64 : decode cX7_arrives 64 = .ok (.iconst 1, 1) := dk_4 (dk_at dksX7_arrives_2 17 rfl rfl)
theorem dX7_arrives_65 : decode cX7_arrives 65 = .ok (.if_icmp .eq 21, 3) := dk_159 0 21 (dk_at dksX7_arrives_2 18 rfl rfl)
theorem dX7_arrives_68 : decode cX7_arrives 68 = .ok (.aload_n 0, 1) := dk_42 (dk_at dksX7_arrives_2 21 rfl rfl)
theorem dX7_arrives_69 : decode cX7_arrives 69 = .ok (.iload_n 3, 1) := dk_29 (dk_at dksX7_arrives_2 22 rfl rfl)
theorem dX7_arrives_70 : decode cX7_arrives 70 = .ok (.invokevirtual 226, 3) := dk_182 0 226 (dk_at dksX7_arrives_3 0 rfl rfl)
theorem dX7_arrives_73 : decode cX7_arrives 73 = .ok (.ifCond .eq 17, 3) := dk_153 0 17 (dk_at dksX7_arrives_3 3 rfl rfl)
theorem dX7_arrives_76 : decode cX7_arrives 76 = .ok (.aload_n 0, 1) := dk_42 (dk_at dksX7_arrives_3 6 rfl rfl)
theorem dX7_arrives_77 : decode cX7_arrives 77 = .ok (.iload 4, 2) := dk_21 4 (dk_at dksX7_arrives_3 7 rfl rfl)
theorem dX7_arrives_79 : decode cX7_arrives 79 = .ok (.iconst 3, 1) := dk_6 (dk_at dksX7_arrives_3 9 rfl rfl)
theorem dX7_arrives_80 : decode cX7_arrives 80 = .ok (.invokevirtual 152, 3) := dk_182 0 152 (dk_at dksX7_arrives_3 10 rfl rfl)
theorem dX7_arrives_83 : decode cX7_arrives 83 = .ok (.ifCond .ne 7, 3) := dk_154 0 7 (dk_at dksX7_arrives_3 13 rfl rfl)
theorem dX7_arrives_86 : decode cX7_arrives 86 = .ok (.iconst 1, 1) := dk_4 (dk_at dksX7_arrives_3 16 rfl rfl)
theorem dX7_arrives_87 : decode cX7_arrives 87 = .ok (.goto 4, 3) := dk_167 0 4 (dk_at dksX7_arrives_3 17 rfl rfl)
theorem dX7_arrives_90 : decode cX7_arrives 90 = .ok (.iconst 0, 1) := dk_3 (dk_at dksX7_arrives_3 20 rfl rfl)
theorem dX7_arrives_91 : decode cX7_arrives 91 = .ok (.istore 8, 2) := dk_54 8 (dk_at dksX7_arrives_3 21 rfl rfl)
theorem dX7_arrives_93 : decode cX7_arrives 93 = .ok (.iload 8, 2) := dk_21 8 (dk_at dksX7_arrives_4 0 rfl rfl)
theorem dX7_arrives_95 : decode cX7_arrives 95 = .ok (.ifCond .ne 37, 3) := dk_154 0 37 (dk_at dksX7_arrives_4 2 rfl rfl)
theorem dX7_arrives_98 : decode cX7_arrives 98 = .ok (.aload_n 0, 1) := dk_42 (dk_at dksX7_arrives_4 5 rfl rfl)
theorem dX7_arrives_99 : decode cX7_arrives 99 = .ok (.iload_n 3, 1) := dk_29 (dk_at dksX7_arrives_4 6 rfl rfl)
theorem dX7_arrives_100 : decode cX7_arrives 100 = .ok (.invokevirtual 226, 3) := dk_182 0 226 (dk_at dksX7_arrives_4 7 rfl rfl)
theorem dX7_arrives_103 : decode cX7_arrives 103 = .ok (.ifCond .eq 29, 3) := dk_153 0 29 (dk_at dksX7_arrives_4 10 rfl rfl)
theorem dX7_arrives_106 : decode cX7_arrives 106 = .ok (.aload_n 0, 1) := dk_42 (dk_at dksX7_arrives_4 13 rfl rfl)
theorem dX7_arrives_107 : decode cX7_arrives 107 = .ok (.iload 4, 2) := dk_21 4 (dk_at dksX7_arrives_4 14 rfl rfl)
theorem dX7_arrives_109 : decode cX7_arrives 109 = .ok (.invokevirtual 229, 3) := dk_182 0 229 (dk_at dksX7_arrives_4 16 rfl rfl)
theorem dX7_arrives_112 : decode cX7_arrives 112 = .ok (.ifCond .eq 20, 3) := dk_153 0 20 (dk_at dksX7_arrives_4 19 rfl rfl)
theorem dX7_arrives_115 : decode cX7_arrives 115 = .ok (.aload_n 0, 1) := dk_42 (dk_at dksX7_arrives_4 22 rfl rfl)
theorem dX7_arrives_116 : decode cX7_arrives 116 = .ok (.getfield 10, 3) := dk_180 0 10 (dk_at dksX7_arrives_5 0 rfl rfl)
theorem dX7_arrives_119 : decode cX7_arrives 119 = .ok (.iload_n 2, 1) := dk_28 (dk_at dksX7_arrives_5 3 rfl rfl)
theorem dX7_arrives_120 : decode cX7_arrives 120 = .ok (.iconst 2, 1) := dk_5 (dk_at dksX7_arrives_5 4 rfl rfl)
theorem dX7_arrives_121 : decode cX7_arrives 121 = .ok (.iadd, 1) := dk_96 (dk_at dksX7_arrives_5 5 rfl rfl)
theorem dX7_arrives_122 : decode cX7_arrives 122 = .ok (.aload_n 0, 1) := dk_42 (dk_at dksX7_arrives_5 6 rfl rfl)
theorem dX7_arrives_123 : decode cX7_arrives 123 = .ok (.iload 4, 2) := dk_21 4 (dk_at dksX7_arrives_5 7 rfl rfl)
theorem dX7_arrives_125 : decode cX7_arrives 125 = .ok (.iconst 4, 1) := dk_7 (dk_at dksX7_arrives_5 9 rfl rfl)
theorem dX7_arrives_126 : decode cX7_arrives 126 = .ok (.invokevirtual 152, 3) := dk_182 0 152 (dk_at dksX7_arrives_5 10 rfl rfl)
theorem dX7_arrives_129 : decode cX7_arrives 129 = .ok (.iastore, 1) := dk_79 (dk_at dksX7_arrives_5 13 rfl rfl)
theorem dX7_arrives_130 : decode cX7_arrives 130 = .ok (.iconst 0, 1) := dk_3 (dk_at dksX7_arrives_5 14 rfl rfl)
theorem dX7_arrives_131 : decode cX7_arrives 131 = .ok (.ireturn, 1) := dk_172 (dk_at dksX7_arrives_5 15 rfl rfl)
theorem dX7_arrives_132 : decode cX7_arrives 132 = .ok (.aload_n 0, 1) := dk_42 (dk_at dksX7_arrives_5 16 rfl rfl)
theorem dX7_arrives_133 : decode cX7_arrives 133 = .ok (.getfield 10, 3) := dk_180 0 10 (dk_at dksX7_arrives_5 17 rfl rfl)
theorem dX7_arrives_136 : decode cX7_arrives 136 = .ok (.iload_n 2, 1) := dk_28 (dk_at dksX7_arrives_5 20 rfl rfl)
theorem dX7_arrives_137 : decode cX7_arrives 137 = .ok (.iconst 0, 1) := dk_3 (dk_at dksX7_arrives_5 21 rfl rfl)
theorem dX7_arrives_138 : decode cX7_arrives 138 = .ok (.iastore, 1) := dk_79 (dk_at dksX7_arrives_5 22 rfl rfl)
theorem dX7_arrives_139 : decode cX7_arrives 139 = .ok (.iload 7, 2) := dk_21 7 (dk_at dksX7_arrives_6 0 rfl rfl)
theorem dX7_arrives_141 : decode cX7_arrives 141 = .ok (.bipush (-7), 2) := dk_16 249 (dk_at dksX7_arrives_6 2 rfl rfl)
theorem dX7_arrives_143 : decode cX7_arrives 143 = .ok (.if_icmp .ne 33, 3) := dk_160 0 33 (dk_at dksX7_arrives_6 4 rfl rfl)
theorem dX7_arrives_146 : decode cX7_arrives 146 = .ok (.aload_n 0, 1) := dk_42 (dk_at dksX7_arrives_6 7 rfl rfl)
theorem dX7_arrives_147 : decode cX7_arrives 147 = .ok (.iload 8, 2) := dk_21 8 (dk_at dksX7_arrives_6 8 rfl rfl)
theorem dX7_arrives_149 : decode cX7_arrives 149 = .ok (.ifCond .eq 7, 3) := dk_153 0 7 (dk_at dksX7_arrives_6 10 rfl rfl)
theorem dX7_arrives_152 : decode cX7_arrives 152 = .ok (.iconst 2, 1) := dk_5 (dk_at dksX7_arrives_6 13 rfl rfl)
theorem dX7_arrives_153 : decode cX7_arrives 153 = .ok (.goto 20, 3) := dk_167 0 20 (dk_at dksX7_arrives_6 14 rfl rfl)
theorem dX7_arrives_156 : decode cX7_arrives 156 = .ok (.iload 5, 2) := dk_21 5 (dk_at dksX7_arrives_6 17 rfl rfl)
theorem dX7_arrives_158 : decode cX7_arrives 158 = .ok (.aload_n 0, 1) := dk_42 (dk_at dksX7_arrives_6 19 rfl rfl)
theorem dX7_arrives_159 : decode cX7_arrives 159 = .ok (.getfield 10, 3) := dk_180 0 10 (dk_at dksX7_arrives_6 20 rfl rfl)
theorem dX7_arrives_162 : decode cX7_arrives 162 = .ok (.bipush 14, 2) := dk_16 14 (dk_at dksX7_arrives_7 0 rfl rfl)
theorem dX7_arrives_164 : decode cX7_arrives 164 = .ok (.iaload, 1) := dk_46 (dk_at dksX7_arrives_7 2 rfl rfl)
theorem dX7_arrives_165 : decode cX7_arrives 165 = .ok (.if_icmp .ge 7, 3) := dk_162 0 7 (dk_at dksX7_arrives_7 3 rfl rfl)
theorem dX7_arrives_168 : decode cX7_arrives 168 = .ok (.iconst 1, 1) := dk_4 (dk_at dksX7_arrives_7 6 rfl rfl)
theorem dX7_arrives_169 : decode cX7_arrives 169 = .ok (.goto 4, 3) := dk_167 0 4 (dk_at dksX7_arrives_7 7 rfl rfl)
theorem dX7_arrives_172 : decode cX7_arrives 172 = .ok (.iconst 0, 1) := dk_3 (dk_at dksX7_arrives_7 10 rfl rfl)
theorem dX7_arrives_173 : decode cX7_arrives 173 = .ok (.putfield 232, 3) := dk_181 0 232 (dk_at dksX7_arrives_7 11 rfl rfl)
theorem dX7_arrives_176 : decode cX7_arrives 176 = .ok (.iload 8, 2) := dk_21 8 (dk_at dksX7_arrives_7 14 rfl rfl)
theorem dX7_arrives_178 : decode cX7_arrives 178 = .ok (.ifCond .eq 17, 3) := dk_153 0 17 (dk_at dksX7_arrives_7 16 rfl rfl)
theorem dX7_arrives_181 : decode cX7_arrives 181 = .ok (.aload_n 0, 1) := dk_42 (dk_at dksX7_arrives_7 19 rfl rfl)
theorem dX7_arrives_182 : decode cX7_arrives 182 = .ok (.getfield 10, 3) := dk_180 0 10 (dk_at dksX7_arrives_7 20 rfl rfl)
theorem dX7_arrives_185 : decode cX7_arrives 185 = .ok (.bipush 16, 2) := dk_16 16 (dk_at dksX7_arrives_8 0 rfl rfl)
theorem dX7_arrives_187 : decode cX7_arrives 187 = .ok (.dup2, 1) := dk_92 (dk_at dksX7_arrives_8 2 rfl rfl)
theorem dX7_arrives_188 : decode cX7_arrives 188 = .ok (.iaload, 1) := dk_46 (dk_at dksX7_arrives_8 3 rfl rfl)
theorem dX7_arrives_189 : decode cX7_arrives 189 = .ok (.iconst 1, 1) := dk_4 (dk_at dksX7_arrives_8 4 rfl rfl)
theorem dX7_arrives_190 : decode cX7_arrives 190 = .ok (.iadd, 1) := dk_96 (dk_at dksX7_arrives_8 5 rfl rfl)
theorem dX7_arrives_191 : decode cX7_arrives 191 = .ok (.iastore, 1) := dk_79 (dk_at dksX7_arrives_8 6 rfl rfl)
theorem dX7_arrives_192 : decode cX7_arrives 192 = .ok (.goto 16, 3) := dk_167 0 16 (dk_at dksX7_arrives_8 7 rfl rfl)
theorem dX7_arrives_195 : decode cX7_arrives 195 = .ok (.aload_n 0, 1) := dk_42 (dk_at dksX7_arrives_8 10 rfl rfl)
theorem dX7_arrives_196 : decode cX7_arrives 196 = .ok (.iload_n 3, 1) := dk_29 (dk_at dksX7_arrives_8 11 rfl rfl)
theorem dX7_arrives_197 : decode cX7_arrives 197 = .ok (.iload 4, 2) := dk_21 4 (dk_at dksX7_arrives_8 12 rfl rfl)
theorem dX7_arrives_199 : decode cX7_arrives 199 = .ok (.iload 5, 2) := dk_21 5 (dk_at dksX7_arrives_8 14 rfl rfl)
theorem dX7_arrives_201 : decode cX7_arrives 201 = .ok (.iload 6, 2) := dk_21 6 (dk_at dksX7_arrives_8 16 rfl rfl)
theorem dX7_arrives_203 : decode cX7_arrives 203 = .ok (.iload 7, 2) := dk_21 7 (dk_at dksX7_arrives_8 18 rfl rfl)
theorem dX7_arrives_205 : decode cX7_arrives 205 = .ok (.invokevirtual 235, 3) := dk_182 0 235 (dk_at dksX7_arrives_8 20 rfl rfl)
theorem dX7_arrives_208 : decode cX7_arrives 208 = .ok (.iconst 1, 1) := dk_4 (dk_at dksX7_arrives_8 23 rfl rfl)
theorem dX7_arrives_209 : decode cX7_arrives 209 = .ok (.ireturn, 1) := dk_172 (dk_at dksX7_arrives_9 0 rfl rfl)
abbrev cX7_isToNode : ByteArray := prog_22_method_46_code
def yX7_isToNode : MethodName := ⟨RX7, "isToNode", "(I)Z"⟩
def dkwX7_isToNode_0 : List UInt8 := [27, 8, 161, 0, 7, 4, 167, 0, 4, 3, 172]
abbrev dktX7_isToNode_0 : List UInt8 := dkwX7_isToNode_0 ++ []
theorem dksX7_isToNode_0 : cX7_isToNode.data.toList.drop 0 = dktX7_isToNode_0 := by decide +kernel
theorem dX7_isToNode_0 : decode cX7_isToNode 0 = .ok (.iload_n 1, 1) := dk_27 (dk_at dksX7_isToNode_0 0 rfl rfl)
theorem dX7_isToNode_1 : decode cX7_isToNode 1 = .ok (.iconst 5, 1) := dk_8 (dk_at dksX7_isToNode_0 1 rfl rfl)
theorem dX7_isToNode_2 : decode cX7_isToNode 2 = .ok (.if_icmp .lt 7, 3) := dk_161 0 7 (dk_at dksX7_isToNode_0 2 rfl rfl)
theorem dX7_isToNode_5 : decode cX7_isToNode 5 = .ok (.iconst 1, 1) := dk_4 (dk_at dksX7_isToNode_0 5 rfl rfl)
theorem dX7_isToNode_6 : decode cX7_isToNode 6 = .ok (.goto 4, 3) := dk_167 0 4 (dk_at dksX7_isToNode_0 6 rfl rfl)
theorem dX7_isToNode_9 : decode cX7_isToNode 9 = .ok (.iconst 0, 1) := dk_3 (dk_at dksX7_isToNode_0 9 rfl rfl)
theorem dX7_isToNode_10 : decode cX7_isToNode 10 = .ok (.ireturn, 1) := dk_172 (dk_at dksX7_isToNode_0 10 rfl rfl)
abbrev cX7_handles : ByteArray := prog_22_method_38_code
def yX7_handles : MethodName := ⟨RX7, "handles", "(IIIII)V"⟩
def dkwX7_handles_6 : List UInt8 := [42, 28, 182, 0, 213, 167, 0, 13, 42, 28, 29, 21, 4, 21, 5, 182, 0, 216, 177]
abbrev dktX7_handles_6 : List UInt8 := dkwX7_handles_6 ++ []
def dkwX7_handles_5 : List UInt8 := [180, 0, 10, 16, 8, 46, 96, 182, 0, 193, 167, 0, 32, 42, 28, 16, 7, 182, 0, 152, 29, 160, 0, 21]
abbrev dktX7_handles_5 : List UInt8 := dkwX7_handles_5 ++ dktX7_handles_6
def dkwX7_handles_4 : List UInt8 := [182, 0, 210, 167, 0, 63, 42, 28, 8, 182, 0, 152, 4, 160, 0, 53, 42, 28, 42, 28, 182, 0, 162, 42]
abbrev dktX7_handles_4 : List UInt8 := dkwX7_handles_4 ++ dktX7_handles_5
def dkwX7_handles_3 : List UInt8 := [21, 5, 182, 0, 203, 167, 0, 85, 42, 28, 29, 21, 4, 182, 0, 207, 167, 0, 74, 42, 28, 29, 21, 4]
abbrev dktX7_handles_3 : List UInt8 := dkwX7_handles_3 ++ dktX7_handles_4
def dkwX7_handles_2 : List UInt8 := [42, 28, 21, 4, 182, 0, 197, 167, 0, 107, 42, 28, 29, 182, 0, 200, 167, 0, 98, 42, 28, 29, 21, 4]
abbrev dktX7_handles_2 : List UInt8 := dkwX7_handles_2 ++ dktX7_handles_3
def dkwX7_handles_1 : List UInt8 := [170, 0, 0, 0, 0, 0, 155, 0, 0, 0, 1, 0, 0, 0, 9, 0, 0, 0, 51, 0, 0, 0, 61, 0, 0, 0, 70, 0, 0, 0, 83, 0, 0, 0, 94, 0, 0, 0, 105, 0, 0, 0, 155, 0, 0, 0, 155, 0, 0, 0, 136]
abbrev dktX7_handles_1 : List UInt8 := dkwX7_handles_1 ++ dktX7_handles_2
def dkwX7_handles_0 : List UInt8 := [27]
abbrev dktX7_handles_0 : List UInt8 := dkwX7_handles_0 ++ dktX7_handles_1
theorem dksX7_handles_0 : cX7_handles.data.toList.drop 0 = dktX7_handles_0 := by decide +kernel
theorem dksX7_handles_1 : cX7_handles.data.toList.drop 1 = dktX7_handles_1 := dk_seg dksX7_handles_0 1 rfl rfl
theorem dksX7_handles_2 : cX7_handles.data.toList.drop 52 = dktX7_handles_2 := dk_seg dksX7_handles_1 51 rfl rfl
theorem dksX7_handles_3 : cX7_handles.data.toList.drop 76 = dktX7_handles_3 := dk_seg dksX7_handles_2 24 rfl rfl
theorem dksX7_handles_4 : cX7_handles.data.toList.drop 100 = dktX7_handles_4 := dk_seg dksX7_handles_3 24 rfl rfl
theorem dksX7_handles_5 : cX7_handles.data.toList.drop 124 = dktX7_handles_5 := dk_seg dksX7_handles_4 24 rfl rfl
theorem dksX7_handles_6 : cX7_handles.data.toList.drop 148 = dktX7_handles_6 := dk_seg dksX7_handles_5 24 rfl rfl
theorem dX7_handles_0 : decode cX7_handles 0 = .ok (.iload_n 1, 1) := dk_27 (dk_at dksX7_handles_0 0 rfl rfl)
theorem dX7_handles_1 : decode cX7_handles 1 = .ok (.tableswitch 155 1 9 #[51, 61, 70, 83, 94, 105, 155, 155, 136], 51) := by decide +kernel
theorem dX7_handles_52 : decode cX7_handles 52 = .ok (.aload_n 0, 1) := dk_42 (dk_at dksX7_handles_2 0 rfl rfl)
theorem dX7_handles_53 : decode cX7_handles 53 = .ok (.iload_n 2, 1) := dk_28 (dk_at dksX7_handles_2 1 rfl rfl)
theorem dX7_handles_54 : decode cX7_handles 54 = .ok (.iload 4, 2) := dk_21 4 (dk_at dksX7_handles_2 2 rfl rfl)
theorem dX7_handles_56 : decode cX7_handles 56 = .ok (.invokevirtual 197, 3) := dk_182 0 197 (dk_at dksX7_handles_2 4 rfl rfl)
theorem dX7_handles_59 : decode cX7_handles 59 = .ok (.goto 107, 3) := dk_167 0 107 (dk_at dksX7_handles_2 7 rfl rfl)
theorem dX7_handles_62 : decode cX7_handles 62 = .ok (.aload_n 0, 1) := dk_42 (dk_at dksX7_handles_2 10 rfl rfl)
theorem dX7_handles_63 : decode cX7_handles 63 = .ok (.iload_n 2, 1) := dk_28 (dk_at dksX7_handles_2 11 rfl rfl)
theorem dX7_handles_64 : decode cX7_handles 64 = .ok (.iload_n 3, 1) := dk_29 (dk_at dksX7_handles_2 12 rfl rfl)
theorem dX7_handles_65 : decode cX7_handles 65 = .ok (.invokevirtual 200, 3) := dk_182 0 200 (dk_at dksX7_handles_2 13 rfl rfl)
theorem dX7_handles_68 : decode cX7_handles 68 = .ok (.goto 98, 3) := dk_167 0 98 (dk_at dksX7_handles_2 16 rfl rfl)
theorem dX7_handles_71 : decode cX7_handles 71 = .ok (.aload_n 0, 1) := dk_42 (dk_at dksX7_handles_2 19 rfl rfl)
theorem dX7_handles_72 : decode cX7_handles 72 = .ok (.iload_n 2, 1) := dk_28 (dk_at dksX7_handles_2 20 rfl rfl)
theorem dX7_handles_73 : decode cX7_handles 73 = .ok (.iload_n 3, 1) := dk_29 (dk_at dksX7_handles_2 21 rfl rfl)
theorem dX7_handles_74 : decode cX7_handles 74 = .ok (.iload 4, 2) := dk_21 4 (dk_at dksX7_handles_2 22 rfl rfl)
theorem dX7_handles_76 : decode cX7_handles 76 = .ok (.iload 5, 2) := dk_21 5 (dk_at dksX7_handles_3 0 rfl rfl)
theorem dX7_handles_78 : decode cX7_handles 78 = .ok (.invokevirtual 203, 3) := dk_182 0 203 (dk_at dksX7_handles_3 2 rfl rfl)
theorem dX7_handles_81 : decode cX7_handles 81 = .ok (.goto 85, 3) := dk_167 0 85 (dk_at dksX7_handles_3 5 rfl rfl)
theorem dX7_handles_84 : decode cX7_handles 84 = .ok (.aload_n 0, 1) := dk_42 (dk_at dksX7_handles_3 8 rfl rfl)
theorem dX7_handles_85 : decode cX7_handles 85 = .ok (.iload_n 2, 1) := dk_28 (dk_at dksX7_handles_3 9 rfl rfl)
theorem dX7_handles_86 : decode cX7_handles 86 = .ok (.iload_n 3, 1) := dk_29 (dk_at dksX7_handles_3 10 rfl rfl)
theorem dX7_handles_87 : decode cX7_handles 87 = .ok (.iload 4, 2) := dk_21 4 (dk_at dksX7_handles_3 11 rfl rfl)
theorem dX7_handles_89 : decode cX7_handles 89 = .ok (.invokevirtual 207, 3) := dk_182 0 207 (dk_at dksX7_handles_3 13 rfl rfl)
theorem dX7_handles_92 : decode cX7_handles 92 = .ok (.goto 74, 3) := dk_167 0 74 (dk_at dksX7_handles_3 16 rfl rfl)
theorem dX7_handles_95 : decode cX7_handles 95 = .ok (.aload_n 0, 1) := dk_42 (dk_at dksX7_handles_3 19 rfl rfl)
theorem dX7_handles_96 : decode cX7_handles 96 = .ok (.iload_n 2, 1) := dk_28 (dk_at dksX7_handles_3 20 rfl rfl)
theorem dX7_handles_97 : decode cX7_handles 97 = .ok (.iload_n 3, 1) := dk_29 (dk_at dksX7_handles_3 21 rfl rfl)
theorem dX7_handles_98 : decode cX7_handles 98 = .ok (.iload 4, 2) := dk_21 4 (dk_at dksX7_handles_3 22 rfl rfl)
theorem dX7_handles_100 : decode cX7_handles 100 = .ok (.invokevirtual 210, 3) := dk_182 0 210 (dk_at dksX7_handles_4 0 rfl rfl)
theorem dX7_handles_103 : decode cX7_handles 103 = .ok (.goto 63, 3) := dk_167 0 63 (dk_at dksX7_handles_4 3 rfl rfl)
theorem dX7_handles_106 : decode cX7_handles 106 = .ok (.aload_n 0, 1) := dk_42 (dk_at dksX7_handles_4 6 rfl rfl)
theorem dX7_handles_107 : decode cX7_handles 107 = .ok (.iload_n 2, 1) := dk_28 (dk_at dksX7_handles_4 7 rfl rfl)
theorem dX7_handles_108 : decode cX7_handles 108 = .ok (.iconst 5, 1) := dk_8 (dk_at dksX7_handles_4 8 rfl rfl)
theorem dX7_handles_109 : decode cX7_handles 109 = .ok (.invokevirtual 152, 3) := dk_182 0 152 (dk_at dksX7_handles_4 9 rfl rfl)
theorem dX7_handles_112 : decode cX7_handles 112 = .ok (.iconst 1, 1) := dk_4 (dk_at dksX7_handles_4 12 rfl rfl)
theorem dX7_handles_113 : decode cX7_handles 113 = .ok (.if_icmp .ne 53, 3) := dk_160 0 53 (dk_at dksX7_handles_4 13 rfl rfl)
theorem dX7_handles_116 : decode cX7_handles 116 = .ok (.aload_n 0, 1) := dk_42 (dk_at dksX7_handles_4 16 rfl rfl)
theorem dX7_handles_117 : decode cX7_handles 117 = .ok (.iload_n 2, 1) := dk_28 (dk_at dksX7_handles_4 17 rfl rfl)
theorem dX7_handles_118 : decode cX7_handles 118 = .ok (.aload_n 0, 1) := dk_42 (dk_at dksX7_handles_4 18 rfl rfl)
theorem dX7_handles_119 : decode cX7_handles 119 = .ok (.iload_n 2, 1) := dk_28 (dk_at dksX7_handles_4 19 rfl rfl)
theorem dX7_handles_120 : decode cX7_handles 120 = .ok (.invokevirtual 162, 3) := dk_182 0 162 (dk_at dksX7_handles_4 20 rfl rfl)
theorem dX7_handles_123 : decode cX7_handles 123 = .ok (.aload_n 0, 1) := dk_42 (dk_at dksX7_handles_4 23 rfl rfl)
theorem dX7_handles_124 : decode cX7_handles 124 = .ok (.getfield 10, 3) := dk_180 0 10 (dk_at dksX7_handles_5 0 rfl rfl)
theorem dX7_handles_127 : decode cX7_handles 127 = .ok (.bipush 8, 2) := dk_16 8 (dk_at dksX7_handles_5 3 rfl rfl)
theorem dX7_handles_129 : decode cX7_handles 129 = .ok (.iaload, 1) := dk_46 (dk_at dksX7_handles_5 5 rfl rfl)
theorem dX7_handles_130 : decode cX7_handles 130 = .ok (.iadd, 1) := dk_96 (dk_at dksX7_handles_5 6 rfl rfl)
theorem dX7_handles_131 : decode cX7_handles 131 = .ok (.invokevirtual 193, 3) := dk_182 0 193 (dk_at dksX7_handles_5 7 rfl rfl)
theorem dX7_handles_134 : decode cX7_handles 134 = .ok (.goto 32, 3) := dk_167 0 32 (dk_at dksX7_handles_5 10 rfl rfl)
theorem dX7_handles_137 : decode cX7_handles 137 = .ok (.aload_n 0, 1) := dk_42 (dk_at dksX7_handles_5 13 rfl rfl)
theorem dX7_handles_138 : decode cX7_handles 138 = .ok (.iload_n 2, 1) := dk_28 (dk_at dksX7_handles_5 14 rfl rfl)
theorem dX7_handles_139 : decode cX7_handles 139 = .ok (.bipush 7, 2) := dk_16 7 (dk_at dksX7_handles_5 15 rfl rfl)
theorem dX7_handles_141 : decode cX7_handles 141 = .ok (.invokevirtual 152, 3) := dk_182 0 152 (dk_at dksX7_handles_5 17 rfl rfl)
theorem dX7_handles_144 : decode cX7_handles 144 = .ok (.iload_n 3, 1) := dk_29 (dk_at dksX7_handles_5 20 rfl rfl)
theorem dX7_handles_145 : decode cX7_handles 145 = .ok (.if_icmp .ne 21, 3) := dk_160 0 21 (dk_at dksX7_handles_5 21 rfl rfl)
theorem dX7_handles_148 : decode cX7_handles 148 = .ok (.aload_n 0, 1) := dk_42 (dk_at dksX7_handles_6 0 rfl rfl)
theorem dX7_handles_149 : decode cX7_handles 149 = .ok (.iload_n 2, 1) := dk_28 (dk_at dksX7_handles_6 1 rfl rfl)
theorem dX7_handles_150 : decode cX7_handles 150 = .ok (.invokevirtual 213, 3) := dk_182 0 213 (dk_at dksX7_handles_6 2 rfl rfl)
theorem dX7_handles_153 : decode cX7_handles 153 = .ok (.goto 13, 3) := dk_167 0 13 (dk_at dksX7_handles_6 5 rfl rfl)
theorem dX7_handles_156 : decode cX7_handles 156 = .ok (.aload_n 0, 1) := dk_42 (dk_at dksX7_handles_6 8 rfl rfl)
theorem dX7_handles_157 : decode cX7_handles 157 = .ok (.iload_n 2, 1) := dk_28 (dk_at dksX7_handles_6 9 rfl rfl)
theorem dX7_handles_158 : decode cX7_handles 158 = .ok (.iload_n 3, 1) := dk_29 (dk_at dksX7_handles_6 10 rfl rfl)
theorem dX7_handles_159 : decode cX7_handles 159 = .ok (.iload 4, 2) := dk_21 4 (dk_at dksX7_handles_6 11 rfl rfl)
theorem dX7_handles_161 : decode cX7_handles 161 = .ok (.iload 5, 2) := dk_21 5 (dk_at dksX7_handles_6 13 rfl rfl)
theorem dX7_handles_163 : decode cX7_handles 163 = .ok (.invokevirtual 216, 3) := dk_182 0 216 (dk_at dksX7_handles_6 15 rfl rfl)
theorem dX7_handles_166 : decode cX7_handles 166 = .ok (.return_, 1) := dk_177 (dk_at dksX7_handles_6 18 rfl rfl)
abbrev cX7_atServer : ByteArray := prog_22_method_39_code
def yX7_atServer : MethodName := ⟨RX7, "atServer", "(II)V"⟩
def dkwX7_atServer_7 : List UInt8 := [8, 27, 42, 180, 0, 10, 16, 12, 46, 28, 3, 182, 0, 189, 177]
abbrev dktX7_atServer_7 : List UInt8 := dkwX7_atServer_7 ++ []
def dkwX7_atServer_6 : List UInt8 := [79, 42, 21, 4, 153, 0, 7, 4, 167, 0, 4, 5, 27, 42, 180, 0, 10, 16, 12, 46, 182, 0, 219, 42]
abbrev dktX7_atServer_6 : List UInt8 := dkwX7_atServer_6 ++ dktX7_atServer_7
def dkwX7_atServer_5 : List UInt8 := [96, 79, 42, 180, 0, 10, 16, 10, 27, 79, 42, 180, 0, 10, 16, 11, 29, 42, 180, 0, 10, 8, 46, 96]
abbrev dktX7_atServer_5 : List UInt8 := dkwX7_atServer_5 ++ dktX7_atServer_6
def dkwX7_atServer_4 : List UInt8 := [161, 0, 7, 4, 167, 0, 4, 3, 54, 4, 21, 4, 153, 0, 14, 42, 180, 0, 10, 16, 12, 92, 46, 4]
abbrev dktX7_atServer_4 : List UInt8 := dkwX7_atServer_4 ++ dktX7_atServer_5
def dkwX7_atServer_3 : List UInt8 := [182, 0, 189, 177, 42, 180, 0, 10, 16, 10, 46, 27, 160, 0, 14, 29, 42, 180, 0, 10, 16, 11, 46]
abbrev dktX7_atServer_3 : List UInt8 := dkwX7_atServer_3 ++ dktX7_atServer_4
def dkwX7_atServer_2 : List UInt8 := [162, 0, 27, 42, 6, 27, 42, 180, 0, 10, 16, 12, 46, 182, 0, 219, 42, 16, 6, 27, 3, 3, 3]
abbrev dktX7_atServer_2 : List UInt8 := dkwX7_atServer_2 ++ dktX7_atServer_3
def dkwX7_atServer_1 : List UInt8 := [16, 252, 159, 0, 49, 42, 180, 0, 10, 16, 10, 46, 27, 159, 0, 38, 29, 42, 180, 0, 10, 16, 11, 46]
abbrev dktX7_atServer_1 : List UInt8 := dkwX7_atServer_1 ++ dktX7_atServer_2
def dkwX7_atServer_0 : List UInt8 := [42, 182, 0, 176, 62, 29, 42, 180, 0, 10, 16, 13, 46, 161, 0, 37, 42, 180, 0, 10, 16, 10, 46]
abbrev dktX7_atServer_0 : List UInt8 := dkwX7_atServer_0 ++ dktX7_atServer_1
theorem dksX7_atServer_0 : cX7_atServer.data.toList.drop 0 = dktX7_atServer_0 := by decide +kernel
theorem dksX7_atServer_1 : cX7_atServer.data.toList.drop 23 = dktX7_atServer_1 := dk_seg dksX7_atServer_0 23 rfl rfl
theorem dksX7_atServer_2 : cX7_atServer.data.toList.drop 47 = dktX7_atServer_2 := dk_seg dksX7_atServer_1 24 rfl rfl
theorem dksX7_atServer_3 : cX7_atServer.data.toList.drop 70 = dktX7_atServer_3 := dk_seg dksX7_atServer_2 23 rfl rfl
theorem dksX7_atServer_4 : cX7_atServer.data.toList.drop 93 = dktX7_atServer_4 := dk_seg dksX7_atServer_3 23 rfl rfl
theorem dksX7_atServer_5 : cX7_atServer.data.toList.drop 117 = dktX7_atServer_5 := dk_seg dksX7_atServer_4 24 rfl rfl
theorem dksX7_atServer_6 : cX7_atServer.data.toList.drop 141 = dktX7_atServer_6 := dk_seg dksX7_atServer_5 24 rfl rfl
theorem dksX7_atServer_7 : cX7_atServer.data.toList.drop 165 = dktX7_atServer_7 := dk_seg dksX7_atServer_6 24 rfl rfl
theorem dX7_atServer_0 : decode cX7_atServer 0 = .ok (.aload_n 0, 1) := dk_42 (dk_at dksX7_atServer_0 0 rfl rfl)
theorem dX7_atServer_1 : decode cX7_atServer 1 = .ok (.invokevirtual 176, 3) := dk_182 0 176 (dk_at dksX7_atServer_0 1 rfl rfl)
theorem dX7_atServer_4 : decode cX7_atServer 4 = .ok (.istore_n 3, 1) := dk_62 (dk_at dksX7_atServer_0 4 rfl rfl)
theorem dX7_atServer_5 : decode cX7_atServer 5 = .ok (.iload_n 3, 1) := dk_29 (dk_at dksX7_atServer_0 5 rfl rfl)
theorem dX7_atServer_6 : decode cX7_atServer 6 = .ok (.aload_n 0, 1) := dk_42 (dk_at dksX7_atServer_0 6 rfl rfl)
theorem dX7_atServer_7 : decode cX7_atServer 7 = .ok (.getfield 10, 3) := dk_180 0 10 (dk_at dksX7_atServer_0 7 rfl rfl)
theorem dX7_atServer_10 : decode cX7_atServer 10 = .ok (.bipush 13, 2) := dk_16 13 (dk_at dksX7_atServer_0 10 rfl rfl)
theorem dX7_atServer_12 : decode cX7_atServer 12 = .ok (.iaload, 1) := dk_46 (dk_at dksX7_atServer_0 12 rfl rfl)
theorem dX7_atServer_13 : decode cX7_atServer 13 = .ok (.if_icmp .lt 37, 3) := dk_161 0 37 (dk_at dksX7_atServer_0 13 rfl rfl)
theorem dX7_atServer_16 : decode cX7_atServer 16 = .ok (.aload_n 0, 1) := dk_42 (dk_at dksX7_atServer_0 16 rfl rfl)
theorem dX7_atServer_17 : decode cX7_atServer 17 = .ok (.getfield 10, 3) := dk_180 0 10 (dk_at dksX7_atServer_0 17 rfl rfl)
theorem dX7_atServer_20 : decode cX7_atServer 20 = .ok (.bipush 10, 2) := dk_16 10 (dk_at dksX7_atServer_0 20 rfl rfl)
theorem dX7_atServer_22 : decode cX7_atServer 22 = .ok (.iaload, 1) := dk_46 (dk_at dksX7_atServer_0 22 rfl rfl)
theorem dX7_atServer_23 : decode cX7_atServer 23 = .ok (.bipush (-4), 2) := dk_16 252 (dk_at dksX7_atServer_1 0 rfl rfl)
theorem dX7_atServer_25 : decode cX7_atServer 25 = .ok (.if_icmp .eq 49, 3) := dk_159 0 49 (dk_at dksX7_atServer_1 2 rfl rfl)
theorem dX7_atServer_28 : decode cX7_atServer 28 = .ok (.aload_n 0, 1) := dk_42 (dk_at dksX7_atServer_1 5 rfl rfl)
theorem dX7_atServer_29 : decode cX7_atServer 29 = .ok (.getfield 10, 3) := dk_180 0 10 (dk_at dksX7_atServer_1 6 rfl rfl)
theorem dX7_atServer_32 : decode cX7_atServer 32 = .ok (.bipush 10, 2) := dk_16 10 (dk_at dksX7_atServer_1 9 rfl rfl)
theorem dX7_atServer_34 : decode cX7_atServer 34 = .ok (.iaload, 1) := dk_46 (dk_at dksX7_atServer_1 11 rfl rfl)
theorem dX7_atServer_35 : decode cX7_atServer 35 = .ok (.iload_n 1, 1) := dk_27 (dk_at dksX7_atServer_1 12 rfl rfl)
theorem dX7_atServer_36 : decode cX7_atServer 36 = .ok (.if_icmp .eq 38, 3) := dk_159 0 38 (dk_at dksX7_atServer_1 13 rfl rfl)
theorem dX7_atServer_39 : decode cX7_atServer 39 = .ok (.iload_n 3, 1) := dk_29 (dk_at dksX7_atServer_1 16 rfl rfl)
theorem dX7_atServer_40 : decode cX7_atServer 40 = .ok (.aload_n 0, 1) := dk_42 (dk_at dksX7_atServer_1 17 rfl rfl)
theorem dX7_atServer_41 : decode cX7_atServer 41 = .ok (.getfield 10, 3) := dk_180 0 10 (dk_at dksX7_atServer_1 18 rfl rfl)
theorem dX7_atServer_44 : decode cX7_atServer 44 = .ok (.bipush 11, 2) := dk_16 11 (dk_at dksX7_atServer_1 21 rfl rfl)
theorem dX7_atServer_46 : decode cX7_atServer 46 = .ok (.iaload, 1) := dk_46 (dk_at dksX7_atServer_1 23 rfl rfl)
theorem dX7_atServer_47 : decode cX7_atServer 47 = .ok (.if_icmp .ge 27, 3) := dk_162 0 27 (dk_at dksX7_atServer_2 0 rfl rfl)
theorem dX7_atServer_50 : decode cX7_atServer 50 = .ok (.aload_n 0, 1) := dk_42 (dk_at dksX7_atServer_2 3 rfl rfl)
theorem dX7_atServer_51 : decode cX7_atServer 51 = .ok (.iconst 3, 1) := dk_6 (dk_at dksX7_atServer_2 4 rfl rfl)
theorem dX7_atServer_52 : decode cX7_atServer 52 = .ok (.iload_n 1, 1) := dk_27 (dk_at dksX7_atServer_2 5 rfl rfl)
theorem dX7_atServer_53 : decode cX7_atServer 53 = .ok (.aload_n 0, 1) := dk_42 (dk_at dksX7_atServer_2 6 rfl rfl)
theorem dX7_atServer_54 : decode cX7_atServer 54 = .ok (.getfield 10, 3) := dk_180 0 10 (dk_at dksX7_atServer_2 7 rfl rfl)
theorem dX7_atServer_57 : decode cX7_atServer 57 = .ok (.bipush 12, 2) := dk_16 12 (dk_at dksX7_atServer_2 10 rfl rfl)
theorem dX7_atServer_59 : decode cX7_atServer 59 = .ok (.iaload, 1) := dk_46 (dk_at dksX7_atServer_2 12 rfl rfl)
theorem dX7_atServer_60 : decode cX7_atServer 60 = .ok (.invokevirtual 219, 3) := dk_182 0 219 (dk_at dksX7_atServer_2 13 rfl rfl)
theorem dX7_atServer_63 : decode cX7_atServer 63 = .ok (.aload_n 0, 1) := dk_42 (dk_at dksX7_atServer_2 16 rfl rfl)
theorem dX7_atServer_64 : decode cX7_atServer 64 = .ok (.bipush 6, 2) := dk_16 6 (dk_at dksX7_atServer_2 17 rfl rfl)
theorem dX7_atServer_66 : decode cX7_atServer 66 = .ok (.iload_n 1, 1) := dk_27 (dk_at dksX7_atServer_2 19 rfl rfl)
theorem dX7_atServer_67 : decode cX7_atServer 67 = .ok (.iconst 0, 1) := dk_3 (dk_at dksX7_atServer_2 20 rfl rfl)
theorem dX7_atServer_68 : decode cX7_atServer 68 = .ok (.iconst 0, 1) := dk_3 (dk_at dksX7_atServer_2 21 rfl rfl)
theorem dX7_atServer_69 : decode cX7_atServer 69 = .ok (.iconst 0, 1) := dk_3 (dk_at dksX7_atServer_2 22 rfl rfl)
theorem dX7_atServer_70 : decode cX7_atServer 70 = .ok (.invokevirtual 189, 3) := dk_182 0 189 (dk_at dksX7_atServer_3 0 rfl rfl)
theorem dX7_atServer_73 : decode cX7_atServer 73 = .ok (.return_, 1) := dk_177 (dk_at dksX7_atServer_3 3 rfl rfl)
theorem dX7_atServer_74 : decode cX7_atServer 74 = .ok (.aload_n 0, 1) := dk_42 (dk_at dksX7_atServer_3 4 rfl rfl)
theorem dX7_atServer_75 : decode cX7_atServer 75 = .ok (.getfield 10, 3) := dk_180 0 10 (dk_at dksX7_atServer_3 5 rfl rfl)
theorem dX7_atServer_78 : decode cX7_atServer 78 = .ok (.bipush 10, 2) := dk_16 10 (dk_at dksX7_atServer_3 8 rfl rfl)
theorem dX7_atServer_80 : decode cX7_atServer 80 = .ok (.iaload, 1) := dk_46 (dk_at dksX7_atServer_3 10 rfl rfl)
theorem dX7_atServer_81 : decode cX7_atServer 81 = .ok (.iload_n 1, 1) := dk_27 (dk_at dksX7_atServer_3 11 rfl rfl)
theorem dX7_atServer_82 : decode cX7_atServer 82 = .ok (.if_icmp .ne 14, 3) := dk_160 0 14 (dk_at dksX7_atServer_3 12 rfl rfl)
theorem dX7_atServer_85 : decode cX7_atServer 85 = .ok (.iload_n 3, 1) := dk_29 (dk_at dksX7_atServer_3 15 rfl rfl)
theorem dX7_atServer_86 : decode cX7_atServer 86 = .ok (.aload_n 0, 1) := dk_42 (dk_at dksX7_atServer_3 16 rfl rfl)
theorem dX7_atServer_87 : decode cX7_atServer 87 = .ok (.getfield 10, 3) := dk_180 0 10 (dk_at dksX7_atServer_3 17 rfl rfl)
theorem dX7_atServer_90 : decode cX7_atServer 90 = .ok (.bipush 11, 2) := dk_16 11 (dk_at dksX7_atServer_3 20 rfl rfl)
theorem dX7_atServer_92 : decode cX7_atServer 92 = .ok (.iaload, 1) := dk_46 (dk_at dksX7_atServer_3 22 rfl rfl)
theorem dX7_atServer_93 : decode cX7_atServer 93 = .ok (.if_icmp .lt 7, 3) := dk_161 0 7 (dk_at dksX7_atServer_4 0 rfl rfl)
theorem dX7_atServer_96 : decode cX7_atServer 96 = .ok (.iconst 1, 1) := dk_4 (dk_at dksX7_atServer_4 3 rfl rfl)
theorem dX7_atServer_97 : decode cX7_atServer 97 = .ok (.goto 4, 3) := dk_167 0 4 (dk_at dksX7_atServer_4 4 rfl rfl)
theorem dX7_atServer_100 : decode cX7_atServer 100 = .ok (.iconst 0, 1) := dk_3 (dk_at dksX7_atServer_4 7 rfl rfl)
theorem dX7_atServer_101 : decode cX7_atServer 101 = .ok (.istore 4, 2) := dk_54 4 (dk_at dksX7_atServer_4 8 rfl rfl)
theorem dX7_atServer_103 : decode cX7_atServer 103 = .ok (.iload 4, 2) := dk_21 4 (dk_at dksX7_atServer_4 10 rfl rfl)
theorem dX7_atServer_105 : decode cX7_atServer 105 = .ok (.ifCond .eq 14, 3) := dk_153 0 14 (dk_at dksX7_atServer_4 12 rfl rfl)
theorem dX7_atServer_108 : decode cX7_atServer 108 = .ok (.aload_n 0, 1) := dk_42 (dk_at dksX7_atServer_4 15 rfl rfl)
theorem dX7_atServer_109 : decode cX7_atServer 109 = .ok (.getfield 10, 3) := dk_180 0 10 (dk_at dksX7_atServer_4 16 rfl rfl)
theorem dX7_atServer_112 : decode cX7_atServer 112 = .ok (.bipush 12, 2) := dk_16 12 (dk_at dksX7_atServer_4 19 rfl rfl)
theorem dX7_atServer_114 : decode cX7_atServer 114 = .ok (.dup2, 1) := dk_92 (dk_at dksX7_atServer_4 21 rfl rfl)
theorem dX7_atServer_115 : decode cX7_atServer 115 = .ok (.iaload, 1) := dk_46 (dk_at dksX7_atServer_4 22 rfl rfl)
theorem dX7_atServer_116 : decode cX7_atServer 116 = .ok (.iconst 1, 1) := dk_4 (dk_at dksX7_atServer_4 23 rfl rfl)
theorem dX7_atServer_117 : decode cX7_atServer 117 = .ok (.iadd, 1) := dk_96 (dk_at dksX7_atServer_5 0 rfl rfl)
theorem dX7_atServer_118 : decode cX7_atServer 118 = .ok (.iastore, 1) := dk_79 (dk_at dksX7_atServer_5 1 rfl rfl)
theorem dX7_atServer_119 : decode cX7_atServer 119 = .ok (.aload_n 0, 1) := dk_42 (dk_at dksX7_atServer_5 2 rfl rfl)
theorem dX7_atServer_120 : decode cX7_atServer 120 = .ok (.getfield 10, 3) := dk_180 0 10 (dk_at dksX7_atServer_5 3 rfl rfl)
theorem dX7_atServer_123 : decode cX7_atServer 123 = .ok (.bipush 10, 2) := dk_16 10 (dk_at dksX7_atServer_5 6 rfl rfl)
theorem dX7_atServer_125 : decode cX7_atServer 125 = .ok (.iload_n 1, 1) := dk_27 (dk_at dksX7_atServer_5 8 rfl rfl)
theorem dX7_atServer_126 : decode cX7_atServer 126 = .ok (.iastore, 1) := dk_79 (dk_at dksX7_atServer_5 9 rfl rfl)
theorem dX7_atServer_127 : decode cX7_atServer 127 = .ok (.aload_n 0, 1) := dk_42 (dk_at dksX7_atServer_5 10 rfl rfl)
theorem dX7_atServer_128 : decode cX7_atServer 128 = .ok (.getfield 10, 3) := dk_180 0 10 (dk_at dksX7_atServer_5 11 rfl rfl)
theorem dX7_atServer_131 : decode cX7_atServer 131 = .ok (.bipush 11, 2) := dk_16 11 (dk_at dksX7_atServer_5 14 rfl rfl)
theorem dX7_atServer_133 : decode cX7_atServer 133 = .ok (.iload_n 3, 1) := dk_29 (dk_at dksX7_atServer_5 16 rfl rfl)
theorem dX7_atServer_134 : decode cX7_atServer 134 = .ok (.aload_n 0, 1) := dk_42 (dk_at dksX7_atServer_5 17 rfl rfl)
theorem dX7_atServer_135 : decode cX7_atServer 135 = .ok (.getfield 10, 3) := dk_180 0 10 (dk_at dksX7_atServer_5 18 rfl rfl)
theorem dX7_atServer_138 : decode cX7_atServer 138 = .ok (.iconst 5, 1) := dk_8 (dk_at dksX7_atServer_5 21 rfl rfl)
theorem dX7_atServer_139 : decode cX7_atServer 139 = .ok (.iaload, 1) := dk_46 (dk_at dksX7_atServer_5 22 rfl rfl)
theorem dX7_atServer_140 : decode cX7_atServer 140 = .ok (.iadd, 1) := dk_96 (dk_at dksX7_atServer_5 23 rfl rfl)
theorem dX7_atServer_141 : decode cX7_atServer 141 = .ok (.iastore, 1) := dk_79 (dk_at dksX7_atServer_6 0 rfl rfl)
theorem dX7_atServer_142 : decode cX7_atServer 142 = .ok (.aload_n 0, 1) := dk_42 (dk_at dksX7_atServer_6 1 rfl rfl)
theorem dX7_atServer_143 : decode cX7_atServer 143 = .ok (.iload 4, 2) := dk_21 4 (dk_at dksX7_atServer_6 2 rfl rfl)
theorem dX7_atServer_145 : decode cX7_atServer 145 = .ok (.ifCond .eq 7, 3) := dk_153 0 7 (dk_at dksX7_atServer_6 4 rfl rfl)
theorem dX7_atServer_148 : decode cX7_atServer 148 = .ok (.iconst 1, 1) := dk_4 (dk_at dksX7_atServer_6 7 rfl rfl)
theorem dX7_atServer_149 : decode cX7_atServer 149 = .ok (.goto 4, 3) := dk_167 0 4 (dk_at dksX7_atServer_6 8 rfl rfl)
theorem dX7_atServer_152 : decode cX7_atServer 152 = .ok (.iconst 2, 1) := dk_5 (dk_at dksX7_atServer_6 11 rfl rfl)
theorem dX7_atServer_153 : decode cX7_atServer 153 = .ok (.iload_n 1, 1) := dk_27 (dk_at dksX7_atServer_6 12 rfl rfl)
theorem dX7_atServer_154 : decode cX7_atServer 154 = .ok (.aload_n 0, 1) := dk_42 (dk_at dksX7_atServer_6 13 rfl rfl)
theorem dX7_atServer_155 : decode cX7_atServer 155 = .ok (.getfield 10, 3) := dk_180 0 10 (dk_at dksX7_atServer_6 14 rfl rfl)
theorem dX7_atServer_158 : decode cX7_atServer 158 = .ok (.bipush 12, 2) := dk_16 12 (dk_at dksX7_atServer_6 17 rfl rfl)
theorem dX7_atServer_160 : decode cX7_atServer 160 = .ok (.iaload, 1) := dk_46 (dk_at dksX7_atServer_6 19 rfl rfl)
theorem dX7_atServer_161 : decode cX7_atServer 161 = .ok (.invokevirtual 219, 3) := dk_182 0 219 (dk_at dksX7_atServer_6 20 rfl rfl)
theorem dX7_atServer_164 : decode cX7_atServer 164 = .ok (.aload_n 0, 1) := dk_42 (dk_at dksX7_atServer_6 23 rfl rfl)
theorem dX7_atServer_165 : decode cX7_atServer 165 = .ok (.iconst 5, 1) := dk_8 (dk_at dksX7_atServer_7 0 rfl rfl)
theorem dX7_atServer_166 : decode cX7_atServer 166 = .ok (.iload_n 1, 1) := dk_27 (dk_at dksX7_atServer_7 1 rfl rfl)
theorem dX7_atServer_167 : decode cX7_atServer 167 = .ok (.aload_n 0, 1) := dk_42 (dk_at dksX7_atServer_7 2 rfl rfl)
theorem dX7_atServer_168 : decode cX7_atServer 168 = .ok (.getfield 10, 3) := dk_180 0 10 (dk_at dksX7_atServer_7 3 rfl rfl)
theorem dX7_atServer_171 : decode cX7_atServer 171 = .ok (.bipush 12, 2) := dk_16 12 (dk_at dksX7_atServer_7 6 rfl rfl)
theorem dX7_atServer_173 : decode cX7_atServer 173 = .ok (.iaload, 1) := dk_46 (dk_at dksX7_atServer_7 8 rfl rfl)
theorem dX7_atServer_174 : decode cX7_atServer 174 = .ok (.iload_n 2, 1) := dk_28 (dk_at dksX7_atServer_7 9 rfl rfl)
theorem dX7_atServer_175 : decode cX7_atServer 175 = .ok (.iconst 0, 1) := dk_3 (dk_at dksX7_atServer_7 10 rfl rfl)
theorem dX7_atServer_176 : decode cX7_atServer 176 = .ok (.invokevirtual 189, 3) := dk_182 0 189 (dk_at dksX7_atServer_7 11 rfl rfl)
theorem dX7_atServer_179 : decode cX7_atServer 179 = .ok (.return_, 1) := dk_177 (dk_at dksX7_atServer_7 14 rfl rfl)
abbrev cX7_logs : ByteArray := prog_22_method_33_code
def yX7_logs : MethodName := ⟨RX7, "logs", "(III)V"⟩
def dkwX7_logs_5 : List UInt8 := [28, 79, 42, 180, 0, 10, 21, 4, 6, 96, 29, 79, 42, 180, 0, 10, 16, 22, 92, 46, 4, 96, 79, 177]
abbrev dktX7_logs_5 : List UInt8 := dkwX7_logs_5 ++ []
def dkwX7_logs_4 : List UInt8 := [180, 0, 10, 3, 46, 79, 42, 180, 0, 10, 21, 4, 4, 96, 27, 79, 42, 180, 0, 10, 21, 4, 5, 96]
abbrev dktX7_logs_4 : List UInt8 := dkwX7_logs_4 ++ dktX7_logs_5
def dkwX7_logs_3 : List UInt8 := [100, 79, 17, 1, 80, 7, 42, 180, 0, 10, 16, 22, 46, 104, 96, 54, 4, 42, 180, 0, 10, 21, 4, 42]
abbrev dktX7_logs_3 : List UInt8 := dkwX7_logs_3 ++ dktX7_logs_4
def dkwX7_logs_2 : List UInt8 := [180, 0, 10, 21, 4, 7, 96, 46, 79, 132, 4, 1, 167, 255, 229, 42, 180, 0, 10, 16, 22, 92, 46, 4]
abbrev dktX7_logs_2 : List UInt8 := dkwX7_logs_2 ++ dktX7_logs_3
def dkwX7_logs_1 : List UInt8 := [160, 0, 49, 17, 1, 80, 54, 4, 21, 4, 17, 4, 108, 162, 0, 25, 42, 180, 0, 10, 21, 4, 42]
abbrev dktX7_logs_1 : List UInt8 := dkwX7_logs_1 ++ dktX7_logs_2
def dkwX7_logs_0 : List UInt8 := [42, 180, 0, 10, 16, 24, 27, 96, 92, 46, 4, 96, 79, 42, 180, 0, 10, 16, 22, 46, 17, 0, 200]
abbrev dktX7_logs_0 : List UInt8 := dkwX7_logs_0 ++ dktX7_logs_1
theorem dksX7_logs_0 : cX7_logs.data.toList.drop 0 = dktX7_logs_0 := by decide +kernel
theorem dksX7_logs_1 : cX7_logs.data.toList.drop 23 = dktX7_logs_1 := dk_seg dksX7_logs_0 23 rfl rfl
theorem dksX7_logs_2 : cX7_logs.data.toList.drop 46 = dktX7_logs_2 := dk_seg dksX7_logs_1 23 rfl rfl
theorem dksX7_logs_3 : cX7_logs.data.toList.drop 70 = dktX7_logs_3 := dk_seg dksX7_logs_2 24 rfl rfl
theorem dksX7_logs_4 : cX7_logs.data.toList.drop 94 = dktX7_logs_4 := dk_seg dksX7_logs_3 24 rfl rfl
theorem dksX7_logs_5 : cX7_logs.data.toList.drop 118 = dktX7_logs_5 := dk_seg dksX7_logs_4 24 rfl rfl
theorem dX7_logs_0 : decode cX7_logs 0 = .ok (.aload_n 0, 1) := dk_42 (dk_at dksX7_logs_0 0 rfl rfl)
theorem dX7_logs_1 : decode cX7_logs 1 = .ok (.getfield 10, 3) := dk_180 0 10 (dk_at dksX7_logs_0 1 rfl rfl)
theorem dX7_logs_4 : decode cX7_logs 4 = .ok (.bipush 24, 2) := dk_16 24 (dk_at dksX7_logs_0 4 rfl rfl)
theorem dX7_logs_6 : decode cX7_logs 6 = .ok (.iload_n 1, 1) := dk_27 (dk_at dksX7_logs_0 6 rfl rfl)
theorem dX7_logs_7 : decode cX7_logs 7 = .ok (.iadd, 1) := dk_96 (dk_at dksX7_logs_0 7 rfl rfl)
theorem dX7_logs_8 : decode cX7_logs 8 = .ok (.dup2, 1) := dk_92 (dk_at dksX7_logs_0 8 rfl rfl)
theorem dX7_logs_9 : decode cX7_logs 9 = .ok (.iaload, 1) := dk_46 (dk_at dksX7_logs_0 9 rfl rfl)
theorem dX7_logs_10 : decode cX7_logs 10 = .ok (.iconst 1, 1) := dk_4 (dk_at dksX7_logs_0 10 rfl rfl)
theorem dX7_logs_11 : decode cX7_logs 11 = .ok (.iadd, 1) := dk_96 (dk_at dksX7_logs_0 11 rfl rfl)
theorem dX7_logs_12 : decode cX7_logs 12 = .ok (.iastore, 1) := dk_79 (dk_at dksX7_logs_0 12 rfl rfl)
theorem dX7_logs_13 : decode cX7_logs 13 = .ok (.aload_n 0, 1) := dk_42 (dk_at dksX7_logs_0 13 rfl rfl)
theorem dX7_logs_14 : decode cX7_logs 14 = .ok (.getfield 10, 3) := dk_180 0 10 (dk_at dksX7_logs_0 14 rfl rfl)
theorem dX7_logs_17 : decode cX7_logs 17 = .ok (.bipush 22, 2) := dk_16 22 (dk_at dksX7_logs_0 17 rfl rfl)
theorem dX7_logs_19 : decode cX7_logs 19 = .ok (.iaload, 1) := dk_46 (dk_at dksX7_logs_0 19 rfl rfl)
theorem dX7_logs_20 : decode cX7_logs 20 = .ok (.sipush 200, 3) := dk_17 0 200 (dk_at dksX7_logs_0 20 rfl rfl)
theorem dX7_logs_23 : decode cX7_logs 23 = .ok (.if_icmp .ne 49, 3) := dk_160 0 49 (dk_at dksX7_logs_1 0 rfl rfl)
theorem dX7_logs_26 : decode cX7_logs 26 = .ok (.sipush 336, 3) := dk_17 1 80 (dk_at dksX7_logs_1 3 rfl rfl)
theorem dX7_logs_29 : decode cX7_logs 29 = .ok (.istore 4, 2) := dk_54 4 (dk_at dksX7_logs_1 6 rfl rfl)
theorem dX7_logs_31 : decode cX7_logs 31 = .ok (.iload 4, 2) := dk_21 4 (dk_at dksX7_logs_1 8 rfl rfl)
theorem dX7_logs_33 : decode cX7_logs 33 = .ok (.sipush 1132, 3) := dk_17 4 108 (dk_at dksX7_logs_1 10 rfl rfl)
theorem dX7_logs_36 : decode cX7_logs 36 = .ok (.if_icmp .ge 25, 3) := dk_162 0 25 (dk_at dksX7_logs_1 13 rfl rfl)
theorem dX7_logs_39 : decode cX7_logs 39 = .ok (.aload_n 0, 1) := dk_42 (dk_at dksX7_logs_1 16 rfl rfl)
theorem dX7_logs_40 : decode cX7_logs 40 = .ok (.getfield 10, 3) := dk_180 0 10 (dk_at dksX7_logs_1 17 rfl rfl)
theorem dX7_logs_43 : decode cX7_logs 43 = .ok (.iload 4, 2) := dk_21 4 (dk_at dksX7_logs_1 20 rfl rfl)
theorem dX7_logs_45 : decode cX7_logs 45 = .ok (.aload_n 0, 1) := dk_42 (dk_at dksX7_logs_1 22 rfl rfl)
theorem dX7_logs_46 : decode cX7_logs 46 = .ok (.getfield 10, 3) := dk_180 0 10 (dk_at dksX7_logs_2 0 rfl rfl)
theorem dX7_logs_49 : decode cX7_logs 49 = .ok (.iload 4, 2) := dk_21 4 (dk_at dksX7_logs_2 3 rfl rfl)
theorem dX7_logs_51 : decode cX7_logs 51 = .ok (.iconst 4, 1) := dk_7 (dk_at dksX7_logs_2 5 rfl rfl)
theorem dX7_logs_52 : decode cX7_logs 52 = .ok (.iadd, 1) := dk_96 (dk_at dksX7_logs_2 6 rfl rfl)
theorem dX7_logs_53 : decode cX7_logs 53 = .ok (.iaload, 1) := dk_46 (dk_at dksX7_logs_2 7 rfl rfl)
theorem dX7_logs_54 : decode cX7_logs 54 = .ok (.iastore, 1) := dk_79 (dk_at dksX7_logs_2 8 rfl rfl)
theorem dX7_logs_55 : decode cX7_logs 55 = .ok (.iinc 4 1, 3) := dk_132 4 1 (dk_at dksX7_logs_2 9 rfl rfl)
theorem dX7_logs_58 : decode cX7_logs 58 = .ok (.goto (-27), 3) := dk_167 255 229 (dk_at dksX7_logs_2 12 rfl rfl)
theorem dX7_logs_61 : decode cX7_logs 61 = .ok (.aload_n 0, 1) := dk_42 (dk_at dksX7_logs_2 15 rfl rfl)
theorem dX7_logs_62 : decode cX7_logs 62 = .ok (.getfield 10, 3) := dk_180 0 10 (dk_at dksX7_logs_2 16 rfl rfl)
theorem dX7_logs_65 : decode cX7_logs 65 = .ok (.bipush 22, 2) := dk_16 22 (dk_at dksX7_logs_2 19 rfl rfl)
theorem dX7_logs_67 : decode cX7_logs 67 = .ok (.dup2, 1) := dk_92 (dk_at dksX7_logs_2 21 rfl rfl)
theorem dX7_logs_68 : decode cX7_logs 68 = .ok (.iaload, 1) := dk_46 (dk_at dksX7_logs_2 22 rfl rfl)
theorem dX7_logs_69 : decode cX7_logs 69 = .ok (.iconst 1, 1) := dk_4 (dk_at dksX7_logs_2 23 rfl rfl)
theorem dX7_logs_70 : decode cX7_logs 70 = .ok (.isub, 1) := dk_100 (dk_at dksX7_logs_3 0 rfl rfl)
theorem dX7_logs_71 : decode cX7_logs 71 = .ok (.iastore, 1) := dk_79 (dk_at dksX7_logs_3 1 rfl rfl)
theorem dX7_logs_72 : decode cX7_logs 72 = .ok (.sipush 336, 3) := dk_17 1 80 (dk_at dksX7_logs_3 2 rfl rfl)
theorem dX7_logs_75 : decode cX7_logs 75 = .ok (.iconst 4, 1) := dk_7 (dk_at dksX7_logs_3 5 rfl rfl)
theorem dX7_logs_76 : decode cX7_logs 76 = .ok (.aload_n 0, 1) := dk_42 (dk_at dksX7_logs_3 6 rfl rfl)
theorem dX7_logs_77 : decode cX7_logs 77 = .ok (.getfield 10, 3) := dk_180 0 10 (dk_at dksX7_logs_3 7 rfl rfl)
theorem dX7_logs_80 : decode cX7_logs 80 = .ok (.bipush 22, 2) := dk_16 22 (dk_at dksX7_logs_3 10 rfl rfl)
theorem dX7_logs_82 : decode cX7_logs 82 = .ok (.iaload, 1) := dk_46 (dk_at dksX7_logs_3 12 rfl rfl)
theorem dX7_logs_83 : decode cX7_logs 83 = .ok (.imul, 1) := dk_104 (dk_at dksX7_logs_3 13 rfl rfl)
theorem dX7_logs_84 : decode cX7_logs 84 = .ok (.iadd, 1) := dk_96 (dk_at dksX7_logs_3 14 rfl rfl)
theorem dX7_logs_85 : decode cX7_logs 85 = .ok (.istore 4, 2) := dk_54 4 (dk_at dksX7_logs_3 15 rfl rfl)
theorem dX7_logs_87 : decode cX7_logs 87 = .ok (.aload_n 0, 1) := dk_42 (dk_at dksX7_logs_3 17 rfl rfl)
theorem dX7_logs_88 : decode cX7_logs 88 = .ok (.getfield 10, 3) := dk_180 0 10 (dk_at dksX7_logs_3 18 rfl rfl)
theorem dX7_logs_91 : decode cX7_logs 91 = .ok (.iload 4, 2) := dk_21 4 (dk_at dksX7_logs_3 21 rfl rfl)
theorem dX7_logs_93 : decode cX7_logs 93 = .ok (.aload_n 0, 1) := dk_42 (dk_at dksX7_logs_3 23 rfl rfl)
theorem dX7_logs_94 : decode cX7_logs 94 = .ok (.getfield 10, 3) := dk_180 0 10 (dk_at dksX7_logs_4 0 rfl rfl)
theorem dX7_logs_97 : decode cX7_logs 97 = .ok (.iconst 0, 1) := dk_3 (dk_at dksX7_logs_4 3 rfl rfl)
theorem dX7_logs_98 : decode cX7_logs 98 = .ok (.iaload, 1) := dk_46 (dk_at dksX7_logs_4 4 rfl rfl)
theorem dX7_logs_99 : decode cX7_logs 99 = .ok (.iastore, 1) := dk_79 (dk_at dksX7_logs_4 5 rfl rfl)
theorem dX7_logs_100 : decode cX7_logs 100 = .ok (.aload_n 0, 1) := dk_42 (dk_at dksX7_logs_4 6 rfl rfl)
theorem dX7_logs_101 : decode cX7_logs 101 = .ok (.getfield 10, 3) := dk_180 0 10 (dk_at dksX7_logs_4 7 rfl rfl)
theorem dX7_logs_104 : decode cX7_logs 104 = .ok (.iload 4, 2) := dk_21 4 (dk_at dksX7_logs_4 10 rfl rfl)
theorem dX7_logs_106 : decode cX7_logs 106 = .ok (.iconst 1, 1) := dk_4 (dk_at dksX7_logs_4 12 rfl rfl)
theorem dX7_logs_107 : decode cX7_logs 107 = .ok (.iadd, 1) := dk_96 (dk_at dksX7_logs_4 13 rfl rfl)
theorem dX7_logs_108 : decode cX7_logs 108 = .ok (.iload_n 1, 1) := dk_27 (dk_at dksX7_logs_4 14 rfl rfl)
theorem dX7_logs_109 : decode cX7_logs 109 = .ok (.iastore, 1) := dk_79 (dk_at dksX7_logs_4 15 rfl rfl)
theorem dX7_logs_110 : decode cX7_logs 110 = .ok (.aload_n 0, 1) := dk_42 (dk_at dksX7_logs_4 16 rfl rfl)
theorem dX7_logs_111 : decode cX7_logs 111 = .ok (.getfield 10, 3) := dk_180 0 10 (dk_at dksX7_logs_4 17 rfl rfl)
theorem dX7_logs_114 : decode cX7_logs 114 = .ok (.iload 4, 2) := dk_21 4 (dk_at dksX7_logs_4 20 rfl rfl)
theorem dX7_logs_116 : decode cX7_logs 116 = .ok (.iconst 2, 1) := dk_5 (dk_at dksX7_logs_4 22 rfl rfl)
theorem dX7_logs_117 : decode cX7_logs 117 = .ok (.iadd, 1) := dk_96 (dk_at dksX7_logs_4 23 rfl rfl)
theorem dX7_logs_118 : decode cX7_logs 118 = .ok (.iload_n 2, 1) := dk_28 (dk_at dksX7_logs_5 0 rfl rfl)
theorem dX7_logs_119 : decode cX7_logs 119 = .ok (.iastore, 1) := dk_79 (dk_at dksX7_logs_5 1 rfl rfl)
theorem dX7_logs_120 : decode cX7_logs 120 = .ok (.aload_n 0, 1) := dk_42 (dk_at dksX7_logs_5 2 rfl rfl)
theorem dX7_logs_121 : decode cX7_logs 121 = .ok (.getfield 10, 3) := dk_180 0 10 (dk_at dksX7_logs_5 3 rfl rfl)
theorem dX7_logs_124 : decode cX7_logs 124 = .ok (.iload 4, 2) := dk_21 4 (dk_at dksX7_logs_5 6 rfl rfl)
theorem dX7_logs_126 : decode cX7_logs 126 = .ok (.iconst 3, 1) := dk_6 (dk_at dksX7_logs_5 8 rfl rfl)
theorem dX7_logs_127 : decode cX7_logs 127 = .ok (.iadd, 1) := dk_96 (dk_at dksX7_logs_5 9 rfl rfl)
theorem dX7_logs_128 : decode cX7_logs 128 = .ok (.iload_n 3, 1) := dk_29 (dk_at dksX7_logs_5 10 rfl rfl)
theorem dX7_logs_129 : decode cX7_logs 129 = .ok (.iastore, 1) := dk_79 (dk_at dksX7_logs_5 11 rfl rfl)
theorem dX7_logs_130 : decode cX7_logs 130 = .ok (.aload_n 0, 1) := dk_42 (dk_at dksX7_logs_5 12 rfl rfl)
theorem dX7_logs_131 : decode cX7_logs 131 = .ok (.getfield 10, 3) := dk_180 0 10 (dk_at dksX7_logs_5 13 rfl rfl)
theorem dX7_logs_134 : decode cX7_logs 134 = .ok (.bipush 22, 2) := dk_16 22 (dk_at dksX7_logs_5 16 rfl rfl)
theorem dX7_logs_136 : decode cX7_logs 136 = .ok (.dup2, 1) := dk_92 (dk_at dksX7_logs_5 18 rfl rfl)
theorem dX7_logs_137 : decode cX7_logs 137 = .ok (.iaload, 1) := dk_46 (dk_at dksX7_logs_5 19 rfl rfl)
theorem dX7_logs_138 : decode cX7_logs 138 = .ok (.iconst 1, 1) := dk_4 (dk_at dksX7_logs_5 20 rfl rfl)
theorem dX7_logs_139 : decode cX7_logs 139 = .ok (.iadd, 1) := dk_96 (dk_at dksX7_logs_5 21 rfl rfl)
theorem dX7_logs_140 : decode cX7_logs 140 = .ok (.iastore, 1) := dk_79 (dk_at dksX7_logs_5 22 rfl rfl)
theorem dX7_logs_141 : decode cX7_logs 141 = .ok (.return_, 1) := dk_177 (dk_at dksX7_logs_5 23 rfl rfl)
abbrev cX7_sends : ByteArray := prog_22_method_34_code
def yX7_sends : MethodName := ⟨RX7, "sends", "(IIIII)V"⟩
def dkwX7_sends_7 : List UInt8 := [180, 0, 10, 16, 20, 92, 46, 4, 96, 79, 177]
abbrev dktX7_sends_7 : List UInt8 := dkwX7_sends_7 ++ []
def dkwX7_sends_6 : List UInt8 := [180, 0, 10, 21, 7, 7, 96, 21, 4, 79, 42, 180, 0, 10, 21, 7, 8, 96, 21, 5, 79, 42]
abbrev dktX7_sends_6 : List UInt8 := dkwX7_sends_6 ++ dktX7_sends_7
def dkwX7_sends_5 : List UInt8 := [42, 28, 5, 182, 0, 152, 96, 21, 6, 96, 79, 42, 180, 0, 10, 21, 7, 6, 96, 29, 79, 42]
abbrev dktX7_sends_5 : List UInt8 := dkwX7_sends_5 ++ dktX7_sends_6
def dkwX7_sends_4 : List UInt8 := [42, 180, 0, 10, 21, 7, 4, 96, 28, 79, 42, 180, 0, 10, 21, 7, 5, 96, 42, 180, 0, 10, 3, 46]
abbrev dktX7_sends_4 : List UInt8 := dkwX7_sends_4 ++ dktX7_sends_5
def dkwX7_sends_3 : List UInt8 := [17, 4, 112, 16, 6, 42, 180, 0, 10, 16, 20, 46, 104, 96, 54, 7, 42, 180, 0, 10, 21, 7, 27, 79]
abbrev dktX7_sends_3 : List UInt8 := dkwX7_sends_3 ++ dktX7_sends_4
def dkwX7_sends_2 : List UInt8 := [28, 16, 6, 182, 0, 152, 4, 160, 0, 15, 42, 180, 0, 10, 16, 16, 92, 46, 4, 96, 79, 177]
abbrev dktX7_sends_2 : List UInt8 := dkwX7_sends_2 ++ dktX7_sends_3
def dkwX7_sends_1 : List UInt8 := [136, 79, 42, 180, 0, 10, 4, 46, 18, 185, 108, 42, 180, 0, 10, 16, 9, 46, 4, 96, 112, 54, 6, 42]
abbrev dktX7_sends_1 : List UInt8 := dkwX7_sends_1 ++ dktX7_sends_2
def dkwX7_sends_0 : List UInt8 := [42, 180, 0, 10, 4, 20, 0, 179, 42, 180, 0, 10, 4, 46, 133, 105, 20, 0, 181, 97, 20, 0, 183, 113]
abbrev dktX7_sends_0 : List UInt8 := dkwX7_sends_0 ++ dktX7_sends_1
theorem dksX7_sends_0 : cX7_sends.data.toList.drop 0 = dktX7_sends_0 := by decide +kernel
theorem dksX7_sends_1 : cX7_sends.data.toList.drop 24 = dktX7_sends_1 := dk_seg dksX7_sends_0 24 rfl rfl
theorem dksX7_sends_2 : cX7_sends.data.toList.drop 48 = dktX7_sends_2 := dk_seg dksX7_sends_1 24 rfl rfl
theorem dksX7_sends_3 : cX7_sends.data.toList.drop 70 = dktX7_sends_3 := dk_seg dksX7_sends_2 22 rfl rfl
theorem dksX7_sends_4 : cX7_sends.data.toList.drop 94 = dktX7_sends_4 := dk_seg dksX7_sends_3 24 rfl rfl
theorem dksX7_sends_5 : cX7_sends.data.toList.drop 118 = dktX7_sends_5 := dk_seg dksX7_sends_4 24 rfl rfl
theorem dksX7_sends_6 : cX7_sends.data.toList.drop 140 = dktX7_sends_6 := dk_seg dksX7_sends_5 22 rfl rfl
theorem dksX7_sends_7 : cX7_sends.data.toList.drop 162 = dktX7_sends_7 := dk_seg dksX7_sends_6 22 rfl rfl
theorem dX7_sends_0 : decode cX7_sends 0 = .ok (.aload_n 0, 1) := dk_42 (dk_at dksX7_sends_0 0 rfl rfl)
theorem dX7_sends_1 : decode cX7_sends 1 = .ok (.getfield 10, 3) := dk_180 0 10 (dk_at dksX7_sends_0 1 rfl rfl)
theorem dX7_sends_4 : decode cX7_sends 4 = .ok (.iconst 1, 1) := dk_4 (dk_at dksX7_sends_0 4 rfl rfl)
theorem dX7_sends_5 : decode cX7_sends 5 = .ok (.ldc2_w 179, 3) := dk_20 0 179 (dk_at dksX7_sends_0 5 rfl rfl)
theorem dX7_sends_8 : decode cX7_sends 8 = .ok (.aload_n 0, 1) := dk_42 (dk_at dksX7_sends_0 8 rfl rfl)
theorem dX7_sends_9 : decode cX7_sends 9 = .ok (.getfield 10, 3) := dk_180 0 10 (dk_at dksX7_sends_0 9 rfl rfl)
theorem dX7_sends_12 : decode cX7_sends 12 = .ok (.iconst 1, 1) := dk_4 (dk_at dksX7_sends_0 12 rfl rfl)
theorem dX7_sends_13 : decode cX7_sends 13 = .ok (.iaload, 1) := dk_46 (dk_at dksX7_sends_0 13 rfl rfl)
theorem dX7_sends_14 : decode cX7_sends 14 = .ok (.i2l, 1) := dk_133 (dk_at dksX7_sends_0 14 rfl rfl)
theorem dX7_sends_15 : decode cX7_sends 15 = .ok (.lmul, 1) := dk_105 (dk_at dksX7_sends_0 15 rfl rfl)
theorem dX7_sends_16 : decode cX7_sends 16 = .ok (.ldc2_w 181, 3) := dk_20 0 181 (dk_at dksX7_sends_0 16 rfl rfl)
theorem dX7_sends_19 : decode cX7_sends 19 = .ok (.ladd, 1) := dk_97 (dk_at dksX7_sends_0 19 rfl rfl)
theorem dX7_sends_20 : decode cX7_sends 20 = .ok (.ldc2_w 183, 3) := dk_20 0 183 (dk_at dksX7_sends_0 20 rfl rfl)
theorem dX7_sends_23 : decode cX7_sends 23 = .ok (.lrem, 1) := dk_113 (dk_at dksX7_sends_0 23 rfl rfl)
theorem dX7_sends_24 : decode cX7_sends 24 = .ok (.l2i, 1) := dk_136 (dk_at dksX7_sends_1 0 rfl rfl)
theorem dX7_sends_25 : decode cX7_sends 25 = .ok (.iastore, 1) := dk_79 (dk_at dksX7_sends_1 1 rfl rfl)
theorem dX7_sends_26 : decode cX7_sends 26 = .ok (.aload_n 0, 1) := dk_42 (dk_at dksX7_sends_1 2 rfl rfl)
theorem dX7_sends_27 : decode cX7_sends 27 = .ok (.getfield 10, 3) := dk_180 0 10 (dk_at dksX7_sends_1 3 rfl rfl)
theorem dX7_sends_30 : decode cX7_sends 30 = .ok (.iconst 1, 1) := dk_4 (dk_at dksX7_sends_1 6 rfl rfl)
theorem dX7_sends_31 : decode cX7_sends 31 = .ok (.iaload, 1) := dk_46 (dk_at dksX7_sends_1 7 rfl rfl)
theorem dX7_sends_32 : decode cX7_sends 32 = .ok (.ldc 185, 2) := dk_18 185 (dk_at dksX7_sends_1 8 rfl rfl)
theorem dX7_sends_34 : decode cX7_sends 34 = .ok (.idiv, 1) := dk_108 (dk_at dksX7_sends_1 10 rfl rfl)
theorem dX7_sends_35 : decode cX7_sends 35 = .ok (.aload_n 0, 1) := dk_42 (dk_at dksX7_sends_1 11 rfl rfl)
theorem dX7_sends_36 : decode cX7_sends 36 = .ok (.getfield 10, 3) := dk_180 0 10 (dk_at dksX7_sends_1 12 rfl rfl)
theorem dX7_sends_39 : decode cX7_sends 39 = .ok (.bipush 9, 2) := dk_16 9 (dk_at dksX7_sends_1 15 rfl rfl)
theorem dX7_sends_41 : decode cX7_sends 41 = .ok (.iaload, 1) := dk_46 (dk_at dksX7_sends_1 17 rfl rfl)
theorem dX7_sends_42 : decode cX7_sends 42 = .ok (.iconst 1, 1) := dk_4 (dk_at dksX7_sends_1 18 rfl rfl)
theorem dX7_sends_43 : decode cX7_sends 43 = .ok (.iadd, 1) := dk_96 (dk_at dksX7_sends_1 19 rfl rfl)
theorem dX7_sends_44 : decode cX7_sends 44 = .ok (.irem, 1) := dk_112 (dk_at dksX7_sends_1 20 rfl rfl)
theorem dX7_sends_45 : decode cX7_sends 45 = .ok (.istore 6, 2) := dk_54 6 (dk_at dksX7_sends_1 21 rfl rfl)
theorem dX7_sends_47 : decode cX7_sends 47 = .ok (.aload_n 0, 1) := dk_42 (dk_at dksX7_sends_1 23 rfl rfl)
theorem dX7_sends_48 : decode cX7_sends 48 = .ok (.iload_n 2, 1) := dk_28 (dk_at dksX7_sends_2 0 rfl rfl)
theorem dX7_sends_49 : decode cX7_sends 49 = .ok (.bipush 6, 2) := dk_16 6 (dk_at dksX7_sends_2 1 rfl rfl)
theorem dX7_sends_51 : decode cX7_sends 51 = .ok (.invokevirtual 152, 3) := dk_182 0 152 (dk_at dksX7_sends_2 3 rfl rfl)
theorem dX7_sends_54 : decode cX7_sends 54 = .ok (.iconst 1, 1) := dk_4 (dk_at dksX7_sends_2 6 rfl rfl)
theorem dX7_sends_55 : decode cX7_sends 55 = .ok (.if_icmp .ne 15, 3) := dk_160 0 15 (dk_at dksX7_sends_2 7 rfl rfl)
theorem dX7_sends_58 : decode cX7_sends 58 = .ok (.aload_n 0, 1) := dk_42 (dk_at dksX7_sends_2 10 rfl rfl)
theorem dX7_sends_59 : decode cX7_sends 59 = .ok (.getfield 10, 3) := dk_180 0 10 (dk_at dksX7_sends_2 11 rfl rfl)
theorem dX7_sends_62 : decode cX7_sends 62 = .ok (.bipush 16, 2) := dk_16 16 (dk_at dksX7_sends_2 14 rfl rfl)
theorem dX7_sends_64 : decode cX7_sends 64 = .ok (.dup2, 1) := dk_92 (dk_at dksX7_sends_2 16 rfl rfl)
theorem dX7_sends_65 : decode cX7_sends 65 = .ok (.iaload, 1) := dk_46 (dk_at dksX7_sends_2 17 rfl rfl)
theorem dX7_sends_66 : decode cX7_sends 66 = .ok (.iconst 1, 1) := dk_4 (dk_at dksX7_sends_2 18 rfl rfl)
theorem dX7_sends_67 : decode cX7_sends 67 = .ok (.iadd, 1) := dk_96 (dk_at dksX7_sends_2 19 rfl rfl)
theorem dX7_sends_68 : decode cX7_sends 68 = .ok (.iastore, 1) := dk_79 (dk_at dksX7_sends_2 20 rfl rfl)
theorem dX7_sends_69 : decode cX7_sends 69 = .ok (.return_, 1) := dk_177 (dk_at dksX7_sends_2 21 rfl rfl)
theorem dX7_sends_70 : decode cX7_sends 70 = .ok (.sipush 1136, 3) := dk_17 4 112 (dk_at dksX7_sends_3 0 rfl rfl)
theorem dX7_sends_73 : decode cX7_sends 73 = .ok (.bipush 6, 2) := dk_16 6 (dk_at dksX7_sends_3 3 rfl rfl)
theorem dX7_sends_75 : decode cX7_sends 75 = .ok (.aload_n 0, 1) := dk_42 (dk_at dksX7_sends_3 5 rfl rfl)
theorem dX7_sends_76 : decode cX7_sends 76 = .ok (.getfield 10, 3) := dk_180 0 10 (dk_at dksX7_sends_3 6 rfl rfl)
theorem dX7_sends_79 : decode cX7_sends 79 = .ok (.bipush 20, 2) := dk_16 20 (dk_at dksX7_sends_3 9 rfl rfl)
theorem dX7_sends_81 : decode cX7_sends 81 = .ok (.iaload, 1) := dk_46 (dk_at dksX7_sends_3 11 rfl rfl)
theorem dX7_sends_82 : decode cX7_sends 82 = .ok (.imul, 1) := dk_104 (dk_at dksX7_sends_3 12 rfl rfl)
theorem dX7_sends_83 : decode cX7_sends 83 = .ok (.iadd, 1) := dk_96 (dk_at dksX7_sends_3 13 rfl rfl)
theorem dX7_sends_84 : decode cX7_sends 84 = .ok (.istore 7, 2) := dk_54 7 (dk_at dksX7_sends_3 14 rfl rfl)
theorem dX7_sends_86 : decode cX7_sends 86 = .ok (.aload_n 0, 1) := dk_42 (dk_at dksX7_sends_3 16 rfl rfl)
theorem dX7_sends_87 : decode cX7_sends 87 = .ok (.getfield 10, 3) := dk_180 0 10 (dk_at dksX7_sends_3 17 rfl rfl)
theorem dX7_sends_90 : decode cX7_sends 90 = .ok (.iload 7, 2) := dk_21 7 (dk_at dksX7_sends_3 20 rfl rfl)
theorem dX7_sends_92 : decode cX7_sends 92 = .ok (.iload_n 1, 1) := dk_27 (dk_at dksX7_sends_3 22 rfl rfl)
theorem dX7_sends_93 : decode cX7_sends 93 = .ok (.iastore, 1) := dk_79 (dk_at dksX7_sends_3 23 rfl rfl)
theorem dX7_sends_94 : decode cX7_sends 94 = .ok (.aload_n 0, 1) := dk_42 (dk_at dksX7_sends_4 0 rfl rfl)
theorem dX7_sends_95 : decode cX7_sends 95 = .ok (.getfield 10, 3) := dk_180 0 10 (dk_at dksX7_sends_4 1 rfl rfl)
theorem dX7_sends_98 : decode cX7_sends 98 = .ok (.iload 7, 2) := dk_21 7 (dk_at dksX7_sends_4 4 rfl rfl)
theorem dX7_sends_100 : decode cX7_sends 100 = .ok (.iconst 1, 1) := dk_4 (dk_at dksX7_sends_4 6 rfl rfl)
theorem dX7_sends_101 : decode cX7_sends 101 = .ok (.iadd, 1) := dk_96 (dk_at dksX7_sends_4 7 rfl rfl)
theorem dX7_sends_102 : decode cX7_sends 102 = .ok (.iload_n 2, 1) := dk_28 (dk_at dksX7_sends_4 8 rfl rfl)
theorem dX7_sends_103 : decode cX7_sends 103 = .ok (.iastore, 1) := dk_79 (dk_at dksX7_sends_4 9 rfl rfl)
theorem dX7_sends_104 : decode cX7_sends 104 = .ok (.aload_n 0, 1) := dk_42 (dk_at dksX7_sends_4 10 rfl rfl)
theorem dX7_sends_105 : decode cX7_sends 105 = .ok (.getfield 10, 3) := dk_180 0 10 (dk_at dksX7_sends_4 11 rfl rfl)
theorem dX7_sends_108 : decode cX7_sends 108 = .ok (.iload 7, 2) := dk_21 7 (dk_at dksX7_sends_4 14 rfl rfl)
theorem dX7_sends_110 : decode cX7_sends 110 = .ok (.iconst 2, 1) := dk_5 (dk_at dksX7_sends_4 16 rfl rfl)
theorem dX7_sends_111 : decode cX7_sends 111 = .ok (.iadd, 1) := dk_96 (dk_at dksX7_sends_4 17 rfl rfl)
theorem dX7_sends_112 : decode cX7_sends 112 = .ok (.aload_n 0, 1) := dk_42 (dk_at dksX7_sends_4 18 rfl rfl)
theorem dX7_sends_113 : decode cX7_sends 113 = .ok (.getfield 10, 3) := dk_180 0 10 (dk_at dksX7_sends_4 19 rfl rfl)
theorem dX7_sends_116 : decode cX7_sends 116 = .ok (.iconst 0, 1) := dk_3 (dk_at dksX7_sends_4 22 rfl rfl)
theorem dX7_sends_117 : decode cX7_sends 117 = .ok (.iaload, 1) := dk_46 (dk_at dksX7_sends_4 23 rfl rfl)
theorem dX7_sends_118 : decode cX7_sends 118 = .ok (.aload_n 0, 1) := dk_42 (dk_at dksX7_sends_5 0 rfl rfl)
theorem dX7_sends_119 : decode cX7_sends 119 = .ok (.iload_n 2, 1) := dk_28 (dk_at dksX7_sends_5 1 rfl rfl)
theorem dX7_sends_120 : decode cX7_sends 120 = .ok (.iconst 2, 1) := dk_5 (dk_at dksX7_sends_5 2 rfl rfl)
theorem dX7_sends_121 : decode cX7_sends 121 = .ok (.invokevirtual 152, 3) := dk_182 0 152 (dk_at dksX7_sends_5 3 rfl rfl)
theorem dX7_sends_124 : decode cX7_sends 124 = .ok (.iadd, 1) := dk_96 (dk_at dksX7_sends_5 6 rfl rfl)
theorem dX7_sends_125 : decode cX7_sends 125 = .ok (.iload 6, 2) := dk_21 6 (dk_at dksX7_sends_5 7 rfl rfl)
theorem dX7_sends_127 : decode cX7_sends 127 = .ok (.iadd, 1) := dk_96 (dk_at dksX7_sends_5 9 rfl rfl)
theorem dX7_sends_128 : decode cX7_sends 128 = .ok (.iastore, 1) := dk_79 (dk_at dksX7_sends_5 10 rfl rfl)
theorem dX7_sends_129 : decode cX7_sends 129 = .ok (.aload_n 0, 1) := dk_42 (dk_at dksX7_sends_5 11 rfl rfl)
theorem dX7_sends_130 : decode cX7_sends 130 = .ok (.getfield 10, 3) := dk_180 0 10 (dk_at dksX7_sends_5 12 rfl rfl)
theorem dX7_sends_133 : decode cX7_sends 133 = .ok (.iload 7, 2) := dk_21 7 (dk_at dksX7_sends_5 15 rfl rfl)
theorem dX7_sends_135 : decode cX7_sends 135 = .ok (.iconst 3, 1) := dk_6 (dk_at dksX7_sends_5 17 rfl rfl)
theorem dX7_sends_136 : decode cX7_sends 136 = .ok (.iadd, 1) := dk_96 (dk_at dksX7_sends_5 18 rfl rfl)
theorem dX7_sends_137 : decode cX7_sends 137 = .ok (.iload_n 3, 1) := dk_29 (dk_at dksX7_sends_5 19 rfl rfl)
theorem dX7_sends_138 : decode cX7_sends 138 = .ok (.iastore, 1) := dk_79 (dk_at dksX7_sends_5 20 rfl rfl)
theorem dX7_sends_139 : decode cX7_sends 139 = .ok (.aload_n 0, 1) := dk_42 (dk_at dksX7_sends_5 21 rfl rfl)
theorem dX7_sends_140 : decode cX7_sends 140 = .ok (.getfield 10, 3) := dk_180 0 10 (dk_at dksX7_sends_6 0 rfl rfl)
theorem dX7_sends_143 : decode cX7_sends 143 = .ok (.iload 7, 2) := dk_21 7 (dk_at dksX7_sends_6 3 rfl rfl)
theorem dX7_sends_145 : decode cX7_sends 145 = .ok (.iconst 4, 1) := dk_7 (dk_at dksX7_sends_6 5 rfl rfl)
theorem dX7_sends_146 : decode cX7_sends 146 = .ok (.iadd, 1) := dk_96 (dk_at dksX7_sends_6 6 rfl rfl)
theorem dX7_sends_147 : decode cX7_sends 147 = .ok (.iload 4, 2) := dk_21 4 (dk_at dksX7_sends_6 7 rfl rfl)
theorem dX7_sends_149 : decode cX7_sends 149 = .ok (.iastore, 1) := dk_79 (dk_at dksX7_sends_6 9 rfl rfl)
theorem dX7_sends_150 : decode cX7_sends 150 = .ok (.aload_n 0, 1) := dk_42 (dk_at dksX7_sends_6 10 rfl rfl)
theorem dX7_sends_151 : decode cX7_sends 151 = .ok (.getfield 10, 3) := dk_180 0 10 (dk_at dksX7_sends_6 11 rfl rfl)
theorem dX7_sends_154 : decode cX7_sends 154 = .ok (.iload 7, 2) := dk_21 7 (dk_at dksX7_sends_6 14 rfl rfl)
theorem dX7_sends_156 : decode cX7_sends 156 = .ok (.iconst 5, 1) := dk_8 (dk_at dksX7_sends_6 16 rfl rfl)
theorem dX7_sends_157 : decode cX7_sends 157 = .ok (.iadd, 1) := dk_96 (dk_at dksX7_sends_6 17 rfl rfl)
theorem dX7_sends_158 : decode cX7_sends 158 = .ok (.iload 5, 2) := dk_21 5 (dk_at dksX7_sends_6 18 rfl rfl)
theorem dX7_sends_160 : decode cX7_sends 160 = .ok (.iastore, 1) := dk_79 (dk_at dksX7_sends_6 20 rfl rfl)
theorem dX7_sends_161 : decode cX7_sends 161 = .ok (.aload_n 0, 1) := dk_42 (dk_at dksX7_sends_6 21 rfl rfl)
theorem dX7_sends_162 : decode cX7_sends 162 = .ok (.getfield 10, 3) := dk_180 0 10 (dk_at dksX7_sends_7 0 rfl rfl)
theorem dX7_sends_165 : decode cX7_sends 165 = .ok (.bipush 20, 2) := dk_16 20 (dk_at dksX7_sends_7 3 rfl rfl)
theorem dX7_sends_167 : decode cX7_sends 167 = .ok (.dup2, 1) := dk_92 (dk_at dksX7_sends_7 5 rfl rfl)
theorem dX7_sends_168 : decode cX7_sends 168 = .ok (.iaload, 1) := dk_46 (dk_at dksX7_sends_7 6 rfl rfl)
theorem dX7_sends_169 : decode cX7_sends 169 = .ok (.iconst 1, 1) := dk_4 (dk_at dksX7_sends_7 7 rfl rfl)
theorem dX7_sends_170 : decode cX7_sends 170 = .ok (.iadd, 1) := dk_96 (dk_at dksX7_sends_7 8 rfl rfl)
theorem dX7_sends_171 : decode cX7_sends 171 = .ok (.iastore, 1) := dk_79 (dk_at dksX7_sends_7 9 rfl rfl)
theorem dX7_sends_172 : decode cX7_sends 172 = .ok (.return_, 1) := dk_177 (dk_at dksX7_sends_7 10 rfl rfl)
abbrev cX7_released : ByteArray := prog_22_method_40_code
def yX7_released : MethodName := ⟨RX7, "released", "(II)V"⟩
def dkwX7_released_1 : List UInt8 := [42, 180, 0, 10, 16, 10, 16, 252, 79, 42, 7, 27, 28, 182, 0, 219, 177]
abbrev dktX7_released_1 : List UInt8 := dkwX7_released_1 ++ []
def dkwX7_released_0 : List UInt8 := [28, 42, 180, 0, 10, 16, 12, 46, 160, 0, 15, 42, 180, 0, 10, 16, 10, 46, 16, 252, 160, 0, 4, 177]
abbrev dktX7_released_0 : List UInt8 := dkwX7_released_0 ++ dktX7_released_1
theorem dksX7_released_0 : cX7_released.data.toList.drop 0 = dktX7_released_0 := by decide +kernel
theorem dksX7_released_1 : cX7_released.data.toList.drop 24 = dktX7_released_1 := dk_seg dksX7_released_0 24 rfl rfl
theorem dX7_released_0 : decode cX7_released 0 = .ok (.iload_n 2, 1) := dk_28 (dk_at dksX7_released_0 0 rfl rfl)
theorem dX7_released_1 : decode cX7_released 1 = .ok (.aload_n 0, 1) := dk_42 (dk_at dksX7_released_0 1 rfl rfl)
theorem dX7_released_2 : decode cX7_released 2 = .ok (.getfield 10, 3) := dk_180 0 10 (dk_at dksX7_released_0 2 rfl rfl)
theorem dX7_released_5 : decode cX7_released 5 = .ok (.bipush 12, 2) := dk_16 12 (dk_at dksX7_released_0 5 rfl rfl)
theorem dX7_released_7 : decode cX7_released 7 = .ok (.iaload, 1) := dk_46 (dk_at dksX7_released_0 7 rfl rfl)
theorem dX7_released_8 : decode cX7_released 8 = .ok (.if_icmp .ne 15, 3) := dk_160 0 15 (dk_at dksX7_released_0 8 rfl rfl)
theorem dX7_released_11 : decode cX7_released 11 = .ok (.aload_n 0, 1) := dk_42 (dk_at dksX7_released_0 11 rfl rfl)
theorem dX7_released_12 : decode cX7_released 12 = .ok (.getfield 10, 3) := dk_180 0 10 (dk_at dksX7_released_0 12 rfl rfl)
theorem dX7_released_15 : decode cX7_released 15 = .ok (.bipush 10, 2) := dk_16 10 (dk_at dksX7_released_0 15 rfl rfl)
theorem dX7_released_17 : decode cX7_released 17 = .ok (.iaload, 1) := dk_46 (dk_at dksX7_released_0 17 rfl rfl)
theorem dX7_released_18 : decode cX7_released 18 = .ok (.bipush (-4), 2) := dk_16 252 (dk_at dksX7_released_0 18 rfl rfl)
theorem dX7_released_20 : decode cX7_released 20 = .ok (.if_icmp .ne 4, 3) := dk_160 0 4 (dk_at dksX7_released_0 20 rfl rfl)
theorem dX7_released_23 : decode cX7_released 23 = .ok (.return_, 1) := dk_177 (dk_at dksX7_released_0 23 rfl rfl)
theorem dX7_released_24 : decode cX7_released 24 = .ok (.aload_n 0, 1) := dk_42 (dk_at dksX7_released_1 0 rfl rfl)
theorem dX7_released_25 : decode cX7_released 25 = .ok (.getfield 10, 3) := dk_180 0 10 (dk_at dksX7_released_1 1 rfl rfl)
theorem dX7_released_28 : decode cX7_released 28 = .ok (.bipush 10, 2) := dk_16 10 (dk_at dksX7_released_1 4 rfl rfl)
theorem dX7_released_30 : decode cX7_released 30 = .ok (.bipush (-4), 2) := dk_16 252 (dk_at dksX7_released_1 6 rfl rfl)
theorem dX7_released_32 : decode cX7_released 32 = .ok (.iastore, 1) := dk_79 (dk_at dksX7_released_1 8 rfl rfl)
theorem dX7_released_33 : decode cX7_released 33 = .ok (.aload_n 0, 1) := dk_42 (dk_at dksX7_released_1 9 rfl rfl)
theorem dX7_released_34 : decode cX7_released 34 = .ok (.iconst 4, 1) := dk_7 (dk_at dksX7_released_1 10 rfl rfl)
theorem dX7_released_35 : decode cX7_released 35 = .ok (.iload_n 1, 1) := dk_27 (dk_at dksX7_released_1 11 rfl rfl)
theorem dX7_released_36 : decode cX7_released 36 = .ok (.iload_n 2, 1) := dk_28 (dk_at dksX7_released_1 12 rfl rfl)
theorem dX7_released_37 : decode cX7_released 37 = .ok (.invokevirtual 219, 3) := dk_182 0 219 (dk_at dksX7_released_1 13 rfl rfl)
theorem dX7_released_40 : decode cX7_released 40 = .ok (.return_, 1) := dk_177 (dk_at dksX7_released_1 16 rfl rfl)
abbrev cX7_written : ByteArray := prog_22_method_43_code
def yX7_written : MethodName := ⟨RX7, "written", "(IIII)V"⟩
def dkwX7_written_2 : List UInt8 := [27, 28, 29, 21, 4, 182, 0, 189, 177]
abbrev dktX7_written_2 : List UInt8 := dkwX7_written_2 ++ []
def dkwX7_written_1 : List UInt8 := [180, 0, 10, 17, 0, 168, 29, 96, 92, 46, 4, 96, 79, 42, 16, 6, 27, 28, 182, 0, 219, 42, 16, 7]
abbrev dktX7_written_1 : List UInt8 := dkwX7_written_1 ++ dktX7_written_2
def dkwX7_written_0 : List UInt8 := [42, 27, 28, 182, 0, 222, 153, 0, 4, 177, 42, 180, 0, 10, 17, 0, 160, 29, 96, 21, 4, 79, 42]
abbrev dktX7_written_0 : List UInt8 := dkwX7_written_0 ++ dktX7_written_1
theorem dksX7_written_0 : cX7_written.data.toList.drop 0 = dktX7_written_0 := by decide +kernel
theorem dksX7_written_1 : cX7_written.data.toList.drop 23 = dktX7_written_1 := dk_seg dksX7_written_0 23 rfl rfl
theorem dksX7_written_2 : cX7_written.data.toList.drop 47 = dktX7_written_2 := dk_seg dksX7_written_1 24 rfl rfl
theorem dX7_written_0 : decode cX7_written 0 = .ok (.aload_n 0, 1) := dk_42 (dk_at dksX7_written_0 0 rfl rfl)
theorem dX7_written_1 : decode cX7_written 1 = .ok (.iload_n 1, 1) := dk_27 (dk_at dksX7_written_0 1 rfl rfl)
theorem dX7_written_2 : decode cX7_written 2 = .ok (.iload_n 2, 1) := dk_28 (dk_at dksX7_written_0 2 rfl rfl)
theorem dX7_written_3 : decode cX7_written 3 = .ok (.invokevirtual 222, 3) := dk_182 0 222 (dk_at dksX7_written_0 3 rfl rfl)
theorem dX7_written_6 : decode cX7_written 6 = .ok (.ifCond .eq 4, 3) := dk_153 0 4 (dk_at dksX7_written_0 6 rfl rfl)
theorem dX7_written_9 : decode cX7_written 9 = .ok (.return_, 1) := dk_177 (dk_at dksX7_written_0 9 rfl rfl)
theorem dX7_written_10 : decode cX7_written 10 = .ok (.aload_n 0, 1) := dk_42 (dk_at dksX7_written_0 10 rfl rfl)
theorem dX7_written_11 : decode cX7_written 11 = .ok (.getfield 10, 3) := dk_180 0 10 (dk_at dksX7_written_0 11 rfl rfl)
theorem dX7_written_14 : decode cX7_written 14 = .ok (.sipush 160, 3) := dk_17 0 160 (dk_at dksX7_written_0 14 rfl rfl)
theorem dX7_written_17 : decode cX7_written 17 = .ok (.iload_n 3, 1) := dk_29 (dk_at dksX7_written_0 17 rfl rfl)
theorem dX7_written_18 : decode cX7_written 18 = .ok (.iadd, 1) := dk_96 (dk_at dksX7_written_0 18 rfl rfl)
theorem dX7_written_19 : decode cX7_written 19 = .ok (.iload 4, 2) := dk_21 4 (dk_at dksX7_written_0 19 rfl rfl)
theorem dX7_written_21 : decode cX7_written 21 = .ok (.iastore, 1) := dk_79 (dk_at dksX7_written_0 21 rfl rfl)
theorem dX7_written_22 : decode cX7_written 22 = .ok (.aload_n 0, 1) := dk_42 (dk_at dksX7_written_0 22 rfl rfl)
theorem dX7_written_23 : decode cX7_written 23 = .ok (.getfield 10, 3) := dk_180 0 10 (dk_at dksX7_written_1 0 rfl rfl)
theorem dX7_written_26 : decode cX7_written 26 = .ok (.sipush 168, 3) := dk_17 0 168 (dk_at dksX7_written_1 3 rfl rfl)
theorem dX7_written_29 : decode cX7_written 29 = .ok (.iload_n 3, 1) := dk_29 (dk_at dksX7_written_1 6 rfl rfl)
theorem dX7_written_30 : decode cX7_written 30 = .ok (.iadd, 1) := dk_96 (dk_at dksX7_written_1 7 rfl rfl)
theorem dX7_written_31 : decode cX7_written 31 = .ok (.dup2, 1) := dk_92 (dk_at dksX7_written_1 8 rfl rfl)
theorem dX7_written_32 : decode cX7_written 32 = .ok (.iaload, 1) := dk_46 (dk_at dksX7_written_1 9 rfl rfl)
theorem dX7_written_33 : decode cX7_written 33 = .ok (.iconst 1, 1) := dk_4 (dk_at dksX7_written_1 10 rfl rfl)
theorem dX7_written_34 : decode cX7_written 34 = .ok (.iadd, 1) := dk_96 (dk_at dksX7_written_1 11 rfl rfl)
theorem dX7_written_35 : decode cX7_written 35 = .ok (.iastore, 1) := dk_79 (dk_at dksX7_written_1 12 rfl rfl)
theorem dX7_written_36 : decode cX7_written 36 = .ok (.aload_n 0, 1) := dk_42 (dk_at dksX7_written_1 13 rfl rfl)
theorem dX7_written_37 : decode cX7_written 37 = .ok (.bipush 6, 2) := dk_16 6 (dk_at dksX7_written_1 14 rfl rfl)
theorem dX7_written_39 : decode cX7_written 39 = .ok (.iload_n 1, 1) := dk_27 (dk_at dksX7_written_1 16 rfl rfl)
theorem dX7_written_40 : decode cX7_written 40 = .ok (.iload_n 2, 1) := dk_28 (dk_at dksX7_written_1 17 rfl rfl)
theorem dX7_written_41 : decode cX7_written 41 = .ok (.invokevirtual 219, 3) := dk_182 0 219 (dk_at dksX7_written_1 18 rfl rfl)
theorem dX7_written_44 : decode cX7_written 44 = .ok (.aload_n 0, 1) := dk_42 (dk_at dksX7_written_1 21 rfl rfl)
theorem dX7_written_45 : decode cX7_written 45 = .ok (.bipush 7, 2) := dk_16 7 (dk_at dksX7_written_1 22 rfl rfl)
theorem dX7_written_47 : decode cX7_written 47 = .ok (.iload_n 1, 1) := dk_27 (dk_at dksX7_written_2 0 rfl rfl)
theorem dX7_written_48 : decode cX7_written 48 = .ok (.iload_n 2, 1) := dk_28 (dk_at dksX7_written_2 1 rfl rfl)
theorem dX7_written_49 : decode cX7_written 49 = .ok (.iload_n 3, 1) := dk_29 (dk_at dksX7_written_2 2 rfl rfl)
theorem dX7_written_50 : decode cX7_written 50 = .ok (.iload 4, 2) := dk_21 4 (dk_at dksX7_written_2 3 rfl rfl)
theorem dX7_written_52 : decode cX7_written 52 = .ok (.invokevirtual 189, 3) := dk_182 0 189 (dk_at dksX7_written_2 5 rfl rfl)
theorem dX7_written_55 : decode cX7_written 55 = .ok (.return_, 1) := dk_177 (dk_at dksX7_written_2 8 rfl rfl)
abbrev cX7_fences : ByteArray := prog_22_method_42_code
def yX7_fences : MethodName := ⟨RX7, "fences", "(II)Z"⟩
def dkwX7_fences_1 : List UInt8 := [28, 182, 0, 219, 42, 16, 9, 27, 28, 3, 3, 182, 0, 189, 4, 172]
abbrev dktX7_fences_1 : List UInt8 := dkwX7_fences_1 ++ []
def dkwX7_fences_0 : List UInt8 := [28, 42, 180, 0, 10, 16, 14, 46, 161, 0, 13, 42, 180, 0, 10, 16, 14, 28, 79, 3, 172, 42, 8, 27]
abbrev dktX7_fences_0 : List UInt8 := dkwX7_fences_0 ++ dktX7_fences_1
theorem dksX7_fences_0 : cX7_fences.data.toList.drop 0 = dktX7_fences_0 := by decide +kernel
theorem dksX7_fences_1 : cX7_fences.data.toList.drop 24 = dktX7_fences_1 := dk_seg dksX7_fences_0 24 rfl rfl
theorem dX7_fences_0 : decode cX7_fences 0 = .ok (.iload_n 2, 1) := dk_28 (dk_at dksX7_fences_0 0 rfl rfl)
theorem dX7_fences_1 : decode cX7_fences 1 = .ok (.aload_n 0, 1) := dk_42 (dk_at dksX7_fences_0 1 rfl rfl)
theorem dX7_fences_2 : decode cX7_fences 2 = .ok (.getfield 10, 3) := dk_180 0 10 (dk_at dksX7_fences_0 2 rfl rfl)
theorem dX7_fences_5 : decode cX7_fences 5 = .ok (.bipush 14, 2) := dk_16 14 (dk_at dksX7_fences_0 5 rfl rfl)
theorem dX7_fences_7 : decode cX7_fences 7 = .ok (.iaload, 1) := dk_46 (dk_at dksX7_fences_0 7 rfl rfl)
theorem dX7_fences_8 : decode cX7_fences 8 = .ok (.if_icmp .lt 13, 3) := dk_161 0 13 (dk_at dksX7_fences_0 8 rfl rfl)
theorem dX7_fences_11 : decode cX7_fences 11 = .ok (.aload_n 0, 1) := dk_42 (dk_at dksX7_fences_0 11 rfl rfl)
theorem dX7_fences_12 : decode cX7_fences 12 = .ok (.getfield 10, 3) := dk_180 0 10 (dk_at dksX7_fences_0 12 rfl rfl)
theorem dX7_fences_15 : decode cX7_fences 15 = .ok (.bipush 14, 2) := dk_16 14 (dk_at dksX7_fences_0 15 rfl rfl)
theorem dX7_fences_17 : decode cX7_fences 17 = .ok (.iload_n 2, 1) := dk_28 (dk_at dksX7_fences_0 17 rfl rfl)
theorem dX7_fences_18 : decode cX7_fences 18 = .ok (.iastore, 1) := dk_79 (dk_at dksX7_fences_0 18 rfl rfl)
theorem dX7_fences_19 : decode cX7_fences 19 = .ok (.iconst 0, 1) := dk_3 (dk_at dksX7_fences_0 19 rfl rfl)
theorem dX7_fences_20 : decode cX7_fences 20 = .ok (.ireturn, 1) := dk_172 (dk_at dksX7_fences_0 20 rfl rfl)
theorem dX7_fences_21 : decode cX7_fences 21 = .ok (.aload_n 0, 1) := dk_42 (dk_at dksX7_fences_0 21 rfl rfl)
theorem dX7_fences_22 : decode cX7_fences 22 = .ok (.iconst 5, 1) := dk_8 (dk_at dksX7_fences_0 22 rfl rfl)
theorem dX7_fences_23 : decode cX7_fences 23 = .ok (.iload_n 1, 1) := dk_27 (dk_at dksX7_fences_0 23 rfl rfl)
theorem dX7_fences_24 : decode cX7_fences 24 = .ok (.iload_n 2, 1) := dk_28 (dk_at dksX7_fences_1 0 rfl rfl)
theorem dX7_fences_25 : decode cX7_fences 25 = .ok (.invokevirtual 219, 3) := dk_182 0 219 (dk_at dksX7_fences_1 1 rfl rfl)
theorem dX7_fences_28 : decode cX7_fences 28 = .ok (.aload_n 0, 1) := dk_42 (dk_at dksX7_fences_1 4 rfl rfl)
theorem dX7_fences_29 : decode cX7_fences 29 = .ok (.bipush 9, 2) := dk_16 9 (dk_at dksX7_fences_1 5 rfl rfl)
theorem dX7_fences_31 : decode cX7_fences 31 = .ok (.iload_n 1, 1) := dk_27 (dk_at dksX7_fences_1 7 rfl rfl)
theorem dX7_fences_32 : decode cX7_fences 32 = .ok (.iload_n 2, 1) := dk_28 (dk_at dksX7_fences_1 8 rfl rfl)
theorem dX7_fences_33 : decode cX7_fences 33 = .ok (.iconst 0, 1) := dk_3 (dk_at dksX7_fences_1 9 rfl rfl)
theorem dX7_fences_34 : decode cX7_fences 34 = .ok (.iconst 0, 1) := dk_3 (dk_at dksX7_fences_1 10 rfl rfl)
theorem dX7_fences_35 : decode cX7_fences 35 = .ok (.invokevirtual 189, 3) := dk_182 0 189 (dk_at dksX7_fences_1 11 rfl rfl)
theorem dX7_fences_38 : decode cX7_fences 38 = .ok (.iconst 1, 1) := dk_4 (dk_at dksX7_fences_1 14 rfl rfl)
theorem dX7_fences_39 : decode cX7_fences 39 = .ok (.ireturn, 1) := dk_172 (dk_at dksX7_fences_1 15 rfl rfl)
abbrev cX7_fetched : ByteArray := prog_22_method_44_code
def yX7_fetched : MethodName := ⟨RX7, "fetched", "(III)V"⟩
def dkwX7_fetched_1 : List UInt8 := [46, 182, 0, 189, 177]
abbrev dktX7_fetched_1 : List UInt8 := dkwX7_fetched_1 ++ []
def dkwX7_fetched_0 : List UInt8 := [42, 27, 28, 182, 0, 222, 154, 0, 22, 42, 16, 8, 27, 28, 29, 42, 180, 0, 10, 17, 0, 160, 29, 96]
abbrev dktX7_fetched_0 : List UInt8 := dkwX7_fetched_0 ++ dktX7_fetched_1
theorem dksX7_fetched_0 : cX7_fetched.data.toList.drop 0 = dktX7_fetched_0 := by decide +kernel
theorem dksX7_fetched_1 : cX7_fetched.data.toList.drop 24 = dktX7_fetched_1 := dk_seg dksX7_fetched_0 24 rfl rfl
theorem dX7_fetched_0 : decode cX7_fetched 0 = .ok (.aload_n 0, 1) := dk_42 (dk_at dksX7_fetched_0 0 rfl rfl)
theorem dX7_fetched_1 : decode cX7_fetched 1 = .ok (.iload_n 1, 1) := dk_27 (dk_at dksX7_fetched_0 1 rfl rfl)
theorem dX7_fetched_2 : decode cX7_fetched 2 = .ok (.iload_n 2, 1) := dk_28 (dk_at dksX7_fetched_0 2 rfl rfl)
theorem dX7_fetched_3 : decode cX7_fetched 3 = .ok (.invokevirtual 222, 3) := dk_182 0 222 (dk_at dksX7_fetched_0 3 rfl rfl)
theorem dX7_fetched_6 : decode cX7_fetched 6 = .ok (.ifCond .ne 22, 3) := dk_154 0 22 (dk_at dksX7_fetched_0 6 rfl rfl)
theorem dX7_fetched_9 : decode cX7_fetched 9 = .ok (.aload_n 0, 1) := dk_42 (dk_at dksX7_fetched_0 9 rfl rfl)
theorem dX7_fetched_10 : decode cX7_fetched 10 = .ok (.bipush 8, 2) := dk_16 8 (dk_at dksX7_fetched_0 10 rfl rfl)
theorem dX7_fetched_12 : decode cX7_fetched 12 = .ok (.iload_n 1, 1) := dk_27 (dk_at dksX7_fetched_0 12 rfl rfl)
theorem dX7_fetched_13 : decode cX7_fetched 13 = .ok (.iload_n 2, 1) := dk_28 (dk_at dksX7_fetched_0 13 rfl rfl)
theorem dX7_fetched_14 : decode cX7_fetched 14 = .ok (.iload_n 3, 1) := dk_29 (dk_at dksX7_fetched_0 14 rfl rfl)
theorem dX7_fetched_15 : decode cX7_fetched 15 = .ok (.aload_n 0, 1) := dk_42 (dk_at dksX7_fetched_0 15 rfl rfl)
theorem dX7_fetched_16 : decode cX7_fetched 16 = .ok (.getfield 10, 3) := dk_180 0 10 (dk_at dksX7_fetched_0 16 rfl rfl)
theorem dX7_fetched_19 : decode cX7_fetched 19 = .ok (.sipush 160, 3) := dk_17 0 160 (dk_at dksX7_fetched_0 19 rfl rfl)
theorem dX7_fetched_22 : decode cX7_fetched 22 = .ok (.iload_n 3, 1) := dk_29 (dk_at dksX7_fetched_0 22 rfl rfl)
theorem dX7_fetched_23 : decode cX7_fetched 23 = .ok (.iadd, 1) := dk_96 (dk_at dksX7_fetched_0 23 rfl rfl)
theorem dX7_fetched_24 : decode cX7_fetched 24 = .ok (.iaload, 1) := dk_46 (dk_at dksX7_fetched_1 0 rfl rfl)
theorem dX7_fetched_25 : decode cX7_fetched 25 = .ok (.invokevirtual 189, 3) := dk_182 0 189 (dk_at dksX7_fetched_1 1 rfl rfl)
theorem dX7_fetched_28 : decode cX7_fetched 28 = .ok (.return_, 1) := dk_177 (dk_at dksX7_fetched_1 4 rfl rfl)
abbrev cX7_granted : ByteArray := prog_22_method_41_code
def yX7_granted : MethodName := ⟨RX7, "granted", "(III)V"⟩
def dkwX7_granted_6 : List UInt8 := [182, 0, 193, 177]
abbrev dktX7_granted_6 : List UInt8 := dkwX7_granted_6 ++ []
def dkwX7_granted_5 : List UInt8 := [21, 4, 182, 0, 169, 42, 27, 16, 7, 28, 182, 0, 169, 42, 27, 29, 42, 180, 0, 10, 16, 7, 46, 96]
abbrev dktX7_granted_5 : List UInt8 := dkwX7_granted_5 ++ dktX7_granted_6
def dkwX7_granted_4 : List UInt8 := [182, 0, 169, 21, 5, 154, 0, 15, 21, 4, 42, 27, 16, 8, 182, 0, 152, 164, 0, 12, 42, 27, 16, 8]
abbrev dktX7_granted_4 : List UInt8 := dkwX7_granted_4 ++ dktX7_granted_5
def dkwX7_granted_3 : List UInt8 := [182, 0, 152, 164, 0, 7, 4, 167, 0, 4, 3, 54, 5, 21, 5, 153, 0, 11, 42, 27, 16, 11, 3]
abbrev dktX7_granted_3 : List UInt8 := dkwX7_granted_3 ++ dktX7_granted_4
def dkwX7_granted_2 : List UInt8 := [100, 104, 17, 3, 232, 42, 180, 0, 10, 16, 6, 46, 96, 108, 96, 54, 4, 28, 42, 27, 16, 7]
abbrev dktX7_granted_2 : List UInt8 := dkwX7_granted_2 ++ dktX7_granted_3
def dkwX7_granted_1 : List UInt8 := [182, 0, 152, 162, 0, 4, 177, 29, 42, 180, 0, 10, 8, 46, 17, 3, 232, 42, 180, 0, 10, 16, 6, 46]
abbrev dktX7_granted_1 : List UInt8 := dkwX7_granted_1 ++ dktX7_granted_2
def dkwX7_granted_0 : List UInt8 := [42, 27, 8, 182, 0, 152, 154, 0, 13, 42, 5, 27, 28, 3, 3, 182, 0, 189, 177, 28, 42, 27, 16, 7]
abbrev dktX7_granted_0 : List UInt8 := dkwX7_granted_0 ++ dktX7_granted_1
theorem dksX7_granted_0 : cX7_granted.data.toList.drop 0 = dktX7_granted_0 := by decide +kernel
theorem dksX7_granted_1 : cX7_granted.data.toList.drop 24 = dktX7_granted_1 := dk_seg dksX7_granted_0 24 rfl rfl
theorem dksX7_granted_2 : cX7_granted.data.toList.drop 48 = dktX7_granted_2 := dk_seg dksX7_granted_1 24 rfl rfl
theorem dksX7_granted_3 : cX7_granted.data.toList.drop 70 = dktX7_granted_3 := dk_seg dksX7_granted_2 22 rfl rfl
theorem dksX7_granted_4 : cX7_granted.data.toList.drop 93 = dktX7_granted_4 := dk_seg dksX7_granted_3 23 rfl rfl
theorem dksX7_granted_5 : cX7_granted.data.toList.drop 117 = dktX7_granted_5 := dk_seg dksX7_granted_4 24 rfl rfl
theorem dksX7_granted_6 : cX7_granted.data.toList.drop 141 = dktX7_granted_6 := dk_seg dksX7_granted_5 24 rfl rfl
theorem dX7_granted_0 : decode cX7_granted 0 = .ok (.aload_n 0, 1) := dk_42 (dk_at dksX7_granted_0 0 rfl rfl)
theorem dX7_granted_1 : decode cX7_granted 1 = .ok (.iload_n 1, 1) := dk_27 (dk_at dksX7_granted_0 1 rfl rfl)
theorem dX7_granted_2 : decode cX7_granted 2 = .ok (.iconst 5, 1) := dk_8 (dk_at dksX7_granted_0 2 rfl rfl)
theorem dX7_granted_3 : decode cX7_granted 3 = .ok (.invokevirtual 152, 3) := dk_182 0 152 (dk_at dksX7_granted_0 3 rfl rfl)
theorem dX7_granted_6 : decode cX7_granted 6 = .ok (.ifCond .ne 13, 3) := dk_154 0 13 (dk_at dksX7_granted_0 6 rfl rfl)
theorem dX7_granted_9 : decode cX7_granted 9 = .ok (.aload_n 0, 1) := dk_42 (dk_at dksX7_granted_0 9 rfl rfl)
theorem dX7_granted_10 : decode cX7_granted 10 = .ok (.iconst 2, 1) := dk_5 (dk_at dksX7_granted_0 10 rfl rfl)
theorem dX7_granted_11 : decode cX7_granted 11 = .ok (.iload_n 1, 1) := dk_27 (dk_at dksX7_granted_0 11 rfl rfl)
theorem dX7_granted_12 : decode cX7_granted 12 = .ok (.iload_n 2, 1) := dk_28 (dk_at dksX7_granted_0 12 rfl rfl)
theorem dX7_granted_13 : decode cX7_granted 13 = .ok (.iconst 0, 1) := dk_3 (dk_at dksX7_granted_0 13 rfl rfl)
theorem dX7_granted_14 : decode cX7_granted 14 = .ok (.iconst 0, 1) := dk_3 (dk_at dksX7_granted_0 14 rfl rfl)
theorem dX7_granted_15 : decode cX7_granted 15 = .ok (.invokevirtual 189, 3) := dk_182 0 189 (dk_at dksX7_granted_0 15 rfl rfl)
theorem dX7_granted_18 : decode cX7_granted 18 = .ok (.return_, 1) := dk_177 (dk_at dksX7_granted_0 18 rfl rfl)
theorem dX7_granted_19 : decode cX7_granted 19 = .ok (.iload_n 2, 1) := dk_28 (dk_at dksX7_granted_0 19 rfl rfl)
theorem dX7_granted_20 : decode cX7_granted 20 = .ok (.aload_n 0, 1) := dk_42 (dk_at dksX7_granted_0 20 rfl rfl)
theorem dX7_granted_21 : decode cX7_granted 21 = .ok (.iload_n 1, 1) := dk_27 (dk_at dksX7_granted_0 21 rfl rfl)
theorem dX7_granted_22 : decode cX7_granted 22 = .ok (.bipush 7, 2) := dk_16 7 (dk_at dksX7_granted_0 22 rfl rfl)
theorem dX7_granted_24 : decode cX7_granted 24 = .ok (.invokevirtual 152, 3) := dk_182 0 152 (dk_at dksX7_granted_1 0 rfl rfl)
theorem dX7_granted_27 : decode cX7_granted 27 = .ok (.if_icmp .ge 4, 3) := dk_162 0 4 (dk_at dksX7_granted_1 3 rfl rfl)
theorem dX7_granted_30 : decode cX7_granted 30 = .ok (.return_, 1) := dk_177 (dk_at dksX7_granted_1 6 rfl rfl)
theorem dX7_granted_31 : decode cX7_granted 31 = .ok (.iload_n 3, 1) := dk_29 (dk_at dksX7_granted_1 7 rfl rfl)
theorem dX7_granted_32 : decode cX7_granted 32 = .ok (.aload_n 0, 1) := dk_42 (dk_at dksX7_granted_1 8 rfl rfl)
theorem dX7_granted_33 : decode cX7_granted 33 = .ok (.getfield 10, 3) := dk_180 0 10 (dk_at dksX7_granted_1 9 rfl rfl)
theorem dX7_granted_36 : decode cX7_granted 36 = .ok (.iconst 5, 1) := dk_8 (dk_at dksX7_granted_1 12 rfl rfl)
theorem dX7_granted_37 : decode cX7_granted 37 = .ok (.iaload, 1) := dk_46 (dk_at dksX7_granted_1 13 rfl rfl)
theorem dX7_granted_38 : decode cX7_granted 38 = .ok (.sipush 1000, 3) := dk_17 3 232 (dk_at dksX7_granted_1 14 rfl rfl)
theorem dX7_granted_41 : decode cX7_granted 41 = .ok (.aload_n 0, 1) := dk_42 (dk_at dksX7_granted_1 17 rfl rfl)
theorem dX7_granted_42 : decode cX7_granted 42 = .ok (.getfield 10, 3) := dk_180 0 10 (dk_at dksX7_granted_1 18 rfl rfl)
theorem dX7_granted_45 : decode cX7_granted 45 = .ok (.bipush 6, 2) := dk_16 6 (dk_at dksX7_granted_1 21 rfl rfl)
theorem dX7_granted_47 : decode cX7_granted 47 = .ok (.iaload, 1) := dk_46 (dk_at dksX7_granted_1 23 rfl rfl)
theorem dX7_granted_48 : decode cX7_granted 48 = .ok (.isub, 1) := dk_100 (dk_at dksX7_granted_2 0 rfl rfl)
theorem dX7_granted_49 : decode cX7_granted 49 = .ok (.imul, 1) := dk_104 (dk_at dksX7_granted_2 1 rfl rfl)
theorem dX7_granted_50 : decode cX7_granted 50 = .ok (.sipush 1000, 3) := dk_17 3 232 (dk_at dksX7_granted_2 2 rfl rfl)
theorem dX7_granted_53 : decode cX7_granted 53 = .ok (.aload_n 0, 1) := dk_42 (dk_at dksX7_granted_2 5 rfl rfl)
theorem dX7_granted_54 : decode cX7_granted 54 = .ok (.getfield 10, 3) := dk_180 0 10 (dk_at dksX7_granted_2 6 rfl rfl)
theorem dX7_granted_57 : decode cX7_granted 57 = .ok (.bipush 6, 2) := dk_16 6 (dk_at dksX7_granted_2 9 rfl rfl)
theorem dX7_granted_59 : decode cX7_granted 59 = .ok (.iaload, 1) := dk_46 (dk_at dksX7_granted_2 11 rfl rfl)
theorem dX7_granted_60 : decode cX7_granted 60 = .ok (.iadd, 1) := dk_96 (dk_at dksX7_granted_2 12 rfl rfl)
theorem dX7_granted_61 : decode cX7_granted 61 = .ok (.idiv, 1) := dk_108 (dk_at dksX7_granted_2 13 rfl rfl)
theorem dX7_granted_62 : decode cX7_granted 62 = .ok (.iadd, 1) := dk_96 (dk_at dksX7_granted_2 14 rfl rfl)
theorem dX7_granted_63 : decode cX7_granted 63 = .ok (.istore 4, 2) := dk_54 4 (dk_at dksX7_granted_2 15 rfl rfl)
theorem dX7_granted_65 : decode cX7_granted 65 = .ok (.iload_n 2, 1) := dk_28 (dk_at dksX7_granted_2 17 rfl rfl)
theorem dX7_granted_66 : decode cX7_granted 66 = .ok (.aload_n 0, 1) := dk_42 (dk_at dksX7_granted_2 18 rfl rfl)
theorem dX7_granted_67 : decode cX7_granted 67 = .ok (.iload_n 1, 1) := dk_27 (dk_at dksX7_granted_2 19 rfl rfl)
theorem dX7_granted_68 : decode cX7_granted 68 = .ok (.bipush 7, 2) := dk_16 7 (dk_at dksX7_granted_2 20 rfl rfl)
theorem dX7_granted_70 : decode cX7_granted 70 = .ok (.invokevirtual 152, 3) := dk_182 0 152 (dk_at dksX7_granted_3 0 rfl rfl)
theorem dX7_granted_73 : decode cX7_granted 73 = .ok (.if_icmp .le 7, 3) := dk_164 0 7 (dk_at dksX7_granted_3 3 rfl rfl)
theorem dX7_granted_76 : decode cX7_granted 76 = .ok (.iconst 1, 1) := dk_4 (dk_at dksX7_granted_3 6 rfl rfl)
theorem dX7_granted_77 : decode cX7_granted 77 = .ok (.goto 4, 3) := dk_167 0 4 (dk_at dksX7_granted_3 7 rfl rfl)
theorem dX7_granted_80 : decode cX7_granted 80 = .ok (.iconst 0, 1) := dk_3 (dk_at dksX7_granted_3 10 rfl rfl)
theorem dX7_granted_81 : decode cX7_granted 81 = .ok (.istore 5, 2) := dk_54 5 (dk_at dksX7_granted_3 11 rfl rfl)
theorem dX7_granted_83 : decode cX7_granted 83 = .ok (.iload 5, 2) := dk_21 5 (dk_at dksX7_granted_3 13 rfl rfl)
theorem dX7_granted_85 : decode cX7_granted 85 = .ok (.ifCond .eq 11, 3) := dk_153 0 11 (dk_at dksX7_granted_3 15 rfl rfl)
theorem dX7_granted_88 : decode cX7_granted 88 = .ok (.aload_n 0, 1) := dk_42 (dk_at dksX7_granted_3 18 rfl rfl)
theorem dX7_granted_89 : decode cX7_granted 89 = .ok (.iload_n 1, 1) := dk_27 (dk_at dksX7_granted_3 19 rfl rfl)
theorem dX7_granted_90 : decode cX7_granted 90 = .ok (.bipush 11, 2) := dk_16 11 (dk_at dksX7_granted_3 20 rfl rfl)
theorem dX7_granted_92 : decode cX7_granted 92 = .ok (.iconst 0, 1) := dk_3 (dk_at dksX7_granted_3 22 rfl rfl)
theorem dX7_granted_93 : decode cX7_granted 93 = .ok (.invokevirtual 169, 3) := dk_182 0 169 (dk_at dksX7_granted_4 0 rfl rfl)
theorem dX7_granted_96 : decode cX7_granted 96 = .ok (.iload 5, 2) := dk_21 5 (dk_at dksX7_granted_4 3 rfl rfl)
theorem dX7_granted_98 : decode cX7_granted 98 = .ok (.ifCond .ne 15, 3) := dk_154 0 15 (dk_at dksX7_granted_4 5 rfl rfl)
theorem dX7_granted_101 : decode cX7_granted 101 = .ok (.iload 4, 2) := dk_21 4 (dk_at dksX7_granted_4 8 rfl rfl)
theorem dX7_granted_103 : decode cX7_granted 103 = .ok (.aload_n 0, 1) := dk_42 (dk_at dksX7_granted_4 10 rfl rfl)
theorem dX7_granted_104 : decode cX7_granted 104 = .ok (.iload_n 1, 1) := dk_27 (dk_at dksX7_granted_4 11 rfl rfl)
theorem dX7_granted_105 : decode cX7_granted 105 = .ok (.bipush 8, 2) := dk_16 8 (dk_at dksX7_granted_4 12 rfl rfl)
theorem dX7_granted_107 : decode cX7_granted 107 = .ok (.invokevirtual 152, 3) := dk_182 0 152 (dk_at dksX7_granted_4 14 rfl rfl)
theorem dX7_granted_110 : decode cX7_granted 110 = .ok (.if_icmp .le 12, 3) := dk_164 0 12 (dk_at dksX7_granted_4 17 rfl rfl)
theorem dX7_granted_113 : decode cX7_granted 113 = .ok (.aload_n 0, 1) := dk_42 (dk_at dksX7_granted_4 20 rfl rfl)
theorem dX7_granted_114 : decode cX7_granted 114 = .ok (.iload_n 1, 1) := dk_27 (dk_at dksX7_granted_4 21 rfl rfl)
theorem dX7_granted_115 : decode cX7_granted 115 = .ok (.bipush 8, 2) := dk_16 8 (dk_at dksX7_granted_4 22 rfl rfl)
theorem dX7_granted_117 : decode cX7_granted 117 = .ok (.iload 4, 2) := dk_21 4 (dk_at dksX7_granted_5 0 rfl rfl)
theorem dX7_granted_119 : decode cX7_granted 119 = .ok (.invokevirtual 169, 3) := dk_182 0 169 (dk_at dksX7_granted_5 2 rfl rfl)
theorem dX7_granted_122 : decode cX7_granted 122 = .ok (.aload_n 0, 1) := dk_42 (dk_at dksX7_granted_5 5 rfl rfl)
theorem dX7_granted_123 : decode cX7_granted 123 = .ok (.iload_n 1, 1) := dk_27 (dk_at dksX7_granted_5 6 rfl rfl)
theorem dX7_granted_124 : decode cX7_granted 124 = .ok (.bipush 7, 2) := dk_16 7 (dk_at dksX7_granted_5 7 rfl rfl)
theorem dX7_granted_126 : decode cX7_granted 126 = .ok (.iload_n 2, 1) := dk_28 (dk_at dksX7_granted_5 9 rfl rfl)
theorem dX7_granted_127 : decode cX7_granted 127 = .ok (.invokevirtual 169, 3) := dk_182 0 169 (dk_at dksX7_granted_5 10 rfl rfl)
theorem dX7_granted_130 : decode cX7_granted 130 = .ok (.aload_n 0, 1) := dk_42 (dk_at dksX7_granted_5 13 rfl rfl)
theorem dX7_granted_131 : decode cX7_granted 131 = .ok (.iload_n 1, 1) := dk_27 (dk_at dksX7_granted_5 14 rfl rfl)
theorem dX7_granted_132 : decode cX7_granted 132 = .ok (.iload_n 3, 1) := dk_29 (dk_at dksX7_granted_5 15 rfl rfl)
theorem dX7_granted_133 : decode cX7_granted 133 = .ok (.aload_n 0, 1) := dk_42 (dk_at dksX7_granted_5 16 rfl rfl)
theorem dX7_granted_134 : decode cX7_granted 134 = .ok (.getfield 10, 3) := dk_180 0 10 (dk_at dksX7_granted_5 17 rfl rfl)
theorem dX7_granted_137 : decode cX7_granted 137 = .ok (.bipush 7, 2) := dk_16 7 (dk_at dksX7_granted_5 20 rfl rfl)
theorem dX7_granted_139 : decode cX7_granted 139 = .ok (.iaload, 1) := dk_46 (dk_at dksX7_granted_5 22 rfl rfl)
theorem dX7_granted_140 : decode cX7_granted 140 = .ok (.iadd, 1) := dk_96 (dk_at dksX7_granted_5 23 rfl rfl)
theorem dX7_granted_141 : decode cX7_granted 141 = .ok (.invokevirtual 193, 3) := dk_182 0 193 (dk_at dksX7_granted_6 0 rfl rfl)
theorem dX7_granted_144 : decode cX7_granted 144 = .ok (.return_, 1) := dk_177 (dk_at dksX7_granted_6 3 rfl rfl)
abbrev cX7_setsTimer : ByteArray := prog_22_method_28_code
def yX7_setsTimer : MethodName := ⟨RX7, "setsTimer", "(II)V"⟩
def dkwX7_setsTimer_1 : List UInt8 := [28, 184, 0, 159, 184, 0, 166, 182, 0, 169, 177]
abbrev dktX7_setsTimer_1 : List UInt8 := dkwX7_setsTimer_1 ++ []
def dkwX7_setsTimer_0 : List UInt8 := [42, 27, 16, 9, 42, 180, 0, 10, 3, 46, 4, 96, 42, 27, 3, 182, 0, 152, 42, 27, 4, 182, 0, 152]
abbrev dktX7_setsTimer_0 : List UInt8 := dkwX7_setsTimer_0 ++ dktX7_setsTimer_1
theorem dksX7_setsTimer_0 : cX7_setsTimer.data.toList.drop 0 = dktX7_setsTimer_0 := by decide +kernel
theorem dksX7_setsTimer_1 : cX7_setsTimer.data.toList.drop 24 = dktX7_setsTimer_1 := dk_seg dksX7_setsTimer_0 24 rfl rfl
theorem dX7_setsTimer_0 : decode cX7_setsTimer 0 = .ok (.aload_n 0, 1) := dk_42 (dk_at dksX7_setsTimer_0 0 rfl rfl)
theorem dX7_setsTimer_1 : decode cX7_setsTimer 1 = .ok (.iload_n 1, 1) := dk_27 (dk_at dksX7_setsTimer_0 1 rfl rfl)
theorem dX7_setsTimer_2 : decode cX7_setsTimer 2 = .ok (.bipush 9, 2) := dk_16 9 (dk_at dksX7_setsTimer_0 2 rfl rfl)
theorem dX7_setsTimer_4 : decode cX7_setsTimer 4 = .ok (.aload_n 0, 1) := dk_42 (dk_at dksX7_setsTimer_0 4 rfl rfl)
theorem dX7_setsTimer_5 : decode cX7_setsTimer 5 = .ok (.getfield 10, 3) := dk_180 0 10 (dk_at dksX7_setsTimer_0 5 rfl rfl)
theorem dX7_setsTimer_8 : decode cX7_setsTimer 8 = .ok (.iconst 0, 1) := dk_3 (dk_at dksX7_setsTimer_0 8 rfl rfl)
theorem dX7_setsTimer_9 : decode cX7_setsTimer 9 = .ok (.iaload, 1) := dk_46 (dk_at dksX7_setsTimer_0 9 rfl rfl)
theorem dX7_setsTimer_10 : decode cX7_setsTimer 10 = .ok (.iconst 1, 1) := dk_4 (dk_at dksX7_setsTimer_0 10 rfl rfl)
theorem dX7_setsTimer_11 : decode cX7_setsTimer 11 = .ok (.iadd, 1) := dk_96 (dk_at dksX7_setsTimer_0 11 rfl rfl)
theorem dX7_setsTimer_12 : decode cX7_setsTimer 12 = .ok (.aload_n 0, 1) := dk_42 (dk_at dksX7_setsTimer_0 12 rfl rfl)
theorem dX7_setsTimer_13 : decode cX7_setsTimer 13 = .ok (.iload_n 1, 1) := dk_27 (dk_at dksX7_setsTimer_0 13 rfl rfl)
theorem dX7_setsTimer_14 : decode cX7_setsTimer 14 = .ok (.iconst 0, 1) := dk_3 (dk_at dksX7_setsTimer_0 14 rfl rfl)
theorem dX7_setsTimer_15 : decode cX7_setsTimer 15 = .ok (.invokevirtual 152, 3) := dk_182 0 152 (dk_at dksX7_setsTimer_0 15 rfl rfl)
theorem dX7_setsTimer_18 : decode cX7_setsTimer 18 = .ok (.aload_n 0, 1) := dk_42 (dk_at dksX7_setsTimer_0 18 rfl rfl)
theorem dX7_setsTimer_19 : decode cX7_setsTimer 19 = .ok (.iload_n 1, 1) := dk_27 (dk_at dksX7_setsTimer_0 19 rfl rfl)
theorem dX7_setsTimer_20 : decode cX7_setsTimer 20 = .ok (.iconst 1, 1) := dk_4 (dk_at dksX7_setsTimer_0 20 rfl rfl)
theorem dX7_setsTimer_21 : decode cX7_setsTimer 21 = .ok (.invokevirtual 152, 3) := dk_182 0 152 (dk_at dksX7_setsTimer_0 21 rfl rfl)
theorem dX7_setsTimer_24 : decode cX7_setsTimer 24 = .ok (.iload_n 2, 1) := dk_28 (dk_at dksX7_setsTimer_1 0 rfl rfl)
theorem dX7_setsTimer_25 : decode cX7_setsTimer 25 = .ok (.invokestatic 159, 3) := dk_184 0 159 (dk_at dksX7_setsTimer_1 1 rfl rfl)
theorem dX7_setsTimer_28 : decode cX7_setsTimer 28 = .ok (.invokestatic 166, 3) := dk_184 0 166 (dk_at dksX7_setsTimer_1 4 rfl rfl)
theorem dX7_setsTimer_31 : decode cX7_setsTimer 31 = .ok (.invokevirtual 169, 3) := dk_182 0 169 (dk_at dksX7_setsTimer_1 7 rfl rfl)
theorem dX7_setsTimer_34 : decode cX7_setsTimer 34 = .ok (.return_, 1) := dk_177 (dk_at dksX7_setsTimer_1 10 rfl rfl)
abbrev cX7_forgets : ByteArray := prog_22_method_37_code
def yX7_forgets : MethodName := ⟨RX7, "forgets", "(I)V"⟩
def dkwX7_forgets_0 : List UInt8 := [42, 27, 16, 7, 3, 182, 0, 169, 42, 27, 16, 11, 3, 182, 0, 169, 177]
abbrev dktX7_forgets_0 : List UInt8 := dkwX7_forgets_0 ++ []
theorem dksX7_forgets_0 : cX7_forgets.data.toList.drop 0 = dktX7_forgets_0 := by decide +kernel
theorem dX7_forgets_0 : decode cX7_forgets 0 = .ok (.aload_n 0, 1) := dk_42 (dk_at dksX7_forgets_0 0 rfl rfl)
theorem dX7_forgets_1 : decode cX7_forgets 1 = .ok (.iload_n 1, 1) := dk_27 (dk_at dksX7_forgets_0 1 rfl rfl)
theorem dX7_forgets_2 : decode cX7_forgets 2 = .ok (.bipush 7, 2) := dk_16 7 (dk_at dksX7_forgets_0 2 rfl rfl)
theorem dX7_forgets_4 : decode cX7_forgets 4 = .ok (.iconst 0, 1) := dk_3 (dk_at dksX7_forgets_0 4 rfl rfl)
theorem dX7_forgets_5 : decode cX7_forgets 5 = .ok (.invokevirtual 169, 3) := dk_182 0 169 (dk_at dksX7_forgets_0 5 rfl rfl)
theorem dX7_forgets_8 : decode cX7_forgets 8 = .ok (.aload_n 0, 1) := dk_42 (dk_at dksX7_forgets_0 8 rfl rfl)
theorem dX7_forgets_9 : decode cX7_forgets 9 = .ok (.iload_n 1, 1) := dk_27 (dk_at dksX7_forgets_0 9 rfl rfl)
theorem dX7_forgets_10 : decode cX7_forgets 10 = .ok (.bipush 11, 2) := dk_16 11 (dk_at dksX7_forgets_0 10 rfl rfl)
theorem dX7_forgets_12 : decode cX7_forgets 12 = .ok (.iconst 0, 1) := dk_3 (dk_at dksX7_forgets_0 12 rfl rfl)
theorem dX7_forgets_13 : decode cX7_forgets 13 = .ok (.invokevirtual 169, 3) := dk_182 0 169 (dk_at dksX7_forgets_0 13 rfl rfl)
theorem dX7_forgets_16 : decode cX7_forgets 16 = .ok (.return_, 1) := dk_177 (dk_at dksX7_forgets_0 16 rfl rfl)
abbrev cX7_caches : ByteArray := prog_22_method_45_code
def yX7_caches : MethodName := ⟨RX7, "caches", "(IIII)V"⟩
def dkwX7_caches_1 : List UInt8 := [29, 120, 128, 182, 0, 169, 42, 27, 16, 12, 29, 96, 21, 4, 182, 0, 169, 177]
abbrev dktX7_caches_1 : List UInt8 := dkwX7_caches_1 ++ []
def dkwX7_caches_0 : List UInt8 := [42, 27, 16, 7, 182, 0, 152, 28, 159, 0, 4, 177, 42, 27, 16, 11, 42, 27, 16, 11, 182, 0, 152, 4]
abbrev dktX7_caches_0 : List UInt8 := dkwX7_caches_0 ++ dktX7_caches_1
theorem dksX7_caches_0 : cX7_caches.data.toList.drop 0 = dktX7_caches_0 := by decide +kernel
theorem dksX7_caches_1 : cX7_caches.data.toList.drop 24 = dktX7_caches_1 := dk_seg dksX7_caches_0 24 rfl rfl
theorem dX7_caches_0 : decode cX7_caches 0 = .ok (.aload_n 0, 1) := dk_42 (dk_at dksX7_caches_0 0 rfl rfl)
theorem dX7_caches_1 : decode cX7_caches 1 = .ok (.iload_n 1, 1) := dk_27 (dk_at dksX7_caches_0 1 rfl rfl)
theorem dX7_caches_2 : decode cX7_caches 2 = .ok (.bipush 7, 2) := dk_16 7 (dk_at dksX7_caches_0 2 rfl rfl)
theorem dX7_caches_4 : decode cX7_caches 4 = .ok (.invokevirtual 152, 3) := dk_182 0 152 (dk_at dksX7_caches_0 4 rfl rfl)
theorem dX7_caches_7 : decode cX7_caches 7 = .ok (.iload_n 2, 1) := dk_28 (dk_at dksX7_caches_0 7 rfl rfl)
theorem dX7_caches_8 : decode cX7_caches 8 = .ok (.if_icmp .eq 4, 3) := dk_159 0 4 (dk_at dksX7_caches_0 8 rfl rfl)
theorem dX7_caches_11 : decode cX7_caches 11 = .ok (.return_, 1) := dk_177 (dk_at dksX7_caches_0 11 rfl rfl)
theorem dX7_caches_12 : decode cX7_caches 12 = .ok (.aload_n 0, 1) := dk_42 (dk_at dksX7_caches_0 12 rfl rfl)
theorem dX7_caches_13 : decode cX7_caches 13 = .ok (.iload_n 1, 1) := dk_27 (dk_at dksX7_caches_0 13 rfl rfl)
theorem dX7_caches_14 : decode cX7_caches 14 = .ok (.bipush 11, 2) := dk_16 11 (dk_at dksX7_caches_0 14 rfl rfl)
theorem dX7_caches_16 : decode cX7_caches 16 = .ok (.aload_n 0, 1) := dk_42 (dk_at dksX7_caches_0 16 rfl rfl)
theorem dX7_caches_17 : decode cX7_caches 17 = .ok (.iload_n 1, 1) := dk_27 (dk_at dksX7_caches_0 17 rfl rfl)
theorem dX7_caches_18 : decode cX7_caches 18 = .ok (.bipush 11, 2) := dk_16 11 (dk_at dksX7_caches_0 18 rfl rfl)
theorem dX7_caches_20 : decode cX7_caches 20 = .ok (.invokevirtual 152, 3) := dk_182 0 152 (dk_at dksX7_caches_0 20 rfl rfl)
theorem dX7_caches_23 : decode cX7_caches 23 = .ok (.iconst 1, 1) := dk_4 (dk_at dksX7_caches_0 23 rfl rfl)
theorem dX7_caches_24 : decode cX7_caches 24 = .ok (.iload_n 3, 1) := dk_29 (dk_at dksX7_caches_1 0 rfl rfl)
theorem dX7_caches_25 : decode cX7_caches 25 = .ok (.ishl, 1) := dk_120 (dk_at dksX7_caches_1 1 rfl rfl)
theorem dX7_caches_26 : decode cX7_caches 26 = .ok (.ior, 1) := dk_128 (dk_at dksX7_caches_1 2 rfl rfl)
theorem dX7_caches_27 : decode cX7_caches 27 = .ok (.invokevirtual 169, 3) := dk_182 0 169 (dk_at dksX7_caches_1 3 rfl rfl)
theorem dX7_caches_30 : decode cX7_caches 30 = .ok (.aload_n 0, 1) := dk_42 (dk_at dksX7_caches_1 6 rfl rfl)
theorem dX7_caches_31 : decode cX7_caches 31 = .ok (.iload_n 1, 1) := dk_27 (dk_at dksX7_caches_1 7 rfl rfl)
theorem dX7_caches_32 : decode cX7_caches 32 = .ok (.bipush 12, 2) := dk_16 12 (dk_at dksX7_caches_1 8 rfl rfl)
theorem dX7_caches_34 : decode cX7_caches 34 = .ok (.iload_n 3, 1) := dk_29 (dk_at dksX7_caches_1 10 rfl rfl)
theorem dX7_caches_35 : decode cX7_caches 35 = .ok (.iadd, 1) := dk_96 (dk_at dksX7_caches_1 11 rfl rfl)
theorem dX7_caches_36 : decode cX7_caches 36 = .ok (.iload 4, 2) := dk_21 4 (dk_at dksX7_caches_1 12 rfl rfl)
theorem dX7_caches_38 : decode cX7_caches 38 = .ok (.invokevirtual 169, 3) := dk_182 0 169 (dk_at dksX7_caches_1 14 rfl rfl)
theorem dX7_caches_41 : decode cX7_caches 41 = .ok (.return_, 1) := dk_177 (dk_at dksX7_caches_1 17 rfl rfl)
abbrev cX7_packs : ByteArray := prog_22_method_35_code
def yX7_packs : MethodName := ⟨RX7, "packs", "()V"⟩
def dkwX7_packs_4 : List UInt8 := [79, 177]
abbrev dktX7_packs_4 : List UInt8 := dkwX7_packs_4 ++ []
def dkwX7_packs_3 : List UInt8 := [46, 79, 132, 3, 1, 167, 255, 217, 132, 1, 1, 132, 2, 1, 167, 255, 176, 42, 180, 0, 10, 16, 20, 27]
abbrev dktX7_packs_3 : List UInt8 := dkwX7_packs_3 ++ dktX7_packs_4
def dkwX7_packs_2 : List UInt8 := [17, 4, 112, 16, 6, 27, 104, 96, 29, 96, 42, 180, 0, 10, 17, 4, 112, 16, 6, 28, 104, 96, 29, 96]
abbrev dktX7_packs_2 : List UInt8 := dkwX7_packs_2 ++ dktX7_packs_3
def dkwX7_packs_1 : List UInt8 := [28, 104, 96, 46, 154, 0, 6, 167, 0, 50, 3, 62, 29, 16, 6, 162, 0, 39, 42, 180, 0, 10]
abbrev dktX7_packs_1 : List UInt8 := dkwX7_packs_1 ++ dktX7_packs_2
def dkwX7_packs_0 : List UInt8 := [3, 60, 3, 61, 28, 42, 180, 0, 10, 16, 20, 46, 162, 0, 75, 42, 180, 0, 10, 17, 4, 112, 16, 6]
abbrev dktX7_packs_0 : List UInt8 := dkwX7_packs_0 ++ dktX7_packs_1
theorem dksX7_packs_0 : cX7_packs.data.toList.drop 0 = dktX7_packs_0 := by decide +kernel
theorem dksX7_packs_1 : cX7_packs.data.toList.drop 24 = dktX7_packs_1 := dk_seg dksX7_packs_0 24 rfl rfl
theorem dksX7_packs_2 : cX7_packs.data.toList.drop 46 = dktX7_packs_2 := dk_seg dksX7_packs_1 22 rfl rfl
theorem dksX7_packs_3 : cX7_packs.data.toList.drop 70 = dktX7_packs_3 := dk_seg dksX7_packs_2 24 rfl rfl
theorem dksX7_packs_4 : cX7_packs.data.toList.drop 94 = dktX7_packs_4 := dk_seg dksX7_packs_3 24 rfl rfl
theorem dX7_packs_0 : decode cX7_packs 0 = .ok (.iconst 0, 1) := dk_3 (dk_at dksX7_packs_0 0 rfl rfl)
theorem dX7_packs_1 : decode cX7_packs 1 = .ok (.istore_n 1, 1) := dk_60 (dk_at dksX7_packs_0 1 rfl rfl)
theorem dX7_packs_2 : decode cX7_packs 2 = .ok (.iconst 0, 1) := dk_3 (dk_at dksX7_packs_0 2 rfl rfl)
theorem dX7_packs_3 : decode cX7_packs 3 = .ok (.istore_n 2, 1) := dk_61 (dk_at dksX7_packs_0 3 rfl rfl)
theorem dX7_packs_4 : decode cX7_packs 4 = .ok (.iload_n 2, 1) := dk_28 (dk_at dksX7_packs_0 4 rfl rfl)
theorem dX7_packs_5 : decode cX7_packs 5 = .ok (.aload_n 0, 1) := dk_42 (dk_at dksX7_packs_0 5 rfl rfl)
theorem dX7_packs_6 : decode cX7_packs 6 = .ok (.getfield 10, 3) := dk_180 0 10 (dk_at dksX7_packs_0 6 rfl rfl)
theorem dX7_packs_9 : decode cX7_packs 9 = .ok (.bipush 20, 2) := dk_16 20 (dk_at dksX7_packs_0 9 rfl rfl)
theorem dX7_packs_11 : decode cX7_packs 11 = .ok (.iaload, 1) := dk_46 (dk_at dksX7_packs_0 11 rfl rfl)
theorem dX7_packs_12 : decode cX7_packs 12 = .ok (.if_icmp .ge 75, 3) := dk_162 0 75 (dk_at dksX7_packs_0 12 rfl rfl)
theorem dX7_packs_15 : decode cX7_packs 15 = .ok (.aload_n 0, 1) := dk_42 (dk_at dksX7_packs_0 15 rfl rfl)
theorem dX7_packs_16 : decode cX7_packs 16 = .ok (.getfield 10, 3) := dk_180 0 10 (dk_at dksX7_packs_0 16 rfl rfl)
theorem dX7_packs_19 : decode cX7_packs 19 = .ok (.sipush 1136, 3) := dk_17 4 112 (dk_at dksX7_packs_0 19 rfl rfl)
theorem dX7_packs_22 : decode cX7_packs 22 = .ok (.bipush 6, 2) := dk_16 6 (dk_at dksX7_packs_0 22 rfl rfl)
theorem dX7_packs_24 : decode cX7_packs 24 = .ok (.iload_n 2, 1) := dk_28 (dk_at dksX7_packs_1 0 rfl rfl)
theorem dX7_packs_25 : decode cX7_packs 25 = .ok (.imul, 1) := dk_104 (dk_at dksX7_packs_1 1 rfl rfl)
theorem dX7_packs_26 : decode cX7_packs 26 = .ok (.iadd, 1) := dk_96 (dk_at dksX7_packs_1 2 rfl rfl)
theorem dX7_packs_27 : decode cX7_packs 27 = .ok (.iaload, 1) := dk_46 (dk_at dksX7_packs_1 3 rfl rfl)
theorem dX7_packs_28 : decode cX7_packs 28 = .ok (.ifCond .ne 6, 3) := dk_154 0 6 (dk_at dksX7_packs_1 4 rfl rfl)
theorem dX7_packs_31 : decode cX7_packs 31 = .ok (.goto 50, 3) := dk_167 0 50 (dk_at dksX7_packs_1 7 rfl rfl)
theorem dX7_packs_34 : decode cX7_packs 34 = .ok (.iconst 0, 1) := dk_3 (dk_at dksX7_packs_1 10 rfl rfl)
theorem dX7_packs_35 : decode cX7_packs 35 = .ok (.istore_n 3, 1) := dk_62 (dk_at dksX7_packs_1 11 rfl rfl)
theorem dX7_packs_36 : decode cX7_packs 36 = .ok (.iload_n 3, 1) := dk_29 (dk_at dksX7_packs_1 12 rfl rfl)
theorem dX7_packs_37 : decode cX7_packs 37 = .ok (.bipush 6, 2) := dk_16 6 (dk_at dksX7_packs_1 13 rfl rfl)
theorem dX7_packs_39 : decode cX7_packs 39 = .ok (.if_icmp .ge 39, 3) := dk_162 0 39 (dk_at dksX7_packs_1 15 rfl rfl)
theorem dX7_packs_42 : decode cX7_packs 42 = .ok (.aload_n 0, 1) := dk_42 (dk_at dksX7_packs_1 18 rfl rfl)
theorem dX7_packs_43 : decode cX7_packs 43 = .ok (.getfield 10, 3) := dk_180 0 10 (dk_at dksX7_packs_1 19 rfl rfl)
theorem dX7_packs_46 : decode cX7_packs 46 = .ok (.sipush 1136, 3) := dk_17 4 112 (dk_at dksX7_packs_2 0 rfl rfl)
theorem dX7_packs_49 : decode cX7_packs 49 = .ok (.bipush 6, 2) := dk_16 6 (dk_at dksX7_packs_2 3 rfl rfl)
theorem dX7_packs_51 : decode cX7_packs 51 = .ok (.iload_n 1, 1) := dk_27 (dk_at dksX7_packs_2 5 rfl rfl)
theorem dX7_packs_52 : decode cX7_packs 52 = .ok (.imul, 1) := dk_104 (dk_at dksX7_packs_2 6 rfl rfl)
theorem dX7_packs_53 : decode cX7_packs 53 = .ok (.iadd, 1) := dk_96 (dk_at dksX7_packs_2 7 rfl rfl)
theorem dX7_packs_54 : decode cX7_packs 54 = .ok (.iload_n 3, 1) := dk_29 (dk_at dksX7_packs_2 8 rfl rfl)
theorem dX7_packs_55 : decode cX7_packs 55 = .ok (.iadd, 1) := dk_96 (dk_at dksX7_packs_2 9 rfl rfl)
theorem dX7_packs_56 : decode cX7_packs 56 = .ok (.aload_n 0, 1) := dk_42 (dk_at dksX7_packs_2 10 rfl rfl)
theorem dX7_packs_57 : decode cX7_packs 57 = .ok (.getfield 10, 3) := dk_180 0 10 (dk_at dksX7_packs_2 11 rfl rfl)
theorem dX7_packs_60 : decode cX7_packs 60 = .ok (.sipush 1136, 3) := dk_17 4 112 (dk_at dksX7_packs_2 14 rfl rfl)
theorem dX7_packs_63 : decode cX7_packs 63 = .ok (.bipush 6, 2) := dk_16 6 (dk_at dksX7_packs_2 17 rfl rfl)
theorem dX7_packs_65 : decode cX7_packs 65 = .ok (.iload_n 2, 1) := dk_28 (dk_at dksX7_packs_2 19 rfl rfl)
theorem dX7_packs_66 : decode cX7_packs 66 = .ok (.imul, 1) := dk_104 (dk_at dksX7_packs_2 20 rfl rfl)
theorem dX7_packs_67 : decode cX7_packs 67 = .ok (.iadd, 1) := dk_96 (dk_at dksX7_packs_2 21 rfl rfl)
theorem dX7_packs_68 : decode cX7_packs 68 = .ok (.iload_n 3, 1) := dk_29 (dk_at dksX7_packs_2 22 rfl rfl)
theorem dX7_packs_69 : decode cX7_packs 69 = .ok (.iadd, 1) := dk_96 (dk_at dksX7_packs_2 23 rfl rfl)
theorem dX7_packs_70 : decode cX7_packs 70 = .ok (.iaload, 1) := dk_46 (dk_at dksX7_packs_3 0 rfl rfl)
theorem dX7_packs_71 : decode cX7_packs 71 = .ok (.iastore, 1) := dk_79 (dk_at dksX7_packs_3 1 rfl rfl)
theorem dX7_packs_72 : decode cX7_packs 72 = .ok (.iinc 3 1, 3) := dk_132 3 1 (dk_at dksX7_packs_3 2 rfl rfl)
theorem dX7_packs_75 : decode cX7_packs 75 = .ok (.goto (-39), 3) := dk_167 255 217 (dk_at dksX7_packs_3 5 rfl rfl)
theorem dX7_packs_78 : decode cX7_packs 78 = .ok (.iinc 1 1, 3) := dk_132 1 1 (dk_at dksX7_packs_3 8 rfl rfl)
theorem dX7_packs_81 : decode cX7_packs 81 = .ok (.iinc 2 1, 3) := dk_132 2 1 (dk_at dksX7_packs_3 11 rfl rfl)
theorem dX7_packs_84 : decode cX7_packs 84 = .ok (.goto (-80), 3) := dk_167 255 176 (dk_at dksX7_packs_3 14 rfl rfl)
theorem dX7_packs_87 : decode cX7_packs 87 = .ok (.aload_n 0, 1) := dk_42 (dk_at dksX7_packs_3 17 rfl rfl)
theorem dX7_packs_88 : decode cX7_packs 88 = .ok (.getfield 10, 3) := dk_180 0 10 (dk_at dksX7_packs_3 18 rfl rfl)
theorem dX7_packs_91 : decode cX7_packs 91 = .ok (.bipush 20, 2) := dk_16 20 (dk_at dksX7_packs_3 21 rfl rfl)
theorem dX7_packs_93 : decode cX7_packs 93 = .ok (.iload_n 1, 1) := dk_27 (dk_at dksX7_packs_3 23 rfl rfl)
theorem dX7_packs_94 : decode cX7_packs 94 = .ok (.iastore, 1) := dk_79 (dk_at dksX7_packs_4 0 rfl rfl)
theorem dX7_packs_95 : decode cX7_packs 95 = .ok (.return_, 1) := dk_177 (dk_at dksX7_packs_4 1 rfl rfl)
abbrev cX7_delayedNow : ByteArray := prog_22_method_51_code
def yX7_delayedNow : MethodName := ⟨RX7, "delayedNow", "()V"⟩
def dkwX7_delayedNow_6 : List UInt8 := [6, 29, 21, 4, 21, 5, 21, 6, 182, 0, 189, 167, 255, 109, 177]
abbrev dktX7_delayedNow_6 : List UInt8 := dkwX7_delayedNow_6 ++ []
def dkwX7_delayedNow_5 : List UInt8 := [21, 7, 8, 96, 46, 79, 132, 7, 1, 167, 255, 217, 42, 180, 0, 10, 16, 21, 92, 46, 4, 100, 79, 42]
abbrev dktX7_delayedNow_5 : List UInt8 := dkwX7_delayedNow_5 ++ dktX7_delayedNow_6
def dkwX7_delayedNow_4 : List UInt8 := [180, 0, 10, 16, 21, 46, 4, 100, 104, 96, 162, 0, 25, 42, 180, 0, 10, 21, 7, 42, 180, 0, 10]
abbrev dktX7_delayedNow_4 : List UInt8 := dkwX7_delayedNow_4 ++ dktX7_delayedNow_5
def dkwX7_delayedNow_3 : List UInt8 := [54, 5, 42, 180, 0, 10, 28, 7, 96, 46, 54, 6, 28, 54, 7, 21, 7, 17, 0, 236, 8, 42]
abbrev dktX7_delayedNow_3 : List UInt8 := dkwX7_delayedNow_3 ++ dktX7_delayedNow_4
def dkwX7_delayedNow_2 : List UInt8 := [28, 4, 96, 46, 62, 42, 180, 0, 10, 28, 5, 96, 46, 54, 4, 42, 180, 0, 10, 28, 6, 96, 46]
abbrev dktX7_delayedNow_2 : List UInt8 := dkwX7_delayedNow_2 ++ dktX7_delayedNow_3
def dkwX7_delayedNow_1 : List UInt8 := [180, 0, 10, 28, 46, 42, 180, 0, 10, 3, 46, 159, 0, 9, 132, 1, 1, 167, 255, 219, 42, 180, 0, 10]
abbrev dktX7_delayedNow_1 : List UInt8 := dkwX7_delayedNow_1 ++ dktX7_delayedNow_2
def dkwX7_delayedNow_0 : List UInt8 := [3, 60, 27, 42, 180, 0, 10, 16, 21, 46, 162, 0, 142, 17, 0, 236, 8, 27, 104, 96, 61, 42]
abbrev dktX7_delayedNow_0 : List UInt8 := dkwX7_delayedNow_0 ++ dktX7_delayedNow_1
theorem dksX7_delayedNow_0 : cX7_delayedNow.data.toList.drop 0 = dktX7_delayedNow_0 := by decide +kernel
theorem dksX7_delayedNow_1 : cX7_delayedNow.data.toList.drop 22 = dktX7_delayedNow_1 := dk_seg dksX7_delayedNow_0 22 rfl rfl
theorem dksX7_delayedNow_2 : cX7_delayedNow.data.toList.drop 46 = dktX7_delayedNow_2 := dk_seg dksX7_delayedNow_1 24 rfl rfl
theorem dksX7_delayedNow_3 : cX7_delayedNow.data.toList.drop 69 = dktX7_delayedNow_3 := dk_seg dksX7_delayedNow_2 23 rfl rfl
theorem dksX7_delayedNow_4 : cX7_delayedNow.data.toList.drop 91 = dktX7_delayedNow_4 := dk_seg dksX7_delayedNow_3 22 rfl rfl
theorem dksX7_delayedNow_5 : cX7_delayedNow.data.toList.drop 114 = dktX7_delayedNow_5 := dk_seg dksX7_delayedNow_4 23 rfl rfl
theorem dksX7_delayedNow_6 : cX7_delayedNow.data.toList.drop 138 = dktX7_delayedNow_6 := dk_seg dksX7_delayedNow_5 24 rfl rfl
theorem dX7_delayedNow_0 : decode cX7_delayedNow 0 = .ok (.iconst 0, 1) := dk_3 (dk_at dksX7_delayedNow_0 0 rfl rfl)
theorem dX7_delayedNow_1 : decode cX7_delayedNow 1 = .ok (.istore_n 1, 1) := dk_60 (dk_at dksX7_delayedNow_0 1 rfl rfl)
theorem dX7_delayedNow_2 : decode cX7_delayedNow 2 = .ok (.iload_n 1, 1) := dk_27 (dk_at dksX7_delayedNow_0 2 rfl rfl)
theorem dX7_delayedNow_3 : decode cX7_delayedNow 3 = .ok (.aload_n 0, 1) := dk_42 (dk_at dksX7_delayedNow_0 3 rfl rfl)
theorem dX7_delayedNow_4 : decode cX7_delayedNow 4 = .ok (.getfield 10, 3) := dk_180 0 10 (dk_at dksX7_delayedNow_0 4 rfl rfl)
theorem dX7_delayedNow_7 : decode cX7_delayedNow 7 = .ok (.bipush 21, 2) := dk_16 21 (dk_at dksX7_delayedNow_0 7 rfl rfl)
theorem dX7_delayedNow_9 : decode cX7_delayedNow 9 = .ok (.iaload, 1) := dk_46 (dk_at dksX7_delayedNow_0 9 rfl rfl)
theorem dX7_delayedNow_10 : decode cX7_delayedNow 10 = .ok (.if_icmp .ge 142, 3) := dk_162 0 142 (dk_at dksX7_delayedNow_0 10 rfl rfl)
theorem dX7_delayedNow_13 : decode cX7_delayedNow 13 = .ok (.sipush 236, 3) := dk_17 0 236 (dk_at dksX7_delayedNow_0 13 rfl rfl)
theorem dX7_delayedNow_16 : decode cX7_delayedNow 16 = .ok (.iconst 5, 1) := dk_8 (dk_at dksX7_delayedNow_0 16 rfl rfl)
theorem dX7_delayedNow_17 : decode cX7_delayedNow 17 = .ok (.iload_n 1, 1) := dk_27 (dk_at dksX7_delayedNow_0 17 rfl rfl)
theorem dX7_delayedNow_18 : decode cX7_delayedNow 18 = .ok (.imul, 1) := dk_104 (dk_at dksX7_delayedNow_0 18 rfl rfl)
theorem dX7_delayedNow_19 : decode cX7_delayedNow 19 = .ok (.iadd, 1) := dk_96 (dk_at dksX7_delayedNow_0 19 rfl rfl)
theorem dX7_delayedNow_20 : decode cX7_delayedNow 20 = .ok (.istore_n 2, 1) := dk_61 (dk_at dksX7_delayedNow_0 20 rfl rfl)
theorem dX7_delayedNow_21 : decode cX7_delayedNow 21 = .ok (.aload_n 0, 1) := dk_42 (dk_at dksX7_delayedNow_0 21 rfl rfl)
theorem dX7_delayedNow_22 : decode cX7_delayedNow 22 = .ok (.getfield 10, 3) := dk_180 0 10 (dk_at dksX7_delayedNow_1 0 rfl rfl)
theorem dX7_delayedNow_25 : decode cX7_delayedNow 25 = .ok (.iload_n 2, 1) := dk_28 (dk_at dksX7_delayedNow_1 3 rfl rfl)
theorem dX7_delayedNow_26 : decode cX7_delayedNow 26 = .ok (.iaload, 1) := dk_46 (dk_at dksX7_delayedNow_1 4 rfl rfl)
theorem dX7_delayedNow_27 : decode cX7_delayedNow 27 = .ok (.aload_n 0, 1) := dk_42 (dk_at dksX7_delayedNow_1 5 rfl rfl)
theorem dX7_delayedNow_28 : decode cX7_delayedNow 28 = .ok (.getfield 10, 3) := dk_180 0 10 (dk_at dksX7_delayedNow_1 6 rfl rfl)
theorem dX7_delayedNow_31 : decode cX7_delayedNow 31 = .ok (.iconst 0, 1) := dk_3 (dk_at dksX7_delayedNow_1 9 rfl rfl)
theorem dX7_delayedNow_32 : decode cX7_delayedNow 32 = .ok (.iaload, 1) := dk_46 (dk_at dksX7_delayedNow_1 10 rfl rfl)
theorem dX7_delayedNow_33 : decode cX7_delayedNow 33 = .ok (.if_icmp .eq 9, 3) := dk_159 0 9 (dk_at dksX7_delayedNow_1 11 rfl rfl)
theorem dX7_delayedNow_36 : decode cX7_delayedNow 36 = .ok (.iinc 1 1, 3) := dk_132 1 1 (dk_at dksX7_delayedNow_1 14 rfl rfl)
theorem dX7_delayedNow_39 : decode cX7_delayedNow 39 = .ok (.goto (-37), 3) := dk_167 255 219 (dk_at dksX7_delayedNow_1 17 rfl rfl)
theorem dX7_delayedNow_42 : decode cX7_delayedNow 42 = .ok (.aload_n 0, 1) := dk_42 (dk_at dksX7_delayedNow_1 20 rfl rfl)
theorem dX7_delayedNow_43 : decode cX7_delayedNow 43 = .ok (.getfield 10, 3) := dk_180 0 10 (dk_at dksX7_delayedNow_1 21 rfl rfl)
theorem dX7_delayedNow_46 : decode cX7_delayedNow 46 = .ok (.iload_n 2, 1) := dk_28 (dk_at dksX7_delayedNow_2 0 rfl rfl)
theorem dX7_delayedNow_47 : decode cX7_delayedNow 47 = .ok (.iconst 1, 1) := dk_4 (dk_at dksX7_delayedNow_2 1 rfl rfl)
theorem dX7_delayedNow_48 : decode cX7_delayedNow 48 = .ok (.iadd, 1) := dk_96 (dk_at dksX7_delayedNow_2 2 rfl rfl)
theorem dX7_delayedNow_49 : decode cX7_delayedNow 49 = .ok (.iaload, 1) := dk_46 (dk_at dksX7_delayedNow_2 3 rfl rfl)
theorem dX7_delayedNow_50 : decode cX7_delayedNow 50 = .ok (.istore_n 3, 1) := dk_62 (dk_at dksX7_delayedNow_2 4 rfl rfl)
theorem dX7_delayedNow_51 : decode cX7_delayedNow 51 = .ok (.aload_n 0, 1) := dk_42 (dk_at dksX7_delayedNow_2 5 rfl rfl)
theorem dX7_delayedNow_52 : decode cX7_delayedNow 52 = .ok (.getfield 10, 3) := dk_180 0 10 (dk_at dksX7_delayedNow_2 6 rfl rfl)
theorem dX7_delayedNow_55 : decode cX7_delayedNow 55 = .ok (.iload_n 2, 1) := dk_28 (dk_at dksX7_delayedNow_2 9 rfl rfl)
theorem dX7_delayedNow_56 : decode cX7_delayedNow 56 = .ok (.iconst 2, 1) := dk_5 (dk_at dksX7_delayedNow_2 10 rfl rfl)
theorem dX7_delayedNow_57 : decode cX7_delayedNow 57 = .ok (.iadd, 1) := dk_96 (dk_at dksX7_delayedNow_2 11 rfl rfl)
theorem dX7_delayedNow_58 : decode cX7_delayedNow 58 = .ok (.iaload, 1) := dk_46 (dk_at dksX7_delayedNow_2 12 rfl rfl)
theorem dX7_delayedNow_59 : decode cX7_delayedNow 59 = .ok (.istore 4, 2) := dk_54 4 (dk_at dksX7_delayedNow_2 13 rfl rfl)
theorem dX7_delayedNow_61 : decode cX7_delayedNow 61 = .ok (.aload_n 0, 1) := dk_42 (dk_at dksX7_delayedNow_2 15 rfl rfl)
theorem dX7_delayedNow_62 : decode cX7_delayedNow 62 = .ok (.getfield 10, 3) := dk_180 0 10 (dk_at dksX7_delayedNow_2 16 rfl rfl)
theorem dX7_delayedNow_65 : decode cX7_delayedNow 65 = .ok (.iload_n 2, 1) := dk_28 (dk_at dksX7_delayedNow_2 19 rfl rfl)
theorem dX7_delayedNow_66 : decode cX7_delayedNow 66 = .ok (.iconst 3, 1) := dk_6 (dk_at dksX7_delayedNow_2 20 rfl rfl)
theorem dX7_delayedNow_67 : decode cX7_delayedNow 67 = .ok (.iadd, 1) := dk_96 (dk_at dksX7_delayedNow_2 21 rfl rfl)
theorem dX7_delayedNow_68 : decode cX7_delayedNow 68 = .ok (.iaload, 1) := dk_46 (dk_at dksX7_delayedNow_2 22 rfl rfl)
theorem dX7_delayedNow_69 : decode cX7_delayedNow 69 = .ok (.istore 5, 2) := dk_54 5 (dk_at dksX7_delayedNow_3 0 rfl rfl)
theorem dX7_delayedNow_71 : decode cX7_delayedNow 71 = .ok (.aload_n 0, 1) := dk_42 (dk_at dksX7_delayedNow_3 2 rfl rfl)
theorem dX7_delayedNow_72 : decode cX7_delayedNow 72 = .ok (.getfield 10, 3) := dk_180 0 10 (dk_at dksX7_delayedNow_3 3 rfl rfl)
theorem dX7_delayedNow_75 : decode cX7_delayedNow 75 = .ok (.iload_n 2, 1) := dk_28 (dk_at dksX7_delayedNow_3 6 rfl rfl)
theorem dX7_delayedNow_76 : decode cX7_delayedNow 76 = .ok (.iconst 4, 1) := dk_7 (dk_at dksX7_delayedNow_3 7 rfl rfl)
theorem dX7_delayedNow_77 : decode cX7_delayedNow 77 = .ok (.iadd, 1) := dk_96 (dk_at dksX7_delayedNow_3 8 rfl rfl)
theorem dX7_delayedNow_78 : decode cX7_delayedNow 78 = .ok (.iaload, 1) := dk_46 (dk_at dksX7_delayedNow_3 9 rfl rfl)
theorem dX7_delayedNow_79 : decode cX7_delayedNow 79 = .ok (.istore 6, 2) := dk_54 6 (dk_at dksX7_delayedNow_3 10 rfl rfl)
theorem dX7_delayedNow_81 : decode cX7_delayedNow 81 = .ok (.iload_n 2, 1) := dk_28 (dk_at dksX7_delayedNow_3 12 rfl rfl)
theorem dX7_delayedNow_82 : decode cX7_delayedNow 82 = .ok (.istore 7, 2) := dk_54 7 (dk_at dksX7_delayedNow_3 13 rfl rfl)
theorem dX7_delayedNow_84 : decode cX7_delayedNow 84 = .ok (.iload 7, 2) := dk_21 7 (dk_at dksX7_delayedNow_3 15 rfl rfl)
theorem dX7_delayedNow_86 : decode cX7_delayedNow 86 = .ok (.sipush 236, 3) := dk_17 0 236 (dk_at dksX7_delayedNow_3 17 rfl rfl)
theorem dX7_delayedNow_89 : decode cX7_delayedNow 89 = .ok (.iconst 5, 1) := dk_8 (dk_at dksX7_delayedNow_3 20 rfl rfl)
theorem dX7_delayedNow_90 : decode cX7_delayedNow 90 = .ok (.aload_n 0, 1) := dk_42 (dk_at dksX7_delayedNow_3 21 rfl rfl)
theorem dX7_delayedNow_91 : decode cX7_delayedNow 91 = .ok (.getfield 10, 3) := dk_180 0 10 (dk_at dksX7_delayedNow_4 0 rfl rfl)
theorem dX7_delayedNow_94 : decode cX7_delayedNow 94 = .ok (.bipush 21, 2) := dk_16 21 (dk_at dksX7_delayedNow_4 3 rfl rfl)
theorem dX7_delayedNow_96 : decode cX7_delayedNow 96 = .ok (.iaload, 1) := dk_46 (dk_at dksX7_delayedNow_4 5 rfl rfl)
theorem dX7_delayedNow_97 : decode cX7_delayedNow 97 = .ok (.iconst 1, 1) := dk_4 (dk_at dksX7_delayedNow_4 6 rfl rfl)
theorem dX7_delayedNow_98 : decode cX7_delayedNow 98 = .ok (.isub, 1) := dk_100 (dk_at dksX7_delayedNow_4 7 rfl rfl)
theorem dX7_delayedNow_99 : decode cX7_delayedNow 99 = .ok (.imul, 1) := dk_104 (dk_at dksX7_delayedNow_4 8 rfl rfl)
theorem dX7_delayedNow_100 : decode cX7_delayedNow 100 = .ok (.iadd, 1) := dk_96 (dk_at dksX7_delayedNow_4 9 rfl rfl)
theorem dX7_delayedNow_101 : decode cX7_delayedNow 101 = .ok (.if_icmp .ge 25, 3) := dk_162 0 25 (dk_at dksX7_delayedNow_4 10 rfl rfl)
theorem dX7_delayedNow_104 : decode cX7_delayedNow 104 = .ok (.aload_n 0, 1) := dk_42 (dk_at dksX7_delayedNow_4 13 rfl rfl)
theorem dX7_delayedNow_105 : decode cX7_delayedNow 105 = .ok (.getfield 10, 3) := dk_180 0 10 (dk_at dksX7_delayedNow_4 14 rfl rfl)
theorem dX7_delayedNow_108 : decode cX7_delayedNow 108 = .ok (.iload 7, 2) := dk_21 7 (dk_at dksX7_delayedNow_4 17 rfl rfl)
theorem dX7_delayedNow_110 : decode cX7_delayedNow 110 = .ok (.aload_n 0, 1) := dk_42 (dk_at dksX7_delayedNow_4 19 rfl rfl)
theorem dX7_delayedNow_111 : decode cX7_delayedNow 111 = .ok (.getfield 10, 3) := dk_180 0 10 (dk_at dksX7_delayedNow_4 20 rfl rfl)
theorem dX7_delayedNow_114 : decode cX7_delayedNow 114 = .ok (.iload 7, 2) := dk_21 7 (dk_at dksX7_delayedNow_5 0 rfl rfl)
theorem dX7_delayedNow_116 : decode cX7_delayedNow 116 = .ok (.iconst 5, 1) := dk_8 (dk_at dksX7_delayedNow_5 2 rfl rfl)
theorem dX7_delayedNow_117 : decode cX7_delayedNow 117 = .ok (.iadd, 1) := dk_96 (dk_at dksX7_delayedNow_5 3 rfl rfl)
theorem dX7_delayedNow_118 : decode cX7_delayedNow 118 = .ok (.iaload, 1) := dk_46 (dk_at dksX7_delayedNow_5 4 rfl rfl)
theorem dX7_delayedNow_119 : decode cX7_delayedNow 119 = .ok (.iastore, 1) := dk_79 (dk_at dksX7_delayedNow_5 5 rfl rfl)
theorem dX7_delayedNow_120 : decode cX7_delayedNow 120 = .ok (.iinc 7 1, 3) := dk_132 7 1 (dk_at dksX7_delayedNow_5 6 rfl rfl)
theorem dX7_delayedNow_123 : decode cX7_delayedNow 123 = .ok (.goto (-39), 3) := dk_167 255 217 (dk_at dksX7_delayedNow_5 9 rfl rfl)
theorem dX7_delayedNow_126 : decode cX7_delayedNow 126 = .ok (.aload_n 0, 1) := dk_42 (dk_at dksX7_delayedNow_5 12 rfl rfl)
theorem dX7_delayedNow_127 : decode cX7_delayedNow 127 = .ok (.getfield 10, 3) := dk_180 0 10 (dk_at dksX7_delayedNow_5 13 rfl rfl)
theorem dX7_delayedNow_130 : decode cX7_delayedNow 130 = .ok (.bipush 21, 2) := dk_16 21 (dk_at dksX7_delayedNow_5 16 rfl rfl)
theorem dX7_delayedNow_132 : decode cX7_delayedNow 132 = .ok (.dup2, 1) := dk_92 (dk_at dksX7_delayedNow_5 18 rfl rfl)
theorem dX7_delayedNow_133 : decode cX7_delayedNow 133 = .ok (.iaload, 1) := dk_46 (dk_at dksX7_delayedNow_5 19 rfl rfl)
theorem dX7_delayedNow_134 : decode cX7_delayedNow 134 = .ok (.iconst 1, 1) := dk_4 (dk_at dksX7_delayedNow_5 20 rfl rfl)
theorem dX7_delayedNow_135 : decode cX7_delayedNow 135 = .ok (.isub, 1) := dk_100 (dk_at dksX7_delayedNow_5 21 rfl rfl)
theorem dX7_delayedNow_136 : decode cX7_delayedNow 136 = .ok (.iastore, 1) := dk_79 (dk_at dksX7_delayedNow_5 22 rfl rfl)
theorem dX7_delayedNow_137 : decode cX7_delayedNow 137 = .ok (.aload_n 0, 1) := dk_42 (dk_at dksX7_delayedNow_5 23 rfl rfl)
theorem dX7_delayedNow_138 : decode cX7_delayedNow 138 = .ok (.iconst 3, 1) := dk_6 (dk_at dksX7_delayedNow_6 0 rfl rfl)
theorem dX7_delayedNow_139 : decode cX7_delayedNow 139 = .ok (.iload_n 3, 1) := dk_29 (dk_at dksX7_delayedNow_6 1 rfl rfl)
theorem dX7_delayedNow_140 : decode cX7_delayedNow 140 = .ok (.iload 4, 2) := dk_21 4 (dk_at dksX7_delayedNow_6 2 rfl rfl)
theorem dX7_delayedNow_142 : decode cX7_delayedNow 142 = .ok (.iload 5, 2) := dk_21 5 (dk_at dksX7_delayedNow_6 4 rfl rfl)
theorem dX7_delayedNow_144 : decode cX7_delayedNow 144 = .ok (.iload 6, 2) := dk_21 6 (dk_at dksX7_delayedNow_6 6 rfl rfl)
theorem dX7_delayedNow_146 : decode cX7_delayedNow 146 = .ok (.invokevirtual 189, 3) := dk_182 0 189 (dk_at dksX7_delayedNow_6 8 rfl rfl)
theorem dX7_delayedNow_149 : decode cX7_delayedNow 149 = .ok (.goto (-147), 3) := dk_167 255 109 (dk_at dksX7_delayedNow_6 11 rfl rfl)
theorem dX7_delayedNow_152 : decode cX7_delayedNow 152 = .ok (.return_, 1) := dk_177 (dk_at dksX7_delayedNow_6 14 rfl rfl)
abbrev cX7_timersNow : ByteArray := prog_22_method_52_code
def yX7_timersNow : MethodName := ⟨RX7, "timersNow", "()V"⟩
def dkwX7_timersNow_3 : List UInt8 := [167, 0, 11, 42, 27, 16, 9, 2, 182, 0, 169, 132, 1, 1, 167, 255, 174, 177]
abbrev dktX7_timersNow_3 : List UInt8 := dkwX7_timersNow_3 ++ []
def dkwX7_timersNow_2 : List UInt8 := [3, 46, 164, 0, 6, 167, 0, 29, 42, 27, 8, 182, 0, 152, 4, 160, 0, 11, 42, 27, 182, 0, 247]
abbrev dktX7_timersNow_2 : List UInt8 := dkwX7_timersNow_2 ++ dktX7_timersNow_3
def dkwX7_timersNow_1 : List UInt8 := [182, 0, 152, 153, 0, 55, 42, 27, 182, 0, 229, 154, 0, 47, 28, 2, 159, 0, 42, 28, 42, 180, 0, 10]
abbrev dktX7_timersNow_1 : List UInt8 := dkwX7_timersNow_1 ++ dktX7_timersNow_2
def dkwX7_timersNow_0 : List UInt8 := [3, 60, 27, 42, 180, 0, 10, 5, 46, 162, 0, 78, 42, 27, 16, 9, 182, 0, 152, 61, 42, 27, 6]
abbrev dktX7_timersNow_0 : List UInt8 := dkwX7_timersNow_0 ++ dktX7_timersNow_1
theorem dksX7_timersNow_0 : cX7_timersNow.data.toList.drop 0 = dktX7_timersNow_0 := by decide +kernel
theorem dksX7_timersNow_1 : cX7_timersNow.data.toList.drop 23 = dktX7_timersNow_1 := dk_seg dksX7_timersNow_0 23 rfl rfl
theorem dksX7_timersNow_2 : cX7_timersNow.data.toList.drop 47 = dktX7_timersNow_2 := dk_seg dksX7_timersNow_1 24 rfl rfl
theorem dksX7_timersNow_3 : cX7_timersNow.data.toList.drop 70 = dktX7_timersNow_3 := dk_seg dksX7_timersNow_2 23 rfl rfl
theorem dX7_timersNow_0 : decode cX7_timersNow 0 = .ok (.iconst 0, 1) := dk_3 (dk_at dksX7_timersNow_0 0 rfl rfl)
theorem dX7_timersNow_1 : decode cX7_timersNow 1 = .ok (.istore_n 1, 1) := dk_60 (dk_at dksX7_timersNow_0 1 rfl rfl)
theorem dX7_timersNow_2 : decode cX7_timersNow 2 = .ok (.iload_n 1, 1) := dk_27 (dk_at dksX7_timersNow_0 2 rfl rfl)
theorem dX7_timersNow_3 : decode cX7_timersNow 3 = .ok (.aload_n 0, 1) := dk_42 (dk_at dksX7_timersNow_0 3 rfl rfl)
theorem dX7_timersNow_4 : decode cX7_timersNow 4 = .ok (.getfield 10, 3) := dk_180 0 10 (dk_at dksX7_timersNow_0 4 rfl rfl)
theorem dX7_timersNow_7 : decode cX7_timersNow 7 = .ok (.iconst 2, 1) := dk_5 (dk_at dksX7_timersNow_0 7 rfl rfl)
theorem dX7_timersNow_8 : decode cX7_timersNow 8 = .ok (.iaload, 1) := dk_46 (dk_at dksX7_timersNow_0 8 rfl rfl)
theorem dX7_timersNow_9 : decode cX7_timersNow 9 = .ok (.if_icmp .ge 78, 3) := dk_162 0 78 (dk_at dksX7_timersNow_0 9 rfl rfl)
theorem dX7_timersNow_12 : decode cX7_timersNow 12 = .ok (.aload_n 0, 1) := dk_42 (dk_at dksX7_timersNow_0 12 rfl rfl)
theorem dX7_timersNow_13 : decode cX7_timersNow 13 = .ok (.iload_n 1, 1) := dk_27 (dk_at dksX7_timersNow_0 13 rfl rfl)
theorem dX7_timersNow_14 : decode cX7_timersNow 14 = .ok (.bipush 9, 2) := dk_16 9 (dk_at dksX7_timersNow_0 14 rfl rfl)
theorem dX7_timersNow_16 : decode cX7_timersNow 16 = .ok (.invokevirtual 152, 3) := dk_182 0 152 (dk_at dksX7_timersNow_0 16 rfl rfl)
theorem dX7_timersNow_19 : decode cX7_timersNow 19 = .ok (.istore_n 2, 1) := dk_61 (dk_at dksX7_timersNow_0 19 rfl rfl)
theorem dX7_timersNow_20 : decode cX7_timersNow 20 = .ok (.aload_n 0, 1) := dk_42 (dk_at dksX7_timersNow_0 20 rfl rfl)
theorem dX7_timersNow_21 : decode cX7_timersNow 21 = .ok (.iload_n 1, 1) := dk_27 (dk_at dksX7_timersNow_0 21 rfl rfl)
theorem dX7_timersNow_22 : decode cX7_timersNow 22 = .ok (.iconst 3, 1) := dk_6 (dk_at dksX7_timersNow_0 22 rfl rfl)
theorem dX7_timersNow_23 : decode cX7_timersNow 23 = .ok (.invokevirtual 152, 3) := dk_182 0 152 (dk_at dksX7_timersNow_1 0 rfl rfl)
theorem dX7_timersNow_26 : decode cX7_timersNow 26 = .ok (.ifCond .eq 55, 3) := dk_153 0 55 (dk_at dksX7_timersNow_1 3 rfl rfl)
theorem dX7_timersNow_29 : decode cX7_timersNow 29 = .ok (.aload_n 0, 1) := dk_42 (dk_at dksX7_timersNow_1 6 rfl rfl)
theorem dX7_timersNow_30 : decode cX7_timersNow 30 = .ok (.iload_n 1, 1) := dk_27 (dk_at dksX7_timersNow_1 7 rfl rfl)
theorem dX7_timersNow_31 : decode cX7_timersNow 31 = .ok (.invokevirtual 229, 3) := dk_182 0 229 (dk_at dksX7_timersNow_1 8 rfl rfl)
theorem dX7_timersNow_34 : decode cX7_timersNow 34 = .ok (.ifCond .ne 47, 3) := dk_154 0 47 (dk_at dksX7_timersNow_1 11 rfl rfl)
theorem dX7_timersNow_37 : decode cX7_timersNow 37 = .ok (.iload_n 2, 1) := dk_28 (dk_at dksX7_timersNow_1 14 rfl rfl)
theorem dX7_timersNow_38 : decode cX7_timersNow 38 = .ok (.iconst (-1), 1) := dk_2 (dk_at dksX7_timersNow_1 15 rfl rfl)
theorem dX7_timersNow_39 : decode cX7_timersNow 39 = .ok (.if_icmp .eq 42, 3) := dk_159 0 42 (dk_at dksX7_timersNow_1 16 rfl rfl)
theorem dX7_timersNow_42 : decode cX7_timersNow 42 = .ok (.iload_n 2, 1) := dk_28 (dk_at dksX7_timersNow_1 19 rfl rfl)
theorem dX7_timersNow_43 : decode cX7_timersNow 43 = .ok (.aload_n 0, 1) := dk_42 (dk_at dksX7_timersNow_1 20 rfl rfl)
theorem dX7_timersNow_44 : decode cX7_timersNow 44 = .ok (.getfield 10, 3) := dk_180 0 10 (dk_at dksX7_timersNow_1 21 rfl rfl)
theorem dX7_timersNow_47 : decode cX7_timersNow 47 = .ok (.iconst 0, 1) := dk_3 (dk_at dksX7_timersNow_2 0 rfl rfl)
theorem dX7_timersNow_48 : decode cX7_timersNow 48 = .ok (.iaload, 1) := dk_46 (dk_at dksX7_timersNow_2 1 rfl rfl)
theorem dX7_timersNow_49 : decode cX7_timersNow 49 = .ok (.if_icmp .le 6, 3) := dk_164 0 6 (dk_at dksX7_timersNow_2 2 rfl rfl)
theorem dX7_timersNow_52 : decode cX7_timersNow 52 = .ok (.goto 29, 3) := dk_167 0 29 (dk_at dksX7_timersNow_2 5 rfl rfl)
theorem dX7_timersNow_55 : decode cX7_timersNow 55 = .ok (.aload_n 0, 1) := dk_42 (dk_at dksX7_timersNow_2 8 rfl rfl)
theorem dX7_timersNow_56 : decode cX7_timersNow 56 = .ok (.iload_n 1, 1) := dk_27 (dk_at dksX7_timersNow_2 9 rfl rfl)
theorem dX7_timersNow_57 : decode cX7_timersNow 57 = .ok (.iconst 5, 1) := dk_8 (dk_at dksX7_timersNow_2 10 rfl rfl)
theorem dX7_timersNow_58 : decode cX7_timersNow 58 = .ok (.invokevirtual 152, 3) := dk_182 0 152 (dk_at dksX7_timersNow_2 11 rfl rfl)
theorem dX7_timersNow_61 : decode cX7_timersNow 61 = .ok (.iconst 1, 1) := dk_4 (dk_at dksX7_timersNow_2 14 rfl rfl)
theorem dX7_timersNow_62 : decode cX7_timersNow 62 = .ok (.if_icmp .ne 11, 3) := dk_160 0 11 (dk_at dksX7_timersNow_2 15 rfl rfl)
theorem dX7_timersNow_65 : decode cX7_timersNow 65 = .ok (.aload_n 0, 1) := dk_42 (dk_at dksX7_timersNow_2 18 rfl rfl)
theorem dX7_timersNow_66 : decode cX7_timersNow 66 = .ok (.iload_n 1, 1) := dk_27 (dk_at dksX7_timersNow_2 19 rfl rfl)
theorem dX7_timersNow_67 : decode cX7_timersNow 67 = .ok (.invokevirtual 247, 3) := dk_182 0 247 (dk_at dksX7_timersNow_2 20 rfl rfl)
theorem dX7_timersNow_70 : decode cX7_timersNow 70 = .ok (.goto 11, 3) := dk_167 0 11 (dk_at dksX7_timersNow_3 0 rfl rfl)
theorem dX7_timersNow_73 : decode cX7_timersNow 73 = .ok (.aload_n 0, 1) := dk_42 (dk_at dksX7_timersNow_3 3 rfl rfl)
theorem dX7_timersNow_74 : decode cX7_timersNow 74 = .ok (.iload_n 1, 1) := dk_27 (dk_at dksX7_timersNow_3 4 rfl rfl)
theorem dX7_timersNow_75 : decode cX7_timersNow 75 = .ok (.bipush 9, 2) := dk_16 9 (dk_at dksX7_timersNow_3 5 rfl rfl)
theorem dX7_timersNow_77 : decode cX7_timersNow 77 = .ok (.iconst (-1), 1) := dk_2 (dk_at dksX7_timersNow_3 7 rfl rfl)
theorem dX7_timersNow_78 : decode cX7_timersNow 78 = .ok (.invokevirtual 169, 3) := dk_182 0 169 (dk_at dksX7_timersNow_3 8 rfl rfl)
theorem dX7_timersNow_81 : decode cX7_timersNow 81 = .ok (.iinc 1 1, 3) := dk_132 1 1 (dk_at dksX7_timersNow_3 11 rfl rfl)
theorem dX7_timersNow_84 : decode cX7_timersNow 84 = .ok (.goto (-82), 3) := dk_167 255 174 (dk_at dksX7_timersNow_3 14 rfl rfl)
theorem dX7_timersNow_87 : decode cX7_timersNow 87 = .ok (.return_, 1) := dk_177 (dk_at dksX7_timersNow_3 17 rfl rfl)
abbrev cX7_acquires : ByteArray := prog_22_method_36_code
def yX7_acquires : MethodName := ⟨RX7, "acquires", "(I)V"⟩
def dkwX7_acquires_2 : List UInt8 := [46, 96, 182, 0, 193, 177]
abbrev dktX7_acquires_2 : List UInt8 := dkwX7_acquires_2 ++ []
def dkwX7_acquires_1 : List UInt8 := [27, 3, 42, 27, 182, 0, 162, 3, 182, 0, 189, 42, 27, 42, 27, 182, 0, 162, 42, 180, 0, 10, 16, 8]
abbrev dktX7_acquires_1 : List UInt8 := dkwX7_acquires_1 ++ dktX7_acquires_2
def dkwX7_acquires_0 : List UInt8 := [42, 89, 180, 0, 186, 27, 42, 180, 0, 40, 160, 0, 7, 4, 167, 0, 4, 3, 96, 181, 0, 186, 42, 4]
abbrev dktX7_acquires_0 : List UInt8 := dkwX7_acquires_0 ++ dktX7_acquires_1
theorem dksX7_acquires_0 : cX7_acquires.data.toList.drop 0 = dktX7_acquires_0 := by decide +kernel
theorem dksX7_acquires_1 : cX7_acquires.data.toList.drop 24 = dktX7_acquires_1 := dk_seg dksX7_acquires_0 24 rfl rfl
theorem dksX7_acquires_2 : cX7_acquires.data.toList.drop 48 = dktX7_acquires_2 := dk_seg dksX7_acquires_1 24 rfl rfl
theorem dX7_acquires_0 : decode cX7_acquires 0 = .ok (.aload_n 0, 1) := dk_42 (dk_at dksX7_acquires_0 0 rfl rfl)
theorem dX7_acquires_1 : decode cX7_acquires 1 = .ok (.dup, 1) := dk_89 (dk_at dksX7_acquires_0 1 rfl rfl)
theorem dX7_acquires_2 : decode cX7_acquires 2 = .ok (.getfield 186, 3) := dk_180 0 186 (dk_at dksX7_acquires_0 2 rfl rfl)
theorem dX7_acquires_5 : decode cX7_acquires 5 = .ok (.iload_n 1, 1) := dk_27 (dk_at dksX7_acquires_0 5 rfl rfl)
theorem dX7_acquires_6 : decode cX7_acquires 6 = .ok (.aload_n 0, 1) := dk_42 (dk_at dksX7_acquires_0 6 rfl rfl)
theorem dX7_acquires_7 : decode cX7_acquires 7 = .ok (.getfield 40, 3) := dk_180 0 40 (dk_at dksX7_acquires_0 7 rfl rfl)
theorem dX7_acquires_10 : decode cX7_acquires 10 = .ok (.if_icmp .ne 7, 3) := dk_160 0 7 (dk_at dksX7_acquires_0 10 rfl rfl)
theorem dX7_acquires_13 : decode cX7_acquires 13 = .ok (.iconst 1, 1) := dk_4 (dk_at dksX7_acquires_0 13 rfl rfl)
theorem dX7_acquires_14 : decode cX7_acquires 14 = .ok (.goto 4, 3) := dk_167 0 4 (dk_at dksX7_acquires_0 14 rfl rfl)
theorem dX7_acquires_17 : decode cX7_acquires 17 = .ok (.iconst 0, 1) := dk_3 (dk_at dksX7_acquires_0 17 rfl rfl)
theorem dX7_acquires_18 : decode cX7_acquires 18 = .ok (.iadd, 1) := dk_96 (dk_at dksX7_acquires_0 18 rfl rfl)
theorem dX7_acquires_19 : decode cX7_acquires 19 = .ok (.putfield 186, 3) := dk_181 0 186 (dk_at dksX7_acquires_0 19 rfl rfl)
theorem dX7_acquires_22 : decode cX7_acquires 22 = .ok (.aload_n 0, 1) := dk_42 (dk_at dksX7_acquires_0 22 rfl rfl)
theorem dX7_acquires_23 : decode cX7_acquires 23 = .ok (.iconst 1, 1) := dk_4 (dk_at dksX7_acquires_0 23 rfl rfl)
theorem dX7_acquires_24 : decode cX7_acquires 24 = .ok (.iload_n 1, 1) := dk_27 (dk_at dksX7_acquires_1 0 rfl rfl)
theorem dX7_acquires_25 : decode cX7_acquires 25 = .ok (.iconst 0, 1) := dk_3 (dk_at dksX7_acquires_1 1 rfl rfl)
theorem dX7_acquires_26 : decode cX7_acquires 26 = .ok (.aload_n 0, 1) := dk_42 (dk_at dksX7_acquires_1 2 rfl rfl)
theorem dX7_acquires_27 : decode cX7_acquires 27 = .ok (.iload_n 1, 1) := dk_27 (dk_at dksX7_acquires_1 3 rfl rfl)
theorem dX7_acquires_28 : decode cX7_acquires 28 = .ok (.invokevirtual 162, 3) := dk_182 0 162 (dk_at dksX7_acquires_1 4 rfl rfl)
theorem dX7_acquires_31 : decode cX7_acquires 31 = .ok (.iconst 0, 1) := dk_3 (dk_at dksX7_acquires_1 7 rfl rfl)
theorem dX7_acquires_32 : decode cX7_acquires 32 = .ok (.invokevirtual 189, 3) := dk_182 0 189 (dk_at dksX7_acquires_1 8 rfl rfl)
theorem dX7_acquires_35 : decode cX7_acquires 35 = .ok (.aload_n 0, 1) := dk_42 (dk_at dksX7_acquires_1 11 rfl rfl)
theorem dX7_acquires_36 : decode cX7_acquires 36 = .ok (.iload_n 1, 1) := dk_27 (dk_at dksX7_acquires_1 12 rfl rfl)
theorem dX7_acquires_37 : decode cX7_acquires 37 = .ok (.aload_n 0, 1) := dk_42 (dk_at dksX7_acquires_1 13 rfl rfl)
theorem dX7_acquires_38 : decode cX7_acquires 38 = .ok (.iload_n 1, 1) := dk_27 (dk_at dksX7_acquires_1 14 rfl rfl)
theorem dX7_acquires_39 : decode cX7_acquires 39 = .ok (.invokevirtual 162, 3) := dk_182 0 162 (dk_at dksX7_acquires_1 15 rfl rfl)
theorem dX7_acquires_42 : decode cX7_acquires 42 = .ok (.aload_n 0, 1) := dk_42 (dk_at dksX7_acquires_1 18 rfl rfl)
theorem dX7_acquires_43 : decode cX7_acquires 43 = .ok (.getfield 10, 3) := dk_180 0 10 (dk_at dksX7_acquires_1 19 rfl rfl)
theorem dX7_acquires_46 : decode cX7_acquires 46 = .ok (.bipush 8, 2) := dk_16 8 (dk_at dksX7_acquires_1 22 rfl rfl)
theorem dX7_acquires_48 : decode cX7_acquires 48 = .ok (.iaload, 1) := dk_46 (dk_at dksX7_acquires_2 0 rfl rfl)
theorem dX7_acquires_49 : decode cX7_acquires 49 = .ok (.iadd, 1) := dk_96 (dk_at dksX7_acquires_2 1 rfl rfl)
theorem dX7_acquires_50 : decode cX7_acquires 50 = .ok (.invokevirtual 193, 3) := dk_182 0 193 (dk_at dksX7_acquires_2 2 rfl rfl)
theorem dX7_acquires_53 : decode cX7_acquires 53 = .ok (.return_, 1) := dk_177 (dk_at dksX7_acquires_2 5 rfl rfl)
abbrev cX7_advanceToNextEvent : ByteArray := prog_22_method_57_code
def yX7_advanceToNextEvent : MethodName := ⟨RX7, "advanceToNextEvent", "()I"⟩
def dkwX7_advanceToNextEvent_1 : List UInt8 := [164, 0, 6, 16, 251, 172, 42, 27, 182, 1, 24, 27, 172]
abbrev dktX7_advanceToNextEvent_1 : List UInt8 := dkwX7_advanceToNextEvent_1 ++ []
def dkwX7_advanceToNextEvent_0 : List UInt8 := [42, 3, 181, 0, 65, 42, 182, 1, 3, 60, 27, 18, 250, 160, 0, 6, 16, 252, 172, 27, 19, 1, 23]
abbrev dktX7_advanceToNextEvent_0 : List UInt8 := dkwX7_advanceToNextEvent_0 ++ dktX7_advanceToNextEvent_1
theorem dksX7_advanceToNextEvent_0 : cX7_advanceToNextEvent.data.toList.drop 0 = dktX7_advanceToNextEvent_0 := by decide +kernel
theorem dksX7_advanceToNextEvent_1 : cX7_advanceToNextEvent.data.toList.drop 23 = dktX7_advanceToNextEvent_1 := dk_seg dksX7_advanceToNextEvent_0 23 rfl rfl
theorem dX7_advanceToNextEvent_0 : decode cX7_advanceToNextEvent 0 = .ok (.aload_n 0, 1) := dk_42 (dk_at dksX7_advanceToNextEvent_0 0 rfl rfl)
theorem dX7_advanceToNextEvent_1 : decode cX7_advanceToNextEvent 1 = .ok (.iconst 0, 1) := dk_3 (dk_at dksX7_advanceToNextEvent_0 1 rfl rfl)
theorem dX7_advanceToNextEvent_2 : decode cX7_advanceToNextEvent 2 = .ok (.putfield 65, 3) := dk_181 0 65 (dk_at dksX7_advanceToNextEvent_0 2 rfl rfl)
theorem dX7_advanceToNextEvent_5 : decode cX7_advanceToNextEvent 5 = .ok (.aload_n 0, 1) := dk_42 (dk_at dksX7_advanceToNextEvent_0 5 rfl rfl)
theorem dX7_advanceToNextEvent_6 : decode cX7_advanceToNextEvent 6 = .ok (.invokevirtual 259, 3) := dk_182 1 3 (dk_at dksX7_advanceToNextEvent_0 6 rfl rfl)
theorem dX7_advanceToNextEvent_9 : decode cX7_advanceToNextEvent 9 = .ok (.istore_n 1, 1) := dk_60 (dk_at dksX7_advanceToNextEvent_0 9 rfl rfl)
theorem dX7_advanceToNextEvent_10 : decode cX7_advanceToNextEvent 10 = .ok (.iload_n 1, 1) := dk_27 (dk_at dksX7_advanceToNextEvent_0 10 rfl rfl)
theorem dX7_advanceToNextEvent_11 : decode cX7_advanceToNextEvent 11 = .ok (.ldc 250, 2) := dk_18 250 (dk_at dksX7_advanceToNextEvent_0 11 rfl rfl)
theorem dX7_advanceToNextEvent_13 : decode cX7_advanceToNextEvent 13 = .ok (.if_icmp .ne 6, 3) := dk_160 0 6 (dk_at dksX7_advanceToNextEvent_0 13 rfl rfl)
theorem dX7_advanceToNextEvent_16 : decode cX7_advanceToNextEvent 16 = .ok (.bipush (-4), 2) := dk_16 252 (dk_at dksX7_advanceToNextEvent_0 16 rfl rfl)
theorem dX7_advanceToNextEvent_18 : decode cX7_advanceToNextEvent 18 = .ok (.ireturn, 1) := dk_172 (dk_at dksX7_advanceToNextEvent_0 18 rfl rfl)
theorem dX7_advanceToNextEvent_19 : decode cX7_advanceToNextEvent 19 = .ok (.iload_n 1, 1) := dk_27 (dk_at dksX7_advanceToNextEvent_0 19 rfl rfl)
theorem dX7_advanceToNextEvent_20 : decode cX7_advanceToNextEvent 20 = .ok (.ldc_w 279, 3) := dk_19 1 23 (dk_at dksX7_advanceToNextEvent_0 20 rfl rfl)
theorem dX7_advanceToNextEvent_23 : decode cX7_advanceToNextEvent 23 = .ok (.if_icmp .le 6, 3) := dk_164 0 6 (dk_at dksX7_advanceToNextEvent_1 0 rfl rfl)
theorem dX7_advanceToNextEvent_26 : decode cX7_advanceToNextEvent 26 = .ok (.bipush (-5), 2) := dk_16 251 (dk_at dksX7_advanceToNextEvent_1 3 rfl rfl)
theorem dX7_advanceToNextEvent_28 : decode cX7_advanceToNextEvent 28 = .ok (.ireturn, 1) := dk_172 (dk_at dksX7_advanceToNextEvent_1 5 rfl rfl)
theorem dX7_advanceToNextEvent_29 : decode cX7_advanceToNextEvent 29 = .ok (.aload_n 0, 1) := dk_42 (dk_at dksX7_advanceToNextEvent_1 6 rfl rfl)
theorem dX7_advanceToNextEvent_30 : decode cX7_advanceToNextEvent 30 = .ok (.iload_n 1, 1) := dk_27 (dk_at dksX7_advanceToNextEvent_1 7 rfl rfl)
theorem dX7_advanceToNextEvent_31 : decode cX7_advanceToNextEvent 31 = .ok (.invokevirtual 280, 3) := dk_182 1 24 (dk_at dksX7_advanceToNextEvent_1 8 rfl rfl)
theorem dX7_advanceToNextEvent_34 : decode cX7_advanceToNextEvent 34 = .ok (.iload_n 1, 1) := dk_27 (dk_at dksX7_advanceToNextEvent_1 11 rfl rfl)
theorem dX7_advanceToNextEvent_35 : decode cX7_advanceToNextEvent 35 = .ok (.ireturn, 1) := dk_172 (dk_at dksX7_advanceToNextEvent_1 12 rfl rfl)
abbrev cX7_campaign : ByteArray := prog_22_method_60_code
def yX7_campaign : MethodName := ⟨RX7, "campaign", "(I)I"⟩
def dkwX7_campaign_2 : List UInt8 := [4, 172]
abbrev dktX7_campaign_2 : List UInt8 := dkwX7_campaign_2 ++ []
def dkwX7_campaign_1 : List UInt8 := [42, 27, 8, 182, 0, 152, 4, 160, 0, 5, 3, 172, 42, 27, 8, 4, 182, 0, 169, 42, 27, 182, 0, 247]
abbrev dktX7_campaign_1 : List UInt8 := dkwX7_campaign_1 ++ dktX7_campaign_2
def dkwX7_campaign_0 : List UInt8 := [42, 27, 182, 0, 172, 153, 0, 5, 3, 172, 42, 27, 182, 1, 27, 153, 0, 9, 42, 27, 182, 1, 27, 172]
abbrev dktX7_campaign_0 : List UInt8 := dkwX7_campaign_0 ++ dktX7_campaign_1
theorem dksX7_campaign_0 : cX7_campaign.data.toList.drop 0 = dktX7_campaign_0 := by decide +kernel
theorem dksX7_campaign_1 : cX7_campaign.data.toList.drop 24 = dktX7_campaign_1 := dk_seg dksX7_campaign_0 24 rfl rfl
theorem dksX7_campaign_2 : cX7_campaign.data.toList.drop 48 = dktX7_campaign_2 := dk_seg dksX7_campaign_1 24 rfl rfl
theorem dX7_campaign_0 : decode cX7_campaign 0 = .ok (.aload_n 0, 1) := dk_42 (dk_at dksX7_campaign_0 0 rfl rfl)
theorem dX7_campaign_1 : decode cX7_campaign 1 = .ok (.iload_n 1, 1) := dk_27 (dk_at dksX7_campaign_0 1 rfl rfl)
theorem dX7_campaign_2 : decode cX7_campaign 2 = .ok (.invokevirtual 172, 3) := dk_182 0 172 (dk_at dksX7_campaign_0 2 rfl rfl)
theorem dX7_campaign_5 : decode cX7_campaign 5 = .ok (.ifCond .eq 5, 3) := dk_153 0 5 (dk_at dksX7_campaign_0 5 rfl rfl)
theorem dX7_campaign_8 : decode cX7_campaign 8 = .ok (.iconst 0, 1) := dk_3 (dk_at dksX7_campaign_0 8 rfl rfl)
theorem dX7_campaign_9 : decode cX7_campaign 9 = .ok (.ireturn, 1) := dk_172 (dk_at dksX7_campaign_0 9 rfl rfl)
theorem dX7_campaign_10 : decode cX7_campaign 10 = .ok (.aload_n 0, 1) := dk_42 (dk_at dksX7_campaign_0 10 rfl rfl)
theorem dX7_campaign_11 : decode cX7_campaign 11 = .ok (.iload_n 1, 1) := dk_27 (dk_at dksX7_campaign_0 11 rfl rfl)
theorem dX7_campaign_12 : decode cX7_campaign 12 = .ok (.invokevirtual 283, 3) := dk_182 1 27 (dk_at dksX7_campaign_0 12 rfl rfl)
theorem dX7_campaign_15 : decode cX7_campaign 15 = .ok (.ifCond .eq 9, 3) := dk_153 0 9 (dk_at dksX7_campaign_0 15 rfl rfl)
theorem dX7_campaign_18 : decode cX7_campaign 18 = .ok (.aload_n 0, 1) := dk_42 (dk_at dksX7_campaign_0 18 rfl rfl)
theorem dX7_campaign_19 : decode cX7_campaign 19 = .ok (.iload_n 1, 1) := dk_27 (dk_at dksX7_campaign_0 19 rfl rfl)
theorem dX7_campaign_20 : decode cX7_campaign 20 = .ok (.invokevirtual 283, 3) := dk_182 1 27 (dk_at dksX7_campaign_0 20 rfl rfl)
theorem dX7_campaign_23 : decode cX7_campaign 23 = .ok (.ireturn, 1) := dk_172 (dk_at dksX7_campaign_0 23 rfl rfl)
theorem dX7_campaign_24 : decode cX7_campaign 24 = .ok (.aload_n 0, 1) := dk_42 (dk_at dksX7_campaign_1 0 rfl rfl)
theorem dX7_campaign_25 : decode cX7_campaign 25 = .ok (.iload_n 1, 1) := dk_27 (dk_at dksX7_campaign_1 1 rfl rfl)
theorem dX7_campaign_26 : decode cX7_campaign 26 = .ok (.iconst 5, 1) := dk_8 (dk_at dksX7_campaign_1 2 rfl rfl)
theorem dX7_campaign_27 : decode cX7_campaign 27 = .ok (.invokevirtual 152, 3) := dk_182 0 152 (dk_at dksX7_campaign_1 3 rfl rfl)
theorem dX7_campaign_30 : decode cX7_campaign 30 = .ok (.iconst 1, 1) := dk_4 (dk_at dksX7_campaign_1 6 rfl rfl)
theorem dX7_campaign_31 : decode cX7_campaign 31 = .ok (.if_icmp .ne 5, 3) := dk_160 0 5 (dk_at dksX7_campaign_1 7 rfl rfl)
theorem dX7_campaign_34 : decode cX7_campaign 34 = .ok (.iconst 0, 1) := dk_3 (dk_at dksX7_campaign_1 10 rfl rfl)
theorem dX7_campaign_35 : decode cX7_campaign 35 = .ok (.ireturn, 1) := dk_172 (dk_at dksX7_campaign_1 11 rfl rfl)
theorem dX7_campaign_36 : decode cX7_campaign 36 = .ok (.aload_n 0, 1) := dk_42 (dk_at dksX7_campaign_1 12 rfl rfl)
theorem dX7_campaign_37 : decode cX7_campaign 37 = .ok (.iload_n 1, 1) := dk_27 (dk_at dksX7_campaign_1 13 rfl rfl)
theorem dX7_campaign_38 : decode cX7_campaign 38 = .ok (.iconst 5, 1) := dk_8 (dk_at dksX7_campaign_1 14 rfl rfl)
theorem dX7_campaign_39 : decode cX7_campaign 39 = .ok (.iconst 1, 1) := dk_4 (dk_at dksX7_campaign_1 15 rfl rfl)
theorem dX7_campaign_40 : decode cX7_campaign 40 = .ok (.invokevirtual 169, 3) := dk_182 0 169 (dk_at dksX7_campaign_1 16 rfl rfl)
theorem dX7_campaign_43 : decode cX7_campaign 43 = .ok (.aload_n 0, 1) := dk_42 (dk_at dksX7_campaign_1 19 rfl rfl)
theorem dX7_campaign_44 : decode cX7_campaign 44 = .ok (.iload_n 1, 1) := dk_27 (dk_at dksX7_campaign_1 20 rfl rfl)
theorem dX7_campaign_45 : decode cX7_campaign 45 = .ok (.invokevirtual 247, 3) := dk_182 0 247 (dk_at dksX7_campaign_1 21 rfl rfl)
theorem dX7_campaign_48 : decode cX7_campaign 48 = .ok (.iconst 1, 1) := dk_4 (dk_at dksX7_campaign_2 0 rfl rfl)
theorem dX7_campaign_49 : decode cX7_campaign 49 = .ok (.ireturn, 1) := dk_172 (dk_at dksX7_campaign_2 1 rfl rfl)
abbrev cX7_refusal : ByteArray := prog_22_method_58_code
def yX7_refusal : MethodName := ⟨RX7, "refusal", "(I)I"⟩
def dkwX7_refusal_1 : List UInt8 := [167, 0, 4, 3, 172]
abbrev dktX7_refusal_1 : List UInt8 := dkwX7_refusal_1 ++ []
def dkwX7_refusal_0 : List UInt8 := [42, 27, 6, 182, 0, 152, 154, 0, 8, 16, 253, 167, 0, 17, 42, 27, 182, 0, 229, 153, 0, 8, 16, 254]
abbrev dktX7_refusal_0 : List UInt8 := dkwX7_refusal_0 ++ dktX7_refusal_1
theorem dksX7_refusal_0 : cX7_refusal.data.toList.drop 0 = dktX7_refusal_0 := by decide +kernel
theorem dksX7_refusal_1 : cX7_refusal.data.toList.drop 24 = dktX7_refusal_1 := dk_seg dksX7_refusal_0 24 rfl rfl
theorem dX7_refusal_0 : decode cX7_refusal 0 = .ok (.aload_n 0, 1) := dk_42 (dk_at dksX7_refusal_0 0 rfl rfl)
theorem dX7_refusal_1 : decode cX7_refusal 1 = .ok (.iload_n 1, 1) := dk_27 (dk_at dksX7_refusal_0 1 rfl rfl)
theorem dX7_refusal_2 : decode cX7_refusal 2 = .ok (.iconst 3, 1) := dk_6 (dk_at dksX7_refusal_0 2 rfl rfl)
theorem dX7_refusal_3 : decode cX7_refusal 3 = .ok (.invokevirtual 152, 3) := dk_182 0 152 (dk_at dksX7_refusal_0 3 rfl rfl)
theorem dX7_refusal_6 : decode cX7_refusal 6 = .ok (.ifCond .ne 8, 3) := dk_154 0 8 (dk_at dksX7_refusal_0 6 rfl rfl)
theorem dX7_refusal_9 : decode cX7_refusal 9 = .ok (.bipush (-3), 2) := dk_16 253 (dk_at dksX7_refusal_0 9 rfl rfl)
theorem dX7_refusal_11 : decode cX7_refusal 11 = .ok (.goto 17, 3) := dk_167 0 17 (dk_at dksX7_refusal_0 11 rfl rfl)
theorem dX7_refusal_14 : decode cX7_refusal 14 = .ok (.aload_n 0, 1) := dk_42 (dk_at dksX7_refusal_0 14 rfl rfl)
theorem dX7_refusal_15 : decode cX7_refusal 15 = .ok (.iload_n 1, 1) := dk_27 (dk_at dksX7_refusal_0 15 rfl rfl)
theorem dX7_refusal_16 : decode cX7_refusal 16 = .ok (.invokevirtual 229, 3) := dk_182 0 229 (dk_at dksX7_refusal_0 16 rfl rfl)
theorem dX7_refusal_19 : decode cX7_refusal 19 = .ok (.ifCond .eq 8, 3) := dk_153 0 8 (dk_at dksX7_refusal_0 19 rfl rfl)
theorem dX7_refusal_22 : decode cX7_refusal 22 = .ok (.bipush (-2), 2) := dk_16 254 (dk_at dksX7_refusal_0 22 rfl rfl)
theorem dX7_refusal_24 : decode cX7_refusal 24 = .ok (.goto 4, 3) := dk_167 0 4 (dk_at dksX7_refusal_1 0 rfl rfl)
theorem dX7_refusal_27 : decode cX7_refusal 27 = .ok (.iconst 0, 1) := dk_3 (dk_at dksX7_refusal_1 3 rfl rfl)
theorem dX7_refusal_28 : decode cX7_refusal 28 = .ok (.ireturn, 1) := dk_172 (dk_at dksX7_refusal_1 4 rfl rfl)
abbrev cX7_withdraw : ByteArray := prog_22_method_61_code
def yX7_withdraw : MethodName := ⟨RX7, "withdraw", "(I)I"⟩
def dkwX7_withdraw_3 : List UInt8 := [2, 182, 0, 169, 28, 172]
abbrev dktX7_withdraw_3 : List UInt8 := dkwX7_withdraw_3 ++ []
def dkwX7_withdraw_2 : List UInt8 := [5, 27, 28, 3, 3, 182, 0, 189, 42, 27, 182, 0, 213, 42, 27, 8, 3, 182, 0, 169, 42, 27, 16, 9]
abbrev dktX7_withdraw_2 : List UInt8 := dkwX7_withdraw_2 ++ dktX7_withdraw_3
def dkwX7_withdraw_1 : List UInt8 := [42, 27, 8, 182, 0, 152, 154, 0, 5, 3, 172, 42, 27, 16, 7, 182, 0, 152, 61, 28, 153, 0, 12, 42]
abbrev dktX7_withdraw_1 : List UInt8 := dkwX7_withdraw_1 ++ dktX7_withdraw_2
def dkwX7_withdraw_0 : List UInt8 := [42, 27, 182, 0, 172, 153, 0, 5, 3, 172, 42, 27, 182, 1, 27, 153, 0, 9, 42, 27, 182, 1, 27, 172]
abbrev dktX7_withdraw_0 : List UInt8 := dkwX7_withdraw_0 ++ dktX7_withdraw_1
theorem dksX7_withdraw_0 : cX7_withdraw.data.toList.drop 0 = dktX7_withdraw_0 := by decide +kernel
theorem dksX7_withdraw_1 : cX7_withdraw.data.toList.drop 24 = dktX7_withdraw_1 := dk_seg dksX7_withdraw_0 24 rfl rfl
theorem dksX7_withdraw_2 : cX7_withdraw.data.toList.drop 48 = dktX7_withdraw_2 := dk_seg dksX7_withdraw_1 24 rfl rfl
theorem dksX7_withdraw_3 : cX7_withdraw.data.toList.drop 72 = dktX7_withdraw_3 := dk_seg dksX7_withdraw_2 24 rfl rfl
theorem dX7_withdraw_0 : decode cX7_withdraw 0 = .ok (.aload_n 0, 1) := dk_42 (dk_at dksX7_withdraw_0 0 rfl rfl)
theorem dX7_withdraw_1 : decode cX7_withdraw 1 = .ok (.iload_n 1, 1) := dk_27 (dk_at dksX7_withdraw_0 1 rfl rfl)
theorem dX7_withdraw_2 : decode cX7_withdraw 2 = .ok (.invokevirtual 172, 3) := dk_182 0 172 (dk_at dksX7_withdraw_0 2 rfl rfl)
theorem dX7_withdraw_5 : decode cX7_withdraw 5 = .ok (.ifCond .eq 5, 3) := dk_153 0 5 (dk_at dksX7_withdraw_0 5 rfl rfl)
theorem dX7_withdraw_8 : decode cX7_withdraw 8 = .ok (.iconst 0, 1) := dk_3 (dk_at dksX7_withdraw_0 8 rfl rfl)
theorem dX7_withdraw_9 : decode cX7_withdraw 9 = .ok (.ireturn, 1) := dk_172 (dk_at dksX7_withdraw_0 9 rfl rfl)
theorem dX7_withdraw_10 : decode cX7_withdraw 10 = .ok (.aload_n 0, 1) := dk_42 (dk_at dksX7_withdraw_0 10 rfl rfl)
theorem dX7_withdraw_11 : decode cX7_withdraw 11 = .ok (.iload_n 1, 1) := dk_27 (dk_at dksX7_withdraw_0 11 rfl rfl)
theorem dX7_withdraw_12 : decode cX7_withdraw 12 = .ok (.invokevirtual 283, 3) := dk_182 1 27 (dk_at dksX7_withdraw_0 12 rfl rfl)
theorem dX7_withdraw_15 : decode cX7_withdraw 15 = .ok (.ifCond .eq 9, 3) := dk_153 0 9 (dk_at dksX7_withdraw_0 15 rfl rfl)
theorem dX7_withdraw_18 : decode cX7_withdraw 18 = .ok (.aload_n 0, 1) := dk_42 (dk_at dksX7_withdraw_0 18 rfl rfl)
theorem dX7_withdraw_19 : decode cX7_withdraw 19 = .ok (.iload_n 1, 1) := dk_27 (dk_at dksX7_withdraw_0 19 rfl rfl)
theorem dX7_withdraw_20 : decode cX7_withdraw 20 = .ok (.invokevirtual 283, 3) := dk_182 1 27 (dk_at dksX7_withdraw_0 20 rfl rfl)
theorem dX7_withdraw_23 : decode cX7_withdraw 23 = .ok (.ireturn, 1) := dk_172 (dk_at dksX7_withdraw_0 23 rfl rfl)
theorem dX7_withdraw_24 : decode cX7_withdraw 24 = .ok (.aload_n 0, 1) := dk_42 (dk_at dksX7_withdraw_1 0 rfl rfl)
theorem dX7_withdraw_25 : decode cX7_withdraw 25 = .ok (.iload_n 1, 1) := dk_27 (dk_at dksX7_withdraw_1 1 rfl rfl)
theorem dX7_withdraw_26 : decode cX7_withdraw 26 = .ok (.iconst 5, 1) := dk_8 (dk_at dksX7_withdraw_1 2 rfl rfl)
theorem dX7_withdraw_27 : decode cX7_withdraw 27 = .ok (.invokevirtual 152, 3) := dk_182 0 152 (dk_at dksX7_withdraw_1 3 rfl rfl)
theorem dX7_withdraw_30 : decode cX7_withdraw 30 = .ok (.ifCond .ne 5, 3) := dk_154 0 5 (dk_at dksX7_withdraw_1 6 rfl rfl)
theorem dX7_withdraw_33 : decode cX7_withdraw 33 = .ok (.iconst 0, 1) := dk_3 (dk_at dksX7_withdraw_1 9 rfl rfl)
theorem dX7_withdraw_34 : decode cX7_withdraw 34 = .ok (.ireturn, 1) := dk_172 (dk_at dksX7_withdraw_1 10 rfl rfl)
theorem dX7_withdraw_35 : decode cX7_withdraw 35 = .ok (.aload_n 0, 1) := dk_42 (dk_at dksX7_withdraw_1 11 rfl rfl)
theorem dX7_withdraw_36 : decode cX7_withdraw 36 = .ok (.iload_n 1, 1) := dk_27 (dk_at dksX7_withdraw_1 12 rfl rfl)
theorem dX7_withdraw_37 : decode cX7_withdraw 37 = .ok (.bipush 7, 2) := dk_16 7 (dk_at dksX7_withdraw_1 13 rfl rfl)
theorem dX7_withdraw_39 : decode cX7_withdraw 39 = .ok (.invokevirtual 152, 3) := dk_182 0 152 (dk_at dksX7_withdraw_1 15 rfl rfl)
theorem dX7_withdraw_42 : decode cX7_withdraw 42 = .ok (.istore_n 2, 1) := dk_61 (dk_at dksX7_withdraw_1 18 rfl rfl)
theorem dX7_withdraw_43 : decode cX7_withdraw 43 = .ok (.iload_n 2, 1) := dk_28 (dk_at dksX7_withdraw_1 19 rfl rfl)
theorem dX7_withdraw_44 : decode cX7_withdraw 44 = .ok (.ifCond .eq 12, 3) := dk_153 0 12 (dk_at dksX7_withdraw_1 20 rfl rfl)
theorem dX7_withdraw_47 : decode cX7_withdraw 47 = .ok (.aload_n 0, 1) := dk_42 (dk_at dksX7_withdraw_1 23 rfl rfl)
theorem dX7_withdraw_48 : decode cX7_withdraw 48 = .ok (.iconst 2, 1) := dk_5 (dk_at dksX7_withdraw_2 0 rfl rfl)
theorem dX7_withdraw_49 : decode cX7_withdraw 49 = .ok (.iload_n 1, 1) := dk_27 (dk_at dksX7_withdraw_2 1 rfl rfl)
theorem dX7_withdraw_50 : decode cX7_withdraw 50 = .ok (.iload_n 2, 1) := dk_28 (dk_at dksX7_withdraw_2 2 rfl rfl)
theorem dX7_withdraw_51 : decode cX7_withdraw 51 = .ok (.iconst 0, 1) := dk_3 (dk_at dksX7_withdraw_2 3 rfl rfl)
theorem dX7_withdraw_52 : decode cX7_withdraw 52 = .ok (.iconst 0, 1) := dk_3 (dk_at dksX7_withdraw_2 4 rfl rfl)
theorem dX7_withdraw_53 : decode cX7_withdraw 53 = .ok (.invokevirtual 189, 3) := dk_182 0 189 (dk_at dksX7_withdraw_2 5 rfl rfl)
theorem dX7_withdraw_56 : decode cX7_withdraw 56 = .ok (.aload_n 0, 1) := dk_42 (dk_at dksX7_withdraw_2 8 rfl rfl)
theorem dX7_withdraw_57 : decode cX7_withdraw 57 = .ok (.iload_n 1, 1) := dk_27 (dk_at dksX7_withdraw_2 9 rfl rfl)
theorem dX7_withdraw_58 : decode cX7_withdraw 58 = .ok (.invokevirtual 213, 3) := dk_182 0 213 (dk_at dksX7_withdraw_2 10 rfl rfl)
theorem dX7_withdraw_61 : decode cX7_withdraw 61 = .ok (.aload_n 0, 1) := dk_42 (dk_at dksX7_withdraw_2 13 rfl rfl)
theorem dX7_withdraw_62 : decode cX7_withdraw 62 = .ok (.iload_n 1, 1) := dk_27 (dk_at dksX7_withdraw_2 14 rfl rfl)
theorem dX7_withdraw_63 : decode cX7_withdraw 63 = .ok (.iconst 5, 1) := dk_8 (dk_at dksX7_withdraw_2 15 rfl rfl)
theorem dX7_withdraw_64 : decode cX7_withdraw 64 = .ok (.iconst 0, 1) := dk_3 (dk_at dksX7_withdraw_2 16 rfl rfl)
theorem dX7_withdraw_65 : decode cX7_withdraw 65 = .ok (.invokevirtual 169, 3) := dk_182 0 169 (dk_at dksX7_withdraw_2 17 rfl rfl)
theorem dX7_withdraw_68 : decode cX7_withdraw 68 = .ok (.aload_n 0, 1) := dk_42 (dk_at dksX7_withdraw_2 20 rfl rfl)
theorem dX7_withdraw_69 : decode cX7_withdraw 69 = .ok (.iload_n 1, 1) := dk_27 (dk_at dksX7_withdraw_2 21 rfl rfl)
theorem dX7_withdraw_70 : decode cX7_withdraw 70 = .ok (.bipush 9, 2) := dk_16 9 (dk_at dksX7_withdraw_2 22 rfl rfl)
theorem dX7_withdraw_72 : decode cX7_withdraw 72 = .ok (.iconst (-1), 1) := dk_2 (dk_at dksX7_withdraw_3 0 rfl rfl)
theorem dX7_withdraw_73 : decode cX7_withdraw 73 = .ok (.invokevirtual 169, 3) := dk_182 0 169 (dk_at dksX7_withdraw_3 1 rfl rfl)
theorem dX7_withdraw_76 : decode cX7_withdraw 76 = .ok (.iload_n 2, 1) := dk_28 (dk_at dksX7_withdraw_3 4 rfl rfl)
theorem dX7_withdraw_77 : decode cX7_withdraw 77 = .ok (.ireturn, 1) := dk_172 (dk_at dksX7_withdraw_3 5 rfl rfl)
abbrev cX7_crash : ByteArray := prog_22_method_62_code
def yX7_crash : MethodName := ⟨RX7, "crash", "(I)I"⟩
def dkwX7_crash_3 : List UInt8 := [182, 0, 169, 28, 172]
abbrev dktX7_crash_3 : List UInt8 := dkwX7_crash_3 ++ []
def dkwX7_crash_2 : List UInt8 := [182, 0, 169, 42, 27, 16, 9, 2, 182, 0, 169, 42, 27, 7, 3, 182, 0, 169, 42, 27, 8, 3]
abbrev dktX7_crash_2 : List UInt8 := dkwX7_crash_2 ++ dktX7_crash_3
def dkwX7_crash_1 : List UInt8 := [16, 7, 182, 0, 152, 61, 42, 16, 7, 27, 28, 182, 0, 219, 42, 27, 182, 0, 213, 42, 27, 6, 3]
abbrev dktX7_crash_1 : List UInt8 := dkwX7_crash_1 ++ dktX7_crash_2
def dkwX7_crash_0 : List UInt8 := [42, 27, 182, 0, 172, 153, 0, 5, 3, 172, 42, 27, 6, 182, 0, 152, 154, 0, 6, 16, 253, 172, 42, 27]
abbrev dktX7_crash_0 : List UInt8 := dkwX7_crash_0 ++ dktX7_crash_1
theorem dksX7_crash_0 : cX7_crash.data.toList.drop 0 = dktX7_crash_0 := by decide +kernel
theorem dksX7_crash_1 : cX7_crash.data.toList.drop 24 = dktX7_crash_1 := dk_seg dksX7_crash_0 24 rfl rfl
theorem dksX7_crash_2 : cX7_crash.data.toList.drop 47 = dktX7_crash_2 := dk_seg dksX7_crash_1 23 rfl rfl
theorem dksX7_crash_3 : cX7_crash.data.toList.drop 69 = dktX7_crash_3 := dk_seg dksX7_crash_2 22 rfl rfl
theorem dX7_crash_0 : decode cX7_crash 0 = .ok (.aload_n 0, 1) := dk_42 (dk_at dksX7_crash_0 0 rfl rfl)
theorem dX7_crash_1 : decode cX7_crash 1 = .ok (.iload_n 1, 1) := dk_27 (dk_at dksX7_crash_0 1 rfl rfl)
theorem dX7_crash_2 : decode cX7_crash 2 = .ok (.invokevirtual 172, 3) := dk_182 0 172 (dk_at dksX7_crash_0 2 rfl rfl)
theorem dX7_crash_5 : decode cX7_crash 5 = .ok (.ifCond .eq 5, 3) := dk_153 0 5 (dk_at dksX7_crash_0 5 rfl rfl)
theorem dX7_crash_8 : decode cX7_crash 8 = .ok (.iconst 0, 1) := dk_3 (dk_at dksX7_crash_0 8 rfl rfl)
theorem dX7_crash_9 : decode cX7_crash 9 = .ok (.ireturn, 1) := dk_172 (dk_at dksX7_crash_0 9 rfl rfl)
theorem dX7_crash_10 : decode cX7_crash 10 = .ok (.aload_n 0, 1) := dk_42 (dk_at dksX7_crash_0 10 rfl rfl)
theorem dX7_crash_11 : decode cX7_crash 11 = .ok (.iload_n 1, 1) := dk_27 (dk_at dksX7_crash_0 11 rfl rfl)
theorem dX7_crash_12 : decode cX7_crash 12 = .ok (.iconst 3, 1) := dk_6 (dk_at dksX7_crash_0 12 rfl rfl)
theorem dX7_crash_13 : decode cX7_crash 13 = .ok (.invokevirtual 152, 3) := dk_182 0 152 (dk_at dksX7_crash_0 13 rfl rfl)
theorem dX7_crash_16 : decode cX7_crash 16 = .ok (.ifCond .ne 6, 3) := dk_154 0 6 (dk_at dksX7_crash_0 16 rfl rfl)
theorem dX7_crash_19 : decode cX7_crash 19 = .ok (.bipush (-3), 2) := dk_16 253 (dk_at dksX7_crash_0 19 rfl rfl)
theorem dX7_crash_21 : decode cX7_crash 21 = .ok (.ireturn, 1) := dk_172 (dk_at dksX7_crash_0 21 rfl rfl)
theorem dX7_crash_22 : decode cX7_crash 22 = .ok (.aload_n 0, 1) := dk_42 (dk_at dksX7_crash_0 22 rfl rfl)
theorem dX7_crash_23 : decode cX7_crash 23 = .ok (.iload_n 1, 1) := dk_27 (dk_at dksX7_crash_0 23 rfl rfl)
theorem dX7_crash_24 : decode cX7_crash 24 = .ok (.bipush 7, 2) := dk_16 7 (dk_at dksX7_crash_1 0 rfl rfl)
theorem dX7_crash_26 : decode cX7_crash 26 = .ok (.invokevirtual 152, 3) := dk_182 0 152 (dk_at dksX7_crash_1 2 rfl rfl)
theorem dX7_crash_29 : decode cX7_crash 29 = .ok (.istore_n 2, 1) := dk_61 (dk_at dksX7_crash_1 5 rfl rfl)
theorem dX7_crash_30 : decode cX7_crash 30 = .ok (.aload_n 0, 1) := dk_42 (dk_at dksX7_crash_1 6 rfl rfl)
theorem dX7_crash_31 : decode cX7_crash 31 = .ok (.bipush 7, 2) := dk_16 7 (dk_at dksX7_crash_1 7 rfl rfl)
theorem dX7_crash_33 : decode cX7_crash 33 = .ok (.iload_n 1, 1) := dk_27 (dk_at dksX7_crash_1 9 rfl rfl)
theorem dX7_crash_34 : decode cX7_crash 34 = .ok (.iload_n 2, 1) := dk_28 (dk_at dksX7_crash_1 10 rfl rfl)
theorem dX7_crash_35 : decode cX7_crash 35 = .ok (.invokevirtual 219, 3) := dk_182 0 219 (dk_at dksX7_crash_1 11 rfl rfl)
theorem dX7_crash_38 : decode cX7_crash 38 = .ok (.aload_n 0, 1) := dk_42 (dk_at dksX7_crash_1 14 rfl rfl)
theorem dX7_crash_39 : decode cX7_crash 39 = .ok (.iload_n 1, 1) := dk_27 (dk_at dksX7_crash_1 15 rfl rfl)
theorem dX7_crash_40 : decode cX7_crash 40 = .ok (.invokevirtual 213, 3) := dk_182 0 213 (dk_at dksX7_crash_1 16 rfl rfl)
theorem dX7_crash_43 : decode cX7_crash 43 = .ok (.aload_n 0, 1) := dk_42 (dk_at dksX7_crash_1 19 rfl rfl)
theorem dX7_crash_44 : decode cX7_crash 44 = .ok (.iload_n 1, 1) := dk_27 (dk_at dksX7_crash_1 20 rfl rfl)
theorem dX7_crash_45 : decode cX7_crash 45 = .ok (.iconst 3, 1) := dk_6 (dk_at dksX7_crash_1 21 rfl rfl)
theorem dX7_crash_46 : decode cX7_crash 46 = .ok (.iconst 0, 1) := dk_3 (dk_at dksX7_crash_1 22 rfl rfl)
theorem dX7_crash_47 : decode cX7_crash 47 = .ok (.invokevirtual 169, 3) := dk_182 0 169 (dk_at dksX7_crash_2 0 rfl rfl)
theorem dX7_crash_50 : decode cX7_crash 50 = .ok (.aload_n 0, 1) := dk_42 (dk_at dksX7_crash_2 3 rfl rfl)
theorem dX7_crash_51 : decode cX7_crash 51 = .ok (.iload_n 1, 1) := dk_27 (dk_at dksX7_crash_2 4 rfl rfl)
theorem dX7_crash_52 : decode cX7_crash 52 = .ok (.bipush 9, 2) := dk_16 9 (dk_at dksX7_crash_2 5 rfl rfl)
theorem dX7_crash_54 : decode cX7_crash 54 = .ok (.iconst (-1), 1) := dk_2 (dk_at dksX7_crash_2 7 rfl rfl)
theorem dX7_crash_55 : decode cX7_crash 55 = .ok (.invokevirtual 169, 3) := dk_182 0 169 (dk_at dksX7_crash_2 8 rfl rfl)
theorem dX7_crash_58 : decode cX7_crash 58 = .ok (.aload_n 0, 1) := dk_42 (dk_at dksX7_crash_2 11 rfl rfl)
theorem dX7_crash_59 : decode cX7_crash 59 = .ok (.iload_n 1, 1) := dk_27 (dk_at dksX7_crash_2 12 rfl rfl)
theorem dX7_crash_60 : decode cX7_crash 60 = .ok (.iconst 4, 1) := dk_7 (dk_at dksX7_crash_2 13 rfl rfl)
theorem dX7_crash_61 : decode cX7_crash 61 = .ok (.iconst 0, 1) := dk_3 (dk_at dksX7_crash_2 14 rfl rfl)
theorem dX7_crash_62 : decode cX7_crash 62 = .ok (.invokevirtual 169, 3) := dk_182 0 169 (dk_at dksX7_crash_2 15 rfl rfl)
theorem dX7_crash_65 : decode cX7_crash 65 = .ok (.aload_n 0, 1) := dk_42 (dk_at dksX7_crash_2 18 rfl rfl)
theorem dX7_crash_66 : decode cX7_crash 66 = .ok (.iload_n 1, 1) := dk_27 (dk_at dksX7_crash_2 19 rfl rfl)
theorem dX7_crash_67 : decode cX7_crash 67 = .ok (.iconst 5, 1) := dk_8 (dk_at dksX7_crash_2 20 rfl rfl)
theorem dX7_crash_68 : decode cX7_crash 68 = .ok (.iconst 0, 1) := dk_3 (dk_at dksX7_crash_2 21 rfl rfl)
theorem dX7_crash_69 : decode cX7_crash 69 = .ok (.invokevirtual 169, 3) := dk_182 0 169 (dk_at dksX7_crash_3 0 rfl rfl)
theorem dX7_crash_72 : decode cX7_crash 72 = .ok (.iload_n 2, 1) := dk_28 (dk_at dksX7_crash_3 3 rfl rfl)
theorem dX7_crash_73 : decode cX7_crash 73 = .ok (.ireturn, 1) := dk_172 (dk_at dksX7_crash_3 4 rfl rfl)
abbrev cX7_restart : ByteArray := prog_22_method_63_code
def yX7_restart : MethodName := ⟨RX7, "restart", "(I)Z"⟩
def dkwX7_restart_1 : List UInt8 := [182, 0, 169, 4, 172]
abbrev dktX7_restart_1 : List UInt8 := dkwX7_restart_1 ++ []
def dkwX7_restart_0 : List UInt8 := [42, 27, 182, 0, 172, 154, 0, 13, 42, 27, 6, 182, 0, 152, 4, 160, 0, 5, 3, 172, 42, 27, 6, 4]
abbrev dktX7_restart_0 : List UInt8 := dkwX7_restart_0 ++ dktX7_restart_1
theorem dksX7_restart_0 : cX7_restart.data.toList.drop 0 = dktX7_restart_0 := by decide +kernel
theorem dksX7_restart_1 : cX7_restart.data.toList.drop 24 = dktX7_restart_1 := dk_seg dksX7_restart_0 24 rfl rfl
theorem dX7_restart_0 : decode cX7_restart 0 = .ok (.aload_n 0, 1) := dk_42 (dk_at dksX7_restart_0 0 rfl rfl)
theorem dX7_restart_1 : decode cX7_restart 1 = .ok (.iload_n 1, 1) := dk_27 (dk_at dksX7_restart_0 1 rfl rfl)
theorem dX7_restart_2 : decode cX7_restart 2 = .ok (.invokevirtual 172, 3) := dk_182 0 172 (dk_at dksX7_restart_0 2 rfl rfl)
theorem dX7_restart_5 : decode cX7_restart 5 = .ok (.ifCond .ne 13, 3) := dk_154 0 13 (dk_at dksX7_restart_0 5 rfl rfl)
theorem dX7_restart_8 : decode cX7_restart 8 = .ok (.aload_n 0, 1) := dk_42 (dk_at dksX7_restart_0 8 rfl rfl)
theorem dX7_restart_9 : decode cX7_restart 9 = .ok (.iload_n 1, 1) := dk_27 (dk_at dksX7_restart_0 9 rfl rfl)
theorem dX7_restart_10 : decode cX7_restart 10 = .ok (.iconst 3, 1) := dk_6 (dk_at dksX7_restart_0 10 rfl rfl)
theorem dX7_restart_11 : decode cX7_restart 11 = .ok (.invokevirtual 152, 3) := dk_182 0 152 (dk_at dksX7_restart_0 11 rfl rfl)
theorem dX7_restart_14 : decode cX7_restart 14 = .ok (.iconst 1, 1) := dk_4 (dk_at dksX7_restart_0 14 rfl rfl)
theorem dX7_restart_15 : decode cX7_restart 15 = .ok (.if_icmp .ne 5, 3) := dk_160 0 5 (dk_at dksX7_restart_0 15 rfl rfl)
theorem dX7_restart_18 : decode cX7_restart 18 = .ok (.iconst 0, 1) := dk_3 (dk_at dksX7_restart_0 18 rfl rfl)
theorem dX7_restart_19 : decode cX7_restart 19 = .ok (.ireturn, 1) := dk_172 (dk_at dksX7_restart_0 19 rfl rfl)
theorem dX7_restart_20 : decode cX7_restart 20 = .ok (.aload_n 0, 1) := dk_42 (dk_at dksX7_restart_0 20 rfl rfl)
theorem dX7_restart_21 : decode cX7_restart 21 = .ok (.iload_n 1, 1) := dk_27 (dk_at dksX7_restart_0 21 rfl rfl)
theorem dX7_restart_22 : decode cX7_restart 22 = .ok (.iconst 3, 1) := dk_6 (dk_at dksX7_restart_0 22 rfl rfl)
theorem dX7_restart_23 : decode cX7_restart 23 = .ok (.iconst 1, 1) := dk_4 (dk_at dksX7_restart_0 23 rfl rfl)
theorem dX7_restart_24 : decode cX7_restart 24 = .ok (.invokevirtual 169, 3) := dk_182 0 169 (dk_at dksX7_restart_1 0 rfl rfl)
theorem dX7_restart_27 : decode cX7_restart 27 = .ok (.iconst 1, 1) := dk_4 (dk_at dksX7_restart_1 3 rfl rfl)
theorem dX7_restart_28 : decode cX7_restart 28 = .ok (.ireturn, 1) := dk_172 (dk_at dksX7_restart_1 4 rfl rfl)
abbrev cX7_pause : ByteArray := prog_22_method_64_code
def yX7_pause : MethodName := ⟨RX7, "pause", "(II)I"⟩
def dkwX7_pause_3 : List UInt8 := [42, 27, 7, 182, 0, 152, 172]
abbrev dktX7_pause_3 : List UInt8 := dkwX7_pause_3 ++ []
def dkwX7_pause_2 : List UInt8 := [172, 42, 27, 7, 42, 27, 7, 182, 0, 152, 42, 180, 0, 10, 3, 46, 28, 96, 184, 0, 166, 182, 0, 169]
abbrev dktX7_pause_2 : List UInt8 := dkwX7_pause_2 ++ dktX7_pause_3
def dkwX7_pause_1 : List UInt8 := [167, 0, 4, 3, 5, 182, 0, 72, 153, 0, 5, 3, 172, 42, 27, 6, 182, 0, 152, 154, 0, 6, 16, 253]
abbrev dktX7_pause_1 : List UInt8 := dkwX7_pause_1 ++ dktX7_pause_2
def dkwX7_pause_0 : List UInt8 := [42, 27, 182, 0, 172, 154, 0, 28, 42, 28, 133, 10, 20, 1, 30, 184, 0, 68, 154, 0, 7, 4]
abbrev dktX7_pause_0 : List UInt8 := dkwX7_pause_0 ++ dktX7_pause_1
theorem dksX7_pause_0 : cX7_pause.data.toList.drop 0 = dktX7_pause_0 := by decide +kernel
theorem dksX7_pause_1 : cX7_pause.data.toList.drop 22 = dktX7_pause_1 := dk_seg dksX7_pause_0 22 rfl rfl
theorem dksX7_pause_2 : cX7_pause.data.toList.drop 46 = dktX7_pause_2 := dk_seg dksX7_pause_1 24 rfl rfl
theorem dksX7_pause_3 : cX7_pause.data.toList.drop 70 = dktX7_pause_3 := dk_seg dksX7_pause_2 24 rfl rfl
theorem dX7_pause_0 : decode cX7_pause 0 = .ok (.aload_n 0, 1) := dk_42 (dk_at dksX7_pause_0 0 rfl rfl)
theorem dX7_pause_1 : decode cX7_pause 1 = .ok (.iload_n 1, 1) := dk_27 (dk_at dksX7_pause_0 1 rfl rfl)
theorem dX7_pause_2 : decode cX7_pause 2 = .ok (.invokevirtual 172, 3) := dk_182 0 172 (dk_at dksX7_pause_0 2 rfl rfl)
theorem dX7_pause_5 : decode cX7_pause 5 = .ok (.ifCond .ne 28, 3) := dk_154 0 28 (dk_at dksX7_pause_0 5 rfl rfl)
theorem dX7_pause_8 : decode cX7_pause 8 = .ok (.aload_n 0, 1) := dk_42 (dk_at dksX7_pause_0 8 rfl rfl)
theorem dX7_pause_9 : decode cX7_pause 9 = .ok (.iload_n 2, 1) := dk_28 (dk_at dksX7_pause_0 9 rfl rfl)
theorem dX7_pause_10 : decode cX7_pause 10 = .ok (.i2l, 1) := dk_133 (dk_at dksX7_pause_0 10 rfl rfl)
theorem dX7_pause_11 : decode cX7_pause 11 = .ok (.lconst 1, 1) := dk_10 (dk_at dksX7_pause_0 11 rfl rfl)
theorem dX7_pause_12 : decode cX7_pause 12 = .ok (.ldc2_w 286, 3) := dk_20 1 30 (dk_at dksX7_pause_0 12 rfl rfl)
theorem dX7_pause_15 : decode cX7_pause 15 = .ok (.invokestatic 68, 3) := dk_184 0 68 (dk_at dksX7_pause_0 15 rfl rfl)
theorem dX7_pause_18 : decode cX7_pause 18 = .ok (.ifCond .ne 7, 3) := dk_154 0 7 (dk_at dksX7_pause_0 18 rfl rfl)
theorem dX7_pause_21 : decode cX7_pause 21 = .ok (.iconst 1, 1) := dk_4 (dk_at dksX7_pause_0 21 rfl rfl)
theorem dX7_pause_22 : decode cX7_pause 22 = .ok (.goto 4, 3) := dk_167 0 4 (dk_at dksX7_pause_1 0 rfl rfl)
theorem dX7_pause_25 : decode cX7_pause 25 = .ok (.iconst 0, 1) := dk_3 (dk_at dksX7_pause_1 3 rfl rfl)
theorem dX7_pause_26 : decode cX7_pause 26 = .ok (.iconst 2, 1) := dk_5 (dk_at dksX7_pause_1 4 rfl rfl)
theorem dX7_pause_27 : decode cX7_pause 27 = .ok (.invokevirtual 72, 3) := dk_182 0 72 (dk_at dksX7_pause_1 5 rfl rfl)
theorem dX7_pause_30 : decode cX7_pause 30 = .ok (.ifCond .eq 5, 3) := dk_153 0 5 (dk_at dksX7_pause_1 8 rfl rfl)
theorem dX7_pause_33 : decode cX7_pause 33 = .ok (.iconst 0, 1) := dk_3 (dk_at dksX7_pause_1 11 rfl rfl)
theorem dX7_pause_34 : decode cX7_pause 34 = .ok (.ireturn, 1) := dk_172 (dk_at dksX7_pause_1 12 rfl rfl)
theorem dX7_pause_35 : decode cX7_pause 35 = .ok (.aload_n 0, 1) := dk_42 (dk_at dksX7_pause_1 13 rfl rfl)
theorem dX7_pause_36 : decode cX7_pause 36 = .ok (.iload_n 1, 1) := dk_27 (dk_at dksX7_pause_1 14 rfl rfl)
theorem dX7_pause_37 : decode cX7_pause 37 = .ok (.iconst 3, 1) := dk_6 (dk_at dksX7_pause_1 15 rfl rfl)
theorem dX7_pause_38 : decode cX7_pause 38 = .ok (.invokevirtual 152, 3) := dk_182 0 152 (dk_at dksX7_pause_1 16 rfl rfl)
theorem dX7_pause_41 : decode cX7_pause 41 = .ok (.ifCond .ne 6, 3) := dk_154 0 6 (dk_at dksX7_pause_1 19 rfl rfl)
theorem dX7_pause_44 : decode cX7_pause 44 = .ok (.bipush (-3), 2) := dk_16 253 (dk_at dksX7_pause_1 22 rfl rfl)
theorem dX7_pause_46 : decode cX7_pause 46 = .ok (.ireturn, 1) := dk_172 (dk_at dksX7_pause_2 0 rfl rfl)
theorem dX7_pause_47 : decode cX7_pause 47 = .ok (.aload_n 0, 1) := dk_42 (dk_at dksX7_pause_2 1 rfl rfl)
theorem dX7_pause_48 : decode cX7_pause 48 = .ok (.iload_n 1, 1) := dk_27 (dk_at dksX7_pause_2 2 rfl rfl)
theorem dX7_pause_49 : decode cX7_pause 49 = .ok (.iconst 4, 1) := dk_7 (dk_at dksX7_pause_2 3 rfl rfl)
theorem dX7_pause_50 : decode cX7_pause 50 = .ok (.aload_n 0, 1) := dk_42 (dk_at dksX7_pause_2 4 rfl rfl)
theorem dX7_pause_51 : decode cX7_pause 51 = .ok (.iload_n 1, 1) := dk_27 (dk_at dksX7_pause_2 5 rfl rfl)
theorem dX7_pause_52 : decode cX7_pause 52 = .ok (.iconst 4, 1) := dk_7 (dk_at dksX7_pause_2 6 rfl rfl)
theorem dX7_pause_53 : decode cX7_pause 53 = .ok (.invokevirtual 152, 3) := dk_182 0 152 (dk_at dksX7_pause_2 7 rfl rfl)
theorem dX7_pause_56 : decode cX7_pause 56 = .ok (.aload_n 0, 1) := dk_42 (dk_at dksX7_pause_2 10 rfl rfl)
theorem dX7_pause_57 : decode cX7_pause 57 = .ok (.getfield 10, 3) := dk_180 0 10 (dk_at dksX7_pause_2 11 rfl rfl)
theorem dX7_pause_60 : decode cX7_pause 60 = .ok (.iconst 0, 1) := dk_3 (dk_at dksX7_pause_2 14 rfl rfl)
theorem dX7_pause_61 : decode cX7_pause 61 = .ok (.iaload, 1) := dk_46 (dk_at dksX7_pause_2 15 rfl rfl)
theorem dX7_pause_62 : decode cX7_pause 62 = .ok (.iload_n 2, 1) := dk_28 (dk_at dksX7_pause_2 16 rfl rfl)
theorem dX7_pause_63 : decode cX7_pause 63 = .ok (.iadd, 1) := dk_96 (dk_at dksX7_pause_2 17 rfl rfl)
theorem dX7_pause_64 : decode cX7_pause 64 = .ok (.invokestatic 166, 3) := dk_184 0 166 (dk_at dksX7_pause_2 18 rfl rfl)
theorem dX7_pause_67 : decode cX7_pause 67 = .ok (.invokevirtual 169, 3) := dk_182 0 169 (dk_at dksX7_pause_2 21 rfl rfl)
theorem dX7_pause_70 : decode cX7_pause 70 = .ok (.aload_n 0, 1) := dk_42 (dk_at dksX7_pause_3 0 rfl rfl)
theorem dX7_pause_71 : decode cX7_pause 71 = .ok (.iload_n 1, 1) := dk_27 (dk_at dksX7_pause_3 1 rfl rfl)
theorem dX7_pause_72 : decode cX7_pause 72 = .ok (.iconst 4, 1) := dk_7 (dk_at dksX7_pause_3 2 rfl rfl)
theorem dX7_pause_73 : decode cX7_pause 73 = .ok (.invokevirtual 152, 3) := dk_182 0 152 (dk_at dksX7_pause_3 3 rfl rfl)
theorem dX7_pause_76 : decode cX7_pause 76 = .ok (.ireturn, 1) := dk_172 (dk_at dksX7_pause_3 6 rfl rfl)
abbrev cX7_setCut : ByteArray := prog_22_method_65_code
def yX7_setCut : MethodName := ⟨RX7, "setCut", "(IZ)Z"⟩
def dkwX7_setCut_1 : List UInt8 := [167, 0, 4, 3, 62, 42, 27, 16, 6, 28, 153, 0, 7, 4, 167, 0, 4, 3, 182, 0, 169, 29, 172]
abbrev dktX7_setCut_1 : List UInt8 := dkwX7_setCut_1 ++ []
def dkwX7_setCut_0 : List UInt8 := [42, 27, 182, 0, 172, 153, 0, 5, 3, 172, 42, 27, 16, 6, 182, 0, 152, 4, 160, 0, 7, 4]
abbrev dktX7_setCut_0 : List UInt8 := dkwX7_setCut_0 ++ dktX7_setCut_1
theorem dksX7_setCut_0 : cX7_setCut.data.toList.drop 0 = dktX7_setCut_0 := by decide +kernel
theorem dksX7_setCut_1 : cX7_setCut.data.toList.drop 22 = dktX7_setCut_1 := dk_seg dksX7_setCut_0 22 rfl rfl
theorem dX7_setCut_0 : decode cX7_setCut 0 = .ok (.aload_n 0, 1) := dk_42 (dk_at dksX7_setCut_0 0 rfl rfl)
theorem dX7_setCut_1 : decode cX7_setCut 1 = .ok (.iload_n 1, 1) := dk_27 (dk_at dksX7_setCut_0 1 rfl rfl)
theorem dX7_setCut_2 : decode cX7_setCut 2 = .ok (.invokevirtual 172, 3) := dk_182 0 172 (dk_at dksX7_setCut_0 2 rfl rfl)
theorem dX7_setCut_5 : decode cX7_setCut 5 = .ok (.ifCond .eq 5, 3) := dk_153 0 5 (dk_at dksX7_setCut_0 5 rfl rfl)
theorem dX7_setCut_8 : decode cX7_setCut 8 = .ok (.iconst 0, 1) := dk_3 (dk_at dksX7_setCut_0 8 rfl rfl)
theorem dX7_setCut_9 : decode cX7_setCut 9 = .ok (.ireturn, 1) := dk_172 (dk_at dksX7_setCut_0 9 rfl rfl)
theorem dX7_setCut_10 : decode cX7_setCut 10 = .ok (.aload_n 0, 1) := dk_42 (dk_at dksX7_setCut_0 10 rfl rfl)
theorem dX7_setCut_11 : decode cX7_setCut 11 = .ok (.iload_n 1, 1) := dk_27 (dk_at dksX7_setCut_0 11 rfl rfl)
theorem dX7_setCut_12 : decode cX7_setCut 12 = .ok (.bipush 6, 2) := dk_16 6 (dk_at dksX7_setCut_0 12 rfl rfl)
theorem dX7_setCut_14 : decode cX7_setCut 14 = .ok (.invokevirtual 152, 3) := dk_182 0 152 (dk_at dksX7_setCut_0 14 rfl rfl)
theorem dX7_setCut_17 : decode cX7_setCut 17 = .ok (.iconst 1, 1) := dk_4 (dk_at dksX7_setCut_0 17 rfl rfl)
theorem dX7_setCut_18 : decode cX7_setCut 18 = .ok (.if_icmp .ne 7, 3) := dk_160 0 7 (dk_at dksX7_setCut_0 18 rfl rfl)
theorem dX7_setCut_21 : decode cX7_setCut 21 = .ok (.iconst 1, 1) := dk_4 (dk_at dksX7_setCut_0 21 rfl rfl)
theorem dX7_setCut_22 : decode cX7_setCut 22 = .ok (.goto 4, 3) := dk_167 0 4 (dk_at dksX7_setCut_1 0 rfl rfl)
theorem dX7_setCut_25 : decode cX7_setCut 25 = .ok (.iconst 0, 1) := dk_3 (dk_at dksX7_setCut_1 3 rfl rfl)
theorem dX7_setCut_26 : decode cX7_setCut 26 = .ok (.istore_n 3, 1) := dk_62 (dk_at dksX7_setCut_1 4 rfl rfl)
theorem dX7_setCut_27 : decode cX7_setCut 27 = .ok (.aload_n 0, 1) := dk_42 (dk_at dksX7_setCut_1 5 rfl rfl)
theorem dX7_setCut_28 : decode cX7_setCut 28 = .ok (.iload_n 1, 1) := dk_27 (dk_at dksX7_setCut_1 6 rfl rfl)
theorem dX7_setCut_29 : decode cX7_setCut 29 = .ok (.bipush 6, 2) := dk_16 6 (dk_at dksX7_setCut_1 7 rfl rfl)
theorem dX7_setCut_31 : decode cX7_setCut 31 = .ok (.iload_n 2, 1) := dk_28 (dk_at dksX7_setCut_1 9 rfl rfl)
theorem dX7_setCut_32 : decode cX7_setCut 32 = .ok (.ifCond .eq 7, 3) := dk_153 0 7 (dk_at dksX7_setCut_1 10 rfl rfl)
theorem dX7_setCut_35 : decode cX7_setCut 35 = .ok (.iconst 1, 1) := dk_4 (dk_at dksX7_setCut_1 13 rfl rfl)
theorem dX7_setCut_36 : decode cX7_setCut 36 = .ok (.goto 4, 3) := dk_167 0 4 (dk_at dksX7_setCut_1 14 rfl rfl)
theorem dX7_setCut_39 : decode cX7_setCut 39 = .ok (.iconst 0, 1) := dk_3 (dk_at dksX7_setCut_1 17 rfl rfl)
theorem dX7_setCut_40 : decode cX7_setCut 40 = .ok (.invokevirtual 169, 3) := dk_182 0 169 (dk_at dksX7_setCut_1 18 rfl rfl)
theorem dX7_setCut_43 : decode cX7_setCut 43 = .ok (.iload_n 3, 1) := dk_29 (dk_at dksX7_setCut_1 21 rfl rfl)
theorem dX7_setCut_44 : decode cX7_setCut 44 = .ok (.ireturn, 1) := dk_172 (dk_at dksX7_setCut_1 22 rfl rfl)
abbrev cX7_planOutage : ByteArray := prog_22_method_66_code
def yX7_planOutage : MethodName := ⟨RX7, "planOutage", "(III)I"⟩
def dkwX7_planOutage_5 : List UInt8 := [42, 180, 0, 10, 16, 35, 92, 46, 4, 96, 79, 42, 180, 0, 10, 21, 4, 4, 96, 46, 172]
abbrev dktX7_planOutage_5 : List UInt8 := dkwX7_planOutage_5 ++ []
def dkwX7_planOutage_4 : List UInt8 := [21, 4, 4, 96, 42, 180, 0, 10, 21, 4, 46, 29, 96, 79, 42, 180, 0, 10, 21, 4, 5, 96, 27, 79]
abbrev dktX7_planOutage_4 : List UInt8 := dkwX7_planOutage_4 ++ dktX7_planOutage_5
def dkwX7_planOutage_3 : List UInt8 := [46, 104, 96, 54, 4, 42, 180, 0, 10, 21, 4, 42, 180, 0, 10, 3, 46, 28, 96, 79, 42, 180, 0, 10]
abbrev dktX7_planOutage_3 : List UInt8 := dkwX7_planOutage_3 ++ dktX7_planOutage_4
def dkwX7_planOutage_2 : List UInt8 := [180, 0, 10, 16, 35, 46, 16, 20, 160, 0, 6, 16, 251, 172, 17, 0, 176, 6, 42, 180, 0, 10, 16, 35]
abbrev dktX7_planOutage_2 : List UInt8 := dkwX7_planOutage_2 ++ dktX7_planOutage_3
def dkwX7_planOutage_1 : List UInt8 := [20, 1, 30, 184, 0, 68, 154, 0, 7, 4, 167, 0, 4, 3, 5, 182, 0, 72, 153, 0, 5, 3, 172, 42]
abbrev dktX7_planOutage_1 : List UInt8 := dkwX7_planOutage_1 ++ dktX7_planOutage_2
def dkwX7_planOutage_0 : List UInt8 := [42, 27, 182, 0, 172, 154, 0, 40, 42, 28, 133, 10, 20, 1, 30, 184, 0, 68, 153, 0, 15, 29, 133, 10]
abbrev dktX7_planOutage_0 : List UInt8 := dkwX7_planOutage_0 ++ dktX7_planOutage_1
theorem dksX7_planOutage_0 : cX7_planOutage.data.toList.drop 0 = dktX7_planOutage_0 := by decide +kernel
theorem dksX7_planOutage_1 : cX7_planOutage.data.toList.drop 24 = dktX7_planOutage_1 := dk_seg dksX7_planOutage_0 24 rfl rfl
theorem dksX7_planOutage_2 : cX7_planOutage.data.toList.drop 48 = dktX7_planOutage_2 := dk_seg dksX7_planOutage_1 24 rfl rfl
theorem dksX7_planOutage_3 : cX7_planOutage.data.toList.drop 72 = dktX7_planOutage_3 := dk_seg dksX7_planOutage_2 24 rfl rfl
theorem dksX7_planOutage_4 : cX7_planOutage.data.toList.drop 96 = dktX7_planOutage_4 := dk_seg dksX7_planOutage_3 24 rfl rfl
theorem dksX7_planOutage_5 : cX7_planOutage.data.toList.drop 120 = dktX7_planOutage_5 := dk_seg dksX7_planOutage_4 24 rfl rfl
theorem dX7_planOutage_0 : decode cX7_planOutage 0 = .ok (.aload_n 0, 1) := dk_42 (dk_at dksX7_planOutage_0 0 rfl rfl)
theorem dX7_planOutage_1 : decode cX7_planOutage 1 = .ok (.iload_n 1, 1) := dk_27 (dk_at dksX7_planOutage_0 1 rfl rfl)
theorem dX7_planOutage_2 : decode cX7_planOutage 2 = .ok (.invokevirtual 172, 3) := dk_182 0 172 (dk_at dksX7_planOutage_0 2 rfl rfl)
theorem dX7_planOutage_5 : decode cX7_planOutage 5 = .ok (.ifCond .ne 40, 3) := dk_154 0 40 (dk_at dksX7_planOutage_0 5 rfl rfl)
theorem dX7_planOutage_8 : decode cX7_planOutage 8 = .ok (.aload_n 0, 1) := dk_42 (dk_at dksX7_planOutage_0 8 rfl rfl)
theorem dX7_planOutage_9 : decode cX7_planOutage 9 = .ok (.iload_n 2, 1) := dk_28 (dk_at dksX7_planOutage_0 9 rfl rfl)
theorem dX7_planOutage_10 : decode cX7_planOutage 10 = .ok (.i2l, 1) := dk_133 (dk_at dksX7_planOutage_0 10 rfl rfl)
theorem dX7_planOutage_11 : decode cX7_planOutage 11 = .ok (.lconst 1, 1) := dk_10 (dk_at dksX7_planOutage_0 11 rfl rfl)
theorem dX7_planOutage_12 : decode cX7_planOutage 12 = .ok (.ldc2_w 286, 3) := dk_20 1 30 (dk_at dksX7_planOutage_0 12 rfl rfl)
theorem dX7_planOutage_15 : decode cX7_planOutage 15 = .ok (.invokestatic 68, 3) := dk_184 0 68 (dk_at dksX7_planOutage_0 15 rfl rfl)
theorem dX7_planOutage_18 : decode cX7_planOutage 18 = .ok (.ifCond .eq 15, 3) := dk_153 0 15 (dk_at dksX7_planOutage_0 18 rfl rfl)
theorem dX7_planOutage_21 : decode cX7_planOutage 21 = .ok (.iload_n 3, 1) := dk_29 (dk_at dksX7_planOutage_0 21 rfl rfl)
theorem dX7_planOutage_22 : decode cX7_planOutage 22 = .ok (.i2l, 1) := dk_133 (dk_at dksX7_planOutage_0 22 rfl rfl)
theorem dX7_planOutage_23 : decode cX7_planOutage 23 = .ok (.lconst 1, 1) := dk_10 (dk_at dksX7_planOutage_0 23 rfl rfl)
theorem dX7_planOutage_24 : decode cX7_planOutage 24 = .ok (.ldc2_w 286, 3) := dk_20 1 30 (dk_at dksX7_planOutage_1 0 rfl rfl)
theorem dX7_planOutage_27 : decode cX7_planOutage 27 = .ok (.invokestatic 68, 3) := dk_184 0 68 (dk_at dksX7_planOutage_1 3 rfl rfl)
theorem dX7_planOutage_30 : decode cX7_planOutage 30 = .ok (.ifCond .ne 7, 3) := dk_154 0 7 (dk_at dksX7_planOutage_1 6 rfl rfl)
theorem dX7_planOutage_33 : decode cX7_planOutage 33 = .ok (.iconst 1, 1) := dk_4 (dk_at dksX7_planOutage_1 9 rfl rfl)
theorem dX7_planOutage_34 : decode cX7_planOutage 34 = .ok (.goto 4, 3) := dk_167 0 4 (dk_at dksX7_planOutage_1 10 rfl rfl)
theorem dX7_planOutage_37 : decode cX7_planOutage 37 = .ok (.iconst 0, 1) := dk_3 (dk_at dksX7_planOutage_1 13 rfl rfl)
theorem dX7_planOutage_38 : decode cX7_planOutage 38 = .ok (.iconst 2, 1) := dk_5 (dk_at dksX7_planOutage_1 14 rfl rfl)
theorem dX7_planOutage_39 : decode cX7_planOutage 39 = .ok (.invokevirtual 72, 3) := dk_182 0 72 (dk_at dksX7_planOutage_1 15 rfl rfl)
theorem dX7_planOutage_42 : decode cX7_planOutage 42 = .ok (.ifCond .eq 5, 3) := dk_153 0 5 (dk_at dksX7_planOutage_1 18 rfl rfl)
theorem dX7_planOutage_45 : decode cX7_planOutage 45 = .ok (.iconst 0, 1) := dk_3 (dk_at dksX7_planOutage_1 21 rfl rfl)
theorem dX7_planOutage_46 : decode cX7_planOutage 46 = .ok (.ireturn, 1) := dk_172 (dk_at dksX7_planOutage_1 22 rfl rfl)
theorem dX7_planOutage_47 : decode cX7_planOutage 47 = .ok (.aload_n 0, 1) := dk_42 (dk_at dksX7_planOutage_1 23 rfl rfl)
theorem dX7_planOutage_48 : decode cX7_planOutage 48 = .ok (.getfield 10, 3) := dk_180 0 10 (dk_at dksX7_planOutage_2 0 rfl rfl)
theorem dX7_planOutage_51 : decode cX7_planOutage 51 = .ok (.bipush 35, 2) := dk_16 35 (dk_at dksX7_planOutage_2 3 rfl rfl)
theorem dX7_planOutage_53 : decode cX7_planOutage 53 = .ok (.iaload, 1) := dk_46 (dk_at dksX7_planOutage_2 5 rfl rfl)
theorem dX7_planOutage_54 : decode cX7_planOutage 54 = .ok (.bipush 20, 2) := dk_16 20 (dk_at dksX7_planOutage_2 6 rfl rfl)
theorem dX7_planOutage_56 : decode cX7_planOutage 56 = .ok (.if_icmp .ne 6, 3) := dk_160 0 6 (dk_at dksX7_planOutage_2 8 rfl rfl)
theorem dX7_planOutage_59 : decode cX7_planOutage 59 = .ok (.bipush (-5), 2) := dk_16 251 (dk_at dksX7_planOutage_2 11 rfl rfl)
theorem dX7_planOutage_61 : decode cX7_planOutage 61 = .ok (.ireturn, 1) := dk_172 (dk_at dksX7_planOutage_2 13 rfl rfl)
theorem dX7_planOutage_62 : decode cX7_planOutage 62 = .ok (.sipush 176, 3) := dk_17 0 176 (dk_at dksX7_planOutage_2 14 rfl rfl)
theorem dX7_planOutage_65 : decode cX7_planOutage 65 = .ok (.iconst 3, 1) := dk_6 (dk_at dksX7_planOutage_2 17 rfl rfl)
theorem dX7_planOutage_66 : decode cX7_planOutage 66 = .ok (.aload_n 0, 1) := dk_42 (dk_at dksX7_planOutage_2 18 rfl rfl)
theorem dX7_planOutage_67 : decode cX7_planOutage 67 = .ok (.getfield 10, 3) := dk_180 0 10 (dk_at dksX7_planOutage_2 19 rfl rfl)
theorem dX7_planOutage_70 : decode cX7_planOutage 70 = .ok (.bipush 35, 2) := dk_16 35 (dk_at dksX7_planOutage_2 22 rfl rfl)
theorem dX7_planOutage_72 : decode cX7_planOutage 72 = .ok (.iaload, 1) := dk_46 (dk_at dksX7_planOutage_3 0 rfl rfl)
theorem dX7_planOutage_73 : decode cX7_planOutage 73 = .ok (.imul, 1) := dk_104 (dk_at dksX7_planOutage_3 1 rfl rfl)
theorem dX7_planOutage_74 : decode cX7_planOutage 74 = .ok (.iadd, 1) := dk_96 (dk_at dksX7_planOutage_3 2 rfl rfl)
theorem dX7_planOutage_75 : decode cX7_planOutage 75 = .ok (.istore 4, 2) := dk_54 4 (dk_at dksX7_planOutage_3 3 rfl rfl)
theorem dX7_planOutage_77 : decode cX7_planOutage 77 = .ok (.aload_n 0, 1) := dk_42 (dk_at dksX7_planOutage_3 5 rfl rfl)
theorem dX7_planOutage_78 : decode cX7_planOutage 78 = .ok (.getfield 10, 3) := dk_180 0 10 (dk_at dksX7_planOutage_3 6 rfl rfl)
theorem dX7_planOutage_81 : decode cX7_planOutage 81 = .ok (.iload 4, 2) := dk_21 4 (dk_at dksX7_planOutage_3 9 rfl rfl)
theorem dX7_planOutage_83 : decode cX7_planOutage 83 = .ok (.aload_n 0, 1) := dk_42 (dk_at dksX7_planOutage_3 11 rfl rfl)
theorem dX7_planOutage_84 : decode cX7_planOutage 84 = .ok (.getfield 10, 3) := dk_180 0 10 (dk_at dksX7_planOutage_3 12 rfl rfl)
theorem dX7_planOutage_87 : decode cX7_planOutage 87 = .ok (.iconst 0, 1) := dk_3 (dk_at dksX7_planOutage_3 15 rfl rfl)
theorem dX7_planOutage_88 : decode cX7_planOutage 88 = .ok (.iaload, 1) := dk_46 (dk_at dksX7_planOutage_3 16 rfl rfl)
theorem dX7_planOutage_89 : decode cX7_planOutage 89 = .ok (.iload_n 2, 1) := dk_28 (dk_at dksX7_planOutage_3 17 rfl rfl)
theorem dX7_planOutage_90 : decode cX7_planOutage 90 = .ok (.iadd, 1) := dk_96 (dk_at dksX7_planOutage_3 18 rfl rfl)
theorem dX7_planOutage_91 : decode cX7_planOutage 91 = .ok (.iastore, 1) := dk_79 (dk_at dksX7_planOutage_3 19 rfl rfl)
theorem dX7_planOutage_92 : decode cX7_planOutage 92 = .ok (.aload_n 0, 1) := dk_42 (dk_at dksX7_planOutage_3 20 rfl rfl)
theorem dX7_planOutage_93 : decode cX7_planOutage 93 = .ok (.getfield 10, 3) := dk_180 0 10 (dk_at dksX7_planOutage_3 21 rfl rfl)
theorem dX7_planOutage_96 : decode cX7_planOutage 96 = .ok (.iload 4, 2) := dk_21 4 (dk_at dksX7_planOutage_4 0 rfl rfl)
theorem dX7_planOutage_98 : decode cX7_planOutage 98 = .ok (.iconst 1, 1) := dk_4 (dk_at dksX7_planOutage_4 2 rfl rfl)
theorem dX7_planOutage_99 : decode cX7_planOutage 99 = .ok (.iadd, 1) := dk_96 (dk_at dksX7_planOutage_4 3 rfl rfl)
theorem dX7_planOutage_100 : decode cX7_planOutage 100 = .ok (.aload_n 0, 1) := dk_42 (dk_at dksX7_planOutage_4 4 rfl rfl)
theorem dX7_planOutage_101 : decode cX7_planOutage 101 = .ok (.getfield 10, 3) := dk_180 0 10 (dk_at dksX7_planOutage_4 5 rfl rfl)
theorem dX7_planOutage_104 : decode cX7_planOutage 104 = .ok (.iload 4, 2) := dk_21 4 (dk_at dksX7_planOutage_4 8 rfl rfl)
theorem dX7_planOutage_106 : decode cX7_planOutage 106 = .ok (.iaload, 1) := dk_46 (dk_at dksX7_planOutage_4 10 rfl rfl)
theorem dX7_planOutage_107 : decode cX7_planOutage 107 = .ok (.iload_n 3, 1) := dk_29 (dk_at dksX7_planOutage_4 11 rfl rfl)
theorem dX7_planOutage_108 : decode cX7_planOutage 108 = .ok (.iadd, 1) := dk_96 (dk_at dksX7_planOutage_4 12 rfl rfl)
theorem dX7_planOutage_109 : decode cX7_planOutage 109 = .ok (.iastore, 1) := dk_79 (dk_at dksX7_planOutage_4 13 rfl rfl)
theorem dX7_planOutage_110 : decode cX7_planOutage 110 = .ok (.aload_n 0, 1) := dk_42 (dk_at dksX7_planOutage_4 14 rfl rfl)
theorem dX7_planOutage_111 : decode cX7_planOutage 111 = .ok (.getfield 10, 3) := dk_180 0 10 (dk_at dksX7_planOutage_4 15 rfl rfl)
theorem dX7_planOutage_114 : decode cX7_planOutage 114 = .ok (.iload 4, 2) := dk_21 4 (dk_at dksX7_planOutage_4 18 rfl rfl)
theorem dX7_planOutage_116 : decode cX7_planOutage 116 = .ok (.iconst 2, 1) := dk_5 (dk_at dksX7_planOutage_4 20 rfl rfl)
theorem dX7_planOutage_117 : decode cX7_planOutage 117 = .ok (.iadd, 1) := dk_96 (dk_at dksX7_planOutage_4 21 rfl rfl)
theorem dX7_planOutage_118 : decode cX7_planOutage 118 = .ok (.iload_n 1, 1) := dk_27 (dk_at dksX7_planOutage_4 22 rfl rfl)
theorem dX7_planOutage_119 : decode cX7_planOutage 119 = .ok (.iastore, 1) := dk_79 (dk_at dksX7_planOutage_4 23 rfl rfl)
theorem dX7_planOutage_120 : decode cX7_planOutage 120 = .ok (.aload_n 0, 1) := dk_42 (dk_at dksX7_planOutage_5 0 rfl rfl)
theorem dX7_planOutage_121 : decode cX7_planOutage 121 = .ok (.getfield 10, 3) := dk_180 0 10 (dk_at dksX7_planOutage_5 1 rfl rfl)
theorem dX7_planOutage_124 : decode cX7_planOutage 124 = .ok (.bipush 35, 2) := dk_16 35 (dk_at dksX7_planOutage_5 4 rfl rfl)
theorem dX7_planOutage_126 : decode cX7_planOutage 126 = .ok (.dup2, 1) := dk_92 (dk_at dksX7_planOutage_5 6 rfl rfl)
theorem dX7_planOutage_127 : decode cX7_planOutage 127 = .ok (.iaload, 1) := dk_46 (dk_at dksX7_planOutage_5 7 rfl rfl)
theorem dX7_planOutage_128 : decode cX7_planOutage 128 = .ok (.iconst 1, 1) := dk_4 (dk_at dksX7_planOutage_5 8 rfl rfl)
theorem dX7_planOutage_129 : decode cX7_planOutage 129 = .ok (.iadd, 1) := dk_96 (dk_at dksX7_planOutage_5 9 rfl rfl)
theorem dX7_planOutage_130 : decode cX7_planOutage 130 = .ok (.iastore, 1) := dk_79 (dk_at dksX7_planOutage_5 10 rfl rfl)
theorem dX7_planOutage_131 : decode cX7_planOutage 131 = .ok (.aload_n 0, 1) := dk_42 (dk_at dksX7_planOutage_5 11 rfl rfl)
theorem dX7_planOutage_132 : decode cX7_planOutage 132 = .ok (.getfield 10, 3) := dk_180 0 10 (dk_at dksX7_planOutage_5 12 rfl rfl)
theorem dX7_planOutage_135 : decode cX7_planOutage 135 = .ok (.iload 4, 2) := dk_21 4 (dk_at dksX7_planOutage_5 15 rfl rfl)
theorem dX7_planOutage_137 : decode cX7_planOutage 137 = .ok (.iconst 1, 1) := dk_4 (dk_at dksX7_planOutage_5 17 rfl rfl)
theorem dX7_planOutage_138 : decode cX7_planOutage 138 = .ok (.iadd, 1) := dk_96 (dk_at dksX7_planOutage_5 18 rfl rfl)
theorem dX7_planOutage_139 : decode cX7_planOutage 139 = .ok (.iaload, 1) := dk_46 (dk_at dksX7_planOutage_5 19 rfl rfl)
theorem dX7_planOutage_140 : decode cX7_planOutage 140 = .ok (.ireturn, 1) := dk_172 (dk_at dksX7_planOutage_5 20 rfl rfl)
abbrev cX7_restartServer : ByteArray := prog_22_method_67_code
def yX7_restartServer : MethodName := ⟨RX7, "restartServer", "()I"⟩
def dkwX7_restartServer_2 : List UInt8 := [180, 0, 10, 16, 13, 46, 172]
abbrev dktX7_restartServer_2 : List UInt8 := dkwX7_restartServer_2 ++ []
def dkwX7_restartServer_1 : List UInt8 := [42, 180, 0, 10, 8, 46, 96, 79, 42, 16, 8, 2, 42, 180, 0, 10, 16, 12, 46, 182, 0, 219, 42]
abbrev dktX7_restartServer_1 : List UInt8 := dkwX7_restartServer_1 ++ dktX7_restartServer_2
def dkwX7_restartServer_0 : List UInt8 := [42, 3, 181, 0, 65, 42, 180, 0, 10, 16, 10, 16, 252, 79, 42, 180, 0, 10, 16, 13, 42, 182, 0, 176]
abbrev dktX7_restartServer_0 : List UInt8 := dkwX7_restartServer_0 ++ dktX7_restartServer_1
theorem dksX7_restartServer_0 : cX7_restartServer.data.toList.drop 0 = dktX7_restartServer_0 := by decide +kernel
theorem dksX7_restartServer_1 : cX7_restartServer.data.toList.drop 24 = dktX7_restartServer_1 := dk_seg dksX7_restartServer_0 24 rfl rfl
theorem dksX7_restartServer_2 : cX7_restartServer.data.toList.drop 47 = dktX7_restartServer_2 := dk_seg dksX7_restartServer_1 23 rfl rfl
theorem dX7_restartServer_0 : decode cX7_restartServer 0 = .ok (.aload_n 0, 1) := dk_42 (dk_at dksX7_restartServer_0 0 rfl rfl)
theorem dX7_restartServer_1 : decode cX7_restartServer 1 = .ok (.iconst 0, 1) := dk_3 (dk_at dksX7_restartServer_0 1 rfl rfl)
theorem dX7_restartServer_2 : decode cX7_restartServer 2 = .ok (.putfield 65, 3) := dk_181 0 65 (dk_at dksX7_restartServer_0 2 rfl rfl)
theorem dX7_restartServer_5 : decode cX7_restartServer 5 = .ok (.aload_n 0, 1) := dk_42 (dk_at dksX7_restartServer_0 5 rfl rfl)
theorem dX7_restartServer_6 : decode cX7_restartServer 6 = .ok (.getfield 10, 3) := dk_180 0 10 (dk_at dksX7_restartServer_0 6 rfl rfl)
theorem dX7_restartServer_9 : decode cX7_restartServer 9 = .ok (.bipush 10, 2) := dk_16 10 (dk_at dksX7_restartServer_0 9 rfl rfl)
theorem dX7_restartServer_11 : decode cX7_restartServer 11 = .ok (.bipush (-4), 2) := dk_16 252 (dk_at dksX7_restartServer_0 11 rfl rfl)
theorem dX7_restartServer_13 : decode cX7_restartServer 13 = .ok (.iastore, 1) := dk_79 (dk_at dksX7_restartServer_0 13 rfl rfl)
theorem dX7_restartServer_14 : decode cX7_restartServer 14 = .ok (.aload_n 0, 1) := dk_42 (dk_at dksX7_restartServer_0 14 rfl rfl)
theorem dX7_restartServer_15 : decode cX7_restartServer 15 = .ok (.getfield 10, 3) := dk_180 0 10 (dk_at dksX7_restartServer_0 15 rfl rfl)
theorem dX7_restartServer_18 : decode cX7_restartServer 18 = .ok (.bipush 13, 2) := dk_16 13 (dk_at dksX7_restartServer_0 18 rfl rfl)
theorem dX7_restartServer_20 : decode cX7_restartServer 20 = .ok (.aload_n 0, 1) := dk_42 (dk_at dksX7_restartServer_0 20 rfl rfl)
theorem dX7_restartServer_21 : decode cX7_restartServer 21 = .ok (.invokevirtual 176, 3) := dk_182 0 176 (dk_at dksX7_restartServer_0 21 rfl rfl)
theorem dX7_restartServer_24 : decode cX7_restartServer 24 = .ok (.aload_n 0, 1) := dk_42 (dk_at dksX7_restartServer_1 0 rfl rfl)
theorem dX7_restartServer_25 : decode cX7_restartServer 25 = .ok (.getfield 10, 3) := dk_180 0 10 (dk_at dksX7_restartServer_1 1 rfl rfl)
theorem dX7_restartServer_28 : decode cX7_restartServer 28 = .ok (.iconst 5, 1) := dk_8 (dk_at dksX7_restartServer_1 4 rfl rfl)
theorem dX7_restartServer_29 : decode cX7_restartServer 29 = .ok (.iaload, 1) := dk_46 (dk_at dksX7_restartServer_1 5 rfl rfl)
theorem dX7_restartServer_30 : decode cX7_restartServer 30 = .ok (.iadd, 1) := dk_96 (dk_at dksX7_restartServer_1 6 rfl rfl)
theorem dX7_restartServer_31 : decode cX7_restartServer 31 = .ok (.iastore, 1) := dk_79 (dk_at dksX7_restartServer_1 7 rfl rfl)
theorem dX7_restartServer_32 : decode cX7_restartServer 32 = .ok (.aload_n 0, 1) := dk_42 (dk_at dksX7_restartServer_1 8 rfl rfl)
theorem dX7_restartServer_33 : decode cX7_restartServer 33 = .ok (.bipush 8, 2) := dk_16 8 (dk_at dksX7_restartServer_1 9 rfl rfl)
theorem dX7_restartServer_35 : decode cX7_restartServer 35 = .ok (.iconst (-1), 1) := dk_2 (dk_at dksX7_restartServer_1 11 rfl rfl)
theorem dX7_restartServer_36 : decode cX7_restartServer 36 = .ok (.aload_n 0, 1) := dk_42 (dk_at dksX7_restartServer_1 12 rfl rfl)
theorem dX7_restartServer_37 : decode cX7_restartServer 37 = .ok (.getfield 10, 3) := dk_180 0 10 (dk_at dksX7_restartServer_1 13 rfl rfl)
theorem dX7_restartServer_40 : decode cX7_restartServer 40 = .ok (.bipush 12, 2) := dk_16 12 (dk_at dksX7_restartServer_1 16 rfl rfl)
theorem dX7_restartServer_42 : decode cX7_restartServer 42 = .ok (.iaload, 1) := dk_46 (dk_at dksX7_restartServer_1 18 rfl rfl)
theorem dX7_restartServer_43 : decode cX7_restartServer 43 = .ok (.invokevirtual 219, 3) := dk_182 0 219 (dk_at dksX7_restartServer_1 19 rfl rfl)
theorem dX7_restartServer_46 : decode cX7_restartServer 46 = .ok (.aload_n 0, 1) := dk_42 (dk_at dksX7_restartServer_1 22 rfl rfl)
theorem dX7_restartServer_47 : decode cX7_restartServer 47 = .ok (.getfield 10, 3) := dk_180 0 10 (dk_at dksX7_restartServer_2 0 rfl rfl)
theorem dX7_restartServer_50 : decode cX7_restartServer 50 = .ok (.bipush 13, 2) := dk_16 13 (dk_at dksX7_restartServer_2 3 rfl rfl)
theorem dX7_restartServer_52 : decode cX7_restartServer 52 = .ok (.iaload, 1) := dk_46 (dk_at dksX7_restartServer_2 5 rfl rfl)
theorem dX7_restartServer_53 : decode cX7_restartServer 53 = .ok (.ireturn, 1) := dk_172 (dk_at dksX7_restartServer_2 6 rfl rfl)
abbrev cX7_write : ByteArray := prog_22_method_70_code
def yX7_write : MethodName := ⟨RX7, "write", "(III)I"⟩
def dkwX7_write_3 : List UInt8 := [182, 0, 152, 172]
abbrev dktX7_write_3 : List UInt8 := dkwX7_write_3 ++ []
def dkwX7_write_2 : List UInt8 := [182, 1, 42, 172, 42, 6, 27, 42, 27, 16, 7, 182, 0, 152, 28, 29, 182, 0, 189, 42, 27, 16, 7]
abbrev dktX7_write_2 : List UInt8 := dkwX7_write_2 ++ dktX7_write_3
def dkwX7_write_1 : List UInt8 := [167, 0, 4, 3, 5, 182, 0, 72, 153, 0, 5, 3, 172, 42, 27, 182, 1, 42, 153, 0, 9, 42, 27]
abbrev dktX7_write_1 : List UInt8 := dkwX7_write_1 ++ dktX7_write_2
def dkwX7_write_0 : List UInt8 := [42, 27, 182, 0, 172, 154, 0, 30, 42, 28, 184, 1, 36, 153, 0, 10, 29, 184, 1, 39, 154, 0, 7, 4]
abbrev dktX7_write_0 : List UInt8 := dkwX7_write_0 ++ dktX7_write_1
theorem dksX7_write_0 : cX7_write.data.toList.drop 0 = dktX7_write_0 := by decide +kernel
theorem dksX7_write_1 : cX7_write.data.toList.drop 24 = dktX7_write_1 := dk_seg dksX7_write_0 24 rfl rfl
theorem dksX7_write_2 : cX7_write.data.toList.drop 47 = dktX7_write_2 := dk_seg dksX7_write_1 23 rfl rfl
theorem dksX7_write_3 : cX7_write.data.toList.drop 70 = dktX7_write_3 := dk_seg dksX7_write_2 23 rfl rfl
theorem dX7_write_0 : decode cX7_write 0 = .ok (.aload_n 0, 1) := dk_42 (dk_at dksX7_write_0 0 rfl rfl)
theorem dX7_write_1 : decode cX7_write 1 = .ok (.iload_n 1, 1) := dk_27 (dk_at dksX7_write_0 1 rfl rfl)
theorem dX7_write_2 : decode cX7_write 2 = .ok (.invokevirtual 172, 3) := dk_182 0 172 (dk_at dksX7_write_0 2 rfl rfl)
theorem dX7_write_5 : decode cX7_write 5 = .ok (.ifCond .ne 30, 3) := dk_154 0 30 (dk_at dksX7_write_0 5 rfl rfl)
theorem dX7_write_8 : decode cX7_write 8 = .ok (.aload_n 0, 1) := dk_42 (dk_at dksX7_write_0 8 rfl rfl)
theorem dX7_write_9 : decode cX7_write 9 = .ok (.iload_n 2, 1) := dk_28 (dk_at dksX7_write_0 9 rfl rfl)
theorem dX7_write_10 : decode cX7_write 10 = .ok (.invokestatic 292, 3) := dk_184 1 36 (dk_at dksX7_write_0 10 rfl rfl)
theorem dX7_write_13 : decode cX7_write 13 = .ok (.ifCond .eq 10, 3) := dk_153 0 10 (dk_at dksX7_write_0 13 rfl rfl)
theorem dX7_write_16 : decode cX7_write 16 = .ok (.iload_n 3, 1) := dk_29 (dk_at dksX7_write_0 16 rfl rfl)
theorem dX7_write_17 : decode cX7_write 17 = .ok (.invokestatic 295, 3) := dk_184 1 39 (dk_at dksX7_write_0 17 rfl rfl)
theorem dX7_write_20 : decode cX7_write 20 = .ok (.ifCond .ne 7, 3) := dk_154 0 7 (dk_at dksX7_write_0 20 rfl rfl)
theorem dX7_write_23 : decode cX7_write 23 = .ok (.iconst 1, 1) := dk_4 (dk_at dksX7_write_0 23 rfl rfl)
theorem dX7_write_24 : decode cX7_write 24 = .ok (.goto 4, 3) := dk_167 0 4 (dk_at dksX7_write_1 0 rfl rfl)
theorem dX7_write_27 : decode cX7_write 27 = .ok (.iconst 0, 1) := dk_3 (dk_at dksX7_write_1 3 rfl rfl)
theorem dX7_write_28 : decode cX7_write 28 = .ok (.iconst 2, 1) := dk_5 (dk_at dksX7_write_1 4 rfl rfl)
theorem dX7_write_29 : decode cX7_write 29 = .ok (.invokevirtual 72, 3) := dk_182 0 72 (dk_at dksX7_write_1 5 rfl rfl)
theorem dX7_write_32 : decode cX7_write 32 = .ok (.ifCond .eq 5, 3) := dk_153 0 5 (dk_at dksX7_write_1 8 rfl rfl)
theorem dX7_write_35 : decode cX7_write 35 = .ok (.iconst 0, 1) := dk_3 (dk_at dksX7_write_1 11 rfl rfl)
theorem dX7_write_36 : decode cX7_write 36 = .ok (.ireturn, 1) := dk_172 (dk_at dksX7_write_1 12 rfl rfl)
theorem dX7_write_37 : decode cX7_write 37 = .ok (.aload_n 0, 1) := dk_42 (dk_at dksX7_write_1 13 rfl rfl)
theorem dX7_write_38 : decode cX7_write 38 = .ok (.iload_n 1, 1) := dk_27 (dk_at dksX7_write_1 14 rfl rfl)
theorem dX7_write_39 : decode cX7_write 39 = .ok (.invokevirtual 298, 3) := dk_182 1 42 (dk_at dksX7_write_1 15 rfl rfl)
theorem dX7_write_42 : decode cX7_write 42 = .ok (.ifCond .eq 9, 3) := dk_153 0 9 (dk_at dksX7_write_1 18 rfl rfl)
theorem dX7_write_45 : decode cX7_write 45 = .ok (.aload_n 0, 1) := dk_42 (dk_at dksX7_write_1 21 rfl rfl)
theorem dX7_write_46 : decode cX7_write 46 = .ok (.iload_n 1, 1) := dk_27 (dk_at dksX7_write_1 22 rfl rfl)
theorem dX7_write_47 : decode cX7_write 47 = .ok (.invokevirtual 298, 3) := dk_182 1 42 (dk_at dksX7_write_2 0 rfl rfl)
theorem dX7_write_50 : decode cX7_write 50 = .ok (.ireturn, 1) := dk_172 (dk_at dksX7_write_2 3 rfl rfl)
theorem dX7_write_51 : decode cX7_write 51 = .ok (.aload_n 0, 1) := dk_42 (dk_at dksX7_write_2 4 rfl rfl)
theorem dX7_write_52 : decode cX7_write 52 = .ok (.iconst 3, 1) := dk_6 (dk_at dksX7_write_2 5 rfl rfl)
theorem dX7_write_53 : decode cX7_write 53 = .ok (.iload_n 1, 1) := dk_27 (dk_at dksX7_write_2 6 rfl rfl)
theorem dX7_write_54 : decode cX7_write 54 = .ok (.aload_n 0, 1) := dk_42 (dk_at dksX7_write_2 7 rfl rfl)
theorem dX7_write_55 : decode cX7_write 55 = .ok (.iload_n 1, 1) := dk_27 (dk_at dksX7_write_2 8 rfl rfl)
theorem dX7_write_56 : decode cX7_write 56 = .ok (.bipush 7, 2) := dk_16 7 (dk_at dksX7_write_2 9 rfl rfl)
theorem dX7_write_58 : decode cX7_write 58 = .ok (.invokevirtual 152, 3) := dk_182 0 152 (dk_at dksX7_write_2 11 rfl rfl)
theorem dX7_write_61 : decode cX7_write 61 = .ok (.iload_n 2, 1) := dk_28 (dk_at dksX7_write_2 14 rfl rfl)
theorem dX7_write_62 : decode cX7_write 62 = .ok (.iload_n 3, 1) := dk_29 (dk_at dksX7_write_2 15 rfl rfl)
theorem dX7_write_63 : decode cX7_write 63 = .ok (.invokevirtual 189, 3) := dk_182 0 189 (dk_at dksX7_write_2 16 rfl rfl)
theorem dX7_write_66 : decode cX7_write 66 = .ok (.aload_n 0, 1) := dk_42 (dk_at dksX7_write_2 19 rfl rfl)
theorem dX7_write_67 : decode cX7_write 67 = .ok (.iload_n 1, 1) := dk_27 (dk_at dksX7_write_2 20 rfl rfl)
theorem dX7_write_68 : decode cX7_write 68 = .ok (.bipush 7, 2) := dk_16 7 (dk_at dksX7_write_2 21 rfl rfl)
theorem dX7_write_70 : decode cX7_write 70 = .ok (.invokevirtual 152, 3) := dk_182 0 152 (dk_at dksX7_write_3 0 rfl rfl)
theorem dX7_write_73 : decode cX7_write 73 = .ok (.ireturn, 1) := dk_172 (dk_at dksX7_write_3 3 rfl rfl)
abbrev cX7_isRegister : ByteArray := prog_22_method_68_code
def yX7_isRegister : MethodName := ⟨RX7, "isRegister", "(I)Z"⟩
def dkwX7_isRegister_0 : List UInt8 := [26, 133, 9, 20, 1, 32, 184, 0, 68, 172]
abbrev dktX7_isRegister_0 : List UInt8 := dkwX7_isRegister_0 ++ []
theorem dksX7_isRegister_0 : cX7_isRegister.data.toList.drop 0 = dktX7_isRegister_0 := by decide +kernel
theorem dX7_isRegister_0 : decode cX7_isRegister 0 = .ok (.iload_n 0, 1) := dk_26 (dk_at dksX7_isRegister_0 0 rfl rfl)
theorem dX7_isRegister_1 : decode cX7_isRegister 1 = .ok (.i2l, 1) := dk_133 (dk_at dksX7_isRegister_0 1 rfl rfl)
theorem dX7_isRegister_2 : decode cX7_isRegister 2 = .ok (.lconst 0, 1) := dk_9 (dk_at dksX7_isRegister_0 2 rfl rfl)
theorem dX7_isRegister_3 : decode cX7_isRegister 3 = .ok (.ldc2_w 288, 3) := dk_20 1 32 (dk_at dksX7_isRegister_0 3 rfl rfl)
theorem dX7_isRegister_6 : decode cX7_isRegister 6 = .ok (.invokestatic 68, 3) := dk_184 0 68 (dk_at dksX7_isRegister_0 6 rfl rfl)
theorem dX7_isRegister_9 : decode cX7_isRegister 9 = .ok (.ireturn, 1) := dk_172 (dk_at dksX7_isRegister_0 9 rfl rfl)
abbrev cX7_isValue : ByteArray := prog_22_method_69_code
def yX7_isValue : MethodName := ⟨RX7, "isValue", "(I)Z"⟩
def dkwX7_isValue_0 : List UInt8 := [26, 133, 9, 20, 1, 34, 184, 0, 68, 172]
abbrev dktX7_isValue_0 : List UInt8 := dkwX7_isValue_0 ++ []
theorem dksX7_isValue_0 : cX7_isValue.data.toList.drop 0 = dktX7_isValue_0 := by decide +kernel
theorem dX7_isValue_0 : decode cX7_isValue 0 = .ok (.iload_n 0, 1) := dk_26 (dk_at dksX7_isValue_0 0 rfl rfl)
theorem dX7_isValue_1 : decode cX7_isValue 1 = .ok (.i2l, 1) := dk_133 (dk_at dksX7_isValue_0 1 rfl rfl)
theorem dX7_isValue_2 : decode cX7_isValue 2 = .ok (.lconst 0, 1) := dk_9 (dk_at dksX7_isValue_0 2 rfl rfl)
theorem dX7_isValue_3 : decode cX7_isValue 3 = .ok (.ldc2_w 290, 3) := dk_20 1 34 (dk_at dksX7_isValue_0 3 rfl rfl)
theorem dX7_isValue_6 : decode cX7_isValue 6 = .ok (.invokestatic 68, 3) := dk_184 0 68 (dk_at dksX7_isValue_0 6 rfl rfl)
theorem dX7_isValue_9 : decode cX7_isValue 9 = .ok (.ireturn, 1) := dk_172 (dk_at dksX7_isValue_0 9 rfl rfl)
abbrev cX7_refusalOfLeader : ByteArray := prog_22_method_59_code
def yX7_refusalOfLeader : MethodName := ⟨RX7, "refusalOfLeader", "(I)I"⟩
def dkwX7_refusalOfLeader_1 : List UInt8 := [3, 167, 0, 4, 2, 172]
abbrev dktX7_refusalOfLeader_1 : List UInt8 := dkwX7_refusalOfLeader_1 ++ []
def dkwX7_refusalOfLeader_0 : List UInt8 := [42, 27, 182, 1, 27, 153, 0, 11, 42, 27, 182, 1, 27, 167, 0, 16, 42, 27, 182, 0, 253, 153, 0, 7]
abbrev dktX7_refusalOfLeader_0 : List UInt8 := dkwX7_refusalOfLeader_0 ++ dktX7_refusalOfLeader_1
theorem dksX7_refusalOfLeader_0 : cX7_refusalOfLeader.data.toList.drop 0 = dktX7_refusalOfLeader_0 := by decide +kernel
theorem dksX7_refusalOfLeader_1 : cX7_refusalOfLeader.data.toList.drop 24 = dktX7_refusalOfLeader_1 := dk_seg dksX7_refusalOfLeader_0 24 rfl rfl
theorem dX7_refusalOfLeader_0 : decode cX7_refusalOfLeader 0 = .ok (.aload_n 0, 1) := dk_42 (dk_at dksX7_refusalOfLeader_0 0 rfl rfl)
theorem dX7_refusalOfLeader_1 : decode cX7_refusalOfLeader 1 = .ok (.iload_n 1, 1) := dk_27 (dk_at dksX7_refusalOfLeader_0 1 rfl rfl)
theorem dX7_refusalOfLeader_2 : decode cX7_refusalOfLeader 2 = .ok (.invokevirtual 283, 3) := dk_182 1 27 (dk_at dksX7_refusalOfLeader_0 2 rfl rfl)
theorem dX7_refusalOfLeader_5 : decode cX7_refusalOfLeader 5 = .ok (.ifCond .eq 11, 3) := dk_153 0 11 (dk_at dksX7_refusalOfLeader_0 5 rfl rfl)
theorem dX7_refusalOfLeader_8 : decode cX7_refusalOfLeader 8 = .ok (.aload_n 0, 1) := dk_42 (dk_at dksX7_refusalOfLeader_0 8 rfl rfl)
theorem dX7_refusalOfLeader_9 : decode cX7_refusalOfLeader 9 = .ok (.iload_n 1, 1) := dk_27 (dk_at dksX7_refusalOfLeader_0 9 rfl rfl)
theorem dX7_refusalOfLeader_10 : decode cX7_refusalOfLeader 10 = .ok (.invokevirtual 283, 3) := dk_182 1 27 (dk_at dksX7_refusalOfLeader_0 10 rfl rfl)
theorem dX7_refusalOfLeader_13 : decode cX7_refusalOfLeader 13 = .ok (.goto 16, 3) := dk_167 0 16 (dk_at dksX7_refusalOfLeader_0 13 rfl rfl)
theorem dX7_refusalOfLeader_16 : decode cX7_refusalOfLeader 16 = .ok (.aload_n 0, 1) := dk_42 (dk_at dksX7_refusalOfLeader_0 16 rfl rfl)
theorem dX7_refusalOfLeader_17 : decode cX7_refusalOfLeader 17 = .ok (.iload_n 1, 1) := dk_27 (dk_at dksX7_refusalOfLeader_0 17 rfl rfl)
theorem dX7_refusalOfLeader_18 : decode cX7_refusalOfLeader 18 = .ok (.invokevirtual 253, 3) := dk_182 0 253 (dk_at dksX7_refusalOfLeader_0 18 rfl rfl)
theorem dX7_refusalOfLeader_21 : decode cX7_refusalOfLeader 21 = .ok (.ifCond .eq 7, 3) := dk_153 0 7 (dk_at dksX7_refusalOfLeader_0 21 rfl rfl)
theorem dX7_refusalOfLeader_24 : decode cX7_refusalOfLeader 24 = .ok (.iconst 0, 1) := dk_3 (dk_at dksX7_refusalOfLeader_1 0 rfl rfl)
theorem dX7_refusalOfLeader_25 : decode cX7_refusalOfLeader 25 = .ok (.goto 4, 3) := dk_167 0 4 (dk_at dksX7_refusalOfLeader_1 1 rfl rfl)
theorem dX7_refusalOfLeader_28 : decode cX7_refusalOfLeader 28 = .ok (.iconst (-1), 1) := dk_2 (dk_at dksX7_refusalOfLeader_1 4 rfl rfl)
theorem dX7_refusalOfLeader_29 : decode cX7_refusalOfLeader 29 = .ok (.ireturn, 1) := dk_172 (dk_at dksX7_refusalOfLeader_1 5 rfl rfl)
abbrev cX7_writeLater : ByteArray := prog_22_method_71_code
def yX7_writeLater : MethodName := ⟨RX7, "writeLater", "(IIII)I"⟩
def dkwX7_writeLater_7 : List UInt8 := [4, 96, 79, 42, 27, 16, 7, 182, 0, 152, 172]
abbrev dktX7_writeLater_7 : List UInt8 := dkwX7_writeLater_7 ++ []
def dkwX7_writeLater_6 : List UInt8 := [21, 5, 6, 96, 28, 79, 42, 180, 0, 10, 21, 5, 7, 96, 29, 79, 42, 180, 0, 10, 16, 21, 92, 46]
abbrev dktX7_writeLater_6 : List UInt8 := dkwX7_writeLater_6 ++ dktX7_writeLater_7
def dkwX7_writeLater_5 : List UInt8 := [4, 96, 27, 79, 42, 180, 0, 10, 21, 5, 5, 96, 42, 27, 16, 7, 182, 0, 152, 79, 42, 180, 0, 10]
abbrev dktX7_writeLater_5 : List UInt8 := dkwX7_writeLater_5 ++ dktX7_writeLater_6
def dkwX7_writeLater_4 : List UInt8 := [54, 5, 42, 180, 0, 10, 21, 5, 42, 180, 0, 10, 3, 46, 21, 4, 96, 79, 42, 180, 0, 10, 21, 5]
abbrev dktX7_writeLater_4 : List UInt8 := dkwX7_writeLater_4 ++ dktX7_writeLater_5
def dkwX7_writeLater_3 : List UInt8 := [16, 21, 46, 16, 20, 160, 0, 6, 16, 251, 172, 17, 0, 236, 8, 42, 180, 0, 10, 16, 21, 46, 104, 96]
abbrev dktX7_writeLater_3 : List UInt8 := dkwX7_writeLater_3 ++ dktX7_writeLater_4
def dkwX7_writeLater_2 : List UInt8 := [153, 0, 5, 3, 172, 42, 27, 182, 1, 42, 153, 0, 9, 42, 27, 182, 1, 42, 172, 42, 180, 0, 10]
abbrev dktX7_writeLater_2 : List UInt8 := dkwX7_writeLater_2 ++ dktX7_writeLater_3
def dkwX7_writeLater_1 : List UInt8 := [21, 4, 133, 10, 20, 1, 30, 184, 0, 68, 154, 0, 7, 4, 167, 0, 4, 3, 5, 182, 0, 72]
abbrev dktX7_writeLater_1 : List UInt8 := dkwX7_writeLater_1 ++ dktX7_writeLater_2
def dkwX7_writeLater_0 : List UInt8 := [42, 27, 182, 0, 172, 154, 0, 43, 42, 28, 184, 1, 36, 153, 0, 23, 29, 184, 1, 39, 153, 0, 16]
abbrev dktX7_writeLater_0 : List UInt8 := dkwX7_writeLater_0 ++ dktX7_writeLater_1
theorem dksX7_writeLater_0 : cX7_writeLater.data.toList.drop 0 = dktX7_writeLater_0 := by decide +kernel
theorem dksX7_writeLater_1 : cX7_writeLater.data.toList.drop 23 = dktX7_writeLater_1 := dk_seg dksX7_writeLater_0 23 rfl rfl
theorem dksX7_writeLater_2 : cX7_writeLater.data.toList.drop 45 = dktX7_writeLater_2 := dk_seg dksX7_writeLater_1 22 rfl rfl
theorem dksX7_writeLater_3 : cX7_writeLater.data.toList.drop 68 = dktX7_writeLater_3 := dk_seg dksX7_writeLater_2 23 rfl rfl
theorem dksX7_writeLater_4 : cX7_writeLater.data.toList.drop 92 = dktX7_writeLater_4 := dk_seg dksX7_writeLater_3 24 rfl rfl
theorem dksX7_writeLater_5 : cX7_writeLater.data.toList.drop 116 = dktX7_writeLater_5 := dk_seg dksX7_writeLater_4 24 rfl rfl
theorem dksX7_writeLater_6 : cX7_writeLater.data.toList.drop 140 = dktX7_writeLater_6 := dk_seg dksX7_writeLater_5 24 rfl rfl
theorem dksX7_writeLater_7 : cX7_writeLater.data.toList.drop 164 = dktX7_writeLater_7 := dk_seg dksX7_writeLater_6 24 rfl rfl
theorem dX7_writeLater_0 : decode cX7_writeLater 0 = .ok (.aload_n 0, 1) := dk_42 (dk_at dksX7_writeLater_0 0 rfl rfl)
theorem dX7_writeLater_1 : decode cX7_writeLater 1 = .ok (.iload_n 1, 1) := dk_27 (dk_at dksX7_writeLater_0 1 rfl rfl)
theorem dX7_writeLater_2 : decode cX7_writeLater 2 = .ok (.invokevirtual 172, 3) := dk_182 0 172 (dk_at dksX7_writeLater_0 2 rfl rfl)
theorem dX7_writeLater_5 : decode cX7_writeLater 5 = .ok (.ifCond .ne 43, 3) := dk_154 0 43 (dk_at dksX7_writeLater_0 5 rfl rfl)
theorem dX7_writeLater_8 : decode cX7_writeLater 8 = .ok (.aload_n 0, 1) := dk_42 (dk_at dksX7_writeLater_0 8 rfl rfl)
theorem dX7_writeLater_9 : decode cX7_writeLater 9 = .ok (.iload_n 2, 1) := dk_28 (dk_at dksX7_writeLater_0 9 rfl rfl)
theorem dX7_writeLater_10 : decode cX7_writeLater 10 = .ok (.invokestatic 292, 3) := dk_184 1 36 (dk_at dksX7_writeLater_0 10 rfl rfl)
theorem dX7_writeLater_13 : decode cX7_writeLater 13 = .ok (.ifCond .eq 23, 3) := dk_153 0 23 (dk_at dksX7_writeLater_0 13 rfl rfl)
theorem dX7_writeLater_16 : decode cX7_writeLater 16 = .ok (.iload_n 3, 1) := dk_29 (dk_at dksX7_writeLater_0 16 rfl rfl)
theorem dX7_writeLater_17 : decode cX7_writeLater 17 = .ok (.invokestatic 295, 3) := dk_184 1 39 (dk_at dksX7_writeLater_0 17 rfl rfl)
theorem dX7_writeLater_20 : decode cX7_writeLater 20 = .ok (.ifCond .eq 16, 3) := dk_153 0 16 (dk_at dksX7_writeLater_0 20 rfl rfl)
theorem dX7_writeLater_23 : decode cX7_writeLater 23 = .ok (.iload 4, 2) := dk_21 4 (dk_at dksX7_writeLater_1 0 rfl rfl)
theorem dX7_writeLater_25 : decode cX7_writeLater 25 = .ok (.i2l, 1) := dk_133 (dk_at dksX7_writeLater_1 2 rfl rfl)
theorem dX7_writeLater_26 : decode cX7_writeLater 26 = .ok (.lconst 1, 1) := dk_10 (dk_at dksX7_writeLater_1 3 rfl rfl)
theorem dX7_writeLater_27 : decode cX7_writeLater 27 = .ok (.ldc2_w 286, 3) := dk_20 1 30 (dk_at dksX7_writeLater_1 4 rfl rfl)
theorem dX7_writeLater_30 : decode cX7_writeLater 30 = .ok (.invokestatic 68, 3) := dk_184 0 68 (dk_at dksX7_writeLater_1 7 rfl rfl)
theorem dX7_writeLater_33 : decode cX7_writeLater 33 = .ok (.ifCond .ne 7, 3) := dk_154 0 7 (dk_at dksX7_writeLater_1 10 rfl rfl)
theorem dX7_writeLater_36 : decode cX7_writeLater 36 = .ok (.iconst 1, 1) := dk_4 (dk_at dksX7_writeLater_1 13 rfl rfl)
theorem dX7_writeLater_37 : decode cX7_writeLater 37 = .ok (.goto 4, 3) := dk_167 0 4 (dk_at dksX7_writeLater_1 14 rfl rfl)
theorem dX7_writeLater_40 : decode cX7_writeLater 40 = .ok (.iconst 0, 1) := dk_3 (dk_at dksX7_writeLater_1 17 rfl rfl)
theorem dX7_writeLater_41 : decode cX7_writeLater 41 = .ok (.iconst 2, 1) := dk_5 (dk_at dksX7_writeLater_1 18 rfl rfl)
theorem dX7_writeLater_42 : decode cX7_writeLater 42 = .ok (.invokevirtual 72, 3) := dk_182 0 72 (dk_at dksX7_writeLater_1 19 rfl rfl)
theorem dX7_writeLater_45 : decode cX7_writeLater 45 = .ok (.ifCond .eq 5, 3) := dk_153 0 5 (dk_at dksX7_writeLater_2 0 rfl rfl)
theorem dX7_writeLater_48 : decode cX7_writeLater 48 = .ok (.iconst 0, 1) := dk_3 (dk_at dksX7_writeLater_2 3 rfl rfl)
theorem dX7_writeLater_49 : decode cX7_writeLater 49 = .ok (.ireturn, 1) := dk_172 (dk_at dksX7_writeLater_2 4 rfl rfl)
theorem dX7_writeLater_50 : decode cX7_writeLater 50 = .ok (.aload_n 0, 1) := dk_42 (dk_at dksX7_writeLater_2 5 rfl rfl)
theorem dX7_writeLater_51 : decode cX7_writeLater 51 = .ok (.iload_n 1, 1) := dk_27 (dk_at dksX7_writeLater_2 6 rfl rfl)
theorem dX7_writeLater_52 : decode cX7_writeLater 52 = .ok (.invokevirtual 298, 3) := dk_182 1 42 (dk_at dksX7_writeLater_2 7 rfl rfl)
theorem dX7_writeLater_55 : decode cX7_writeLater 55 = .ok (.ifCond .eq 9, 3) := dk_153 0 9 (dk_at dksX7_writeLater_2 10 rfl rfl)
theorem dX7_writeLater_58 : decode cX7_writeLater 58 = .ok (.aload_n 0, 1) := dk_42 (dk_at dksX7_writeLater_2 13 rfl rfl)
theorem dX7_writeLater_59 : decode cX7_writeLater 59 = .ok (.iload_n 1, 1) := dk_27 (dk_at dksX7_writeLater_2 14 rfl rfl)
theorem dX7_writeLater_60 : decode cX7_writeLater 60 = .ok (.invokevirtual 298, 3) := dk_182 1 42 (dk_at dksX7_writeLater_2 15 rfl rfl)
theorem dX7_writeLater_63 : decode cX7_writeLater 63 = .ok (.ireturn, 1) := dk_172 (dk_at dksX7_writeLater_2 18 rfl rfl)
theorem dX7_writeLater_64 : decode cX7_writeLater 64 = .ok (.aload_n 0, 1) := dk_42 (dk_at dksX7_writeLater_2 19 rfl rfl)
theorem dX7_writeLater_65 : decode cX7_writeLater 65 = .ok (.getfield 10, 3) := dk_180 0 10 (dk_at dksX7_writeLater_2 20 rfl rfl)
theorem dX7_writeLater_68 : decode cX7_writeLater 68 = .ok (.bipush 21, 2) := dk_16 21 (dk_at dksX7_writeLater_3 0 rfl rfl)
theorem dX7_writeLater_70 : decode cX7_writeLater 70 = .ok (.iaload, 1) := dk_46 (dk_at dksX7_writeLater_3 2 rfl rfl)
theorem dX7_writeLater_71 : decode cX7_writeLater 71 = .ok (.bipush 20, 2) := dk_16 20 (dk_at dksX7_writeLater_3 3 rfl rfl)
theorem dX7_writeLater_73 : decode cX7_writeLater 73 = .ok (.if_icmp .ne 6, 3) := dk_160 0 6 (dk_at dksX7_writeLater_3 5 rfl rfl)
theorem dX7_writeLater_76 : decode cX7_writeLater 76 = .ok (.bipush (-5), 2) := dk_16 251 (dk_at dksX7_writeLater_3 8 rfl rfl)
theorem dX7_writeLater_78 : decode cX7_writeLater 78 = .ok (.ireturn, 1) := dk_172 (dk_at dksX7_writeLater_3 10 rfl rfl)
theorem dX7_writeLater_79 : decode cX7_writeLater 79 = .ok (.sipush 236, 3) := dk_17 0 236 (dk_at dksX7_writeLater_3 11 rfl rfl)
theorem dX7_writeLater_82 : decode cX7_writeLater 82 = .ok (.iconst 5, 1) := dk_8 (dk_at dksX7_writeLater_3 14 rfl rfl)
theorem dX7_writeLater_83 : decode cX7_writeLater 83 = .ok (.aload_n 0, 1) := dk_42 (dk_at dksX7_writeLater_3 15 rfl rfl)
theorem dX7_writeLater_84 : decode cX7_writeLater 84 = .ok (.getfield 10, 3) := dk_180 0 10 (dk_at dksX7_writeLater_3 16 rfl rfl)
theorem dX7_writeLater_87 : decode cX7_writeLater 87 = .ok (.bipush 21, 2) := dk_16 21 (dk_at dksX7_writeLater_3 19 rfl rfl)
theorem dX7_writeLater_89 : decode cX7_writeLater 89 = .ok (.iaload, 1) := dk_46 (dk_at dksX7_writeLater_3 21 rfl rfl)
theorem dX7_writeLater_90 : decode cX7_writeLater 90 = .ok (.imul, 1) := dk_104 (dk_at dksX7_writeLater_3 22 rfl rfl)
theorem dX7_writeLater_91 : decode cX7_writeLater 91 = .ok (.iadd, 1) := dk_96 (dk_at dksX7_writeLater_3 23 rfl rfl)
theorem dX7_writeLater_92 : decode cX7_writeLater 92 = .ok (.istore 5, 2) := dk_54 5 (dk_at dksX7_writeLater_4 0 rfl rfl)
theorem dX7_writeLater_94 : decode cX7_writeLater 94 = .ok (.aload_n 0, 1) := dk_42 (dk_at dksX7_writeLater_4 2 rfl rfl)
theorem dX7_writeLater_95 : decode cX7_writeLater 95 = .ok (.getfield 10, 3) := dk_180 0 10 (dk_at dksX7_writeLater_4 3 rfl rfl)
theorem dX7_writeLater_98 : decode cX7_writeLater 98 = .ok (.iload 5, 2) := dk_21 5 (dk_at dksX7_writeLater_4 6 rfl rfl)
theorem dX7_writeLater_100 : decode cX7_writeLater 100 = .ok (.aload_n 0, 1) := dk_42 (dk_at dksX7_writeLater_4 8 rfl rfl)
theorem dX7_writeLater_101 : decode cX7_writeLater 101 = .ok (.getfield 10, 3) := dk_180 0 10 (dk_at dksX7_writeLater_4 9 rfl rfl)
theorem dX7_writeLater_104 : decode cX7_writeLater 104 = .ok (.iconst 0, 1) := dk_3 (dk_at dksX7_writeLater_4 12 rfl rfl)
theorem dX7_writeLater_105 : decode cX7_writeLater 105 = .ok (.iaload, 1) := dk_46 (dk_at dksX7_writeLater_4 13 rfl rfl)
theorem dX7_writeLater_106 : decode cX7_writeLater 106 = .ok (.iload 4, 2) := dk_21 4 (dk_at dksX7_writeLater_4 14 rfl rfl)
theorem dX7_writeLater_108 : decode cX7_writeLater 108 = .ok (.iadd, 1) := dk_96 (dk_at dksX7_writeLater_4 16 rfl rfl)
theorem dX7_writeLater_109 : decode cX7_writeLater 109 = .ok (.iastore, 1) := dk_79 (dk_at dksX7_writeLater_4 17 rfl rfl)
theorem dX7_writeLater_110 : decode cX7_writeLater 110 = .ok (.aload_n 0, 1) := dk_42 (dk_at dksX7_writeLater_4 18 rfl rfl)
theorem dX7_writeLater_111 : decode cX7_writeLater 111 = .ok (.getfield 10, 3) := dk_180 0 10 (dk_at dksX7_writeLater_4 19 rfl rfl)
theorem dX7_writeLater_114 : decode cX7_writeLater 114 = .ok (.iload 5, 2) := dk_21 5 (dk_at dksX7_writeLater_4 22 rfl rfl)
theorem dX7_writeLater_116 : decode cX7_writeLater 116 = .ok (.iconst 1, 1) := dk_4 (dk_at dksX7_writeLater_5 0 rfl rfl)
theorem dX7_writeLater_117 : decode cX7_writeLater 117 = .ok (.iadd, 1) := dk_96 (dk_at dksX7_writeLater_5 1 rfl rfl)
theorem dX7_writeLater_118 : decode cX7_writeLater 118 = .ok (.iload_n 1, 1) := dk_27 (dk_at dksX7_writeLater_5 2 rfl rfl)
theorem dX7_writeLater_119 : decode cX7_writeLater 119 = .ok (.iastore, 1) := dk_79 (dk_at dksX7_writeLater_5 3 rfl rfl)
theorem dX7_writeLater_120 : decode cX7_writeLater 120 = .ok (.aload_n 0, 1) := dk_42 (dk_at dksX7_writeLater_5 4 rfl rfl)
theorem dX7_writeLater_121 : decode cX7_writeLater 121 = .ok (.getfield 10, 3) := dk_180 0 10 (dk_at dksX7_writeLater_5 5 rfl rfl)
theorem dX7_writeLater_124 : decode cX7_writeLater 124 = .ok (.iload 5, 2) := dk_21 5 (dk_at dksX7_writeLater_5 8 rfl rfl)
theorem dX7_writeLater_126 : decode cX7_writeLater 126 = .ok (.iconst 2, 1) := dk_5 (dk_at dksX7_writeLater_5 10 rfl rfl)
theorem dX7_writeLater_127 : decode cX7_writeLater 127 = .ok (.iadd, 1) := dk_96 (dk_at dksX7_writeLater_5 11 rfl rfl)
theorem dX7_writeLater_128 : decode cX7_writeLater 128 = .ok (.aload_n 0, 1) := dk_42 (dk_at dksX7_writeLater_5 12 rfl rfl)
theorem dX7_writeLater_129 : decode cX7_writeLater 129 = .ok (.iload_n 1, 1) := dk_27 (dk_at dksX7_writeLater_5 13 rfl rfl)
theorem dX7_writeLater_130 : decode cX7_writeLater 130 = .ok (.bipush 7, 2) := dk_16 7 (dk_at dksX7_writeLater_5 14 rfl rfl)
theorem dX7_writeLater_132 : decode cX7_writeLater 132 = .ok (.invokevirtual 152, 3) := dk_182 0 152 (dk_at dksX7_writeLater_5 16 rfl rfl)
theorem dX7_writeLater_135 : decode cX7_writeLater 135 = .ok (.iastore, 1) := dk_79 (dk_at dksX7_writeLater_5 19 rfl rfl)
theorem dX7_writeLater_136 : decode cX7_writeLater 136 = .ok (.aload_n 0, 1) := dk_42 (dk_at dksX7_writeLater_5 20 rfl rfl)
theorem dX7_writeLater_137 : decode cX7_writeLater 137 = .ok (.getfield 10, 3) := dk_180 0 10 (dk_at dksX7_writeLater_5 21 rfl rfl)
theorem dX7_writeLater_140 : decode cX7_writeLater 140 = .ok (.iload 5, 2) := dk_21 5 (dk_at dksX7_writeLater_6 0 rfl rfl)
theorem dX7_writeLater_142 : decode cX7_writeLater 142 = .ok (.iconst 3, 1) := dk_6 (dk_at dksX7_writeLater_6 2 rfl rfl)
theorem dX7_writeLater_143 : decode cX7_writeLater 143 = .ok (.iadd, 1) := dk_96 (dk_at dksX7_writeLater_6 3 rfl rfl)
theorem dX7_writeLater_144 : decode cX7_writeLater 144 = .ok (.iload_n 2, 1) := dk_28 (dk_at dksX7_writeLater_6 4 rfl rfl)
theorem dX7_writeLater_145 : decode cX7_writeLater 145 = .ok (.iastore, 1) := dk_79 (dk_at dksX7_writeLater_6 5 rfl rfl)
theorem dX7_writeLater_146 : decode cX7_writeLater 146 = .ok (.aload_n 0, 1) := dk_42 (dk_at dksX7_writeLater_6 6 rfl rfl)
theorem dX7_writeLater_147 : decode cX7_writeLater 147 = .ok (.getfield 10, 3) := dk_180 0 10 (dk_at dksX7_writeLater_6 7 rfl rfl)
theorem dX7_writeLater_150 : decode cX7_writeLater 150 = .ok (.iload 5, 2) := dk_21 5 (dk_at dksX7_writeLater_6 10 rfl rfl)
theorem dX7_writeLater_152 : decode cX7_writeLater 152 = .ok (.iconst 4, 1) := dk_7 (dk_at dksX7_writeLater_6 12 rfl rfl)
theorem dX7_writeLater_153 : decode cX7_writeLater 153 = .ok (.iadd, 1) := dk_96 (dk_at dksX7_writeLater_6 13 rfl rfl)
theorem dX7_writeLater_154 : decode cX7_writeLater 154 = .ok (.iload_n 3, 1) := dk_29 (dk_at dksX7_writeLater_6 14 rfl rfl)
theorem dX7_writeLater_155 : decode cX7_writeLater 155 = .ok (.iastore, 1) := dk_79 (dk_at dksX7_writeLater_6 15 rfl rfl)
theorem dX7_writeLater_156 : decode cX7_writeLater 156 = .ok (.aload_n 0, 1) := dk_42 (dk_at dksX7_writeLater_6 16 rfl rfl)
theorem dX7_writeLater_157 : decode cX7_writeLater 157 = .ok (.getfield 10, 3) := dk_180 0 10 (dk_at dksX7_writeLater_6 17 rfl rfl)
theorem dX7_writeLater_160 : decode cX7_writeLater 160 = .ok (.bipush 21, 2) := dk_16 21 (dk_at dksX7_writeLater_6 20 rfl rfl)
theorem dX7_writeLater_162 : decode cX7_writeLater 162 = .ok (.dup2, 1) := dk_92 (dk_at dksX7_writeLater_6 22 rfl rfl)
theorem dX7_writeLater_163 : decode cX7_writeLater 163 = .ok (.iaload, 1) := dk_46 (dk_at dksX7_writeLater_6 23 rfl rfl)
theorem dX7_writeLater_164 : decode cX7_writeLater 164 = .ok (.iconst 1, 1) := dk_4 (dk_at dksX7_writeLater_7 0 rfl rfl)
theorem dX7_writeLater_165 : decode cX7_writeLater 165 = .ok (.iadd, 1) := dk_96 (dk_at dksX7_writeLater_7 1 rfl rfl)
theorem dX7_writeLater_166 : decode cX7_writeLater 166 = .ok (.iastore, 1) := dk_79 (dk_at dksX7_writeLater_7 2 rfl rfl)
theorem dX7_writeLater_167 : decode cX7_writeLater 167 = .ok (.aload_n 0, 1) := dk_42 (dk_at dksX7_writeLater_7 3 rfl rfl)
theorem dX7_writeLater_168 : decode cX7_writeLater 168 = .ok (.iload_n 1, 1) := dk_27 (dk_at dksX7_writeLater_7 4 rfl rfl)
theorem dX7_writeLater_169 : decode cX7_writeLater 169 = .ok (.bipush 7, 2) := dk_16 7 (dk_at dksX7_writeLater_7 5 rfl rfl)
theorem dX7_writeLater_171 : decode cX7_writeLater 171 = .ok (.invokevirtual 152, 3) := dk_182 0 152 (dk_at dksX7_writeLater_7 7 rfl rfl)
theorem dX7_writeLater_174 : decode cX7_writeLater 174 = .ok (.ireturn, 1) := dk_172 (dk_at dksX7_writeLater_7 10 rfl rfl)
abbrev cX7_fetch : ByteArray := prog_22_method_72_code
def yX7_fetch : MethodName := ⟨RX7, "fetch", "(II)I"⟩
def dkwX7_fetch_2 : List UInt8 := [27, 42, 27, 16, 7, 182, 0, 152, 28, 3, 182, 0, 189, 42, 27, 16, 7, 182, 0, 152, 172]
abbrev dktX7_fetch_2 : List UInt8 := dkwX7_fetch_2 ++ []
def dkwX7_fetch_1 : List UInt8 := [182, 0, 72, 153, 0, 5, 3, 172, 42, 27, 182, 1, 42, 153, 0, 9, 42, 27, 182, 1, 42, 172, 42, 7]
abbrev dktX7_fetch_1 : List UInt8 := dkwX7_fetch_1 ++ dktX7_fetch_2
def dkwX7_fetch_0 : List UInt8 := [42, 27, 182, 0, 172, 154, 0, 23, 42, 28, 184, 1, 36, 154, 0, 7, 4, 167, 0, 4, 3, 5]
abbrev dktX7_fetch_0 : List UInt8 := dkwX7_fetch_0 ++ dktX7_fetch_1
theorem dksX7_fetch_0 : cX7_fetch.data.toList.drop 0 = dktX7_fetch_0 := by decide +kernel
theorem dksX7_fetch_1 : cX7_fetch.data.toList.drop 22 = dktX7_fetch_1 := dk_seg dksX7_fetch_0 22 rfl rfl
theorem dksX7_fetch_2 : cX7_fetch.data.toList.drop 46 = dktX7_fetch_2 := dk_seg dksX7_fetch_1 24 rfl rfl
theorem dX7_fetch_0 : decode cX7_fetch 0 = .ok (.aload_n 0, 1) := dk_42 (dk_at dksX7_fetch_0 0 rfl rfl)
theorem dX7_fetch_1 : decode cX7_fetch 1 = .ok (.iload_n 1, 1) := dk_27 (dk_at dksX7_fetch_0 1 rfl rfl)
theorem dX7_fetch_2 : decode cX7_fetch 2 = .ok (.invokevirtual 172, 3) := dk_182 0 172 (dk_at dksX7_fetch_0 2 rfl rfl)
theorem dX7_fetch_5 : decode cX7_fetch 5 = .ok (.ifCond .ne 23, 3) := dk_154 0 23 (dk_at dksX7_fetch_0 5 rfl rfl)
theorem dX7_fetch_8 : decode cX7_fetch 8 = .ok (.aload_n 0, 1) := dk_42 (dk_at dksX7_fetch_0 8 rfl rfl)
theorem dX7_fetch_9 : decode cX7_fetch 9 = .ok (.iload_n 2, 1) := dk_28 (dk_at dksX7_fetch_0 9 rfl rfl)
theorem dX7_fetch_10 : decode cX7_fetch 10 = .ok (.invokestatic 292, 3) := dk_184 1 36 (dk_at dksX7_fetch_0 10 rfl rfl)
theorem dX7_fetch_13 : decode cX7_fetch 13 = .ok (.ifCond .ne 7, 3) := dk_154 0 7 (dk_at dksX7_fetch_0 13 rfl rfl)
theorem dX7_fetch_16 : decode cX7_fetch 16 = .ok (.iconst 1, 1) := dk_4 (dk_at dksX7_fetch_0 16 rfl rfl)
theorem dX7_fetch_17 : decode cX7_fetch 17 = .ok (.goto 4, 3) := dk_167 0 4 (dk_at dksX7_fetch_0 17 rfl rfl)
theorem dX7_fetch_20 : decode cX7_fetch 20 = .ok (.iconst 0, 1) := dk_3 (dk_at dksX7_fetch_0 20 rfl rfl)
theorem dX7_fetch_21 : decode cX7_fetch 21 = .ok (.iconst 2, 1) := dk_5 (dk_at dksX7_fetch_0 21 rfl rfl)
theorem dX7_fetch_22 : decode cX7_fetch 22 = .ok (.invokevirtual 72, 3) := dk_182 0 72 (dk_at dksX7_fetch_1 0 rfl rfl)
theorem dX7_fetch_25 : decode cX7_fetch 25 = .ok (.ifCond .eq 5, 3) := dk_153 0 5 (dk_at dksX7_fetch_1 3 rfl rfl)
theorem dX7_fetch_28 : decode cX7_fetch 28 = .ok (.iconst 0, 1) := dk_3 (dk_at dksX7_fetch_1 6 rfl rfl)
theorem dX7_fetch_29 : decode cX7_fetch 29 = .ok (.ireturn, 1) := dk_172 (dk_at dksX7_fetch_1 7 rfl rfl)
theorem dX7_fetch_30 : decode cX7_fetch 30 = .ok (.aload_n 0, 1) := dk_42 (dk_at dksX7_fetch_1 8 rfl rfl)
theorem dX7_fetch_31 : decode cX7_fetch 31 = .ok (.iload_n 1, 1) := dk_27 (dk_at dksX7_fetch_1 9 rfl rfl)
theorem dX7_fetch_32 : decode cX7_fetch 32 = .ok (.invokevirtual 298, 3) := dk_182 1 42 (dk_at dksX7_fetch_1 10 rfl rfl)
theorem dX7_fetch_35 : decode cX7_fetch 35 = .ok (.ifCond .eq 9, 3) := dk_153 0 9 (dk_at dksX7_fetch_1 13 rfl rfl)
theorem dX7_fetch_38 : decode cX7_fetch 38 = .ok (.aload_n 0, 1) := dk_42 (dk_at dksX7_fetch_1 16 rfl rfl)
theorem dX7_fetch_39 : decode cX7_fetch 39 = .ok (.iload_n 1, 1) := dk_27 (dk_at dksX7_fetch_1 17 rfl rfl)
theorem dX7_fetch_40 : decode cX7_fetch 40 = .ok (.invokevirtual 298, 3) := dk_182 1 42 (dk_at dksX7_fetch_1 18 rfl rfl)
theorem dX7_fetch_43 : decode cX7_fetch 43 = .ok (.ireturn, 1) := dk_172 (dk_at dksX7_fetch_1 21 rfl rfl)
theorem dX7_fetch_44 : decode cX7_fetch 44 = .ok (.aload_n 0, 1) := dk_42 (dk_at dksX7_fetch_1 22 rfl rfl)
theorem dX7_fetch_45 : decode cX7_fetch 45 = .ok (.iconst 4, 1) := dk_7 (dk_at dksX7_fetch_1 23 rfl rfl)
theorem dX7_fetch_46 : decode cX7_fetch 46 = .ok (.iload_n 1, 1) := dk_27 (dk_at dksX7_fetch_2 0 rfl rfl)
theorem dX7_fetch_47 : decode cX7_fetch 47 = .ok (.aload_n 0, 1) := dk_42 (dk_at dksX7_fetch_2 1 rfl rfl)
theorem dX7_fetch_48 : decode cX7_fetch 48 = .ok (.iload_n 1, 1) := dk_27 (dk_at dksX7_fetch_2 2 rfl rfl)
theorem dX7_fetch_49 : decode cX7_fetch 49 = .ok (.bipush 7, 2) := dk_16 7 (dk_at dksX7_fetch_2 3 rfl rfl)
theorem dX7_fetch_51 : decode cX7_fetch 51 = .ok (.invokevirtual 152, 3) := dk_182 0 152 (dk_at dksX7_fetch_2 5 rfl rfl)
theorem dX7_fetch_54 : decode cX7_fetch 54 = .ok (.iload_n 2, 1) := dk_28 (dk_at dksX7_fetch_2 8 rfl rfl)
theorem dX7_fetch_55 : decode cX7_fetch 55 = .ok (.iconst 0, 1) := dk_3 (dk_at dksX7_fetch_2 9 rfl rfl)
theorem dX7_fetch_56 : decode cX7_fetch 56 = .ok (.invokevirtual 189, 3) := dk_182 0 189 (dk_at dksX7_fetch_2 10 rfl rfl)
theorem dX7_fetch_59 : decode cX7_fetch 59 = .ok (.aload_n 0, 1) := dk_42 (dk_at dksX7_fetch_2 13 rfl rfl)
theorem dX7_fetch_60 : decode cX7_fetch 60 = .ok (.iload_n 1, 1) := dk_27 (dk_at dksX7_fetch_2 14 rfl rfl)
theorem dX7_fetch_61 : decode cX7_fetch 61 = .ok (.bipush 7, 2) := dk_16 7 (dk_at dksX7_fetch_2 15 rfl rfl)
theorem dX7_fetch_63 : decode cX7_fetch 63 = .ok (.invokevirtual 152, 3) := dk_182 0 152 (dk_at dksX7_fetch_2 17 rfl rfl)
theorem dX7_fetch_66 : decode cX7_fetch 66 = .ok (.ireturn, 1) := dk_172 (dk_at dksX7_fetch_2 20 rfl rfl)
abbrev cX7_read : ByteArray := prog_22_method_73_code
def yX7_read : MethodName := ⟨RX7, "read", "(II)I"⟩
def dkwX7_read_4 : List UInt8 := [159, 0, 14, 42, 180, 0, 10, 16, 19, 92, 46, 4, 96, 79, 29, 172]
abbrev dktX7_read_4 : List UInt8 := dkwX7_read_4 ++ []
def dkwX7_read_3 : List UInt8 := [62, 42, 180, 0, 10, 16, 18, 92, 46, 4, 96, 79, 29, 42, 180, 0, 10, 17, 0, 160, 28, 96, 46]
abbrev dktX7_read_3 : List UInt8 := dkwX7_read_3 ++ dktX7_read_4
def dkwX7_read_2 : List UInt8 := [16, 11, 182, 0, 152, 28, 122, 4, 126, 154, 0, 6, 16, 252, 172, 42, 27, 16, 12, 28, 96, 182, 0, 152]
abbrev dktX7_read_2 : List UInt8 := dkwX7_read_2 ++ dktX7_read_3
def dkwX7_read_1 : List UInt8 := [182, 0, 72, 153, 0, 5, 3, 172, 42, 27, 182, 1, 42, 153, 0, 9, 42, 27, 182, 1, 42, 172, 42, 27]
abbrev dktX7_read_1 : List UInt8 := dkwX7_read_1 ++ dktX7_read_2
def dkwX7_read_0 : List UInt8 := [42, 27, 182, 0, 172, 154, 0, 23, 42, 28, 184, 1, 36, 154, 0, 7, 4, 167, 0, 4, 3, 5]
abbrev dktX7_read_0 : List UInt8 := dkwX7_read_0 ++ dktX7_read_1
theorem dksX7_read_0 : cX7_read.data.toList.drop 0 = dktX7_read_0 := by decide +kernel
theorem dksX7_read_1 : cX7_read.data.toList.drop 22 = dktX7_read_1 := dk_seg dksX7_read_0 22 rfl rfl
theorem dksX7_read_2 : cX7_read.data.toList.drop 46 = dktX7_read_2 := dk_seg dksX7_read_1 24 rfl rfl
theorem dksX7_read_3 : cX7_read.data.toList.drop 70 = dktX7_read_3 := dk_seg dksX7_read_2 24 rfl rfl
theorem dksX7_read_4 : cX7_read.data.toList.drop 93 = dktX7_read_4 := dk_seg dksX7_read_3 23 rfl rfl
theorem dX7_read_0 : decode cX7_read 0 = .ok (.aload_n 0, 1) := dk_42 (dk_at dksX7_read_0 0 rfl rfl)
theorem dX7_read_1 : decode cX7_read 1 = .ok (.iload_n 1, 1) := dk_27 (dk_at dksX7_read_0 1 rfl rfl)
theorem dX7_read_2 : decode cX7_read 2 = .ok (.invokevirtual 172, 3) := dk_182 0 172 (dk_at dksX7_read_0 2 rfl rfl)
theorem dX7_read_5 : decode cX7_read 5 = .ok (.ifCond .ne 23, 3) := dk_154 0 23 (dk_at dksX7_read_0 5 rfl rfl)
theorem dX7_read_8 : decode cX7_read 8 = .ok (.aload_n 0, 1) := dk_42 (dk_at dksX7_read_0 8 rfl rfl)
theorem dX7_read_9 : decode cX7_read 9 = .ok (.iload_n 2, 1) := dk_28 (dk_at dksX7_read_0 9 rfl rfl)
theorem dX7_read_10 : decode cX7_read 10 = .ok (.invokestatic 292, 3) := dk_184 1 36 (dk_at dksX7_read_0 10 rfl rfl)
theorem dX7_read_13 : decode cX7_read 13 = .ok (.ifCond .ne 7, 3) := dk_154 0 7 (dk_at dksX7_read_0 13 rfl rfl)
theorem dX7_read_16 : decode cX7_read 16 = .ok (.iconst 1, 1) := dk_4 (dk_at dksX7_read_0 16 rfl rfl)
theorem dX7_read_17 : decode cX7_read 17 = .ok (.goto 4, 3) := dk_167 0 4 (dk_at dksX7_read_0 17 rfl rfl)
theorem dX7_read_20 : decode cX7_read 20 = .ok (.iconst 0, 1) := dk_3 (dk_at dksX7_read_0 20 rfl rfl)
theorem dX7_read_21 : decode cX7_read 21 = .ok (.iconst 2, 1) := dk_5 (dk_at dksX7_read_0 21 rfl rfl)
theorem dX7_read_22 : decode cX7_read 22 = .ok (.invokevirtual 72, 3) := dk_182 0 72 (dk_at dksX7_read_1 0 rfl rfl)
theorem dX7_read_25 : decode cX7_read 25 = .ok (.ifCond .eq 5, 3) := dk_153 0 5 (dk_at dksX7_read_1 3 rfl rfl)
theorem dX7_read_28 : decode cX7_read 28 = .ok (.iconst 0, 1) := dk_3 (dk_at dksX7_read_1 6 rfl rfl)
theorem dX7_read_29 : decode cX7_read 29 = .ok (.ireturn, 1) := dk_172 (dk_at dksX7_read_1 7 rfl rfl)
theorem dX7_read_30 : decode cX7_read 30 = .ok (.aload_n 0, 1) := dk_42 (dk_at dksX7_read_1 8 rfl rfl)
theorem dX7_read_31 : decode cX7_read 31 = .ok (.iload_n 1, 1) := dk_27 (dk_at dksX7_read_1 9 rfl rfl)
theorem dX7_read_32 : decode cX7_read 32 = .ok (.invokevirtual 298, 3) := dk_182 1 42 (dk_at dksX7_read_1 10 rfl rfl)
theorem dX7_read_35 : decode cX7_read 35 = .ok (.ifCond .eq 9, 3) := dk_153 0 9 (dk_at dksX7_read_1 13 rfl rfl)
theorem dX7_read_38 : decode cX7_read 38 = .ok (.aload_n 0, 1) := dk_42 (dk_at dksX7_read_1 16 rfl rfl)
theorem dX7_read_39 : decode cX7_read 39 = .ok (.iload_n 1, 1) := dk_27 (dk_at dksX7_read_1 17 rfl rfl)
theorem dX7_read_40 : decode cX7_read 40 = .ok (.invokevirtual 298, 3) := dk_182 1 42 (dk_at dksX7_read_1 18 rfl rfl)
theorem dX7_read_43 : decode cX7_read 43 = .ok (.ireturn, 1) := dk_172 (dk_at dksX7_read_1 21 rfl rfl)
theorem dX7_read_44 : decode cX7_read 44 = .ok (.aload_n 0, 1) := dk_42 (dk_at dksX7_read_1 22 rfl rfl)
theorem dX7_read_45 : decode cX7_read 45 = .ok (.iload_n 1, 1) := dk_27 (dk_at dksX7_read_1 23 rfl rfl)
theorem dX7_read_46 : decode cX7_read 46 = .ok (.bipush 11, 2) := dk_16 11 (dk_at dksX7_read_2 0 rfl rfl)
theorem dX7_read_48 : decode cX7_read 48 = .ok (.invokevirtual 152, 3) := dk_182 0 152 (dk_at dksX7_read_2 2 rfl rfl)
theorem dX7_read_51 : decode cX7_read 51 = .ok (.iload_n 2, 1) := dk_28 (dk_at dksX7_read_2 5 rfl rfl)
theorem dX7_read_52 : decode cX7_read 52 = .ok (.ishr, 1) := dk_122 (dk_at dksX7_read_2 6 rfl rfl)
theorem dX7_read_53 : decode cX7_read 53 = .ok (.iconst 1, 1) := dk_4 (dk_at dksX7_read_2 7 rfl rfl)
theorem dX7_read_54 : decode cX7_read 54 = .ok (.iand, 1) := dk_126 (dk_at dksX7_read_2 8 rfl rfl)
theorem dX7_read_55 : decode cX7_read 55 = .ok (.ifCond .ne 6, 3) := dk_154 0 6 (dk_at dksX7_read_2 9 rfl rfl)
theorem dX7_read_58 : decode cX7_read 58 = .ok (.bipush (-4), 2) := dk_16 252 (dk_at dksX7_read_2 12 rfl rfl)
theorem dX7_read_60 : decode cX7_read 60 = .ok (.ireturn, 1) := dk_172 (dk_at dksX7_read_2 14 rfl rfl)
theorem dX7_read_61 : decode cX7_read 61 = .ok (.aload_n 0, 1) := dk_42 (dk_at dksX7_read_2 15 rfl rfl)
theorem dX7_read_62 : decode cX7_read 62 = .ok (.iload_n 1, 1) := dk_27 (dk_at dksX7_read_2 16 rfl rfl)
theorem dX7_read_63 : decode cX7_read 63 = .ok (.bipush 12, 2) := dk_16 12 (dk_at dksX7_read_2 17 rfl rfl)
theorem dX7_read_65 : decode cX7_read 65 = .ok (.iload_n 2, 1) := dk_28 (dk_at dksX7_read_2 19 rfl rfl)
theorem dX7_read_66 : decode cX7_read 66 = .ok (.iadd, 1) := dk_96 (dk_at dksX7_read_2 20 rfl rfl)
theorem dX7_read_67 : decode cX7_read 67 = .ok (.invokevirtual 152, 3) := dk_182 0 152 (dk_at dksX7_read_2 21 rfl rfl)
theorem dX7_read_70 : decode cX7_read 70 = .ok (.istore_n 3, 1) := dk_62 (dk_at dksX7_read_3 0 rfl rfl)
theorem dX7_read_71 : decode cX7_read 71 = .ok (.aload_n 0, 1) := dk_42 (dk_at dksX7_read_3 1 rfl rfl)
theorem dX7_read_72 : decode cX7_read 72 = .ok (.getfield 10, 3) := dk_180 0 10 (dk_at dksX7_read_3 2 rfl rfl)
theorem dX7_read_75 : decode cX7_read 75 = .ok (.bipush 18, 2) := dk_16 18 (dk_at dksX7_read_3 5 rfl rfl)
theorem dX7_read_77 : decode cX7_read 77 = .ok (.dup2, 1) := dk_92 (dk_at dksX7_read_3 7 rfl rfl)
theorem dX7_read_78 : decode cX7_read 78 = .ok (.iaload, 1) := dk_46 (dk_at dksX7_read_3 8 rfl rfl)
theorem dX7_read_79 : decode cX7_read 79 = .ok (.iconst 1, 1) := dk_4 (dk_at dksX7_read_3 9 rfl rfl)
theorem dX7_read_80 : decode cX7_read 80 = .ok (.iadd, 1) := dk_96 (dk_at dksX7_read_3 10 rfl rfl)
theorem dX7_read_81 : decode cX7_read 81 = .ok (.iastore, 1) := dk_79 (dk_at dksX7_read_3 11 rfl rfl)
theorem dX7_read_82 : decode cX7_read 82 = .ok (.iload_n 3, 1) := dk_29 (dk_at dksX7_read_3 12 rfl rfl)
theorem dX7_read_83 : decode cX7_read 83 = .ok (.aload_n 0, 1) := dk_42 (dk_at dksX7_read_3 13 rfl rfl)
theorem dX7_read_84 : decode cX7_read 84 = .ok (.getfield 10, 3) := dk_180 0 10 (dk_at dksX7_read_3 14 rfl rfl)
theorem dX7_read_87 : decode cX7_read 87 = .ok (.sipush 160, 3) := dk_17 0 160 (dk_at dksX7_read_3 17 rfl rfl)
theorem dX7_read_90 : decode cX7_read 90 = .ok (.iload_n 2, 1) := dk_28 (dk_at dksX7_read_3 20 rfl rfl)
theorem dX7_read_91 : decode cX7_read 91 = .ok (.iadd, 1) := dk_96 (dk_at dksX7_read_3 21 rfl rfl)
theorem dX7_read_92 : decode cX7_read 92 = .ok (.iaload, 1) := dk_46 (dk_at dksX7_read_3 22 rfl rfl)
theorem dX7_read_93 : decode cX7_read 93 = .ok (.if_icmp .eq 14, 3) := dk_159 0 14 (dk_at dksX7_read_4 0 rfl rfl)
theorem dX7_read_96 : decode cX7_read 96 = .ok (.aload_n 0, 1) := dk_42 (dk_at dksX7_read_4 3 rfl rfl)
theorem dX7_read_97 : decode cX7_read 97 = .ok (.getfield 10, 3) := dk_180 0 10 (dk_at dksX7_read_4 4 rfl rfl)
theorem dX7_read_100 : decode cX7_read 100 = .ok (.bipush 19, 2) := dk_16 19 (dk_at dksX7_read_4 7 rfl rfl)
theorem dX7_read_102 : decode cX7_read 102 = .ok (.dup2, 1) := dk_92 (dk_at dksX7_read_4 9 rfl rfl)
theorem dX7_read_103 : decode cX7_read 103 = .ok (.iaload, 1) := dk_46 (dk_at dksX7_read_4 10 rfl rfl)
theorem dX7_read_104 : decode cX7_read 104 = .ok (.iconst 1, 1) := dk_4 (dk_at dksX7_read_4 11 rfl rfl)
theorem dX7_read_105 : decode cX7_read 105 = .ok (.iadd, 1) := dk_96 (dk_at dksX7_read_4 12 rfl rfl)
theorem dX7_read_106 : decode cX7_read 106 = .ok (.iastore, 1) := dk_79 (dk_at dksX7_read_4 13 rfl rfl)
theorem dX7_read_107 : decode cX7_read 107 = .ok (.iload_n 3, 1) := dk_29 (dk_at dksX7_read_4 14 rfl rfl)
theorem dX7_read_108 : decode cX7_read 108 = .ok (.ireturn, 1) := dk_172 (dk_at dksX7_read_4 15 rfl rfl)
abbrev cX7_stored : ByteArray := prog_22_method_75_code
def yX7_stored : MethodName := ⟨RX7, "stored", "(I)I"⟩
def dkwX7_stored_0 : List UInt8 := [42, 27, 17, 0, 160, 182, 1, 45, 172]
abbrev dktX7_stored_0 : List UInt8 := dkwX7_stored_0 ++ []
theorem dksX7_stored_0 : cX7_stored.data.toList.drop 0 = dktX7_stored_0 := by decide +kernel
theorem dX7_stored_0 : decode cX7_stored 0 = .ok (.aload_n 0, 1) := dk_42 (dk_at dksX7_stored_0 0 rfl rfl)
theorem dX7_stored_1 : decode cX7_stored 1 = .ok (.iload_n 1, 1) := dk_27 (dk_at dksX7_stored_0 1 rfl rfl)
theorem dX7_stored_2 : decode cX7_stored 2 = .ok (.sipush 160, 3) := dk_17 0 160 (dk_at dksX7_stored_0 2 rfl rfl)
theorem dX7_stored_5 : decode cX7_stored 5 = .ok (.invokevirtual 301, 3) := dk_182 1 45 (dk_at dksX7_stored_0 5 rfl rfl)
theorem dX7_stored_8 : decode cX7_stored 8 = .ok (.ireturn, 1) := dk_172 (dk_at dksX7_stored_0 8 rfl rfl)
abbrev cX7_registerCell : ByteArray := prog_22_method_74_code
def yX7_registerCell : MethodName := ⟨RX7, "registerCell", "(II)I"⟩
def dkwX7_registerCell_1 : List UInt8 := [153, 0, 7, 3, 167, 0, 11, 42, 180, 0, 10, 28, 27, 96, 46, 172]
abbrev dktX7_registerCell_1 : List UInt8 := dkwX7_registerCell_1 ++ []
def dkwX7_registerCell_0 : List UInt8 := [42, 3, 181, 0, 65, 42, 27, 184, 1, 36, 154, 0, 7, 4, 167, 0, 4, 3, 4, 182, 0, 72]
abbrev dktX7_registerCell_0 : List UInt8 := dkwX7_registerCell_0 ++ dktX7_registerCell_1
theorem dksX7_registerCell_0 : cX7_registerCell.data.toList.drop 0 = dktX7_registerCell_0 := by decide +kernel
theorem dksX7_registerCell_1 : cX7_registerCell.data.toList.drop 22 = dktX7_registerCell_1 := dk_seg dksX7_registerCell_0 22 rfl rfl
theorem dX7_registerCell_0 : decode cX7_registerCell 0 = .ok (.aload_n 0, 1) := dk_42 (dk_at dksX7_registerCell_0 0 rfl rfl)
theorem dX7_registerCell_1 : decode cX7_registerCell 1 = .ok (.iconst 0, 1) := dk_3 (dk_at dksX7_registerCell_0 1 rfl rfl)
theorem dX7_registerCell_2 : decode cX7_registerCell 2 = .ok (.putfield 65, 3) := dk_181 0 65 (dk_at dksX7_registerCell_0 2 rfl rfl)
theorem dX7_registerCell_5 : decode cX7_registerCell 5 = .ok (.aload_n 0, 1) := dk_42 (dk_at dksX7_registerCell_0 5 rfl rfl)
theorem dX7_registerCell_6 : decode cX7_registerCell 6 = .ok (.iload_n 1, 1) := dk_27 (dk_at dksX7_registerCell_0 6 rfl rfl)
theorem dX7_registerCell_7 : decode cX7_registerCell 7 = .ok (.invokestatic 292, 3) := dk_184 1 36 (dk_at dksX7_registerCell_0 7 rfl rfl)
theorem dX7_registerCell_10 : decode cX7_registerCell 10 = .ok (.ifCond .ne 7, 3) := dk_154 0 7 (dk_at dksX7_registerCell_0 10 rfl rfl)
theorem dX7_registerCell_13 : decode cX7_registerCell 13 = .ok (.iconst 1, 1) := dk_4 (dk_at dksX7_registerCell_0 13 rfl rfl)
theorem dX7_registerCell_14 : decode cX7_registerCell 14 = .ok (.goto 4, 3) := dk_167 0 4 (dk_at dksX7_registerCell_0 14 rfl rfl)
theorem dX7_registerCell_17 : decode cX7_registerCell 17 = .ok (.iconst 0, 1) := dk_3 (dk_at dksX7_registerCell_0 17 rfl rfl)
theorem dX7_registerCell_18 : decode cX7_registerCell 18 = .ok (.iconst 1, 1) := dk_4 (dk_at dksX7_registerCell_0 18 rfl rfl)
theorem dX7_registerCell_19 : decode cX7_registerCell 19 = .ok (.invokevirtual 72, 3) := dk_182 0 72 (dk_at dksX7_registerCell_0 19 rfl rfl)
theorem dX7_registerCell_22 : decode cX7_registerCell 22 = .ok (.ifCond .eq 7, 3) := dk_153 0 7 (dk_at dksX7_registerCell_1 0 rfl rfl)
theorem dX7_registerCell_25 : decode cX7_registerCell 25 = .ok (.iconst 0, 1) := dk_3 (dk_at dksX7_registerCell_1 3 rfl rfl)
theorem dX7_registerCell_26 : decode cX7_registerCell 26 = .ok (.goto 11, 3) := dk_167 0 11 (dk_at dksX7_registerCell_1 4 rfl rfl)
theorem dX7_registerCell_29 : decode cX7_registerCell 29 = .ok (.aload_n 0, 1) := dk_42 (dk_at dksX7_registerCell_1 7 rfl rfl)
theorem dX7_registerCell_30 : decode cX7_registerCell 30 = .ok (.getfield 10, 3) := dk_180 0 10 (dk_at dksX7_registerCell_1 8 rfl rfl)
theorem dX7_registerCell_33 : decode cX7_registerCell 33 = .ok (.iload_n 2, 1) := dk_28 (dk_at dksX7_registerCell_1 11 rfl rfl)
theorem dX7_registerCell_34 : decode cX7_registerCell 34 = .ok (.iload_n 1, 1) := dk_27 (dk_at dksX7_registerCell_1 12 rfl rfl)
theorem dX7_registerCell_35 : decode cX7_registerCell 35 = .ok (.iadd, 1) := dk_96 (dk_at dksX7_registerCell_1 13 rfl rfl)
theorem dX7_registerCell_36 : decode cX7_registerCell 36 = .ok (.iaload, 1) := dk_46 (dk_at dksX7_registerCell_1 14 rfl rfl)
theorem dX7_registerCell_37 : decode cX7_registerCell 37 = .ok (.ireturn, 1) := dk_172 (dk_at dksX7_registerCell_1 15 rfl rfl)
abbrev cX7_version : ByteArray := prog_22_method_76_code
def yX7_version : MethodName := ⟨RX7, "version", "(I)I"⟩
def dkwX7_version_0 : List UInt8 := [42, 27, 17, 0, 168, 182, 1, 45, 172]
abbrev dktX7_version_0 : List UInt8 := dkwX7_version_0 ++ []
theorem dksX7_version_0 : cX7_version.data.toList.drop 0 = dktX7_version_0 := by decide +kernel
theorem dX7_version_0 : decode cX7_version 0 = .ok (.aload_n 0, 1) := dk_42 (dk_at dksX7_version_0 0 rfl rfl)
theorem dX7_version_1 : decode cX7_version 1 = .ok (.iload_n 1, 1) := dk_27 (dk_at dksX7_version_0 1 rfl rfl)
theorem dX7_version_2 : decode cX7_version 2 = .ok (.sipush 168, 3) := dk_17 0 168 (dk_at dksX7_version_0 2 rfl rfl)
theorem dX7_version_5 : decode cX7_version 5 = .ok (.invokevirtual 301, 3) := dk_182 1 45 (dk_at dksX7_version_0 5 rfl rfl)
theorem dX7_version_8 : decode cX7_version 8 = .ok (.ireturn, 1) := dk_172 (dk_at dksX7_version_0 8 rfl rfl)
abbrev cX7_storageToken : ByteArray := prog_22_method_78_code
def yX7_storageToken : MethodName := ⟨RX7, "storageToken", "()I"⟩
def dkwX7_storageToken_0 : List UInt8 := [42, 16, 14, 182, 1, 48, 172]
abbrev dktX7_storageToken_0 : List UInt8 := dkwX7_storageToken_0 ++ []
theorem dksX7_storageToken_0 : cX7_storageToken.data.toList.drop 0 = dktX7_storageToken_0 := by decide +kernel
theorem dX7_storageToken_0 : decode cX7_storageToken 0 = .ok (.aload_n 0, 1) := dk_42 (dk_at dksX7_storageToken_0 0 rfl rfl)
theorem dX7_storageToken_1 : decode cX7_storageToken 1 = .ok (.bipush 14, 2) := dk_16 14 (dk_at dksX7_storageToken_0 1 rfl rfl)
theorem dX7_storageToken_3 : decode cX7_storageToken 3 = .ok (.invokevirtual 304, 3) := dk_182 1 48 (dk_at dksX7_storageToken_0 3 rfl rfl)
theorem dX7_storageToken_6 : decode cX7_storageToken 6 = .ok (.ireturn, 1) := dk_172 (dk_at dksX7_storageToken_0 6 rfl rfl)
abbrev cX7_own : ByteArray := prog_22_method_77_code
def yX7_own : MethodName := ⟨RX7, "own", "(I)I"⟩
def dkwX7_own_0 : List UInt8 := [42, 3, 181, 0, 65, 42, 180, 0, 10, 27, 46, 172]
abbrev dktX7_own_0 : List UInt8 := dkwX7_own_0 ++ []
theorem dksX7_own_0 : cX7_own.data.toList.drop 0 = dktX7_own_0 := by decide +kernel
theorem dX7_own_0 : decode cX7_own 0 = .ok (.aload_n 0, 1) := dk_42 (dk_at dksX7_own_0 0 rfl rfl)
theorem dX7_own_1 : decode cX7_own 1 = .ok (.iconst 0, 1) := dk_3 (dk_at dksX7_own_0 1 rfl rfl)
theorem dX7_own_2 : decode cX7_own 2 = .ok (.putfield 65, 3) := dk_181 0 65 (dk_at dksX7_own_0 2 rfl rfl)
theorem dX7_own_5 : decode cX7_own 5 = .ok (.aload_n 0, 1) := dk_42 (dk_at dksX7_own_0 5 rfl rfl)
theorem dX7_own_6 : decode cX7_own 6 = .ok (.getfield 10, 3) := dk_180 0 10 (dk_at dksX7_own_0 6 rfl rfl)
theorem dX7_own_9 : decode cX7_own 9 = .ok (.iload_n 1, 1) := dk_27 (dk_at dksX7_own_0 9 rfl rfl)
theorem dX7_own_10 : decode cX7_own 10 = .ok (.iaload, 1) := dk_46 (dk_at dksX7_own_0 10 rfl rfl)
theorem dX7_own_11 : decode cX7_own 11 = .ok (.ireturn, 1) := dk_172 (dk_at dksX7_own_0 11 rfl rfl)
abbrev cX7_holder : ByteArray := prog_22_method_79_code
def yX7_holder : MethodName := ⟨RX7, "holder", "()I"⟩
def dkwX7_holder_0 : List UInt8 := [42, 16, 10, 182, 1, 48, 172]
abbrev dktX7_holder_0 : List UInt8 := dkwX7_holder_0 ++ []
theorem dksX7_holder_0 : cX7_holder.data.toList.drop 0 = dktX7_holder_0 := by decide +kernel
theorem dX7_holder_0 : decode cX7_holder 0 = .ok (.aload_n 0, 1) := dk_42 (dk_at dksX7_holder_0 0 rfl rfl)
theorem dX7_holder_1 : decode cX7_holder 1 = .ok (.bipush 10, 2) := dk_16 10 (dk_at dksX7_holder_0 1 rfl rfl)
theorem dX7_holder_3 : decode cX7_holder 3 = .ok (.invokevirtual 304, 3) := dk_182 1 48 (dk_at dksX7_holder_0 3 rfl rfl)
theorem dX7_holder_6 : decode cX7_holder 6 = .ok (.ireturn, 1) := dk_172 (dk_at dksX7_holder_0 6 rfl rfl)
abbrev cX7_greatestToken : ByteArray := prog_22_method_80_code
def yX7_greatestToken : MethodName := ⟨RX7, "greatestToken", "()I"⟩
def dkwX7_greatestToken_0 : List UInt8 := [42, 16, 12, 182, 1, 48, 172]
abbrev dktX7_greatestToken_0 : List UInt8 := dkwX7_greatestToken_0 ++ []
theorem dksX7_greatestToken_0 : cX7_greatestToken.data.toList.drop 0 = dktX7_greatestToken_0 := by decide +kernel
theorem dX7_greatestToken_0 : decode cX7_greatestToken 0 = .ok (.aload_n 0, 1) := dk_42 (dk_at dksX7_greatestToken_0 0 rfl rfl)
theorem dX7_greatestToken_1 : decode cX7_greatestToken 1 = .ok (.bipush 12, 2) := dk_16 12 (dk_at dksX7_greatestToken_0 1 rfl rfl)
theorem dX7_greatestToken_3 : decode cX7_greatestToken 3 = .ok (.invokevirtual 304, 3) := dk_182 1 48 (dk_at dksX7_greatestToken_0 3 rfl rfl)
theorem dX7_greatestToken_6 : decode cX7_greatestToken 6 = .ok (.ireturn, 1) := dk_172 (dk_at dksX7_greatestToken_0 6 rfl rfl)
abbrev cX7_serverExpiryTime : ByteArray := prog_22_method_82_code
def yX7_serverExpiryTime : MethodName := ⟨RX7, "serverExpiryTime", "()I"⟩
def dkwX7_serverExpiryTime_0 : List UInt8 := [42, 3, 181, 0, 65, 42, 182, 1, 51, 172]
abbrev dktX7_serverExpiryTime_0 : List UInt8 := dkwX7_serverExpiryTime_0 ++ []
theorem dksX7_serverExpiryTime_0 : cX7_serverExpiryTime.data.toList.drop 0 = dktX7_serverExpiryTime_0 := by decide +kernel
theorem dX7_serverExpiryTime_0 : decode cX7_serverExpiryTime 0 = .ok (.aload_n 0, 1) := dk_42 (dk_at dksX7_serverExpiryTime_0 0 rfl rfl)
theorem dX7_serverExpiryTime_1 : decode cX7_serverExpiryTime 1 = .ok (.iconst 0, 1) := dk_3 (dk_at dksX7_serverExpiryTime_0 1 rfl rfl)
theorem dX7_serverExpiryTime_2 : decode cX7_serverExpiryTime 2 = .ok (.putfield 65, 3) := dk_181 0 65 (dk_at dksX7_serverExpiryTime_0 2 rfl rfl)
theorem dX7_serverExpiryTime_5 : decode cX7_serverExpiryTime 5 = .ok (.aload_n 0, 1) := dk_42 (dk_at dksX7_serverExpiryTime_0 5 rfl rfl)
theorem dX7_serverExpiryTime_6 : decode cX7_serverExpiryTime 6 = .ok (.invokevirtual 307, 3) := dk_182 1 51 (dk_at dksX7_serverExpiryTime_0 6 rfl rfl)
theorem dX7_serverExpiryTime_9 : decode cX7_serverExpiryTime 9 = .ok (.ireturn, 1) := dk_172 (dk_at dksX7_serverExpiryTime_0 9 rfl rfl)
abbrev cX7_serverEnd : ByteArray := prog_22_method_81_code
def yX7_serverEnd : MethodName := ⟨RX7, "serverEnd", "()I"⟩
def dkwX7_serverEnd_1 : List UInt8 := [180, 0, 10, 7, 46, 42, 180, 0, 10, 16, 11, 46, 184, 0, 159, 172]
abbrev dktX7_serverEnd_1 : List UInt8 := dkwX7_serverEnd_1 ++ []
def dkwX7_serverEnd_0 : List UInt8 := [42, 180, 0, 10, 16, 10, 46, 16, 252, 160, 0, 8, 16, 252, 167, 0, 25, 42, 180, 0, 10, 6, 46, 42]
abbrev dktX7_serverEnd_0 : List UInt8 := dkwX7_serverEnd_0 ++ dktX7_serverEnd_1
theorem dksX7_serverEnd_0 : cX7_serverEnd.data.toList.drop 0 = dktX7_serverEnd_0 := by decide +kernel
theorem dksX7_serverEnd_1 : cX7_serverEnd.data.toList.drop 24 = dktX7_serverEnd_1 := dk_seg dksX7_serverEnd_0 24 rfl rfl
theorem dX7_serverEnd_0 : decode cX7_serverEnd 0 = .ok (.aload_n 0, 1) := dk_42 (dk_at dksX7_serverEnd_0 0 rfl rfl)
theorem dX7_serverEnd_1 : decode cX7_serverEnd 1 = .ok (.getfield 10, 3) := dk_180 0 10 (dk_at dksX7_serverEnd_0 1 rfl rfl)
theorem dX7_serverEnd_4 : decode cX7_serverEnd 4 = .ok (.bipush 10, 2) := dk_16 10 (dk_at dksX7_serverEnd_0 4 rfl rfl)
theorem dX7_serverEnd_6 : decode cX7_serverEnd 6 = .ok (.iaload, 1) := dk_46 (dk_at dksX7_serverEnd_0 6 rfl rfl)
theorem dX7_serverEnd_7 : decode cX7_serverEnd 7 = .ok (.bipush (-4), 2) := dk_16 252 (dk_at dksX7_serverEnd_0 7 rfl rfl)
theorem dX7_serverEnd_9 : decode cX7_serverEnd 9 = .ok (.if_icmp .ne 8, 3) := dk_160 0 8 (dk_at dksX7_serverEnd_0 9 rfl rfl)
theorem dX7_serverEnd_12 : decode cX7_serverEnd 12 = .ok (.bipush (-4), 2) := dk_16 252 (dk_at dksX7_serverEnd_0 12 rfl rfl)
theorem dX7_serverEnd_14 : decode cX7_serverEnd 14 = .ok (.goto 25, 3) := dk_167 0 25 (dk_at dksX7_serverEnd_0 14 rfl rfl)
theorem dX7_serverEnd_17 : decode cX7_serverEnd 17 = .ok (.aload_n 0, 1) := dk_42 (dk_at dksX7_serverEnd_0 17 rfl rfl)
theorem dX7_serverEnd_18 : decode cX7_serverEnd 18 = .ok (.getfield 10, 3) := dk_180 0 10 (dk_at dksX7_serverEnd_0 18 rfl rfl)
theorem dX7_serverEnd_21 : decode cX7_serverEnd 21 = .ok (.iconst 3, 1) := dk_6 (dk_at dksX7_serverEnd_0 21 rfl rfl)
theorem dX7_serverEnd_22 : decode cX7_serverEnd 22 = .ok (.iaload, 1) := dk_46 (dk_at dksX7_serverEnd_0 22 rfl rfl)
theorem dX7_serverEnd_23 : decode cX7_serverEnd 23 = .ok (.aload_n 0, 1) := dk_42 (dk_at dksX7_serverEnd_0 23 rfl rfl)
theorem dX7_serverEnd_24 : decode cX7_serverEnd 24 = .ok (.getfield 10, 3) := dk_180 0 10 (dk_at dksX7_serverEnd_1 0 rfl rfl)
theorem dX7_serverEnd_27 : decode cX7_serverEnd 27 = .ok (.iconst 4, 1) := dk_7 (dk_at dksX7_serverEnd_1 3 rfl rfl)
theorem dX7_serverEnd_28 : decode cX7_serverEnd 28 = .ok (.iaload, 1) := dk_46 (dk_at dksX7_serverEnd_1 4 rfl rfl)
theorem dX7_serverEnd_29 : decode cX7_serverEnd 29 = .ok (.aload_n 0, 1) := dk_42 (dk_at dksX7_serverEnd_1 5 rfl rfl)
theorem dX7_serverEnd_30 : decode cX7_serverEnd 30 = .ok (.getfield 10, 3) := dk_180 0 10 (dk_at dksX7_serverEnd_1 6 rfl rfl)
theorem dX7_serverEnd_33 : decode cX7_serverEnd 33 = .ok (.bipush 11, 2) := dk_16 11 (dk_at dksX7_serverEnd_1 9 rfl rfl)
theorem dX7_serverEnd_35 : decode cX7_serverEnd 35 = .ok (.iaload, 1) := dk_46 (dk_at dksX7_serverEnd_1 11 rfl rfl)
theorem dX7_serverEnd_36 : decode cX7_serverEnd 36 = .ok (.invokestatic 159, 3) := dk_184 0 159 (dk_at dksX7_serverEnd_1 12 rfl rfl)
theorem dX7_serverEnd_39 : decode cX7_serverEnd 39 = .ok (.ireturn, 1) := dk_172 (dk_at dksX7_serverEnd_1 15 rfl rfl)
abbrev cX7_graceLeft : ByteArray := prog_22_method_83_code
def yX7_graceLeft : MethodName := ⟨RX7, "graceLeft", "()I"⟩
def dkwX7_graceLeft_0 : List UInt8 := [42, 3, 181, 0, 65, 3, 42, 180, 0, 10, 16, 13, 46, 42, 182, 0, 176, 100, 184, 0, 166, 172]
abbrev dktX7_graceLeft_0 : List UInt8 := dkwX7_graceLeft_0 ++ []
theorem dksX7_graceLeft_0 : cX7_graceLeft.data.toList.drop 0 = dktX7_graceLeft_0 := by decide +kernel
theorem dX7_graceLeft_0 : decode cX7_graceLeft 0 = .ok (.aload_n 0, 1) := dk_42 (dk_at dksX7_graceLeft_0 0 rfl rfl)
theorem dX7_graceLeft_1 : decode cX7_graceLeft 1 = .ok (.iconst 0, 1) := dk_3 (dk_at dksX7_graceLeft_0 1 rfl rfl)
theorem dX7_graceLeft_2 : decode cX7_graceLeft 2 = .ok (.putfield 65, 3) := dk_181 0 65 (dk_at dksX7_graceLeft_0 2 rfl rfl)
theorem dX7_graceLeft_5 : decode cX7_graceLeft 5 = .ok (.iconst 0, 1) := dk_3 (dk_at dksX7_graceLeft_0 5 rfl rfl)
theorem dX7_graceLeft_6 : decode cX7_graceLeft 6 = .ok (.aload_n 0, 1) := dk_42 (dk_at dksX7_graceLeft_0 6 rfl rfl)
theorem dX7_graceLeft_7 : decode cX7_graceLeft 7 = .ok (.getfield 10, 3) := dk_180 0 10 (dk_at dksX7_graceLeft_0 7 rfl rfl)
theorem dX7_graceLeft_10 : decode cX7_graceLeft 10 = .ok (.bipush 13, 2) := dk_16 13 (dk_at dksX7_graceLeft_0 10 rfl rfl)
theorem dX7_graceLeft_12 : decode cX7_graceLeft 12 = .ok (.iaload, 1) := dk_46 (dk_at dksX7_graceLeft_0 12 rfl rfl)
theorem dX7_graceLeft_13 : decode cX7_graceLeft 13 = .ok (.aload_n 0, 1) := dk_42 (dk_at dksX7_graceLeft_0 13 rfl rfl)
theorem dX7_graceLeft_14 : decode cX7_graceLeft 14 = .ok (.invokevirtual 176, 3) := dk_182 0 176 (dk_at dksX7_graceLeft_0 14 rfl rfl)
theorem dX7_graceLeft_17 : decode cX7_graceLeft 17 = .ok (.isub, 1) := dk_100 (dk_at dksX7_graceLeft_0 17 rfl rfl)
theorem dX7_graceLeft_18 : decode cX7_graceLeft 18 = .ok (.invokestatic 166, 3) := dk_184 0 166 (dk_at dksX7_graceLeft_0 18 rfl rfl)
theorem dX7_graceLeft_21 : decode cX7_graceLeft 21 = .ok (.ireturn, 1) := dk_172 (dk_at dksX7_graceLeft_0 21 rfl rfl)
abbrev cX7_isLeading : ByteArray := prog_22_method_84_code
def yX7_isLeading : MethodName := ⟨RX7, "isLeading", "(I)Z"⟩
def dkwX7_isLeading_0 : List UInt8 := [42, 27, 182, 0, 172, 154, 0, 15, 42, 27, 182, 0, 253, 153, 0, 7, 4, 167, 0, 4, 3, 172]
abbrev dktX7_isLeading_0 : List UInt8 := dkwX7_isLeading_0 ++ []
theorem dksX7_isLeading_0 : cX7_isLeading.data.toList.drop 0 = dktX7_isLeading_0 := by decide +kernel
theorem dX7_isLeading_0 : decode cX7_isLeading 0 = .ok (.aload_n 0, 1) := dk_42 (dk_at dksX7_isLeading_0 0 rfl rfl)
theorem dX7_isLeading_1 : decode cX7_isLeading 1 = .ok (.iload_n 1, 1) := dk_27 (dk_at dksX7_isLeading_0 1 rfl rfl)
theorem dX7_isLeading_2 : decode cX7_isLeading 2 = .ok (.invokevirtual 172, 3) := dk_182 0 172 (dk_at dksX7_isLeading_0 2 rfl rfl)
theorem dX7_isLeading_5 : decode cX7_isLeading 5 = .ok (.ifCond .ne 15, 3) := dk_154 0 15 (dk_at dksX7_isLeading_0 5 rfl rfl)
theorem dX7_isLeading_8 : decode cX7_isLeading 8 = .ok (.aload_n 0, 1) := dk_42 (dk_at dksX7_isLeading_0 8 rfl rfl)
theorem dX7_isLeading_9 : decode cX7_isLeading 9 = .ok (.iload_n 1, 1) := dk_27 (dk_at dksX7_isLeading_0 9 rfl rfl)
theorem dX7_isLeading_10 : decode cX7_isLeading 10 = .ok (.invokevirtual 253, 3) := dk_182 0 253 (dk_at dksX7_isLeading_0 10 rfl rfl)
theorem dX7_isLeading_13 : decode cX7_isLeading 13 = .ok (.ifCond .eq 7, 3) := dk_153 0 7 (dk_at dksX7_isLeading_0 13 rfl rfl)
theorem dX7_isLeading_16 : decode cX7_isLeading 16 = .ok (.iconst 1, 1) := dk_4 (dk_at dksX7_isLeading_0 16 rfl rfl)
theorem dX7_isLeading_17 : decode cX7_isLeading 17 = .ok (.goto 4, 3) := dk_167 0 4 (dk_at dksX7_isLeading_0 17 rfl rfl)
theorem dX7_isLeading_20 : decode cX7_isLeading 20 = .ok (.iconst 0, 1) := dk_3 (dk_at dksX7_isLeading_0 20 rfl rfl)
theorem dX7_isLeading_21 : decode cX7_isLeading 21 = .ok (.ireturn, 1) := dk_172 (dk_at dksX7_isLeading_0 21 rfl rfl)
abbrev cX7_leaders : ByteArray := prog_22_method_86_code
def yX7_leaders : MethodName := ⟨RX7, "leaders", "()I"⟩
def dkwX7_leaders_0 : List UInt8 := [42, 3, 181, 0, 65, 42, 182, 1, 54, 172]
abbrev dktX7_leaders_0 : List UInt8 := dkwX7_leaders_0 ++ []
theorem dksX7_leaders_0 : cX7_leaders.data.toList.drop 0 = dktX7_leaders_0 := by decide +kernel
theorem dX7_leaders_0 : decode cX7_leaders 0 = .ok (.aload_n 0, 1) := dk_42 (dk_at dksX7_leaders_0 0 rfl rfl)
theorem dX7_leaders_1 : decode cX7_leaders 1 = .ok (.iconst 0, 1) := dk_3 (dk_at dksX7_leaders_0 1 rfl rfl)
theorem dX7_leaders_2 : decode cX7_leaders 2 = .ok (.putfield 65, 3) := dk_181 0 65 (dk_at dksX7_leaders_0 2 rfl rfl)
theorem dX7_leaders_5 : decode cX7_leaders 5 = .ok (.aload_n 0, 1) := dk_42 (dk_at dksX7_leaders_0 5 rfl rfl)
theorem dX7_leaders_6 : decode cX7_leaders 6 = .ok (.invokevirtual 310, 3) := dk_182 1 54 (dk_at dksX7_leaders_0 6 rfl rfl)
theorem dX7_leaders_9 : decode cX7_leaders 9 = .ok (.ireturn, 1) := dk_172 (dk_at dksX7_leaders_0 9 rfl rfl)
abbrev cX7_leadersNow : ByteArray := prog_22_method_85_code
def yX7_leadersNow : MethodName := ⟨RX7, "leadersNow", "()I"⟩
def dkwX7_leadersNow_1 : List UInt8 := [28, 120, 167, 0, 4, 3, 128, 60, 132, 2, 1, 167, 255, 225, 27, 172]
abbrev dktX7_leadersNow_1 : List UInt8 := dkwX7_leadersNow_1 ++ []
def dkwX7_leadersNow_0 : List UInt8 := [3, 60, 3, 61, 28, 42, 180, 0, 10, 5, 46, 162, 0, 27, 27, 42, 28, 182, 0, 253, 153, 0, 9, 4]
abbrev dktX7_leadersNow_0 : List UInt8 := dkwX7_leadersNow_0 ++ dktX7_leadersNow_1
theorem dksX7_leadersNow_0 : cX7_leadersNow.data.toList.drop 0 = dktX7_leadersNow_0 := by decide +kernel
theorem dksX7_leadersNow_1 : cX7_leadersNow.data.toList.drop 24 = dktX7_leadersNow_1 := dk_seg dksX7_leadersNow_0 24 rfl rfl
theorem dX7_leadersNow_0 : decode cX7_leadersNow 0 = .ok (.iconst 0, 1) := dk_3 (dk_at dksX7_leadersNow_0 0 rfl rfl)
theorem dX7_leadersNow_1 : decode cX7_leadersNow 1 = .ok (.istore_n 1, 1) := dk_60 (dk_at dksX7_leadersNow_0 1 rfl rfl)
theorem dX7_leadersNow_2 : decode cX7_leadersNow 2 = .ok (.iconst 0, 1) := dk_3 (dk_at dksX7_leadersNow_0 2 rfl rfl)
theorem dX7_leadersNow_3 : decode cX7_leadersNow 3 = .ok (.istore_n 2, 1) := dk_61 (dk_at dksX7_leadersNow_0 3 rfl rfl)
theorem dX7_leadersNow_4 : decode cX7_leadersNow 4 = .ok (.iload_n 2, 1) := dk_28 (dk_at dksX7_leadersNow_0 4 rfl rfl)
theorem dX7_leadersNow_5 : decode cX7_leadersNow 5 = .ok (.aload_n 0, 1) := dk_42 (dk_at dksX7_leadersNow_0 5 rfl rfl)
theorem dX7_leadersNow_6 : decode cX7_leadersNow 6 = .ok (.getfield 10, 3) := dk_180 0 10 (dk_at dksX7_leadersNow_0 6 rfl rfl)
theorem dX7_leadersNow_9 : decode cX7_leadersNow 9 = .ok (.iconst 2, 1) := dk_5 (dk_at dksX7_leadersNow_0 9 rfl rfl)
theorem dX7_leadersNow_10 : decode cX7_leadersNow 10 = .ok (.iaload, 1) := dk_46 (dk_at dksX7_leadersNow_0 10 rfl rfl)
theorem dX7_leadersNow_11 : decode cX7_leadersNow 11 = .ok (.if_icmp .ge 27, 3) := dk_162 0 27 (dk_at dksX7_leadersNow_0 11 rfl rfl)
theorem dX7_leadersNow_14 : decode cX7_leadersNow 14 = .ok (.iload_n 1, 1) := dk_27 (dk_at dksX7_leadersNow_0 14 rfl rfl)
theorem dX7_leadersNow_15 : decode cX7_leadersNow 15 = .ok (.aload_n 0, 1) := dk_42 (dk_at dksX7_leadersNow_0 15 rfl rfl)
theorem dX7_leadersNow_16 : decode cX7_leadersNow 16 = .ok (.iload_n 2, 1) := dk_28 (dk_at dksX7_leadersNow_0 16 rfl rfl)
theorem dX7_leadersNow_17 : decode cX7_leadersNow 17 = .ok (.invokevirtual 253, 3) := dk_182 0 253 (dk_at dksX7_leadersNow_0 17 rfl rfl)
theorem dX7_leadersNow_20 : decode cX7_leadersNow 20 = .ok (.ifCond .eq 9, 3) := dk_153 0 9 (dk_at dksX7_leadersNow_0 20 rfl rfl)
theorem dX7_leadersNow_23 : decode cX7_leadersNow 23 = .ok (.iconst 1, 1) := dk_4 (dk_at dksX7_leadersNow_0 23 rfl rfl)
theorem dX7_leadersNow_24 : decode cX7_leadersNow 24 = .ok (.iload_n 2, 1) := dk_28 (dk_at dksX7_leadersNow_1 0 rfl rfl)
theorem dX7_leadersNow_25 : decode cX7_leadersNow 25 = .ok (.ishl, 1) := dk_120 (dk_at dksX7_leadersNow_1 1 rfl rfl)
theorem dX7_leadersNow_26 : decode cX7_leadersNow 26 = .ok (.goto 4, 3) := dk_167 0 4 (dk_at dksX7_leadersNow_1 2 rfl rfl)
theorem dX7_leadersNow_29 : decode cX7_leadersNow 29 = .ok (.iconst 0, 1) := dk_3 (dk_at dksX7_leadersNow_1 5 rfl rfl)
theorem dX7_leadersNow_30 : decode cX7_leadersNow 30 = .ok (.ior, 1) := dk_128 (dk_at dksX7_leadersNow_1 6 rfl rfl)
theorem dX7_leadersNow_31 : decode cX7_leadersNow 31 = .ok (.istore_n 1, 1) := dk_60 (dk_at dksX7_leadersNow_1 7 rfl rfl)
theorem dX7_leadersNow_32 : decode cX7_leadersNow 32 = .ok (.iinc 2 1, 3) := dk_132 2 1 (dk_at dksX7_leadersNow_1 8 rfl rfl)
theorem dX7_leadersNow_35 : decode cX7_leadersNow 35 = .ok (.goto (-31), 3) := dk_167 255 225 (dk_at dksX7_leadersNow_1 11 rfl rfl)
theorem dX7_leadersNow_38 : decode cX7_leadersNow 38 = .ok (.iload_n 1, 1) := dk_27 (dk_at dksX7_leadersNow_1 14 rfl rfl)
theorem dX7_leadersNow_39 : decode cX7_leadersNow 39 = .ok (.ireturn, 1) := dk_172 (dk_at dksX7_leadersNow_1 15 rfl rfl)
abbrev cX7_token : ByteArray := prog_22_method_88_code
def yX7_token : MethodName := ⟨RX7, "token", "(I)I"⟩
def dkwX7_token_0 : List UInt8 := [42, 27, 16, 7, 182, 1, 57, 172]
abbrev dktX7_token_0 : List UInt8 := dkwX7_token_0 ++ []
theorem dksX7_token_0 : cX7_token.data.toList.drop 0 = dktX7_token_0 := by decide +kernel
theorem dX7_token_0 : decode cX7_token 0 = .ok (.aload_n 0, 1) := dk_42 (dk_at dksX7_token_0 0 rfl rfl)
theorem dX7_token_1 : decode cX7_token 1 = .ok (.iload_n 1, 1) := dk_27 (dk_at dksX7_token_0 1 rfl rfl)
theorem dX7_token_2 : decode cX7_token 2 = .ok (.bipush 7, 2) := dk_16 7 (dk_at dksX7_token_0 2 rfl rfl)
theorem dX7_token_4 : decode cX7_token 4 = .ok (.invokevirtual 313, 3) := dk_182 1 57 (dk_at dksX7_token_0 4 rfl rfl)
theorem dX7_token_7 : decode cX7_token 7 = .ok (.ireturn, 1) := dk_172 (dk_at dksX7_token_0 7 rfl rfl)
abbrev cX7_ofNode : ByteArray := prog_22_method_87_code
def yX7_ofNode : MethodName := ⟨RX7, "ofNode", "(II)I"⟩
def dkwX7_ofNode_0 : List UInt8 := [42, 27, 182, 0, 172, 153, 0, 7, 3, 167, 0, 9, 42, 27, 28, 182, 0, 152, 172]
abbrev dktX7_ofNode_0 : List UInt8 := dkwX7_ofNode_0 ++ []
theorem dksX7_ofNode_0 : cX7_ofNode.data.toList.drop 0 = dktX7_ofNode_0 := by decide +kernel
theorem dX7_ofNode_0 : decode cX7_ofNode 0 = .ok (.aload_n 0, 1) := dk_42 (dk_at dksX7_ofNode_0 0 rfl rfl)
theorem dX7_ofNode_1 : decode cX7_ofNode 1 = .ok (.iload_n 1, 1) := dk_27 (dk_at dksX7_ofNode_0 1 rfl rfl)
theorem dX7_ofNode_2 : decode cX7_ofNode 2 = .ok (.invokevirtual 172, 3) := dk_182 0 172 (dk_at dksX7_ofNode_0 2 rfl rfl)
theorem dX7_ofNode_5 : decode cX7_ofNode 5 = .ok (.ifCond .eq 7, 3) := dk_153 0 7 (dk_at dksX7_ofNode_0 5 rfl rfl)
theorem dX7_ofNode_8 : decode cX7_ofNode 8 = .ok (.iconst 0, 1) := dk_3 (dk_at dksX7_ofNode_0 8 rfl rfl)
theorem dX7_ofNode_9 : decode cX7_ofNode 9 = .ok (.goto 9, 3) := dk_167 0 9 (dk_at dksX7_ofNode_0 9 rfl rfl)
theorem dX7_ofNode_12 : decode cX7_ofNode 12 = .ok (.aload_n 0, 1) := dk_42 (dk_at dksX7_ofNode_0 12 rfl rfl)
theorem dX7_ofNode_13 : decode cX7_ofNode 13 = .ok (.iload_n 1, 1) := dk_27 (dk_at dksX7_ofNode_0 13 rfl rfl)
theorem dX7_ofNode_14 : decode cX7_ofNode 14 = .ok (.iload_n 2, 1) := dk_28 (dk_at dksX7_ofNode_0 14 rfl rfl)
theorem dX7_ofNode_15 : decode cX7_ofNode 15 = .ok (.invokevirtual 152, 3) := dk_182 0 152 (dk_at dksX7_ofNode_0 15 rfl rfl)
theorem dX7_ofNode_18 : decode cX7_ofNode 18 = .ok (.ireturn, 1) := dk_172 (dk_at dksX7_ofNode_0 18 rfl rfl)
abbrev cX7_nodeExpiryTime : ByteArray := prog_22_method_89_code
def yX7_nodeExpiryTime : MethodName := ⟨RX7, "nodeExpiryTime", "(I)I"⟩
def dkwX7_nodeExpiryTime_1 : List UInt8 := [167, 0, 8, 42, 27, 182, 1, 0, 172]
abbrev dktX7_nodeExpiryTime_1 : List UInt8 := dkwX7_nodeExpiryTime_1 ++ []
def dkwX7_nodeExpiryTime_0 : List UInt8 := [42, 27, 182, 0, 172, 153, 0, 5, 3, 172, 42, 27, 16, 7, 182, 0, 152, 154, 0, 8, 16, 252]
abbrev dktX7_nodeExpiryTime_0 : List UInt8 := dkwX7_nodeExpiryTime_0 ++ dktX7_nodeExpiryTime_1
theorem dksX7_nodeExpiryTime_0 : cX7_nodeExpiryTime.data.toList.drop 0 = dktX7_nodeExpiryTime_0 := by decide +kernel
theorem dksX7_nodeExpiryTime_1 : cX7_nodeExpiryTime.data.toList.drop 22 = dktX7_nodeExpiryTime_1 := dk_seg dksX7_nodeExpiryTime_0 22 rfl rfl
theorem dX7_nodeExpiryTime_0 : decode cX7_nodeExpiryTime 0 = .ok (.aload_n 0, 1) := dk_42 (dk_at dksX7_nodeExpiryTime_0 0 rfl rfl)
theorem dX7_nodeExpiryTime_1 : decode cX7_nodeExpiryTime 1 = .ok (.iload_n 1, 1) := dk_27 (dk_at dksX7_nodeExpiryTime_0 1 rfl rfl)
theorem dX7_nodeExpiryTime_2 : decode cX7_nodeExpiryTime 2 = .ok (.invokevirtual 172, 3) := dk_182 0 172 (dk_at dksX7_nodeExpiryTime_0 2 rfl rfl)
theorem dX7_nodeExpiryTime_5 : decode cX7_nodeExpiryTime 5 = .ok (.ifCond .eq 5, 3) := dk_153 0 5 (dk_at dksX7_nodeExpiryTime_0 5 rfl rfl)
theorem dX7_nodeExpiryTime_8 : decode cX7_nodeExpiryTime 8 = .ok (.iconst 0, 1) := dk_3 (dk_at dksX7_nodeExpiryTime_0 8 rfl rfl)
theorem dX7_nodeExpiryTime_9 : decode cX7_nodeExpiryTime 9 = .ok (.ireturn, 1) := dk_172 (dk_at dksX7_nodeExpiryTime_0 9 rfl rfl)
theorem dX7_nodeExpiryTime_10 : decode cX7_nodeExpiryTime 10 = .ok (.aload_n 0, 1) := dk_42 (dk_at dksX7_nodeExpiryTime_0 10 rfl rfl)
theorem dX7_nodeExpiryTime_11 : decode cX7_nodeExpiryTime 11 = .ok (.iload_n 1, 1) := dk_27 (dk_at dksX7_nodeExpiryTime_0 11 rfl rfl)
theorem dX7_nodeExpiryTime_12 : decode cX7_nodeExpiryTime 12 = .ok (.bipush 7, 2) := dk_16 7 (dk_at dksX7_nodeExpiryTime_0 12 rfl rfl)
theorem dX7_nodeExpiryTime_14 : decode cX7_nodeExpiryTime 14 = .ok (.invokevirtual 152, 3) := dk_182 0 152 (dk_at dksX7_nodeExpiryTime_0 14 rfl rfl)
theorem dX7_nodeExpiryTime_17 : decode cX7_nodeExpiryTime 17 = .ok (.ifCond .ne 8, 3) := dk_154 0 8 (dk_at dksX7_nodeExpiryTime_0 17 rfl rfl)
theorem dX7_nodeExpiryTime_20 : decode cX7_nodeExpiryTime 20 = .ok (.bipush (-4), 2) := dk_16 252 (dk_at dksX7_nodeExpiryTime_0 20 rfl rfl)
theorem dX7_nodeExpiryTime_22 : decode cX7_nodeExpiryTime 22 = .ok (.goto 8, 3) := dk_167 0 8 (dk_at dksX7_nodeExpiryTime_1 0 rfl rfl)
theorem dX7_nodeExpiryTime_25 : decode cX7_nodeExpiryTime 25 = .ok (.aload_n 0, 1) := dk_42 (dk_at dksX7_nodeExpiryTime_1 3 rfl rfl)
theorem dX7_nodeExpiryTime_26 : decode cX7_nodeExpiryTime 26 = .ok (.iload_n 1, 1) := dk_27 (dk_at dksX7_nodeExpiryTime_1 4 rfl rfl)
theorem dX7_nodeExpiryTime_27 : decode cX7_nodeExpiryTime 27 = .ok (.invokevirtual 256, 3) := dk_182 1 0 (dk_at dksX7_nodeExpiryTime_1 5 rfl rfl)
theorem dX7_nodeExpiryTime_30 : decode cX7_nodeExpiryTime 30 = .ok (.ireturn, 1) := dk_172 (dk_at dksX7_nodeExpiryTime_1 8 rfl rfl)
abbrev cX7_margin : ByteArray := prog_22_method_90_code
def yX7_margin : MethodName := ⟨RX7, "margin", "(I)I"⟩
def dkwX7_margin_2 : List UInt8 := [154, 0, 7, 3, 167, 0, 13, 42, 182, 1, 51, 42, 27, 182, 1, 0, 100, 172]
abbrev dktX7_margin_2 : List UInt8 := dkwX7_margin_2 ++ []
def dkwX7_margin_1 : List UInt8 := [16, 7, 182, 0, 152, 42, 180, 0, 10, 16, 12, 46, 160, 0, 13, 42, 27, 16, 7, 182, 0, 152]
abbrev dktX7_margin_1 : List UInt8 := dkwX7_margin_1 ++ dktX7_margin_2
def dkwX7_margin_0 : List UInt8 := [42, 27, 182, 0, 172, 153, 0, 5, 3, 172, 42, 180, 0, 10, 16, 10, 46, 27, 160, 0, 30, 42, 27]
abbrev dktX7_margin_0 : List UInt8 := dkwX7_margin_0 ++ dktX7_margin_1
theorem dksX7_margin_0 : cX7_margin.data.toList.drop 0 = dktX7_margin_0 := by decide +kernel
theorem dksX7_margin_1 : cX7_margin.data.toList.drop 23 = dktX7_margin_1 := dk_seg dksX7_margin_0 23 rfl rfl
theorem dksX7_margin_2 : cX7_margin.data.toList.drop 45 = dktX7_margin_2 := dk_seg dksX7_margin_1 22 rfl rfl
theorem dX7_margin_0 : decode cX7_margin 0 = .ok (.aload_n 0, 1) := dk_42 (dk_at dksX7_margin_0 0 rfl rfl)
theorem dX7_margin_1 : decode cX7_margin 1 = .ok (.iload_n 1, 1) := dk_27 (dk_at dksX7_margin_0 1 rfl rfl)
theorem dX7_margin_2 : decode cX7_margin 2 = .ok (.invokevirtual 172, 3) := dk_182 0 172 (dk_at dksX7_margin_0 2 rfl rfl)
theorem dX7_margin_5 : decode cX7_margin 5 = .ok (.ifCond .eq 5, 3) := dk_153 0 5 (dk_at dksX7_margin_0 5 rfl rfl)
theorem dX7_margin_8 : decode cX7_margin 8 = .ok (.iconst 0, 1) := dk_3 (dk_at dksX7_margin_0 8 rfl rfl)
theorem dX7_margin_9 : decode cX7_margin 9 = .ok (.ireturn, 1) := dk_172 (dk_at dksX7_margin_0 9 rfl rfl)
theorem dX7_margin_10 : decode cX7_margin 10 = .ok (.aload_n 0, 1) := dk_42 (dk_at dksX7_margin_0 10 rfl rfl)
theorem dX7_margin_11 : decode cX7_margin 11 = .ok (.getfield 10, 3) := dk_180 0 10 (dk_at dksX7_margin_0 11 rfl rfl)
theorem dX7_margin_14 : decode cX7_margin 14 = .ok (.bipush 10, 2) := dk_16 10 (dk_at dksX7_margin_0 14 rfl rfl)
theorem dX7_margin_16 : decode cX7_margin 16 = .ok (.iaload, 1) := dk_46 (dk_at dksX7_margin_0 16 rfl rfl)
theorem dX7_margin_17 : decode cX7_margin 17 = .ok (.iload_n 1, 1) := dk_27 (dk_at dksX7_margin_0 17 rfl rfl)
theorem dX7_margin_18 : decode cX7_margin 18 = .ok (.if_icmp .ne 30, 3) := dk_160 0 30 (dk_at dksX7_margin_0 18 rfl rfl)
theorem dX7_margin_21 : decode cX7_margin 21 = .ok (.aload_n 0, 1) := dk_42 (dk_at dksX7_margin_0 21 rfl rfl)
theorem dX7_margin_22 : decode cX7_margin 22 = .ok (.iload_n 1, 1) := dk_27 (dk_at dksX7_margin_0 22 rfl rfl)
theorem dX7_margin_23 : decode cX7_margin 23 = .ok (.bipush 7, 2) := dk_16 7 (dk_at dksX7_margin_1 0 rfl rfl)
theorem dX7_margin_25 : decode cX7_margin 25 = .ok (.invokevirtual 152, 3) := dk_182 0 152 (dk_at dksX7_margin_1 2 rfl rfl)
theorem dX7_margin_28 : decode cX7_margin 28 = .ok (.aload_n 0, 1) := dk_42 (dk_at dksX7_margin_1 5 rfl rfl)
theorem dX7_margin_29 : decode cX7_margin 29 = .ok (.getfield 10, 3) := dk_180 0 10 (dk_at dksX7_margin_1 6 rfl rfl)
theorem dX7_margin_32 : decode cX7_margin 32 = .ok (.bipush 12, 2) := dk_16 12 (dk_at dksX7_margin_1 9 rfl rfl)
theorem dX7_margin_34 : decode cX7_margin 34 = .ok (.iaload, 1) := dk_46 (dk_at dksX7_margin_1 11 rfl rfl)
theorem dX7_margin_35 : decode cX7_margin 35 = .ok (.if_icmp .ne 13, 3) := dk_160 0 13 (dk_at dksX7_margin_1 12 rfl rfl)
theorem dX7_margin_38 : decode cX7_margin 38 = .ok (.aload_n 0, 1) := dk_42 (dk_at dksX7_margin_1 15 rfl rfl)
theorem dX7_margin_39 : decode cX7_margin 39 = .ok (.iload_n 1, 1) := dk_27 (dk_at dksX7_margin_1 16 rfl rfl)
theorem dX7_margin_40 : decode cX7_margin 40 = .ok (.bipush 7, 2) := dk_16 7 (dk_at dksX7_margin_1 17 rfl rfl)
theorem dX7_margin_42 : decode cX7_margin 42 = .ok (.invokevirtual 152, 3) := dk_182 0 152 (dk_at dksX7_margin_1 19 rfl rfl)
theorem dX7_margin_45 : decode cX7_margin 45 = .ok (.ifCond .ne 7, 3) := dk_154 0 7 (dk_at dksX7_margin_2 0 rfl rfl)
theorem dX7_margin_48 : decode cX7_margin 48 = .ok (.iconst 0, 1) := dk_3 (dk_at dksX7_margin_2 3 rfl rfl)
theorem dX7_margin_49 : decode cX7_margin 49 = .ok (.goto 13, 3) := dk_167 0 13 (dk_at dksX7_margin_2 4 rfl rfl)
theorem dX7_margin_52 : decode cX7_margin 52 = .ok (.aload_n 0, 1) := dk_42 (dk_at dksX7_margin_2 7 rfl rfl)
theorem dX7_margin_53 : decode cX7_margin 53 = .ok (.invokevirtual 307, 3) := dk_182 1 51 (dk_at dksX7_margin_2 8 rfl rfl)
theorem dX7_margin_56 : decode cX7_margin 56 = .ok (.aload_n 0, 1) := dk_42 (dk_at dksX7_margin_2 11 rfl rfl)
theorem dX7_margin_57 : decode cX7_margin 57 = .ok (.iload_n 1, 1) := dk_27 (dk_at dksX7_margin_2 12 rfl rfl)
theorem dX7_margin_58 : decode cX7_margin 58 = .ok (.invokevirtual 256, 3) := dk_182 1 0 (dk_at dksX7_margin_2 13 rfl rfl)
theorem dX7_margin_61 : decode cX7_margin 61 = .ok (.isub, 1) := dk_100 (dk_at dksX7_margin_2 16 rfl rfl)
theorem dX7_margin_62 : decode cX7_margin 62 = .ok (.ireturn, 1) := dk_172 (dk_at dksX7_margin_2 17 rfl rfl)
abbrev cX7_timerTime : ByteArray := prog_22_method_91_code
def yX7_timerTime : MethodName := ⟨RX7, "timerTime", "(I)I"⟩
def dkwX7_timerTime_1 : List UInt8 := [167, 0, 10, 42, 27, 16, 9, 182, 0, 152, 172]
abbrev dktX7_timerTime_1 : List UInt8 := dkwX7_timerTime_1 ++ []
def dkwX7_timerTime_0 : List UInt8 := [42, 27, 182, 0, 172, 153, 0, 5, 3, 172, 42, 27, 16, 9, 182, 0, 152, 2, 160, 0, 8, 16, 252]
abbrev dktX7_timerTime_0 : List UInt8 := dkwX7_timerTime_0 ++ dktX7_timerTime_1
theorem dksX7_timerTime_0 : cX7_timerTime.data.toList.drop 0 = dktX7_timerTime_0 := by decide +kernel
theorem dksX7_timerTime_1 : cX7_timerTime.data.toList.drop 23 = dktX7_timerTime_1 := dk_seg dksX7_timerTime_0 23 rfl rfl
theorem dX7_timerTime_0 : decode cX7_timerTime 0 = .ok (.aload_n 0, 1) := dk_42 (dk_at dksX7_timerTime_0 0 rfl rfl)
theorem dX7_timerTime_1 : decode cX7_timerTime 1 = .ok (.iload_n 1, 1) := dk_27 (dk_at dksX7_timerTime_0 1 rfl rfl)
theorem dX7_timerTime_2 : decode cX7_timerTime 2 = .ok (.invokevirtual 172, 3) := dk_182 0 172 (dk_at dksX7_timerTime_0 2 rfl rfl)
theorem dX7_timerTime_5 : decode cX7_timerTime 5 = .ok (.ifCond .eq 5, 3) := dk_153 0 5 (dk_at dksX7_timerTime_0 5 rfl rfl)
theorem dX7_timerTime_8 : decode cX7_timerTime 8 = .ok (.iconst 0, 1) := dk_3 (dk_at dksX7_timerTime_0 8 rfl rfl)
theorem dX7_timerTime_9 : decode cX7_timerTime 9 = .ok (.ireturn, 1) := dk_172 (dk_at dksX7_timerTime_0 9 rfl rfl)
theorem dX7_timerTime_10 : decode cX7_timerTime 10 = .ok (.aload_n 0, 1) := dk_42 (dk_at dksX7_timerTime_0 10 rfl rfl)
theorem dX7_timerTime_11 : decode cX7_timerTime 11 = .ok (.iload_n 1, 1) := dk_27 (dk_at dksX7_timerTime_0 11 rfl rfl)
theorem dX7_timerTime_12 : decode cX7_timerTime 12 = .ok (.bipush 9, 2) := dk_16 9 (dk_at dksX7_timerTime_0 12 rfl rfl)
theorem dX7_timerTime_14 : decode cX7_timerTime 14 = .ok (.invokevirtual 152, 3) := dk_182 0 152 (dk_at dksX7_timerTime_0 14 rfl rfl)
theorem dX7_timerTime_17 : decode cX7_timerTime 17 = .ok (.iconst (-1), 1) := dk_2 (dk_at dksX7_timerTime_0 17 rfl rfl)
theorem dX7_timerTime_18 : decode cX7_timerTime 18 = .ok (.if_icmp .ne 8, 3) := dk_160 0 8 (dk_at dksX7_timerTime_0 18 rfl rfl)
theorem dX7_timerTime_21 : decode cX7_timerTime 21 = .ok (.bipush (-4), 2) := dk_16 252 (dk_at dksX7_timerTime_0 21 rfl rfl)
theorem dX7_timerTime_23 : decode cX7_timerTime 23 = .ok (.goto 10, 3) := dk_167 0 10 (dk_at dksX7_timerTime_1 0 rfl rfl)
theorem dX7_timerTime_26 : decode cX7_timerTime 26 = .ok (.aload_n 0, 1) := dk_42 (dk_at dksX7_timerTime_1 3 rfl rfl)
theorem dX7_timerTime_27 : decode cX7_timerTime 27 = .ok (.iload_n 1, 1) := dk_27 (dk_at dksX7_timerTime_1 4 rfl rfl)
theorem dX7_timerTime_28 : decode cX7_timerTime 28 = .ok (.bipush 9, 2) := dk_16 9 (dk_at dksX7_timerTime_1 5 rfl rfl)
theorem dX7_timerTime_30 : decode cX7_timerTime 30 = .ok (.invokevirtual 152, 3) := dk_182 0 152 (dk_at dksX7_timerTime_1 7 rfl rfl)
theorem dX7_timerTime_33 : decode cX7_timerTime 33 = .ok (.ireturn, 1) := dk_172 (dk_at dksX7_timerTime_1 10 rfl rfl)
abbrev cX7_nodeState : ByteArray := prog_22_method_92_code
def yX7_nodeState : MethodName := ⟨RX7, "nodeState", "(I)I"⟩
def dkwX7_nodeState_2 : List UInt8 := [104, 96, 172]
abbrev dktX7_nodeState_2 : List UInt8 := dkwX7_nodeState_2 ++ []
def dkwX7_nodeState_1 : List UInt8 := [5, 167, 0, 4, 3, 96, 7, 42, 27, 8, 182, 0, 152, 104, 96, 16, 8, 42, 27, 16, 6, 182, 0, 152]
abbrev dktX7_nodeState_1 : List UInt8 := dkwX7_nodeState_1 ++ dktX7_nodeState_2
def dkwX7_nodeState_0 : List UInt8 := [42, 27, 182, 0, 172, 153, 0, 5, 3, 172, 42, 27, 6, 182, 0, 152, 42, 27, 182, 0, 229, 153, 0, 7]
abbrev dktX7_nodeState_0 : List UInt8 := dkwX7_nodeState_0 ++ dktX7_nodeState_1
theorem dksX7_nodeState_0 : cX7_nodeState.data.toList.drop 0 = dktX7_nodeState_0 := by decide +kernel
theorem dksX7_nodeState_1 : cX7_nodeState.data.toList.drop 24 = dktX7_nodeState_1 := dk_seg dksX7_nodeState_0 24 rfl rfl
theorem dksX7_nodeState_2 : cX7_nodeState.data.toList.drop 48 = dktX7_nodeState_2 := dk_seg dksX7_nodeState_1 24 rfl rfl
theorem dX7_nodeState_0 : decode cX7_nodeState 0 = .ok (.aload_n 0, 1) := dk_42 (dk_at dksX7_nodeState_0 0 rfl rfl)
theorem dX7_nodeState_1 : decode cX7_nodeState 1 = .ok (.iload_n 1, 1) := dk_27 (dk_at dksX7_nodeState_0 1 rfl rfl)
theorem dX7_nodeState_2 : decode cX7_nodeState 2 = .ok (.invokevirtual 172, 3) := dk_182 0 172 (dk_at dksX7_nodeState_0 2 rfl rfl)
theorem dX7_nodeState_5 : decode cX7_nodeState 5 = .ok (.ifCond .eq 5, 3) := dk_153 0 5 (dk_at dksX7_nodeState_0 5 rfl rfl)
theorem dX7_nodeState_8 : decode cX7_nodeState 8 = .ok (.iconst 0, 1) := dk_3 (dk_at dksX7_nodeState_0 8 rfl rfl)
theorem dX7_nodeState_9 : decode cX7_nodeState 9 = .ok (.ireturn, 1) := dk_172 (dk_at dksX7_nodeState_0 9 rfl rfl)
theorem dX7_nodeState_10 : decode cX7_nodeState 10 = .ok (.aload_n 0, 1) := dk_42 (dk_at dksX7_nodeState_0 10 rfl rfl)
theorem dX7_nodeState_11 : decode cX7_nodeState 11 = .ok (.iload_n 1, 1) := dk_27 (dk_at dksX7_nodeState_0 11 rfl rfl)
theorem dX7_nodeState_12 : decode cX7_nodeState 12 = .ok (.iconst 3, 1) := dk_6 (dk_at dksX7_nodeState_0 12 rfl rfl)
theorem dX7_nodeState_13 : decode cX7_nodeState 13 = .ok (.invokevirtual 152, 3) := dk_182 0 152 (dk_at dksX7_nodeState_0 13 rfl rfl)
theorem dX7_nodeState_16 : decode cX7_nodeState 16 = .ok (.aload_n 0, 1) := dk_42 (dk_at dksX7_nodeState_0 16 rfl rfl)
theorem dX7_nodeState_17 : decode cX7_nodeState 17 = .ok (.iload_n 1, 1) := dk_27 (dk_at dksX7_nodeState_0 17 rfl rfl)
theorem dX7_nodeState_18 : decode cX7_nodeState 18 = .ok (.invokevirtual 229, 3) := dk_182 0 229 (dk_at dksX7_nodeState_0 18 rfl rfl)
theorem dX7_nodeState_21 : decode cX7_nodeState 21 = .ok (.ifCond .eq 7, 3) := dk_153 0 7 (dk_at dksX7_nodeState_0 21 rfl rfl)
theorem dX7_nodeState_24 : decode cX7_nodeState 24 = .ok (.iconst 2, 1) := dk_5 (dk_at dksX7_nodeState_1 0 rfl rfl)
theorem dX7_nodeState_25 : decode cX7_nodeState 25 = .ok (.goto 4, 3) := dk_167 0 4 (dk_at dksX7_nodeState_1 1 rfl rfl)
theorem dX7_nodeState_28 : decode cX7_nodeState 28 = .ok (.iconst 0, 1) := dk_3 (dk_at dksX7_nodeState_1 4 rfl rfl)
theorem dX7_nodeState_29 : decode cX7_nodeState 29 = .ok (.iadd, 1) := dk_96 (dk_at dksX7_nodeState_1 5 rfl rfl)
theorem dX7_nodeState_30 : decode cX7_nodeState 30 = .ok (.iconst 4, 1) := dk_7 (dk_at dksX7_nodeState_1 6 rfl rfl)
theorem dX7_nodeState_31 : decode cX7_nodeState 31 = .ok (.aload_n 0, 1) := dk_42 (dk_at dksX7_nodeState_1 7 rfl rfl)
theorem dX7_nodeState_32 : decode cX7_nodeState 32 = .ok (.iload_n 1, 1) := dk_27 (dk_at dksX7_nodeState_1 8 rfl rfl)
theorem dX7_nodeState_33 : decode cX7_nodeState 33 = .ok (.iconst 5, 1) := dk_8 (dk_at dksX7_nodeState_1 9 rfl rfl)
theorem dX7_nodeState_34 : decode cX7_nodeState 34 = .ok (.invokevirtual 152, 3) := dk_182 0 152 (dk_at dksX7_nodeState_1 10 rfl rfl)
theorem dX7_nodeState_37 : decode cX7_nodeState 37 = .ok (.imul, 1) := dk_104 (dk_at dksX7_nodeState_1 13 rfl rfl)
theorem dX7_nodeState_38 : decode cX7_nodeState 38 = .ok (.iadd, 1) := dk_96 (dk_at dksX7_nodeState_1 14 rfl rfl)
theorem dX7_nodeState_39 : decode cX7_nodeState 39 = .ok (.bipush 8, 2) := dk_16 8 (dk_at dksX7_nodeState_1 15 rfl rfl)
theorem dX7_nodeState_41 : decode cX7_nodeState 41 = .ok (.aload_n 0, 1) := dk_42 (dk_at dksX7_nodeState_1 17 rfl rfl)
theorem dX7_nodeState_42 : decode cX7_nodeState 42 = .ok (.iload_n 1, 1) := dk_27 (dk_at dksX7_nodeState_1 18 rfl rfl)
theorem dX7_nodeState_43 : decode cX7_nodeState 43 = .ok (.bipush 6, 2) := dk_16 6 (dk_at dksX7_nodeState_1 19 rfl rfl)
theorem dX7_nodeState_45 : decode cX7_nodeState 45 = .ok (.invokevirtual 152, 3) := dk_182 0 152 (dk_at dksX7_nodeState_1 21 rfl rfl)
theorem dX7_nodeState_48 : decode cX7_nodeState 48 = .ok (.imul, 1) := dk_104 (dk_at dksX7_nodeState_2 0 rfl rfl)
theorem dX7_nodeState_49 : decode cX7_nodeState 49 = .ok (.iadd, 1) := dk_96 (dk_at dksX7_nodeState_2 1 rfl rfl)
theorem dX7_nodeState_50 : decode cX7_nodeState 50 = .ok (.ireturn, 1) := dk_172 (dk_at dksX7_nodeState_2 2 rfl rfl)
abbrev cX7_cached : ByteArray := prog_22_method_93_code
def yX7_cached : MethodName := ⟨RX7, "cached", "(I)I"⟩
def dkwX7_cached_0 : List UInt8 := [42, 27, 16, 11, 182, 1, 57, 172]
abbrev dktX7_cached_0 : List UInt8 := dkwX7_cached_0 ++ []
theorem dksX7_cached_0 : cX7_cached.data.toList.drop 0 = dktX7_cached_0 := by decide +kernel
theorem dX7_cached_0 : decode cX7_cached 0 = .ok (.aload_n 0, 1) := dk_42 (dk_at dksX7_cached_0 0 rfl rfl)
theorem dX7_cached_1 : decode cX7_cached 1 = .ok (.iload_n 1, 1) := dk_27 (dk_at dksX7_cached_0 1 rfl rfl)
theorem dX7_cached_2 : decode cX7_cached 2 = .ok (.bipush 11, 2) := dk_16 11 (dk_at dksX7_cached_0 2 rfl rfl)
theorem dX7_cached_4 : decode cX7_cached 4 = .ok (.invokevirtual 313, 3) := dk_182 1 57 (dk_at dksX7_cached_0 4 rfl rfl)
theorem dX7_cached_7 : decode cX7_cached 7 = .ok (.ireturn, 1) := dk_172 (dk_at dksX7_cached_0 7 rfl rfl)
abbrev cX7_leaseLeft : ByteArray := prog_22_method_94_code
def yX7_leaseLeft : MethodName := ⟨RX7, "leaseLeft", "(I)I"⟩
def dkwX7_leaseLeft_2 : List UInt8 := [184, 0, 166, 172]
abbrev dktX7_leaseLeft_2 : List UInt8 := dkwX7_leaseLeft_2 ++ []
def dkwX7_leaseLeft_1 : List UInt8 := [182, 0, 152, 154, 0, 7, 3, 167, 0, 20, 3, 42, 27, 16, 8, 182, 0, 152, 42, 27, 182, 0, 162, 100]
abbrev dktX7_leaseLeft_1 : List UInt8 := dkwX7_leaseLeft_1 ++ dktX7_leaseLeft_2
def dkwX7_leaseLeft_0 : List UInt8 := [42, 27, 182, 0, 172, 153, 0, 5, 3, 172, 42, 27, 6, 182, 0, 152, 153, 0, 13, 42, 27, 16, 7]
abbrev dktX7_leaseLeft_0 : List UInt8 := dkwX7_leaseLeft_0 ++ dktX7_leaseLeft_1
theorem dksX7_leaseLeft_0 : cX7_leaseLeft.data.toList.drop 0 = dktX7_leaseLeft_0 := by decide +kernel
theorem dksX7_leaseLeft_1 : cX7_leaseLeft.data.toList.drop 23 = dktX7_leaseLeft_1 := dk_seg dksX7_leaseLeft_0 23 rfl rfl
theorem dksX7_leaseLeft_2 : cX7_leaseLeft.data.toList.drop 47 = dktX7_leaseLeft_2 := dk_seg dksX7_leaseLeft_1 24 rfl rfl
theorem dX7_leaseLeft_0 : decode cX7_leaseLeft 0 = .ok (.aload_n 0, 1) := dk_42 (dk_at dksX7_leaseLeft_0 0 rfl rfl)
theorem dX7_leaseLeft_1 : decode cX7_leaseLeft 1 = .ok (.iload_n 1, 1) := dk_27 (dk_at dksX7_leaseLeft_0 1 rfl rfl)
theorem dX7_leaseLeft_2 : decode cX7_leaseLeft 2 = .ok (.invokevirtual 172, 3) := dk_182 0 172 (dk_at dksX7_leaseLeft_0 2 rfl rfl)
theorem dX7_leaseLeft_5 : decode cX7_leaseLeft 5 = .ok (.ifCond .eq 5, 3) := dk_153 0 5 (dk_at dksX7_leaseLeft_0 5 rfl rfl)
theorem dX7_leaseLeft_8 : decode cX7_leaseLeft 8 = .ok (.iconst 0, 1) := dk_3 (dk_at dksX7_leaseLeft_0 8 rfl rfl)
theorem dX7_leaseLeft_9 : decode cX7_leaseLeft 9 = .ok (.ireturn, 1) := dk_172 (dk_at dksX7_leaseLeft_0 9 rfl rfl)
theorem dX7_leaseLeft_10 : decode cX7_leaseLeft 10 = .ok (.aload_n 0, 1) := dk_42 (dk_at dksX7_leaseLeft_0 10 rfl rfl)
theorem dX7_leaseLeft_11 : decode cX7_leaseLeft 11 = .ok (.iload_n 1, 1) := dk_27 (dk_at dksX7_leaseLeft_0 11 rfl rfl)
theorem dX7_leaseLeft_12 : decode cX7_leaseLeft 12 = .ok (.iconst 3, 1) := dk_6 (dk_at dksX7_leaseLeft_0 12 rfl rfl)
theorem dX7_leaseLeft_13 : decode cX7_leaseLeft 13 = .ok (.invokevirtual 152, 3) := dk_182 0 152 (dk_at dksX7_leaseLeft_0 13 rfl rfl)
theorem dX7_leaseLeft_16 : decode cX7_leaseLeft 16 = .ok (.ifCond .eq 13, 3) := dk_153 0 13 (dk_at dksX7_leaseLeft_0 16 rfl rfl)
theorem dX7_leaseLeft_19 : decode cX7_leaseLeft 19 = .ok (.aload_n 0, 1) := dk_42 (dk_at dksX7_leaseLeft_0 19 rfl rfl)
theorem dX7_leaseLeft_20 : decode cX7_leaseLeft 20 = .ok (.iload_n 1, 1) := dk_27 (dk_at dksX7_leaseLeft_0 20 rfl rfl)
theorem dX7_leaseLeft_21 : decode cX7_leaseLeft 21 = .ok (.bipush 7, 2) := dk_16 7 (dk_at dksX7_leaseLeft_0 21 rfl rfl)
theorem dX7_leaseLeft_23 : decode cX7_leaseLeft 23 = .ok (.invokevirtual 152, 3) := dk_182 0 152 (dk_at dksX7_leaseLeft_1 0 rfl rfl)
theorem dX7_leaseLeft_26 : decode cX7_leaseLeft 26 = .ok (.ifCond .ne 7, 3) := dk_154 0 7 (dk_at dksX7_leaseLeft_1 3 rfl rfl)
theorem dX7_leaseLeft_29 : decode cX7_leaseLeft 29 = .ok (.iconst 0, 1) := dk_3 (dk_at dksX7_leaseLeft_1 6 rfl rfl)
theorem dX7_leaseLeft_30 : decode cX7_leaseLeft 30 = .ok (.goto 20, 3) := dk_167 0 20 (dk_at dksX7_leaseLeft_1 7 rfl rfl)
theorem dX7_leaseLeft_33 : decode cX7_leaseLeft 33 = .ok (.iconst 0, 1) := dk_3 (dk_at dksX7_leaseLeft_1 10 rfl rfl)
theorem dX7_leaseLeft_34 : decode cX7_leaseLeft 34 = .ok (.aload_n 0, 1) := dk_42 (dk_at dksX7_leaseLeft_1 11 rfl rfl)
theorem dX7_leaseLeft_35 : decode cX7_leaseLeft 35 = .ok (.iload_n 1, 1) := dk_27 (dk_at dksX7_leaseLeft_1 12 rfl rfl)
theorem dX7_leaseLeft_36 : decode cX7_leaseLeft 36 = .ok (.bipush 8, 2) := dk_16 8 (dk_at dksX7_leaseLeft_1 13 rfl rfl)
theorem dX7_leaseLeft_38 : decode cX7_leaseLeft 38 = .ok (.invokevirtual 152, 3) := dk_182 0 152 (dk_at dksX7_leaseLeft_1 15 rfl rfl)
theorem dX7_leaseLeft_41 : decode cX7_leaseLeft 41 = .ok (.aload_n 0, 1) := dk_42 (dk_at dksX7_leaseLeft_1 18 rfl rfl)
theorem dX7_leaseLeft_42 : decode cX7_leaseLeft 42 = .ok (.iload_n 1, 1) := dk_27 (dk_at dksX7_leaseLeft_1 19 rfl rfl)
theorem dX7_leaseLeft_43 : decode cX7_leaseLeft 43 = .ok (.invokevirtual 162, 3) := dk_182 0 162 (dk_at dksX7_leaseLeft_1 20 rfl rfl)
theorem dX7_leaseLeft_46 : decode cX7_leaseLeft 46 = .ok (.isub, 1) := dk_100 (dk_at dksX7_leaseLeft_1 23 rfl rfl)
theorem dX7_leaseLeft_47 : decode cX7_leaseLeft 47 = .ok (.invokestatic 166, 3) := dk_184 0 166 (dk_at dksX7_leaseLeft_2 0 rfl rfl)
theorem dX7_leaseLeft_50 : decode cX7_leaseLeft 50 = .ok (.ireturn, 1) := dk_172 (dk_at dksX7_leaseLeft_2 3 rfl rfl)
abbrev cX7_smallestBound : ByteArray := prog_22_method_95_code
def yX7_smallestBound : MethodName := ⟨RX7, "smallestBound", "()I"⟩
def dkwX7_smallestBound_2 : List UInt8 := [184, 0, 166, 60, 132, 2, 1, 167, 255, 225, 27, 172]
abbrev dktX7_smallestBound_2 : List UInt8 := dkwX7_smallestBound_2 ++ []
def dkwX7_smallestBound_1 : List UInt8 := [180, 0, 10, 5, 46, 162, 0, 27, 27, 42, 28, 3, 182, 0, 152, 17, 3, 232, 100, 184, 1, 60]
abbrev dktX7_smallestBound_1 : List UInt8 := dkwX7_smallestBound_1 ++ dktX7_smallestBound_2
def dkwX7_smallestBound_0 : List UInt8 := [42, 3, 181, 0, 65, 42, 180, 0, 10, 6, 46, 17, 3, 232, 100, 184, 1, 60, 60, 3, 61, 28, 42]
abbrev dktX7_smallestBound_0 : List UInt8 := dkwX7_smallestBound_0 ++ dktX7_smallestBound_1
theorem dksX7_smallestBound_0 : cX7_smallestBound.data.toList.drop 0 = dktX7_smallestBound_0 := by decide +kernel
theorem dksX7_smallestBound_1 : cX7_smallestBound.data.toList.drop 23 = dktX7_smallestBound_1 := dk_seg dksX7_smallestBound_0 23 rfl rfl
theorem dksX7_smallestBound_2 : cX7_smallestBound.data.toList.drop 45 = dktX7_smallestBound_2 := dk_seg dksX7_smallestBound_1 22 rfl rfl
theorem dX7_smallestBound_0 : decode cX7_smallestBound 0 = .ok (.aload_n 0, 1) := dk_42 (dk_at dksX7_smallestBound_0 0 rfl rfl)
theorem dX7_smallestBound_1 : decode cX7_smallestBound 1 = .ok (.iconst 0, 1) := dk_3 (dk_at dksX7_smallestBound_0 1 rfl rfl)
theorem dX7_smallestBound_2 : decode cX7_smallestBound 2 = .ok (.putfield 65, 3) := dk_181 0 65 (dk_at dksX7_smallestBound_0 2 rfl rfl)
theorem dX7_smallestBound_5 : decode cX7_smallestBound 5 = .ok (.aload_n 0, 1) := dk_42 (dk_at dksX7_smallestBound_0 5 rfl rfl)
theorem dX7_smallestBound_6 : decode cX7_smallestBound 6 = .ok (.getfield 10, 3) := dk_180 0 10 (dk_at dksX7_smallestBound_0 6 rfl rfl)
theorem dX7_smallestBound_9 : decode cX7_smallestBound 9 = .ok (.iconst 3, 1) := dk_6 (dk_at dksX7_smallestBound_0 9 rfl rfl)
theorem dX7_smallestBound_10 : decode cX7_smallestBound 10 = .ok (.iaload, 1) := dk_46 (dk_at dksX7_smallestBound_0 10 rfl rfl)
theorem dX7_smallestBound_11 : decode cX7_smallestBound 11 = .ok (.sipush 1000, 3) := dk_17 3 232 (dk_at dksX7_smallestBound_0 11 rfl rfl)
theorem dX7_smallestBound_14 : decode cX7_smallestBound 14 = .ok (.isub, 1) := dk_100 (dk_at dksX7_smallestBound_0 14 rfl rfl)
theorem dX7_smallestBound_15 : decode cX7_smallestBound 15 = .ok (.invokestatic 316, 3) := dk_184 1 60 (dk_at dksX7_smallestBound_0 15 rfl rfl)
theorem dX7_smallestBound_18 : decode cX7_smallestBound 18 = .ok (.istore_n 1, 1) := dk_60 (dk_at dksX7_smallestBound_0 18 rfl rfl)
theorem dX7_smallestBound_19 : decode cX7_smallestBound 19 = .ok (.iconst 0, 1) := dk_3 (dk_at dksX7_smallestBound_0 19 rfl rfl)
theorem dX7_smallestBound_20 : decode cX7_smallestBound 20 = .ok (.istore_n 2, 1) := dk_61 (dk_at dksX7_smallestBound_0 20 rfl rfl)
theorem dX7_smallestBound_21 : decode cX7_smallestBound 21 = .ok (.iload_n 2, 1) := dk_28 (dk_at dksX7_smallestBound_0 21 rfl rfl)
theorem dX7_smallestBound_22 : decode cX7_smallestBound 22 = .ok (.aload_n 0, 1) := dk_42 (dk_at dksX7_smallestBound_0 22 rfl rfl)
theorem dX7_smallestBound_23 : decode cX7_smallestBound 23 = .ok (.getfield 10, 3) := dk_180 0 10 (dk_at dksX7_smallestBound_1 0 rfl rfl)
theorem dX7_smallestBound_26 : decode cX7_smallestBound 26 = .ok (.iconst 2, 1) := dk_5 (dk_at dksX7_smallestBound_1 3 rfl rfl)
theorem dX7_smallestBound_27 : decode cX7_smallestBound 27 = .ok (.iaload, 1) := dk_46 (dk_at dksX7_smallestBound_1 4 rfl rfl)
theorem dX7_smallestBound_28 : decode cX7_smallestBound 28 = .ok (.if_icmp .ge 27, 3) := dk_162 0 27 (dk_at dksX7_smallestBound_1 5 rfl rfl)
theorem dX7_smallestBound_31 : decode cX7_smallestBound 31 = .ok (.iload_n 1, 1) := dk_27 (dk_at dksX7_smallestBound_1 8 rfl rfl)
theorem dX7_smallestBound_32 : decode cX7_smallestBound 32 = .ok (.aload_n 0, 1) := dk_42 (dk_at dksX7_smallestBound_1 9 rfl rfl)
theorem dX7_smallestBound_33 : decode cX7_smallestBound 33 = .ok (.iload_n 2, 1) := dk_28 (dk_at dksX7_smallestBound_1 10 rfl rfl)
theorem dX7_smallestBound_34 : decode cX7_smallestBound 34 = .ok (.iconst 0, 1) := dk_3 (dk_at dksX7_smallestBound_1 11 rfl rfl)
theorem dX7_smallestBound_35 : decode cX7_smallestBound 35 = .ok (.invokevirtual 152, 3) := dk_182 0 152 (dk_at dksX7_smallestBound_1 12 rfl rfl)
theorem dX7_smallestBound_38 : decode cX7_smallestBound 38 = .ok (.sipush 1000, 3) := dk_17 3 232 (dk_at dksX7_smallestBound_1 15 rfl rfl)
theorem dX7_smallestBound_41 : decode cX7_smallestBound 41 = .ok (.isub, 1) := dk_100 (dk_at dksX7_smallestBound_1 18 rfl rfl)
theorem dX7_smallestBound_42 : decode cX7_smallestBound 42 = .ok (.invokestatic 316, 3) := dk_184 1 60 (dk_at dksX7_smallestBound_1 19 rfl rfl)
theorem dX7_smallestBound_45 : decode cX7_smallestBound 45 = .ok (.invokestatic 166, 3) := dk_184 0 166 (dk_at dksX7_smallestBound_2 0 rfl rfl)
theorem dX7_smallestBound_48 : decode cX7_smallestBound 48 = .ok (.istore_n 1, 1) := dk_60 (dk_at dksX7_smallestBound_2 3 rfl rfl)
theorem dX7_smallestBound_49 : decode cX7_smallestBound 49 = .ok (.iinc 2 1, 3) := dk_132 2 1 (dk_at dksX7_smallestBound_2 4 rfl rfl)
theorem dX7_smallestBound_52 : decode cX7_smallestBound 52 = .ok (.goto (-31), 3) := dk_167 255 225 (dk_at dksX7_smallestBound_2 7 rfl rfl)
theorem dX7_smallestBound_55 : decode cX7_smallestBound 55 = .ok (.iload_n 1, 1) := dk_27 (dk_at dksX7_smallestBound_2 10 rfl rfl)
theorem dX7_smallestBound_56 : decode cX7_smallestBound 56 = .ok (.ireturn, 1) := dk_172 (dk_at dksX7_smallestBound_2 11 rfl rfl)
abbrev cX7_overtakingPairs : ByteArray := prog_22_method_97_code
def yX7_overtakingPairs : MethodName := ⟨RX7, "overtakingPairs", "()I"⟩
def dkwX7_overtakingPairs_2 : List UInt8 := [162, 0, 7, 4, 167, 0, 4, 3, 96, 60, 132, 3, 1, 167, 255, 221, 132, 2, 1, 167, 255, 200, 27, 172]
abbrev dktX7_overtakingPairs_2 : List UInt8 := dkwX7_overtakingPairs_2 ++ []
def dkwX7_overtakingPairs_1 : List UInt8 := [29, 42, 180, 0, 10, 16, 20, 46, 162, 0, 30, 27, 42, 29, 182, 1, 63, 42, 28, 182, 1, 63]
abbrev dktX7_overtakingPairs_1 : List UInt8 := dkwX7_overtakingPairs_1 ++ dktX7_overtakingPairs_2
def dkwX7_overtakingPairs_0 : List UInt8 := [42, 3, 181, 0, 65, 3, 60, 3, 61, 28, 42, 180, 0, 10, 16, 20, 46, 162, 0, 51, 28, 4, 96, 62]
abbrev dktX7_overtakingPairs_0 : List UInt8 := dkwX7_overtakingPairs_0 ++ dktX7_overtakingPairs_1
theorem dksX7_overtakingPairs_0 : cX7_overtakingPairs.data.toList.drop 0 = dktX7_overtakingPairs_0 := by decide +kernel
theorem dksX7_overtakingPairs_1 : cX7_overtakingPairs.data.toList.drop 24 = dktX7_overtakingPairs_1 := dk_seg dksX7_overtakingPairs_0 24 rfl rfl
theorem dksX7_overtakingPairs_2 : cX7_overtakingPairs.data.toList.drop 46 = dktX7_overtakingPairs_2 := dk_seg dksX7_overtakingPairs_1 22 rfl rfl
theorem dX7_overtakingPairs_0 : decode cX7_overtakingPairs 0 = .ok (.aload_n 0, 1) := dk_42 (dk_at dksX7_overtakingPairs_0 0 rfl rfl)
theorem dX7_overtakingPairs_1 : decode cX7_overtakingPairs 1 = .ok (.iconst 0, 1) := dk_3 (dk_at dksX7_overtakingPairs_0 1 rfl rfl)
theorem dX7_overtakingPairs_2 : decode cX7_overtakingPairs 2 = .ok (.putfield 65, 3) := dk_181 0 65 (dk_at dksX7_overtakingPairs_0 2 rfl rfl)
theorem dX7_overtakingPairs_5 : decode cX7_overtakingPairs 5 = .ok (.iconst 0, 1) := dk_3 (dk_at dksX7_overtakingPairs_0 5 rfl rfl)
theorem dX7_overtakingPairs_6 : decode cX7_overtakingPairs 6 = .ok (.istore_n 1, 1) := dk_60 (dk_at dksX7_overtakingPairs_0 6 rfl rfl)
theorem dX7_overtakingPairs_7 : decode cX7_overtakingPairs 7 = .ok (.iconst 0, 1) := dk_3 (dk_at dksX7_overtakingPairs_0 7 rfl rfl)
theorem dX7_overtakingPairs_8 : decode cX7_overtakingPairs 8 = .ok (.istore_n 2, 1) := dk_61 (dk_at dksX7_overtakingPairs_0 8 rfl rfl)
theorem dX7_overtakingPairs_9 : decode cX7_overtakingPairs 9 = .ok (.iload_n 2, 1) := dk_28 (dk_at dksX7_overtakingPairs_0 9 rfl rfl)
theorem dX7_overtakingPairs_10 : decode cX7_overtakingPairs 10 = .ok (.aload_n 0, 1) := dk_42 (dk_at dksX7_overtakingPairs_0 10 rfl rfl)
theorem dX7_overtakingPairs_11 : decode cX7_overtakingPairs 11 = .ok (.getfield 10, 3) := dk_180 0 10 (dk_at dksX7_overtakingPairs_0 11 rfl rfl)
theorem dX7_overtakingPairs_14 : decode cX7_overtakingPairs 14 = .ok (.bipush 20, 2) := dk_16 20 (dk_at dksX7_overtakingPairs_0 14 rfl rfl)
theorem dX7_overtakingPairs_16 : decode cX7_overtakingPairs 16 = .ok (.iaload, 1) := dk_46 (dk_at dksX7_overtakingPairs_0 16 rfl rfl)
theorem dX7_overtakingPairs_17 : decode cX7_overtakingPairs 17 = .ok (.if_icmp .ge 51, 3) := dk_162 0 51 (dk_at dksX7_overtakingPairs_0 17 rfl rfl)
theorem dX7_overtakingPairs_20 : decode cX7_overtakingPairs 20 = .ok (.iload_n 2, 1) := dk_28 (dk_at dksX7_overtakingPairs_0 20 rfl rfl)
theorem dX7_overtakingPairs_21 : decode cX7_overtakingPairs 21 = .ok (.iconst 1, 1) := dk_4 (dk_at dksX7_overtakingPairs_0 21 rfl rfl)
theorem dX7_overtakingPairs_22 : decode cX7_overtakingPairs 22 = .ok (.iadd, 1) := dk_96 (dk_at dksX7_overtakingPairs_0 22 rfl rfl)
theorem dX7_overtakingPairs_23 : decode cX7_overtakingPairs 23 = .ok (.istore_n 3, 1) := dk_62 (dk_at dksX7_overtakingPairs_0 23 rfl rfl)
theorem dX7_overtakingPairs_24 : decode cX7_overtakingPairs 24 = .ok (.iload_n 3, 1) := dk_29 (dk_at dksX7_overtakingPairs_1 0 rfl rfl)
theorem dX7_overtakingPairs_25 : decode cX7_overtakingPairs 25 = .ok (.aload_n 0, 1) := dk_42 (dk_at dksX7_overtakingPairs_1 1 rfl rfl)
theorem dX7_overtakingPairs_26 : decode cX7_overtakingPairs 26 = .ok (.getfield 10, 3) := dk_180 0 10 (dk_at dksX7_overtakingPairs_1 2 rfl rfl)
theorem dX7_overtakingPairs_29 : decode cX7_overtakingPairs 29 = .ok (.bipush 20, 2) := dk_16 20 (dk_at dksX7_overtakingPairs_1 5 rfl rfl)
theorem dX7_overtakingPairs_31 : decode cX7_overtakingPairs 31 = .ok (.iaload, 1) := dk_46 (dk_at dksX7_overtakingPairs_1 7 rfl rfl)
theorem dX7_overtakingPairs_32 : decode cX7_overtakingPairs 32 = .ok (.if_icmp .ge 30, 3) := dk_162 0 30 (dk_at dksX7_overtakingPairs_1 8 rfl rfl)
theorem dX7_overtakingPairs_35 : decode cX7_overtakingPairs 35 = .ok (.iload_n 1, 1) := dk_27 (dk_at dksX7_overtakingPairs_1 11 rfl rfl)
theorem dX7_overtakingPairs_36 : decode cX7_overtakingPairs 36 = .ok (.aload_n 0, 1) := dk_42 (dk_at dksX7_overtakingPairs_1 12 rfl rfl)
theorem dX7_overtakingPairs_37 : decode cX7_overtakingPairs 37 = .ok (.iload_n 3, 1) := dk_29 (dk_at dksX7_overtakingPairs_1 13 rfl rfl)
theorem dX7_overtakingPairs_38 : decode cX7_overtakingPairs 38 = .ok (.invokevirtual 319, 3) := dk_182 1 63 (dk_at dksX7_overtakingPairs_1 14 rfl rfl)
theorem dX7_overtakingPairs_41 : decode cX7_overtakingPairs 41 = .ok (.aload_n 0, 1) := dk_42 (dk_at dksX7_overtakingPairs_1 17 rfl rfl)
theorem dX7_overtakingPairs_42 : decode cX7_overtakingPairs 42 = .ok (.iload_n 2, 1) := dk_28 (dk_at dksX7_overtakingPairs_1 18 rfl rfl)
theorem dX7_overtakingPairs_43 : decode cX7_overtakingPairs 43 = .ok (.invokevirtual 319, 3) := dk_182 1 63 (dk_at dksX7_overtakingPairs_1 19 rfl rfl)
theorem dX7_overtakingPairs_46 : decode cX7_overtakingPairs 46 = .ok (.if_icmp .ge 7, 3) := dk_162 0 7 (dk_at dksX7_overtakingPairs_2 0 rfl rfl)
theorem dX7_overtakingPairs_49 : decode cX7_overtakingPairs 49 = .ok (.iconst 1, 1) := dk_4 (dk_at dksX7_overtakingPairs_2 3 rfl rfl)
theorem dX7_overtakingPairs_50 : decode cX7_overtakingPairs 50 = .ok (.goto 4, 3) := dk_167 0 4 (dk_at dksX7_overtakingPairs_2 4 rfl rfl)
theorem dX7_overtakingPairs_53 : decode cX7_overtakingPairs 53 = .ok (.iconst 0, 1) := dk_3 (dk_at dksX7_overtakingPairs_2 7 rfl rfl)
theorem dX7_overtakingPairs_54 : decode cX7_overtakingPairs 54 = .ok (.iadd, 1) := dk_96 (dk_at dksX7_overtakingPairs_2 8 rfl rfl)
theorem dX7_overtakingPairs_55 : decode cX7_overtakingPairs 55 = .ok (.istore_n 1, 1) := dk_60 (dk_at dksX7_overtakingPairs_2 9 rfl rfl)
theorem dX7_overtakingPairs_56 : decode cX7_overtakingPairs 56 = .ok (.iinc 3 1, 3) := dk_132 3 1 (dk_at dksX7_overtakingPairs_2 10 rfl rfl)
theorem dX7_overtakingPairs_59 : decode cX7_overtakingPairs 59 = .ok (.goto (-35), 3) := dk_167 255 221 (dk_at dksX7_overtakingPairs_2 13 rfl rfl)
theorem dX7_overtakingPairs_62 : decode cX7_overtakingPairs 62 = .ok (.iinc 2 1, 3) := dk_132 2 1 (dk_at dksX7_overtakingPairs_2 16 rfl rfl)
theorem dX7_overtakingPairs_65 : decode cX7_overtakingPairs 65 = .ok (.goto (-56), 3) := dk_167 255 200 (dk_at dksX7_overtakingPairs_2 19 rfl rfl)
theorem dX7_overtakingPairs_68 : decode cX7_overtakingPairs 68 = .ok (.iload_n 1, 1) := dk_27 (dk_at dksX7_overtakingPairs_2 22 rfl rfl)
theorem dX7_overtakingPairs_69 : decode cX7_overtakingPairs 69 = .ok (.ireturn, 1) := dk_172 (dk_at dksX7_overtakingPairs_2 23 rfl rfl)
abbrev cX7_comesAt : ByteArray := prog_22_method_96_code
def yX7_comesAt : MethodName := ⟨RX7, "comesAt", "(I)I"⟩
def dkwX7_comesAt_2 : List UInt8 := [167, 0, 11, 42, 180, 0, 10, 28, 5, 96, 46, 172]
abbrev dktX7_comesAt_2 : List UInt8 := dkwX7_comesAt_2 ++ []
def dkwX7_comesAt_1 : List UInt8 := [180, 0, 10, 28, 5, 96, 46, 42, 42, 180, 0, 10, 28, 4, 96, 46, 7, 182, 0, 152, 184, 0, 166]
abbrev dktX7_comesAt_1 : List UInt8 := dkwX7_comesAt_1 ++ dktX7_comesAt_2
def dkwX7_comesAt_0 : List UInt8 := [17, 4, 112, 16, 6, 27, 104, 96, 61, 42, 42, 180, 0, 10, 28, 46, 182, 0, 226, 153, 0, 30, 42]
abbrev dktX7_comesAt_0 : List UInt8 := dkwX7_comesAt_0 ++ dktX7_comesAt_1
theorem dksX7_comesAt_0 : cX7_comesAt.data.toList.drop 0 = dktX7_comesAt_0 := by decide +kernel
theorem dksX7_comesAt_1 : cX7_comesAt.data.toList.drop 23 = dktX7_comesAt_1 := dk_seg dksX7_comesAt_0 23 rfl rfl
theorem dksX7_comesAt_2 : cX7_comesAt.data.toList.drop 46 = dktX7_comesAt_2 := dk_seg dksX7_comesAt_1 23 rfl rfl
theorem dX7_comesAt_0 : decode cX7_comesAt 0 = .ok (.sipush 1136, 3) := dk_17 4 112 (dk_at dksX7_comesAt_0 0 rfl rfl)
theorem dX7_comesAt_3 : decode cX7_comesAt 3 = .ok (.bipush 6, 2) := dk_16 6 (dk_at dksX7_comesAt_0 3 rfl rfl)
theorem dX7_comesAt_5 : decode cX7_comesAt 5 = .ok (.iload_n 1, 1) := dk_27 (dk_at dksX7_comesAt_0 5 rfl rfl)
theorem dX7_comesAt_6 : decode cX7_comesAt 6 = .ok (.imul, 1) := dk_104 (dk_at dksX7_comesAt_0 6 rfl rfl)
theorem dX7_comesAt_7 : decode cX7_comesAt 7 = .ok (.iadd, 1) := dk_96 (dk_at dksX7_comesAt_0 7 rfl rfl)
theorem dX7_comesAt_8 : decode cX7_comesAt 8 = .ok (.istore_n 2, 1) := dk_61 (dk_at dksX7_comesAt_0 8 rfl rfl)
theorem dX7_comesAt_9 : decode cX7_comesAt 9 = .ok (.aload_n 0, 1) := dk_42 (dk_at dksX7_comesAt_0 9 rfl rfl)
theorem dX7_comesAt_10 : decode cX7_comesAt 10 = .ok (.aload_n 0, 1) := dk_42 (dk_at dksX7_comesAt_0 10 rfl rfl)
theorem dX7_comesAt_11 : decode cX7_comesAt 11 = .ok (.getfield 10, 3) := dk_180 0 10 (dk_at dksX7_comesAt_0 11 rfl rfl)
theorem dX7_comesAt_14 : decode cX7_comesAt 14 = .ok (.iload_n 2, 1) := dk_28 (dk_at dksX7_comesAt_0 14 rfl rfl)
theorem dX7_comesAt_15 : decode cX7_comesAt 15 = .ok (.iaload, 1) := dk_46 (dk_at dksX7_comesAt_0 15 rfl rfl)
theorem dX7_comesAt_16 : decode cX7_comesAt 16 = .ok (.invokevirtual 226, 3) := dk_182 0 226 (dk_at dksX7_comesAt_0 16 rfl rfl)
theorem dX7_comesAt_19 : decode cX7_comesAt 19 = .ok (.ifCond .eq 30, 3) := dk_153 0 30 (dk_at dksX7_comesAt_0 19 rfl rfl)
theorem dX7_comesAt_22 : decode cX7_comesAt 22 = .ok (.aload_n 0, 1) := dk_42 (dk_at dksX7_comesAt_0 22 rfl rfl)
theorem dX7_comesAt_23 : decode cX7_comesAt 23 = .ok (.getfield 10, 3) := dk_180 0 10 (dk_at dksX7_comesAt_1 0 rfl rfl)
theorem dX7_comesAt_26 : decode cX7_comesAt 26 = .ok (.iload_n 2, 1) := dk_28 (dk_at dksX7_comesAt_1 3 rfl rfl)
theorem dX7_comesAt_27 : decode cX7_comesAt 27 = .ok (.iconst 2, 1) := dk_5 (dk_at dksX7_comesAt_1 4 rfl rfl)
theorem dX7_comesAt_28 : decode cX7_comesAt 28 = .ok (.iadd, 1) := dk_96 (dk_at dksX7_comesAt_1 5 rfl rfl)
theorem dX7_comesAt_29 : decode cX7_comesAt 29 = .ok (.iaload, 1) := dk_46 (dk_at dksX7_comesAt_1 6 rfl rfl)
theorem dX7_comesAt_30 : decode cX7_comesAt 30 = .ok (.aload_n 0, 1) := dk_42 (dk_at dksX7_comesAt_1 7 rfl rfl)
theorem dX7_comesAt_31 : decode cX7_comesAt 31 = .ok (.aload_n 0, 1) := dk_42 (dk_at dksX7_comesAt_1 8 rfl rfl)
theorem dX7_comesAt_32 : decode cX7_comesAt 32 = .ok (.getfield 10, 3) := dk_180 0 10 (dk_at dksX7_comesAt_1 9 rfl rfl)
theorem dX7_comesAt_35 : decode cX7_comesAt 35 = .ok (.iload_n 2, 1) := dk_28 (dk_at dksX7_comesAt_1 12 rfl rfl)
theorem dX7_comesAt_36 : decode cX7_comesAt 36 = .ok (.iconst 1, 1) := dk_4 (dk_at dksX7_comesAt_1 13 rfl rfl)
theorem dX7_comesAt_37 : decode cX7_comesAt 37 = .ok (.iadd, 1) := dk_96 (dk_at dksX7_comesAt_1 14 rfl rfl)
theorem dX7_comesAt_38 : decode cX7_comesAt 38 = .ok (.iaload, 1) := dk_46 (dk_at dksX7_comesAt_1 15 rfl rfl)
theorem dX7_comesAt_39 : decode cX7_comesAt 39 = .ok (.iconst 4, 1) := dk_7 (dk_at dksX7_comesAt_1 16 rfl rfl)
theorem dX7_comesAt_40 : decode cX7_comesAt 40 = .ok (.invokevirtual 152, 3) := dk_182 0 152 (dk_at dksX7_comesAt_1 17 rfl rfl)
theorem dX7_comesAt_43 : decode cX7_comesAt 43 = .ok (.invokestatic 166, 3) := dk_184 0 166 (dk_at dksX7_comesAt_1 20 rfl rfl)
theorem dX7_comesAt_46 : decode cX7_comesAt 46 = .ok (.goto 11, 3) := dk_167 0 11 (dk_at dksX7_comesAt_2 0 rfl rfl)
theorem dX7_comesAt_49 : decode cX7_comesAt 49 = .ok (.aload_n 0, 1) := dk_42 (dk_at dksX7_comesAt_2 3 rfl rfl)
theorem dX7_comesAt_50 : decode cX7_comesAt 50 = .ok (.getfield 10, 3) := dk_180 0 10 (dk_at dksX7_comesAt_2 4 rfl rfl)
theorem dX7_comesAt_53 : decode cX7_comesAt 53 = .ok (.iload_n 2, 1) := dk_28 (dk_at dksX7_comesAt_2 7 rfl rfl)
theorem dX7_comesAt_54 : decode cX7_comesAt 54 = .ok (.iconst 2, 1) := dk_5 (dk_at dksX7_comesAt_2 8 rfl rfl)
theorem dX7_comesAt_55 : decode cX7_comesAt 55 = .ok (.iadd, 1) := dk_96 (dk_at dksX7_comesAt_2 9 rfl rfl)
theorem dX7_comesAt_56 : decode cX7_comesAt 56 = .ok (.iaload, 1) := dk_46 (dk_at dksX7_comesAt_2 10 rfl rfl)
theorem dX7_comesAt_57 : decode cX7_comesAt 57 = .ok (.ireturn, 1) := dk_172 (dk_at dksX7_comesAt_2 11 rfl rfl)
abbrev cX7_staleCaches : ByteArray := prog_22_method_99_code
def yX7_staleCaches : MethodName := ⟨RX7, "staleCaches", "()I"⟩
def dkwX7_staleCaches_2 : List UInt8 := [132, 2, 1, 167, 255, 217, 27, 172]
abbrev dktX7_staleCaches_2 : List UInt8 := dkwX7_staleCaches_2 ++ []
def dkwX7_staleCaches_1 : List UInt8 := [182, 0, 253, 153, 0, 17, 42, 28, 182, 1, 66, 153, 0, 9, 4, 28, 120, 167, 0, 4, 3, 128, 60]
abbrev dktX7_staleCaches_1 : List UInt8 := dkwX7_staleCaches_1 ++ dktX7_staleCaches_2
def dkwX7_staleCaches_0 : List UInt8 := [42, 3, 181, 0, 65, 3, 60, 3, 61, 28, 42, 180, 0, 10, 5, 46, 162, 0, 35, 27, 42, 28]
abbrev dktX7_staleCaches_0 : List UInt8 := dkwX7_staleCaches_0 ++ dktX7_staleCaches_1
theorem dksX7_staleCaches_0 : cX7_staleCaches.data.toList.drop 0 = dktX7_staleCaches_0 := by decide +kernel
theorem dksX7_staleCaches_1 : cX7_staleCaches.data.toList.drop 22 = dktX7_staleCaches_1 := dk_seg dksX7_staleCaches_0 22 rfl rfl
theorem dksX7_staleCaches_2 : cX7_staleCaches.data.toList.drop 45 = dktX7_staleCaches_2 := dk_seg dksX7_staleCaches_1 23 rfl rfl
theorem dX7_staleCaches_0 : decode cX7_staleCaches 0 = .ok (.aload_n 0, 1) := dk_42 (dk_at dksX7_staleCaches_0 0 rfl rfl)
theorem dX7_staleCaches_1 : decode cX7_staleCaches 1 = .ok (.iconst 0, 1) := dk_3 (dk_at dksX7_staleCaches_0 1 rfl rfl)
theorem dX7_staleCaches_2 : decode cX7_staleCaches 2 = .ok (.putfield 65, 3) := dk_181 0 65 (dk_at dksX7_staleCaches_0 2 rfl rfl)
theorem dX7_staleCaches_5 : decode cX7_staleCaches 5 = .ok (.iconst 0, 1) := dk_3 (dk_at dksX7_staleCaches_0 5 rfl rfl)
theorem dX7_staleCaches_6 : decode cX7_staleCaches 6 = .ok (.istore_n 1, 1) := dk_60 (dk_at dksX7_staleCaches_0 6 rfl rfl)
theorem dX7_staleCaches_7 : decode cX7_staleCaches 7 = .ok (.iconst 0, 1) := dk_3 (dk_at dksX7_staleCaches_0 7 rfl rfl)
theorem dX7_staleCaches_8 : decode cX7_staleCaches 8 = .ok (.istore_n 2, 1) := dk_61 (dk_at dksX7_staleCaches_0 8 rfl rfl)
theorem dX7_staleCaches_9 : decode cX7_staleCaches 9 = .ok (.iload_n 2, 1) := dk_28 (dk_at dksX7_staleCaches_0 9 rfl rfl)
theorem dX7_staleCaches_10 : decode cX7_staleCaches 10 = .ok (.aload_n 0, 1) := dk_42 (dk_at dksX7_staleCaches_0 10 rfl rfl)
theorem dX7_staleCaches_11 : decode cX7_staleCaches 11 = .ok (.getfield 10, 3) := dk_180 0 10 (dk_at dksX7_staleCaches_0 11 rfl rfl)
theorem dX7_staleCaches_14 : decode cX7_staleCaches 14 = .ok (.iconst 2, 1) := dk_5 (dk_at dksX7_staleCaches_0 14 rfl rfl)
theorem dX7_staleCaches_15 : decode cX7_staleCaches 15 = .ok (.iaload, 1) := dk_46 (dk_at dksX7_staleCaches_0 15 rfl rfl)
theorem dX7_staleCaches_16 : decode cX7_staleCaches 16 = .ok (.if_icmp .ge 35, 3) := dk_162 0 35 (dk_at dksX7_staleCaches_0 16 rfl rfl)
theorem dX7_staleCaches_19 : decode cX7_staleCaches 19 = .ok (.iload_n 1, 1) := dk_27 (dk_at dksX7_staleCaches_0 19 rfl rfl)
theorem dX7_staleCaches_20 : decode cX7_staleCaches 20 = .ok (.aload_n 0, 1) := dk_42 (dk_at dksX7_staleCaches_0 20 rfl rfl)
theorem dX7_staleCaches_21 : decode cX7_staleCaches 21 = .ok (.iload_n 2, 1) := dk_28 (dk_at dksX7_staleCaches_0 21 rfl rfl)
theorem dX7_staleCaches_22 : decode cX7_staleCaches 22 = .ok (.invokevirtual 253, 3) := dk_182 0 253 (dk_at dksX7_staleCaches_1 0 rfl rfl)
theorem dX7_staleCaches_25 : decode cX7_staleCaches 25 = .ok (.ifCond .eq 17, 3) := dk_153 0 17 (dk_at dksX7_staleCaches_1 3 rfl rfl)
theorem dX7_staleCaches_28 : decode cX7_staleCaches 28 = .ok (.aload_n 0, 1) := dk_42 (dk_at dksX7_staleCaches_1 6 rfl rfl)
theorem dX7_staleCaches_29 : decode cX7_staleCaches 29 = .ok (.iload_n 2, 1) := dk_28 (dk_at dksX7_staleCaches_1 7 rfl rfl)
theorem dX7_staleCaches_30 : decode cX7_staleCaches 30 = .ok (.invokevirtual 322, 3) := dk_182 1 66 (dk_at dksX7_staleCaches_1 8 rfl rfl)
theorem dX7_staleCaches_33 : decode cX7_staleCaches 33 = .ok (.ifCond .eq 9, 3) := dk_153 0 9 (dk_at dksX7_staleCaches_1 11 rfl rfl)
theorem dX7_staleCaches_36 : decode cX7_staleCaches 36 = .ok (.iconst 1, 1) := dk_4 (dk_at dksX7_staleCaches_1 14 rfl rfl)
theorem dX7_staleCaches_37 : decode cX7_staleCaches 37 = .ok (.iload_n 2, 1) := dk_28 (dk_at dksX7_staleCaches_1 15 rfl rfl)
theorem dX7_staleCaches_38 : decode cX7_staleCaches 38 = .ok (.ishl, 1) := dk_120 (dk_at dksX7_staleCaches_1 16 rfl rfl)
theorem dX7_staleCaches_39 : decode cX7_staleCaches 39 = .ok (.goto 4, 3) := dk_167 0 4 (dk_at dksX7_staleCaches_1 17 rfl rfl)
theorem dX7_staleCaches_42 : decode cX7_staleCaches 42 = .ok (.iconst 0, 1) := dk_3 (dk_at dksX7_staleCaches_1 20 rfl rfl)
theorem dX7_staleCaches_43 : decode cX7_staleCaches 43 = .ok (.ior, 1) := dk_128 (dk_at dksX7_staleCaches_1 21 rfl rfl)
theorem dX7_staleCaches_44 : decode cX7_staleCaches 44 = .ok (.istore_n 1, 1) := dk_60 (dk_at dksX7_staleCaches_1 22 rfl rfl)
theorem dX7_staleCaches_45 : decode cX7_staleCaches 45 = .ok (.iinc 2 1, 3) := dk_132 2 1 (dk_at dksX7_staleCaches_2 0 rfl rfl)
theorem dX7_staleCaches_48 : decode cX7_staleCaches 48 = .ok (.goto (-39), 3) := dk_167 255 217 (dk_at dksX7_staleCaches_2 3 rfl rfl)
theorem dX7_staleCaches_51 : decode cX7_staleCaches 51 = .ok (.iload_n 1, 1) := dk_27 (dk_at dksX7_staleCaches_2 6 rfl rfl)
theorem dX7_staleCaches_52 : decode cX7_staleCaches 52 = .ok (.ireturn, 1) := dk_172 (dk_at dksX7_staleCaches_2 7 rfl rfl)
abbrev cX7_isStale : ByteArray := prog_22_method_98_code
def yX7_isStale : MethodName := ⟨RX7, "isStale", "(I)Z"⟩
def dkwX7_isStale_2 : List UInt8 := [159, 0, 7, 4, 167, 0, 4, 3, 61, 132, 3, 1, 167, 255, 200, 28, 172]
abbrev dktX7_isStale_2 : List UInt8 := dkwX7_isStale_2 ++ []
def dkwX7_isStale_1 : List UInt8 := [126, 4, 160, 0, 29, 42, 27, 16, 12, 29, 96, 182, 0, 152, 42, 180, 0, 10, 17, 0, 160, 29, 96, 46]
abbrev dktX7_isStale_1 : List UInt8 := dkwX7_isStale_1 ++ dktX7_isStale_2
def dkwX7_isStale_0 : List UInt8 := [3, 61, 3, 62, 29, 16, 8, 162, 0, 56, 28, 154, 0, 40, 42, 27, 16, 11, 182, 0, 152, 29, 122, 4]
abbrev dktX7_isStale_0 : List UInt8 := dkwX7_isStale_0 ++ dktX7_isStale_1
theorem dksX7_isStale_0 : cX7_isStale.data.toList.drop 0 = dktX7_isStale_0 := by decide +kernel
theorem dksX7_isStale_1 : cX7_isStale.data.toList.drop 24 = dktX7_isStale_1 := dk_seg dksX7_isStale_0 24 rfl rfl
theorem dksX7_isStale_2 : cX7_isStale.data.toList.drop 48 = dktX7_isStale_2 := dk_seg dksX7_isStale_1 24 rfl rfl
theorem dX7_isStale_0 : decode cX7_isStale 0 = .ok (.iconst 0, 1) := dk_3 (dk_at dksX7_isStale_0 0 rfl rfl)
theorem dX7_isStale_1 : decode cX7_isStale 1 = .ok (.istore_n 2, 1) := dk_61 (dk_at dksX7_isStale_0 1 rfl rfl)
theorem dX7_isStale_2 : decode cX7_isStale 2 = .ok (.iconst 0, 1) := dk_3 (dk_at dksX7_isStale_0 2 rfl rfl)
theorem dX7_isStale_3 : decode cX7_isStale 3 = .ok (.istore_n 3, 1) := dk_62 (dk_at dksX7_isStale_0 3 rfl rfl)
theorem dX7_isStale_4 : decode cX7_isStale 4 = .ok (.iload_n 3, 1) := dk_29 (dk_at dksX7_isStale_0 4 rfl rfl)
theorem dX7_isStale_5 : decode cX7_isStale 5 = .ok (.bipush 8, 2) := dk_16 8 (dk_at dksX7_isStale_0 5 rfl rfl)
theorem dX7_isStale_7 : decode cX7_isStale 7 = .ok (.if_icmp .ge 56, 3) := dk_162 0 56 (dk_at dksX7_isStale_0 7 rfl rfl)
theorem dX7_isStale_10 : decode cX7_isStale 10 = .ok (.iload_n 2, 1) := dk_28 (dk_at dksX7_isStale_0 10 rfl rfl)
theorem dX7_isStale_11 : decode cX7_isStale 11 = .ok (.ifCond .ne 40, 3) := dk_154 0 40 (dk_at dksX7_isStale_0 11 rfl rfl)
theorem dX7_isStale_14 : decode cX7_isStale 14 = .ok (.aload_n 0, 1) := dk_42 (dk_at dksX7_isStale_0 14 rfl rfl)
theorem dX7_isStale_15 : decode cX7_isStale 15 = .ok (.iload_n 1, 1) := dk_27 (dk_at dksX7_isStale_0 15 rfl rfl)
theorem dX7_isStale_16 : decode cX7_isStale 16 = .ok (.bipush 11, 2) := dk_16 11 (dk_at dksX7_isStale_0 16 rfl rfl)
theorem dX7_isStale_18 : decode cX7_isStale 18 = .ok (.invokevirtual 152, 3) := dk_182 0 152 (dk_at dksX7_isStale_0 18 rfl rfl)
theorem dX7_isStale_21 : decode cX7_isStale 21 = .ok (.iload_n 3, 1) := dk_29 (dk_at dksX7_isStale_0 21 rfl rfl)
theorem dX7_isStale_22 : decode cX7_isStale 22 = .ok (.ishr, 1) := dk_122 (dk_at dksX7_isStale_0 22 rfl rfl)
theorem dX7_isStale_23 : decode cX7_isStale 23 = .ok (.iconst 1, 1) := dk_4 (dk_at dksX7_isStale_0 23 rfl rfl)
theorem dX7_isStale_24 : decode cX7_isStale 24 = .ok (.iand, 1) := dk_126 (dk_at dksX7_isStale_1 0 rfl rfl)
theorem dX7_isStale_25 : decode cX7_isStale 25 = .ok (.iconst 1, 1) := dk_4 (dk_at dksX7_isStale_1 1 rfl rfl)
theorem dX7_isStale_26 : decode cX7_isStale 26 = .ok (.if_icmp .ne 29, 3) := dk_160 0 29 (dk_at dksX7_isStale_1 2 rfl rfl)
theorem dX7_isStale_29 : decode cX7_isStale 29 = .ok (.aload_n 0, 1) := dk_42 (dk_at dksX7_isStale_1 5 rfl rfl)
theorem dX7_isStale_30 : decode cX7_isStale 30 = .ok (.iload_n 1, 1) := dk_27 (dk_at dksX7_isStale_1 6 rfl rfl)
theorem dX7_isStale_31 : decode cX7_isStale 31 = .ok (.bipush 12, 2) := dk_16 12 (dk_at dksX7_isStale_1 7 rfl rfl)
theorem dX7_isStale_33 : decode cX7_isStale 33 = .ok (.iload_n 3, 1) := dk_29 (dk_at dksX7_isStale_1 9 rfl rfl)
theorem dX7_isStale_34 : decode cX7_isStale 34 = .ok (.iadd, 1) := dk_96 (dk_at dksX7_isStale_1 10 rfl rfl)
theorem dX7_isStale_35 : decode cX7_isStale 35 = .ok (.invokevirtual 152, 3) := dk_182 0 152 (dk_at dksX7_isStale_1 11 rfl rfl)
theorem dX7_isStale_38 : decode cX7_isStale 38 = .ok (.aload_n 0, 1) := dk_42 (dk_at dksX7_isStale_1 14 rfl rfl)
theorem dX7_isStale_39 : decode cX7_isStale 39 = .ok (.getfield 10, 3) := dk_180 0 10 (dk_at dksX7_isStale_1 15 rfl rfl)
theorem dX7_isStale_42 : decode cX7_isStale 42 = .ok (.sipush 160, 3) := dk_17 0 160 (dk_at dksX7_isStale_1 18 rfl rfl)
theorem dX7_isStale_45 : decode cX7_isStale 45 = .ok (.iload_n 3, 1) := dk_29 (dk_at dksX7_isStale_1 21 rfl rfl)
theorem dX7_isStale_46 : decode cX7_isStale 46 = .ok (.iadd, 1) := dk_96 (dk_at dksX7_isStale_1 22 rfl rfl)
theorem dX7_isStale_47 : decode cX7_isStale 47 = .ok (.iaload, 1) := dk_46 (dk_at dksX7_isStale_1 23 rfl rfl)
theorem dX7_isStale_48 : decode cX7_isStale 48 = .ok (.if_icmp .eq 7, 3) := dk_159 0 7 (dk_at dksX7_isStale_2 0 rfl rfl)
theorem dX7_isStale_51 : decode cX7_isStale 51 = .ok (.iconst 1, 1) := dk_4 (dk_at dksX7_isStale_2 3 rfl rfl)
theorem dX7_isStale_52 : decode cX7_isStale 52 = .ok (.goto 4, 3) := dk_167 0 4 (dk_at dksX7_isStale_2 4 rfl rfl)
theorem dX7_isStale_55 : decode cX7_isStale 55 = .ok (.iconst 0, 1) := dk_3 (dk_at dksX7_isStale_2 7 rfl rfl)
theorem dX7_isStale_56 : decode cX7_isStale 56 = .ok (.istore_n 2, 1) := dk_61 (dk_at dksX7_isStale_2 8 rfl rfl)
theorem dX7_isStale_57 : decode cX7_isStale 57 = .ok (.iinc 3 1, 3) := dk_132 3 1 (dk_at dksX7_isStale_2 9 rfl rfl)
theorem dX7_isStale_60 : decode cX7_isStale 60 = .ok (.goto (-56), 3) := dk_167 255 200 (dk_at dksX7_isStale_2 12 rfl rfl)
theorem dX7_isStale_63 : decode cX7_isStale 63 = .ok (.iload_n 2, 1) := dk_28 (dk_at dksX7_isStale_2 15 rfl rfl)
theorem dX7_isStale_64 : decode cX7_isStale 64 = .ok (.ireturn, 1) := dk_172 (dk_at dksX7_isStale_2 16 rfl rfl)
abbrev cX7_messagesOnWay : ByteArray := prog_22_method_100_code
def yX7_messagesOnWay : MethodName := ⟨RX7, "messagesOnWay", "()I"⟩
def dkwX7_messagesOnWay_0 : List UInt8 := [42, 16, 20, 182, 1, 48, 172]
abbrev dktX7_messagesOnWay_0 : List UInt8 := dkwX7_messagesOnWay_0 ++ []
theorem dksX7_messagesOnWay_0 : cX7_messagesOnWay.data.toList.drop 0 = dktX7_messagesOnWay_0 := by decide +kernel
theorem dX7_messagesOnWay_0 : decode cX7_messagesOnWay 0 = .ok (.aload_n 0, 1) := dk_42 (dk_at dksX7_messagesOnWay_0 0 rfl rfl)
theorem dX7_messagesOnWay_1 : decode cX7_messagesOnWay 1 = .ok (.bipush 20, 2) := dk_16 20 (dk_at dksX7_messagesOnWay_0 1 rfl rfl)
theorem dX7_messagesOnWay_3 : decode cX7_messagesOnWay 3 = .ok (.invokevirtual 304, 3) := dk_182 1 48 (dk_at dksX7_messagesOnWay_0 3 rfl rfl)
theorem dX7_messagesOnWay_6 : decode cX7_messagesOnWay 6 = .ok (.ireturn, 1) := dk_172 (dk_at dksX7_messagesOnWay_0 6 rfl rfl)
abbrev cX7_delayedWrites : ByteArray := prog_22_method_101_code
def yX7_delayedWrites : MethodName := ⟨RX7, "delayedWrites", "()I"⟩
def dkwX7_delayedWrites_0 : List UInt8 := [42, 16, 21, 182, 1, 48, 172]
abbrev dktX7_delayedWrites_0 : List UInt8 := dkwX7_delayedWrites_0 ++ []
theorem dksX7_delayedWrites_0 : cX7_delayedWrites.data.toList.drop 0 = dktX7_delayedWrites_0 := by decide +kernel
theorem dX7_delayedWrites_0 : decode cX7_delayedWrites 0 = .ok (.aload_n 0, 1) := dk_42 (dk_at dksX7_delayedWrites_0 0 rfl rfl)
theorem dX7_delayedWrites_1 : decode cX7_delayedWrites 1 = .ok (.bipush 21, 2) := dk_16 21 (dk_at dksX7_delayedWrites_0 1 rfl rfl)
theorem dX7_delayedWrites_3 : decode cX7_delayedWrites 3 = .ok (.invokevirtual 304, 3) := dk_182 1 48 (dk_at dksX7_delayedWrites_0 3 rfl rfl)
theorem dX7_delayedWrites_6 : decode cX7_delayedWrites 6 = .ok (.ireturn, 1) := dk_172 (dk_at dksX7_delayedWrites_0 6 rfl rfl)
abbrev cX7_messagesLost : ByteArray := prog_22_method_102_code
def yX7_messagesLost : MethodName := ⟨RX7, "messagesLost", "()I"⟩
def dkwX7_messagesLost_0 : List UInt8 := [42, 16, 16, 182, 1, 48, 172]
abbrev dktX7_messagesLost_0 : List UInt8 := dkwX7_messagesLost_0 ++ []
theorem dksX7_messagesLost_0 : cX7_messagesLost.data.toList.drop 0 = dktX7_messagesLost_0 := by decide +kernel
theorem dX7_messagesLost_0 : decode cX7_messagesLost 0 = .ok (.aload_n 0, 1) := dk_42 (dk_at dksX7_messagesLost_0 0 rfl rfl)
theorem dX7_messagesLost_1 : decode cX7_messagesLost 1 = .ok (.bipush 16, 2) := dk_16 16 (dk_at dksX7_messagesLost_0 1 rfl rfl)
theorem dX7_messagesLost_3 : decode cX7_messagesLost 3 = .ok (.invokevirtual 304, 3) := dk_182 1 48 (dk_at dksX7_messagesLost_0 3 rfl rfl)
theorem dX7_messagesLost_6 : decode cX7_messagesLost 6 = .ok (.ireturn, 1) := dk_172 (dk_at dksX7_messagesLost_0 6 rfl rfl)
abbrev cX7_logSize : ByteArray := prog_22_method_103_code
def yX7_logSize : MethodName := ⟨RX7, "logSize", "()I"⟩
def dkwX7_logSize_0 : List UInt8 := [42, 16, 22, 182, 1, 48, 172]
abbrev dktX7_logSize_0 : List UInt8 := dkwX7_logSize_0 ++ []
theorem dksX7_logSize_0 : cX7_logSize.data.toList.drop 0 = dktX7_logSize_0 := by decide +kernel
theorem dX7_logSize_0 : decode cX7_logSize 0 = .ok (.aload_n 0, 1) := dk_42 (dk_at dksX7_logSize_0 0 rfl rfl)
theorem dX7_logSize_1 : decode cX7_logSize 1 = .ok (.bipush 22, 2) := dk_16 22 (dk_at dksX7_logSize_0 1 rfl rfl)
theorem dX7_logSize_3 : decode cX7_logSize 3 = .ok (.invokevirtual 304, 3) := dk_182 1 48 (dk_at dksX7_logSize_0 3 rfl rfl)
theorem dX7_logSize_6 : decode cX7_logSize 6 = .ok (.ireturn, 1) := dk_172 (dk_at dksX7_logSize_0 6 rfl rfl)
abbrev cX7_logTime : ByteArray := prog_22_method_105_code
def yX7_logTime : MethodName := ⟨RX7, "logTime", "(I)I"⟩
def dkwX7_logTime_0 : List UInt8 := [42, 27, 3, 182, 1, 69, 172]
abbrev dktX7_logTime_0 : List UInt8 := dkwX7_logTime_0 ++ []
theorem dksX7_logTime_0 : cX7_logTime.data.toList.drop 0 = dktX7_logTime_0 := by decide +kernel
theorem dX7_logTime_0 : decode cX7_logTime 0 = .ok (.aload_n 0, 1) := dk_42 (dk_at dksX7_logTime_0 0 rfl rfl)
theorem dX7_logTime_1 : decode cX7_logTime 1 = .ok (.iload_n 1, 1) := dk_27 (dk_at dksX7_logTime_0 1 rfl rfl)
theorem dX7_logTime_2 : decode cX7_logTime 2 = .ok (.iconst 0, 1) := dk_3 (dk_at dksX7_logTime_0 2 rfl rfl)
theorem dX7_logTime_3 : decode cX7_logTime 3 = .ok (.invokevirtual 325, 3) := dk_182 1 69 (dk_at dksX7_logTime_0 3 rfl rfl)
theorem dX7_logTime_6 : decode cX7_logTime 6 = .ok (.ireturn, 1) := dk_172 (dk_at dksX7_logTime_0 6 rfl rfl)
abbrev cX7_logCell : ByteArray := prog_22_method_104_code
def yX7_logCell : MethodName := ⟨RX7, "logCell", "(II)I"⟩
def dkwX7_logCell_2 : List UInt8 := [17, 1, 80, 7, 27, 104, 96, 28, 96, 46, 172]
abbrev dktX7_logCell_2 : List UInt8 := dkwX7_logCell_2 ++ []
def dkwX7_logCell_1 : List UInt8 := [154, 0, 7, 4, 167, 0, 4, 3, 4, 182, 0, 72, 153, 0, 7, 3, 167, 0, 17, 42, 180, 0, 10]
abbrev dktX7_logCell_1 : List UInt8 := dkwX7_logCell_1 ++ dktX7_logCell_2
def dkwX7_logCell_0 : List UInt8 := [42, 3, 181, 0, 65, 42, 27, 133, 9, 42, 180, 0, 10, 16, 22, 46, 4, 100, 133, 184, 0, 68]
abbrev dktX7_logCell_0 : List UInt8 := dkwX7_logCell_0 ++ dktX7_logCell_1
theorem dksX7_logCell_0 : cX7_logCell.data.toList.drop 0 = dktX7_logCell_0 := by decide +kernel
theorem dksX7_logCell_1 : cX7_logCell.data.toList.drop 22 = dktX7_logCell_1 := dk_seg dksX7_logCell_0 22 rfl rfl
theorem dksX7_logCell_2 : cX7_logCell.data.toList.drop 45 = dktX7_logCell_2 := dk_seg dksX7_logCell_1 23 rfl rfl
theorem dX7_logCell_0 : decode cX7_logCell 0 = .ok (.aload_n 0, 1) := dk_42 (dk_at dksX7_logCell_0 0 rfl rfl)
theorem dX7_logCell_1 : decode cX7_logCell 1 = .ok (.iconst 0, 1) := dk_3 (dk_at dksX7_logCell_0 1 rfl rfl)
theorem dX7_logCell_2 : decode cX7_logCell 2 = .ok (.putfield 65, 3) := dk_181 0 65 (dk_at dksX7_logCell_0 2 rfl rfl)
theorem dX7_logCell_5 : decode cX7_logCell 5 = .ok (.aload_n 0, 1) := dk_42 (dk_at dksX7_logCell_0 5 rfl rfl)
theorem dX7_logCell_6 : decode cX7_logCell 6 = .ok (.iload_n 1, 1) := dk_27 (dk_at dksX7_logCell_0 6 rfl rfl)
theorem dX7_logCell_7 : decode cX7_logCell 7 = .ok (.i2l, 1) := dk_133 (dk_at dksX7_logCell_0 7 rfl rfl)
theorem dX7_logCell_8 : decode cX7_logCell 8 = .ok (.lconst 0, 1) := dk_9 (dk_at dksX7_logCell_0 8 rfl rfl)
theorem dX7_logCell_9 : decode cX7_logCell 9 = .ok (.aload_n 0, 1) := dk_42 (dk_at dksX7_logCell_0 9 rfl rfl)
theorem dX7_logCell_10 : decode cX7_logCell 10 = .ok (.getfield 10, 3) := dk_180 0 10 (dk_at dksX7_logCell_0 10 rfl rfl)
theorem dX7_logCell_13 : decode cX7_logCell 13 = .ok (.bipush 22, 2) := dk_16 22 (dk_at dksX7_logCell_0 13 rfl rfl)
theorem dX7_logCell_15 : decode cX7_logCell 15 = .ok (.iaload, 1) := dk_46 (dk_at dksX7_logCell_0 15 rfl rfl)
theorem dX7_logCell_16 : decode cX7_logCell 16 = .ok (.iconst 1, 1) := dk_4 (dk_at dksX7_logCell_0 16 rfl rfl)
theorem dX7_logCell_17 : decode cX7_logCell 17 = .ok (.isub, 1) := dk_100 (dk_at dksX7_logCell_0 17 rfl rfl)
theorem dX7_logCell_18 : decode cX7_logCell 18 = .ok (.i2l, 1) := dk_133 (dk_at dksX7_logCell_0 18 rfl rfl)
theorem dX7_logCell_19 : decode cX7_logCell 19 = .ok (.invokestatic 68, 3) := dk_184 0 68 (dk_at dksX7_logCell_0 19 rfl rfl)
theorem dX7_logCell_22 : decode cX7_logCell 22 = .ok (.ifCond .ne 7, 3) := dk_154 0 7 (dk_at dksX7_logCell_1 0 rfl rfl)
theorem dX7_logCell_25 : decode cX7_logCell 25 = .ok (.iconst 1, 1) := dk_4 (dk_at dksX7_logCell_1 3 rfl rfl)
theorem dX7_logCell_26 : decode cX7_logCell 26 = .ok (.goto 4, 3) := dk_167 0 4 (dk_at dksX7_logCell_1 4 rfl rfl)
theorem dX7_logCell_29 : decode cX7_logCell 29 = .ok (.iconst 0, 1) := dk_3 (dk_at dksX7_logCell_1 7 rfl rfl)
theorem dX7_logCell_30 : decode cX7_logCell 30 = .ok (.iconst 1, 1) := dk_4 (dk_at dksX7_logCell_1 8 rfl rfl)
theorem dX7_logCell_31 : decode cX7_logCell 31 = .ok (.invokevirtual 72, 3) := dk_182 0 72 (dk_at dksX7_logCell_1 9 rfl rfl)
theorem dX7_logCell_34 : decode cX7_logCell 34 = .ok (.ifCond .eq 7, 3) := dk_153 0 7 (dk_at dksX7_logCell_1 12 rfl rfl)
theorem dX7_logCell_37 : decode cX7_logCell 37 = .ok (.iconst 0, 1) := dk_3 (dk_at dksX7_logCell_1 15 rfl rfl)
theorem dX7_logCell_38 : decode cX7_logCell 38 = .ok (.goto 17, 3) := dk_167 0 17 (dk_at dksX7_logCell_1 16 rfl rfl)
theorem dX7_logCell_41 : decode cX7_logCell 41 = .ok (.aload_n 0, 1) := dk_42 (dk_at dksX7_logCell_1 19 rfl rfl)
theorem dX7_logCell_42 : decode cX7_logCell 42 = .ok (.getfield 10, 3) := dk_180 0 10 (dk_at dksX7_logCell_1 20 rfl rfl)
theorem dX7_logCell_45 : decode cX7_logCell 45 = .ok (.sipush 336, 3) := dk_17 1 80 (dk_at dksX7_logCell_2 0 rfl rfl)
theorem dX7_logCell_48 : decode cX7_logCell 48 = .ok (.iconst 4, 1) := dk_7 (dk_at dksX7_logCell_2 3 rfl rfl)
theorem dX7_logCell_49 : decode cX7_logCell 49 = .ok (.iload_n 1, 1) := dk_27 (dk_at dksX7_logCell_2 4 rfl rfl)
theorem dX7_logCell_50 : decode cX7_logCell 50 = .ok (.imul, 1) := dk_104 (dk_at dksX7_logCell_2 5 rfl rfl)
theorem dX7_logCell_51 : decode cX7_logCell 51 = .ok (.iadd, 1) := dk_96 (dk_at dksX7_logCell_2 6 rfl rfl)
theorem dX7_logCell_52 : decode cX7_logCell 52 = .ok (.iload_n 2, 1) := dk_28 (dk_at dksX7_logCell_2 7 rfl rfl)
theorem dX7_logCell_53 : decode cX7_logCell 53 = .ok (.iadd, 1) := dk_96 (dk_at dksX7_logCell_2 8 rfl rfl)
theorem dX7_logCell_54 : decode cX7_logCell 54 = .ok (.iaload, 1) := dk_46 (dk_at dksX7_logCell_2 9 rfl rfl)
theorem dX7_logCell_55 : decode cX7_logCell 55 = .ok (.ireturn, 1) := dk_172 (dk_at dksX7_logCell_2 10 rfl rfl)
abbrev cX7_logKind : ByteArray := prog_22_method_106_code
def yX7_logKind : MethodName := ⟨RX7, "logKind", "(I)I"⟩
def dkwX7_logKind_0 : List UInt8 := [42, 27, 4, 182, 1, 69, 172]
abbrev dktX7_logKind_0 : List UInt8 := dkwX7_logKind_0 ++ []
theorem dksX7_logKind_0 : cX7_logKind.data.toList.drop 0 = dktX7_logKind_0 := by decide +kernel
theorem dX7_logKind_0 : decode cX7_logKind 0 = .ok (.aload_n 0, 1) := dk_42 (dk_at dksX7_logKind_0 0 rfl rfl)
theorem dX7_logKind_1 : decode cX7_logKind 1 = .ok (.iload_n 1, 1) := dk_27 (dk_at dksX7_logKind_0 1 rfl rfl)
theorem dX7_logKind_2 : decode cX7_logKind 2 = .ok (.iconst 1, 1) := dk_4 (dk_at dksX7_logKind_0 2 rfl rfl)
theorem dX7_logKind_3 : decode cX7_logKind 3 = .ok (.invokevirtual 325, 3) := dk_182 1 69 (dk_at dksX7_logKind_0 3 rfl rfl)
theorem dX7_logKind_6 : decode cX7_logKind 6 = .ok (.ireturn, 1) := dk_172 (dk_at dksX7_logKind_0 6 rfl rfl)
abbrev cX7_logNode : ByteArray := prog_22_method_107_code
def yX7_logNode : MethodName := ⟨RX7, "logNode", "(I)I"⟩
def dkwX7_logNode_0 : List UInt8 := [42, 27, 5, 182, 1, 69, 172]
abbrev dktX7_logNode_0 : List UInt8 := dkwX7_logNode_0 ++ []
theorem dksX7_logNode_0 : cX7_logNode.data.toList.drop 0 = dktX7_logNode_0 := by decide +kernel
theorem dX7_logNode_0 : decode cX7_logNode 0 = .ok (.aload_n 0, 1) := dk_42 (dk_at dksX7_logNode_0 0 rfl rfl)
theorem dX7_logNode_1 : decode cX7_logNode 1 = .ok (.iload_n 1, 1) := dk_27 (dk_at dksX7_logNode_0 1 rfl rfl)
theorem dX7_logNode_2 : decode cX7_logNode 2 = .ok (.iconst 2, 1) := dk_5 (dk_at dksX7_logNode_0 2 rfl rfl)
theorem dX7_logNode_3 : decode cX7_logNode 3 = .ok (.invokevirtual 325, 3) := dk_182 1 69 (dk_at dksX7_logNode_0 3 rfl rfl)
theorem dX7_logNode_6 : decode cX7_logNode 6 = .ok (.ireturn, 1) := dk_172 (dk_at dksX7_logNode_0 6 rfl rfl)
abbrev cX7_logToken : ByteArray := prog_22_method_108_code
def yX7_logToken : MethodName := ⟨RX7, "logToken", "(I)I"⟩
def dkwX7_logToken_0 : List UInt8 := [42, 27, 6, 182, 1, 69, 172]
abbrev dktX7_logToken_0 : List UInt8 := dkwX7_logToken_0 ++ []
theorem dksX7_logToken_0 : cX7_logToken.data.toList.drop 0 = dktX7_logToken_0 := by decide +kernel
theorem dX7_logToken_0 : decode cX7_logToken 0 = .ok (.aload_n 0, 1) := dk_42 (dk_at dksX7_logToken_0 0 rfl rfl)
theorem dX7_logToken_1 : decode cX7_logToken 1 = .ok (.iload_n 1, 1) := dk_27 (dk_at dksX7_logToken_0 1 rfl rfl)
theorem dX7_logToken_2 : decode cX7_logToken 2 = .ok (.iconst 3, 1) := dk_6 (dk_at dksX7_logToken_0 2 rfl rfl)
theorem dX7_logToken_3 : decode cX7_logToken 3 = .ok (.invokevirtual 325, 3) := dk_182 1 69 (dk_at dksX7_logToken_0 3 rfl rfl)
theorem dX7_logToken_6 : decode cX7_logToken 6 = .ok (.ireturn, 1) := dk_172 (dk_at dksX7_logToken_0 6 rfl rfl)
abbrev cX7_eventCount : ByteArray := prog_22_method_109_code
def yX7_eventCount : MethodName := ⟨RX7, "eventCount", "(I)I"⟩
def dkwX7_eventCount_1 : List UInt8 := [182, 0, 72, 153, 0, 7, 3, 167, 0, 12, 42, 180, 0, 10, 16, 24, 27, 96, 46, 172]
abbrev dktX7_eventCount_1 : List UInt8 := dkwX7_eventCount_1 ++ []
def dkwX7_eventCount_0 : List UInt8 := [42, 3, 181, 0, 65, 42, 27, 133, 10, 20, 1, 72, 184, 0, 68, 154, 0, 7, 4, 167, 0, 4, 3, 4]
abbrev dktX7_eventCount_0 : List UInt8 := dkwX7_eventCount_0 ++ dktX7_eventCount_1
theorem dksX7_eventCount_0 : cX7_eventCount.data.toList.drop 0 = dktX7_eventCount_0 := by decide +kernel
theorem dksX7_eventCount_1 : cX7_eventCount.data.toList.drop 24 = dktX7_eventCount_1 := dk_seg dksX7_eventCount_0 24 rfl rfl
theorem dX7_eventCount_0 : decode cX7_eventCount 0 = .ok (.aload_n 0, 1) := dk_42 (dk_at dksX7_eventCount_0 0 rfl rfl)
theorem dX7_eventCount_1 : decode cX7_eventCount 1 = .ok (.iconst 0, 1) := dk_3 (dk_at dksX7_eventCount_0 1 rfl rfl)
theorem dX7_eventCount_2 : decode cX7_eventCount 2 = .ok (.putfield 65, 3) := dk_181 0 65 (dk_at dksX7_eventCount_0 2 rfl rfl)
theorem dX7_eventCount_5 : decode cX7_eventCount 5 = .ok (.aload_n 0, 1) := dk_42 (dk_at dksX7_eventCount_0 5 rfl rfl)
theorem dX7_eventCount_6 : decode cX7_eventCount 6 = .ok (.iload_n 1, 1) := dk_27 (dk_at dksX7_eventCount_0 6 rfl rfl)
theorem dX7_eventCount_7 : decode cX7_eventCount 7 = .ok (.i2l, 1) := dk_133 (dk_at dksX7_eventCount_0 7 rfl rfl)
theorem dX7_eventCount_8 : decode cX7_eventCount 8 = .ok (.lconst 1, 1) := dk_10 (dk_at dksX7_eventCount_0 8 rfl rfl)
theorem dX7_eventCount_9 : decode cX7_eventCount 9 = .ok (.ldc2_w 328, 3) := dk_20 1 72 (dk_at dksX7_eventCount_0 9 rfl rfl)
theorem dX7_eventCount_12 : decode cX7_eventCount 12 = .ok (.invokestatic 68, 3) := dk_184 0 68 (dk_at dksX7_eventCount_0 12 rfl rfl)
theorem dX7_eventCount_15 : decode cX7_eventCount 15 = .ok (.ifCond .ne 7, 3) := dk_154 0 7 (dk_at dksX7_eventCount_0 15 rfl rfl)
theorem dX7_eventCount_18 : decode cX7_eventCount 18 = .ok (.iconst 1, 1) := dk_4 (dk_at dksX7_eventCount_0 18 rfl rfl)
theorem dX7_eventCount_19 : decode cX7_eventCount 19 = .ok (.goto 4, 3) := dk_167 0 4 (dk_at dksX7_eventCount_0 19 rfl rfl)
theorem dX7_eventCount_22 : decode cX7_eventCount 22 = .ok (.iconst 0, 1) := dk_3 (dk_at dksX7_eventCount_0 22 rfl rfl)
theorem dX7_eventCount_23 : decode cX7_eventCount 23 = .ok (.iconst 1, 1) := dk_4 (dk_at dksX7_eventCount_0 23 rfl rfl)
theorem dX7_eventCount_24 : decode cX7_eventCount 24 = .ok (.invokevirtual 72, 3) := dk_182 0 72 (dk_at dksX7_eventCount_1 0 rfl rfl)
theorem dX7_eventCount_27 : decode cX7_eventCount 27 = .ok (.ifCond .eq 7, 3) := dk_153 0 7 (dk_at dksX7_eventCount_1 3 rfl rfl)
theorem dX7_eventCount_30 : decode cX7_eventCount 30 = .ok (.iconst 0, 1) := dk_3 (dk_at dksX7_eventCount_1 6 rfl rfl)
theorem dX7_eventCount_31 : decode cX7_eventCount 31 = .ok (.goto 12, 3) := dk_167 0 12 (dk_at dksX7_eventCount_1 7 rfl rfl)
theorem dX7_eventCount_34 : decode cX7_eventCount 34 = .ok (.aload_n 0, 1) := dk_42 (dk_at dksX7_eventCount_1 10 rfl rfl)
theorem dX7_eventCount_35 : decode cX7_eventCount 35 = .ok (.getfield 10, 3) := dk_180 0 10 (dk_at dksX7_eventCount_1 11 rfl rfl)
theorem dX7_eventCount_38 : decode cX7_eventCount 38 = .ok (.bipush 24, 2) := dk_16 24 (dk_at dksX7_eventCount_1 14 rfl rfl)
theorem dX7_eventCount_40 : decode cX7_eventCount 40 = .ok (.iload_n 1, 1) := dk_27 (dk_at dksX7_eventCount_1 16 rfl rfl)
theorem dX7_eventCount_41 : decode cX7_eventCount 41 = .ok (.iadd, 1) := dk_96 (dk_at dksX7_eventCount_1 17 rfl rfl)
theorem dX7_eventCount_42 : decode cX7_eventCount 42 = .ok (.iaload, 1) := dk_46 (dk_at dksX7_eventCount_1 18 rfl rfl)
theorem dX7_eventCount_43 : decode cX7_eventCount 43 = .ok (.ireturn, 1) := dk_172 (dk_at dksX7_eventCount_1 19 rfl rfl)
abbrev cX7_countInLog : ByteArray := prog_22_method_110_code
def yX7_countInLog : MethodName := ⟨RX7, "countInLog", "(II)I"⟩
def dkwX7_countInLog_5 : List UInt8 := [96, 46, 28, 160, 0, 7, 4, 167, 0, 4, 3, 96, 62, 132, 4, 1, 167, 255, 195, 29, 172]
abbrev dktX7_countInLog_5 : List UInt8 := dkwX7_countInLog_5 ++ []
def dkwX7_countInLog_4 : List UInt8 := [21, 4, 104, 96, 4, 96, 46, 27, 160, 0, 26, 42, 180, 0, 10, 17, 1, 80, 7, 21, 4, 104, 96, 5]
abbrev dktX7_countInLog_4 : List UInt8 := dkwX7_countInLog_4 ++ dktX7_countInLog_5
def dkwX7_countInLog_3 : List UInt8 := [54, 4, 21, 4, 42, 180, 0, 10, 16, 22, 46, 162, 0, 55, 29, 42, 180, 0, 10, 17, 1, 80, 7]
abbrev dktX7_countInLog_3 : List UInt8 := dkwX7_countInLog_3 ++ dktX7_countInLog_4
def dkwX7_countInLog_2 : List UInt8 := [184, 0, 68, 154, 0, 7, 4, 167, 0, 4, 3, 5, 182, 0, 72, 153, 0, 5, 3, 172, 3, 62, 3]
abbrev dktX7_countInLog_2 : List UInt8 := dkwX7_countInLog_2 ++ dktX7_countInLog_3
def dkwX7_countInLog_1 : List UInt8 := [154, 0, 7, 4, 167, 0, 4, 3, 4, 182, 0, 72, 154, 0, 28, 42, 27, 133, 10, 20, 1, 72]
abbrev dktX7_countInLog_1 : List UInt8 := dkwX7_countInLog_1 ++ dktX7_countInLog_2
def dkwX7_countInLog_0 : List UInt8 := [42, 3, 181, 0, 65, 42, 28, 133, 20, 1, 74, 42, 180, 0, 10, 5, 46, 4, 100, 133, 184, 0, 68]
abbrev dktX7_countInLog_0 : List UInt8 := dkwX7_countInLog_0 ++ dktX7_countInLog_1
theorem dksX7_countInLog_0 : cX7_countInLog.data.toList.drop 0 = dktX7_countInLog_0 := by decide +kernel
theorem dksX7_countInLog_1 : cX7_countInLog.data.toList.drop 23 = dktX7_countInLog_1 := dk_seg dksX7_countInLog_0 23 rfl rfl
theorem dksX7_countInLog_2 : cX7_countInLog.data.toList.drop 45 = dktX7_countInLog_2 := dk_seg dksX7_countInLog_1 22 rfl rfl
theorem dksX7_countInLog_3 : cX7_countInLog.data.toList.drop 68 = dktX7_countInLog_3 := dk_seg dksX7_countInLog_2 23 rfl rfl
theorem dksX7_countInLog_4 : cX7_countInLog.data.toList.drop 91 = dktX7_countInLog_4 := dk_seg dksX7_countInLog_3 23 rfl rfl
theorem dksX7_countInLog_5 : cX7_countInLog.data.toList.drop 115 = dktX7_countInLog_5 := dk_seg dksX7_countInLog_4 24 rfl rfl
theorem dX7_countInLog_0 : decode cX7_countInLog 0 = .ok (.aload_n 0, 1) := dk_42 (dk_at dksX7_countInLog_0 0 rfl rfl)
theorem dX7_countInLog_1 : decode cX7_countInLog 1 = .ok (.iconst 0, 1) := dk_3 (dk_at dksX7_countInLog_0 1 rfl rfl)
theorem dX7_countInLog_2 : decode cX7_countInLog 2 = .ok (.putfield 65, 3) := dk_181 0 65 (dk_at dksX7_countInLog_0 2 rfl rfl)
theorem dX7_countInLog_5 : decode cX7_countInLog 5 = .ok (.aload_n 0, 1) := dk_42 (dk_at dksX7_countInLog_0 5 rfl rfl)
theorem dX7_countInLog_6 : decode cX7_countInLog 6 = .ok (.iload_n 2, 1) := dk_28 (dk_at dksX7_countInLog_0 6 rfl rfl)
theorem dX7_countInLog_7 : decode cX7_countInLog 7 = .ok (.i2l, 1) := dk_133 (dk_at dksX7_countInLog_0 7 rfl rfl)
theorem dX7_countInLog_8 : decode cX7_countInLog 8 = .ok (.ldc2_w 330, 3) := dk_20 1 74 (dk_at dksX7_countInLog_0 8 rfl rfl)
theorem dX7_countInLog_11 : decode cX7_countInLog 11 = .ok (.aload_n 0, 1) := dk_42 (dk_at dksX7_countInLog_0 11 rfl rfl)
theorem dX7_countInLog_12 : decode cX7_countInLog 12 = .ok (.getfield 10, 3) := dk_180 0 10 (dk_at dksX7_countInLog_0 12 rfl rfl)
theorem dX7_countInLog_15 : decode cX7_countInLog 15 = .ok (.iconst 2, 1) := dk_5 (dk_at dksX7_countInLog_0 15 rfl rfl)
theorem dX7_countInLog_16 : decode cX7_countInLog 16 = .ok (.iaload, 1) := dk_46 (dk_at dksX7_countInLog_0 16 rfl rfl)
theorem dX7_countInLog_17 : decode cX7_countInLog 17 = .ok (.iconst 1, 1) := dk_4 (dk_at dksX7_countInLog_0 17 rfl rfl)
theorem dX7_countInLog_18 : decode cX7_countInLog 18 = .ok (.isub, 1) := dk_100 (dk_at dksX7_countInLog_0 18 rfl rfl)
theorem dX7_countInLog_19 : decode cX7_countInLog 19 = .ok (.i2l, 1) := dk_133 (dk_at dksX7_countInLog_0 19 rfl rfl)
theorem dX7_countInLog_20 : decode cX7_countInLog 20 = .ok (.invokestatic 68, 3) := dk_184 0 68 (dk_at dksX7_countInLog_0 20 rfl rfl)
theorem dX7_countInLog_23 : decode cX7_countInLog 23 = .ok (.ifCond .ne 7, 3) := dk_154 0 7 (dk_at dksX7_countInLog_1 0 rfl rfl)
theorem dX7_countInLog_26 : decode cX7_countInLog 26 = .ok (.iconst 1, 1) := dk_4 (dk_at dksX7_countInLog_1 3 rfl rfl)
theorem dX7_countInLog_27 : decode cX7_countInLog 27 = .ok (.goto 4, 3) := dk_167 0 4 (dk_at dksX7_countInLog_1 4 rfl rfl)
theorem dX7_countInLog_30 : decode cX7_countInLog 30 = .ok (.iconst 0, 1) := dk_3 (dk_at dksX7_countInLog_1 7 rfl rfl)
theorem dX7_countInLog_31 : decode cX7_countInLog 31 = .ok (.iconst 1, 1) := dk_4 (dk_at dksX7_countInLog_1 8 rfl rfl)
theorem dX7_countInLog_32 : decode cX7_countInLog 32 = .ok (.invokevirtual 72, 3) := dk_182 0 72 (dk_at dksX7_countInLog_1 9 rfl rfl)
theorem dX7_countInLog_35 : decode cX7_countInLog 35 = .ok (.ifCond .ne 28, 3) := dk_154 0 28 (dk_at dksX7_countInLog_1 12 rfl rfl)
theorem dX7_countInLog_38 : decode cX7_countInLog 38 = .ok (.aload_n 0, 1) := dk_42 (dk_at dksX7_countInLog_1 15 rfl rfl)
theorem dX7_countInLog_39 : decode cX7_countInLog 39 = .ok (.iload_n 1, 1) := dk_27 (dk_at dksX7_countInLog_1 16 rfl rfl)
theorem dX7_countInLog_40 : decode cX7_countInLog 40 = .ok (.i2l, 1) := dk_133 (dk_at dksX7_countInLog_1 17 rfl rfl)
theorem dX7_countInLog_41 : decode cX7_countInLog 41 = .ok (.lconst 1, 1) := dk_10 (dk_at dksX7_countInLog_1 18 rfl rfl)
theorem dX7_countInLog_42 : decode cX7_countInLog 42 = .ok (.ldc2_w 328, 3) := dk_20 1 72 (dk_at dksX7_countInLog_1 19 rfl rfl)
theorem dX7_countInLog_45 : decode cX7_countInLog 45 = .ok (.invokestatic 68, 3) := dk_184 0 68 (dk_at dksX7_countInLog_2 0 rfl rfl)
theorem dX7_countInLog_48 : decode cX7_countInLog 48 = .ok (.ifCond .ne 7, 3) := dk_154 0 7 (dk_at dksX7_countInLog_2 3 rfl rfl)
theorem dX7_countInLog_51 : decode cX7_countInLog 51 = .ok (.iconst 1, 1) := dk_4 (dk_at dksX7_countInLog_2 6 rfl rfl)
theorem dX7_countInLog_52 : decode cX7_countInLog 52 = .ok (.goto 4, 3) := dk_167 0 4 (dk_at dksX7_countInLog_2 7 rfl rfl)
theorem dX7_countInLog_55 : decode cX7_countInLog 55 = .ok (.iconst 0, 1) := dk_3 (dk_at dksX7_countInLog_2 10 rfl rfl)
theorem dX7_countInLog_56 : decode cX7_countInLog 56 = .ok (.iconst 2, 1) := dk_5 (dk_at dksX7_countInLog_2 11 rfl rfl)
theorem dX7_countInLog_57 : decode cX7_countInLog 57 = .ok (.invokevirtual 72, 3) := dk_182 0 72 (dk_at dksX7_countInLog_2 12 rfl rfl)
theorem dX7_countInLog_60 : decode cX7_countInLog 60 = .ok (.ifCond .eq 5, 3) := dk_153 0 5 (dk_at dksX7_countInLog_2 15 rfl rfl)
theorem dX7_countInLog_63 : decode cX7_countInLog 63 = .ok (.iconst 0, 1) := dk_3 (dk_at dksX7_countInLog_2 18 rfl rfl)
theorem dX7_countInLog_64 : decode cX7_countInLog 64 = .ok (.ireturn, 1) := dk_172 (dk_at dksX7_countInLog_2 19 rfl rfl)
theorem dX7_countInLog_65 : decode cX7_countInLog 65 = .ok (.iconst 0, 1) := dk_3 (dk_at dksX7_countInLog_2 20 rfl rfl)
theorem dX7_countInLog_66 : decode cX7_countInLog 66 = .ok (.istore_n 3, 1) := dk_62 (dk_at dksX7_countInLog_2 21 rfl rfl)
theorem dX7_countInLog_67 : decode cX7_countInLog 67 = .ok (.iconst 0, 1) := dk_3 (dk_at dksX7_countInLog_2 22 rfl rfl)
theorem dX7_countInLog_68 : decode cX7_countInLog 68 = .ok (.istore 4, 2) := dk_54 4 (dk_at dksX7_countInLog_3 0 rfl rfl)
theorem dX7_countInLog_70 : decode cX7_countInLog 70 = .ok (.iload 4, 2) := dk_21 4 (dk_at dksX7_countInLog_3 2 rfl rfl)
theorem dX7_countInLog_72 : decode cX7_countInLog 72 = .ok (.aload_n 0, 1) := dk_42 (dk_at dksX7_countInLog_3 4 rfl rfl)
theorem dX7_countInLog_73 : decode cX7_countInLog 73 = .ok (.getfield 10, 3) := dk_180 0 10 (dk_at dksX7_countInLog_3 5 rfl rfl)
theorem dX7_countInLog_76 : decode cX7_countInLog 76 = .ok (.bipush 22, 2) := dk_16 22 (dk_at dksX7_countInLog_3 8 rfl rfl)
theorem dX7_countInLog_78 : decode cX7_countInLog 78 = .ok (.iaload, 1) := dk_46 (dk_at dksX7_countInLog_3 10 rfl rfl)
theorem dX7_countInLog_79 : decode cX7_countInLog 79 = .ok (.if_icmp .ge 55, 3) := dk_162 0 55 (dk_at dksX7_countInLog_3 11 rfl rfl)
theorem dX7_countInLog_82 : decode cX7_countInLog 82 = .ok (.iload_n 3, 1) := dk_29 (dk_at dksX7_countInLog_3 14 rfl rfl)
theorem dX7_countInLog_83 : decode cX7_countInLog 83 = .ok (.aload_n 0, 1) := dk_42 (dk_at dksX7_countInLog_3 15 rfl rfl)
theorem dX7_countInLog_84 : decode cX7_countInLog 84 = .ok (.getfield 10, 3) := dk_180 0 10 (dk_at dksX7_countInLog_3 16 rfl rfl)
theorem dX7_countInLog_87 : decode cX7_countInLog 87 = .ok (.sipush 336, 3) := dk_17 1 80 (dk_at dksX7_countInLog_3 19 rfl rfl)
theorem dX7_countInLog_90 : decode cX7_countInLog 90 = .ok (.iconst 4, 1) := dk_7 (dk_at dksX7_countInLog_3 22 rfl rfl)
theorem dX7_countInLog_91 : decode cX7_countInLog 91 = .ok (.iload 4, 2) := dk_21 4 (dk_at dksX7_countInLog_4 0 rfl rfl)
theorem dX7_countInLog_93 : decode cX7_countInLog 93 = .ok (.imul, 1) := dk_104 (dk_at dksX7_countInLog_4 2 rfl rfl)
theorem dX7_countInLog_94 : decode cX7_countInLog 94 = .ok (.iadd, 1) := dk_96 (dk_at dksX7_countInLog_4 3 rfl rfl)
theorem dX7_countInLog_95 : decode cX7_countInLog 95 = .ok (.iconst 1, 1) := dk_4 (dk_at dksX7_countInLog_4 4 rfl rfl)
theorem dX7_countInLog_96 : decode cX7_countInLog 96 = .ok (.iadd, 1) := dk_96 (dk_at dksX7_countInLog_4 5 rfl rfl)
theorem dX7_countInLog_97 : decode cX7_countInLog 97 = .ok (.iaload, 1) := dk_46 (dk_at dksX7_countInLog_4 6 rfl rfl)
theorem dX7_countInLog_98 : decode cX7_countInLog 98 = .ok (.iload_n 1, 1) := dk_27 (dk_at dksX7_countInLog_4 7 rfl rfl)
theorem dX7_countInLog_99 : decode cX7_countInLog 99 = .ok (.if_icmp .ne 26, 3) := dk_160 0 26 (dk_at dksX7_countInLog_4 8 rfl rfl)
theorem dX7_countInLog_102 : decode cX7_countInLog 102 = .ok (.aload_n 0, 1) := dk_42 (dk_at dksX7_countInLog_4 11 rfl rfl)
theorem dX7_countInLog_103 : decode cX7_countInLog 103 = .ok (.getfield 10, 3) := dk_180 0 10 (dk_at dksX7_countInLog_4 12 rfl rfl)
theorem dX7_countInLog_106 : decode cX7_countInLog 106 = .ok (.sipush 336, 3) := dk_17 1 80 (dk_at dksX7_countInLog_4 15 rfl rfl)
theorem dX7_countInLog_109 : decode cX7_countInLog 109 = .ok (.iconst 4, 1) := dk_7 (dk_at dksX7_countInLog_4 18 rfl rfl)
theorem dX7_countInLog_110 : decode cX7_countInLog 110 = .ok (.iload 4, 2) := dk_21 4 (dk_at dksX7_countInLog_4 19 rfl rfl)
theorem dX7_countInLog_112 : decode cX7_countInLog 112 = .ok (.imul, 1) := dk_104 (dk_at dksX7_countInLog_4 21 rfl rfl)
theorem dX7_countInLog_113 : decode cX7_countInLog 113 = .ok (.iadd, 1) := dk_96 (dk_at dksX7_countInLog_4 22 rfl rfl)
theorem dX7_countInLog_114 : decode cX7_countInLog 114 = .ok (.iconst 2, 1) := dk_5 (dk_at dksX7_countInLog_4 23 rfl rfl)
theorem dX7_countInLog_115 : decode cX7_countInLog 115 = .ok (.iadd, 1) := dk_96 (dk_at dksX7_countInLog_5 0 rfl rfl)
theorem dX7_countInLog_116 : decode cX7_countInLog 116 = .ok (.iaload, 1) := dk_46 (dk_at dksX7_countInLog_5 1 rfl rfl)
theorem dX7_countInLog_117 : decode cX7_countInLog 117 = .ok (.iload_n 2, 1) := dk_28 (dk_at dksX7_countInLog_5 2 rfl rfl)
theorem dX7_countInLog_118 : decode cX7_countInLog 118 = .ok (.if_icmp .ne 7, 3) := dk_160 0 7 (dk_at dksX7_countInLog_5 3 rfl rfl)
theorem dX7_countInLog_121 : decode cX7_countInLog 121 = .ok (.iconst 1, 1) := dk_4 (dk_at dksX7_countInLog_5 6 rfl rfl)
theorem dX7_countInLog_122 : decode cX7_countInLog 122 = .ok (.goto 4, 3) := dk_167 0 4 (dk_at dksX7_countInLog_5 7 rfl rfl)
theorem dX7_countInLog_125 : decode cX7_countInLog 125 = .ok (.iconst 0, 1) := dk_3 (dk_at dksX7_countInLog_5 10 rfl rfl)
theorem dX7_countInLog_126 : decode cX7_countInLog 126 = .ok (.iadd, 1) := dk_96 (dk_at dksX7_countInLog_5 11 rfl rfl)
theorem dX7_countInLog_127 : decode cX7_countInLog 127 = .ok (.istore_n 3, 1) := dk_62 (dk_at dksX7_countInLog_5 12 rfl rfl)
theorem dX7_countInLog_128 : decode cX7_countInLog 128 = .ok (.iinc 4 1, 3) := dk_132 4 1 (dk_at dksX7_countInLog_5 13 rfl rfl)
theorem dX7_countInLog_131 : decode cX7_countInLog 131 = .ok (.goto (-61), 3) := dk_167 255 195 (dk_at dksX7_countInLog_5 16 rfl rfl)
theorem dX7_countInLog_134 : decode cX7_countInLog 134 = .ok (.iload_n 3, 1) := dk_29 (dk_at dksX7_countInLog_5 19 rfl rfl)
theorem dX7_countInLog_135 : decode cX7_countInLog 135 = .ok (.ireturn, 1) := dk_172 (dk_at dksX7_countInLog_5 20 rfl rfl)
abbrev cX7_lastEventTime : ByteArray := prog_22_method_111_code
def yX7_lastEventTime : MethodName := ⟨RX7, "lastEventTime", "(I)I"⟩
def dkwX7_lastEventTime_3 : List UInt8 := [156, 0, 8, 16, 252, 167, 0, 15, 42, 180, 0, 10, 17, 1, 80, 7, 28, 104, 96, 46, 172]
abbrev dktX7_lastEventTime_3 : List UInt8 := dkwX7_lastEventTime_3 ++ []
def dkwX7_lastEventTime_2 : List UInt8 := [180, 0, 10, 17, 1, 80, 7, 28, 104, 96, 4, 96, 46, 27, 159, 0, 9, 132, 2, 255, 167, 255, 231, 28]
abbrev dktX7_lastEventTime_2 : List UInt8 := dkwX7_lastEventTime_2 ++ dktX7_lastEventTime_3
def dkwX7_lastEventTime_1 : List UInt8 := [182, 0, 72, 153, 0, 5, 3, 172, 42, 180, 0, 10, 16, 22, 46, 4, 100, 61, 28, 155, 0, 27, 42]
abbrev dktX7_lastEventTime_1 : List UInt8 := dkwX7_lastEventTime_1 ++ dktX7_lastEventTime_2
def dkwX7_lastEventTime_0 : List UInt8 := [42, 3, 181, 0, 65, 42, 27, 133, 10, 20, 1, 72, 184, 0, 68, 154, 0, 7, 4, 167, 0, 4, 3, 4]
abbrev dktX7_lastEventTime_0 : List UInt8 := dkwX7_lastEventTime_0 ++ dktX7_lastEventTime_1
theorem dksX7_lastEventTime_0 : cX7_lastEventTime.data.toList.drop 0 = dktX7_lastEventTime_0 := by decide +kernel
theorem dksX7_lastEventTime_1 : cX7_lastEventTime.data.toList.drop 24 = dktX7_lastEventTime_1 := dk_seg dksX7_lastEventTime_0 24 rfl rfl
theorem dksX7_lastEventTime_2 : cX7_lastEventTime.data.toList.drop 47 = dktX7_lastEventTime_2 := dk_seg dksX7_lastEventTime_1 23 rfl rfl
theorem dksX7_lastEventTime_3 : cX7_lastEventTime.data.toList.drop 71 = dktX7_lastEventTime_3 := dk_seg dksX7_lastEventTime_2 24 rfl rfl
theorem dX7_lastEventTime_0 : decode cX7_lastEventTime 0 = .ok (.aload_n 0, 1) := dk_42 (dk_at dksX7_lastEventTime_0 0 rfl rfl)
theorem dX7_lastEventTime_1 : decode cX7_lastEventTime 1 = .ok (.iconst 0, 1) := dk_3 (dk_at dksX7_lastEventTime_0 1 rfl rfl)
theorem dX7_lastEventTime_2 : decode cX7_lastEventTime 2 = .ok (.putfield 65, 3) := dk_181 0 65 (dk_at dksX7_lastEventTime_0 2 rfl rfl)
theorem dX7_lastEventTime_5 : decode cX7_lastEventTime 5 = .ok (.aload_n 0, 1) := dk_42 (dk_at dksX7_lastEventTime_0 5 rfl rfl)
theorem dX7_lastEventTime_6 : decode cX7_lastEventTime 6 = .ok (.iload_n 1, 1) := dk_27 (dk_at dksX7_lastEventTime_0 6 rfl rfl)
theorem dX7_lastEventTime_7 : decode cX7_lastEventTime 7 = .ok (.i2l, 1) := dk_133 (dk_at dksX7_lastEventTime_0 7 rfl rfl)
theorem dX7_lastEventTime_8 : decode cX7_lastEventTime 8 = .ok (.lconst 1, 1) := dk_10 (dk_at dksX7_lastEventTime_0 8 rfl rfl)
theorem dX7_lastEventTime_9 : decode cX7_lastEventTime 9 = .ok (.ldc2_w 328, 3) := dk_20 1 72 (dk_at dksX7_lastEventTime_0 9 rfl rfl)
theorem dX7_lastEventTime_12 : decode cX7_lastEventTime 12 = .ok (.invokestatic 68, 3) := dk_184 0 68 (dk_at dksX7_lastEventTime_0 12 rfl rfl)
theorem dX7_lastEventTime_15 : decode cX7_lastEventTime 15 = .ok (.ifCond .ne 7, 3) := dk_154 0 7 (dk_at dksX7_lastEventTime_0 15 rfl rfl)
theorem dX7_lastEventTime_18 : decode cX7_lastEventTime 18 = .ok (.iconst 1, 1) := dk_4 (dk_at dksX7_lastEventTime_0 18 rfl rfl)
theorem dX7_lastEventTime_19 : decode cX7_lastEventTime 19 = .ok (.goto 4, 3) := dk_167 0 4 (dk_at dksX7_lastEventTime_0 19 rfl rfl)
theorem dX7_lastEventTime_22 : decode cX7_lastEventTime 22 = .ok (.iconst 0, 1) := dk_3 (dk_at dksX7_lastEventTime_0 22 rfl rfl)
theorem dX7_lastEventTime_23 : decode cX7_lastEventTime 23 = .ok (.iconst 1, 1) := dk_4 (dk_at dksX7_lastEventTime_0 23 rfl rfl)
theorem dX7_lastEventTime_24 : decode cX7_lastEventTime 24 = .ok (.invokevirtual 72, 3) := dk_182 0 72 (dk_at dksX7_lastEventTime_1 0 rfl rfl)
theorem dX7_lastEventTime_27 : decode cX7_lastEventTime 27 = .ok (.ifCond .eq 5, 3) := dk_153 0 5 (dk_at dksX7_lastEventTime_1 3 rfl rfl)
theorem dX7_lastEventTime_30 : decode cX7_lastEventTime 30 = .ok (.iconst 0, 1) := dk_3 (dk_at dksX7_lastEventTime_1 6 rfl rfl)
theorem dX7_lastEventTime_31 : decode cX7_lastEventTime 31 = .ok (.ireturn, 1) := dk_172 (dk_at dksX7_lastEventTime_1 7 rfl rfl)
theorem dX7_lastEventTime_32 : decode cX7_lastEventTime 32 = .ok (.aload_n 0, 1) := dk_42 (dk_at dksX7_lastEventTime_1 8 rfl rfl)
theorem dX7_lastEventTime_33 : decode cX7_lastEventTime 33 = .ok (.getfield 10, 3) := dk_180 0 10 (dk_at dksX7_lastEventTime_1 9 rfl rfl)
theorem dX7_lastEventTime_36 : decode cX7_lastEventTime 36 = .ok (.bipush 22, 2) := dk_16 22 (dk_at dksX7_lastEventTime_1 12 rfl rfl)
theorem dX7_lastEventTime_38 : decode cX7_lastEventTime 38 = .ok (.iaload, 1) := dk_46 (dk_at dksX7_lastEventTime_1 14 rfl rfl)
theorem dX7_lastEventTime_39 : decode cX7_lastEventTime 39 = .ok (.iconst 1, 1) := dk_4 (dk_at dksX7_lastEventTime_1 15 rfl rfl)
theorem dX7_lastEventTime_40 : decode cX7_lastEventTime 40 = .ok (.isub, 1) := dk_100 (dk_at dksX7_lastEventTime_1 16 rfl rfl)
theorem dX7_lastEventTime_41 : decode cX7_lastEventTime 41 = .ok (.istore_n 2, 1) := dk_61 (dk_at dksX7_lastEventTime_1 17 rfl rfl)
theorem dX7_lastEventTime_42 : decode cX7_lastEventTime 42 = .ok (.iload_n 2, 1) := dk_28 (dk_at dksX7_lastEventTime_1 18 rfl rfl)
theorem dX7_lastEventTime_43 : decode cX7_lastEventTime 43 = .ok (.ifCond .lt 27, 3) := dk_155 0 27 (dk_at dksX7_lastEventTime_1 19 rfl rfl)
theorem dX7_lastEventTime_46 : decode cX7_lastEventTime 46 = .ok (.aload_n 0, 1) := dk_42 (dk_at dksX7_lastEventTime_1 22 rfl rfl)
theorem dX7_lastEventTime_47 : decode cX7_lastEventTime 47 = .ok (.getfield 10, 3) := dk_180 0 10 (dk_at dksX7_lastEventTime_2 0 rfl rfl)
theorem dX7_lastEventTime_50 : decode cX7_lastEventTime 50 = .ok (.sipush 336, 3) := dk_17 1 80 (dk_at dksX7_lastEventTime_2 3 rfl rfl)
theorem dX7_lastEventTime_53 : decode cX7_lastEventTime 53 = .ok (.iconst 4, 1) := dk_7 (dk_at dksX7_lastEventTime_2 6 rfl rfl)
theorem dX7_lastEventTime_54 : decode cX7_lastEventTime 54 = .ok (.iload_n 2, 1) := dk_28 (dk_at dksX7_lastEventTime_2 7 rfl rfl)
theorem dX7_lastEventTime_55 : decode cX7_lastEventTime 55 = .ok (.imul, 1) := dk_104 (dk_at dksX7_lastEventTime_2 8 rfl rfl)
theorem dX7_lastEventTime_56 : decode cX7_lastEventTime 56 = .ok (.iadd, 1) := dk_96 (dk_at dksX7_lastEventTime_2 9 rfl rfl)
theorem dX7_lastEventTime_57 : decode cX7_lastEventTime 57 = .ok (.iconst 1, 1) := dk_4 (dk_at dksX7_lastEventTime_2 10 rfl rfl)
theorem dX7_lastEventTime_58 : decode cX7_lastEventTime 58 = .ok (.iadd, 1) := dk_96 (dk_at dksX7_lastEventTime_2 11 rfl rfl)
theorem dX7_lastEventTime_59 : decode cX7_lastEventTime 59 = .ok (.iaload, 1) := dk_46 (dk_at dksX7_lastEventTime_2 12 rfl rfl)
theorem dX7_lastEventTime_60 : decode cX7_lastEventTime 60 = .ok (.iload_n 1, 1) := dk_27 (dk_at dksX7_lastEventTime_2 13 rfl rfl)
theorem dX7_lastEventTime_61 : decode cX7_lastEventTime 61 = .ok (.if_icmp .eq 9, 3) := dk_159 0 9 (dk_at dksX7_lastEventTime_2 14 rfl rfl)
theorem dX7_lastEventTime_64 : decode cX7_lastEventTime 64 = .ok (.iinc 2 (-1), 3) := dk_132 2 255 (dk_at dksX7_lastEventTime_2 17 rfl rfl)
theorem dX7_lastEventTime_67 : decode cX7_lastEventTime 67 = .ok (.goto (-25), 3) := dk_167 255 231 (dk_at dksX7_lastEventTime_2 20 rfl rfl)
theorem dX7_lastEventTime_70 : decode cX7_lastEventTime 70 = .ok (.iload_n 2, 1) := dk_28 (dk_at dksX7_lastEventTime_2 23 rfl rfl)
theorem dX7_lastEventTime_71 : decode cX7_lastEventTime 71 = .ok (.ifCond .ge 8, 3) := dk_156 0 8 (dk_at dksX7_lastEventTime_3 0 rfl rfl)
theorem dX7_lastEventTime_74 : decode cX7_lastEventTime 74 = .ok (.bipush (-4), 2) := dk_16 252 (dk_at dksX7_lastEventTime_3 3 rfl rfl)
theorem dX7_lastEventTime_76 : decode cX7_lastEventTime 76 = .ok (.goto 15, 3) := dk_167 0 15 (dk_at dksX7_lastEventTime_3 5 rfl rfl)
theorem dX7_lastEventTime_79 : decode cX7_lastEventTime 79 = .ok (.aload_n 0, 1) := dk_42 (dk_at dksX7_lastEventTime_3 8 rfl rfl)
theorem dX7_lastEventTime_80 : decode cX7_lastEventTime 80 = .ok (.getfield 10, 3) := dk_180 0 10 (dk_at dksX7_lastEventTime_3 9 rfl rfl)
theorem dX7_lastEventTime_83 : decode cX7_lastEventTime 83 = .ok (.sipush 336, 3) := dk_17 1 80 (dk_at dksX7_lastEventTime_3 12 rfl rfl)
theorem dX7_lastEventTime_86 : decode cX7_lastEventTime 86 = .ok (.iconst 4, 1) := dk_7 (dk_at dksX7_lastEventTime_3 15 rfl rfl)
theorem dX7_lastEventTime_87 : decode cX7_lastEventTime 87 = .ok (.iload_n 2, 1) := dk_28 (dk_at dksX7_lastEventTime_3 16 rfl rfl)
theorem dX7_lastEventTime_88 : decode cX7_lastEventTime 88 = .ok (.imul, 1) := dk_104 (dk_at dksX7_lastEventTime_3 17 rfl rfl)
theorem dX7_lastEventTime_89 : decode cX7_lastEventTime 89 = .ok (.iadd, 1) := dk_96 (dk_at dksX7_lastEventTime_3 18 rfl rfl)
theorem dX7_lastEventTime_90 : decode cX7_lastEventTime 90 = .ok (.iaload, 1) := dk_46 (dk_at dksX7_lastEventTime_3 19 rfl rfl)
theorem dX7_lastEventTime_91 : decode cX7_lastEventTime 91 = .ok (.ireturn, 1) := dk_172 (dk_at dksX7_lastEventTime_3 20 rfl rfl)
abbrev cX7_splitTime : ByteArray := prog_22_method_112_code
def yX7_splitTime : MethodName := ⟨RX7, "splitTime", "()I"⟩
def dkwX7_splitTime_0 : List UInt8 := [42, 16, 17, 182, 1, 48, 172]
abbrev dktX7_splitTime_0 : List UInt8 := dkwX7_splitTime_0 ++ []
theorem dksX7_splitTime_0 : cX7_splitTime.data.toList.drop 0 = dktX7_splitTime_0 := by decide +kernel
theorem dX7_splitTime_0 : decode cX7_splitTime 0 = .ok (.aload_n 0, 1) := dk_42 (dk_at dksX7_splitTime_0 0 rfl rfl)
theorem dX7_splitTime_1 : decode cX7_splitTime 1 = .ok (.bipush 17, 2) := dk_16 17 (dk_at dksX7_splitTime_0 1 rfl rfl)
theorem dX7_splitTime_3 : decode cX7_splitTime 3 = .ok (.invokevirtual 304, 3) := dk_182 1 48 (dk_at dksX7_splitTime_0 3 rfl rfl)
theorem dX7_splitTime_6 : decode cX7_splitTime 6 = .ok (.ireturn, 1) := dk_172 (dk_at dksX7_splitTime_0 6 rfl rfl)
abbrev cX7_reads : ByteArray := prog_22_method_113_code
def yX7_reads : MethodName := ⟨RX7, "reads", "()I"⟩
def dkwX7_reads_0 : List UInt8 := [42, 16, 18, 182, 1, 48, 172]
abbrev dktX7_reads_0 : List UInt8 := dkwX7_reads_0 ++ []
theorem dksX7_reads_0 : cX7_reads.data.toList.drop 0 = dktX7_reads_0 := by decide +kernel
theorem dX7_reads_0 : decode cX7_reads 0 = .ok (.aload_n 0, 1) := dk_42 (dk_at dksX7_reads_0 0 rfl rfl)
theorem dX7_reads_1 : decode cX7_reads 1 = .ok (.bipush 18, 2) := dk_16 18 (dk_at dksX7_reads_0 1 rfl rfl)
theorem dX7_reads_3 : decode cX7_reads 3 = .ok (.invokevirtual 304, 3) := dk_182 1 48 (dk_at dksX7_reads_0 3 rfl rfl)
theorem dX7_reads_6 : decode cX7_reads 6 = .ok (.ireturn, 1) := dk_172 (dk_at dksX7_reads_0 6 rfl rfl)
abbrev cX7_staleReads : ByteArray := prog_22_method_114_code
def yX7_staleReads : MethodName := ⟨RX7, "staleReads", "()I"⟩
def dkwX7_staleReads_0 : List UInt8 := [42, 16, 19, 182, 1, 48, 172]
abbrev dktX7_staleReads_0 : List UInt8 := dkwX7_staleReads_0 ++ []
theorem dksX7_staleReads_0 : cX7_staleReads.data.toList.drop 0 = dktX7_staleReads_0 := by decide +kernel
theorem dX7_staleReads_0 : decode cX7_staleReads 0 = .ok (.aload_n 0, 1) := dk_42 (dk_at dksX7_staleReads_0 0 rfl rfl)
theorem dX7_staleReads_1 : decode cX7_staleReads 1 = .ok (.bipush 19, 2) := dk_16 19 (dk_at dksX7_staleReads_0 1 rfl rfl)
theorem dX7_staleReads_3 : decode cX7_staleReads 3 = .ok (.invokevirtual 304, 3) := dk_182 1 48 (dk_at dksX7_staleReads_0 3 rfl rfl)
theorem dX7_staleReads_6 : decode cX7_staleReads 6 = .ok (.ireturn, 1) := dk_172 (dk_at dksX7_staleReads_0 6 rfl rfl)
abbrev cX7_ledTime : ByteArray := prog_22_method_115_code
def yX7_ledTime : MethodName := ⟨RX7, "ledTime", "(I)I"⟩
def dkwX7_ledTime_0 : List UInt8 := [42, 27, 16, 10, 182, 1, 57, 172]
abbrev dktX7_ledTime_0 : List UInt8 := dkwX7_ledTime_0 ++ []
theorem dksX7_ledTime_0 : cX7_ledTime.data.toList.drop 0 = dktX7_ledTime_0 := by decide +kernel
theorem dX7_ledTime_0 : decode cX7_ledTime 0 = .ok (.aload_n 0, 1) := dk_42 (dk_at dksX7_ledTime_0 0 rfl rfl)
theorem dX7_ledTime_1 : decode cX7_ledTime 1 = .ok (.iload_n 1, 1) := dk_27 (dk_at dksX7_ledTime_0 1 rfl rfl)
theorem dX7_ledTime_2 : decode cX7_ledTime 2 = .ok (.bipush 10, 2) := dk_16 10 (dk_at dksX7_ledTime_0 2 rfl rfl)
theorem dX7_ledTime_4 : decode cX7_ledTime 4 = .ok (.invokevirtual 313, 3) := dk_182 1 57 (dk_at dksX7_ledTime_0 4 rfl rfl)
theorem dX7_ledTime_7 : decode cX7_ledTime 7 = .ok (.ireturn, 1) := dk_172 (dk_at dksX7_ledTime_0 7 rfl rfl)
abbrev cX7_nextLeader : ByteArray := prog_22_method_118_code
def yX7_nextLeader : MethodName := ⟨RX7, "nextLeader", "(I)I"⟩
def dkwX7_nextLeader_6 : List UInt8 := [160, 0, 8, 16, 252, 167, 0, 5, 21, 6, 172]
abbrev dktX7_nextLeader_6 : List UInt8 := dkwX7_nextLeader_6 ++ []
def dkwX7_nextLeader_5 : List UInt8 := [162, 0, 19, 21, 5, 21, 6, 122, 4, 126, 154, 0, 9, 132, 6, 1, 167, 255, 236, 21, 6, 16, 6]
abbrev dktX7_nextLeader_5 : List UInt8 := dkwX7_nextLeader_5 ++ dktX7_nextLeader_6
def dkwX7_nextLeader_4 : List UInt8 := [54, 5, 42, 182, 1, 3, 54, 4, 167, 255, 223, 42, 182, 1, 79, 3, 54, 6, 21, 6, 16, 6]
abbrev dktX7_nextLeader_4 : List UInt8 := dkwX7_nextLeader_4 ++ dktX7_nextLeader_5
def dkwX7_nextLeader_3 : List UInt8 := [154, 0, 34, 21, 4, 28, 163, 0, 28, 42, 21, 4, 182, 1, 24, 42, 182, 1, 54, 29, 2, 130, 126]
abbrev dktX7_nextLeader_3 : List UInt8 := dkwX7_nextLeader_3 ++ dktX7_nextLeader_4
def dkwX7_nextLeader_2 : List UInt8 := [16, 251, 172, 42, 182, 1, 76, 42, 182, 1, 54, 62, 42, 182, 1, 3, 54, 4, 3, 54, 5, 21, 5]
abbrev dktX7_nextLeader_2 : List UInt8 := dkwX7_nextLeader_2 ++ dktX7_nextLeader_3
def dkwX7_nextLeader_1 : List UInt8 := [182, 0, 72, 153, 0, 5, 3, 172, 42, 180, 0, 10, 3, 46, 27, 96, 61, 28, 19, 1, 23, 164, 0, 6]
abbrev dktX7_nextLeader_1 : List UInt8 := dkwX7_nextLeader_1 ++ dktX7_nextLeader_2
def dkwX7_nextLeader_0 : List UInt8 := [42, 3, 181, 0, 65, 42, 27, 133, 10, 20, 1, 21, 184, 0, 68, 154, 0, 7, 4, 167, 0, 4, 3, 4]
abbrev dktX7_nextLeader_0 : List UInt8 := dkwX7_nextLeader_0 ++ dktX7_nextLeader_1
theorem dksX7_nextLeader_0 : cX7_nextLeader.data.toList.drop 0 = dktX7_nextLeader_0 := by decide +kernel
theorem dksX7_nextLeader_1 : cX7_nextLeader.data.toList.drop 24 = dktX7_nextLeader_1 := dk_seg dksX7_nextLeader_0 24 rfl rfl
theorem dksX7_nextLeader_2 : cX7_nextLeader.data.toList.drop 48 = dktX7_nextLeader_2 := dk_seg dksX7_nextLeader_1 24 rfl rfl
theorem dksX7_nextLeader_3 : cX7_nextLeader.data.toList.drop 71 = dktX7_nextLeader_3 := dk_seg dksX7_nextLeader_2 23 rfl rfl
theorem dksX7_nextLeader_4 : cX7_nextLeader.data.toList.drop 94 = dktX7_nextLeader_4 := dk_seg dksX7_nextLeader_3 23 rfl rfl
theorem dksX7_nextLeader_5 : cX7_nextLeader.data.toList.drop 116 = dktX7_nextLeader_5 := dk_seg dksX7_nextLeader_4 22 rfl rfl
theorem dksX7_nextLeader_6 : cX7_nextLeader.data.toList.drop 139 = dktX7_nextLeader_6 := dk_seg dksX7_nextLeader_5 23 rfl rfl
theorem dX7_nextLeader_0 : decode cX7_nextLeader 0 = .ok (.aload_n 0, 1) := dk_42 (dk_at dksX7_nextLeader_0 0 rfl rfl)
theorem dX7_nextLeader_1 : decode cX7_nextLeader 1 = .ok (.iconst 0, 1) := dk_3 (dk_at dksX7_nextLeader_0 1 rfl rfl)
theorem dX7_nextLeader_2 : decode cX7_nextLeader 2 = .ok (.putfield 65, 3) := dk_181 0 65 (dk_at dksX7_nextLeader_0 2 rfl rfl)
theorem dX7_nextLeader_5 : decode cX7_nextLeader 5 = .ok (.aload_n 0, 1) := dk_42 (dk_at dksX7_nextLeader_0 5 rfl rfl)
theorem dX7_nextLeader_6 : decode cX7_nextLeader 6 = .ok (.iload_n 1, 1) := dk_27 (dk_at dksX7_nextLeader_0 6 rfl rfl)
theorem dX7_nextLeader_7 : decode cX7_nextLeader 7 = .ok (.i2l, 1) := dk_133 (dk_at dksX7_nextLeader_0 7 rfl rfl)
theorem dX7_nextLeader_8 : decode cX7_nextLeader 8 = .ok (.lconst 1, 1) := dk_10 (dk_at dksX7_nextLeader_0 8 rfl rfl)
theorem dX7_nextLeader_9 : decode cX7_nextLeader 9 = .ok (.ldc2_w 277, 3) := dk_20 1 21 (dk_at dksX7_nextLeader_0 9 rfl rfl)
theorem dX7_nextLeader_12 : decode cX7_nextLeader 12 = .ok (.invokestatic 68, 3) := dk_184 0 68 (dk_at dksX7_nextLeader_0 12 rfl rfl)
theorem dX7_nextLeader_15 : decode cX7_nextLeader 15 = .ok (.ifCond .ne 7, 3) := dk_154 0 7 (dk_at dksX7_nextLeader_0 15 rfl rfl)
theorem dX7_nextLeader_18 : decode cX7_nextLeader 18 = .ok (.iconst 1, 1) := dk_4 (dk_at dksX7_nextLeader_0 18 rfl rfl)
theorem dX7_nextLeader_19 : decode cX7_nextLeader 19 = .ok (.goto 4, 3) := dk_167 0 4 (dk_at dksX7_nextLeader_0 19 rfl rfl)
theorem dX7_nextLeader_22 : decode cX7_nextLeader 22 = .ok (.iconst 0, 1) := dk_3 (dk_at dksX7_nextLeader_0 22 rfl rfl)
theorem dX7_nextLeader_23 : decode cX7_nextLeader 23 = .ok (.iconst 1, 1) := dk_4 (dk_at dksX7_nextLeader_0 23 rfl rfl)
theorem dX7_nextLeader_24 : decode cX7_nextLeader 24 = .ok (.invokevirtual 72, 3) := dk_182 0 72 (dk_at dksX7_nextLeader_1 0 rfl rfl)
theorem dX7_nextLeader_27 : decode cX7_nextLeader 27 = .ok (.ifCond .eq 5, 3) := dk_153 0 5 (dk_at dksX7_nextLeader_1 3 rfl rfl)
theorem dX7_nextLeader_30 : decode cX7_nextLeader 30 = .ok (.iconst 0, 1) := dk_3 (dk_at dksX7_nextLeader_1 6 rfl rfl)
theorem dX7_nextLeader_31 : decode cX7_nextLeader 31 = .ok (.ireturn, 1) := dk_172 (dk_at dksX7_nextLeader_1 7 rfl rfl)
theorem dX7_nextLeader_32 : decode cX7_nextLeader 32 = .ok (.aload_n 0, 1) := dk_42 (dk_at dksX7_nextLeader_1 8 rfl rfl)
theorem dX7_nextLeader_33 : decode cX7_nextLeader 33 = .ok (.getfield 10, 3) := dk_180 0 10 (dk_at dksX7_nextLeader_1 9 rfl rfl)
theorem dX7_nextLeader_36 : decode cX7_nextLeader 36 = .ok (.iconst 0, 1) := dk_3 (dk_at dksX7_nextLeader_1 12 rfl rfl)
theorem dX7_nextLeader_37 : decode cX7_nextLeader 37 = .ok (.iaload, 1) := dk_46 (dk_at dksX7_nextLeader_1 13 rfl rfl)
theorem dX7_nextLeader_38 : decode cX7_nextLeader 38 = .ok (.iload_n 1, 1) := dk_27 (dk_at dksX7_nextLeader_1 14 rfl rfl)
theorem dX7_nextLeader_39 : decode cX7_nextLeader 39 = .ok (.iadd, 1) := dk_96 (dk_at dksX7_nextLeader_1 15 rfl rfl)
theorem dX7_nextLeader_40 : decode cX7_nextLeader 40 = .ok (.istore_n 2, 1) := dk_61 (dk_at dksX7_nextLeader_1 16 rfl rfl)
theorem dX7_nextLeader_41 : decode cX7_nextLeader 41 = .ok (.iload_n 2, 1) := dk_28 (dk_at dksX7_nextLeader_1 17 rfl rfl)
theorem dX7_nextLeader_42 : decode cX7_nextLeader 42 = .ok (.ldc_w 279, 3) := dk_19 1 23 (dk_at dksX7_nextLeader_1 18 rfl rfl)
theorem dX7_nextLeader_45 : decode cX7_nextLeader 45 = .ok (.if_icmp .le 6, 3) := dk_164 0 6 (dk_at dksX7_nextLeader_1 21 rfl rfl)
theorem dX7_nextLeader_48 : decode cX7_nextLeader 48 = .ok (.bipush (-5), 2) := dk_16 251 (dk_at dksX7_nextLeader_2 0 rfl rfl)
theorem dX7_nextLeader_50 : decode cX7_nextLeader 50 = .ok (.ireturn, 1) := dk_172 (dk_at dksX7_nextLeader_2 2 rfl rfl)
theorem dX7_nextLeader_51 : decode cX7_nextLeader 51 = .ok (.aload_n 0, 1) := dk_42 (dk_at dksX7_nextLeader_2 3 rfl rfl)
theorem dX7_nextLeader_52 : decode cX7_nextLeader 52 = .ok (.invokevirtual 332, 3) := dk_182 1 76 (dk_at dksX7_nextLeader_2 4 rfl rfl)
theorem dX7_nextLeader_55 : decode cX7_nextLeader 55 = .ok (.aload_n 0, 1) := dk_42 (dk_at dksX7_nextLeader_2 7 rfl rfl)
theorem dX7_nextLeader_56 : decode cX7_nextLeader 56 = .ok (.invokevirtual 310, 3) := dk_182 1 54 (dk_at dksX7_nextLeader_2 8 rfl rfl)
theorem dX7_nextLeader_59 : decode cX7_nextLeader 59 = .ok (.istore_n 3, 1) := dk_62 (dk_at dksX7_nextLeader_2 11 rfl rfl)
theorem dX7_nextLeader_60 : decode cX7_nextLeader 60 = .ok (.aload_n 0, 1) := dk_42 (dk_at dksX7_nextLeader_2 12 rfl rfl)
theorem dX7_nextLeader_61 : decode cX7_nextLeader 61 = .ok (.invokevirtual 259, 3) := dk_182 1 3 (dk_at dksX7_nextLeader_2 13 rfl rfl)
theorem dX7_nextLeader_64 : decode cX7_nextLeader 64 = .ok (.istore 4, 2) := dk_54 4 (dk_at dksX7_nextLeader_2 16 rfl rfl)
theorem dX7_nextLeader_66 : decode cX7_nextLeader 66 = .ok (.iconst 0, 1) := dk_3 (dk_at dksX7_nextLeader_2 18 rfl rfl)
theorem dX7_nextLeader_67 : decode cX7_nextLeader 67 = .ok (.istore 5, 2) := dk_54 5 (dk_at dksX7_nextLeader_2 19 rfl rfl)
theorem dX7_nextLeader_69 : decode cX7_nextLeader 69 = .ok (.iload 5, 2) := dk_21 5 (dk_at dksX7_nextLeader_2 21 rfl rfl)
theorem dX7_nextLeader_71 : decode cX7_nextLeader 71 = .ok (.ifCond .ne 34, 3) := dk_154 0 34 (dk_at dksX7_nextLeader_3 0 rfl rfl)
theorem dX7_nextLeader_74 : decode cX7_nextLeader 74 = .ok (.iload 4, 2) := dk_21 4 (dk_at dksX7_nextLeader_3 3 rfl rfl)
theorem dX7_nextLeader_76 : decode cX7_nextLeader 76 = .ok (.iload_n 2, 1) := dk_28 (dk_at dksX7_nextLeader_3 5 rfl rfl)
theorem dX7_nextLeader_77 : decode cX7_nextLeader 77 = .ok (.if_icmp .gt 28, 3) := dk_163 0 28 (dk_at dksX7_nextLeader_3 6 rfl rfl)
theorem dX7_nextLeader_80 : decode cX7_nextLeader 80 = .ok (.aload_n 0, 1) := dk_42 (dk_at dksX7_nextLeader_3 9 rfl rfl)
theorem dX7_nextLeader_81 : decode cX7_nextLeader 81 = .ok (.iload 4, 2) := dk_21 4 (dk_at dksX7_nextLeader_3 10 rfl rfl)
theorem dX7_nextLeader_83 : decode cX7_nextLeader 83 = .ok (.invokevirtual 280, 3) := dk_182 1 24 (dk_at dksX7_nextLeader_3 12 rfl rfl)
theorem dX7_nextLeader_86 : decode cX7_nextLeader 86 = .ok (.aload_n 0, 1) := dk_42 (dk_at dksX7_nextLeader_3 15 rfl rfl)
theorem dX7_nextLeader_87 : decode cX7_nextLeader 87 = .ok (.invokevirtual 310, 3) := dk_182 1 54 (dk_at dksX7_nextLeader_3 16 rfl rfl)
theorem dX7_nextLeader_90 : decode cX7_nextLeader 90 = .ok (.iload_n 3, 1) := dk_29 (dk_at dksX7_nextLeader_3 19 rfl rfl)
theorem dX7_nextLeader_91 : decode cX7_nextLeader 91 = .ok (.iconst (-1), 1) := dk_2 (dk_at dksX7_nextLeader_3 20 rfl rfl)
theorem dX7_nextLeader_92 : decode cX7_nextLeader 92 = .ok (.ixor, 1) := dk_130 (dk_at dksX7_nextLeader_3 21 rfl rfl)
theorem dX7_nextLeader_93 : decode cX7_nextLeader 93 = .ok (.iand, 1) := dk_126 (dk_at dksX7_nextLeader_3 22 rfl rfl)
theorem dX7_nextLeader_94 : decode cX7_nextLeader 94 = .ok (.istore 5, 2) := dk_54 5 (dk_at dksX7_nextLeader_4 0 rfl rfl)
theorem dX7_nextLeader_96 : decode cX7_nextLeader 96 = .ok (.aload_n 0, 1) := dk_42 (dk_at dksX7_nextLeader_4 2 rfl rfl)
theorem dX7_nextLeader_97 : decode cX7_nextLeader 97 = .ok (.invokevirtual 259, 3) := dk_182 1 3 (dk_at dksX7_nextLeader_4 3 rfl rfl)
theorem dX7_nextLeader_100 : decode cX7_nextLeader 100 = .ok (.istore 4, 2) := dk_54 4 (dk_at dksX7_nextLeader_4 6 rfl rfl)
theorem dX7_nextLeader_102 : decode cX7_nextLeader 102 = .ok (.goto (-33), 3) := dk_167 255 223 (dk_at dksX7_nextLeader_4 8 rfl rfl)
theorem dX7_nextLeader_105 : decode cX7_nextLeader 105 = .ok (.aload_n 0, 1) := dk_42 (dk_at dksX7_nextLeader_4 11 rfl rfl)
theorem dX7_nextLeader_106 : decode cX7_nextLeader 106 = .ok (.invokevirtual 335, 3) := dk_182 1 79 (dk_at dksX7_nextLeader_4 12 rfl rfl)
theorem dX7_nextLeader_109 : decode cX7_nextLeader 109 = .ok (.iconst 0, 1) := dk_3 (dk_at dksX7_nextLeader_4 15 rfl rfl)
theorem dX7_nextLeader_110 : decode cX7_nextLeader 110 = .ok (.istore 6, 2) := dk_54 6 (dk_at dksX7_nextLeader_4 16 rfl rfl)
theorem dX7_nextLeader_112 : decode cX7_nextLeader 112 = .ok (.iload 6, 2) := dk_21 6 (dk_at dksX7_nextLeader_4 18 rfl rfl)
theorem dX7_nextLeader_114 : decode cX7_nextLeader 114 = .ok (.bipush 6, 2) := dk_16 6 (dk_at dksX7_nextLeader_4 20 rfl rfl)
theorem dX7_nextLeader_116 : decode cX7_nextLeader 116 = .ok (.if_icmp .ge 19, 3) := dk_162 0 19 (dk_at dksX7_nextLeader_5 0 rfl rfl)
theorem dX7_nextLeader_119 : decode cX7_nextLeader 119 = .ok (.iload 5, 2) := dk_21 5 (dk_at dksX7_nextLeader_5 3 rfl rfl)
theorem dX7_nextLeader_121 : decode cX7_nextLeader 121 = .ok (.iload 6, 2) := dk_21 6 (dk_at dksX7_nextLeader_5 5 rfl rfl)
theorem dX7_nextLeader_123 : decode cX7_nextLeader 123 = .ok (.ishr, 1) := dk_122 (dk_at dksX7_nextLeader_5 7 rfl rfl)
theorem dX7_nextLeader_124 : decode cX7_nextLeader 124 = .ok (.iconst 1, 1) := dk_4 (dk_at dksX7_nextLeader_5 8 rfl rfl)
theorem dX7_nextLeader_125 : decode cX7_nextLeader 125 = .ok (.iand, 1) := dk_126 (dk_at dksX7_nextLeader_5 9 rfl rfl)
theorem dX7_nextLeader_126 : decode cX7_nextLeader 126 = .ok (.ifCond .ne 9, 3) := dk_154 0 9 (dk_at dksX7_nextLeader_5 10 rfl rfl)
theorem dX7_nextLeader_129 : decode cX7_nextLeader 129 = .ok (.iinc 6 1, 3) := dk_132 6 1 (dk_at dksX7_nextLeader_5 13 rfl rfl)
theorem dX7_nextLeader_132 : decode cX7_nextLeader 132 = .ok (.goto (-20), 3) := dk_167 255 236 (dk_at dksX7_nextLeader_5 16 rfl rfl)
theorem dX7_nextLeader_135 : decode cX7_nextLeader 135 = .ok (.iload 6, 2) := dk_21 6 (dk_at dksX7_nextLeader_5 19 rfl rfl)
theorem dX7_nextLeader_137 : decode cX7_nextLeader 137 = .ok (.bipush 6, 2) := dk_16 6 (dk_at dksX7_nextLeader_5 21 rfl rfl)
theorem dX7_nextLeader_139 : decode cX7_nextLeader 139 = .ok (.if_icmp .ne 8, 3) := dk_160 0 8 (dk_at dksX7_nextLeader_6 0 rfl rfl)
theorem dX7_nextLeader_142 : decode cX7_nextLeader 142 = .ok (.bipush (-4), 2) := dk_16 252 (dk_at dksX7_nextLeader_6 3 rfl rfl)
theorem dX7_nextLeader_144 : decode cX7_nextLeader 144 = .ok (.goto 5, 3) := dk_167 0 5 (dk_at dksX7_nextLeader_6 5 rfl rfl)
theorem dX7_nextLeader_147 : decode cX7_nextLeader 147 = .ok (.iload 6, 2) := dk_21 6 (dk_at dksX7_nextLeader_6 8 rfl rfl)
theorem dX7_nextLeader_149 : decode cX7_nextLeader 149 = .ok (.ireturn, 1) := dk_172 (dk_at dksX7_nextLeader_6 10 rfl rfl)
abbrev cX7_putsAside : ByteArray := prog_22_method_116_code
def yX7_putsAside : MethodName := ⟨RX7, "putsAside", "()V"⟩
def dkwX7_putsAside_1 : List UInt8 := [167, 255, 235, 177]
abbrev dktX7_putsAside_1 : List UInt8 := dkwX7_putsAside_1 ++ []
def dkwX7_putsAside_0 : List UInt8 := [3, 60, 27, 18, 9, 162, 0, 21, 42, 180, 0, 44, 27, 42, 180, 0, 10, 27, 46, 79, 132, 1, 1]
abbrev dktX7_putsAside_0 : List UInt8 := dkwX7_putsAside_0 ++ dktX7_putsAside_1
theorem dksX7_putsAside_0 : cX7_putsAside.data.toList.drop 0 = dktX7_putsAside_0 := by decide +kernel
theorem dksX7_putsAside_1 : cX7_putsAside.data.toList.drop 23 = dktX7_putsAside_1 := dk_seg dksX7_putsAside_0 23 rfl rfl
theorem dX7_putsAside_0 : decode cX7_putsAside 0 = .ok (.iconst 0, 1) := dk_3 (dk_at dksX7_putsAside_0 0 rfl rfl)
theorem dX7_putsAside_1 : decode cX7_putsAside 1 = .ok (.istore_n 1, 1) := dk_60 (dk_at dksX7_putsAside_0 1 rfl rfl)
theorem dX7_putsAside_2 : decode cX7_putsAside 2 = .ok (.iload_n 1, 1) := dk_27 (dk_at dksX7_putsAside_0 2 rfl rfl)
theorem dX7_putsAside_3 : decode cX7_putsAside 3 = .ok (.ldc 9, 2) := dk_18 9 (dk_at dksX7_putsAside_0 3 rfl rfl)
theorem dX7_putsAside_5 : decode cX7_putsAside 5 = .ok (.if_icmp .ge 21, 3) := dk_162 0 21 (dk_at dksX7_putsAside_0 5 rfl rfl)
theorem dX7_putsAside_8 : decode cX7_putsAside 8 = .ok (.aload_n 0, 1) := dk_42 (dk_at dksX7_putsAside_0 8 rfl rfl)
theorem dX7_putsAside_9 : decode cX7_putsAside 9 = .ok (.getfield 44, 3) := dk_180 0 44 (dk_at dksX7_putsAside_0 9 rfl rfl)
theorem dX7_putsAside_12 : decode cX7_putsAside 12 = .ok (.iload_n 1, 1) := dk_27 (dk_at dksX7_putsAside_0 12 rfl rfl)
theorem dX7_putsAside_13 : decode cX7_putsAside 13 = .ok (.aload_n 0, 1) := dk_42 (dk_at dksX7_putsAside_0 13 rfl rfl)
theorem dX7_putsAside_14 : decode cX7_putsAside 14 = .ok (.getfield 10, 3) := dk_180 0 10 (dk_at dksX7_putsAside_0 14 rfl rfl)
theorem dX7_putsAside_17 : decode cX7_putsAside 17 = .ok (.iload_n 1, 1) := dk_27 (dk_at dksX7_putsAside_0 17 rfl rfl)
theorem dX7_putsAside_18 : decode cX7_putsAside 18 = .ok (.iaload, 1) := dk_46 (dk_at dksX7_putsAside_0 18 rfl rfl)
theorem dX7_putsAside_19 : decode cX7_putsAside 19 = .ok (.iastore, 1) := dk_79 (dk_at dksX7_putsAside_0 19 rfl rfl)
theorem dX7_putsAside_20 : decode cX7_putsAside 20 = .ok (.iinc 1 1, 3) := dk_132 1 1 (dk_at dksX7_putsAside_0 20 rfl rfl)
theorem dX7_putsAside_23 : decode cX7_putsAside 23 = .ok (.goto (-21), 3) := dk_167 255 235 (dk_at dksX7_putsAside_1 0 rfl rfl)
theorem dX7_putsAside_26 : decode cX7_putsAside 26 = .ok (.return_, 1) := dk_177 (dk_at dksX7_putsAside_1 3 rfl rfl)
abbrev cX7_takesBack : ByteArray := prog_22_method_117_code
def yX7_takesBack : MethodName := ⟨RX7, "takesBack", "()V"⟩
def dkwX7_takesBack_1 : List UInt8 := [167, 255, 235, 177]
abbrev dktX7_takesBack_1 : List UInt8 := dkwX7_takesBack_1 ++ []
def dkwX7_takesBack_0 : List UInt8 := [3, 60, 27, 18, 9, 162, 0, 21, 42, 180, 0, 10, 27, 42, 180, 0, 44, 27, 46, 79, 132, 1, 1]
abbrev dktX7_takesBack_0 : List UInt8 := dkwX7_takesBack_0 ++ dktX7_takesBack_1
theorem dksX7_takesBack_0 : cX7_takesBack.data.toList.drop 0 = dktX7_takesBack_0 := by decide +kernel
theorem dksX7_takesBack_1 : cX7_takesBack.data.toList.drop 23 = dktX7_takesBack_1 := dk_seg dksX7_takesBack_0 23 rfl rfl
theorem dX7_takesBack_0 : decode cX7_takesBack 0 = .ok (.iconst 0, 1) := dk_3 (dk_at dksX7_takesBack_0 0 rfl rfl)
theorem dX7_takesBack_1 : decode cX7_takesBack 1 = .ok (.istore_n 1, 1) := dk_60 (dk_at dksX7_takesBack_0 1 rfl rfl)
theorem dX7_takesBack_2 : decode cX7_takesBack 2 = .ok (.iload_n 1, 1) := dk_27 (dk_at dksX7_takesBack_0 2 rfl rfl)
theorem dX7_takesBack_3 : decode cX7_takesBack 3 = .ok (.ldc 9, 2) := dk_18 9 (dk_at dksX7_takesBack_0 3 rfl rfl)
theorem dX7_takesBack_5 : decode cX7_takesBack 5 = .ok (.if_icmp .ge 21, 3) := dk_162 0 21 (dk_at dksX7_takesBack_0 5 rfl rfl)
theorem dX7_takesBack_8 : decode cX7_takesBack 8 = .ok (.aload_n 0, 1) := dk_42 (dk_at dksX7_takesBack_0 8 rfl rfl)
theorem dX7_takesBack_9 : decode cX7_takesBack 9 = .ok (.getfield 10, 3) := dk_180 0 10 (dk_at dksX7_takesBack_0 9 rfl rfl)
theorem dX7_takesBack_12 : decode cX7_takesBack 12 = .ok (.iload_n 1, 1) := dk_27 (dk_at dksX7_takesBack_0 12 rfl rfl)
theorem dX7_takesBack_13 : decode cX7_takesBack 13 = .ok (.aload_n 0, 1) := dk_42 (dk_at dksX7_takesBack_0 13 rfl rfl)
theorem dX7_takesBack_14 : decode cX7_takesBack 14 = .ok (.getfield 44, 3) := dk_180 0 44 (dk_at dksX7_takesBack_0 14 rfl rfl)
theorem dX7_takesBack_17 : decode cX7_takesBack 17 = .ok (.iload_n 1, 1) := dk_27 (dk_at dksX7_takesBack_0 17 rfl rfl)
theorem dX7_takesBack_18 : decode cX7_takesBack 18 = .ok (.iaload, 1) := dk_46 (dk_at dksX7_takesBack_0 18 rfl rfl)
theorem dX7_takesBack_19 : decode cX7_takesBack 19 = .ok (.iastore, 1) := dk_79 (dk_at dksX7_takesBack_0 19 rfl rfl)
theorem dX7_takesBack_20 : decode cX7_takesBack 20 = .ok (.iinc 1 1, 3) := dk_132 1 1 (dk_at dksX7_takesBack_0 20 rfl rfl)
theorem dX7_takesBack_23 : decode cX7_takesBack 23 = .ok (.goto (-21), 3) := dk_167 255 235 (dk_at dksX7_takesBack_1 0 rfl rfl)
theorem dX7_takesBack_26 : decode cX7_takesBack 26 = .ok (.return_, 1) := dk_177 (dk_at dksX7_takesBack_1 3 rfl rfl)
abbrev cX7_leaderlessTime : ByteArray := prog_22_method_119_code
def yX7_leaderlessTime : MethodName := ⟨RX7, "leaderlessTime", "(I)I"⟩
def dkwX7_leaderlessTime_3 : List UInt8 := [16, 23, 46, 62, 42, 182, 1, 79, 29, 172]
abbrev dktX7_leaderlessTime_3 : List UInt8 := dkwX7_leaderlessTime_3 ++ []
def dkwX7_leaderlessTime_2 : List UInt8 := [16, 251, 172, 42, 182, 1, 76, 42, 180, 0, 10, 16, 23, 3, 79, 42, 28, 182, 1, 24, 42, 180, 0, 10]
abbrev dktX7_leaderlessTime_2 : List UInt8 := dkwX7_leaderlessTime_2 ++ dktX7_leaderlessTime_3
def dkwX7_leaderlessTime_1 : List UInt8 := [182, 0, 72, 153, 0, 5, 3, 172, 42, 180, 0, 10, 3, 46, 27, 96, 61, 28, 19, 1, 23, 164, 0, 6]
abbrev dktX7_leaderlessTime_1 : List UInt8 := dkwX7_leaderlessTime_1 ++ dktX7_leaderlessTime_2
def dkwX7_leaderlessTime_0 : List UInt8 := [42, 3, 181, 0, 65, 42, 27, 133, 10, 20, 1, 21, 184, 0, 68, 154, 0, 7, 4, 167, 0, 4, 3, 4]
abbrev dktX7_leaderlessTime_0 : List UInt8 := dkwX7_leaderlessTime_0 ++ dktX7_leaderlessTime_1
theorem dksX7_leaderlessTime_0 : cX7_leaderlessTime.data.toList.drop 0 = dktX7_leaderlessTime_0 := by decide +kernel
theorem dksX7_leaderlessTime_1 : cX7_leaderlessTime.data.toList.drop 24 = dktX7_leaderlessTime_1 := dk_seg dksX7_leaderlessTime_0 24 rfl rfl
theorem dksX7_leaderlessTime_2 : cX7_leaderlessTime.data.toList.drop 48 = dktX7_leaderlessTime_2 := dk_seg dksX7_leaderlessTime_1 24 rfl rfl
theorem dksX7_leaderlessTime_3 : cX7_leaderlessTime.data.toList.drop 72 = dktX7_leaderlessTime_3 := dk_seg dksX7_leaderlessTime_2 24 rfl rfl
theorem dX7_leaderlessTime_0 : decode cX7_leaderlessTime 0 = .ok (.aload_n 0, 1) := dk_42 (dk_at dksX7_leaderlessTime_0 0 rfl rfl)
theorem dX7_leaderlessTime_1 : decode cX7_leaderlessTime 1 = .ok (.iconst 0, 1) := dk_3 (dk_at dksX7_leaderlessTime_0 1 rfl rfl)
theorem dX7_leaderlessTime_2 : decode cX7_leaderlessTime 2 = .ok (.putfield 65, 3) := dk_181 0 65 (dk_at dksX7_leaderlessTime_0 2 rfl rfl)
theorem dX7_leaderlessTime_5 : decode cX7_leaderlessTime 5 = .ok (.aload_n 0, 1) := dk_42 (dk_at dksX7_leaderlessTime_0 5 rfl rfl)
theorem dX7_leaderlessTime_6 : decode cX7_leaderlessTime 6 = .ok (.iload_n 1, 1) := dk_27 (dk_at dksX7_leaderlessTime_0 6 rfl rfl)
theorem dX7_leaderlessTime_7 : decode cX7_leaderlessTime 7 = .ok (.i2l, 1) := dk_133 (dk_at dksX7_leaderlessTime_0 7 rfl rfl)
theorem dX7_leaderlessTime_8 : decode cX7_leaderlessTime 8 = .ok (.lconst 1, 1) := dk_10 (dk_at dksX7_leaderlessTime_0 8 rfl rfl)
theorem dX7_leaderlessTime_9 : decode cX7_leaderlessTime 9 = .ok (.ldc2_w 277, 3) := dk_20 1 21 (dk_at dksX7_leaderlessTime_0 9 rfl rfl)
theorem dX7_leaderlessTime_12 : decode cX7_leaderlessTime 12 = .ok (.invokestatic 68, 3) := dk_184 0 68 (dk_at dksX7_leaderlessTime_0 12 rfl rfl)
theorem dX7_leaderlessTime_15 : decode cX7_leaderlessTime 15 = .ok (.ifCond .ne 7, 3) := dk_154 0 7 (dk_at dksX7_leaderlessTime_0 15 rfl rfl)
theorem dX7_leaderlessTime_18 : decode cX7_leaderlessTime 18 = .ok (.iconst 1, 1) := dk_4 (dk_at dksX7_leaderlessTime_0 18 rfl rfl)
theorem dX7_leaderlessTime_19 : decode cX7_leaderlessTime 19 = .ok (.goto 4, 3) := dk_167 0 4 (dk_at dksX7_leaderlessTime_0 19 rfl rfl)
theorem dX7_leaderlessTime_22 : decode cX7_leaderlessTime 22 = .ok (.iconst 0, 1) := dk_3 (dk_at dksX7_leaderlessTime_0 22 rfl rfl)
theorem dX7_leaderlessTime_23 : decode cX7_leaderlessTime 23 = .ok (.iconst 1, 1) := dk_4 (dk_at dksX7_leaderlessTime_0 23 rfl rfl)
theorem dX7_leaderlessTime_24 : decode cX7_leaderlessTime 24 = .ok (.invokevirtual 72, 3) := dk_182 0 72 (dk_at dksX7_leaderlessTime_1 0 rfl rfl)
theorem dX7_leaderlessTime_27 : decode cX7_leaderlessTime 27 = .ok (.ifCond .eq 5, 3) := dk_153 0 5 (dk_at dksX7_leaderlessTime_1 3 rfl rfl)
theorem dX7_leaderlessTime_30 : decode cX7_leaderlessTime 30 = .ok (.iconst 0, 1) := dk_3 (dk_at dksX7_leaderlessTime_1 6 rfl rfl)
theorem dX7_leaderlessTime_31 : decode cX7_leaderlessTime 31 = .ok (.ireturn, 1) := dk_172 (dk_at dksX7_leaderlessTime_1 7 rfl rfl)
theorem dX7_leaderlessTime_32 : decode cX7_leaderlessTime 32 = .ok (.aload_n 0, 1) := dk_42 (dk_at dksX7_leaderlessTime_1 8 rfl rfl)
theorem dX7_leaderlessTime_33 : decode cX7_leaderlessTime 33 = .ok (.getfield 10, 3) := dk_180 0 10 (dk_at dksX7_leaderlessTime_1 9 rfl rfl)
theorem dX7_leaderlessTime_36 : decode cX7_leaderlessTime 36 = .ok (.iconst 0, 1) := dk_3 (dk_at dksX7_leaderlessTime_1 12 rfl rfl)
theorem dX7_leaderlessTime_37 : decode cX7_leaderlessTime 37 = .ok (.iaload, 1) := dk_46 (dk_at dksX7_leaderlessTime_1 13 rfl rfl)
theorem dX7_leaderlessTime_38 : decode cX7_leaderlessTime 38 = .ok (.iload_n 1, 1) := dk_27 (dk_at dksX7_leaderlessTime_1 14 rfl rfl)
theorem dX7_leaderlessTime_39 : decode cX7_leaderlessTime 39 = .ok (.iadd, 1) := dk_96 (dk_at dksX7_leaderlessTime_1 15 rfl rfl)
theorem dX7_leaderlessTime_40 : decode cX7_leaderlessTime 40 = .ok (.istore_n 2, 1) := dk_61 (dk_at dksX7_leaderlessTime_1 16 rfl rfl)
theorem dX7_leaderlessTime_41 : decode cX7_leaderlessTime 41 = .ok (.iload_n 2, 1) := dk_28 (dk_at dksX7_leaderlessTime_1 17 rfl rfl)
theorem dX7_leaderlessTime_42 : decode cX7_leaderlessTime 42 = .ok (.ldc_w 279, 3) := dk_19 1 23 (dk_at dksX7_leaderlessTime_1 18 rfl rfl)
theorem dX7_leaderlessTime_45 : decode cX7_leaderlessTime 45 = .ok (.if_icmp .le 6, 3) := dk_164 0 6 (dk_at dksX7_leaderlessTime_1 21 rfl rfl)
theorem dX7_leaderlessTime_48 : decode cX7_leaderlessTime 48 = .ok (.bipush (-5), 2) := dk_16 251 (dk_at dksX7_leaderlessTime_2 0 rfl rfl)
theorem dX7_leaderlessTime_50 : decode cX7_leaderlessTime 50 = .ok (.ireturn, 1) := dk_172 (dk_at dksX7_leaderlessTime_2 2 rfl rfl)
theorem dX7_leaderlessTime_51 : decode cX7_leaderlessTime 51 = .ok (.aload_n 0, 1) := dk_42 (dk_at dksX7_leaderlessTime_2 3 rfl rfl)
theorem dX7_leaderlessTime_52 : decode cX7_leaderlessTime 52 = .ok (.invokevirtual 332, 3) := dk_182 1 76 (dk_at dksX7_leaderlessTime_2 4 rfl rfl)
theorem dX7_leaderlessTime_55 : decode cX7_leaderlessTime 55 = .ok (.aload_n 0, 1) := dk_42 (dk_at dksX7_leaderlessTime_2 7 rfl rfl)
theorem dX7_leaderlessTime_56 : decode cX7_leaderlessTime 56 = .ok (.getfield 10, 3) := dk_180 0 10 (dk_at dksX7_leaderlessTime_2 8 rfl rfl)
theorem dX7_leaderlessTime_59 : decode cX7_leaderlessTime 59 = .ok (.bipush 23, 2) := dk_16 23 (dk_at dksX7_leaderlessTime_2 11 rfl rfl)
theorem dX7_leaderlessTime_61 : decode cX7_leaderlessTime 61 = .ok (.iconst 0, 1) := dk_3 (dk_at dksX7_leaderlessTime_2 13 rfl rfl)
theorem dX7_leaderlessTime_62 : decode cX7_leaderlessTime 62 = .ok (.iastore, 1) := dk_79 (dk_at dksX7_leaderlessTime_2 14 rfl rfl)
theorem dX7_leaderlessTime_63 : decode cX7_leaderlessTime 63 = .ok (.aload_n 0, 1) := dk_42 (dk_at dksX7_leaderlessTime_2 15 rfl rfl)
theorem dX7_leaderlessTime_64 : decode cX7_leaderlessTime 64 = .ok (.iload_n 2, 1) := dk_28 (dk_at dksX7_leaderlessTime_2 16 rfl rfl)
theorem dX7_leaderlessTime_65 : decode cX7_leaderlessTime 65 = .ok (.invokevirtual 280, 3) := dk_182 1 24 (dk_at dksX7_leaderlessTime_2 17 rfl rfl)
theorem dX7_leaderlessTime_68 : decode cX7_leaderlessTime 68 = .ok (.aload_n 0, 1) := dk_42 (dk_at dksX7_leaderlessTime_2 20 rfl rfl)
theorem dX7_leaderlessTime_69 : decode cX7_leaderlessTime 69 = .ok (.getfield 10, 3) := dk_180 0 10 (dk_at dksX7_leaderlessTime_2 21 rfl rfl)
theorem dX7_leaderlessTime_72 : decode cX7_leaderlessTime 72 = .ok (.bipush 23, 2) := dk_16 23 (dk_at dksX7_leaderlessTime_3 0 rfl rfl)
theorem dX7_leaderlessTime_74 : decode cX7_leaderlessTime 74 = .ok (.iaload, 1) := dk_46 (dk_at dksX7_leaderlessTime_3 2 rfl rfl)
theorem dX7_leaderlessTime_75 : decode cX7_leaderlessTime 75 = .ok (.istore_n 3, 1) := dk_62 (dk_at dksX7_leaderlessTime_3 3 rfl rfl)
theorem dX7_leaderlessTime_76 : decode cX7_leaderlessTime 76 = .ok (.aload_n 0, 1) := dk_42 (dk_at dksX7_leaderlessTime_3 4 rfl rfl)
theorem dX7_leaderlessTime_77 : decode cX7_leaderlessTime 77 = .ok (.invokevirtual 335, 3) := dk_182 1 79 (dk_at dksX7_leaderlessTime_3 5 rfl rfl)
theorem dX7_leaderlessTime_80 : decode cX7_leaderlessTime 80 = .ok (.iload_n 3, 1) := dk_29 (dk_at dksX7_leaderlessTime_3 8 rfl rfl)
theorem dX7_leaderlessTime_81 : decode cX7_leaderlessTime 81 = .ok (.ireturn, 1) := dk_172 (dk_at dksX7_leaderlessTime_3 9 rfl rfl)
abbrev cX7_timeUntilLeader : ByteArray := prog_22_method_120_code
def yX7_timeUntilLeader : MethodName := ⟨RX7, "timeUntilLeader", "(II)I"⟩
def dkwX7_timeUntilLeader_5 : List UInt8 := [16, 252, 54, 6, 42, 182, 1, 79, 21, 6, 172]
abbrev dktX7_timeUntilLeader_5 : List UInt8 := dkwX7_timeUntilLeader_5 ++ []
def dkwX7_timeUntilLeader_4 : List UInt8 := [54, 5, 167, 255, 229, 42, 27, 182, 0, 253, 153, 0, 14, 42, 180, 0, 10, 3, 46, 29, 100, 167, 0, 5]
abbrev dktX7_timeUntilLeader_4 : List UInt8 := dkwX7_timeUntilLeader_4 ++ dktX7_timeUntilLeader_5
def dkwX7_timeUntilLeader_3 : List UInt8 := [27, 182, 0, 253, 154, 0, 25, 21, 5, 21, 4, 163, 0, 18, 42, 21, 5, 182, 1, 24, 42, 182, 1, 3]
abbrev dktX7_timeUntilLeader_3 : List UInt8 := dkwX7_timeUntilLeader_3 ++ dktX7_timeUntilLeader_4
def dkwX7_timeUntilLeader_2 : List UInt8 := [54, 4, 21, 4, 19, 1, 23, 164, 0, 6, 16, 251, 172, 42, 182, 1, 76, 42, 182, 1, 3, 54, 5, 42]
abbrev dktX7_timeUntilLeader_2 : List UInt8 := dkwX7_timeUntilLeader_2 ++ dktX7_timeUntilLeader_3
def dkwX7_timeUntilLeader_1 : List UInt8 := [167, 0, 4, 3, 5, 182, 0, 72, 153, 0, 5, 3, 172, 42, 180, 0, 10, 3, 46, 62, 29, 28, 96]
abbrev dktX7_timeUntilLeader_1 : List UInt8 := dkwX7_timeUntilLeader_1 ++ dktX7_timeUntilLeader_2
def dkwX7_timeUntilLeader_0 : List UInt8 := [42, 27, 182, 0, 172, 154, 0, 28, 42, 28, 133, 10, 20, 1, 21, 184, 0, 68, 154, 0, 7, 4]
abbrev dktX7_timeUntilLeader_0 : List UInt8 := dkwX7_timeUntilLeader_0 ++ dktX7_timeUntilLeader_1
theorem dksX7_timeUntilLeader_0 : cX7_timeUntilLeader.data.toList.drop 0 = dktX7_timeUntilLeader_0 := by decide +kernel
theorem dksX7_timeUntilLeader_1 : cX7_timeUntilLeader.data.toList.drop 22 = dktX7_timeUntilLeader_1 := dk_seg dksX7_timeUntilLeader_0 22 rfl rfl
theorem dksX7_timeUntilLeader_2 : cX7_timeUntilLeader.data.toList.drop 45 = dktX7_timeUntilLeader_2 := dk_seg dksX7_timeUntilLeader_1 23 rfl rfl
theorem dksX7_timeUntilLeader_3 : cX7_timeUntilLeader.data.toList.drop 69 = dktX7_timeUntilLeader_3 := dk_seg dksX7_timeUntilLeader_2 24 rfl rfl
theorem dksX7_timeUntilLeader_4 : cX7_timeUntilLeader.data.toList.drop 93 = dktX7_timeUntilLeader_4 := dk_seg dksX7_timeUntilLeader_3 24 rfl rfl
theorem dksX7_timeUntilLeader_5 : cX7_timeUntilLeader.data.toList.drop 117 = dktX7_timeUntilLeader_5 := dk_seg dksX7_timeUntilLeader_4 24 rfl rfl
theorem dX7_timeUntilLeader_0 : decode cX7_timeUntilLeader 0 = .ok (.aload_n 0, 1) := dk_42 (dk_at dksX7_timeUntilLeader_0 0 rfl rfl)
theorem dX7_timeUntilLeader_1 : decode cX7_timeUntilLeader 1 = .ok (.iload_n 1, 1) := dk_27 (dk_at dksX7_timeUntilLeader_0 1 rfl rfl)
theorem dX7_timeUntilLeader_2 : decode cX7_timeUntilLeader 2 = .ok (.invokevirtual 172, 3) := dk_182 0 172 (dk_at dksX7_timeUntilLeader_0 2 rfl rfl)
theorem dX7_timeUntilLeader_5 : decode cX7_timeUntilLeader 5 = .ok (.ifCond .ne 28, 3) := dk_154 0 28 (dk_at dksX7_timeUntilLeader_0 5 rfl rfl)
theorem dX7_timeUntilLeader_8 : decode cX7_timeUntilLeader 8 = .ok (.aload_n 0, 1) := dk_42 (dk_at dksX7_timeUntilLeader_0 8 rfl rfl)
theorem dX7_timeUntilLeader_9 : decode cX7_timeUntilLeader 9 = .ok (.iload_n 2, 1) := dk_28 (dk_at dksX7_timeUntilLeader_0 9 rfl rfl)
theorem dX7_timeUntilLeader_10 : decode cX7_timeUntilLeader 10 = .ok (.i2l, 1) := dk_133 (dk_at dksX7_timeUntilLeader_0 10 rfl rfl)
theorem dX7_timeUntilLeader_11 : decode cX7_timeUntilLeader 11 = .ok (.lconst 1, 1) := dk_10 (dk_at dksX7_timeUntilLeader_0 11 rfl rfl)
theorem dX7_timeUntilLeader_12 : decode cX7_timeUntilLeader 12 = .ok (.ldc2_w 277, 3) := dk_20 1 21 (dk_at dksX7_timeUntilLeader_0 12 rfl rfl)
theorem dX7_timeUntilLeader_15 : decode cX7_timeUntilLeader 15 = .ok (.invokestatic 68, 3) := dk_184 0 68 (dk_at dksX7_timeUntilLeader_0 15 rfl rfl)
theorem dX7_timeUntilLeader_18 : decode cX7_timeUntilLeader 18 = .ok (.ifCond .ne 7, 3) := dk_154 0 7 (dk_at dksX7_timeUntilLeader_0 18 rfl rfl)
theorem dX7_timeUntilLeader_21 : decode cX7_timeUntilLeader 21 = .ok (.iconst 1, 1) := dk_4 (dk_at dksX7_timeUntilLeader_0 21 rfl rfl)
theorem dX7_timeUntilLeader_22 : decode cX7_timeUntilLeader 22 = .ok (.goto 4, 3) := dk_167 0 4 (dk_at dksX7_timeUntilLeader_1 0 rfl rfl)
theorem dX7_timeUntilLeader_25 : decode cX7_timeUntilLeader 25 = .ok (.iconst 0, 1) := dk_3 (dk_at dksX7_timeUntilLeader_1 3 rfl rfl)
theorem dX7_timeUntilLeader_26 : decode cX7_timeUntilLeader 26 = .ok (.iconst 2, 1) := dk_5 (dk_at dksX7_timeUntilLeader_1 4 rfl rfl)
theorem dX7_timeUntilLeader_27 : decode cX7_timeUntilLeader 27 = .ok (.invokevirtual 72, 3) := dk_182 0 72 (dk_at dksX7_timeUntilLeader_1 5 rfl rfl)
theorem dX7_timeUntilLeader_30 : decode cX7_timeUntilLeader 30 = .ok (.ifCond .eq 5, 3) := dk_153 0 5 (dk_at dksX7_timeUntilLeader_1 8 rfl rfl)
theorem dX7_timeUntilLeader_33 : decode cX7_timeUntilLeader 33 = .ok (.iconst 0, 1) := dk_3 (dk_at dksX7_timeUntilLeader_1 11 rfl rfl)
theorem dX7_timeUntilLeader_34 : decode cX7_timeUntilLeader 34 = .ok (.ireturn, 1) := dk_172 (dk_at dksX7_timeUntilLeader_1 12 rfl rfl)
theorem dX7_timeUntilLeader_35 : decode cX7_timeUntilLeader 35 = .ok (.aload_n 0, 1) := dk_42 (dk_at dksX7_timeUntilLeader_1 13 rfl rfl)
theorem dX7_timeUntilLeader_36 : decode cX7_timeUntilLeader 36 = .ok (.getfield 10, 3) := dk_180 0 10 (dk_at dksX7_timeUntilLeader_1 14 rfl rfl)
theorem dX7_timeUntilLeader_39 : decode cX7_timeUntilLeader 39 = .ok (.iconst 0, 1) := dk_3 (dk_at dksX7_timeUntilLeader_1 17 rfl rfl)
theorem dX7_timeUntilLeader_40 : decode cX7_timeUntilLeader 40 = .ok (.iaload, 1) := dk_46 (dk_at dksX7_timeUntilLeader_1 18 rfl rfl)
theorem dX7_timeUntilLeader_41 : decode cX7_timeUntilLeader 41 = .ok (.istore_n 3, 1) := dk_62 (dk_at dksX7_timeUntilLeader_1 19 rfl rfl)
theorem dX7_timeUntilLeader_42 : decode cX7_timeUntilLeader 42 = .ok (.iload_n 3, 1) := dk_29 (dk_at dksX7_timeUntilLeader_1 20 rfl rfl)
theorem dX7_timeUntilLeader_43 : decode cX7_timeUntilLeader 43 = .ok (.iload_n 2, 1) := dk_28 (dk_at dksX7_timeUntilLeader_1 21 rfl rfl)
theorem dX7_timeUntilLeader_44 : decode cX7_timeUntilLeader 44 = .ok (.iadd, 1) := dk_96 (dk_at dksX7_timeUntilLeader_1 22 rfl rfl)
theorem dX7_timeUntilLeader_45 : decode cX7_timeUntilLeader 45 = .ok (.istore 4, 2) := dk_54 4 (dk_at dksX7_timeUntilLeader_2 0 rfl rfl)
theorem dX7_timeUntilLeader_47 : decode cX7_timeUntilLeader 47 = .ok (.iload 4, 2) := dk_21 4 (dk_at dksX7_timeUntilLeader_2 2 rfl rfl)
theorem dX7_timeUntilLeader_49 : decode cX7_timeUntilLeader 49 = .ok (.ldc_w 279, 3) := dk_19 1 23 (dk_at dksX7_timeUntilLeader_2 4 rfl rfl)
theorem dX7_timeUntilLeader_52 : decode cX7_timeUntilLeader 52 = .ok (.if_icmp .le 6, 3) := dk_164 0 6 (dk_at dksX7_timeUntilLeader_2 7 rfl rfl)
theorem dX7_timeUntilLeader_55 : decode cX7_timeUntilLeader 55 = .ok (.bipush (-5), 2) := dk_16 251 (dk_at dksX7_timeUntilLeader_2 10 rfl rfl)
theorem dX7_timeUntilLeader_57 : decode cX7_timeUntilLeader 57 = .ok (.ireturn, 1) := dk_172 (dk_at dksX7_timeUntilLeader_2 12 rfl rfl)
theorem dX7_timeUntilLeader_58 : decode cX7_timeUntilLeader 58 = .ok (.aload_n 0, 1) := dk_42 (dk_at dksX7_timeUntilLeader_2 13 rfl rfl)
theorem dX7_timeUntilLeader_59 : decode cX7_timeUntilLeader 59 = .ok (.invokevirtual 332, 3) := dk_182 1 76 (dk_at dksX7_timeUntilLeader_2 14 rfl rfl)
theorem dX7_timeUntilLeader_62 : decode cX7_timeUntilLeader 62 = .ok (.aload_n 0, 1) := dk_42 (dk_at dksX7_timeUntilLeader_2 17 rfl rfl)
theorem dX7_timeUntilLeader_63 : decode cX7_timeUntilLeader 63 = .ok (.invokevirtual 259, 3) := dk_182 1 3 (dk_at dksX7_timeUntilLeader_2 18 rfl rfl)
theorem dX7_timeUntilLeader_66 : decode cX7_timeUntilLeader 66 = .ok (.istore 5, 2) := dk_54 5 (dk_at dksX7_timeUntilLeader_2 21 rfl rfl)
theorem dX7_timeUntilLeader_68 : decode cX7_timeUntilLeader 68 = .ok (.aload_n 0, 1) := dk_42 (dk_at dksX7_timeUntilLeader_2 23 rfl rfl)
theorem dX7_timeUntilLeader_69 : decode cX7_timeUntilLeader 69 = .ok (.iload_n 1, 1) := dk_27 (dk_at dksX7_timeUntilLeader_3 0 rfl rfl)
theorem dX7_timeUntilLeader_70 : decode cX7_timeUntilLeader 70 = .ok (.invokevirtual 253, 3) := dk_182 0 253 (dk_at dksX7_timeUntilLeader_3 1 rfl rfl)
theorem dX7_timeUntilLeader_73 : decode cX7_timeUntilLeader 73 = .ok (.ifCond .ne 25, 3) := dk_154 0 25 (dk_at dksX7_timeUntilLeader_3 4 rfl rfl)
theorem dX7_timeUntilLeader_76 : decode cX7_timeUntilLeader 76 = .ok (.iload 5, 2) := dk_21 5 (dk_at dksX7_timeUntilLeader_3 7 rfl rfl)
theorem dX7_timeUntilLeader_78 : decode cX7_timeUntilLeader 78 = .ok (.iload 4, 2) := dk_21 4 (dk_at dksX7_timeUntilLeader_3 9 rfl rfl)
theorem dX7_timeUntilLeader_80 : decode cX7_timeUntilLeader 80 = .ok (.if_icmp .gt 18, 3) := dk_163 0 18 (dk_at dksX7_timeUntilLeader_3 11 rfl rfl)
theorem dX7_timeUntilLeader_83 : decode cX7_timeUntilLeader 83 = .ok (.aload_n 0, 1) := dk_42 (dk_at dksX7_timeUntilLeader_3 14 rfl rfl)
theorem dX7_timeUntilLeader_84 : decode cX7_timeUntilLeader 84 = .ok (.iload 5, 2) := dk_21 5 (dk_at dksX7_timeUntilLeader_3 15 rfl rfl)
theorem dX7_timeUntilLeader_86 : decode cX7_timeUntilLeader 86 = .ok (.invokevirtual 280, 3) := dk_182 1 24 (dk_at dksX7_timeUntilLeader_3 17 rfl rfl)
theorem dX7_timeUntilLeader_89 : decode cX7_timeUntilLeader 89 = .ok (.aload_n 0, 1) := dk_42 (dk_at dksX7_timeUntilLeader_3 20 rfl rfl)
theorem dX7_timeUntilLeader_90 : decode cX7_timeUntilLeader 90 = .ok (.invokevirtual 259, 3) := dk_182 1 3 (dk_at dksX7_timeUntilLeader_3 21 rfl rfl)
theorem dX7_timeUntilLeader_93 : decode cX7_timeUntilLeader 93 = .ok (.istore 5, 2) := dk_54 5 (dk_at dksX7_timeUntilLeader_4 0 rfl rfl)
theorem dX7_timeUntilLeader_95 : decode cX7_timeUntilLeader 95 = .ok (.goto (-27), 3) := dk_167 255 229 (dk_at dksX7_timeUntilLeader_4 2 rfl rfl)
theorem dX7_timeUntilLeader_98 : decode cX7_timeUntilLeader 98 = .ok (.aload_n 0, 1) := dk_42 (dk_at dksX7_timeUntilLeader_4 5 rfl rfl)
theorem dX7_timeUntilLeader_99 : decode cX7_timeUntilLeader 99 = .ok (.iload_n 1, 1) := dk_27 (dk_at dksX7_timeUntilLeader_4 6 rfl rfl)
theorem dX7_timeUntilLeader_100 : decode cX7_timeUntilLeader 100 = .ok (.invokevirtual 253, 3) := dk_182 0 253 (dk_at dksX7_timeUntilLeader_4 7 rfl rfl)
theorem dX7_timeUntilLeader_103 : decode cX7_timeUntilLeader 103 = .ok (.ifCond .eq 14, 3) := dk_153 0 14 (dk_at dksX7_timeUntilLeader_4 10 rfl rfl)
theorem dX7_timeUntilLeader_106 : decode cX7_timeUntilLeader 106 = .ok (.aload_n 0, 1) := dk_42 (dk_at dksX7_timeUntilLeader_4 13 rfl rfl)
theorem dX7_timeUntilLeader_107 : decode cX7_timeUntilLeader 107 = .ok (.getfield 10, 3) := dk_180 0 10 (dk_at dksX7_timeUntilLeader_4 14 rfl rfl)
theorem dX7_timeUntilLeader_110 : decode cX7_timeUntilLeader 110 = .ok (.iconst 0, 1) := dk_3 (dk_at dksX7_timeUntilLeader_4 17 rfl rfl)
theorem dX7_timeUntilLeader_111 : decode cX7_timeUntilLeader 111 = .ok (.iaload, 1) := dk_46 (dk_at dksX7_timeUntilLeader_4 18 rfl rfl)
theorem dX7_timeUntilLeader_112 : decode cX7_timeUntilLeader 112 = .ok (.iload_n 3, 1) := dk_29 (dk_at dksX7_timeUntilLeader_4 19 rfl rfl)
theorem dX7_timeUntilLeader_113 : decode cX7_timeUntilLeader 113 = .ok (.isub, 1) := dk_100 (dk_at dksX7_timeUntilLeader_4 20 rfl rfl)
theorem dX7_timeUntilLeader_114 : decode cX7_timeUntilLeader 114 = .ok (.goto 5, 3) := dk_167 0 5 (dk_at dksX7_timeUntilLeader_4 21 rfl rfl)
theorem dX7_timeUntilLeader_117 : decode cX7_timeUntilLeader 117 = .ok (.bipush (-4), 2) := dk_16 252 (dk_at dksX7_timeUntilLeader_5 0 rfl rfl)
theorem dX7_timeUntilLeader_119 : decode cX7_timeUntilLeader 119 = .ok (.istore 6, 2) := dk_54 6 (dk_at dksX7_timeUntilLeader_5 2 rfl rfl)
theorem dX7_timeUntilLeader_121 : decode cX7_timeUntilLeader 121 = .ok (.aload_n 0, 1) := dk_42 (dk_at dksX7_timeUntilLeader_5 4 rfl rfl)
theorem dX7_timeUntilLeader_122 : decode cX7_timeUntilLeader 122 = .ok (.invokevirtual 335, 3) := dk_182 1 79 (dk_at dksX7_timeUntilLeader_5 5 rfl rfl)
theorem dX7_timeUntilLeader_125 : decode cX7_timeUntilLeader 125 = .ok (.iload 6, 2) := dk_21 6 (dk_at dksX7_timeUntilLeader_5 8 rfl rfl)
theorem dX7_timeUntilLeader_127 : decode cX7_timeUntilLeader 127 = .ok (.ireturn, 1) := dk_172 (dk_at dksX7_timeUntilLeader_5 10 rfl rfl)
abbrev cX7_longestLeaderless : ByteArray := prog_22_method_121_code
def yX7_longestLeaderless : MethodName := ⟨RX7, "longestLeaderless", "(I)I"⟩
def dkwX7_longestLeaderless_3 : List UInt8 := [28, 182, 1, 24, 42, 180, 0, 10, 16, 34, 46, 62, 42, 182, 1, 79, 29, 172]
abbrev dktX7_longestLeaderless_3 : List UInt8 := dkwX7_longestLeaderless_3 ++ []
def dkwX7_longestLeaderless_2 : List UInt8 := [16, 251, 172, 42, 182, 1, 76, 42, 180, 0, 10, 16, 33, 3, 79, 42, 180, 0, 10, 16, 34, 3, 79, 42]
abbrev dktX7_longestLeaderless_2 : List UInt8 := dkwX7_longestLeaderless_2 ++ dktX7_longestLeaderless_3
def dkwX7_longestLeaderless_1 : List UInt8 := [182, 0, 72, 153, 0, 5, 3, 172, 42, 180, 0, 10, 3, 46, 27, 96, 61, 28, 19, 1, 23, 164, 0, 6]
abbrev dktX7_longestLeaderless_1 : List UInt8 := dkwX7_longestLeaderless_1 ++ dktX7_longestLeaderless_2
def dkwX7_longestLeaderless_0 : List UInt8 := [42, 3, 181, 0, 65, 42, 27, 133, 10, 20, 1, 21, 184, 0, 68, 154, 0, 7, 4, 167, 0, 4, 3, 4]
abbrev dktX7_longestLeaderless_0 : List UInt8 := dkwX7_longestLeaderless_0 ++ dktX7_longestLeaderless_1
theorem dksX7_longestLeaderless_0 : cX7_longestLeaderless.data.toList.drop 0 = dktX7_longestLeaderless_0 := by decide +kernel
theorem dksX7_longestLeaderless_1 : cX7_longestLeaderless.data.toList.drop 24 = dktX7_longestLeaderless_1 := dk_seg dksX7_longestLeaderless_0 24 rfl rfl
theorem dksX7_longestLeaderless_2 : cX7_longestLeaderless.data.toList.drop 48 = dktX7_longestLeaderless_2 := dk_seg dksX7_longestLeaderless_1 24 rfl rfl
theorem dksX7_longestLeaderless_3 : cX7_longestLeaderless.data.toList.drop 72 = dktX7_longestLeaderless_3 := dk_seg dksX7_longestLeaderless_2 24 rfl rfl
theorem dX7_longestLeaderless_0 : decode cX7_longestLeaderless 0 = .ok (.aload_n 0, 1) := dk_42 (dk_at dksX7_longestLeaderless_0 0 rfl rfl)
theorem dX7_longestLeaderless_1 : decode cX7_longestLeaderless 1 = .ok (.iconst 0, 1) := dk_3 (dk_at dksX7_longestLeaderless_0 1 rfl rfl)
theorem dX7_longestLeaderless_2 : decode cX7_longestLeaderless 2 = .ok (.putfield 65, 3) := dk_181 0 65 (dk_at dksX7_longestLeaderless_0 2 rfl rfl)
theorem dX7_longestLeaderless_5 : decode cX7_longestLeaderless 5 = .ok (.aload_n 0, 1) := dk_42 (dk_at dksX7_longestLeaderless_0 5 rfl rfl)
theorem dX7_longestLeaderless_6 : decode cX7_longestLeaderless 6 = .ok (.iload_n 1, 1) := dk_27 (dk_at dksX7_longestLeaderless_0 6 rfl rfl)
theorem dX7_longestLeaderless_7 : decode cX7_longestLeaderless 7 = .ok (.i2l, 1) := dk_133 (dk_at dksX7_longestLeaderless_0 7 rfl rfl)
theorem dX7_longestLeaderless_8 : decode cX7_longestLeaderless 8 = .ok (.lconst 1, 1) := dk_10 (dk_at dksX7_longestLeaderless_0 8 rfl rfl)
theorem dX7_longestLeaderless_9 : decode cX7_longestLeaderless 9 = .ok (.ldc2_w 277, 3) := dk_20 1 21 (dk_at dksX7_longestLeaderless_0 9 rfl rfl)
theorem dX7_longestLeaderless_12 : decode cX7_longestLeaderless 12 = .ok (.invokestatic 68, 3) := dk_184 0 68 (dk_at dksX7_longestLeaderless_0 12 rfl rfl)
theorem dX7_longestLeaderless_15 : decode cX7_longestLeaderless 15 = .ok (.ifCond .ne 7, 3) := dk_154 0 7 (dk_at dksX7_longestLeaderless_0 15 rfl rfl)
theorem dX7_longestLeaderless_18 : decode cX7_longestLeaderless 18 = .ok (.iconst 1, 1) := dk_4 (dk_at dksX7_longestLeaderless_0 18 rfl rfl)
theorem dX7_longestLeaderless_19 : decode cX7_longestLeaderless 19 = .ok (.goto 4, 3) := dk_167 0 4 (dk_at dksX7_longestLeaderless_0 19 rfl rfl)
theorem dX7_longestLeaderless_22 : decode cX7_longestLeaderless 22 = .ok (.iconst 0, 1) := dk_3 (dk_at dksX7_longestLeaderless_0 22 rfl rfl)
theorem dX7_longestLeaderless_23 : decode cX7_longestLeaderless 23 = .ok (.iconst 1, 1) := dk_4 (dk_at dksX7_longestLeaderless_0 23 rfl rfl)
theorem dX7_longestLeaderless_24 : decode cX7_longestLeaderless 24 = .ok (.invokevirtual 72, 3) := dk_182 0 72 (dk_at dksX7_longestLeaderless_1 0 rfl rfl)
theorem dX7_longestLeaderless_27 : decode cX7_longestLeaderless 27 = .ok (.ifCond .eq 5, 3) := dk_153 0 5 (dk_at dksX7_longestLeaderless_1 3 rfl rfl)
theorem dX7_longestLeaderless_30 : decode cX7_longestLeaderless 30 = .ok (.iconst 0, 1) := dk_3 (dk_at dksX7_longestLeaderless_1 6 rfl rfl)
theorem dX7_longestLeaderless_31 : decode cX7_longestLeaderless 31 = .ok (.ireturn, 1) := dk_172 (dk_at dksX7_longestLeaderless_1 7 rfl rfl)
theorem dX7_longestLeaderless_32 : decode cX7_longestLeaderless 32 = .ok (.aload_n 0, 1) := dk_42 (dk_at dksX7_longestLeaderless_1 8 rfl rfl)
theorem dX7_longestLeaderless_33 : decode cX7_longestLeaderless 33 = .ok (.getfield 10, 3) := dk_180 0 10 (dk_at dksX7_longestLeaderless_1 9 rfl rfl)
theorem dX7_longestLeaderless_36 : decode cX7_longestLeaderless 36 = .ok (.iconst 0, 1) := dk_3 (dk_at dksX7_longestLeaderless_1 12 rfl rfl)
theorem dX7_longestLeaderless_37 : decode cX7_longestLeaderless 37 = .ok (.iaload, 1) := dk_46 (dk_at dksX7_longestLeaderless_1 13 rfl rfl)
theorem dX7_longestLeaderless_38 : decode cX7_longestLeaderless 38 = .ok (.iload_n 1, 1) := dk_27 (dk_at dksX7_longestLeaderless_1 14 rfl rfl)
theorem dX7_longestLeaderless_39 : decode cX7_longestLeaderless 39 = .ok (.iadd, 1) := dk_96 (dk_at dksX7_longestLeaderless_1 15 rfl rfl)
theorem dX7_longestLeaderless_40 : decode cX7_longestLeaderless 40 = .ok (.istore_n 2, 1) := dk_61 (dk_at dksX7_longestLeaderless_1 16 rfl rfl)
theorem dX7_longestLeaderless_41 : decode cX7_longestLeaderless 41 = .ok (.iload_n 2, 1) := dk_28 (dk_at dksX7_longestLeaderless_1 17 rfl rfl)
theorem dX7_longestLeaderless_42 : decode cX7_longestLeaderless 42 = .ok (.ldc_w 279, 3) := dk_19 1 23 (dk_at dksX7_longestLeaderless_1 18 rfl rfl)
theorem dX7_longestLeaderless_45 : decode cX7_longestLeaderless 45 = .ok (.if_icmp .le 6, 3) := dk_164 0 6 (dk_at dksX7_longestLeaderless_1 21 rfl rfl)
theorem dX7_longestLeaderless_48 : decode cX7_longestLeaderless 48 = .ok (.bipush (-5), 2) := dk_16 251 (dk_at dksX7_longestLeaderless_2 0 rfl rfl)
theorem dX7_longestLeaderless_50 : decode cX7_longestLeaderless 50 = .ok (.ireturn, 1) := dk_172 (dk_at dksX7_longestLeaderless_2 2 rfl rfl)
theorem dX7_longestLeaderless_51 : decode cX7_longestLeaderless 51 = .ok (.aload_n 0, 1) := dk_42 (dk_at dksX7_longestLeaderless_2 3 rfl rfl)
theorem dX7_longestLeaderless_52 : decode cX7_longestLeaderless 52 = .ok (.invokevirtual 332, 3) := dk_182 1 76 (dk_at dksX7_longestLeaderless_2 4 rfl rfl)
theorem dX7_longestLeaderless_55 : decode cX7_longestLeaderless 55 = .ok (.aload_n 0, 1) := dk_42 (dk_at dksX7_longestLeaderless_2 7 rfl rfl)
theorem dX7_longestLeaderless_56 : decode cX7_longestLeaderless 56 = .ok (.getfield 10, 3) := dk_180 0 10 (dk_at dksX7_longestLeaderless_2 8 rfl rfl)
theorem dX7_longestLeaderless_59 : decode cX7_longestLeaderless 59 = .ok (.bipush 33, 2) := dk_16 33 (dk_at dksX7_longestLeaderless_2 11 rfl rfl)
theorem dX7_longestLeaderless_61 : decode cX7_longestLeaderless 61 = .ok (.iconst 0, 1) := dk_3 (dk_at dksX7_longestLeaderless_2 13 rfl rfl)
theorem dX7_longestLeaderless_62 : decode cX7_longestLeaderless 62 = .ok (.iastore, 1) := dk_79 (dk_at dksX7_longestLeaderless_2 14 rfl rfl)
theorem dX7_longestLeaderless_63 : decode cX7_longestLeaderless 63 = .ok (.aload_n 0, 1) := dk_42 (dk_at dksX7_longestLeaderless_2 15 rfl rfl)
theorem dX7_longestLeaderless_64 : decode cX7_longestLeaderless 64 = .ok (.getfield 10, 3) := dk_180 0 10 (dk_at dksX7_longestLeaderless_2 16 rfl rfl)
theorem dX7_longestLeaderless_67 : decode cX7_longestLeaderless 67 = .ok (.bipush 34, 2) := dk_16 34 (dk_at dksX7_longestLeaderless_2 19 rfl rfl)
theorem dX7_longestLeaderless_69 : decode cX7_longestLeaderless 69 = .ok (.iconst 0, 1) := dk_3 (dk_at dksX7_longestLeaderless_2 21 rfl rfl)
theorem dX7_longestLeaderless_70 : decode cX7_longestLeaderless 70 = .ok (.iastore, 1) := dk_79 (dk_at dksX7_longestLeaderless_2 22 rfl rfl)
theorem dX7_longestLeaderless_71 : decode cX7_longestLeaderless 71 = .ok (.aload_n 0, 1) := dk_42 (dk_at dksX7_longestLeaderless_2 23 rfl rfl)
theorem dX7_longestLeaderless_72 : decode cX7_longestLeaderless 72 = .ok (.iload_n 2, 1) := dk_28 (dk_at dksX7_longestLeaderless_3 0 rfl rfl)
theorem dX7_longestLeaderless_73 : decode cX7_longestLeaderless 73 = .ok (.invokevirtual 280, 3) := dk_182 1 24 (dk_at dksX7_longestLeaderless_3 1 rfl rfl)
theorem dX7_longestLeaderless_76 : decode cX7_longestLeaderless 76 = .ok (.aload_n 0, 1) := dk_42 (dk_at dksX7_longestLeaderless_3 4 rfl rfl)
theorem dX7_longestLeaderless_77 : decode cX7_longestLeaderless 77 = .ok (.getfield 10, 3) := dk_180 0 10 (dk_at dksX7_longestLeaderless_3 5 rfl rfl)
theorem dX7_longestLeaderless_80 : decode cX7_longestLeaderless 80 = .ok (.bipush 34, 2) := dk_16 34 (dk_at dksX7_longestLeaderless_3 8 rfl rfl)
theorem dX7_longestLeaderless_82 : decode cX7_longestLeaderless 82 = .ok (.iaload, 1) := dk_46 (dk_at dksX7_longestLeaderless_3 10 rfl rfl)
theorem dX7_longestLeaderless_83 : decode cX7_longestLeaderless 83 = .ok (.istore_n 3, 1) := dk_62 (dk_at dksX7_longestLeaderless_3 11 rfl rfl)
theorem dX7_longestLeaderless_84 : decode cX7_longestLeaderless 84 = .ok (.aload_n 0, 1) := dk_42 (dk_at dksX7_longestLeaderless_3 12 rfl rfl)
theorem dX7_longestLeaderless_85 : decode cX7_longestLeaderless 85 = .ok (.invokevirtual 335, 3) := dk_182 1 79 (dk_at dksX7_longestLeaderless_3 13 rfl rfl)
theorem dX7_longestLeaderless_88 : decode cX7_longestLeaderless 88 = .ok (.iload_n 3, 1) := dk_29 (dk_at dksX7_longestLeaderless_3 16 rfl rfl)
theorem dX7_longestLeaderless_89 : decode cX7_longestLeaderless 89 = .ok (.ireturn, 1) := dk_172 (dk_at dksX7_longestLeaderless_3 17 rfl rfl)
abbrev cX7_acquiresUntil : ByteArray := prog_22_method_122_code
def yX7_acquiresUntil : MethodName := ⟨RX7, "acquiresUntil", "(II)I"⟩
def dkwX7_acquiresUntil_3 : List UInt8 := [29, 182, 1, 24, 42, 16, 252, 181, 0, 40, 42, 182, 1, 79, 42, 180, 0, 186, 172]
abbrev dktX7_acquiresUntil_3 : List UInt8 := dkwX7_acquiresUntil_3 ++ []
def dkwX7_acquiresUntil_2 : List UInt8 := [19, 1, 23, 164, 0, 6, 16, 251, 172, 42, 182, 1, 76, 42, 27, 181, 0, 40, 42, 3, 181, 0, 186, 42]
abbrev dktX7_acquiresUntil_2 : List UInt8 := dkwX7_acquiresUntil_2 ++ dktX7_acquiresUntil_3
def dkwX7_acquiresUntil_1 : List UInt8 := [167, 0, 4, 3, 5, 182, 0, 72, 153, 0, 5, 3, 172, 42, 180, 0, 10, 3, 46, 28, 96, 62, 29]
abbrev dktX7_acquiresUntil_1 : List UInt8 := dkwX7_acquiresUntil_1 ++ dktX7_acquiresUntil_2
def dkwX7_acquiresUntil_0 : List UInt8 := [42, 27, 182, 0, 172, 154, 0, 28, 42, 28, 133, 10, 20, 1, 21, 184, 0, 68, 154, 0, 7, 4]
abbrev dktX7_acquiresUntil_0 : List UInt8 := dkwX7_acquiresUntil_0 ++ dktX7_acquiresUntil_1
theorem dksX7_acquiresUntil_0 : cX7_acquiresUntil.data.toList.drop 0 = dktX7_acquiresUntil_0 := by decide +kernel
theorem dksX7_acquiresUntil_1 : cX7_acquiresUntil.data.toList.drop 22 = dktX7_acquiresUntil_1 := dk_seg dksX7_acquiresUntil_0 22 rfl rfl
theorem dksX7_acquiresUntil_2 : cX7_acquiresUntil.data.toList.drop 45 = dktX7_acquiresUntil_2 := dk_seg dksX7_acquiresUntil_1 23 rfl rfl
theorem dksX7_acquiresUntil_3 : cX7_acquiresUntil.data.toList.drop 69 = dktX7_acquiresUntil_3 := dk_seg dksX7_acquiresUntil_2 24 rfl rfl
theorem dX7_acquiresUntil_0 : decode cX7_acquiresUntil 0 = .ok (.aload_n 0, 1) := dk_42 (dk_at dksX7_acquiresUntil_0 0 rfl rfl)
theorem dX7_acquiresUntil_1 : decode cX7_acquiresUntil 1 = .ok (.iload_n 1, 1) := dk_27 (dk_at dksX7_acquiresUntil_0 1 rfl rfl)
theorem dX7_acquiresUntil_2 : decode cX7_acquiresUntil 2 = .ok (.invokevirtual 172, 3) := dk_182 0 172 (dk_at dksX7_acquiresUntil_0 2 rfl rfl)
theorem dX7_acquiresUntil_5 : decode cX7_acquiresUntil 5 = .ok (.ifCond .ne 28, 3) := dk_154 0 28 (dk_at dksX7_acquiresUntil_0 5 rfl rfl)
theorem dX7_acquiresUntil_8 : decode cX7_acquiresUntil 8 = .ok (.aload_n 0, 1) := dk_42 (dk_at dksX7_acquiresUntil_0 8 rfl rfl)
theorem dX7_acquiresUntil_9 : decode cX7_acquiresUntil 9 = .ok (.iload_n 2, 1) := dk_28 (dk_at dksX7_acquiresUntil_0 9 rfl rfl)
theorem dX7_acquiresUntil_10 : decode cX7_acquiresUntil 10 = .ok (.i2l, 1) := dk_133 (dk_at dksX7_acquiresUntil_0 10 rfl rfl)
theorem dX7_acquiresUntil_11 : decode cX7_acquiresUntil 11 = .ok (.lconst 1, 1) := dk_10 (dk_at dksX7_acquiresUntil_0 11 rfl rfl)
theorem dX7_acquiresUntil_12 : decode cX7_acquiresUntil 12 = .ok (.ldc2_w 277, 3) := dk_20 1 21 (dk_at dksX7_acquiresUntil_0 12 rfl rfl)
theorem dX7_acquiresUntil_15 : decode cX7_acquiresUntil 15 = .ok (.invokestatic 68, 3) := dk_184 0 68 (dk_at dksX7_acquiresUntil_0 15 rfl rfl)
theorem dX7_acquiresUntil_18 : decode cX7_acquiresUntil 18 = .ok (.ifCond .ne 7, 3) := dk_154 0 7 (dk_at dksX7_acquiresUntil_0 18 rfl rfl)
theorem dX7_acquiresUntil_21 : decode cX7_acquiresUntil 21 = .ok (.iconst 1, 1) := dk_4 (dk_at dksX7_acquiresUntil_0 21 rfl rfl)
theorem dX7_acquiresUntil_22 : decode cX7_acquiresUntil 22 = .ok (.goto 4, 3) := dk_167 0 4 (dk_at dksX7_acquiresUntil_1 0 rfl rfl)
theorem dX7_acquiresUntil_25 : decode cX7_acquiresUntil 25 = .ok (.iconst 0, 1) := dk_3 (dk_at dksX7_acquiresUntil_1 3 rfl rfl)
theorem dX7_acquiresUntil_26 : decode cX7_acquiresUntil 26 = .ok (.iconst 2, 1) := dk_5 (dk_at dksX7_acquiresUntil_1 4 rfl rfl)
theorem dX7_acquiresUntil_27 : decode cX7_acquiresUntil 27 = .ok (.invokevirtual 72, 3) := dk_182 0 72 (dk_at dksX7_acquiresUntil_1 5 rfl rfl)
theorem dX7_acquiresUntil_30 : decode cX7_acquiresUntil 30 = .ok (.ifCond .eq 5, 3) := dk_153 0 5 (dk_at dksX7_acquiresUntil_1 8 rfl rfl)
theorem dX7_acquiresUntil_33 : decode cX7_acquiresUntil 33 = .ok (.iconst 0, 1) := dk_3 (dk_at dksX7_acquiresUntil_1 11 rfl rfl)
theorem dX7_acquiresUntil_34 : decode cX7_acquiresUntil 34 = .ok (.ireturn, 1) := dk_172 (dk_at dksX7_acquiresUntil_1 12 rfl rfl)
theorem dX7_acquiresUntil_35 : decode cX7_acquiresUntil 35 = .ok (.aload_n 0, 1) := dk_42 (dk_at dksX7_acquiresUntil_1 13 rfl rfl)
theorem dX7_acquiresUntil_36 : decode cX7_acquiresUntil 36 = .ok (.getfield 10, 3) := dk_180 0 10 (dk_at dksX7_acquiresUntil_1 14 rfl rfl)
theorem dX7_acquiresUntil_39 : decode cX7_acquiresUntil 39 = .ok (.iconst 0, 1) := dk_3 (dk_at dksX7_acquiresUntil_1 17 rfl rfl)
theorem dX7_acquiresUntil_40 : decode cX7_acquiresUntil 40 = .ok (.iaload, 1) := dk_46 (dk_at dksX7_acquiresUntil_1 18 rfl rfl)
theorem dX7_acquiresUntil_41 : decode cX7_acquiresUntil 41 = .ok (.iload_n 2, 1) := dk_28 (dk_at dksX7_acquiresUntil_1 19 rfl rfl)
theorem dX7_acquiresUntil_42 : decode cX7_acquiresUntil 42 = .ok (.iadd, 1) := dk_96 (dk_at dksX7_acquiresUntil_1 20 rfl rfl)
theorem dX7_acquiresUntil_43 : decode cX7_acquiresUntil 43 = .ok (.istore_n 3, 1) := dk_62 (dk_at dksX7_acquiresUntil_1 21 rfl rfl)
theorem dX7_acquiresUntil_44 : decode cX7_acquiresUntil 44 = .ok (.iload_n 3, 1) := dk_29 (dk_at dksX7_acquiresUntil_1 22 rfl rfl)
theorem dX7_acquiresUntil_45 : decode cX7_acquiresUntil 45 = .ok (.ldc_w 279, 3) := dk_19 1 23 (dk_at dksX7_acquiresUntil_2 0 rfl rfl)
theorem dX7_acquiresUntil_48 : decode cX7_acquiresUntil 48 = .ok (.if_icmp .le 6, 3) := dk_164 0 6 (dk_at dksX7_acquiresUntil_2 3 rfl rfl)
theorem dX7_acquiresUntil_51 : decode cX7_acquiresUntil 51 = .ok (.bipush (-5), 2) := dk_16 251 (dk_at dksX7_acquiresUntil_2 6 rfl rfl)
theorem dX7_acquiresUntil_53 : decode cX7_acquiresUntil 53 = .ok (.ireturn, 1) := dk_172 (dk_at dksX7_acquiresUntil_2 8 rfl rfl)
theorem dX7_acquiresUntil_54 : decode cX7_acquiresUntil 54 = .ok (.aload_n 0, 1) := dk_42 (dk_at dksX7_acquiresUntil_2 9 rfl rfl)
theorem dX7_acquiresUntil_55 : decode cX7_acquiresUntil 55 = .ok (.invokevirtual 332, 3) := dk_182 1 76 (dk_at dksX7_acquiresUntil_2 10 rfl rfl)
theorem dX7_acquiresUntil_58 : decode cX7_acquiresUntil 58 = .ok (.aload_n 0, 1) := dk_42 (dk_at dksX7_acquiresUntil_2 13 rfl rfl)
theorem dX7_acquiresUntil_59 : decode cX7_acquiresUntil 59 = .ok (.iload_n 1, 1) := dk_27 (dk_at dksX7_acquiresUntil_2 14 rfl rfl)
theorem dX7_acquiresUntil_60 : decode cX7_acquiresUntil 60 = .ok (.putfield 40, 3) := dk_181 0 40 (dk_at dksX7_acquiresUntil_2 15 rfl rfl)
theorem dX7_acquiresUntil_63 : decode cX7_acquiresUntil 63 = .ok (.aload_n 0, 1) := dk_42 (dk_at dksX7_acquiresUntil_2 18 rfl rfl)
theorem dX7_acquiresUntil_64 : decode cX7_acquiresUntil 64 = .ok (.iconst 0, 1) := dk_3 (dk_at dksX7_acquiresUntil_2 19 rfl rfl)
theorem dX7_acquiresUntil_65 : decode cX7_acquiresUntil 65 = .ok (.putfield 186, 3) := dk_181 0 186 (dk_at dksX7_acquiresUntil_2 20 rfl rfl)
theorem dX7_acquiresUntil_68 : decode cX7_acquiresUntil 68 = .ok (.aload_n 0, 1) := dk_42 (dk_at dksX7_acquiresUntil_2 23 rfl rfl)
theorem dX7_acquiresUntil_69 : decode cX7_acquiresUntil 69 = .ok (.iload_n 3, 1) := dk_29 (dk_at dksX7_acquiresUntil_3 0 rfl rfl)
theorem dX7_acquiresUntil_70 : decode cX7_acquiresUntil 70 = .ok (.invokevirtual 280, 3) := dk_182 1 24 (dk_at dksX7_acquiresUntil_3 1 rfl rfl)
theorem dX7_acquiresUntil_73 : decode cX7_acquiresUntil 73 = .ok (.aload_n 0, 1) := dk_42 (dk_at dksX7_acquiresUntil_3 4 rfl rfl)
theorem dX7_acquiresUntil_74 : decode cX7_acquiresUntil 74 = .ok (.bipush (-4), 2) := dk_16 252 (dk_at dksX7_acquiresUntil_3 5 rfl rfl)
theorem dX7_acquiresUntil_76 : decode cX7_acquiresUntil 76 = .ok (.putfield 40, 3) := dk_181 0 40 (dk_at dksX7_acquiresUntil_3 7 rfl rfl)
theorem dX7_acquiresUntil_79 : decode cX7_acquiresUntil 79 = .ok (.aload_n 0, 1) := dk_42 (dk_at dksX7_acquiresUntil_3 10 rfl rfl)
theorem dX7_acquiresUntil_80 : decode cX7_acquiresUntil 80 = .ok (.invokevirtual 335, 3) := dk_182 1 79 (dk_at dksX7_acquiresUntil_3 11 rfl rfl)
theorem dX7_acquiresUntil_83 : decode cX7_acquiresUntil 83 = .ok (.aload_n 0, 1) := dk_42 (dk_at dksX7_acquiresUntil_3 14 rfl rfl)
theorem dX7_acquiresUntil_84 : decode cX7_acquiresUntil 84 = .ok (.getfield 186, 3) := dk_180 0 186 (dk_at dksX7_acquiresUntil_3 15 rfl rfl)
theorem dX7_acquiresUntil_87 : decode cX7_acquiresUntil 87 = .ok (.ireturn, 1) := dk_172 (dk_at dksX7_acquiresUntil_3 18 rfl rfl)
abbrev cX7_tryWrite : ByteArray := prog_22_method_123_code
def yX7_tryWrite : MethodName := ⟨RX7, "tryWrite", "(II)I"⟩
def dkwX7_tryWrite_6 : List UInt8 := [16, 251, 181, 0, 232, 42, 182, 1, 79, 42, 180, 0, 232, 172]
abbrev dktX7_tryWrite_6 : List UInt8 := dkwX7_tryWrite_6 ++ []
def dkwX7_tryWrite_5 : List UInt8 := [21, 4, 19, 1, 23, 163, 0, 9, 42, 21, 4, 182, 1, 24, 21, 4, 19, 1, 23, 164, 0, 9, 42]
abbrev dktX7_tryWrite_5 : List UInt8 := dkwX7_tryWrite_5 ++ dktX7_tryWrite_6
def dkwX7_tryWrite_4 : List UInt8 := [104, 96, 5, 96, 46, 167, 0, 5, 16, 252, 54, 4, 42, 5, 181, 0, 232, 21, 4, 16, 252, 159, 0, 17]
abbrev dktX7_tryWrite_4 : List UInt8 := dkwX7_tryWrite_4 ++ dktX7_tryWrite_5
def dkwX7_tryWrite_3 : List UInt8 := [182, 0, 189, 42, 180, 0, 10, 16, 20, 46, 29, 164, 0, 21, 42, 180, 0, 10, 17, 4, 112, 16, 6, 29]
abbrev dktX7_tryWrite_3 : List UInt8 := dkwX7_tryWrite_3 ++ dktX7_tryWrite_4
def dkwX7_tryWrite_2 : List UInt8 := [182, 1, 76, 42, 180, 0, 10, 16, 20, 46, 62, 42, 6, 27, 42, 27, 16, 7, 182, 0, 152, 28, 16, 249]
abbrev dktX7_tryWrite_2 : List UInt8 := dkwX7_tryWrite_2 ++ dktX7_tryWrite_3
def dkwX7_tryWrite_1 : List UInt8 := [182, 0, 72, 153, 0, 5, 3, 172, 42, 27, 182, 1, 42, 153, 0, 9, 42, 27, 182, 1, 42, 172, 42]
abbrev dktX7_tryWrite_1 : List UInt8 := dkwX7_tryWrite_1 ++ dktX7_tryWrite_2
def dkwX7_tryWrite_0 : List UInt8 := [42, 27, 182, 0, 172, 154, 0, 23, 42, 28, 184, 1, 36, 154, 0, 7, 4, 167, 0, 4, 3, 5]
abbrev dktX7_tryWrite_0 : List UInt8 := dkwX7_tryWrite_0 ++ dktX7_tryWrite_1
theorem dksX7_tryWrite_0 : cX7_tryWrite.data.toList.drop 0 = dktX7_tryWrite_0 := by decide +kernel
theorem dksX7_tryWrite_1 : cX7_tryWrite.data.toList.drop 22 = dktX7_tryWrite_1 := dk_seg dksX7_tryWrite_0 22 rfl rfl
theorem dksX7_tryWrite_2 : cX7_tryWrite.data.toList.drop 45 = dktX7_tryWrite_2 := dk_seg dksX7_tryWrite_1 23 rfl rfl
theorem dksX7_tryWrite_3 : cX7_tryWrite.data.toList.drop 69 = dktX7_tryWrite_3 := dk_seg dksX7_tryWrite_2 24 rfl rfl
theorem dksX7_tryWrite_4 : cX7_tryWrite.data.toList.drop 93 = dktX7_tryWrite_4 := dk_seg dksX7_tryWrite_3 24 rfl rfl
theorem dksX7_tryWrite_5 : cX7_tryWrite.data.toList.drop 117 = dktX7_tryWrite_5 := dk_seg dksX7_tryWrite_4 24 rfl rfl
theorem dksX7_tryWrite_6 : cX7_tryWrite.data.toList.drop 140 = dktX7_tryWrite_6 := dk_seg dksX7_tryWrite_5 23 rfl rfl
theorem dX7_tryWrite_0 : decode cX7_tryWrite 0 = .ok (.aload_n 0, 1) := dk_42 (dk_at dksX7_tryWrite_0 0 rfl rfl)
theorem dX7_tryWrite_1 : decode cX7_tryWrite 1 = .ok (.iload_n 1, 1) := dk_27 (dk_at dksX7_tryWrite_0 1 rfl rfl)
theorem dX7_tryWrite_2 : decode cX7_tryWrite 2 = .ok (.invokevirtual 172, 3) := dk_182 0 172 (dk_at dksX7_tryWrite_0 2 rfl rfl)
theorem dX7_tryWrite_5 : decode cX7_tryWrite 5 = .ok (.ifCond .ne 23, 3) := dk_154 0 23 (dk_at dksX7_tryWrite_0 5 rfl rfl)
theorem dX7_tryWrite_8 : decode cX7_tryWrite 8 = .ok (.aload_n 0, 1) := dk_42 (dk_at dksX7_tryWrite_0 8 rfl rfl)
theorem dX7_tryWrite_9 : decode cX7_tryWrite 9 = .ok (.iload_n 2, 1) := dk_28 (dk_at dksX7_tryWrite_0 9 rfl rfl)
theorem dX7_tryWrite_10 : decode cX7_tryWrite 10 = .ok (.invokestatic 292, 3) := dk_184 1 36 (dk_at dksX7_tryWrite_0 10 rfl rfl)
theorem dX7_tryWrite_13 : decode cX7_tryWrite 13 = .ok (.ifCond .ne 7, 3) := dk_154 0 7 (dk_at dksX7_tryWrite_0 13 rfl rfl)
theorem dX7_tryWrite_16 : decode cX7_tryWrite 16 = .ok (.iconst 1, 1) := dk_4 (dk_at dksX7_tryWrite_0 16 rfl rfl)
theorem dX7_tryWrite_17 : decode cX7_tryWrite 17 = .ok (.goto 4, 3) := dk_167 0 4 (dk_at dksX7_tryWrite_0 17 rfl rfl)
theorem dX7_tryWrite_20 : decode cX7_tryWrite 20 = .ok (.iconst 0, 1) := dk_3 (dk_at dksX7_tryWrite_0 20 rfl rfl)
theorem dX7_tryWrite_21 : decode cX7_tryWrite 21 = .ok (.iconst 2, 1) := dk_5 (dk_at dksX7_tryWrite_0 21 rfl rfl)
theorem dX7_tryWrite_22 : decode cX7_tryWrite 22 = .ok (.invokevirtual 72, 3) := dk_182 0 72 (dk_at dksX7_tryWrite_1 0 rfl rfl)
theorem dX7_tryWrite_25 : decode cX7_tryWrite 25 = .ok (.ifCond .eq 5, 3) := dk_153 0 5 (dk_at dksX7_tryWrite_1 3 rfl rfl)
theorem dX7_tryWrite_28 : decode cX7_tryWrite 28 = .ok (.iconst 0, 1) := dk_3 (dk_at dksX7_tryWrite_1 6 rfl rfl)
theorem dX7_tryWrite_29 : decode cX7_tryWrite 29 = .ok (.ireturn, 1) := dk_172 (dk_at dksX7_tryWrite_1 7 rfl rfl)
theorem dX7_tryWrite_30 : decode cX7_tryWrite 30 = .ok (.aload_n 0, 1) := dk_42 (dk_at dksX7_tryWrite_1 8 rfl rfl)
theorem dX7_tryWrite_31 : decode cX7_tryWrite 31 = .ok (.iload_n 1, 1) := dk_27 (dk_at dksX7_tryWrite_1 9 rfl rfl)
theorem dX7_tryWrite_32 : decode cX7_tryWrite 32 = .ok (.invokevirtual 298, 3) := dk_182 1 42 (dk_at dksX7_tryWrite_1 10 rfl rfl)
theorem dX7_tryWrite_35 : decode cX7_tryWrite 35 = .ok (.ifCond .eq 9, 3) := dk_153 0 9 (dk_at dksX7_tryWrite_1 13 rfl rfl)
theorem dX7_tryWrite_38 : decode cX7_tryWrite 38 = .ok (.aload_n 0, 1) := dk_42 (dk_at dksX7_tryWrite_1 16 rfl rfl)
theorem dX7_tryWrite_39 : decode cX7_tryWrite 39 = .ok (.iload_n 1, 1) := dk_27 (dk_at dksX7_tryWrite_1 17 rfl rfl)
theorem dX7_tryWrite_40 : decode cX7_tryWrite 40 = .ok (.invokevirtual 298, 3) := dk_182 1 42 (dk_at dksX7_tryWrite_1 18 rfl rfl)
theorem dX7_tryWrite_43 : decode cX7_tryWrite 43 = .ok (.ireturn, 1) := dk_172 (dk_at dksX7_tryWrite_1 21 rfl rfl)
theorem dX7_tryWrite_44 : decode cX7_tryWrite 44 = .ok (.aload_n 0, 1) := dk_42 (dk_at dksX7_tryWrite_1 22 rfl rfl)
theorem dX7_tryWrite_45 : decode cX7_tryWrite 45 = .ok (.invokevirtual 332, 3) := dk_182 1 76 (dk_at dksX7_tryWrite_2 0 rfl rfl)
theorem dX7_tryWrite_48 : decode cX7_tryWrite 48 = .ok (.aload_n 0, 1) := dk_42 (dk_at dksX7_tryWrite_2 3 rfl rfl)
theorem dX7_tryWrite_49 : decode cX7_tryWrite 49 = .ok (.getfield 10, 3) := dk_180 0 10 (dk_at dksX7_tryWrite_2 4 rfl rfl)
theorem dX7_tryWrite_52 : decode cX7_tryWrite 52 = .ok (.bipush 20, 2) := dk_16 20 (dk_at dksX7_tryWrite_2 7 rfl rfl)
theorem dX7_tryWrite_54 : decode cX7_tryWrite 54 = .ok (.iaload, 1) := dk_46 (dk_at dksX7_tryWrite_2 9 rfl rfl)
theorem dX7_tryWrite_55 : decode cX7_tryWrite 55 = .ok (.istore_n 3, 1) := dk_62 (dk_at dksX7_tryWrite_2 10 rfl rfl)
theorem dX7_tryWrite_56 : decode cX7_tryWrite 56 = .ok (.aload_n 0, 1) := dk_42 (dk_at dksX7_tryWrite_2 11 rfl rfl)
theorem dX7_tryWrite_57 : decode cX7_tryWrite 57 = .ok (.iconst 3, 1) := dk_6 (dk_at dksX7_tryWrite_2 12 rfl rfl)
theorem dX7_tryWrite_58 : decode cX7_tryWrite 58 = .ok (.iload_n 1, 1) := dk_27 (dk_at dksX7_tryWrite_2 13 rfl rfl)
theorem dX7_tryWrite_59 : decode cX7_tryWrite 59 = .ok (.aload_n 0, 1) := dk_42 (dk_at dksX7_tryWrite_2 14 rfl rfl)
theorem dX7_tryWrite_60 : decode cX7_tryWrite 60 = .ok (.iload_n 1, 1) := dk_27 (dk_at dksX7_tryWrite_2 15 rfl rfl)
theorem dX7_tryWrite_61 : decode cX7_tryWrite 61 = .ok (.bipush 7, 2) := dk_16 7 (dk_at dksX7_tryWrite_2 16 rfl rfl)
theorem dX7_tryWrite_63 : decode cX7_tryWrite 63 = .ok (.invokevirtual 152, 3) := dk_182 0 152 (dk_at dksX7_tryWrite_2 18 rfl rfl)
theorem dX7_tryWrite_66 : decode cX7_tryWrite 66 = .ok (.iload_n 2, 1) := dk_28 (dk_at dksX7_tryWrite_2 21 rfl rfl)
theorem dX7_tryWrite_67 : decode cX7_tryWrite 67 = .ok (.bipush (-7), 2) := dk_16 249 (dk_at dksX7_tryWrite_2 22 rfl rfl)
theorem dX7_tryWrite_69 : decode cX7_tryWrite 69 = .ok (.invokevirtual 189, 3) := dk_182 0 189 (dk_at dksX7_tryWrite_3 0 rfl rfl)
theorem dX7_tryWrite_72 : decode cX7_tryWrite 72 = .ok (.aload_n 0, 1) := dk_42 (dk_at dksX7_tryWrite_3 3 rfl rfl)
theorem dX7_tryWrite_73 : decode cX7_tryWrite 73 = .ok (.getfield 10, 3) := dk_180 0 10 (dk_at dksX7_tryWrite_3 4 rfl rfl)
theorem dX7_tryWrite_76 : decode cX7_tryWrite 76 = .ok (.bipush 20, 2) := dk_16 20 (dk_at dksX7_tryWrite_3 7 rfl rfl)
theorem dX7_tryWrite_78 : decode cX7_tryWrite 78 = .ok (.iaload, 1) := dk_46 (dk_at dksX7_tryWrite_3 9 rfl rfl)
theorem dX7_tryWrite_79 : decode cX7_tryWrite 79 = .ok (.iload_n 3, 1) := dk_29 (dk_at dksX7_tryWrite_3 10 rfl rfl)
theorem dX7_tryWrite_80 : decode cX7_tryWrite 80 = .ok (.if_icmp .le 21, 3) := dk_164 0 21 (dk_at dksX7_tryWrite_3 11 rfl rfl)
theorem dX7_tryWrite_83 : decode cX7_tryWrite 83 = .ok (.aload_n 0, 1) := dk_42 (dk_at dksX7_tryWrite_3 14 rfl rfl)
theorem dX7_tryWrite_84 : decode cX7_tryWrite 84 = .ok (.getfield 10, 3) := dk_180 0 10 (dk_at dksX7_tryWrite_3 15 rfl rfl)
theorem dX7_tryWrite_87 : decode cX7_tryWrite 87 = .ok (.sipush 1136, 3) := dk_17 4 112 (dk_at dksX7_tryWrite_3 18 rfl rfl)
theorem dX7_tryWrite_90 : decode cX7_tryWrite 90 = .ok (.bipush 6, 2) := dk_16 6 (dk_at dksX7_tryWrite_3 21 rfl rfl)
theorem dX7_tryWrite_92 : decode cX7_tryWrite 92 = .ok (.iload_n 3, 1) := dk_29 (dk_at dksX7_tryWrite_3 23 rfl rfl)
theorem dX7_tryWrite_93 : decode cX7_tryWrite 93 = .ok (.imul, 1) := dk_104 (dk_at dksX7_tryWrite_4 0 rfl rfl)
theorem dX7_tryWrite_94 : decode cX7_tryWrite 94 = .ok (.iadd, 1) := dk_96 (dk_at dksX7_tryWrite_4 1 rfl rfl)
theorem dX7_tryWrite_95 : decode cX7_tryWrite 95 = .ok (.iconst 2, 1) := dk_5 (dk_at dksX7_tryWrite_4 2 rfl rfl)
theorem dX7_tryWrite_96 : decode cX7_tryWrite 96 = .ok (.iadd, 1) := dk_96 (dk_at dksX7_tryWrite_4 3 rfl rfl)
theorem dX7_tryWrite_97 : decode cX7_tryWrite 97 = .ok (.iaload, 1) := dk_46 (dk_at dksX7_tryWrite_4 4 rfl rfl)
theorem dX7_tryWrite_98 : decode cX7_tryWrite 98 = .ok (.goto 5, 3) := dk_167 0 5 (dk_at dksX7_tryWrite_4 5 rfl rfl)
theorem dX7_tryWrite_101 : decode cX7_tryWrite 101 = .ok (.bipush (-4), 2) := dk_16 252 (dk_at dksX7_tryWrite_4 8 rfl rfl)
theorem dX7_tryWrite_103 : decode cX7_tryWrite 103 = .ok (.istore 4, 2) := dk_54 4 (dk_at dksX7_tryWrite_4 10 rfl rfl)
theorem dX7_tryWrite_105 : decode cX7_tryWrite 105 = .ok (.aload_n 0, 1) := dk_42 (dk_at dksX7_tryWrite_4 12 rfl rfl)
theorem dX7_tryWrite_106 : decode cX7_tryWrite 106 = .ok (.iconst 2, 1) := dk_5 (dk_at dksX7_tryWrite_4 13 rfl rfl)
theorem dX7_tryWrite_107 : decode cX7_tryWrite 107 = .ok (.putfield 232, 3) := dk_181 0 232 (dk_at dksX7_tryWrite_4 14 rfl rfl)
theorem dX7_tryWrite_110 : decode cX7_tryWrite 110 = .ok (.iload 4, 2) := dk_21 4 (dk_at dksX7_tryWrite_4 17 rfl rfl)
theorem dX7_tryWrite_112 : decode cX7_tryWrite 112 = .ok (.bipush (-4), 2) := dk_16 252 (dk_at dksX7_tryWrite_4 19 rfl rfl)
theorem dX7_tryWrite_114 : decode cX7_tryWrite 114 = .ok (.if_icmp .eq 17, 3) := dk_159 0 17 (dk_at dksX7_tryWrite_4 21 rfl rfl)
theorem dX7_tryWrite_117 : decode cX7_tryWrite 117 = .ok (.iload 4, 2) := dk_21 4 (dk_at dksX7_tryWrite_5 0 rfl rfl)
theorem dX7_tryWrite_119 : decode cX7_tryWrite 119 = .ok (.ldc_w 279, 3) := dk_19 1 23 (dk_at dksX7_tryWrite_5 2 rfl rfl)
theorem dX7_tryWrite_122 : decode cX7_tryWrite 122 = .ok (.if_icmp .gt 9, 3) := dk_163 0 9 (dk_at dksX7_tryWrite_5 5 rfl rfl)
theorem dX7_tryWrite_125 : decode cX7_tryWrite 125 = .ok (.aload_n 0, 1) := dk_42 (dk_at dksX7_tryWrite_5 8 rfl rfl)
theorem dX7_tryWrite_126 : decode cX7_tryWrite 126 = .ok (.iload 4, 2) := dk_21 4 (dk_at dksX7_tryWrite_5 9 rfl rfl)
theorem dX7_tryWrite_128 : decode cX7_tryWrite 128 = .ok (.invokevirtual 280, 3) := dk_182 1 24 (dk_at dksX7_tryWrite_5 11 rfl rfl)
theorem dX7_tryWrite_131 : decode cX7_tryWrite 131 = .ok (.iload 4, 2) := dk_21 4 (dk_at dksX7_tryWrite_5 14 rfl rfl)
theorem dX7_tryWrite_133 : decode cX7_tryWrite 133 = .ok (.ldc_w 279, 3) := dk_19 1 23 (dk_at dksX7_tryWrite_5 16 rfl rfl)
theorem dX7_tryWrite_136 : decode cX7_tryWrite 136 = .ok (.if_icmp .le 9, 3) := dk_164 0 9 (dk_at dksX7_tryWrite_5 19 rfl rfl)
theorem dX7_tryWrite_139 : decode cX7_tryWrite 139 = .ok (.aload_n 0, 1) := dk_42 (dk_at dksX7_tryWrite_5 22 rfl rfl)
theorem dX7_tryWrite_140 : decode cX7_tryWrite 140 = .ok (.bipush (-5), 2) := dk_16 251 (dk_at dksX7_tryWrite_6 0 rfl rfl)
theorem dX7_tryWrite_142 : decode cX7_tryWrite 142 = .ok (.putfield 232, 3) := dk_181 0 232 (dk_at dksX7_tryWrite_6 2 rfl rfl)
theorem dX7_tryWrite_145 : decode cX7_tryWrite 145 = .ok (.aload_n 0, 1) := dk_42 (dk_at dksX7_tryWrite_6 5 rfl rfl)
theorem dX7_tryWrite_146 : decode cX7_tryWrite 146 = .ok (.invokevirtual 335, 3) := dk_182 1 79 (dk_at dksX7_tryWrite_6 6 rfl rfl)
theorem dX7_tryWrite_149 : decode cX7_tryWrite 149 = .ok (.aload_n 0, 1) := dk_42 (dk_at dksX7_tryWrite_6 9 rfl rfl)
theorem dX7_tryWrite_150 : decode cX7_tryWrite 150 = .ok (.getfield 232, 3) := dk_180 0 232 (dk_at dksX7_tryWrite_6 10 rfl rfl)
theorem dX7_tryWrite_153 : decode cX7_tryWrite 153 = .ok (.ireturn, 1) := dk_172 (dk_at dksX7_tryWrite_6 13 rfl rfl)
abbrev cX7_predictRead : ByteArray := prog_22_method_124_code
def yX7_predictRead : MethodName := ⟨RX7, "predictRead", "(III)I"⟩
def dkwX7_predictRead_5 : List UInt8 := [182, 1, 79, 21, 5, 172]
abbrev dktX7_predictRead_5 : List UInt8 := dkwX7_predictRead_5 ++ []
def dkwX7_predictRead_4 : List UInt8 := [4, 126, 154, 0, 8, 16, 252, 167, 0, 12, 42, 27, 16, 12, 28, 96, 182, 0, 152, 54, 5, 42]
abbrev dktX7_predictRead_4 : List UInt8 := dkwX7_predictRead_4 ++ dktX7_predictRead_5
def dkwX7_predictRead_3 : List UInt8 := [182, 1, 24, 42, 27, 182, 1, 42, 54, 5, 21, 5, 154, 0, 33, 42, 27, 16, 11, 182, 0, 152, 28, 122]
abbrev dktX7_predictRead_3 : List UInt8 := dkwX7_predictRead_3 ++ dktX7_predictRead_4
def dkwX7_predictRead_2 : List UInt8 := [3, 46, 29, 96, 54, 4, 21, 4, 19, 1, 23, 164, 0, 6, 16, 251, 172, 42, 182, 1, 76, 42, 21, 4]
abbrev dktX7_predictRead_2 : List UInt8 := dkwX7_predictRead_2 ++ dktX7_predictRead_3
def dkwX7_predictRead_1 : List UInt8 := [184, 0, 68, 154, 0, 7, 4, 167, 0, 4, 3, 5, 182, 0, 72, 153, 0, 5, 3, 172, 42, 180, 0, 10]
abbrev dktX7_predictRead_1 : List UInt8 := dkwX7_predictRead_1 ++ dktX7_predictRead_2
def dkwX7_predictRead_0 : List UInt8 := [42, 27, 182, 0, 172, 154, 0, 35, 42, 28, 184, 1, 36, 153, 0, 15, 29, 133, 10, 20, 1, 21]
abbrev dktX7_predictRead_0 : List UInt8 := dkwX7_predictRead_0 ++ dktX7_predictRead_1
theorem dksX7_predictRead_0 : cX7_predictRead.data.toList.drop 0 = dktX7_predictRead_0 := by decide +kernel
theorem dksX7_predictRead_1 : cX7_predictRead.data.toList.drop 22 = dktX7_predictRead_1 := dk_seg dksX7_predictRead_0 22 rfl rfl
theorem dksX7_predictRead_2 : cX7_predictRead.data.toList.drop 46 = dktX7_predictRead_2 := dk_seg dksX7_predictRead_1 24 rfl rfl
theorem dksX7_predictRead_3 : cX7_predictRead.data.toList.drop 70 = dktX7_predictRead_3 := dk_seg dksX7_predictRead_2 24 rfl rfl
theorem dksX7_predictRead_4 : cX7_predictRead.data.toList.drop 94 = dktX7_predictRead_4 := dk_seg dksX7_predictRead_3 24 rfl rfl
theorem dksX7_predictRead_5 : cX7_predictRead.data.toList.drop 116 = dktX7_predictRead_5 := dk_seg dksX7_predictRead_4 22 rfl rfl
theorem dX7_predictRead_0 : decode cX7_predictRead 0 = .ok (.aload_n 0, 1) := dk_42 (dk_at dksX7_predictRead_0 0 rfl rfl)
theorem dX7_predictRead_1 : decode cX7_predictRead 1 = .ok (.iload_n 1, 1) := dk_27 (dk_at dksX7_predictRead_0 1 rfl rfl)
theorem dX7_predictRead_2 : decode cX7_predictRead 2 = .ok (.invokevirtual 172, 3) := dk_182 0 172 (dk_at dksX7_predictRead_0 2 rfl rfl)
theorem dX7_predictRead_5 : decode cX7_predictRead 5 = .ok (.ifCond .ne 35, 3) := dk_154 0 35 (dk_at dksX7_predictRead_0 5 rfl rfl)
theorem dX7_predictRead_8 : decode cX7_predictRead 8 = .ok (.aload_n 0, 1) := dk_42 (dk_at dksX7_predictRead_0 8 rfl rfl)
theorem dX7_predictRead_9 : decode cX7_predictRead 9 = .ok (.iload_n 2, 1) := dk_28 (dk_at dksX7_predictRead_0 9 rfl rfl)
theorem dX7_predictRead_10 : decode cX7_predictRead 10 = .ok (.invokestatic 292, 3) := dk_184 1 36 (dk_at dksX7_predictRead_0 10 rfl rfl)
theorem dX7_predictRead_13 : decode cX7_predictRead 13 = .ok (.ifCond .eq 15, 3) := dk_153 0 15 (dk_at dksX7_predictRead_0 13 rfl rfl)
theorem dX7_predictRead_16 : decode cX7_predictRead 16 = .ok (.iload_n 3, 1) := dk_29 (dk_at dksX7_predictRead_0 16 rfl rfl)
theorem dX7_predictRead_17 : decode cX7_predictRead 17 = .ok (.i2l, 1) := dk_133 (dk_at dksX7_predictRead_0 17 rfl rfl)
theorem dX7_predictRead_18 : decode cX7_predictRead 18 = .ok (.lconst 1, 1) := dk_10 (dk_at dksX7_predictRead_0 18 rfl rfl)
theorem dX7_predictRead_19 : decode cX7_predictRead 19 = .ok (.ldc2_w 277, 3) := dk_20 1 21 (dk_at dksX7_predictRead_0 19 rfl rfl)
theorem dX7_predictRead_22 : decode cX7_predictRead 22 = .ok (.invokestatic 68, 3) := dk_184 0 68 (dk_at dksX7_predictRead_1 0 rfl rfl)
theorem dX7_predictRead_25 : decode cX7_predictRead 25 = .ok (.ifCond .ne 7, 3) := dk_154 0 7 (dk_at dksX7_predictRead_1 3 rfl rfl)
theorem dX7_predictRead_28 : decode cX7_predictRead 28 = .ok (.iconst 1, 1) := dk_4 (dk_at dksX7_predictRead_1 6 rfl rfl)
theorem dX7_predictRead_29 : decode cX7_predictRead 29 = .ok (.goto 4, 3) := dk_167 0 4 (dk_at dksX7_predictRead_1 7 rfl rfl)
theorem dX7_predictRead_32 : decode cX7_predictRead 32 = .ok (.iconst 0, 1) := dk_3 (dk_at dksX7_predictRead_1 10 rfl rfl)
theorem dX7_predictRead_33 : decode cX7_predictRead 33 = .ok (.iconst 2, 1) := dk_5 (dk_at dksX7_predictRead_1 11 rfl rfl)
theorem dX7_predictRead_34 : decode cX7_predictRead 34 = .ok (.invokevirtual 72, 3) := dk_182 0 72 (dk_at dksX7_predictRead_1 12 rfl rfl)
theorem dX7_predictRead_37 : decode cX7_predictRead 37 = .ok (.ifCond .eq 5, 3) := dk_153 0 5 (dk_at dksX7_predictRead_1 15 rfl rfl)
theorem dX7_predictRead_40 : decode cX7_predictRead 40 = .ok (.iconst 0, 1) := dk_3 (dk_at dksX7_predictRead_1 18 rfl rfl)
theorem dX7_predictRead_41 : decode cX7_predictRead 41 = .ok (.ireturn, 1) := dk_172 (dk_at dksX7_predictRead_1 19 rfl rfl)
theorem dX7_predictRead_42 : decode cX7_predictRead 42 = .ok (.aload_n 0, 1) := dk_42 (dk_at dksX7_predictRead_1 20 rfl rfl)
theorem dX7_predictRead_43 : decode cX7_predictRead 43 = .ok (.getfield 10, 3) := dk_180 0 10 (dk_at dksX7_predictRead_1 21 rfl rfl)
theorem dX7_predictRead_46 : decode cX7_predictRead 46 = .ok (.iconst 0, 1) := dk_3 (dk_at dksX7_predictRead_2 0 rfl rfl)
theorem dX7_predictRead_47 : decode cX7_predictRead 47 = .ok (.iaload, 1) := dk_46 (dk_at dksX7_predictRead_2 1 rfl rfl)
theorem dX7_predictRead_48 : decode cX7_predictRead 48 = .ok (.iload_n 3, 1) := dk_29 (dk_at dksX7_predictRead_2 2 rfl rfl)
theorem dX7_predictRead_49 : decode cX7_predictRead 49 = .ok (.iadd, 1) := dk_96 (dk_at dksX7_predictRead_2 3 rfl rfl)
theorem dX7_predictRead_50 : decode cX7_predictRead 50 = .ok (.istore 4, 2) := dk_54 4 (dk_at dksX7_predictRead_2 4 rfl rfl)
theorem dX7_predictRead_52 : decode cX7_predictRead 52 = .ok (.iload 4, 2) := dk_21 4 (dk_at dksX7_predictRead_2 6 rfl rfl)
theorem dX7_predictRead_54 : decode cX7_predictRead 54 = .ok (.ldc_w 279, 3) := dk_19 1 23 (dk_at dksX7_predictRead_2 8 rfl rfl)
theorem dX7_predictRead_57 : decode cX7_predictRead 57 = .ok (.if_icmp .le 6, 3) := dk_164 0 6 (dk_at dksX7_predictRead_2 11 rfl rfl)
theorem dX7_predictRead_60 : decode cX7_predictRead 60 = .ok (.bipush (-5), 2) := dk_16 251 (dk_at dksX7_predictRead_2 14 rfl rfl)
theorem dX7_predictRead_62 : decode cX7_predictRead 62 = .ok (.ireturn, 1) := dk_172 (dk_at dksX7_predictRead_2 16 rfl rfl)
theorem dX7_predictRead_63 : decode cX7_predictRead 63 = .ok (.aload_n 0, 1) := dk_42 (dk_at dksX7_predictRead_2 17 rfl rfl)
theorem dX7_predictRead_64 : decode cX7_predictRead 64 = .ok (.invokevirtual 332, 3) := dk_182 1 76 (dk_at dksX7_predictRead_2 18 rfl rfl)
theorem dX7_predictRead_67 : decode cX7_predictRead 67 = .ok (.aload_n 0, 1) := dk_42 (dk_at dksX7_predictRead_2 21 rfl rfl)
theorem dX7_predictRead_68 : decode cX7_predictRead 68 = .ok (.iload 4, 2) := dk_21 4 (dk_at dksX7_predictRead_2 22 rfl rfl)
theorem dX7_predictRead_70 : decode cX7_predictRead 70 = .ok (.invokevirtual 280, 3) := dk_182 1 24 (dk_at dksX7_predictRead_3 0 rfl rfl)
theorem dX7_predictRead_73 : decode cX7_predictRead 73 = .ok (.aload_n 0, 1) := dk_42 (dk_at dksX7_predictRead_3 3 rfl rfl)
theorem dX7_predictRead_74 : decode cX7_predictRead 74 = .ok (.iload_n 1, 1) := dk_27 (dk_at dksX7_predictRead_3 4 rfl rfl)
theorem dX7_predictRead_75 : decode cX7_predictRead 75 = .ok (.invokevirtual 298, 3) := dk_182 1 42 (dk_at dksX7_predictRead_3 5 rfl rfl)
theorem dX7_predictRead_78 : decode cX7_predictRead 78 = .ok (.istore 5, 2) := dk_54 5 (dk_at dksX7_predictRead_3 8 rfl rfl)
theorem dX7_predictRead_80 : decode cX7_predictRead 80 = .ok (.iload 5, 2) := dk_21 5 (dk_at dksX7_predictRead_3 10 rfl rfl)
theorem dX7_predictRead_82 : decode cX7_predictRead 82 = .ok (.ifCond .ne 33, 3) := dk_154 0 33 (dk_at dksX7_predictRead_3 12 rfl rfl)
theorem dX7_predictRead_85 : decode cX7_predictRead 85 = .ok (.aload_n 0, 1) := dk_42 (dk_at dksX7_predictRead_3 15 rfl rfl)
theorem dX7_predictRead_86 : decode cX7_predictRead 86 = .ok (.iload_n 1, 1) := dk_27 (dk_at dksX7_predictRead_3 16 rfl rfl)
theorem dX7_predictRead_87 : decode cX7_predictRead 87 = .ok (.bipush 11, 2) := dk_16 11 (dk_at dksX7_predictRead_3 17 rfl rfl)
theorem dX7_predictRead_89 : decode cX7_predictRead 89 = .ok (.invokevirtual 152, 3) := dk_182 0 152 (dk_at dksX7_predictRead_3 19 rfl rfl)
theorem dX7_predictRead_92 : decode cX7_predictRead 92 = .ok (.iload_n 2, 1) := dk_28 (dk_at dksX7_predictRead_3 22 rfl rfl)
theorem dX7_predictRead_93 : decode cX7_predictRead 93 = .ok (.ishr, 1) := dk_122 (dk_at dksX7_predictRead_3 23 rfl rfl)
theorem dX7_predictRead_94 : decode cX7_predictRead 94 = .ok (.iconst 1, 1) := dk_4 (dk_at dksX7_predictRead_4 0 rfl rfl)
theorem dX7_predictRead_95 : decode cX7_predictRead 95 = .ok (.iand, 1) := dk_126 (dk_at dksX7_predictRead_4 1 rfl rfl)
theorem dX7_predictRead_96 : decode cX7_predictRead 96 = .ok (.ifCond .ne 8, 3) := dk_154 0 8 (dk_at dksX7_predictRead_4 2 rfl rfl)
theorem dX7_predictRead_99 : decode cX7_predictRead 99 = .ok (.bipush (-4), 2) := dk_16 252 (dk_at dksX7_predictRead_4 5 rfl rfl)
theorem dX7_predictRead_101 : decode cX7_predictRead 101 = .ok (.goto 12, 3) := dk_167 0 12 (dk_at dksX7_predictRead_4 7 rfl rfl)
theorem dX7_predictRead_104 : decode cX7_predictRead 104 = .ok (.aload_n 0, 1) := dk_42 (dk_at dksX7_predictRead_4 10 rfl rfl)
theorem dX7_predictRead_105 : decode cX7_predictRead 105 = .ok (.iload_n 1, 1) := dk_27 (dk_at dksX7_predictRead_4 11 rfl rfl)
theorem dX7_predictRead_106 : decode cX7_predictRead 106 = .ok (.bipush 12, 2) := dk_16 12 (dk_at dksX7_predictRead_4 12 rfl rfl)
theorem dX7_predictRead_108 : decode cX7_predictRead 108 = .ok (.iload_n 2, 1) := dk_28 (dk_at dksX7_predictRead_4 14 rfl rfl)
theorem dX7_predictRead_109 : decode cX7_predictRead 109 = .ok (.iadd, 1) := dk_96 (dk_at dksX7_predictRead_4 15 rfl rfl)
theorem dX7_predictRead_110 : decode cX7_predictRead 110 = .ok (.invokevirtual 152, 3) := dk_182 0 152 (dk_at dksX7_predictRead_4 16 rfl rfl)
theorem dX7_predictRead_113 : decode cX7_predictRead 113 = .ok (.istore 5, 2) := dk_54 5 (dk_at dksX7_predictRead_4 19 rfl rfl)
theorem dX7_predictRead_115 : decode cX7_predictRead 115 = .ok (.aload_n 0, 1) := dk_42 (dk_at dksX7_predictRead_4 21 rfl rfl)
theorem dX7_predictRead_116 : decode cX7_predictRead 116 = .ok (.invokevirtual 335, 3) := dk_182 1 79 (dk_at dksX7_predictRead_5 0 rfl rfl)
theorem dX7_predictRead_119 : decode cX7_predictRead 119 = .ok (.iload 5, 2) := dk_21 5 (dk_at dksX7_predictRead_5 3 rfl rfl)
theorem dX7_predictRead_121 : decode cX7_predictRead 121 = .ok (.ireturn, 1) := dk_172 (dk_at dksX7_predictRead_5 5 rfl rfl)
abbrev cX7_saveSnapshot : ByteArray := prog_22_method_125_code
def yX7_saveSnapshot : MethodName := ⟨RX7, "saveSnapshot", "(I)I"⟩
def dkwX7_saveSnapshot_3 : List UInt8 := [180, 0, 10, 3, 46, 172]
abbrev dktX7_saveSnapshot_3 : List UInt8 := dkwX7_saveSnapshot_3 ++ []
def dkwX7_saveSnapshot_2 : List UInt8 := [28, 96, 42, 180, 0, 10, 28, 46, 79, 132, 2, 1, 167, 255, 230, 42, 180, 0, 51, 27, 4, 84, 42]
abbrev dktX7_saveSnapshot_2 : List UInt8 := dkwX7_saveSnapshot_2 ++ dktX7_saveSnapshot_3
def dkwX7_saveSnapshot_1 : List UInt8 := [182, 0, 72, 153, 0, 5, 3, 172, 3, 61, 28, 18, 9, 162, 0, 26, 42, 180, 0, 48, 18, 9, 27, 104]
abbrev dktX7_saveSnapshot_1 : List UInt8 := dkwX7_saveSnapshot_1 ++ dktX7_saveSnapshot_2
def dkwX7_saveSnapshot_0 : List UInt8 := [42, 3, 181, 0, 65, 42, 27, 133, 9, 10, 184, 0, 68, 154, 0, 7, 4, 167, 0, 4, 3, 4]
abbrev dktX7_saveSnapshot_0 : List UInt8 := dkwX7_saveSnapshot_0 ++ dktX7_saveSnapshot_1
theorem dksX7_saveSnapshot_0 : cX7_saveSnapshot.data.toList.drop 0 = dktX7_saveSnapshot_0 := by decide +kernel
theorem dksX7_saveSnapshot_1 : cX7_saveSnapshot.data.toList.drop 22 = dktX7_saveSnapshot_1 := dk_seg dksX7_saveSnapshot_0 22 rfl rfl
theorem dksX7_saveSnapshot_2 : cX7_saveSnapshot.data.toList.drop 46 = dktX7_saveSnapshot_2 := dk_seg dksX7_saveSnapshot_1 24 rfl rfl
theorem dksX7_saveSnapshot_3 : cX7_saveSnapshot.data.toList.drop 69 = dktX7_saveSnapshot_3 := dk_seg dksX7_saveSnapshot_2 23 rfl rfl
theorem dX7_saveSnapshot_0 : decode cX7_saveSnapshot 0 = .ok (.aload_n 0, 1) := dk_42 (dk_at dksX7_saveSnapshot_0 0 rfl rfl)
theorem dX7_saveSnapshot_1 : decode cX7_saveSnapshot 1 = .ok (.iconst 0, 1) := dk_3 (dk_at dksX7_saveSnapshot_0 1 rfl rfl)
theorem dX7_saveSnapshot_2 : decode cX7_saveSnapshot 2 = .ok (.putfield 65, 3) := dk_181 0 65 (dk_at dksX7_saveSnapshot_0 2 rfl rfl)
theorem dX7_saveSnapshot_5 : decode cX7_saveSnapshot 5 = .ok (.aload_n 0, 1) := dk_42 (dk_at dksX7_saveSnapshot_0 5 rfl rfl)
theorem dX7_saveSnapshot_6 : decode cX7_saveSnapshot 6 = .ok (.iload_n 1, 1) := dk_27 (dk_at dksX7_saveSnapshot_0 6 rfl rfl)
theorem dX7_saveSnapshot_7 : decode cX7_saveSnapshot 7 = .ok (.i2l, 1) := dk_133 (dk_at dksX7_saveSnapshot_0 7 rfl rfl)
theorem dX7_saveSnapshot_8 : decode cX7_saveSnapshot 8 = .ok (.lconst 0, 1) := dk_9 (dk_at dksX7_saveSnapshot_0 8 rfl rfl)
theorem dX7_saveSnapshot_9 : decode cX7_saveSnapshot 9 = .ok (.lconst 1, 1) := dk_10 (dk_at dksX7_saveSnapshot_0 9 rfl rfl)
theorem dX7_saveSnapshot_10 : decode cX7_saveSnapshot 10 = .ok (.invokestatic 68, 3) := dk_184 0 68 (dk_at dksX7_saveSnapshot_0 10 rfl rfl)
theorem dX7_saveSnapshot_13 : decode cX7_saveSnapshot 13 = .ok (.ifCond .ne 7, 3) := dk_154 0 7 (dk_at dksX7_saveSnapshot_0 13 rfl rfl)
theorem dX7_saveSnapshot_16 : decode cX7_saveSnapshot 16 = .ok (.iconst 1, 1) := dk_4 (dk_at dksX7_saveSnapshot_0 16 rfl rfl)
theorem dX7_saveSnapshot_17 : decode cX7_saveSnapshot 17 = .ok (.goto 4, 3) := dk_167 0 4 (dk_at dksX7_saveSnapshot_0 17 rfl rfl)
theorem dX7_saveSnapshot_20 : decode cX7_saveSnapshot 20 = .ok (.iconst 0, 1) := dk_3 (dk_at dksX7_saveSnapshot_0 20 rfl rfl)
theorem dX7_saveSnapshot_21 : decode cX7_saveSnapshot 21 = .ok (.iconst 1, 1) := dk_4 (dk_at dksX7_saveSnapshot_0 21 rfl rfl)
theorem dX7_saveSnapshot_22 : decode cX7_saveSnapshot 22 = .ok (.invokevirtual 72, 3) := dk_182 0 72 (dk_at dksX7_saveSnapshot_1 0 rfl rfl)
theorem dX7_saveSnapshot_25 : decode cX7_saveSnapshot 25 = .ok (.ifCond .eq 5, 3) := dk_153 0 5 (dk_at dksX7_saveSnapshot_1 3 rfl rfl)
theorem dX7_saveSnapshot_28 : decode cX7_saveSnapshot 28 = .ok (.iconst 0, 1) := dk_3 (dk_at dksX7_saveSnapshot_1 6 rfl rfl)
theorem dX7_saveSnapshot_29 : decode cX7_saveSnapshot 29 = .ok (.ireturn, 1) := dk_172 (dk_at dksX7_saveSnapshot_1 7 rfl rfl)
theorem dX7_saveSnapshot_30 : decode cX7_saveSnapshot 30 = .ok (.iconst 0, 1) := dk_3 (dk_at dksX7_saveSnapshot_1 8 rfl rfl)
theorem dX7_saveSnapshot_31 : decode cX7_saveSnapshot 31 = .ok (.istore_n 2, 1) := dk_61 (dk_at dksX7_saveSnapshot_1 9 rfl rfl)
theorem dX7_saveSnapshot_32 : decode cX7_saveSnapshot 32 = .ok (.iload_n 2, 1) := dk_28 (dk_at dksX7_saveSnapshot_1 10 rfl rfl)
theorem dX7_saveSnapshot_33 : decode cX7_saveSnapshot 33 = .ok (.ldc 9, 2) := dk_18 9 (dk_at dksX7_saveSnapshot_1 11 rfl rfl)
theorem dX7_saveSnapshot_35 : decode cX7_saveSnapshot 35 = .ok (.if_icmp .ge 26, 3) := dk_162 0 26 (dk_at dksX7_saveSnapshot_1 13 rfl rfl)
theorem dX7_saveSnapshot_38 : decode cX7_saveSnapshot 38 = .ok (.aload_n 0, 1) := dk_42 (dk_at dksX7_saveSnapshot_1 16 rfl rfl)
theorem dX7_saveSnapshot_39 : decode cX7_saveSnapshot 39 = .ok (.getfield 48, 3) := dk_180 0 48 (dk_at dksX7_saveSnapshot_1 17 rfl rfl)
theorem dX7_saveSnapshot_42 : decode cX7_saveSnapshot 42 = .ok (.ldc 9, 2) := dk_18 9 (dk_at dksX7_saveSnapshot_1 20 rfl rfl)
theorem dX7_saveSnapshot_44 : decode cX7_saveSnapshot 44 = .ok (.iload_n 1, 1) := dk_27 (dk_at dksX7_saveSnapshot_1 22 rfl rfl)
theorem dX7_saveSnapshot_45 : decode cX7_saveSnapshot 45 = .ok (.imul, 1) := dk_104 (dk_at dksX7_saveSnapshot_1 23 rfl rfl)
theorem dX7_saveSnapshot_46 : decode cX7_saveSnapshot 46 = .ok (.iload_n 2, 1) := dk_28 (dk_at dksX7_saveSnapshot_2 0 rfl rfl)
theorem dX7_saveSnapshot_47 : decode cX7_saveSnapshot 47 = .ok (.iadd, 1) := dk_96 (dk_at dksX7_saveSnapshot_2 1 rfl rfl)
theorem dX7_saveSnapshot_48 : decode cX7_saveSnapshot 48 = .ok (.aload_n 0, 1) := dk_42 (dk_at dksX7_saveSnapshot_2 2 rfl rfl)
theorem dX7_saveSnapshot_49 : decode cX7_saveSnapshot 49 = .ok (.getfield 10, 3) := dk_180 0 10 (dk_at dksX7_saveSnapshot_2 3 rfl rfl)
theorem dX7_saveSnapshot_52 : decode cX7_saveSnapshot 52 = .ok (.iload_n 2, 1) := dk_28 (dk_at dksX7_saveSnapshot_2 6 rfl rfl)
theorem dX7_saveSnapshot_53 : decode cX7_saveSnapshot 53 = .ok (.iaload, 1) := dk_46 (dk_at dksX7_saveSnapshot_2 7 rfl rfl)
theorem dX7_saveSnapshot_54 : decode cX7_saveSnapshot 54 = .ok (.iastore, 1) := dk_79 (dk_at dksX7_saveSnapshot_2 8 rfl rfl)
theorem dX7_saveSnapshot_55 : decode cX7_saveSnapshot 55 = .ok (.iinc 2 1, 3) := dk_132 2 1 (dk_at dksX7_saveSnapshot_2 9 rfl rfl)
theorem dX7_saveSnapshot_58 : decode cX7_saveSnapshot 58 = .ok (.goto (-26), 3) := dk_167 255 230 (dk_at dksX7_saveSnapshot_2 12 rfl rfl)
theorem dX7_saveSnapshot_61 : decode cX7_saveSnapshot 61 = .ok (.aload_n 0, 1) := dk_42 (dk_at dksX7_saveSnapshot_2 15 rfl rfl)
theorem dX7_saveSnapshot_62 : decode cX7_saveSnapshot 62 = .ok (.getfield 51, 3) := dk_180 0 51 (dk_at dksX7_saveSnapshot_2 16 rfl rfl)
theorem dX7_saveSnapshot_65 : decode cX7_saveSnapshot 65 = .ok (.iload_n 1, 1) := dk_27 (dk_at dksX7_saveSnapshot_2 19 rfl rfl)
theorem dX7_saveSnapshot_66 : decode cX7_saveSnapshot 66 = .ok (.iconst 1, 1) := dk_4 (dk_at dksX7_saveSnapshot_2 20 rfl rfl)
theorem dX7_saveSnapshot_67 : decode cX7_saveSnapshot 67 = .ok (.bastore, 1) := dk_84 (dk_at dksX7_saveSnapshot_2 21 rfl rfl)
theorem dX7_saveSnapshot_68 : decode cX7_saveSnapshot 68 = .ok (.aload_n 0, 1) := dk_42 (dk_at dksX7_saveSnapshot_2 22 rfl rfl)
theorem dX7_saveSnapshot_69 : decode cX7_saveSnapshot 69 = .ok (.getfield 10, 3) := dk_180 0 10 (dk_at dksX7_saveSnapshot_3 0 rfl rfl)
theorem dX7_saveSnapshot_72 : decode cX7_saveSnapshot 72 = .ok (.iconst 0, 1) := dk_3 (dk_at dksX7_saveSnapshot_3 3 rfl rfl)
theorem dX7_saveSnapshot_73 : decode cX7_saveSnapshot 73 = .ok (.iaload, 1) := dk_46 (dk_at dksX7_saveSnapshot_3 4 rfl rfl)
theorem dX7_saveSnapshot_74 : decode cX7_saveSnapshot 74 = .ok (.ireturn, 1) := dk_172 (dk_at dksX7_saveSnapshot_3 5 rfl rfl)
abbrev cX7_restoreSnapshot : ByteArray := prog_22_method_126_code
def yX7_restoreSnapshot : MethodName := ⟨RX7, "restoreSnapshot", "(I)I"⟩
def dkwX7_restoreSnapshot_3 : List UInt8 := [132, 2, 1, 167, 255, 230, 42, 180, 0, 10, 3, 46, 172]
abbrev dktX7_restoreSnapshot_3 : List UInt8 := dkwX7_restoreSnapshot_3 ++ []
def dkwX7_restoreSnapshot_2 : List UInt8 := [18, 9, 162, 0, 26, 42, 180, 0, 10, 28, 42, 180, 0, 48, 18, 9, 27, 104, 28, 96, 46, 79]
abbrev dktX7_restoreSnapshot_2 : List UInt8 := dkwX7_restoreSnapshot_2 ++ dktX7_restoreSnapshot_3
def dkwX7_restoreSnapshot_1 : List UInt8 := [182, 0, 72, 153, 0, 5, 3, 172, 42, 180, 0, 51, 27, 51, 154, 0, 6, 16, 252, 172, 3, 61, 28]
abbrev dktX7_restoreSnapshot_1 : List UInt8 := dkwX7_restoreSnapshot_1 ++ dktX7_restoreSnapshot_2
def dkwX7_restoreSnapshot_0 : List UInt8 := [42, 3, 181, 0, 65, 42, 27, 133, 9, 10, 184, 0, 68, 154, 0, 7, 4, 167, 0, 4, 3, 4]
abbrev dktX7_restoreSnapshot_0 : List UInt8 := dkwX7_restoreSnapshot_0 ++ dktX7_restoreSnapshot_1
theorem dksX7_restoreSnapshot_0 : cX7_restoreSnapshot.data.toList.drop 0 = dktX7_restoreSnapshot_0 := by decide +kernel
theorem dksX7_restoreSnapshot_1 : cX7_restoreSnapshot.data.toList.drop 22 = dktX7_restoreSnapshot_1 := dk_seg dksX7_restoreSnapshot_0 22 rfl rfl
theorem dksX7_restoreSnapshot_2 : cX7_restoreSnapshot.data.toList.drop 45 = dktX7_restoreSnapshot_2 := dk_seg dksX7_restoreSnapshot_1 23 rfl rfl
theorem dksX7_restoreSnapshot_3 : cX7_restoreSnapshot.data.toList.drop 67 = dktX7_restoreSnapshot_3 := dk_seg dksX7_restoreSnapshot_2 22 rfl rfl
theorem dX7_restoreSnapshot_0 : decode cX7_restoreSnapshot 0 = .ok (.aload_n 0, 1) := dk_42 (dk_at dksX7_restoreSnapshot_0 0 rfl rfl)
theorem dX7_restoreSnapshot_1 : decode cX7_restoreSnapshot 1 = .ok (.iconst 0, 1) := dk_3 (dk_at dksX7_restoreSnapshot_0 1 rfl rfl)
theorem dX7_restoreSnapshot_2 : decode cX7_restoreSnapshot 2 = .ok (.putfield 65, 3) := dk_181 0 65 (dk_at dksX7_restoreSnapshot_0 2 rfl rfl)
theorem dX7_restoreSnapshot_5 : decode cX7_restoreSnapshot 5 = .ok (.aload_n 0, 1) := dk_42 (dk_at dksX7_restoreSnapshot_0 5 rfl rfl)
theorem dX7_restoreSnapshot_6 : decode cX7_restoreSnapshot 6 = .ok (.iload_n 1, 1) := dk_27 (dk_at dksX7_restoreSnapshot_0 6 rfl rfl)
theorem dX7_restoreSnapshot_7 : decode cX7_restoreSnapshot 7 = .ok (.i2l, 1) := dk_133 (dk_at dksX7_restoreSnapshot_0 7 rfl rfl)
theorem dX7_restoreSnapshot_8 : decode cX7_restoreSnapshot 8 = .ok (.lconst 0, 1) := dk_9 (dk_at dksX7_restoreSnapshot_0 8 rfl rfl)
theorem dX7_restoreSnapshot_9 : decode cX7_restoreSnapshot 9 = .ok (.lconst 1, 1) := dk_10 (dk_at dksX7_restoreSnapshot_0 9 rfl rfl)
theorem dX7_restoreSnapshot_10 : decode cX7_restoreSnapshot 10 = .ok (.invokestatic 68, 3) := dk_184 0 68 (dk_at dksX7_restoreSnapshot_0 10 rfl rfl)
theorem dX7_restoreSnapshot_13 : decode cX7_restoreSnapshot 13 = .ok (.ifCond .ne 7, 3) := dk_154 0 7 (dk_at dksX7_restoreSnapshot_0 13 rfl rfl)
theorem dX7_restoreSnapshot_16 : decode cX7_restoreSnapshot 16 = .ok (.iconst 1, 1) := dk_4 (dk_at dksX7_restoreSnapshot_0 16 rfl rfl)
theorem dX7_restoreSnapshot_17 : decode cX7_restoreSnapshot 17 = .ok (.goto 4, 3) := dk_167 0 4 (dk_at dksX7_restoreSnapshot_0 17 rfl rfl)
theorem dX7_restoreSnapshot_20 : decode cX7_restoreSnapshot 20 = .ok (.iconst 0, 1) := dk_3 (dk_at dksX7_restoreSnapshot_0 20 rfl rfl)
theorem dX7_restoreSnapshot_21 : decode cX7_restoreSnapshot 21 = .ok (.iconst 1, 1) := dk_4 (dk_at dksX7_restoreSnapshot_0 21 rfl rfl)
theorem dX7_restoreSnapshot_22 : decode cX7_restoreSnapshot 22 = .ok (.invokevirtual 72, 3) := dk_182 0 72 (dk_at dksX7_restoreSnapshot_1 0 rfl rfl)
theorem dX7_restoreSnapshot_25 : decode cX7_restoreSnapshot 25 = .ok (.ifCond .eq 5, 3) := dk_153 0 5 (dk_at dksX7_restoreSnapshot_1 3 rfl rfl)
theorem dX7_restoreSnapshot_28 : decode cX7_restoreSnapshot 28 = .ok (.iconst 0, 1) := dk_3 (dk_at dksX7_restoreSnapshot_1 6 rfl rfl)
theorem dX7_restoreSnapshot_29 : decode cX7_restoreSnapshot 29 = .ok (.ireturn, 1) := dk_172 (dk_at dksX7_restoreSnapshot_1 7 rfl rfl)
theorem dX7_restoreSnapshot_30 : decode cX7_restoreSnapshot 30 = .ok (.aload_n 0, 1) := dk_42 (dk_at dksX7_restoreSnapshot_1 8 rfl rfl)
theorem dX7_restoreSnapshot_31 : decode cX7_restoreSnapshot 31 = .ok (.getfield 51, 3) := dk_180 0 51 (dk_at dksX7_restoreSnapshot_1 9 rfl rfl)
theorem dX7_restoreSnapshot_34 : decode cX7_restoreSnapshot 34 = .ok (.iload_n 1, 1) := dk_27 (dk_at dksX7_restoreSnapshot_1 12 rfl rfl)
theorem dX7_restoreSnapshot_35 : decode cX7_restoreSnapshot 35 = .ok (.baload, 1) := dk_51 (dk_at dksX7_restoreSnapshot_1 13 rfl rfl)
theorem dX7_restoreSnapshot_36 : decode cX7_restoreSnapshot 36 = .ok (.ifCond .ne 6, 3) := dk_154 0 6 (dk_at dksX7_restoreSnapshot_1 14 rfl rfl)
theorem dX7_restoreSnapshot_39 : decode cX7_restoreSnapshot 39 = .ok (.bipush (-4), 2) := dk_16 252 (dk_at dksX7_restoreSnapshot_1 17 rfl rfl)
theorem dX7_restoreSnapshot_41 : decode cX7_restoreSnapshot 41 = .ok (.ireturn, 1) := dk_172 (dk_at dksX7_restoreSnapshot_1 19 rfl rfl)
theorem dX7_restoreSnapshot_42 : decode cX7_restoreSnapshot 42 = .ok (.iconst 0, 1) := dk_3 (dk_at dksX7_restoreSnapshot_1 20 rfl rfl)
theorem dX7_restoreSnapshot_43 : decode cX7_restoreSnapshot 43 = .ok (.istore_n 2, 1) := dk_61 (dk_at dksX7_restoreSnapshot_1 21 rfl rfl)
theorem dX7_restoreSnapshot_44 : decode cX7_restoreSnapshot 44 = .ok (.iload_n 2, 1) := dk_28 (dk_at dksX7_restoreSnapshot_1 22 rfl rfl)
theorem dX7_restoreSnapshot_45 : decode cX7_restoreSnapshot 45 = .ok (.ldc 9, 2) := dk_18 9 (dk_at dksX7_restoreSnapshot_2 0 rfl rfl)
theorem dX7_restoreSnapshot_47 : decode cX7_restoreSnapshot 47 = .ok (.if_icmp .ge 26, 3) := dk_162 0 26 (dk_at dksX7_restoreSnapshot_2 2 rfl rfl)
theorem dX7_restoreSnapshot_50 : decode cX7_restoreSnapshot 50 = .ok (.aload_n 0, 1) := dk_42 (dk_at dksX7_restoreSnapshot_2 5 rfl rfl)
theorem dX7_restoreSnapshot_51 : decode cX7_restoreSnapshot 51 = .ok (.getfield 10, 3) := dk_180 0 10 (dk_at dksX7_restoreSnapshot_2 6 rfl rfl)
theorem dX7_restoreSnapshot_54 : decode cX7_restoreSnapshot 54 = .ok (.iload_n 2, 1) := dk_28 (dk_at dksX7_restoreSnapshot_2 9 rfl rfl)
theorem dX7_restoreSnapshot_55 : decode cX7_restoreSnapshot 55 = .ok (.aload_n 0, 1) := dk_42 (dk_at dksX7_restoreSnapshot_2 10 rfl rfl)
theorem dX7_restoreSnapshot_56 : decode cX7_restoreSnapshot 56 = .ok (.getfield 48, 3) := dk_180 0 48 (dk_at dksX7_restoreSnapshot_2 11 rfl rfl)
theorem dX7_restoreSnapshot_59 : decode cX7_restoreSnapshot 59 = .ok (.ldc 9, 2) := dk_18 9 (dk_at dksX7_restoreSnapshot_2 14 rfl rfl)
theorem dX7_restoreSnapshot_61 : decode cX7_restoreSnapshot 61 = .ok (.iload_n 1, 1) := dk_27 (dk_at dksX7_restoreSnapshot_2 16 rfl rfl)
theorem dX7_restoreSnapshot_62 : decode cX7_restoreSnapshot 62 = .ok (.imul, 1) := dk_104 (dk_at dksX7_restoreSnapshot_2 17 rfl rfl)
theorem dX7_restoreSnapshot_63 : decode cX7_restoreSnapshot 63 = .ok (.iload_n 2, 1) := dk_28 (dk_at dksX7_restoreSnapshot_2 18 rfl rfl)
theorem dX7_restoreSnapshot_64 : decode cX7_restoreSnapshot 64 = .ok (.iadd, 1) := dk_96 (dk_at dksX7_restoreSnapshot_2 19 rfl rfl)
theorem dX7_restoreSnapshot_65 : decode cX7_restoreSnapshot 65 = .ok (.iaload, 1) := dk_46 (dk_at dksX7_restoreSnapshot_2 20 rfl rfl)
theorem dX7_restoreSnapshot_66 : decode cX7_restoreSnapshot 66 = .ok (.iastore, 1) := dk_79 (dk_at dksX7_restoreSnapshot_2 21 rfl rfl)
theorem dX7_restoreSnapshot_67 : decode cX7_restoreSnapshot 67 = .ok (.iinc 2 1, 3) := dk_132 2 1 (dk_at dksX7_restoreSnapshot_3 0 rfl rfl)
theorem dX7_restoreSnapshot_70 : decode cX7_restoreSnapshot 70 = .ok (.goto (-26), 3) := dk_167 255 230 (dk_at dksX7_restoreSnapshot_3 3 rfl rfl)
theorem dX7_restoreSnapshot_73 : decode cX7_restoreSnapshot 73 = .ok (.aload_n 0, 1) := dk_42 (dk_at dksX7_restoreSnapshot_3 6 rfl rfl)
theorem dX7_restoreSnapshot_74 : decode cX7_restoreSnapshot 74 = .ok (.getfield 10, 3) := dk_180 0 10 (dk_at dksX7_restoreSnapshot_3 7 rfl rfl)
theorem dX7_restoreSnapshot_77 : decode cX7_restoreSnapshot 77 = .ok (.iconst 0, 1) := dk_3 (dk_at dksX7_restoreSnapshot_3 10 rfl rfl)
theorem dX7_restoreSnapshot_78 : decode cX7_restoreSnapshot 78 = .ok (.iaload, 1) := dk_46 (dk_at dksX7_restoreSnapshot_3 11 rfl rfl)
theorem dX7_restoreSnapshot_79 : decode cX7_restoreSnapshot 79 = .ok (.ireturn, 1) := dk_172 (dk_at dksX7_restoreSnapshot_3 12 rfl rfl)
theorem q117 : (Jvm.Cond.initialized "LeaderLeasesModel") ∈ lw_all := lw_g (lw_at lw_m1 28 rfl) rfl
theorem q617 : (Jvm.Cond.selects "LeaderLeasesModel" ({ cls := "java/lang/Object", name := "getClass", desc := "()Ljava/lang/Class;" } : Jvm.MethodName) ({ cls := "java/lang/Object", name := "getClass", desc := "()Ljava/lang/Class;" } : Jvm.MethodName)) ∈ lw_all := lw_g (lw_at lw_m3 48 rfl) rfl
theorem q1028 : (Jvm.Cond.selects "LeaderLeasesModel" ({ cls := "java/lang/Object", name := "equals", desc := "(Ljava/lang/Object;)Z" } : Jvm.MethodName) ({ cls := "java/lang/Object", name := "equals", desc := "(Ljava/lang/Object;)Z" } : Jvm.MethodName)) ∈ lw_all := lw_g (lw_at lw_m4 219 rfl) rfl
theorem q2174 : (Jvm.Cond.instantiable "LeaderLeasesModel" (18 : Nat)) ∈ lw_all := lw_g (lw_at lw_m9 165 rfl) rfl
theorem q2176 : (Jvm.Cond.instanceMethod ({ cls := "LeaderLeasesModel", name := "<init>", desc := "()V" } : Jvm.MethodName)) ∈ lw_all := lw_g (lw_at lw_m9 167 rfl) rfl
theorem q2177 : (Jvm.Cond.code ({ cls := "LeaderLeasesModel", name := "<init>", desc := "()V" } : Jvm.MethodName) prog_22_method_1_code (1 : Nat) (Option.none : Option Jvm.ClassFile.FieldType)) ∈ lw_all := lw_g (lw_at lw_m9 168 rfl) rfl
theorem q2178 : (Jvm.Cond.methodLink "LeaderLeasesModel" (3 : Nat) ({ cls := "java/lang/Object", name := "<init>", desc := "()V" } : Jvm.MethodName)) ∈ lw_all := lw_g (lw_at lw_m9 169 rfl) rfl
theorem q2179 : (Jvm.Cond.constant "LeaderLeasesModel" (9 : Nat) (73136 : Int32)) ∈ lw_all := lw_g (lw_at lw_m9 170 rfl) rfl
theorem q2180 : (Jvm.Cond.classLink "LeaderLeasesModel" (20 : Nat) "java/lang/String") ∈ lw_all := lw_g (lw_at lw_m9 171 rfl) rfl
theorem q2182 : (Jvm.Cond.stringRef "LeaderLeasesModel" (22 : Nat) "server") ∈ lw_tbl := lw_at lw_m9 173 rfl
theorem q2183 : (Jvm.Cond.stringRef "LeaderLeasesModel" (24 : Nat) "node") ∈ lw_tbl := lw_at lw_m9 174 rfl
theorem q2184 : (Jvm.Cond.stringRef "LeaderLeasesModel" (26 : Nat) "lease") ∈ lw_tbl := lw_at lw_m9 175 rfl
theorem q2185 : (Jvm.Cond.stringRef "LeaderLeasesModel" (28 : Nat) "renew") ∈ lw_tbl := lw_at lw_m9 176 rfl
theorem q2186 : (Jvm.Cond.stringRef "LeaderLeasesModel" (30 : Nat) "retry") ∈ lw_tbl := lw_at lw_m9 177 rfl
theorem q2187 : (Jvm.Cond.stringRef "LeaderLeasesModel" (32 : Nat) "jitter") ∈ lw_tbl := lw_at lw_m9 178 rfl
theorem q2188 : (Jvm.Cond.stringRef "LeaderLeasesModel" (34 : Nat) "seed") ∈ lw_tbl := lw_at lw_m9 179 rfl
theorem q2189 : (Jvm.Cond.constant "LeaderLeasesModel" (47 : Nat) (146272 : Int32)) ∈ lw_all := lw_g (lw_at lw_m9 180 rfl) rfl
theorem q2190 : (Jvm.Cond.methodLink "LeaderLeasesModel" (55 : Nat) ({ cls := "LeaderLeasesModel", name := "beginsRead", desc := "()V" } : Jvm.MethodName)) ∈ lw_all := lw_g (lw_at lw_m9 181 rfl) rfl
theorem q2191 : (Jvm.Cond.privateMethod ({ cls := "LeaderLeasesModel", name := "beginsRead", desc := "()V" } : Jvm.MethodName)) ∈ lw_tbl := lw_at lw_m9 182 rfl
theorem q2192 : (Jvm.Cond.instanceMethod ({ cls := "LeaderLeasesModel", name := "beginsRead", desc := "()V" } : Jvm.MethodName)) ∈ lw_all := lw_g (lw_at lw_m9 183 rfl) rfl
theorem q2193 : (Jvm.Cond.code ({ cls := "LeaderLeasesModel", name := "beginsRead", desc := "()V" } : Jvm.MethodName) prog_22_method_9_code (2 : Nat) (Option.none : Option Jvm.ClassFile.FieldType)) ∈ lw_all := lw_g (lw_at lw_m9 184 rfl) rfl
theorem q2194 : (Jvm.Cond.methodLink "LeaderLeasesModel" (58 : Nat) ({ cls := "LeaderLeasesModel", name := "readNode", desc := "(III)V" } : Jvm.MethodName)) ∈ lw_all := lw_g (lw_at lw_m9 185 rfl) rfl
theorem q2195 : (Jvm.Cond.privateMethod ({ cls := "LeaderLeasesModel", name := "readNode", desc := "(III)V" } : Jvm.MethodName)) ∈ lw_tbl := lw_at lw_m9 186 rfl
theorem q2196 : (Jvm.Cond.instanceMethod ({ cls := "LeaderLeasesModel", name := "readNode", desc := "(III)V" } : Jvm.MethodName)) ∈ lw_all := lw_g (lw_at lw_m9 187 rfl) rfl
theorem q2197 : (Jvm.Cond.code ({ cls := "LeaderLeasesModel", name := "readNode", desc := "(III)V" } : Jvm.MethodName) prog_22_method_10_code (5 : Nat) (Option.none : Option Jvm.ClassFile.FieldType)) ∈ lw_all := lw_g (lw_at lw_m9 188 rfl) rfl
theorem q2198 : (Jvm.Cond.methodLink "LeaderLeasesModel" (62 : Nat) ({ cls := "LeaderLeasesModel", name := "takesRead", desc := "()V" } : Jvm.MethodName)) ∈ lw_all := lw_g (lw_at lw_m9 189 rfl) rfl
theorem q2199 : (Jvm.Cond.privateMethod ({ cls := "LeaderLeasesModel", name := "takesRead", desc := "()V" } : Jvm.MethodName)) ∈ lw_tbl := lw_at lw_m9 190 rfl
theorem q2200 : (Jvm.Cond.instanceMethod ({ cls := "LeaderLeasesModel", name := "takesRead", desc := "()V" } : Jvm.MethodName)) ∈ lw_all := lw_g (lw_at lw_m9 191 rfl) rfl
theorem q2201 : (Jvm.Cond.code ({ cls := "LeaderLeasesModel", name := "takesRead", desc := "()V" } : Jvm.MethodName) prog_22_method_11_code (2 : Nat) (Option.none : Option Jvm.ClassFile.FieldType)) ∈ lw_all := lw_g (lw_at lw_m9 192 rfl) rfl
theorem q2202 : (Jvm.Cond.fieldLink "LeaderLeasesModel" (10 : Nat) "LeaderLeasesModel" "w" "[I") ∈ lw_all := lw_g (lw_at lw_m9 193 rfl) rfl
theorem q2203 : (Jvm.Cond.fieldLink "LeaderLeasesModel" (65 : Nat) "LeaderLeasesModel" "thrown" "I") ∈ lw_all := lw_g (lw_at lw_m9 194 rfl) rfl
theorem q2204 : (Jvm.Cond.fieldLink "LeaderLeasesModel" (14 : Nat) "LeaderLeasesModel" "buffer" "[I") ∈ lw_all := lw_g (lw_at lw_m9 195 rfl) rfl
theorem q2205 : (Jvm.Cond.fieldLink "LeaderLeasesModel" (78 : Nat) "LeaderLeasesModel" "length" "I") ∈ lw_all := lw_g (lw_at lw_m9 196 rfl) rfl
theorem q2206 : (Jvm.Cond.fieldLink "LeaderLeasesModel" (81 : Nat) "LeaderLeasesModel" "point" "I") ∈ lw_all := lw_g (lw_at lw_m9 197 rfl) rfl
theorem q2207 : (Jvm.Cond.fieldLink "LeaderLeasesModel" (88 : Nat) "LeaderLeasesModel" "begin" "I") ∈ lw_all := lw_g (lw_at lw_m9 198 rfl) rfl
theorem q2208 : (Jvm.Cond.fieldLink "LeaderLeasesModel" (94 : Nat) "LeaderLeasesModel" "wrong" "I") ∈ lw_all := lw_g (lw_at lw_m9 199 rfl) rfl
theorem q2209 : (Jvm.Cond.fieldLink "LeaderLeasesModel" (91 : Nat) "LeaderLeasesModel" "wrongKind" "I") ∈ lw_all := lw_g (lw_at lw_m9 200 rfl) rfl
theorem q2210 : (Jvm.Cond.fieldLink "LeaderLeasesModel" (147 : Nat) "LeaderLeasesModel" "loadError" "I") ∈ lw_all := lw_g (lw_at lw_m9 201 rfl) rfl
theorem q2211 : (Jvm.Cond.fieldLink "LeaderLeasesModel" (131 : Nat) "LeaderLeasesModel" "met" "I") ∈ lw_all := lw_g (lw_at lw_m9 202 rfl) rfl
theorem q2212 : (Jvm.Cond.fieldLink "LeaderLeasesModel" (17 : Nat) "LeaderLeasesModel" "read" "[I") ∈ lw_all := lw_g (lw_at lw_m9 203 rfl) rfl
theorem q2213 : (Jvm.Cond.fieldLink "LeaderLeasesModel" (36 : Nat) "LeaderLeasesModel" "words" "[Ljava/lang/String;") ∈ lw_all := lw_g (lw_at lw_m9 204 rfl) rfl
theorem q2214 : (Jvm.Cond.fieldLink "LeaderLeasesModel" (40 : Nat) "LeaderLeasesModel" "countedNode" "I") ∈ lw_all := lw_g (lw_at lw_m9 205 rfl) rfl
theorem q2215 : (Jvm.Cond.fieldLink "LeaderLeasesModel" (186 : Nat) "LeaderLeasesModel" "counted" "I") ∈ lw_all := lw_g (lw_at lw_m9 206 rfl) rfl
theorem q2216 : (Jvm.Cond.fieldLink "LeaderLeasesModel" (232 : Nat) "LeaderLeasesModel" "outcome" "I") ∈ lw_all := lw_g (lw_at lw_m9 207 rfl) rfl
theorem q2217 : (Jvm.Cond.fieldLink "LeaderLeasesModel" (44 : Nat) "LeaderLeasesModel" "aside" "[I") ∈ lw_all := lw_g (lw_at lw_m9 208 rfl) rfl
theorem q2218 : (Jvm.Cond.fieldLink "LeaderLeasesModel" (48 : Nat) "LeaderLeasesModel" "kept" "[I") ∈ lw_all := lw_g (lw_at lw_m9 209 rfl) rfl
theorem q2219 : (Jvm.Cond.fieldLink "LeaderLeasesModel" (51 : Nat) "LeaderLeasesModel" "isKept" "[Z") ∈ lw_all := lw_g (lw_at lw_m9 210 rfl) rfl
theorem q2220 : (Jvm.Cond.laysFinal "LeaderLeasesModel" "LeaderLeasesModel" "w" "[I") ∈ lw_all := lw_g (lw_at lw_m9 211 rfl) rfl
theorem q2221 : (Jvm.Cond.soleField "LeaderLeasesModel" "w") ∈ lw_all := lw_g (lw_at lw_m9 212 rfl) rfl
theorem q2222 : (Jvm.Cond.lays "LeaderLeasesModel" "LeaderLeasesModel" "thrown" "I") ∈ lw_all := lw_g (lw_at lw_m9 213 rfl) rfl
theorem q2223 : (Jvm.Cond.soleField "LeaderLeasesModel" "thrown") ∈ lw_all := lw_g (lw_at lw_m9 214 rfl) rfl
theorem q2224 : (Jvm.Cond.laysFinal "LeaderLeasesModel" "LeaderLeasesModel" "buffer" "[I") ∈ lw_all := lw_g (lw_at lw_m9 215 rfl) rfl
theorem q2225 : (Jvm.Cond.soleField "LeaderLeasesModel" "buffer") ∈ lw_all := lw_g (lw_at lw_m9 216 rfl) rfl
theorem q2226 : (Jvm.Cond.lays "LeaderLeasesModel" "LeaderLeasesModel" "length" "I") ∈ lw_all := lw_g (lw_at lw_m9 217 rfl) rfl
theorem q2227 : (Jvm.Cond.soleField "LeaderLeasesModel" "length") ∈ lw_all := lw_g (lw_at lw_m9 218 rfl) rfl
theorem q2228 : (Jvm.Cond.lays "LeaderLeasesModel" "LeaderLeasesModel" "point" "I") ∈ lw_all := lw_g (lw_at lw_m9 219 rfl) rfl
theorem q2229 : (Jvm.Cond.soleField "LeaderLeasesModel" "point") ∈ lw_all := lw_g (lw_at lw_m9 220 rfl) rfl
theorem q2230 : (Jvm.Cond.lays "LeaderLeasesModel" "LeaderLeasesModel" "begin" "I") ∈ lw_all := lw_g (lw_at lw_m9 221 rfl) rfl
theorem q2231 : (Jvm.Cond.soleField "LeaderLeasesModel" "begin") ∈ lw_all := lw_g (lw_at lw_m9 222 rfl) rfl
theorem q2232 : (Jvm.Cond.lays "LeaderLeasesModel" "LeaderLeasesModel" "wrong" "I") ∈ lw_all := lw_g (lw_at lw_m9 223 rfl) rfl
theorem q2233 : (Jvm.Cond.soleField "LeaderLeasesModel" "wrong") ∈ lw_all := lw_g (lw_at lw_m9 224 rfl) rfl
theorem q2234 : (Jvm.Cond.lays "LeaderLeasesModel" "LeaderLeasesModel" "wrongKind" "I") ∈ lw_all := lw_g (lw_at lw_m9 225 rfl) rfl
theorem q2235 : (Jvm.Cond.soleField "LeaderLeasesModel" "wrongKind") ∈ lw_all := lw_g (lw_at lw_m9 226 rfl) rfl
theorem q2236 : (Jvm.Cond.lays "LeaderLeasesModel" "LeaderLeasesModel" "loadError" "I") ∈ lw_all := lw_g (lw_at lw_m9 227 rfl) rfl
theorem q2237 : (Jvm.Cond.soleField "LeaderLeasesModel" "loadError") ∈ lw_all := lw_g (lw_at lw_m9 228 rfl) rfl
theorem q2238 : (Jvm.Cond.lays "LeaderLeasesModel" "LeaderLeasesModel" "met" "I") ∈ lw_all := lw_g (lw_at lw_m9 229 rfl) rfl
theorem q2239 : (Jvm.Cond.soleField "LeaderLeasesModel" "met") ∈ lw_all := lw_g (lw_at lw_m9 230 rfl) rfl
theorem q2240 : (Jvm.Cond.laysFinal "LeaderLeasesModel" "LeaderLeasesModel" "read" "[I") ∈ lw_all := lw_g (lw_at lw_m9 231 rfl) rfl
theorem q2241 : (Jvm.Cond.soleField "LeaderLeasesModel" "read") ∈ lw_all := lw_g (lw_at lw_m9 232 rfl) rfl
theorem q2242 : (Jvm.Cond.laysFinal "LeaderLeasesModel" "LeaderLeasesModel" "words" "[Ljava/lang/String;") ∈ lw_all := lw_g (lw_at lw_m9 233 rfl) rfl
theorem q2243 : (Jvm.Cond.soleField "LeaderLeasesModel" "words") ∈ lw_all := lw_g (lw_at lw_m9 234 rfl) rfl
theorem q2244 : (Jvm.Cond.lays "LeaderLeasesModel" "LeaderLeasesModel" "countedNode" "I") ∈ lw_all := lw_g (lw_at lw_m9 235 rfl) rfl
theorem q2245 : (Jvm.Cond.soleField "LeaderLeasesModel" "countedNode") ∈ lw_all := lw_g (lw_at lw_m9 236 rfl) rfl
theorem q2246 : (Jvm.Cond.lays "LeaderLeasesModel" "LeaderLeasesModel" "counted" "I") ∈ lw_all := lw_g (lw_at lw_m9 237 rfl) rfl
theorem q2247 : (Jvm.Cond.soleField "LeaderLeasesModel" "counted") ∈ lw_all := lw_g (lw_at lw_m9 238 rfl) rfl
theorem q2248 : (Jvm.Cond.lays "LeaderLeasesModel" "LeaderLeasesModel" "outcome" "I") ∈ lw_all := lw_g (lw_at lw_m9 239 rfl) rfl
theorem q2249 : (Jvm.Cond.soleField "LeaderLeasesModel" "outcome") ∈ lw_all := lw_g (lw_at lw_m10 0 rfl) rfl
theorem q2250 : (Jvm.Cond.laysFinal "LeaderLeasesModel" "LeaderLeasesModel" "aside" "[I") ∈ lw_all := lw_g (lw_at lw_m10 1 rfl) rfl
theorem q2251 : (Jvm.Cond.soleField "LeaderLeasesModel" "aside") ∈ lw_all := lw_g (lw_at lw_m10 2 rfl) rfl
theorem q2252 : (Jvm.Cond.laysFinal "LeaderLeasesModel" "LeaderLeasesModel" "kept" "[I") ∈ lw_all := lw_g (lw_at lw_m10 3 rfl) rfl
theorem q2253 : (Jvm.Cond.soleField "LeaderLeasesModel" "kept") ∈ lw_all := lw_g (lw_at lw_m10 4 rfl) rfl
theorem q2254 : (Jvm.Cond.laysFinal "LeaderLeasesModel" "LeaderLeasesModel" "isKept" "[Z") ∈ lw_all := lw_g (lw_at lw_m10 5 rfl) rfl
theorem q2255 : (Jvm.Cond.soleField "LeaderLeasesModel" "isKept") ∈ lw_all := lw_g (lw_at lw_m10 6 rfl) rfl
theorem q2256 : (Jvm.Cond.superclass "LeaderLeasesModel" "java/lang/Object") ∈ lw_all := lw_g (lw_at lw_m10 7 rfl) rfl
theorem q2259 : (Jvm.Cond.instanceMethod ({ cls := "LeaderLeasesModel", name := "thrown", desc := "()I" } : Jvm.MethodName)) ∈ lw_all := lw_g (lw_at lw_m10 10 rfl) rfl
theorem q2260 : (Jvm.Cond.selects "LeaderLeasesModel" ({ cls := "LeaderLeasesModel", name := "thrown", desc := "()I" } : Jvm.MethodName) ({ cls := "LeaderLeasesModel", name := "thrown", desc := "()I" } : Jvm.MethodName)) ∈ lw_all := lw_g (lw_at lw_m10 11 rfl) rfl
theorem q2261 : (Jvm.Cond.code ({ cls := "LeaderLeasesModel", name := "thrown", desc := "()I" } : Jvm.MethodName) prog_22_method_2_code (1 : Nat) (Option.some Jvm.ClassFile.FieldType.int)) ∈ lw_all := lw_g (lw_at lw_m10 12 rfl) rfl
theorem q2263 : (Jvm.Cond.instanceMethod ({ cls := "LeaderLeasesModel", name := "appendByte", desc := "(I)I" } : Jvm.MethodName)) ∈ lw_all := lw_g (lw_at lw_m10 14 rfl) rfl
theorem q2264 : (Jvm.Cond.selects "LeaderLeasesModel" ({ cls := "LeaderLeasesModel", name := "appendByte", desc := "(I)I" } : Jvm.MethodName) ({ cls := "LeaderLeasesModel", name := "appendByte", desc := "(I)I" } : Jvm.MethodName)) ∈ lw_all := lw_g (lw_at lw_m10 15 rfl) rfl
theorem q2265 : (Jvm.Cond.code ({ cls := "LeaderLeasesModel", name := "appendByte", desc := "(I)I" } : Jvm.MethodName) prog_22_method_8_code (2 : Nat) (Option.some Jvm.ClassFile.FieldType.int)) ∈ lw_all := lw_g (lw_at lw_m10 16 rfl) rfl
theorem q2266 : (Jvm.Cond.constantLong "LeaderLeasesModel" (76 : Nat) (255 : Int64)) ∈ lw_all := lw_g (lw_at lw_m10 17 rfl) rfl
theorem q2267 : (Jvm.Cond.methodLink "LeaderLeasesModel" (68 : Nat) ({ cls := "LeaderLeasesModel", name := "in", desc := "(JJJ)Z" } : Jvm.MethodName)) ∈ lw_all := lw_g (lw_at lw_m10 18 rfl) rfl
theorem q2268 : (Jvm.Cond.static ({ cls := "LeaderLeasesModel", name := "in", desc := "(JJJ)Z" } : Jvm.MethodName)) ∈ lw_all := lw_g (lw_at lw_m10 19 rfl) rfl
theorem q2269 : (Jvm.Cond.code ({ cls := "LeaderLeasesModel", name := "in", desc := "(JJJ)Z" } : Jvm.MethodName) prog_22_method_3_code (6 : Nat) (Option.some Jvm.ClassFile.FieldType.boolean)) ∈ lw_all := lw_g (lw_at lw_m10 20 rfl) rfl
theorem q2270 : (Jvm.Cond.methodLink "LeaderLeasesModel" (72 : Nat) ({ cls := "LeaderLeasesModel", name := "throwsIf", desc := "(ZI)Z" } : Jvm.MethodName)) ∈ lw_all := lw_g (lw_at lw_m10 21 rfl) rfl
theorem q2271 : (Jvm.Cond.privateMethod ({ cls := "LeaderLeasesModel", name := "throwsIf", desc := "(ZI)Z" } : Jvm.MethodName)) ∈ lw_tbl := lw_at lw_m10 22 rfl
theorem q2272 : (Jvm.Cond.instanceMethod ({ cls := "LeaderLeasesModel", name := "throwsIf", desc := "(ZI)Z" } : Jvm.MethodName)) ∈ lw_all := lw_g (lw_at lw_m10 23 rfl) rfl
theorem q2273 : (Jvm.Cond.code ({ cls := "LeaderLeasesModel", name := "throwsIf", desc := "(ZI)Z" } : Jvm.MethodName) prog_22_method_4_code (3 : Nat) (Option.some Jvm.ClassFile.FieldType.boolean)) ∈ lw_all := lw_g (lw_at lw_m10 24 rfl) rfl
theorem q2275 : (Jvm.Cond.instanceMethod ({ cls := "LeaderLeasesModel", name := "load", desc := "()I" } : Jvm.MethodName)) ∈ lw_all := lw_g (lw_at lw_m10 26 rfl) rfl
theorem q2276 : (Jvm.Cond.selects "LeaderLeasesModel" ({ cls := "LeaderLeasesModel", name := "load", desc := "()I" } : Jvm.MethodName) ({ cls := "LeaderLeasesModel", name := "load", desc := "()I" } : Jvm.MethodName)) ∈ lw_all := lw_g (lw_at lw_m10 27 rfl) rfl
theorem q2277 : (Jvm.Cond.code ({ cls := "LeaderLeasesModel", name := "load", desc := "()I" } : Jvm.MethodName) prog_22_method_19_code (2 : Nat) (Option.some Jvm.ClassFile.FieldType.int)) ∈ lw_all := lw_g (lw_at lw_m10 28 rfl) rfl
theorem q2278 : (Jvm.Cond.methodLink "LeaderLeasesModel" (144 : Nat) ({ cls := "LeaderLeasesModel", name := "readStatement", desc := "()V" } : Jvm.MethodName)) ∈ lw_all := lw_g (lw_at lw_m10 29 rfl) rfl
theorem q2279 : (Jvm.Cond.privateMethod ({ cls := "LeaderLeasesModel", name := "readStatement", desc := "()V" } : Jvm.MethodName)) ∈ lw_tbl := lw_at lw_m10 30 rfl
theorem q2280 : (Jvm.Cond.instanceMethod ({ cls := "LeaderLeasesModel", name := "readStatement", desc := "()V" } : Jvm.MethodName)) ∈ lw_all := lw_g (lw_at lw_m10 31 rfl) rfl
theorem q2281 : (Jvm.Cond.code ({ cls := "LeaderLeasesModel", name := "readStatement", desc := "()V" } : Jvm.MethodName) prog_22_method_17_code (2 : Nat) (Option.none : Option Jvm.ClassFile.FieldType)) ∈ lw_all := lw_g (lw_at lw_m10 32 rfl) rfl
theorem q2282 : (Jvm.Cond.methodLink "LeaderLeasesModel" (128 : Nat) ({ cls := "LeaderLeasesModel", name := "word", desc := "()I" } : Jvm.MethodName)) ∈ lw_all := lw_g (lw_at lw_m10 33 rfl) rfl
theorem q2283 : (Jvm.Cond.privateMethod ({ cls := "LeaderLeasesModel", name := "word", desc := "()I" } : Jvm.MethodName)) ∈ lw_tbl := lw_at lw_m10 34 rfl
theorem q2284 : (Jvm.Cond.instanceMethod ({ cls := "LeaderLeasesModel", name := "word", desc := "()I" } : Jvm.MethodName)) ∈ lw_all := lw_g (lw_at lw_m10 35 rfl) rfl
theorem q2285 : (Jvm.Cond.code ({ cls := "LeaderLeasesModel", name := "word", desc := "()I" } : Jvm.MethodName) prog_22_method_16_code (4 : Nat) (Option.some Jvm.ClassFile.FieldType.int)) ∈ lw_all := lw_g (lw_at lw_m10 36 rfl) rfl
theorem q2286 : (Jvm.Cond.methodLink "LeaderLeasesModel" (97 : Nat) ({ cls := "LeaderLeasesModel", name := "looks", desc := "()V" } : Jvm.MethodName)) ∈ lw_all := lw_g (lw_at lw_m10 37 rfl) rfl
theorem q2287 : (Jvm.Cond.privateMethod ({ cls := "LeaderLeasesModel", name := "looks", desc := "()V" } : Jvm.MethodName)) ∈ lw_tbl := lw_at lw_m10 38 rfl
theorem q2288 : (Jvm.Cond.instanceMethod ({ cls := "LeaderLeasesModel", name := "looks", desc := "()V" } : Jvm.MethodName)) ∈ lw_all := lw_g (lw_at lw_m10 39 rfl) rfl
theorem q2289 : (Jvm.Cond.code ({ cls := "LeaderLeasesModel", name := "looks", desc := "()V" } : Jvm.MethodName) prog_22_method_13_code (1 : Nat) (Option.none : Option Jvm.ClassFile.FieldType)) ∈ lw_all := lw_g (lw_at lw_m10 40 rfl) rfl
theorem q2290 : (Jvm.Cond.methodLink "LeaderLeasesModel" (84 : Nat) ({ cls := "LeaderLeasesModel", name := "here", desc := "()I" } : Jvm.MethodName)) ∈ lw_all := lw_g (lw_at lw_m10 41 rfl) rfl
theorem q2291 : (Jvm.Cond.privateMethod ({ cls := "LeaderLeasesModel", name := "here", desc := "()I" } : Jvm.MethodName)) ∈ lw_tbl := lw_at lw_m10 42 rfl
theorem q2292 : (Jvm.Cond.instanceMethod ({ cls := "LeaderLeasesModel", name := "here", desc := "()I" } : Jvm.MethodName)) ∈ lw_all := lw_g (lw_at lw_m10 43 rfl) rfl
theorem q2293 : (Jvm.Cond.code ({ cls := "LeaderLeasesModel", name := "here", desc := "()I" } : Jvm.MethodName) prog_22_method_12_code (1 : Nat) (Option.some Jvm.ClassFile.FieldType.int)) ∈ lw_all := lw_g (lw_at lw_m10 44 rfl) rfl
theorem q2294 : (Jvm.Cond.constantLong "LeaderLeasesModel" (118 : Nat) (97 : Int64)) ∈ lw_all := lw_g (lw_at lw_m10 45 rfl) rfl
theorem q2295 : (Jvm.Cond.constantLong "LeaderLeasesModel" (120 : Nat) (122 : Int64)) ∈ lw_all := lw_g (lw_at lw_m10 46 rfl) rfl
theorem q2296 : (Jvm.Cond.methodLink "LeaderLeasesModel" (122 : Nat) ({ cls := "java/lang/String", name := "length", desc := "()I" } : Jvm.MethodName)) ∈ lw_all := lw_g (lw_at lw_m10 47 rfl) rfl
theorem q2297 : (Jvm.Cond.methodLink "LeaderLeasesModel" (124 : Nat) ({ cls := "java/lang/String", name := "charAt", desc := "(I)C" } : Jvm.MethodName)) ∈ lw_all := lw_g (lw_at lw_m10 48 rfl) rfl
theorem q2308 : (Jvm.Cond.methodLink "LeaderLeasesModel" (114 : Nat) ({ cls := "LeaderLeasesModel", name := "fails", desc := "(I)V" } : Jvm.MethodName)) ∈ lw_all := lw_g (lw_at lw_m10 59 rfl) rfl
theorem q2309 : (Jvm.Cond.privateMethod ({ cls := "LeaderLeasesModel", name := "fails", desc := "(I)V" } : Jvm.MethodName)) ∈ lw_tbl := lw_at lw_m10 60 rfl
theorem q2310 : (Jvm.Cond.instanceMethod ({ cls := "LeaderLeasesModel", name := "fails", desc := "(I)V" } : Jvm.MethodName)) ∈ lw_all := lw_g (lw_at lw_m10 61 rfl) rfl
theorem q2311 : (Jvm.Cond.code ({ cls := "LeaderLeasesModel", name := "fails", desc := "(I)V" } : Jvm.MethodName) prog_22_method_14_code (2 : Nat) (Option.none : Option Jvm.ClassFile.FieldType)) ∈ lw_all := lw_g (lw_at lw_m10 62 rfl) rfl
theorem q2312 : (Jvm.Cond.methodLink "LeaderLeasesModel" (134 : Nat) ({ cls := "LeaderLeasesModel", name := "number", desc := "(II)I" } : Jvm.MethodName)) ∈ lw_all := lw_g (lw_at lw_m10 63 rfl) rfl
theorem q2313 : (Jvm.Cond.privateMethod ({ cls := "LeaderLeasesModel", name := "number", desc := "(II)I" } : Jvm.MethodName)) ∈ lw_tbl := lw_at lw_m10 64 rfl
theorem q2314 : (Jvm.Cond.instanceMethod ({ cls := "LeaderLeasesModel", name := "number", desc := "(II)I" } : Jvm.MethodName)) ∈ lw_all := lw_g (lw_at lw_m10 65 rfl) rfl
theorem q2315 : (Jvm.Cond.code ({ cls := "LeaderLeasesModel", name := "number", desc := "(II)I" } : Jvm.MethodName) prog_22_method_15_code (5 : Nat) (Option.some Jvm.ClassFile.FieldType.int)) ∈ lw_all := lw_g (lw_at lw_m10 66 rfl) rfl
theorem q2316 : (Jvm.Cond.constantLong "LeaderLeasesModel" (100 : Nat) (48 : Int64)) ∈ lw_all := lw_g (lw_at lw_m10 67 rfl) rfl
theorem q2317 : (Jvm.Cond.constantLong "LeaderLeasesModel" (102 : Nat) (57 : Int64)) ∈ lw_all := lw_g (lw_at lw_m10 68 rfl) rfl
theorem q2318 : (Jvm.Cond.constantLong "LeaderLeasesModel" (104 : Nat) (3000000000 : Int64)) ∈ lw_all := lw_g (lw_at lw_m10 69 rfl) rfl
theorem q2319 : (Jvm.Cond.constantLong "LeaderLeasesModel" (106 : Nat) (10 : Int64)) ∈ lw_all := lw_g (lw_at lw_m10 70 rfl) rfl
theorem q2320 : (Jvm.Cond.methodLink "LeaderLeasesModel" (108 : Nat) ({ cls := "java/lang/Math", name := "min", desc := "(JJ)J" } : Jvm.MethodName)) ∈ lw_all := lw_g (lw_at lw_m10 71 rfl) rfl
theorem q2321 : (Jvm.Cond.constant "LeaderLeasesModel" (138 : Nat) (100000 : Int32)) ∈ lw_all := lw_g (lw_at lw_m10 72 rfl) rfl
theorem q2322 : (Jvm.Cond.methodLink "LeaderLeasesModel" (139 : Nat) ({ cls := "LeaderLeasesModel", name := "readNodeHere", desc := "()V" } : Jvm.MethodName)) ∈ lw_all := lw_g (lw_at lw_m10 73 rfl) rfl
theorem q2323 : (Jvm.Cond.privateMethod ({ cls := "LeaderLeasesModel", name := "readNodeHere", desc := "()V" } : Jvm.MethodName)) ∈ lw_tbl := lw_at lw_m10 74 rfl
theorem q2324 : (Jvm.Cond.instanceMethod ({ cls := "LeaderLeasesModel", name := "readNodeHere", desc := "()V" } : Jvm.MethodName)) ∈ lw_all := lw_g (lw_at lw_m10 75 rfl) rfl
theorem q2325 : (Jvm.Cond.code ({ cls := "LeaderLeasesModel", name := "readNodeHere", desc := "()V" } : Jvm.MethodName) prog_22_method_18_code (4 : Nat) (Option.none : Option Jvm.ClassFile.FieldType)) ∈ lw_all := lw_g (lw_at lw_m10 76 rfl) rfl
theorem q2326 : (Jvm.Cond.constant "LeaderLeasesModel" (142 : Nat) (60000 : Int32)) ∈ lw_all := lw_g (lw_at lw_m10 77 rfl) rfl
theorem q2327 : (Jvm.Cond.constant "LeaderLeasesModel" (143 : Nat) (2147483647 : Int32)) ∈ lw_all := lw_g (lw_at lw_m10 78 rfl) rfl
theorem q2329 : (Jvm.Cond.instanceMethod ({ cls := "LeaderLeasesModel", name := "loadError", desc := "()I" } : Jvm.MethodName)) ∈ lw_all := lw_g (lw_at lw_m10 80 rfl) rfl
theorem q2330 : (Jvm.Cond.selects "LeaderLeasesModel" ({ cls := "LeaderLeasesModel", name := "loadError", desc := "()I" } : Jvm.MethodName) ({ cls := "LeaderLeasesModel", name := "loadError", desc := "()I" } : Jvm.MethodName)) ∈ lw_all := lw_g (lw_at lw_m10 81 rfl) rfl
theorem q2331 : (Jvm.Cond.code ({ cls := "LeaderLeasesModel", name := "loadError", desc := "()I" } : Jvm.MethodName) prog_22_method_20_code (1 : Nat) (Option.some Jvm.ClassFile.FieldType.int)) ∈ lw_all := lw_g (lw_at lw_m10 82 rfl) rfl
theorem q2333 : (Jvm.Cond.instanceMethod ({ cls := "LeaderLeasesModel", name := "now", desc := "()I" } : Jvm.MethodName)) ∈ lw_all := lw_g (lw_at lw_m10 84 rfl) rfl
theorem q2334 : (Jvm.Cond.selects "LeaderLeasesModel" ({ cls := "LeaderLeasesModel", name := "now", desc := "()I" } : Jvm.MethodName) ({ cls := "LeaderLeasesModel", name := "now", desc := "()I" } : Jvm.MethodName)) ∈ lw_all := lw_g (lw_at lw_m10 85 rfl) rfl
theorem q2335 : (Jvm.Cond.code ({ cls := "LeaderLeasesModel", name := "now", desc := "()I" } : Jvm.MethodName) prog_22_method_29_code (1 : Nat) (Option.some Jvm.ClassFile.FieldType.int)) ∈ lw_all := lw_g (lw_at lw_m10 86 rfl) rfl
theorem q2337 : (Jvm.Cond.instanceMethod ({ cls := "LeaderLeasesModel", name := "nodeCount", desc := "()I" } : Jvm.MethodName)) ∈ lw_all := lw_g (lw_at lw_m10 88 rfl) rfl
theorem q2338 : (Jvm.Cond.selects "LeaderLeasesModel" ({ cls := "LeaderLeasesModel", name := "nodeCount", desc := "()I" } : Jvm.MethodName) ({ cls := "LeaderLeasesModel", name := "nodeCount", desc := "()I" } : Jvm.MethodName)) ∈ lw_all := lw_g (lw_at lw_m10 89 rfl) rfl
theorem q2339 : (Jvm.Cond.code ({ cls := "LeaderLeasesModel", name := "nodeCount", desc := "()I" } : Jvm.MethodName) prog_22_method_30_code (1 : Nat) (Option.some Jvm.ClassFile.FieldType.int)) ∈ lw_all := lw_g (lw_at lw_m10 90 rfl) rfl
theorem q2341 : (Jvm.Cond.instanceMethod ({ cls := "LeaderLeasesModel", name := "nodeClock", desc := "(I)I" } : Jvm.MethodName)) ∈ lw_all := lw_g (lw_at lw_m10 92 rfl) rfl
theorem q2342 : (Jvm.Cond.selects "LeaderLeasesModel" ({ cls := "LeaderLeasesModel", name := "nodeClock", desc := "(I)I" } : Jvm.MethodName) ({ cls := "LeaderLeasesModel", name := "nodeClock", desc := "(I)I" } : Jvm.MethodName)) ∈ lw_all := lw_g (lw_at lw_m10 93 rfl) rfl
theorem q2343 : (Jvm.Cond.code ({ cls := "LeaderLeasesModel", name := "nodeClock", desc := "(I)I" } : Jvm.MethodName) prog_22_method_31_code (2 : Nat) (Option.some Jvm.ClassFile.FieldType.int)) ∈ lw_all := lw_g (lw_at lw_m10 94 rfl) rfl
theorem q2344 : (Jvm.Cond.methodLink "LeaderLeasesModel" (172 : Nat) ({ cls := "LeaderLeasesModel", name := "noNode", desc := "(I)Z" } : Jvm.MethodName)) ∈ lw_all := lw_g (lw_at lw_m10 95 rfl) rfl
theorem q2345 : (Jvm.Cond.privateMethod ({ cls := "LeaderLeasesModel", name := "noNode", desc := "(I)Z" } : Jvm.MethodName)) ∈ lw_tbl := lw_at lw_m10 96 rfl
theorem q2346 : (Jvm.Cond.instanceMethod ({ cls := "LeaderLeasesModel", name := "noNode", desc := "(I)Z" } : Jvm.MethodName)) ∈ lw_all := lw_g (lw_at lw_m10 97 rfl) rfl
theorem q2347 : (Jvm.Cond.code ({ cls := "LeaderLeasesModel", name := "noNode", desc := "(I)Z" } : Jvm.MethodName) prog_22_method_5_code (2 : Nat) (Option.some Jvm.ClassFile.FieldType.boolean)) ∈ lw_all := lw_g (lw_at lw_m10 98 rfl) rfl
theorem q2348 : (Jvm.Cond.methodLink "LeaderLeasesModel" (162 : Nat) ({ cls := "LeaderLeasesModel", name := "clock", desc := "(I)I" } : Jvm.MethodName)) ∈ lw_all := lw_g (lw_at lw_m10 99 rfl) rfl
theorem q2349 : (Jvm.Cond.privateMethod ({ cls := "LeaderLeasesModel", name := "clock", desc := "(I)I" } : Jvm.MethodName)) ∈ lw_tbl := lw_at lw_m10 100 rfl
theorem q2350 : (Jvm.Cond.instanceMethod ({ cls := "LeaderLeasesModel", name := "clock", desc := "(I)I" } : Jvm.MethodName)) ∈ lw_all := lw_g (lw_at lw_m10 101 rfl) rfl
theorem q2351 : (Jvm.Cond.code ({ cls := "LeaderLeasesModel", name := "clock", desc := "(I)I" } : Jvm.MethodName) prog_22_method_23_code (2 : Nat) (Option.some Jvm.ClassFile.FieldType.int)) ∈ lw_all := lw_g (lw_at lw_m10 102 rfl) rfl
theorem q2352 : (Jvm.Cond.methodLink "LeaderLeasesModel" (152 : Nat) ({ cls := "LeaderLeasesModel", name := "of", desc := "(II)I" } : Jvm.MethodName)) ∈ lw_all := lw_g (lw_at lw_m10 103 rfl) rfl
theorem q2353 : (Jvm.Cond.privateMethod ({ cls := "LeaderLeasesModel", name := "of", desc := "(II)I" } : Jvm.MethodName)) ∈ lw_tbl := lw_at lw_m10 104 rfl
theorem q2354 : (Jvm.Cond.instanceMethod ({ cls := "LeaderLeasesModel", name := "of", desc := "(II)I" } : Jvm.MethodName)) ∈ lw_all := lw_g (lw_at lw_m10 105 rfl) rfl
theorem q2355 : (Jvm.Cond.code ({ cls := "LeaderLeasesModel", name := "of", desc := "(II)I" } : Jvm.MethodName) prog_22_method_6_code (3 : Nat) (Option.some Jvm.ClassFile.FieldType.int)) ∈ lw_all := lw_g (lw_at lw_m10 106 rfl) rfl
theorem q2356 : (Jvm.Cond.methodLink "LeaderLeasesModel" (155 : Nat) ({ cls := "LeaderLeasesModel", name := "shows", desc := "(III)I" } : Jvm.MethodName)) ∈ lw_all := lw_g (lw_at lw_m10 107 rfl) rfl
theorem q2357 : (Jvm.Cond.static ({ cls := "LeaderLeasesModel", name := "shows", desc := "(III)I" } : Jvm.MethodName)) ∈ lw_all := lw_g (lw_at lw_m10 108 rfl) rfl
theorem q2358 : (Jvm.Cond.code ({ cls := "LeaderLeasesModel", name := "shows", desc := "(III)I" } : Jvm.MethodName) prog_22_method_21_code (3 : Nat) (Option.some Jvm.ClassFile.FieldType.int)) ∈ lw_all := lw_g (lw_at lw_m10 109 rfl) rfl
theorem q2359 : (Jvm.Cond.constantLong "LeaderLeasesModel" (150 : Nat) (1000 : Int64)) ∈ lw_all := lw_g (lw_at lw_m10 110 rfl) rfl
theorem q2361 : (Jvm.Cond.instanceMethod ({ cls := "LeaderLeasesModel", name := "serverClock", desc := "()I" } : Jvm.MethodName)) ∈ lw_all := lw_g (lw_at lw_m10 112 rfl) rfl
theorem q2362 : (Jvm.Cond.selects "LeaderLeasesModel" ({ cls := "LeaderLeasesModel", name := "serverClock", desc := "()I" } : Jvm.MethodName) ({ cls := "LeaderLeasesModel", name := "serverClock", desc := "()I" } : Jvm.MethodName)) ∈ lw_all := lw_g (lw_at lw_m10 113 rfl) rfl
theorem q2363 : (Jvm.Cond.code ({ cls := "LeaderLeasesModel", name := "serverClock", desc := "()I" } : Jvm.MethodName) prog_22_method_32_code (1 : Nat) (Option.some Jvm.ClassFile.FieldType.int)) ∈ lw_all := lw_g (lw_at lw_m10 114 rfl) rfl
theorem q2364 : (Jvm.Cond.methodLink "LeaderLeasesModel" (176 : Nat) ({ cls := "LeaderLeasesModel", name := "serverShows", desc := "()I" } : Jvm.MethodName)) ∈ lw_all := lw_g (lw_at lw_m10 115 rfl) rfl
theorem q2365 : (Jvm.Cond.privateMethod ({ cls := "LeaderLeasesModel", name := "serverShows", desc := "()I" } : Jvm.MethodName)) ∈ lw_tbl := lw_at lw_m10 116 rfl
theorem q2366 : (Jvm.Cond.instanceMethod ({ cls := "LeaderLeasesModel", name := "serverShows", desc := "()I" } : Jvm.MethodName)) ∈ lw_all := lw_g (lw_at lw_m10 117 rfl) rfl
theorem q2367 : (Jvm.Cond.code ({ cls := "LeaderLeasesModel", name := "serverShows", desc := "()I" } : Jvm.MethodName) prog_22_method_24_code (1 : Nat) (Option.some Jvm.ClassFile.FieldType.int)) ∈ lw_all := lw_g (lw_at lw_m10 118 rfl) rfl
theorem q2369 : (Jvm.Cond.instanceMethod ({ cls := "LeaderLeasesModel", name := "advance", desc := "(I)I" } : Jvm.MethodName)) ∈ lw_all := lw_g (lw_at lw_m10 120 rfl) rfl
theorem q2370 : (Jvm.Cond.selects "LeaderLeasesModel" ({ cls := "LeaderLeasesModel", name := "advance", desc := "(I)I" } : Jvm.MethodName) ({ cls := "LeaderLeasesModel", name := "advance", desc := "(I)I" } : Jvm.MethodName)) ∈ lw_all := lw_g (lw_at lw_m10 121 rfl) rfl
theorem q2371 : (Jvm.Cond.code ({ cls := "LeaderLeasesModel", name := "advance", desc := "(I)I" } : Jvm.MethodName) prog_22_method_56_code (2 : Nat) (Option.some Jvm.ClassFile.FieldType.int)) ∈ lw_all := lw_g (lw_at lw_m10 122 rfl) rfl
theorem q2372 : (Jvm.Cond.constantLong "LeaderLeasesModel" (277 : Nat) (5000 : Int64)) ∈ lw_all := lw_g (lw_at lw_m10 123 rfl) rfl
theorem q2373 : (Jvm.Cond.constant "LeaderLeasesModel" (279 : Nat) (5000000 : Int32)) ∈ lw_all := lw_g (lw_at lw_m10 124 rfl) rfl
theorem q2374 : (Jvm.Cond.methodLink "LeaderLeasesModel" (280 : Nat) ({ cls := "LeaderLeasesModel", name := "goesTo", desc := "(I)V" } : Jvm.MethodName)) ∈ lw_all := lw_g (lw_at lw_m10 125 rfl) rfl
theorem q2375 : (Jvm.Cond.privateMethod ({ cls := "LeaderLeasesModel", name := "goesTo", desc := "(I)V" } : Jvm.MethodName)) ∈ lw_tbl := lw_at lw_m10 126 rfl
theorem q2376 : (Jvm.Cond.instanceMethod ({ cls := "LeaderLeasesModel", name := "goesTo", desc := "(I)V" } : Jvm.MethodName)) ∈ lw_all := lw_g (lw_at lw_m10 127 rfl) rfl
theorem q2377 : (Jvm.Cond.code ({ cls := "LeaderLeasesModel", name := "goesTo", desc := "(I)V" } : Jvm.MethodName) prog_22_method_55_code (3 : Nat) (Option.none : Option Jvm.ClassFile.FieldType)) ∈ lw_all := lw_g (lw_at lw_m10 128 rfl) rfl
theorem q2378 : (Jvm.Cond.methodLink "LeaderLeasesModel" (259 : Nat) ({ cls := "LeaderLeasesModel", name := "nextTime", desc := "()I" } : Jvm.MethodName)) ∈ lw_all := lw_g (lw_at lw_m10 129 rfl) rfl
theorem q2379 : (Jvm.Cond.privateMethod ({ cls := "LeaderLeasesModel", name := "nextTime", desc := "()I" } : Jvm.MethodName)) ∈ lw_tbl := lw_at lw_m10 130 rfl
theorem q2380 : (Jvm.Cond.instanceMethod ({ cls := "LeaderLeasesModel", name := "nextTime", desc := "()I" } : Jvm.MethodName)) ∈ lw_all := lw_g (lw_at lw_m10 131 rfl) rfl
theorem q2381 : (Jvm.Cond.code ({ cls := "LeaderLeasesModel", name := "nextTime", desc := "()I" } : Jvm.MethodName) prog_22_method_53_code (3 : Nat) (Option.some Jvm.ClassFile.FieldType.int)) ∈ lw_all := lw_g (lw_at lw_m10 132 rfl) rfl
theorem q2382 : (Jvm.Cond.constant "LeaderLeasesModel" (250 : Nat) (2000000000 : Int32)) ∈ lw_all := lw_g (lw_at lw_m10 133 rfl) rfl
theorem q2383 : (Jvm.Cond.methodLink "LeaderLeasesModel" (251 : Nat) ({ cls := "java/lang/Math", name := "min", desc := "(II)I" } : Jvm.MethodName)) ∈ lw_all := lw_g (lw_at lw_m10 134 rfl) rfl
theorem q2384 : (Jvm.Cond.methodLink "LeaderLeasesModel" (229 : Nat) ({ cls := "LeaderLeasesModel", name := "isPaused", desc := "(I)Z" } : Jvm.MethodName)) ∈ lw_all := lw_g (lw_at lw_m10 135 rfl) rfl
theorem q2385 : (Jvm.Cond.privateMethod ({ cls := "LeaderLeasesModel", name := "isPaused", desc := "(I)Z" } : Jvm.MethodName)) ∈ lw_tbl := lw_at lw_m10 136 rfl
theorem q2386 : (Jvm.Cond.instanceMethod ({ cls := "LeaderLeasesModel", name := "isPaused", desc := "(I)Z" } : Jvm.MethodName)) ∈ lw_all := lw_g (lw_at lw_m10 137 rfl) rfl
theorem q2387 : (Jvm.Cond.code ({ cls := "LeaderLeasesModel", name := "isPaused", desc := "(I)Z" } : Jvm.MethodName) prog_22_method_27_code (2 : Nat) (Option.some Jvm.ClassFile.FieldType.boolean)) ∈ lw_all := lw_g (lw_at lw_m10 138 rfl) rfl
theorem q2388 : (Jvm.Cond.methodLink "LeaderLeasesModel" (262 : Nat) ({ cls := "LeaderLeasesModel", name := "passes", desc := "(I)V" } : Jvm.MethodName)) ∈ lw_all := lw_g (lw_at lw_m10 139 rfl) rfl
theorem q2389 : (Jvm.Cond.privateMethod ({ cls := "LeaderLeasesModel", name := "passes", desc := "(I)V" } : Jvm.MethodName)) ∈ lw_tbl := lw_at lw_m10 140 rfl
theorem q2390 : (Jvm.Cond.instanceMethod ({ cls := "LeaderLeasesModel", name := "passes", desc := "(I)V" } : Jvm.MethodName)) ∈ lw_all := lw_g (lw_at lw_m10 141 rfl) rfl
theorem q2391 : (Jvm.Cond.code ({ cls := "LeaderLeasesModel", name := "passes", desc := "(I)V" } : Jvm.MethodName) prog_22_method_54_code (7 : Nat) (Option.none : Option Jvm.ClassFile.FieldType)) ∈ lw_all := lw_g (lw_at lw_m10 142 rfl) rfl
theorem q2392 : (Jvm.Cond.methodLink "LeaderLeasesModel" (253 : Nat) ({ cls := "LeaderLeasesModel", name := "leads", desc := "(I)Z" } : Jvm.MethodName)) ∈ lw_all := lw_g (lw_at lw_m10 143 rfl) rfl
theorem q2393 : (Jvm.Cond.privateMethod ({ cls := "LeaderLeasesModel", name := "leads", desc := "(I)Z" } : Jvm.MethodName)) ∈ lw_tbl := lw_at lw_m10 144 rfl
theorem q2394 : (Jvm.Cond.instanceMethod ({ cls := "LeaderLeasesModel", name := "leads", desc := "(I)Z" } : Jvm.MethodName)) ∈ lw_all := lw_g (lw_at lw_m10 145 rfl) rfl
theorem q2395 : (Jvm.Cond.code ({ cls := "LeaderLeasesModel", name := "leads", desc := "(I)Z" } : Jvm.MethodName) prog_22_method_26_code (2 : Nat) (Option.some Jvm.ClassFile.FieldType.boolean)) ∈ lw_all := lw_g (lw_at lw_m10 146 rfl) rfl
theorem q2396 : (Jvm.Cond.methodLink "LeaderLeasesModel" (256 : Nat) ({ cls := "LeaderLeasesModel", name := "endOf", desc := "(I)I" } : Jvm.MethodName)) ∈ lw_all := lw_g (lw_at lw_m10 147 rfl) rfl
theorem q2397 : (Jvm.Cond.privateMethod ({ cls := "LeaderLeasesModel", name := "endOf", desc := "(I)I" } : Jvm.MethodName)) ∈ lw_tbl := lw_at lw_m10 148 rfl
theorem q2398 : (Jvm.Cond.instanceMethod ({ cls := "LeaderLeasesModel", name := "endOf", desc := "(I)I" } : Jvm.MethodName)) ∈ lw_all := lw_g (lw_at lw_m10 149 rfl) rfl
theorem q2399 : (Jvm.Cond.code ({ cls := "LeaderLeasesModel", name := "endOf", desc := "(I)I" } : Jvm.MethodName) prog_22_method_25_code (2 : Nat) (Option.some Jvm.ClassFile.FieldType.int)) ∈ lw_all := lw_g (lw_at lw_m10 150 rfl) rfl
theorem q2400 : (Jvm.Cond.methodLink "LeaderLeasesModel" (159 : Nat) ({ cls := "LeaderLeasesModel", name := "timeOf", desc := "(III)I" } : Jvm.MethodName)) ∈ lw_all := lw_g (lw_at lw_m10 151 rfl) rfl
theorem q2401 : (Jvm.Cond.static ({ cls := "LeaderLeasesModel", name := "timeOf", desc := "(III)I" } : Jvm.MethodName)) ∈ lw_all := lw_g (lw_at lw_m10 152 rfl) rfl
theorem q2402 : (Jvm.Cond.code ({ cls := "LeaderLeasesModel", name := "timeOf", desc := "(III)I" } : Jvm.MethodName) prog_22_method_22_code (5 : Nat) (Option.some Jvm.ClassFile.FieldType.int)) ∈ lw_all := lw_g (lw_at lw_m10 153 rfl) rfl
theorem q2403 : (Jvm.Cond.methodLink "LeaderLeasesModel" (169 : Nat) ({ cls := "LeaderLeasesModel", name := "puts", desc := "(III)V" } : Jvm.MethodName)) ∈ lw_all := lw_g (lw_at lw_m10 154 rfl) rfl
theorem q2404 : (Jvm.Cond.privateMethod ({ cls := "LeaderLeasesModel", name := "puts", desc := "(III)V" } : Jvm.MethodName)) ∈ lw_tbl := lw_at lw_m10 155 rfl
theorem q2405 : (Jvm.Cond.instanceMethod ({ cls := "LeaderLeasesModel", name := "puts", desc := "(III)V" } : Jvm.MethodName)) ∈ lw_all := lw_g (lw_at lw_m10 156 rfl) rfl
theorem q2406 : (Jvm.Cond.code ({ cls := "LeaderLeasesModel", name := "puts", desc := "(III)V" } : Jvm.MethodName) prog_22_method_7_code (4 : Nat) (Option.none : Option Jvm.ClassFile.FieldType)) ∈ lw_all := lw_g (lw_at lw_m10 157 rfl) rfl
theorem q2407 : (Jvm.Cond.methodLink "LeaderLeasesModel" (166 : Nat) ({ cls := "java/lang/Math", name := "max", desc := "(II)I" } : Jvm.MethodName)) ∈ lw_all := lw_g (lw_at lw_m10 158 rfl) rfl
theorem q2408 : (Jvm.Cond.methodLink "LeaderLeasesModel" (265 : Nat) ({ cls := "LeaderLeasesModel", name := "outagesNow", desc := "()V" } : Jvm.MethodName)) ∈ lw_all := lw_g (lw_at lw_m10 159 rfl) rfl
theorem q2409 : (Jvm.Cond.privateMethod ({ cls := "LeaderLeasesModel", name := "outagesNow", desc := "()V" } : Jvm.MethodName)) ∈ lw_tbl := lw_at lw_m10 160 rfl
theorem q2410 : (Jvm.Cond.instanceMethod ({ cls := "LeaderLeasesModel", name := "outagesNow", desc := "()V" } : Jvm.MethodName)) ∈ lw_all := lw_g (lw_at lw_m10 161 rfl) rfl
theorem q2411 : (Jvm.Cond.code ({ cls := "LeaderLeasesModel", name := "outagesNow", desc := "()V" } : Jvm.MethodName) prog_22_method_50_code (4 : Nat) (Option.none : Option Jvm.ClassFile.FieldType)) ∈ lw_all := lw_g (lw_at lw_m10 162 rfl) rfl
theorem q2412 : (Jvm.Cond.methodLink "LeaderLeasesModel" (244 : Nat) ({ cls := "LeaderLeasesModel", name := "endsOutage", desc := "(I)V" } : Jvm.MethodName)) ∈ lw_all := lw_g (lw_at lw_m10 163 rfl) rfl
theorem q2413 : (Jvm.Cond.privateMethod ({ cls := "LeaderLeasesModel", name := "endsOutage", desc := "(I)V" } : Jvm.MethodName)) ∈ lw_tbl := lw_at lw_m10 164 rfl
theorem q2414 : (Jvm.Cond.instanceMethod ({ cls := "LeaderLeasesModel", name := "endsOutage", desc := "(I)V" } : Jvm.MethodName)) ∈ lw_all := lw_g (lw_at lw_m10 165 rfl) rfl
theorem q2415 : (Jvm.Cond.code ({ cls := "LeaderLeasesModel", name := "endsOutage", desc := "(I)V" } : Jvm.MethodName) prog_22_method_49_code (3 : Nat) (Option.none : Option Jvm.ClassFile.FieldType)) ∈ lw_all := lw_g (lw_at lw_m10 166 rfl) rfl
theorem q2416 : (Jvm.Cond.methodLink "LeaderLeasesModel" (268 : Nat) ({ cls := "LeaderLeasesModel", name := "messagesNow", desc := "()V" } : Jvm.MethodName)) ∈ lw_all := lw_g (lw_at lw_m10 167 rfl) rfl
theorem q2417 : (Jvm.Cond.privateMethod ({ cls := "LeaderLeasesModel", name := "messagesNow", desc := "()V" } : Jvm.MethodName)) ∈ lw_tbl := lw_at lw_m10 168 rfl
theorem q2418 : (Jvm.Cond.instanceMethod ({ cls := "LeaderLeasesModel", name := "messagesNow", desc := "()V" } : Jvm.MethodName)) ∈ lw_all := lw_g (lw_at lw_m10 169 rfl) rfl
theorem q2419 : (Jvm.Cond.code ({ cls := "LeaderLeasesModel", name := "messagesNow", desc := "()V" } : Jvm.MethodName) prog_22_method_48_code (5 : Nat) (Option.none : Option Jvm.ClassFile.FieldType)) ∈ lw_all := lw_g (lw_at lw_m10 170 rfl) rfl
theorem q2420 : (Jvm.Cond.methodLink "LeaderLeasesModel" (238 : Nat) ({ cls := "LeaderLeasesModel", name := "arrives", desc := "(I)Z" } : Jvm.MethodName)) ∈ lw_all := lw_g (lw_at lw_m10 171 rfl) rfl
theorem q2421 : (Jvm.Cond.privateMethod ({ cls := "LeaderLeasesModel", name := "arrives", desc := "(I)Z" } : Jvm.MethodName)) ∈ lw_tbl := lw_at lw_m10 172 rfl
theorem q2422 : (Jvm.Cond.instanceMethod ({ cls := "LeaderLeasesModel", name := "arrives", desc := "(I)Z" } : Jvm.MethodName)) ∈ lw_all := lw_g (lw_at lw_m10 173 rfl) rfl
theorem q2423 : (Jvm.Cond.code ({ cls := "LeaderLeasesModel", name := "arrives", desc := "(I)Z" } : Jvm.MethodName) prog_22_method_47_code (9 : Nat) (Option.some Jvm.ClassFile.FieldType.boolean)) ∈ lw_all := lw_g (lw_at lw_m10 174 rfl) rfl
theorem q2424 : (Jvm.Cond.methodLink "LeaderLeasesModel" (226 : Nat) ({ cls := "LeaderLeasesModel", name := "isToNode", desc := "(I)Z" } : Jvm.MethodName)) ∈ lw_all := lw_g (lw_at lw_m10 175 rfl) rfl
theorem q2425 : (Jvm.Cond.privateMethod ({ cls := "LeaderLeasesModel", name := "isToNode", desc := "(I)Z" } : Jvm.MethodName)) ∈ lw_tbl := lw_at lw_m10 176 rfl
theorem q2426 : (Jvm.Cond.instanceMethod ({ cls := "LeaderLeasesModel", name := "isToNode", desc := "(I)Z" } : Jvm.MethodName)) ∈ lw_all := lw_g (lw_at lw_m10 177 rfl) rfl
theorem q2427 : (Jvm.Cond.code ({ cls := "LeaderLeasesModel", name := "isToNode", desc := "(I)Z" } : Jvm.MethodName) prog_22_method_46_code (2 : Nat) (Option.some Jvm.ClassFile.FieldType.boolean)) ∈ lw_all := lw_g (lw_at lw_m10 178 rfl) rfl
theorem q2428 : (Jvm.Cond.methodLink "LeaderLeasesModel" (235 : Nat) ({ cls := "LeaderLeasesModel", name := "handles", desc := "(IIIII)V" } : Jvm.MethodName)) ∈ lw_all := lw_g (lw_at lw_m10 179 rfl) rfl
theorem q2429 : (Jvm.Cond.privateMethod ({ cls := "LeaderLeasesModel", name := "handles", desc := "(IIIII)V" } : Jvm.MethodName)) ∈ lw_tbl := lw_at lw_m10 180 rfl
theorem q2430 : (Jvm.Cond.instanceMethod ({ cls := "LeaderLeasesModel", name := "handles", desc := "(IIIII)V" } : Jvm.MethodName)) ∈ lw_all := lw_g (lw_at lw_m10 181 rfl) rfl
theorem q2431 : (Jvm.Cond.code ({ cls := "LeaderLeasesModel", name := "handles", desc := "(IIIII)V" } : Jvm.MethodName) prog_22_method_38_code (6 : Nat) (Option.none : Option Jvm.ClassFile.FieldType)) ∈ lw_all := lw_g (lw_at lw_m10 182 rfl) rfl
theorem q2432 : (Jvm.Cond.methodLink "LeaderLeasesModel" (197 : Nat) ({ cls := "LeaderLeasesModel", name := "atServer", desc := "(II)V" } : Jvm.MethodName)) ∈ lw_all := lw_g (lw_at lw_m10 183 rfl) rfl
theorem q2433 : (Jvm.Cond.privateMethod ({ cls := "LeaderLeasesModel", name := "atServer", desc := "(II)V" } : Jvm.MethodName)) ∈ lw_tbl := lw_at lw_m10 184 rfl
theorem q2434 : (Jvm.Cond.instanceMethod ({ cls := "LeaderLeasesModel", name := "atServer", desc := "(II)V" } : Jvm.MethodName)) ∈ lw_all := lw_g (lw_at lw_m10 185 rfl) rfl
theorem q2435 : (Jvm.Cond.code ({ cls := "LeaderLeasesModel", name := "atServer", desc := "(II)V" } : Jvm.MethodName) prog_22_method_39_code (5 : Nat) (Option.none : Option Jvm.ClassFile.FieldType)) ∈ lw_all := lw_g (lw_at lw_m10 186 rfl) rfl
theorem q2436 : (Jvm.Cond.methodLink "LeaderLeasesModel" (219 : Nat) ({ cls := "LeaderLeasesModel", name := "logs", desc := "(III)V" } : Jvm.MethodName)) ∈ lw_all := lw_g (lw_at lw_m10 187 rfl) rfl
theorem q2437 : (Jvm.Cond.privateMethod ({ cls := "LeaderLeasesModel", name := "logs", desc := "(III)V" } : Jvm.MethodName)) ∈ lw_tbl := lw_at lw_m10 188 rfl
theorem q2438 : (Jvm.Cond.instanceMethod ({ cls := "LeaderLeasesModel", name := "logs", desc := "(III)V" } : Jvm.MethodName)) ∈ lw_all := lw_g (lw_at lw_m10 189 rfl) rfl
theorem q2439 : (Jvm.Cond.code ({ cls := "LeaderLeasesModel", name := "logs", desc := "(III)V" } : Jvm.MethodName) prog_22_method_33_code (5 : Nat) (Option.none : Option Jvm.ClassFile.FieldType)) ∈ lw_all := lw_g (lw_at lw_m10 190 rfl) rfl
theorem q2440 : (Jvm.Cond.methodLink "LeaderLeasesModel" (189 : Nat) ({ cls := "LeaderLeasesModel", name := "sends", desc := "(IIIII)V" } : Jvm.MethodName)) ∈ lw_all := lw_g (lw_at lw_m10 191 rfl) rfl
theorem q2441 : (Jvm.Cond.privateMethod ({ cls := "LeaderLeasesModel", name := "sends", desc := "(IIIII)V" } : Jvm.MethodName)) ∈ lw_tbl := lw_at lw_m10 192 rfl
theorem q2442 : (Jvm.Cond.instanceMethod ({ cls := "LeaderLeasesModel", name := "sends", desc := "(IIIII)V" } : Jvm.MethodName)) ∈ lw_all := lw_g (lw_at lw_m10 193 rfl) rfl
theorem q2443 : (Jvm.Cond.code ({ cls := "LeaderLeasesModel", name := "sends", desc := "(IIIII)V" } : Jvm.MethodName) prog_22_method_34_code (8 : Nat) (Option.none : Option Jvm.ClassFile.FieldType)) ∈ lw_all := lw_g (lw_at lw_m10 194 rfl) rfl
theorem q2444 : (Jvm.Cond.constantLong "LeaderLeasesModel" (179 : Nat) (1103515245 : Int64)) ∈ lw_all := lw_g (lw_at lw_m10 195 rfl) rfl
theorem q2445 : (Jvm.Cond.constantLong "LeaderLeasesModel" (181 : Nat) (12345 : Int64)) ∈ lw_all := lw_g (lw_at lw_m10 196 rfl) rfl
theorem q2446 : (Jvm.Cond.constantLong "LeaderLeasesModel" (183 : Nat) (2147483648 : Int64)) ∈ lw_all := lw_g (lw_at lw_m10 197 rfl) rfl
theorem q2447 : (Jvm.Cond.constant "LeaderLeasesModel" (185 : Nat) (65536 : Int32)) ∈ lw_all := lw_g (lw_at lw_m10 198 rfl) rfl
theorem q2448 : (Jvm.Cond.methodLink "LeaderLeasesModel" (200 : Nat) ({ cls := "LeaderLeasesModel", name := "released", desc := "(II)V" } : Jvm.MethodName)) ∈ lw_all := lw_g (lw_at lw_m10 199 rfl) rfl
theorem q2449 : (Jvm.Cond.privateMethod ({ cls := "LeaderLeasesModel", name := "released", desc := "(II)V" } : Jvm.MethodName)) ∈ lw_tbl := lw_at lw_m10 200 rfl
theorem q2450 : (Jvm.Cond.instanceMethod ({ cls := "LeaderLeasesModel", name := "released", desc := "(II)V" } : Jvm.MethodName)) ∈ lw_all := lw_g (lw_at lw_m10 201 rfl) rfl
theorem q2451 : (Jvm.Cond.code ({ cls := "LeaderLeasesModel", name := "released", desc := "(II)V" } : Jvm.MethodName) prog_22_method_40_code (3 : Nat) (Option.none : Option Jvm.ClassFile.FieldType)) ∈ lw_all := lw_g (lw_at lw_m10 202 rfl) rfl
theorem q2452 : (Jvm.Cond.methodLink "LeaderLeasesModel" (203 : Nat) ({ cls := "LeaderLeasesModel", name := "written", desc := "(IIII)V" } : Jvm.MethodName)) ∈ lw_all := lw_g (lw_at lw_m10 203 rfl) rfl
theorem q2453 : (Jvm.Cond.privateMethod ({ cls := "LeaderLeasesModel", name := "written", desc := "(IIII)V" } : Jvm.MethodName)) ∈ lw_tbl := lw_at lw_m10 204 rfl
theorem q2454 : (Jvm.Cond.instanceMethod ({ cls := "LeaderLeasesModel", name := "written", desc := "(IIII)V" } : Jvm.MethodName)) ∈ lw_all := lw_g (lw_at lw_m10 205 rfl) rfl
theorem q2455 : (Jvm.Cond.code ({ cls := "LeaderLeasesModel", name := "written", desc := "(IIII)V" } : Jvm.MethodName) prog_22_method_43_code (5 : Nat) (Option.none : Option Jvm.ClassFile.FieldType)) ∈ lw_all := lw_g (lw_at lw_m10 206 rfl) rfl
theorem q2456 : (Jvm.Cond.methodLink "LeaderLeasesModel" (222 : Nat) ({ cls := "LeaderLeasesModel", name := "fences", desc := "(II)Z" } : Jvm.MethodName)) ∈ lw_all := lw_g (lw_at lw_m10 207 rfl) rfl
theorem q2457 : (Jvm.Cond.privateMethod ({ cls := "LeaderLeasesModel", name := "fences", desc := "(II)Z" } : Jvm.MethodName)) ∈ lw_tbl := lw_at lw_m10 208 rfl
theorem q2458 : (Jvm.Cond.instanceMethod ({ cls := "LeaderLeasesModel", name := "fences", desc := "(II)Z" } : Jvm.MethodName)) ∈ lw_all := lw_g (lw_at lw_m10 209 rfl) rfl
theorem q2459 : (Jvm.Cond.code ({ cls := "LeaderLeasesModel", name := "fences", desc := "(II)Z" } : Jvm.MethodName) prog_22_method_42_code (3 : Nat) (Option.some Jvm.ClassFile.FieldType.boolean)) ∈ lw_all := lw_g (lw_at lw_m10 210 rfl) rfl
theorem q2460 : (Jvm.Cond.methodLink "LeaderLeasesModel" (207 : Nat) ({ cls := "LeaderLeasesModel", name := "fetched", desc := "(III)V" } : Jvm.MethodName)) ∈ lw_all := lw_g (lw_at lw_m10 211 rfl) rfl
theorem q2461 : (Jvm.Cond.privateMethod ({ cls := "LeaderLeasesModel", name := "fetched", desc := "(III)V" } : Jvm.MethodName)) ∈ lw_tbl := lw_at lw_m10 212 rfl
theorem q2462 : (Jvm.Cond.instanceMethod ({ cls := "LeaderLeasesModel", name := "fetched", desc := "(III)V" } : Jvm.MethodName)) ∈ lw_all := lw_g (lw_at lw_m10 213 rfl) rfl
theorem q2463 : (Jvm.Cond.code ({ cls := "LeaderLeasesModel", name := "fetched", desc := "(III)V" } : Jvm.MethodName) prog_22_method_44_code (4 : Nat) (Option.none : Option Jvm.ClassFile.FieldType)) ∈ lw_all := lw_g (lw_at lw_m10 214 rfl) rfl
theorem q2464 : (Jvm.Cond.methodLink "LeaderLeasesModel" (210 : Nat) ({ cls := "LeaderLeasesModel", name := "granted", desc := "(III)V" } : Jvm.MethodName)) ∈ lw_all := lw_g (lw_at lw_m10 215 rfl) rfl
theorem q2465 : (Jvm.Cond.privateMethod ({ cls := "LeaderLeasesModel", name := "granted", desc := "(III)V" } : Jvm.MethodName)) ∈ lw_tbl := lw_at lw_m10 216 rfl
theorem q2466 : (Jvm.Cond.instanceMethod ({ cls := "LeaderLeasesModel", name := "granted", desc := "(III)V" } : Jvm.MethodName)) ∈ lw_all := lw_g (lw_at lw_m10 217 rfl) rfl
theorem q2467 : (Jvm.Cond.code ({ cls := "LeaderLeasesModel", name := "granted", desc := "(III)V" } : Jvm.MethodName) prog_22_method_41_code (6 : Nat) (Option.none : Option Jvm.ClassFile.FieldType)) ∈ lw_all := lw_g (lw_at lw_m10 218 rfl) rfl
theorem q2468 : (Jvm.Cond.methodLink "LeaderLeasesModel" (193 : Nat) ({ cls := "LeaderLeasesModel", name := "setsTimer", desc := "(II)V" } : Jvm.MethodName)) ∈ lw_all := lw_g (lw_at lw_m10 219 rfl) rfl
theorem q2469 : (Jvm.Cond.privateMethod ({ cls := "LeaderLeasesModel", name := "setsTimer", desc := "(II)V" } : Jvm.MethodName)) ∈ lw_tbl := lw_at lw_m10 220 rfl
theorem q2470 : (Jvm.Cond.instanceMethod ({ cls := "LeaderLeasesModel", name := "setsTimer", desc := "(II)V" } : Jvm.MethodName)) ∈ lw_all := lw_g (lw_at lw_m10 221 rfl) rfl
theorem q2471 : (Jvm.Cond.code ({ cls := "LeaderLeasesModel", name := "setsTimer", desc := "(II)V" } : Jvm.MethodName) prog_22_method_28_code (3 : Nat) (Option.none : Option Jvm.ClassFile.FieldType)) ∈ lw_all := lw_g (lw_at lw_m10 222 rfl) rfl
theorem q2472 : (Jvm.Cond.methodLink "LeaderLeasesModel" (213 : Nat) ({ cls := "LeaderLeasesModel", name := "forgets", desc := "(I)V" } : Jvm.MethodName)) ∈ lw_all := lw_g (lw_at lw_m10 223 rfl) rfl
theorem q2473 : (Jvm.Cond.privateMethod ({ cls := "LeaderLeasesModel", name := "forgets", desc := "(I)V" } : Jvm.MethodName)) ∈ lw_tbl := lw_at lw_m10 224 rfl
theorem q2474 : (Jvm.Cond.instanceMethod ({ cls := "LeaderLeasesModel", name := "forgets", desc := "(I)V" } : Jvm.MethodName)) ∈ lw_all := lw_g (lw_at lw_m10 225 rfl) rfl
theorem q2475 : (Jvm.Cond.code ({ cls := "LeaderLeasesModel", name := "forgets", desc := "(I)V" } : Jvm.MethodName) prog_22_method_37_code (2 : Nat) (Option.none : Option Jvm.ClassFile.FieldType)) ∈ lw_all := lw_g (lw_at lw_m10 226 rfl) rfl
theorem q2476 : (Jvm.Cond.methodLink "LeaderLeasesModel" (216 : Nat) ({ cls := "LeaderLeasesModel", name := "caches", desc := "(IIII)V" } : Jvm.MethodName)) ∈ lw_all := lw_g (lw_at lw_m10 227 rfl) rfl
theorem q2477 : (Jvm.Cond.privateMethod ({ cls := "LeaderLeasesModel", name := "caches", desc := "(IIII)V" } : Jvm.MethodName)) ∈ lw_tbl := lw_at lw_m10 228 rfl
theorem q2478 : (Jvm.Cond.instanceMethod ({ cls := "LeaderLeasesModel", name := "caches", desc := "(IIII)V" } : Jvm.MethodName)) ∈ lw_all := lw_g (lw_at lw_m10 229 rfl) rfl
theorem q2479 : (Jvm.Cond.code ({ cls := "LeaderLeasesModel", name := "caches", desc := "(IIII)V" } : Jvm.MethodName) prog_22_method_45_code (5 : Nat) (Option.none : Option Jvm.ClassFile.FieldType)) ∈ lw_all := lw_g (lw_at lw_m10 230 rfl) rfl
theorem q2480 : (Jvm.Cond.methodLink "LeaderLeasesModel" (241 : Nat) ({ cls := "LeaderLeasesModel", name := "packs", desc := "()V" } : Jvm.MethodName)) ∈ lw_all := lw_g (lw_at lw_m10 231 rfl) rfl
theorem q2481 : (Jvm.Cond.privateMethod ({ cls := "LeaderLeasesModel", name := "packs", desc := "()V" } : Jvm.MethodName)) ∈ lw_tbl := lw_at lw_m10 232 rfl
theorem q2482 : (Jvm.Cond.instanceMethod ({ cls := "LeaderLeasesModel", name := "packs", desc := "()V" } : Jvm.MethodName)) ∈ lw_all := lw_g (lw_at lw_m10 233 rfl) rfl
theorem q2483 : (Jvm.Cond.code ({ cls := "LeaderLeasesModel", name := "packs", desc := "()V" } : Jvm.MethodName) prog_22_method_35_code (4 : Nat) (Option.none : Option Jvm.ClassFile.FieldType)) ∈ lw_all := lw_g (lw_at lw_m10 234 rfl) rfl
theorem q2484 : (Jvm.Cond.methodLink "LeaderLeasesModel" (271 : Nat) ({ cls := "LeaderLeasesModel", name := "delayedNow", desc := "()V" } : Jvm.MethodName)) ∈ lw_all := lw_g (lw_at lw_m10 235 rfl) rfl
theorem q2485 : (Jvm.Cond.privateMethod ({ cls := "LeaderLeasesModel", name := "delayedNow", desc := "()V" } : Jvm.MethodName)) ∈ lw_tbl := lw_at lw_m10 236 rfl
theorem q2486 : (Jvm.Cond.instanceMethod ({ cls := "LeaderLeasesModel", name := "delayedNow", desc := "()V" } : Jvm.MethodName)) ∈ lw_all := lw_g (lw_at lw_m10 237 rfl) rfl
theorem q2487 : (Jvm.Cond.code ({ cls := "LeaderLeasesModel", name := "delayedNow", desc := "()V" } : Jvm.MethodName) prog_22_method_51_code (8 : Nat) (Option.none : Option Jvm.ClassFile.FieldType)) ∈ lw_all := lw_g (lw_at lw_m10 238 rfl) rfl
theorem q2488 : (Jvm.Cond.methodLink "LeaderLeasesModel" (274 : Nat) ({ cls := "LeaderLeasesModel", name := "timersNow", desc := "()V" } : Jvm.MethodName)) ∈ lw_all := lw_g (lw_at lw_m10 239 rfl) rfl
theorem q2489 : (Jvm.Cond.privateMethod ({ cls := "LeaderLeasesModel", name := "timersNow", desc := "()V" } : Jvm.MethodName)) ∈ lw_tbl := lw_at lw_m11 0 rfl
theorem q2490 : (Jvm.Cond.instanceMethod ({ cls := "LeaderLeasesModel", name := "timersNow", desc := "()V" } : Jvm.MethodName)) ∈ lw_all := lw_g (lw_at lw_m11 1 rfl) rfl
theorem q2491 : (Jvm.Cond.code ({ cls := "LeaderLeasesModel", name := "timersNow", desc := "()V" } : Jvm.MethodName) prog_22_method_52_code (3 : Nat) (Option.none : Option Jvm.ClassFile.FieldType)) ∈ lw_all := lw_g (lw_at lw_m11 2 rfl) rfl
theorem q2492 : (Jvm.Cond.methodLink "LeaderLeasesModel" (247 : Nat) ({ cls := "LeaderLeasesModel", name := "acquires", desc := "(I)V" } : Jvm.MethodName)) ∈ lw_all := lw_g (lw_at lw_m11 3 rfl) rfl
theorem q2493 : (Jvm.Cond.privateMethod ({ cls := "LeaderLeasesModel", name := "acquires", desc := "(I)V" } : Jvm.MethodName)) ∈ lw_tbl := lw_at lw_m11 4 rfl
theorem q2494 : (Jvm.Cond.instanceMethod ({ cls := "LeaderLeasesModel", name := "acquires", desc := "(I)V" } : Jvm.MethodName)) ∈ lw_all := lw_g (lw_at lw_m11 5 rfl) rfl
theorem q2495 : (Jvm.Cond.code ({ cls := "LeaderLeasesModel", name := "acquires", desc := "(I)V" } : Jvm.MethodName) prog_22_method_36_code (2 : Nat) (Option.none : Option Jvm.ClassFile.FieldType)) ∈ lw_all := lw_g (lw_at lw_m11 6 rfl) rfl
theorem q2497 : (Jvm.Cond.instanceMethod ({ cls := "LeaderLeasesModel", name := "advanceToNextEvent", desc := "()I" } : Jvm.MethodName)) ∈ lw_all := lw_g (lw_at lw_m11 8 rfl) rfl
theorem q2498 : (Jvm.Cond.selects "LeaderLeasesModel" ({ cls := "LeaderLeasesModel", name := "advanceToNextEvent", desc := "()I" } : Jvm.MethodName) ({ cls := "LeaderLeasesModel", name := "advanceToNextEvent", desc := "()I" } : Jvm.MethodName)) ∈ lw_all := lw_g (lw_at lw_m11 9 rfl) rfl
theorem q2499 : (Jvm.Cond.code ({ cls := "LeaderLeasesModel", name := "advanceToNextEvent", desc := "()I" } : Jvm.MethodName) prog_22_method_57_code (2 : Nat) (Option.some Jvm.ClassFile.FieldType.int)) ∈ lw_all := lw_g (lw_at lw_m11 10 rfl) rfl
theorem q2501 : (Jvm.Cond.instanceMethod ({ cls := "LeaderLeasesModel", name := "campaign", desc := "(I)I" } : Jvm.MethodName)) ∈ lw_all := lw_g (lw_at lw_m11 12 rfl) rfl
theorem q2502 : (Jvm.Cond.selects "LeaderLeasesModel" ({ cls := "LeaderLeasesModel", name := "campaign", desc := "(I)I" } : Jvm.MethodName) ({ cls := "LeaderLeasesModel", name := "campaign", desc := "(I)I" } : Jvm.MethodName)) ∈ lw_all := lw_g (lw_at lw_m11 13 rfl) rfl
theorem q2503 : (Jvm.Cond.code ({ cls := "LeaderLeasesModel", name := "campaign", desc := "(I)I" } : Jvm.MethodName) prog_22_method_60_code (2 : Nat) (Option.some Jvm.ClassFile.FieldType.int)) ∈ lw_all := lw_g (lw_at lw_m11 14 rfl) rfl
theorem q2504 : (Jvm.Cond.methodLink "LeaderLeasesModel" (283 : Nat) ({ cls := "LeaderLeasesModel", name := "refusal", desc := "(I)I" } : Jvm.MethodName)) ∈ lw_all := lw_g (lw_at lw_m11 15 rfl) rfl
theorem q2505 : (Jvm.Cond.privateMethod ({ cls := "LeaderLeasesModel", name := "refusal", desc := "(I)I" } : Jvm.MethodName)) ∈ lw_tbl := lw_at lw_m11 16 rfl
theorem q2506 : (Jvm.Cond.instanceMethod ({ cls := "LeaderLeasesModel", name := "refusal", desc := "(I)I" } : Jvm.MethodName)) ∈ lw_all := lw_g (lw_at lw_m11 17 rfl) rfl
theorem q2507 : (Jvm.Cond.code ({ cls := "LeaderLeasesModel", name := "refusal", desc := "(I)I" } : Jvm.MethodName) prog_22_method_58_code (2 : Nat) (Option.some Jvm.ClassFile.FieldType.int)) ∈ lw_all := lw_g (lw_at lw_m11 18 rfl) rfl
theorem q2509 : (Jvm.Cond.instanceMethod ({ cls := "LeaderLeasesModel", name := "withdraw", desc := "(I)I" } : Jvm.MethodName)) ∈ lw_all := lw_g (lw_at lw_m11 20 rfl) rfl
theorem q2510 : (Jvm.Cond.selects "LeaderLeasesModel" ({ cls := "LeaderLeasesModel", name := "withdraw", desc := "(I)I" } : Jvm.MethodName) ({ cls := "LeaderLeasesModel", name := "withdraw", desc := "(I)I" } : Jvm.MethodName)) ∈ lw_all := lw_g (lw_at lw_m11 21 rfl) rfl
theorem q2511 : (Jvm.Cond.code ({ cls := "LeaderLeasesModel", name := "withdraw", desc := "(I)I" } : Jvm.MethodName) prog_22_method_61_code (3 : Nat) (Option.some Jvm.ClassFile.FieldType.int)) ∈ lw_all := lw_g (lw_at lw_m11 22 rfl) rfl
theorem q2513 : (Jvm.Cond.instanceMethod ({ cls := "LeaderLeasesModel", name := "crash", desc := "(I)I" } : Jvm.MethodName)) ∈ lw_all := lw_g (lw_at lw_m11 24 rfl) rfl
theorem q2514 : (Jvm.Cond.selects "LeaderLeasesModel" ({ cls := "LeaderLeasesModel", name := "crash", desc := "(I)I" } : Jvm.MethodName) ({ cls := "LeaderLeasesModel", name := "crash", desc := "(I)I" } : Jvm.MethodName)) ∈ lw_all := lw_g (lw_at lw_m11 25 rfl) rfl
theorem q2515 : (Jvm.Cond.code ({ cls := "LeaderLeasesModel", name := "crash", desc := "(I)I" } : Jvm.MethodName) prog_22_method_62_code (3 : Nat) (Option.some Jvm.ClassFile.FieldType.int)) ∈ lw_all := lw_g (lw_at lw_m11 26 rfl) rfl
theorem q2517 : (Jvm.Cond.instanceMethod ({ cls := "LeaderLeasesModel", name := "restart", desc := "(I)Z" } : Jvm.MethodName)) ∈ lw_all := lw_g (lw_at lw_m11 28 rfl) rfl
theorem q2518 : (Jvm.Cond.selects "LeaderLeasesModel" ({ cls := "LeaderLeasesModel", name := "restart", desc := "(I)Z" } : Jvm.MethodName) ({ cls := "LeaderLeasesModel", name := "restart", desc := "(I)Z" } : Jvm.MethodName)) ∈ lw_all := lw_g (lw_at lw_m11 29 rfl) rfl
theorem q2519 : (Jvm.Cond.code ({ cls := "LeaderLeasesModel", name := "restart", desc := "(I)Z" } : Jvm.MethodName) prog_22_method_63_code (2 : Nat) (Option.some Jvm.ClassFile.FieldType.boolean)) ∈ lw_all := lw_g (lw_at lw_m11 30 rfl) rfl
theorem q2521 : (Jvm.Cond.instanceMethod ({ cls := "LeaderLeasesModel", name := "pause", desc := "(II)I" } : Jvm.MethodName)) ∈ lw_all := lw_g (lw_at lw_m11 32 rfl) rfl
theorem q2522 : (Jvm.Cond.selects "LeaderLeasesModel" ({ cls := "LeaderLeasesModel", name := "pause", desc := "(II)I" } : Jvm.MethodName) ({ cls := "LeaderLeasesModel", name := "pause", desc := "(II)I" } : Jvm.MethodName)) ∈ lw_all := lw_g (lw_at lw_m11 33 rfl) rfl
theorem q2523 : (Jvm.Cond.code ({ cls := "LeaderLeasesModel", name := "pause", desc := "(II)I" } : Jvm.MethodName) prog_22_method_64_code (3 : Nat) (Option.some Jvm.ClassFile.FieldType.int)) ∈ lw_all := lw_g (lw_at lw_m11 34 rfl) rfl
theorem q2524 : (Jvm.Cond.constantLong "LeaderLeasesModel" (286 : Nat) (20000 : Int64)) ∈ lw_all := lw_g (lw_at lw_m11 35 rfl) rfl
theorem q2526 : (Jvm.Cond.instanceMethod ({ cls := "LeaderLeasesModel", name := "setCut", desc := "(IZ)Z" } : Jvm.MethodName)) ∈ lw_all := lw_g (lw_at lw_m11 37 rfl) rfl
theorem q2527 : (Jvm.Cond.selects "LeaderLeasesModel" ({ cls := "LeaderLeasesModel", name := "setCut", desc := "(IZ)Z" } : Jvm.MethodName) ({ cls := "LeaderLeasesModel", name := "setCut", desc := "(IZ)Z" } : Jvm.MethodName)) ∈ lw_all := lw_g (lw_at lw_m11 38 rfl) rfl
theorem q2528 : (Jvm.Cond.code ({ cls := "LeaderLeasesModel", name := "setCut", desc := "(IZ)Z" } : Jvm.MethodName) prog_22_method_65_code (4 : Nat) (Option.some Jvm.ClassFile.FieldType.boolean)) ∈ lw_all := lw_g (lw_at lw_m11 39 rfl) rfl
theorem q2530 : (Jvm.Cond.instanceMethod ({ cls := "LeaderLeasesModel", name := "planOutage", desc := "(III)I" } : Jvm.MethodName)) ∈ lw_all := lw_g (lw_at lw_m11 41 rfl) rfl
theorem q2531 : (Jvm.Cond.selects "LeaderLeasesModel" ({ cls := "LeaderLeasesModel", name := "planOutage", desc := "(III)I" } : Jvm.MethodName) ({ cls := "LeaderLeasesModel", name := "planOutage", desc := "(III)I" } : Jvm.MethodName)) ∈ lw_all := lw_g (lw_at lw_m11 42 rfl) rfl
theorem q2532 : (Jvm.Cond.code ({ cls := "LeaderLeasesModel", name := "planOutage", desc := "(III)I" } : Jvm.MethodName) prog_22_method_66_code (5 : Nat) (Option.some Jvm.ClassFile.FieldType.int)) ∈ lw_all := lw_g (lw_at lw_m11 43 rfl) rfl
theorem q2534 : (Jvm.Cond.instanceMethod ({ cls := "LeaderLeasesModel", name := "restartServer", desc := "()I" } : Jvm.MethodName)) ∈ lw_all := lw_g (lw_at lw_m11 45 rfl) rfl
theorem q2535 : (Jvm.Cond.selects "LeaderLeasesModel" ({ cls := "LeaderLeasesModel", name := "restartServer", desc := "()I" } : Jvm.MethodName) ({ cls := "LeaderLeasesModel", name := "restartServer", desc := "()I" } : Jvm.MethodName)) ∈ lw_all := lw_g (lw_at lw_m11 46 rfl) rfl
theorem q2536 : (Jvm.Cond.code ({ cls := "LeaderLeasesModel", name := "restartServer", desc := "()I" } : Jvm.MethodName) prog_22_method_67_code (1 : Nat) (Option.some Jvm.ClassFile.FieldType.int)) ∈ lw_all := lw_g (lw_at lw_m11 47 rfl) rfl
theorem q2538 : (Jvm.Cond.instanceMethod ({ cls := "LeaderLeasesModel", name := "write", desc := "(III)I" } : Jvm.MethodName)) ∈ lw_all := lw_g (lw_at lw_m11 49 rfl) rfl
theorem q2539 : (Jvm.Cond.selects "LeaderLeasesModel" ({ cls := "LeaderLeasesModel", name := "write", desc := "(III)I" } : Jvm.MethodName) ({ cls := "LeaderLeasesModel", name := "write", desc := "(III)I" } : Jvm.MethodName)) ∈ lw_all := lw_g (lw_at lw_m11 50 rfl) rfl
theorem q2540 : (Jvm.Cond.code ({ cls := "LeaderLeasesModel", name := "write", desc := "(III)I" } : Jvm.MethodName) prog_22_method_70_code (4 : Nat) (Option.some Jvm.ClassFile.FieldType.int)) ∈ lw_all := lw_g (lw_at lw_m11 51 rfl) rfl
theorem q2541 : (Jvm.Cond.methodLink "LeaderLeasesModel" (292 : Nat) ({ cls := "LeaderLeasesModel", name := "isRegister", desc := "(I)Z" } : Jvm.MethodName)) ∈ lw_all := lw_g (lw_at lw_m11 52 rfl) rfl
theorem q2542 : (Jvm.Cond.static ({ cls := "LeaderLeasesModel", name := "isRegister", desc := "(I)Z" } : Jvm.MethodName)) ∈ lw_all := lw_g (lw_at lw_m11 53 rfl) rfl
theorem q2543 : (Jvm.Cond.code ({ cls := "LeaderLeasesModel", name := "isRegister", desc := "(I)Z" } : Jvm.MethodName) prog_22_method_68_code (1 : Nat) (Option.some Jvm.ClassFile.FieldType.boolean)) ∈ lw_all := lw_g (lw_at lw_m11 54 rfl) rfl
theorem q2544 : (Jvm.Cond.constantLong "LeaderLeasesModel" (288 : Nat) (7 : Int64)) ∈ lw_all := lw_g (lw_at lw_m11 55 rfl) rfl
theorem q2545 : (Jvm.Cond.methodLink "LeaderLeasesModel" (295 : Nat) ({ cls := "LeaderLeasesModel", name := "isValue", desc := "(I)Z" } : Jvm.MethodName)) ∈ lw_all := lw_g (lw_at lw_m11 56 rfl) rfl
theorem q2546 : (Jvm.Cond.static ({ cls := "LeaderLeasesModel", name := "isValue", desc := "(I)Z" } : Jvm.MethodName)) ∈ lw_all := lw_g (lw_at lw_m11 57 rfl) rfl
theorem q2547 : (Jvm.Cond.code ({ cls := "LeaderLeasesModel", name := "isValue", desc := "(I)Z" } : Jvm.MethodName) prog_22_method_69_code (1 : Nat) (Option.some Jvm.ClassFile.FieldType.boolean)) ∈ lw_all := lw_g (lw_at lw_m11 58 rfl) rfl
theorem q2548 : (Jvm.Cond.constantLong "LeaderLeasesModel" (290 : Nat) (999999 : Int64)) ∈ lw_all := lw_g (lw_at lw_m11 59 rfl) rfl
theorem q2549 : (Jvm.Cond.methodLink "LeaderLeasesModel" (298 : Nat) ({ cls := "LeaderLeasesModel", name := "refusalOfLeader", desc := "(I)I" } : Jvm.MethodName)) ∈ lw_all := lw_g (lw_at lw_m11 60 rfl) rfl
theorem q2550 : (Jvm.Cond.privateMethod ({ cls := "LeaderLeasesModel", name := "refusalOfLeader", desc := "(I)I" } : Jvm.MethodName)) ∈ lw_tbl := lw_at lw_m11 61 rfl
theorem q2551 : (Jvm.Cond.instanceMethod ({ cls := "LeaderLeasesModel", name := "refusalOfLeader", desc := "(I)I" } : Jvm.MethodName)) ∈ lw_all := lw_g (lw_at lw_m11 62 rfl) rfl
theorem q2552 : (Jvm.Cond.code ({ cls := "LeaderLeasesModel", name := "refusalOfLeader", desc := "(I)I" } : Jvm.MethodName) prog_22_method_59_code (2 : Nat) (Option.some Jvm.ClassFile.FieldType.int)) ∈ lw_all := lw_g (lw_at lw_m11 63 rfl) rfl
theorem q2554 : (Jvm.Cond.instanceMethod ({ cls := "LeaderLeasesModel", name := "writeLater", desc := "(IIII)I" } : Jvm.MethodName)) ∈ lw_all := lw_g (lw_at lw_m11 65 rfl) rfl
theorem q2555 : (Jvm.Cond.selects "LeaderLeasesModel" ({ cls := "LeaderLeasesModel", name := "writeLater", desc := "(IIII)I" } : Jvm.MethodName) ({ cls := "LeaderLeasesModel", name := "writeLater", desc := "(IIII)I" } : Jvm.MethodName)) ∈ lw_all := lw_g (lw_at lw_m11 66 rfl) rfl
theorem q2556 : (Jvm.Cond.code ({ cls := "LeaderLeasesModel", name := "writeLater", desc := "(IIII)I" } : Jvm.MethodName) prog_22_method_71_code (6 : Nat) (Option.some Jvm.ClassFile.FieldType.int)) ∈ lw_all := lw_g (lw_at lw_m11 67 rfl) rfl
theorem q2558 : (Jvm.Cond.instanceMethod ({ cls := "LeaderLeasesModel", name := "fetch", desc := "(II)I" } : Jvm.MethodName)) ∈ lw_all := lw_g (lw_at lw_m11 69 rfl) rfl
theorem q2559 : (Jvm.Cond.selects "LeaderLeasesModel" ({ cls := "LeaderLeasesModel", name := "fetch", desc := "(II)I" } : Jvm.MethodName) ({ cls := "LeaderLeasesModel", name := "fetch", desc := "(II)I" } : Jvm.MethodName)) ∈ lw_all := lw_g (lw_at lw_m11 70 rfl) rfl
theorem q2560 : (Jvm.Cond.code ({ cls := "LeaderLeasesModel", name := "fetch", desc := "(II)I" } : Jvm.MethodName) prog_22_method_72_code (3 : Nat) (Option.some Jvm.ClassFile.FieldType.int)) ∈ lw_all := lw_g (lw_at lw_m11 71 rfl) rfl
theorem q2562 : (Jvm.Cond.instanceMethod ({ cls := "LeaderLeasesModel", name := "read", desc := "(II)I" } : Jvm.MethodName)) ∈ lw_all := lw_g (lw_at lw_m11 73 rfl) rfl
theorem q2563 : (Jvm.Cond.selects "LeaderLeasesModel" ({ cls := "LeaderLeasesModel", name := "read", desc := "(II)I" } : Jvm.MethodName) ({ cls := "LeaderLeasesModel", name := "read", desc := "(II)I" } : Jvm.MethodName)) ∈ lw_all := lw_g (lw_at lw_m11 74 rfl) rfl
theorem q2564 : (Jvm.Cond.code ({ cls := "LeaderLeasesModel", name := "read", desc := "(II)I" } : Jvm.MethodName) prog_22_method_73_code (4 : Nat) (Option.some Jvm.ClassFile.FieldType.int)) ∈ lw_all := lw_g (lw_at lw_m11 75 rfl) rfl
theorem q2566 : (Jvm.Cond.instanceMethod ({ cls := "LeaderLeasesModel", name := "stored", desc := "(I)I" } : Jvm.MethodName)) ∈ lw_all := lw_g (lw_at lw_m11 77 rfl) rfl
theorem q2567 : (Jvm.Cond.selects "LeaderLeasesModel" ({ cls := "LeaderLeasesModel", name := "stored", desc := "(I)I" } : Jvm.MethodName) ({ cls := "LeaderLeasesModel", name := "stored", desc := "(I)I" } : Jvm.MethodName)) ∈ lw_all := lw_g (lw_at lw_m11 78 rfl) rfl
theorem q2568 : (Jvm.Cond.code ({ cls := "LeaderLeasesModel", name := "stored", desc := "(I)I" } : Jvm.MethodName) prog_22_method_75_code (2 : Nat) (Option.some Jvm.ClassFile.FieldType.int)) ∈ lw_all := lw_g (lw_at lw_m11 79 rfl) rfl
theorem q2569 : (Jvm.Cond.methodLink "LeaderLeasesModel" (301 : Nat) ({ cls := "LeaderLeasesModel", name := "registerCell", desc := "(II)I" } : Jvm.MethodName)) ∈ lw_all := lw_g (lw_at lw_m11 80 rfl) rfl
theorem q2570 : (Jvm.Cond.privateMethod ({ cls := "LeaderLeasesModel", name := "registerCell", desc := "(II)I" } : Jvm.MethodName)) ∈ lw_tbl := lw_at lw_m11 81 rfl
theorem q2571 : (Jvm.Cond.instanceMethod ({ cls := "LeaderLeasesModel", name := "registerCell", desc := "(II)I" } : Jvm.MethodName)) ∈ lw_all := lw_g (lw_at lw_m11 82 rfl) rfl
theorem q2572 : (Jvm.Cond.code ({ cls := "LeaderLeasesModel", name := "registerCell", desc := "(II)I" } : Jvm.MethodName) prog_22_method_74_code (3 : Nat) (Option.some Jvm.ClassFile.FieldType.int)) ∈ lw_all := lw_g (lw_at lw_m11 83 rfl) rfl
theorem q2574 : (Jvm.Cond.instanceMethod ({ cls := "LeaderLeasesModel", name := "version", desc := "(I)I" } : Jvm.MethodName)) ∈ lw_all := lw_g (lw_at lw_m11 85 rfl) rfl
theorem q2575 : (Jvm.Cond.selects "LeaderLeasesModel" ({ cls := "LeaderLeasesModel", name := "version", desc := "(I)I" } : Jvm.MethodName) ({ cls := "LeaderLeasesModel", name := "version", desc := "(I)I" } : Jvm.MethodName)) ∈ lw_all := lw_g (lw_at lw_m11 86 rfl) rfl
theorem q2576 : (Jvm.Cond.code ({ cls := "LeaderLeasesModel", name := "version", desc := "(I)I" } : Jvm.MethodName) prog_22_method_76_code (2 : Nat) (Option.some Jvm.ClassFile.FieldType.int)) ∈ lw_all := lw_g (lw_at lw_m11 87 rfl) rfl
theorem q2578 : (Jvm.Cond.instanceMethod ({ cls := "LeaderLeasesModel", name := "storageToken", desc := "()I" } : Jvm.MethodName)) ∈ lw_all := lw_g (lw_at lw_m11 89 rfl) rfl
theorem q2579 : (Jvm.Cond.selects "LeaderLeasesModel" ({ cls := "LeaderLeasesModel", name := "storageToken", desc := "()I" } : Jvm.MethodName) ({ cls := "LeaderLeasesModel", name := "storageToken", desc := "()I" } : Jvm.MethodName)) ∈ lw_all := lw_g (lw_at lw_m11 90 rfl) rfl
theorem q2580 : (Jvm.Cond.code ({ cls := "LeaderLeasesModel", name := "storageToken", desc := "()I" } : Jvm.MethodName) prog_22_method_78_code (1 : Nat) (Option.some Jvm.ClassFile.FieldType.int)) ∈ lw_all := lw_g (lw_at lw_m11 91 rfl) rfl
theorem q2581 : (Jvm.Cond.methodLink "LeaderLeasesModel" (304 : Nat) ({ cls := "LeaderLeasesModel", name := "own", desc := "(I)I" } : Jvm.MethodName)) ∈ lw_all := lw_g (lw_at lw_m11 92 rfl) rfl
theorem q2582 : (Jvm.Cond.privateMethod ({ cls := "LeaderLeasesModel", name := "own", desc := "(I)I" } : Jvm.MethodName)) ∈ lw_tbl := lw_at lw_m11 93 rfl
theorem q2583 : (Jvm.Cond.instanceMethod ({ cls := "LeaderLeasesModel", name := "own", desc := "(I)I" } : Jvm.MethodName)) ∈ lw_all := lw_g (lw_at lw_m11 94 rfl) rfl
theorem q2584 : (Jvm.Cond.code ({ cls := "LeaderLeasesModel", name := "own", desc := "(I)I" } : Jvm.MethodName) prog_22_method_77_code (2 : Nat) (Option.some Jvm.ClassFile.FieldType.int)) ∈ lw_all := lw_g (lw_at lw_m11 95 rfl) rfl
theorem q2586 : (Jvm.Cond.instanceMethod ({ cls := "LeaderLeasesModel", name := "holder", desc := "()I" } : Jvm.MethodName)) ∈ lw_all := lw_g (lw_at lw_m11 97 rfl) rfl
theorem q2587 : (Jvm.Cond.selects "LeaderLeasesModel" ({ cls := "LeaderLeasesModel", name := "holder", desc := "()I" } : Jvm.MethodName) ({ cls := "LeaderLeasesModel", name := "holder", desc := "()I" } : Jvm.MethodName)) ∈ lw_all := lw_g (lw_at lw_m11 98 rfl) rfl
theorem q2588 : (Jvm.Cond.code ({ cls := "LeaderLeasesModel", name := "holder", desc := "()I" } : Jvm.MethodName) prog_22_method_79_code (1 : Nat) (Option.some Jvm.ClassFile.FieldType.int)) ∈ lw_all := lw_g (lw_at lw_m11 99 rfl) rfl
theorem q2590 : (Jvm.Cond.instanceMethod ({ cls := "LeaderLeasesModel", name := "greatestToken", desc := "()I" } : Jvm.MethodName)) ∈ lw_all := lw_g (lw_at lw_m11 101 rfl) rfl
theorem q2591 : (Jvm.Cond.selects "LeaderLeasesModel" ({ cls := "LeaderLeasesModel", name := "greatestToken", desc := "()I" } : Jvm.MethodName) ({ cls := "LeaderLeasesModel", name := "greatestToken", desc := "()I" } : Jvm.MethodName)) ∈ lw_all := lw_g (lw_at lw_m11 102 rfl) rfl
theorem q2592 : (Jvm.Cond.code ({ cls := "LeaderLeasesModel", name := "greatestToken", desc := "()I" } : Jvm.MethodName) prog_22_method_80_code (1 : Nat) (Option.some Jvm.ClassFile.FieldType.int)) ∈ lw_all := lw_g (lw_at lw_m11 103 rfl) rfl
theorem q2594 : (Jvm.Cond.instanceMethod ({ cls := "LeaderLeasesModel", name := "serverExpiryTime", desc := "()I" } : Jvm.MethodName)) ∈ lw_all := lw_g (lw_at lw_m11 105 rfl) rfl
theorem q2595 : (Jvm.Cond.selects "LeaderLeasesModel" ({ cls := "LeaderLeasesModel", name := "serverExpiryTime", desc := "()I" } : Jvm.MethodName) ({ cls := "LeaderLeasesModel", name := "serverExpiryTime", desc := "()I" } : Jvm.MethodName)) ∈ lw_all := lw_g (lw_at lw_m11 106 rfl) rfl
theorem q2596 : (Jvm.Cond.code ({ cls := "LeaderLeasesModel", name := "serverExpiryTime", desc := "()I" } : Jvm.MethodName) prog_22_method_82_code (1 : Nat) (Option.some Jvm.ClassFile.FieldType.int)) ∈ lw_all := lw_g (lw_at lw_m11 107 rfl) rfl
theorem q2597 : (Jvm.Cond.methodLink "LeaderLeasesModel" (307 : Nat) ({ cls := "LeaderLeasesModel", name := "serverEnd", desc := "()I" } : Jvm.MethodName)) ∈ lw_all := lw_g (lw_at lw_m11 108 rfl) rfl
theorem q2598 : (Jvm.Cond.privateMethod ({ cls := "LeaderLeasesModel", name := "serverEnd", desc := "()I" } : Jvm.MethodName)) ∈ lw_tbl := lw_at lw_m11 109 rfl
theorem q2599 : (Jvm.Cond.instanceMethod ({ cls := "LeaderLeasesModel", name := "serverEnd", desc := "()I" } : Jvm.MethodName)) ∈ lw_all := lw_g (lw_at lw_m11 110 rfl) rfl
theorem q2600 : (Jvm.Cond.code ({ cls := "LeaderLeasesModel", name := "serverEnd", desc := "()I" } : Jvm.MethodName) prog_22_method_81_code (1 : Nat) (Option.some Jvm.ClassFile.FieldType.int)) ∈ lw_all := lw_g (lw_at lw_m11 111 rfl) rfl
theorem q2602 : (Jvm.Cond.instanceMethod ({ cls := "LeaderLeasesModel", name := "graceLeft", desc := "()I" } : Jvm.MethodName)) ∈ lw_all := lw_g (lw_at lw_m11 113 rfl) rfl
theorem q2603 : (Jvm.Cond.selects "LeaderLeasesModel" ({ cls := "LeaderLeasesModel", name := "graceLeft", desc := "()I" } : Jvm.MethodName) ({ cls := "LeaderLeasesModel", name := "graceLeft", desc := "()I" } : Jvm.MethodName)) ∈ lw_all := lw_g (lw_at lw_m11 114 rfl) rfl
theorem q2604 : (Jvm.Cond.code ({ cls := "LeaderLeasesModel", name := "graceLeft", desc := "()I" } : Jvm.MethodName) prog_22_method_83_code (1 : Nat) (Option.some Jvm.ClassFile.FieldType.int)) ∈ lw_all := lw_g (lw_at lw_m11 115 rfl) rfl
theorem q2606 : (Jvm.Cond.instanceMethod ({ cls := "LeaderLeasesModel", name := "isLeading", desc := "(I)Z" } : Jvm.MethodName)) ∈ lw_all := lw_g (lw_at lw_m11 117 rfl) rfl
theorem q2607 : (Jvm.Cond.selects "LeaderLeasesModel" ({ cls := "LeaderLeasesModel", name := "isLeading", desc := "(I)Z" } : Jvm.MethodName) ({ cls := "LeaderLeasesModel", name := "isLeading", desc := "(I)Z" } : Jvm.MethodName)) ∈ lw_all := lw_g (lw_at lw_m11 118 rfl) rfl
theorem q2608 : (Jvm.Cond.code ({ cls := "LeaderLeasesModel", name := "isLeading", desc := "(I)Z" } : Jvm.MethodName) prog_22_method_84_code (2 : Nat) (Option.some Jvm.ClassFile.FieldType.boolean)) ∈ lw_all := lw_g (lw_at lw_m11 119 rfl) rfl
theorem q2610 : (Jvm.Cond.instanceMethod ({ cls := "LeaderLeasesModel", name := "leaders", desc := "()I" } : Jvm.MethodName)) ∈ lw_all := lw_g (lw_at lw_m11 121 rfl) rfl
theorem q2611 : (Jvm.Cond.selects "LeaderLeasesModel" ({ cls := "LeaderLeasesModel", name := "leaders", desc := "()I" } : Jvm.MethodName) ({ cls := "LeaderLeasesModel", name := "leaders", desc := "()I" } : Jvm.MethodName)) ∈ lw_all := lw_g (lw_at lw_m11 122 rfl) rfl
theorem q2612 : (Jvm.Cond.code ({ cls := "LeaderLeasesModel", name := "leaders", desc := "()I" } : Jvm.MethodName) prog_22_method_86_code (1 : Nat) (Option.some Jvm.ClassFile.FieldType.int)) ∈ lw_all := lw_g (lw_at lw_m11 123 rfl) rfl
theorem q2613 : (Jvm.Cond.methodLink "LeaderLeasesModel" (310 : Nat) ({ cls := "LeaderLeasesModel", name := "leadersNow", desc := "()I" } : Jvm.MethodName)) ∈ lw_all := lw_g (lw_at lw_m11 124 rfl) rfl
theorem q2614 : (Jvm.Cond.privateMethod ({ cls := "LeaderLeasesModel", name := "leadersNow", desc := "()I" } : Jvm.MethodName)) ∈ lw_tbl := lw_at lw_m11 125 rfl
theorem q2615 : (Jvm.Cond.instanceMethod ({ cls := "LeaderLeasesModel", name := "leadersNow", desc := "()I" } : Jvm.MethodName)) ∈ lw_all := lw_g (lw_at lw_m11 126 rfl) rfl
theorem q2616 : (Jvm.Cond.code ({ cls := "LeaderLeasesModel", name := "leadersNow", desc := "()I" } : Jvm.MethodName) prog_22_method_85_code (3 : Nat) (Option.some Jvm.ClassFile.FieldType.int)) ∈ lw_all := lw_g (lw_at lw_m11 127 rfl) rfl
theorem q2618 : (Jvm.Cond.instanceMethod ({ cls := "LeaderLeasesModel", name := "token", desc := "(I)I" } : Jvm.MethodName)) ∈ lw_all := lw_g (lw_at lw_m11 129 rfl) rfl
theorem q2619 : (Jvm.Cond.selects "LeaderLeasesModel" ({ cls := "LeaderLeasesModel", name := "token", desc := "(I)I" } : Jvm.MethodName) ({ cls := "LeaderLeasesModel", name := "token", desc := "(I)I" } : Jvm.MethodName)) ∈ lw_all := lw_g (lw_at lw_m11 130 rfl) rfl
theorem q2620 : (Jvm.Cond.code ({ cls := "LeaderLeasesModel", name := "token", desc := "(I)I" } : Jvm.MethodName) prog_22_method_88_code (2 : Nat) (Option.some Jvm.ClassFile.FieldType.int)) ∈ lw_all := lw_g (lw_at lw_m11 131 rfl) rfl
theorem q2621 : (Jvm.Cond.methodLink "LeaderLeasesModel" (313 : Nat) ({ cls := "LeaderLeasesModel", name := "ofNode", desc := "(II)I" } : Jvm.MethodName)) ∈ lw_all := lw_g (lw_at lw_m11 132 rfl) rfl
theorem q2622 : (Jvm.Cond.privateMethod ({ cls := "LeaderLeasesModel", name := "ofNode", desc := "(II)I" } : Jvm.MethodName)) ∈ lw_tbl := lw_at lw_m11 133 rfl
theorem q2623 : (Jvm.Cond.instanceMethod ({ cls := "LeaderLeasesModel", name := "ofNode", desc := "(II)I" } : Jvm.MethodName)) ∈ lw_all := lw_g (lw_at lw_m11 134 rfl) rfl
theorem q2624 : (Jvm.Cond.code ({ cls := "LeaderLeasesModel", name := "ofNode", desc := "(II)I" } : Jvm.MethodName) prog_22_method_87_code (3 : Nat) (Option.some Jvm.ClassFile.FieldType.int)) ∈ lw_all := lw_g (lw_at lw_m11 135 rfl) rfl
theorem q2626 : (Jvm.Cond.instanceMethod ({ cls := "LeaderLeasesModel", name := "nodeExpiryTime", desc := "(I)I" } : Jvm.MethodName)) ∈ lw_all := lw_g (lw_at lw_m11 137 rfl) rfl
theorem q2627 : (Jvm.Cond.selects "LeaderLeasesModel" ({ cls := "LeaderLeasesModel", name := "nodeExpiryTime", desc := "(I)I" } : Jvm.MethodName) ({ cls := "LeaderLeasesModel", name := "nodeExpiryTime", desc := "(I)I" } : Jvm.MethodName)) ∈ lw_all := lw_g (lw_at lw_m11 138 rfl) rfl
theorem q2628 : (Jvm.Cond.code ({ cls := "LeaderLeasesModel", name := "nodeExpiryTime", desc := "(I)I" } : Jvm.MethodName) prog_22_method_89_code (2 : Nat) (Option.some Jvm.ClassFile.FieldType.int)) ∈ lw_all := lw_g (lw_at lw_m11 139 rfl) rfl
theorem q2630 : (Jvm.Cond.instanceMethod ({ cls := "LeaderLeasesModel", name := "margin", desc := "(I)I" } : Jvm.MethodName)) ∈ lw_all := lw_g (lw_at lw_m11 141 rfl) rfl
theorem q2631 : (Jvm.Cond.selects "LeaderLeasesModel" ({ cls := "LeaderLeasesModel", name := "margin", desc := "(I)I" } : Jvm.MethodName) ({ cls := "LeaderLeasesModel", name := "margin", desc := "(I)I" } : Jvm.MethodName)) ∈ lw_all := lw_g (lw_at lw_m11 142 rfl) rfl
theorem q2632 : (Jvm.Cond.code ({ cls := "LeaderLeasesModel", name := "margin", desc := "(I)I" } : Jvm.MethodName) prog_22_method_90_code (2 : Nat) (Option.some Jvm.ClassFile.FieldType.int)) ∈ lw_all := lw_g (lw_at lw_m11 143 rfl) rfl
theorem q2634 : (Jvm.Cond.instanceMethod ({ cls := "LeaderLeasesModel", name := "timerTime", desc := "(I)I" } : Jvm.MethodName)) ∈ lw_all := lw_g (lw_at lw_m11 145 rfl) rfl
theorem q2635 : (Jvm.Cond.selects "LeaderLeasesModel" ({ cls := "LeaderLeasesModel", name := "timerTime", desc := "(I)I" } : Jvm.MethodName) ({ cls := "LeaderLeasesModel", name := "timerTime", desc := "(I)I" } : Jvm.MethodName)) ∈ lw_all := lw_g (lw_at lw_m11 146 rfl) rfl
theorem q2636 : (Jvm.Cond.code ({ cls := "LeaderLeasesModel", name := "timerTime", desc := "(I)I" } : Jvm.MethodName) prog_22_method_91_code (2 : Nat) (Option.some Jvm.ClassFile.FieldType.int)) ∈ lw_all := lw_g (lw_at lw_m11 147 rfl) rfl
theorem q2638 : (Jvm.Cond.instanceMethod ({ cls := "LeaderLeasesModel", name := "nodeState", desc := "(I)I" } : Jvm.MethodName)) ∈ lw_all := lw_g (lw_at lw_m11 149 rfl) rfl
theorem q2639 : (Jvm.Cond.selects "LeaderLeasesModel" ({ cls := "LeaderLeasesModel", name := "nodeState", desc := "(I)I" } : Jvm.MethodName) ({ cls := "LeaderLeasesModel", name := "nodeState", desc := "(I)I" } : Jvm.MethodName)) ∈ lw_all := lw_g (lw_at lw_m11 150 rfl) rfl
theorem q2640 : (Jvm.Cond.code ({ cls := "LeaderLeasesModel", name := "nodeState", desc := "(I)I" } : Jvm.MethodName) prog_22_method_92_code (2 : Nat) (Option.some Jvm.ClassFile.FieldType.int)) ∈ lw_all := lw_g (lw_at lw_m11 151 rfl) rfl
theorem q2642 : (Jvm.Cond.instanceMethod ({ cls := "LeaderLeasesModel", name := "cached", desc := "(I)I" } : Jvm.MethodName)) ∈ lw_all := lw_g (lw_at lw_m11 153 rfl) rfl
theorem q2643 : (Jvm.Cond.selects "LeaderLeasesModel" ({ cls := "LeaderLeasesModel", name := "cached", desc := "(I)I" } : Jvm.MethodName) ({ cls := "LeaderLeasesModel", name := "cached", desc := "(I)I" } : Jvm.MethodName)) ∈ lw_all := lw_g (lw_at lw_m11 154 rfl) rfl
theorem q2644 : (Jvm.Cond.code ({ cls := "LeaderLeasesModel", name := "cached", desc := "(I)I" } : Jvm.MethodName) prog_22_method_93_code (2 : Nat) (Option.some Jvm.ClassFile.FieldType.int)) ∈ lw_all := lw_g (lw_at lw_m11 155 rfl) rfl
theorem q2646 : (Jvm.Cond.instanceMethod ({ cls := "LeaderLeasesModel", name := "leaseLeft", desc := "(I)I" } : Jvm.MethodName)) ∈ lw_all := lw_g (lw_at lw_m11 157 rfl) rfl
theorem q2647 : (Jvm.Cond.selects "LeaderLeasesModel" ({ cls := "LeaderLeasesModel", name := "leaseLeft", desc := "(I)I" } : Jvm.MethodName) ({ cls := "LeaderLeasesModel", name := "leaseLeft", desc := "(I)I" } : Jvm.MethodName)) ∈ lw_all := lw_g (lw_at lw_m11 158 rfl) rfl
theorem q2648 : (Jvm.Cond.code ({ cls := "LeaderLeasesModel", name := "leaseLeft", desc := "(I)I" } : Jvm.MethodName) prog_22_method_94_code (2 : Nat) (Option.some Jvm.ClassFile.FieldType.int)) ∈ lw_all := lw_g (lw_at lw_m11 159 rfl) rfl
theorem q2650 : (Jvm.Cond.instanceMethod ({ cls := "LeaderLeasesModel", name := "smallestBound", desc := "()I" } : Jvm.MethodName)) ∈ lw_all := lw_g (lw_at lw_m11 161 rfl) rfl
theorem q2651 : (Jvm.Cond.selects "LeaderLeasesModel" ({ cls := "LeaderLeasesModel", name := "smallestBound", desc := "()I" } : Jvm.MethodName) ({ cls := "LeaderLeasesModel", name := "smallestBound", desc := "()I" } : Jvm.MethodName)) ∈ lw_all := lw_g (lw_at lw_m11 162 rfl) rfl
theorem q2652 : (Jvm.Cond.code ({ cls := "LeaderLeasesModel", name := "smallestBound", desc := "()I" } : Jvm.MethodName) prog_22_method_95_code (3 : Nat) (Option.some Jvm.ClassFile.FieldType.int)) ∈ lw_all := lw_g (lw_at lw_m11 163 rfl) rfl
theorem q2653 : (Jvm.Cond.methodLink "LeaderLeasesModel" (316 : Nat) ({ cls := "java/lang/Math", name := "abs", desc := "(I)I" } : Jvm.MethodName)) ∈ lw_all := lw_g (lw_at lw_m11 164 rfl) rfl
theorem q2655 : (Jvm.Cond.instanceMethod ({ cls := "LeaderLeasesModel", name := "overtakingPairs", desc := "()I" } : Jvm.MethodName)) ∈ lw_all := lw_g (lw_at lw_m11 166 rfl) rfl
theorem q2656 : (Jvm.Cond.selects "LeaderLeasesModel" ({ cls := "LeaderLeasesModel", name := "overtakingPairs", desc := "()I" } : Jvm.MethodName) ({ cls := "LeaderLeasesModel", name := "overtakingPairs", desc := "()I" } : Jvm.MethodName)) ∈ lw_all := lw_g (lw_at lw_m11 167 rfl) rfl
theorem q2657 : (Jvm.Cond.code ({ cls := "LeaderLeasesModel", name := "overtakingPairs", desc := "()I" } : Jvm.MethodName) prog_22_method_97_code (4 : Nat) (Option.some Jvm.ClassFile.FieldType.int)) ∈ lw_all := lw_g (lw_at lw_m11 168 rfl) rfl
theorem q2658 : (Jvm.Cond.methodLink "LeaderLeasesModel" (319 : Nat) ({ cls := "LeaderLeasesModel", name := "comesAt", desc := "(I)I" } : Jvm.MethodName)) ∈ lw_all := lw_g (lw_at lw_m11 169 rfl) rfl
theorem q2659 : (Jvm.Cond.privateMethod ({ cls := "LeaderLeasesModel", name := "comesAt", desc := "(I)I" } : Jvm.MethodName)) ∈ lw_tbl := lw_at lw_m11 170 rfl
theorem q2660 : (Jvm.Cond.instanceMethod ({ cls := "LeaderLeasesModel", name := "comesAt", desc := "(I)I" } : Jvm.MethodName)) ∈ lw_all := lw_g (lw_at lw_m11 171 rfl) rfl
theorem q2661 : (Jvm.Cond.code ({ cls := "LeaderLeasesModel", name := "comesAt", desc := "(I)I" } : Jvm.MethodName) prog_22_method_96_code (3 : Nat) (Option.some Jvm.ClassFile.FieldType.int)) ∈ lw_all := lw_g (lw_at lw_m11 172 rfl) rfl
theorem q2663 : (Jvm.Cond.instanceMethod ({ cls := "LeaderLeasesModel", name := "staleCaches", desc := "()I" } : Jvm.MethodName)) ∈ lw_all := lw_g (lw_at lw_m11 174 rfl) rfl
theorem q2664 : (Jvm.Cond.selects "LeaderLeasesModel" ({ cls := "LeaderLeasesModel", name := "staleCaches", desc := "()I" } : Jvm.MethodName) ({ cls := "LeaderLeasesModel", name := "staleCaches", desc := "()I" } : Jvm.MethodName)) ∈ lw_all := lw_g (lw_at lw_m11 175 rfl) rfl
theorem q2665 : (Jvm.Cond.code ({ cls := "LeaderLeasesModel", name := "staleCaches", desc := "()I" } : Jvm.MethodName) prog_22_method_99_code (3 : Nat) (Option.some Jvm.ClassFile.FieldType.int)) ∈ lw_all := lw_g (lw_at lw_m11 176 rfl) rfl
theorem q2666 : (Jvm.Cond.methodLink "LeaderLeasesModel" (322 : Nat) ({ cls := "LeaderLeasesModel", name := "isStale", desc := "(I)Z" } : Jvm.MethodName)) ∈ lw_all := lw_g (lw_at lw_m11 177 rfl) rfl
theorem q2667 : (Jvm.Cond.privateMethod ({ cls := "LeaderLeasesModel", name := "isStale", desc := "(I)Z" } : Jvm.MethodName)) ∈ lw_tbl := lw_at lw_m11 178 rfl
theorem q2668 : (Jvm.Cond.instanceMethod ({ cls := "LeaderLeasesModel", name := "isStale", desc := "(I)Z" } : Jvm.MethodName)) ∈ lw_all := lw_g (lw_at lw_m11 179 rfl) rfl
theorem q2669 : (Jvm.Cond.code ({ cls := "LeaderLeasesModel", name := "isStale", desc := "(I)Z" } : Jvm.MethodName) prog_22_method_98_code (4 : Nat) (Option.some Jvm.ClassFile.FieldType.boolean)) ∈ lw_all := lw_g (lw_at lw_m11 180 rfl) rfl
theorem q2671 : (Jvm.Cond.instanceMethod ({ cls := "LeaderLeasesModel", name := "messagesOnWay", desc := "()I" } : Jvm.MethodName)) ∈ lw_all := lw_g (lw_at lw_m11 182 rfl) rfl
theorem q2672 : (Jvm.Cond.selects "LeaderLeasesModel" ({ cls := "LeaderLeasesModel", name := "messagesOnWay", desc := "()I" } : Jvm.MethodName) ({ cls := "LeaderLeasesModel", name := "messagesOnWay", desc := "()I" } : Jvm.MethodName)) ∈ lw_all := lw_g (lw_at lw_m11 183 rfl) rfl
theorem q2673 : (Jvm.Cond.code ({ cls := "LeaderLeasesModel", name := "messagesOnWay", desc := "()I" } : Jvm.MethodName) prog_22_method_100_code (1 : Nat) (Option.some Jvm.ClassFile.FieldType.int)) ∈ lw_all := lw_g (lw_at lw_m11 184 rfl) rfl
theorem q2675 : (Jvm.Cond.instanceMethod ({ cls := "LeaderLeasesModel", name := "delayedWrites", desc := "()I" } : Jvm.MethodName)) ∈ lw_all := lw_g (lw_at lw_m11 186 rfl) rfl
theorem q2676 : (Jvm.Cond.selects "LeaderLeasesModel" ({ cls := "LeaderLeasesModel", name := "delayedWrites", desc := "()I" } : Jvm.MethodName) ({ cls := "LeaderLeasesModel", name := "delayedWrites", desc := "()I" } : Jvm.MethodName)) ∈ lw_all := lw_g (lw_at lw_m11 187 rfl) rfl
theorem q2677 : (Jvm.Cond.code ({ cls := "LeaderLeasesModel", name := "delayedWrites", desc := "()I" } : Jvm.MethodName) prog_22_method_101_code (1 : Nat) (Option.some Jvm.ClassFile.FieldType.int)) ∈ lw_all := lw_g (lw_at lw_m11 188 rfl) rfl
theorem q2679 : (Jvm.Cond.instanceMethod ({ cls := "LeaderLeasesModel", name := "messagesLost", desc := "()I" } : Jvm.MethodName)) ∈ lw_all := lw_g (lw_at lw_m11 190 rfl) rfl
theorem q2680 : (Jvm.Cond.selects "LeaderLeasesModel" ({ cls := "LeaderLeasesModel", name := "messagesLost", desc := "()I" } : Jvm.MethodName) ({ cls := "LeaderLeasesModel", name := "messagesLost", desc := "()I" } : Jvm.MethodName)) ∈ lw_all := lw_g (lw_at lw_m11 191 rfl) rfl
theorem q2681 : (Jvm.Cond.code ({ cls := "LeaderLeasesModel", name := "messagesLost", desc := "()I" } : Jvm.MethodName) prog_22_method_102_code (1 : Nat) (Option.some Jvm.ClassFile.FieldType.int)) ∈ lw_all := lw_g (lw_at lw_m11 192 rfl) rfl
theorem q2683 : (Jvm.Cond.instanceMethod ({ cls := "LeaderLeasesModel", name := "logSize", desc := "()I" } : Jvm.MethodName)) ∈ lw_all := lw_g (lw_at lw_m11 194 rfl) rfl
theorem q2684 : (Jvm.Cond.selects "LeaderLeasesModel" ({ cls := "LeaderLeasesModel", name := "logSize", desc := "()I" } : Jvm.MethodName) ({ cls := "LeaderLeasesModel", name := "logSize", desc := "()I" } : Jvm.MethodName)) ∈ lw_all := lw_g (lw_at lw_m11 195 rfl) rfl
theorem q2685 : (Jvm.Cond.code ({ cls := "LeaderLeasesModel", name := "logSize", desc := "()I" } : Jvm.MethodName) prog_22_method_103_code (1 : Nat) (Option.some Jvm.ClassFile.FieldType.int)) ∈ lw_all := lw_g (lw_at lw_m11 196 rfl) rfl
theorem q2687 : (Jvm.Cond.instanceMethod ({ cls := "LeaderLeasesModel", name := "logTime", desc := "(I)I" } : Jvm.MethodName)) ∈ lw_all := lw_g (lw_at lw_m11 198 rfl) rfl
theorem q2688 : (Jvm.Cond.selects "LeaderLeasesModel" ({ cls := "LeaderLeasesModel", name := "logTime", desc := "(I)I" } : Jvm.MethodName) ({ cls := "LeaderLeasesModel", name := "logTime", desc := "(I)I" } : Jvm.MethodName)) ∈ lw_all := lw_g (lw_at lw_m11 199 rfl) rfl
theorem q2689 : (Jvm.Cond.code ({ cls := "LeaderLeasesModel", name := "logTime", desc := "(I)I" } : Jvm.MethodName) prog_22_method_105_code (2 : Nat) (Option.some Jvm.ClassFile.FieldType.int)) ∈ lw_all := lw_g (lw_at lw_m11 200 rfl) rfl
theorem q2690 : (Jvm.Cond.methodLink "LeaderLeasesModel" (325 : Nat) ({ cls := "LeaderLeasesModel", name := "logCell", desc := "(II)I" } : Jvm.MethodName)) ∈ lw_all := lw_g (lw_at lw_m11 201 rfl) rfl
theorem q2691 : (Jvm.Cond.privateMethod ({ cls := "LeaderLeasesModel", name := "logCell", desc := "(II)I" } : Jvm.MethodName)) ∈ lw_tbl := lw_at lw_m11 202 rfl
theorem q2692 : (Jvm.Cond.instanceMethod ({ cls := "LeaderLeasesModel", name := "logCell", desc := "(II)I" } : Jvm.MethodName)) ∈ lw_all := lw_g (lw_at lw_m11 203 rfl) rfl
theorem q2693 : (Jvm.Cond.code ({ cls := "LeaderLeasesModel", name := "logCell", desc := "(II)I" } : Jvm.MethodName) prog_22_method_104_code (3 : Nat) (Option.some Jvm.ClassFile.FieldType.int)) ∈ lw_all := lw_g (lw_at lw_m11 204 rfl) rfl
theorem q2695 : (Jvm.Cond.instanceMethod ({ cls := "LeaderLeasesModel", name := "logKind", desc := "(I)I" } : Jvm.MethodName)) ∈ lw_all := lw_g (lw_at lw_m11 206 rfl) rfl
theorem q2696 : (Jvm.Cond.selects "LeaderLeasesModel" ({ cls := "LeaderLeasesModel", name := "logKind", desc := "(I)I" } : Jvm.MethodName) ({ cls := "LeaderLeasesModel", name := "logKind", desc := "(I)I" } : Jvm.MethodName)) ∈ lw_all := lw_g (lw_at lw_m11 207 rfl) rfl
theorem q2697 : (Jvm.Cond.code ({ cls := "LeaderLeasesModel", name := "logKind", desc := "(I)I" } : Jvm.MethodName) prog_22_method_106_code (2 : Nat) (Option.some Jvm.ClassFile.FieldType.int)) ∈ lw_all := lw_g (lw_at lw_m11 208 rfl) rfl
theorem q2699 : (Jvm.Cond.instanceMethod ({ cls := "LeaderLeasesModel", name := "logNode", desc := "(I)I" } : Jvm.MethodName)) ∈ lw_all := lw_g (lw_at lw_m11 210 rfl) rfl
theorem q2700 : (Jvm.Cond.selects "LeaderLeasesModel" ({ cls := "LeaderLeasesModel", name := "logNode", desc := "(I)I" } : Jvm.MethodName) ({ cls := "LeaderLeasesModel", name := "logNode", desc := "(I)I" } : Jvm.MethodName)) ∈ lw_all := lw_g (lw_at lw_m11 211 rfl) rfl
theorem q2701 : (Jvm.Cond.code ({ cls := "LeaderLeasesModel", name := "logNode", desc := "(I)I" } : Jvm.MethodName) prog_22_method_107_code (2 : Nat) (Option.some Jvm.ClassFile.FieldType.int)) ∈ lw_all := lw_g (lw_at lw_m11 212 rfl) rfl
theorem q2703 : (Jvm.Cond.instanceMethod ({ cls := "LeaderLeasesModel", name := "logToken", desc := "(I)I" } : Jvm.MethodName)) ∈ lw_all := lw_g (lw_at lw_m11 214 rfl) rfl
theorem q2704 : (Jvm.Cond.selects "LeaderLeasesModel" ({ cls := "LeaderLeasesModel", name := "logToken", desc := "(I)I" } : Jvm.MethodName) ({ cls := "LeaderLeasesModel", name := "logToken", desc := "(I)I" } : Jvm.MethodName)) ∈ lw_all := lw_g (lw_at lw_m11 215 rfl) rfl
theorem q2705 : (Jvm.Cond.code ({ cls := "LeaderLeasesModel", name := "logToken", desc := "(I)I" } : Jvm.MethodName) prog_22_method_108_code (2 : Nat) (Option.some Jvm.ClassFile.FieldType.int)) ∈ lw_all := lw_g (lw_at lw_m11 216 rfl) rfl
theorem q2707 : (Jvm.Cond.instanceMethod ({ cls := "LeaderLeasesModel", name := "eventCount", desc := "(I)I" } : Jvm.MethodName)) ∈ lw_all := lw_g (lw_at lw_m11 218 rfl) rfl
theorem q2708 : (Jvm.Cond.selects "LeaderLeasesModel" ({ cls := "LeaderLeasesModel", name := "eventCount", desc := "(I)I" } : Jvm.MethodName) ({ cls := "LeaderLeasesModel", name := "eventCount", desc := "(I)I" } : Jvm.MethodName)) ∈ lw_all := lw_g (lw_at lw_m11 219 rfl) rfl
theorem q2709 : (Jvm.Cond.code ({ cls := "LeaderLeasesModel", name := "eventCount", desc := "(I)I" } : Jvm.MethodName) prog_22_method_109_code (2 : Nat) (Option.some Jvm.ClassFile.FieldType.int)) ∈ lw_all := lw_g (lw_at lw_m11 220 rfl) rfl
theorem q2710 : (Jvm.Cond.constantLong "LeaderLeasesModel" (328 : Nat) (8 : Int64)) ∈ lw_all := lw_g (lw_at lw_m11 221 rfl) rfl
theorem q2712 : (Jvm.Cond.instanceMethod ({ cls := "LeaderLeasesModel", name := "countInLog", desc := "(II)I" } : Jvm.MethodName)) ∈ lw_all := lw_g (lw_at lw_m11 223 rfl) rfl
theorem q2713 : (Jvm.Cond.selects "LeaderLeasesModel" ({ cls := "LeaderLeasesModel", name := "countInLog", desc := "(II)I" } : Jvm.MethodName) ({ cls := "LeaderLeasesModel", name := "countInLog", desc := "(II)I" } : Jvm.MethodName)) ∈ lw_all := lw_g (lw_at lw_m11 224 rfl) rfl
theorem q2714 : (Jvm.Cond.code ({ cls := "LeaderLeasesModel", name := "countInLog", desc := "(II)I" } : Jvm.MethodName) prog_22_method_110_code (5 : Nat) (Option.some Jvm.ClassFile.FieldType.int)) ∈ lw_all := lw_g (lw_at lw_m11 225 rfl) rfl
theorem q2715 : (Jvm.Cond.constantLong "LeaderLeasesModel" (330 : Nat) (-1 : Int64)) ∈ lw_all := lw_g (lw_at lw_m11 226 rfl) rfl
theorem q2717 : (Jvm.Cond.instanceMethod ({ cls := "LeaderLeasesModel", name := "lastEventTime", desc := "(I)I" } : Jvm.MethodName)) ∈ lw_all := lw_g (lw_at lw_m11 228 rfl) rfl
theorem q2718 : (Jvm.Cond.selects "LeaderLeasesModel" ({ cls := "LeaderLeasesModel", name := "lastEventTime", desc := "(I)I" } : Jvm.MethodName) ({ cls := "LeaderLeasesModel", name := "lastEventTime", desc := "(I)I" } : Jvm.MethodName)) ∈ lw_all := lw_g (lw_at lw_m11 229 rfl) rfl
theorem q2719 : (Jvm.Cond.code ({ cls := "LeaderLeasesModel", name := "lastEventTime", desc := "(I)I" } : Jvm.MethodName) prog_22_method_111_code (3 : Nat) (Option.some Jvm.ClassFile.FieldType.int)) ∈ lw_all := lw_g (lw_at lw_m11 230 rfl) rfl
theorem q2721 : (Jvm.Cond.instanceMethod ({ cls := "LeaderLeasesModel", name := "splitTime", desc := "()I" } : Jvm.MethodName)) ∈ lw_all := lw_g (lw_at lw_m11 232 rfl) rfl
theorem q2722 : (Jvm.Cond.selects "LeaderLeasesModel" ({ cls := "LeaderLeasesModel", name := "splitTime", desc := "()I" } : Jvm.MethodName) ({ cls := "LeaderLeasesModel", name := "splitTime", desc := "()I" } : Jvm.MethodName)) ∈ lw_all := lw_g (lw_at lw_m11 233 rfl) rfl
theorem q2723 : (Jvm.Cond.code ({ cls := "LeaderLeasesModel", name := "splitTime", desc := "()I" } : Jvm.MethodName) prog_22_method_112_code (1 : Nat) (Option.some Jvm.ClassFile.FieldType.int)) ∈ lw_all := lw_g (lw_at lw_m11 234 rfl) rfl
theorem q2725 : (Jvm.Cond.instanceMethod ({ cls := "LeaderLeasesModel", name := "reads", desc := "()I" } : Jvm.MethodName)) ∈ lw_all := lw_g (lw_at lw_m11 236 rfl) rfl
theorem q2726 : (Jvm.Cond.selects "LeaderLeasesModel" ({ cls := "LeaderLeasesModel", name := "reads", desc := "()I" } : Jvm.MethodName) ({ cls := "LeaderLeasesModel", name := "reads", desc := "()I" } : Jvm.MethodName)) ∈ lw_all := lw_g (lw_at lw_m11 237 rfl) rfl
theorem q2727 : (Jvm.Cond.code ({ cls := "LeaderLeasesModel", name := "reads", desc := "()I" } : Jvm.MethodName) prog_22_method_113_code (1 : Nat) (Option.some Jvm.ClassFile.FieldType.int)) ∈ lw_all := lw_g (lw_at lw_m11 238 rfl) rfl
theorem q2729 : (Jvm.Cond.instanceMethod ({ cls := "LeaderLeasesModel", name := "staleReads", desc := "()I" } : Jvm.MethodName)) ∈ lw_all := lw_g (lw_at lw_m12 0 rfl) rfl
theorem q2730 : (Jvm.Cond.selects "LeaderLeasesModel" ({ cls := "LeaderLeasesModel", name := "staleReads", desc := "()I" } : Jvm.MethodName) ({ cls := "LeaderLeasesModel", name := "staleReads", desc := "()I" } : Jvm.MethodName)) ∈ lw_all := lw_g (lw_at lw_m12 1 rfl) rfl
theorem q2731 : (Jvm.Cond.code ({ cls := "LeaderLeasesModel", name := "staleReads", desc := "()I" } : Jvm.MethodName) prog_22_method_114_code (1 : Nat) (Option.some Jvm.ClassFile.FieldType.int)) ∈ lw_all := lw_g (lw_at lw_m12 2 rfl) rfl
theorem q2733 : (Jvm.Cond.instanceMethod ({ cls := "LeaderLeasesModel", name := "ledTime", desc := "(I)I" } : Jvm.MethodName)) ∈ lw_all := lw_g (lw_at lw_m12 4 rfl) rfl
theorem q2734 : (Jvm.Cond.selects "LeaderLeasesModel" ({ cls := "LeaderLeasesModel", name := "ledTime", desc := "(I)I" } : Jvm.MethodName) ({ cls := "LeaderLeasesModel", name := "ledTime", desc := "(I)I" } : Jvm.MethodName)) ∈ lw_all := lw_g (lw_at lw_m12 5 rfl) rfl
theorem q2735 : (Jvm.Cond.code ({ cls := "LeaderLeasesModel", name := "ledTime", desc := "(I)I" } : Jvm.MethodName) prog_22_method_115_code (2 : Nat) (Option.some Jvm.ClassFile.FieldType.int)) ∈ lw_all := lw_g (lw_at lw_m12 6 rfl) rfl
theorem q2737 : (Jvm.Cond.instanceMethod ({ cls := "LeaderLeasesModel", name := "nextLeader", desc := "(I)I" } : Jvm.MethodName)) ∈ lw_all := lw_g (lw_at lw_m12 8 rfl) rfl
theorem q2738 : (Jvm.Cond.selects "LeaderLeasesModel" ({ cls := "LeaderLeasesModel", name := "nextLeader", desc := "(I)I" } : Jvm.MethodName) ({ cls := "LeaderLeasesModel", name := "nextLeader", desc := "(I)I" } : Jvm.MethodName)) ∈ lw_all := lw_g (lw_at lw_m12 9 rfl) rfl
theorem q2739 : (Jvm.Cond.code ({ cls := "LeaderLeasesModel", name := "nextLeader", desc := "(I)I" } : Jvm.MethodName) prog_22_method_118_code (7 : Nat) (Option.some Jvm.ClassFile.FieldType.int)) ∈ lw_all := lw_g (lw_at lw_m12 10 rfl) rfl
theorem q2740 : (Jvm.Cond.methodLink "LeaderLeasesModel" (332 : Nat) ({ cls := "LeaderLeasesModel", name := "putsAside", desc := "()V" } : Jvm.MethodName)) ∈ lw_all := lw_g (lw_at lw_m12 11 rfl) rfl
theorem q2741 : (Jvm.Cond.privateMethod ({ cls := "LeaderLeasesModel", name := "putsAside", desc := "()V" } : Jvm.MethodName)) ∈ lw_tbl := lw_at lw_m12 12 rfl
theorem q2742 : (Jvm.Cond.instanceMethod ({ cls := "LeaderLeasesModel", name := "putsAside", desc := "()V" } : Jvm.MethodName)) ∈ lw_all := lw_g (lw_at lw_m12 13 rfl) rfl
theorem q2743 : (Jvm.Cond.code ({ cls := "LeaderLeasesModel", name := "putsAside", desc := "()V" } : Jvm.MethodName) prog_22_method_116_code (2 : Nat) (Option.none : Option Jvm.ClassFile.FieldType)) ∈ lw_all := lw_g (lw_at lw_m12 14 rfl) rfl
theorem q2744 : (Jvm.Cond.methodLink "LeaderLeasesModel" (335 : Nat) ({ cls := "LeaderLeasesModel", name := "takesBack", desc := "()V" } : Jvm.MethodName)) ∈ lw_all := lw_g (lw_at lw_m12 15 rfl) rfl
theorem q2745 : (Jvm.Cond.privateMethod ({ cls := "LeaderLeasesModel", name := "takesBack", desc := "()V" } : Jvm.MethodName)) ∈ lw_tbl := lw_at lw_m12 16 rfl
theorem q2746 : (Jvm.Cond.instanceMethod ({ cls := "LeaderLeasesModel", name := "takesBack", desc := "()V" } : Jvm.MethodName)) ∈ lw_all := lw_g (lw_at lw_m12 17 rfl) rfl
theorem q2747 : (Jvm.Cond.code ({ cls := "LeaderLeasesModel", name := "takesBack", desc := "()V" } : Jvm.MethodName) prog_22_method_117_code (2 : Nat) (Option.none : Option Jvm.ClassFile.FieldType)) ∈ lw_all := lw_g (lw_at lw_m12 18 rfl) rfl
theorem q2749 : (Jvm.Cond.instanceMethod ({ cls := "LeaderLeasesModel", name := "leaderlessTime", desc := "(I)I" } : Jvm.MethodName)) ∈ lw_all := lw_g (lw_at lw_m12 20 rfl) rfl
theorem q2750 : (Jvm.Cond.selects "LeaderLeasesModel" ({ cls := "LeaderLeasesModel", name := "leaderlessTime", desc := "(I)I" } : Jvm.MethodName) ({ cls := "LeaderLeasesModel", name := "leaderlessTime", desc := "(I)I" } : Jvm.MethodName)) ∈ lw_all := lw_g (lw_at lw_m12 21 rfl) rfl
theorem q2751 : (Jvm.Cond.code ({ cls := "LeaderLeasesModel", name := "leaderlessTime", desc := "(I)I" } : Jvm.MethodName) prog_22_method_119_code (4 : Nat) (Option.some Jvm.ClassFile.FieldType.int)) ∈ lw_all := lw_g (lw_at lw_m12 22 rfl) rfl
theorem q2753 : (Jvm.Cond.instanceMethod ({ cls := "LeaderLeasesModel", name := "timeUntilLeader", desc := "(II)I" } : Jvm.MethodName)) ∈ lw_all := lw_g (lw_at lw_m12 24 rfl) rfl
theorem q2754 : (Jvm.Cond.selects "LeaderLeasesModel" ({ cls := "LeaderLeasesModel", name := "timeUntilLeader", desc := "(II)I" } : Jvm.MethodName) ({ cls := "LeaderLeasesModel", name := "timeUntilLeader", desc := "(II)I" } : Jvm.MethodName)) ∈ lw_all := lw_g (lw_at lw_m12 25 rfl) rfl
theorem q2755 : (Jvm.Cond.code ({ cls := "LeaderLeasesModel", name := "timeUntilLeader", desc := "(II)I" } : Jvm.MethodName) prog_22_method_120_code (7 : Nat) (Option.some Jvm.ClassFile.FieldType.int)) ∈ lw_all := lw_g (lw_at lw_m12 26 rfl) rfl
theorem q2757 : (Jvm.Cond.instanceMethod ({ cls := "LeaderLeasesModel", name := "longestLeaderless", desc := "(I)I" } : Jvm.MethodName)) ∈ lw_all := lw_g (lw_at lw_m12 28 rfl) rfl
theorem q2758 : (Jvm.Cond.selects "LeaderLeasesModel" ({ cls := "LeaderLeasesModel", name := "longestLeaderless", desc := "(I)I" } : Jvm.MethodName) ({ cls := "LeaderLeasesModel", name := "longestLeaderless", desc := "(I)I" } : Jvm.MethodName)) ∈ lw_all := lw_g (lw_at lw_m12 29 rfl) rfl
theorem q2759 : (Jvm.Cond.code ({ cls := "LeaderLeasesModel", name := "longestLeaderless", desc := "(I)I" } : Jvm.MethodName) prog_22_method_121_code (4 : Nat) (Option.some Jvm.ClassFile.FieldType.int)) ∈ lw_all := lw_g (lw_at lw_m12 30 rfl) rfl
theorem q2761 : (Jvm.Cond.instanceMethod ({ cls := "LeaderLeasesModel", name := "acquiresUntil", desc := "(II)I" } : Jvm.MethodName)) ∈ lw_all := lw_g (lw_at lw_m12 32 rfl) rfl
theorem q2762 : (Jvm.Cond.selects "LeaderLeasesModel" ({ cls := "LeaderLeasesModel", name := "acquiresUntil", desc := "(II)I" } : Jvm.MethodName) ({ cls := "LeaderLeasesModel", name := "acquiresUntil", desc := "(II)I" } : Jvm.MethodName)) ∈ lw_all := lw_g (lw_at lw_m12 33 rfl) rfl
theorem q2763 : (Jvm.Cond.code ({ cls := "LeaderLeasesModel", name := "acquiresUntil", desc := "(II)I" } : Jvm.MethodName) prog_22_method_122_code (4 : Nat) (Option.some Jvm.ClassFile.FieldType.int)) ∈ lw_all := lw_g (lw_at lw_m12 34 rfl) rfl
theorem q2765 : (Jvm.Cond.instanceMethod ({ cls := "LeaderLeasesModel", name := "tryWrite", desc := "(II)I" } : Jvm.MethodName)) ∈ lw_all := lw_g (lw_at lw_m12 36 rfl) rfl
theorem q2766 : (Jvm.Cond.selects "LeaderLeasesModel" ({ cls := "LeaderLeasesModel", name := "tryWrite", desc := "(II)I" } : Jvm.MethodName) ({ cls := "LeaderLeasesModel", name := "tryWrite", desc := "(II)I" } : Jvm.MethodName)) ∈ lw_all := lw_g (lw_at lw_m12 37 rfl) rfl
theorem q2767 : (Jvm.Cond.code ({ cls := "LeaderLeasesModel", name := "tryWrite", desc := "(II)I" } : Jvm.MethodName) prog_22_method_123_code (5 : Nat) (Option.some Jvm.ClassFile.FieldType.int)) ∈ lw_all := lw_g (lw_at lw_m12 38 rfl) rfl
theorem q2769 : (Jvm.Cond.instanceMethod ({ cls := "LeaderLeasesModel", name := "predictRead", desc := "(III)I" } : Jvm.MethodName)) ∈ lw_all := lw_g (lw_at lw_m12 40 rfl) rfl
theorem q2770 : (Jvm.Cond.selects "LeaderLeasesModel" ({ cls := "LeaderLeasesModel", name := "predictRead", desc := "(III)I" } : Jvm.MethodName) ({ cls := "LeaderLeasesModel", name := "predictRead", desc := "(III)I" } : Jvm.MethodName)) ∈ lw_all := lw_g (lw_at lw_m12 41 rfl) rfl
theorem q2771 : (Jvm.Cond.code ({ cls := "LeaderLeasesModel", name := "predictRead", desc := "(III)I" } : Jvm.MethodName) prog_22_method_124_code (6 : Nat) (Option.some Jvm.ClassFile.FieldType.int)) ∈ lw_all := lw_g (lw_at lw_m12 42 rfl) rfl
theorem q2773 : (Jvm.Cond.instanceMethod ({ cls := "LeaderLeasesModel", name := "saveSnapshot", desc := "(I)I" } : Jvm.MethodName)) ∈ lw_all := lw_g (lw_at lw_m12 44 rfl) rfl
theorem q2774 : (Jvm.Cond.selects "LeaderLeasesModel" ({ cls := "LeaderLeasesModel", name := "saveSnapshot", desc := "(I)I" } : Jvm.MethodName) ({ cls := "LeaderLeasesModel", name := "saveSnapshot", desc := "(I)I" } : Jvm.MethodName)) ∈ lw_all := lw_g (lw_at lw_m12 45 rfl) rfl
theorem q2775 : (Jvm.Cond.code ({ cls := "LeaderLeasesModel", name := "saveSnapshot", desc := "(I)I" } : Jvm.MethodName) prog_22_method_125_code (3 : Nat) (Option.some Jvm.ClassFile.FieldType.int)) ∈ lw_all := lw_g (lw_at lw_m12 46 rfl) rfl
theorem q2777 : (Jvm.Cond.instanceMethod ({ cls := "LeaderLeasesModel", name := "restoreSnapshot", desc := "(I)I" } : Jvm.MethodName)) ∈ lw_all := lw_g (lw_at lw_m12 48 rfl) rfl
theorem q2778 : (Jvm.Cond.selects "LeaderLeasesModel" ({ cls := "LeaderLeasesModel", name := "restoreSnapshot", desc := "(I)I" } : Jvm.MethodName) ({ cls := "LeaderLeasesModel", name := "restoreSnapshot", desc := "(I)I" } : Jvm.MethodName)) ∈ lw_all := lw_g (lw_at lw_m12 49 rfl) rfl
theorem q2779 : (Jvm.Cond.code ({ cls := "LeaderLeasesModel", name := "restoreSnapshot", desc := "(I)I" } : Jvm.MethodName) prog_22_method_126_code (3 : Nat) (Option.some Jvm.ClassFile.FieldType.int)) ∈ lw_all := lw_g (lw_at lw_m12 50 rfl) rfl
theorem q2807 : (Jvm.Cond.castable "LeaderLeasesModel" "java/lang/Object") ∈ lw_tbl := lw_at lw_m12 78 rfl
theorem in_X7 : ∀ w ∈ wsX70, w ∈ lw_all := lw_in wsX70 [2220, 2222, 2224, 2226, 2228, 2230, 2232, 2234, 2236, 2238, 2240, 2242, 2244, 2246, 2248, 2250, 2252, 2254] (by decide +kernel) (by decide +kernel)

