/-! LeaderLeases$Configuration -/
set_option maxRecDepth 100000
def RX3 : String := "LeaderLeases$Configuration"
def TX3 : u_T := fun k => match k with
  | 0 => ("LeaderLeases$Configuration", "server", "LLeaderLeases$Clock;", false)
  | 1 => ("LeaderLeases$Configuration", "clocks", "Ljava/util/List;", true)
  | 2 => ("LeaderLeases$Configuration", "delays", "Ljava/util/List;", true)
  | 3 => ("LeaderLeases$Configuration", "duration", "I", false)
  | 4 => ("LeaderLeases$Configuration", "bound", "I", false)
  | 5 => ("LeaderLeases$Configuration", "renewal", "I", false)
  | 6 => ("LeaderLeases$Configuration", "retry", "I", false)
  | 7 => ("LeaderLeases$Configuration", "jitter", "I", false)
  | _ => ("LeaderLeases$Configuration", "seed", "I", false)
def tyX3 : Nat → FieldType := fun k => match k with
  | 0 => .object "LeaderLeases$Clock"
  | 1 => .object "java/util/List"
  | 2 => .object "java/util/List"
  | 3 => .int
  | 4 => .int
  | 5 => .int
  | 6 => .int
  | 7 => .int
  | _ => .int
abbrev wsX30 : List Cond := u_ws RX3 TX3 9
theorem nmX3 : ∀ a, a < 9 → ∀ b, b < 9 → a ≠ b → (TX3 a).2.1 ≠ (TX3 b).2.1 := by decide +kernel
theorem tyX3_ok : ∀ k, k < 9 → parseFieldDescriptor (TX3 k).2.2.1 = some (tyX3 k) := by decide +kernel
abbrev cX3_init : ByteArray := prog_3_method_1_code
def yX3_init : MethodName := ⟨RX3, "<init>", "()V"⟩
def dkwX3_init_3 : List UInt8 := [4, 181, 0, 43, 177]
abbrev dktX3_init_3 : List UInt8 := dkwX3_init_3 ++ []
def dkwX3_init_2 : List UInt8 := [181, 0, 30, 42, 16, 20, 181, 0, 34, 42, 17, 7, 208, 181, 0, 37, 42, 17, 1, 244, 181, 0, 40, 42]
abbrev dktX3_init_2 : List UInt8 := dkwX3_init_2 ++ dktX3_init_3
def dkwX3_init_1 : List UInt8 := [5, 183, 0, 20, 181, 0, 23, 42, 187, 0, 18, 89, 5, 183, 0, 20, 181, 0, 27, 42, 17, 19, 136]
abbrev dktX3_init_1 : List UInt8 := dkwX3_init_1 ++ dktX3_init_2
def dkwX3_init_0 : List UInt8 := [42, 183, 0, 1, 42, 187, 0, 7, 89, 17, 3, 232, 3, 183, 0, 9, 181, 0, 12, 42, 187, 0, 18, 89]
abbrev dktX3_init_0 : List UInt8 := dkwX3_init_0 ++ dktX3_init_1
theorem dksX3_init_0 : cX3_init.data.toList.drop 0 = dktX3_init_0 := by decide +kernel
theorem dksX3_init_1 : cX3_init.data.toList.drop 24 = dktX3_init_1 := dk_seg dksX3_init_0 24 rfl rfl
theorem dksX3_init_2 : cX3_init.data.toList.drop 47 = dktX3_init_2 := dk_seg dksX3_init_1 23 rfl rfl
theorem dksX3_init_3 : cX3_init.data.toList.drop 71 = dktX3_init_3 := dk_seg dksX3_init_2 24 rfl rfl
theorem dX3_init_0 : decode cX3_init 0 = .ok (.aload_n 0, 1) := dk_42 (dk_at dksX3_init_0 0 rfl rfl)
theorem dX3_init_1 : decode cX3_init 1 = .ok (.invokespecial 1, 3) := dk_183 0 1 (dk_at dksX3_init_0 1 rfl rfl)
theorem dX3_init_4 : decode cX3_init 4 = .ok (.aload_n 0, 1) := dk_42 (dk_at dksX3_init_0 4 rfl rfl)
theorem dX3_init_5 : decode cX3_init 5 = .ok (.new 7, 3) := dk_187 0 7 (dk_at dksX3_init_0 5 rfl rfl)
theorem dX3_init_8 : decode cX3_init 8 = .ok (.dup, 1) := dk_89 (dk_at dksX3_init_0 8 rfl rfl)
theorem dX3_init_9 : decode cX3_init 9 = .ok (.sipush 1000, 3) := dk_17 3 232 (dk_at dksX3_init_0 9 rfl rfl)
theorem dX3_init_12 : decode cX3_init 12 = .ok (.iconst 0, 1) := dk_3 (dk_at dksX3_init_0 12 rfl rfl)
theorem dX3_init_13 : decode cX3_init 13 = .ok (.invokespecial 9, 3) := dk_183 0 9 (dk_at dksX3_init_0 13 rfl rfl)
theorem dX3_init_16 : decode cX3_init 16 = .ok (.putfield 12, 3) := dk_181 0 12 (dk_at dksX3_init_0 16 rfl rfl)
theorem dX3_init_19 : decode cX3_init 19 = .ok (.aload_n 0, 1) := dk_42 (dk_at dksX3_init_0 19 rfl rfl)
theorem dX3_init_20 : decode cX3_init 20 = .ok (.new 18, 3) := dk_187 0 18 (dk_at dksX3_init_0 20 rfl rfl)
theorem dX3_init_23 : decode cX3_init 23 = .ok (.dup, 1) := dk_89 (dk_at dksX3_init_0 23 rfl rfl)
theorem dX3_init_24 : decode cX3_init 24 = .ok (.iconst 2, 1) := dk_5 (dk_at dksX3_init_1 0 rfl rfl)
theorem dX3_init_25 : decode cX3_init 25 = .ok (.invokespecial 20, 3) := dk_183 0 20 (dk_at dksX3_init_1 1 rfl rfl)
theorem dX3_init_28 : decode cX3_init 28 = .ok (.putfield 23, 3) := dk_181 0 23 (dk_at dksX3_init_1 4 rfl rfl)
theorem dX3_init_31 : decode cX3_init 31 = .ok (.aload_n 0, 1) := dk_42 (dk_at dksX3_init_1 7 rfl rfl)
theorem dX3_init_32 : decode cX3_init 32 = .ok (.new 18, 3) := dk_187 0 18 (dk_at dksX3_init_1 8 rfl rfl)
theorem dX3_init_35 : decode cX3_init 35 = .ok (.dup, 1) := dk_89 (dk_at dksX3_init_1 11 rfl rfl)
theorem dX3_init_36 : decode cX3_init 36 = .ok (.iconst 2, 1) := dk_5 (dk_at dksX3_init_1 12 rfl rfl)
theorem dX3_init_37 : decode cX3_init 37 = .ok (.invokespecial 20, 3) := dk_183 0 20 (dk_at dksX3_init_1 13 rfl rfl)
theorem dX3_init_40 : decode cX3_init 40 = .ok (.putfield 27, 3) := dk_181 0 27 (dk_at dksX3_init_1 16 rfl rfl)
theorem dX3_init_43 : decode cX3_init 43 = .ok (.aload_n 0, 1) := dk_42 (dk_at dksX3_init_1 19 rfl rfl)
theorem dX3_init_44 : decode cX3_init 44 = .ok (.sipush 5000, 3) := dk_17 19 136 (dk_at dksX3_init_1 20 rfl rfl)
theorem dX3_init_47 : decode cX3_init 47 = .ok (.putfield 30, 3) := dk_181 0 30 (dk_at dksX3_init_2 0 rfl rfl)
theorem dX3_init_50 : decode cX3_init 50 = .ok (.aload_n 0, 1) := dk_42 (dk_at dksX3_init_2 3 rfl rfl)
theorem dX3_init_51 : decode cX3_init 51 = .ok (.bipush 20, 2) := dk_16 20 (dk_at dksX3_init_2 4 rfl rfl)
theorem dX3_init_53 : decode cX3_init 53 = .ok (.putfield 34, 3) := dk_181 0 34 (dk_at dksX3_init_2 6 rfl rfl)
theorem dX3_init_56 : decode cX3_init 56 = .ok (.aload_n 0, 1) := dk_42 (dk_at dksX3_init_2 9 rfl rfl)
theorem dX3_init_57 : decode cX3_init 57 = .ok (.sipush 2000, 3) := dk_17 7 208 (dk_at dksX3_init_2 10 rfl rfl)
theorem dX3_init_60 : decode cX3_init 60 = .ok (.putfield 37, 3) := dk_181 0 37 (dk_at dksX3_init_2 13 rfl rfl)
theorem dX3_init_63 : decode cX3_init 63 = .ok (.aload_n 0, 1) := dk_42 (dk_at dksX3_init_2 16 rfl rfl)
theorem dX3_init_64 : decode cX3_init 64 = .ok (.sipush 500, 3) := dk_17 1 244 (dk_at dksX3_init_2 17 rfl rfl)
theorem dX3_init_67 : decode cX3_init 67 = .ok (.putfield 40, 3) := dk_181 0 40 (dk_at dksX3_init_2 20 rfl rfl)
theorem dX3_init_70 : decode cX3_init 70 = .ok (.aload_n 0, 1) := dk_42 (dk_at dksX3_init_2 23 rfl rfl)
theorem dX3_init_71 : decode cX3_init 71 = .ok (.iconst 1, 1) := dk_4 (dk_at dksX3_init_3 0 rfl rfl)
theorem dX3_init_72 : decode cX3_init 72 = .ok (.putfield 43, 3) := dk_181 0 43 (dk_at dksX3_init_3 1 rfl rfl)
theorem dX3_init_75 : decode cX3_init 75 = .ok (.return_, 1) := dk_177 (dk_at dksX3_init_3 4 rfl rfl)
theorem q92 : (Jvm.Cond.initialized "LeaderLeases$Configuration") ∈ lw_all := lw_g (lw_at lw_m1 3 rfl) rfl
theorem q149 : (Jvm.Cond.instantiable "LeaderLeases$Configuration" (9 : Nat)) ∈ lw_all := lw_g (lw_at lw_m1 60 rfl) rfl
theorem q151 : (Jvm.Cond.instanceMethod ({ cls := "LeaderLeases$Configuration", name := "<init>", desc := "()V" } : Jvm.MethodName)) ∈ lw_all := lw_g (lw_at lw_m1 62 rfl) rfl
theorem q152 : (Jvm.Cond.code ({ cls := "LeaderLeases$Configuration", name := "<init>", desc := "()V" } : Jvm.MethodName) prog_3_method_1_code (1 : Nat) (Option.none : Option Jvm.ClassFile.FieldType)) ∈ lw_all := lw_g (lw_at lw_m1 63 rfl) rfl
theorem q153 : (Jvm.Cond.methodLink "LeaderLeases$Configuration" (1 : Nat) ({ cls := "java/lang/Object", name := "<init>", desc := "()V" } : Jvm.MethodName)) ∈ lw_all := lw_g (lw_at lw_m1 64 rfl) rfl
theorem q154 : (Jvm.Cond.classLink "LeaderLeases$Configuration" (7 : Nat) "LeaderLeases$Clock") ∈ lw_all := lw_g (lw_at lw_m1 65 rfl) rfl
theorem q156 : (Jvm.Cond.methodLink "LeaderLeases$Configuration" (9 : Nat) ({ cls := "LeaderLeases$Clock", name := "<init>", desc := "(II)V" } : Jvm.MethodName)) ∈ lw_all := lw_g (lw_at lw_m1 67 rfl) rfl
theorem q169 : (Jvm.Cond.classLink "LeaderLeases$Configuration" (18 : Nat) "java/util/ArrayList") ∈ lw_all := lw_g (lw_at lw_m1 80 rfl) rfl
theorem q171 : (Jvm.Cond.methodLink "LeaderLeases$Configuration" (20 : Nat) ({ cls := "java/util/ArrayList", name := "<init>", desc := "(I)V" } : Jvm.MethodName)) ∈ lw_all := lw_g (lw_at lw_m1 82 rfl) rfl
theorem q517 : (Jvm.Cond.fieldLink "LeaderLeases$Configuration" (12 : Nat) "LeaderLeases$Configuration" "server" "LLeaderLeases$Clock;") ∈ lw_all := lw_g (lw_at lw_m2 188 rfl) rfl
theorem q521 : (Jvm.Cond.fieldLink "LeaderLeases$Configuration" (23 : Nat) "LeaderLeases$Configuration" "clocks" "Ljava/util/List;") ∈ lw_all := lw_g (lw_at lw_m2 192 rfl) rfl
theorem q525 : (Jvm.Cond.fieldLink "LeaderLeases$Configuration" (27 : Nat) "LeaderLeases$Configuration" "delays" "Ljava/util/List;") ∈ lw_all := lw_g (lw_at lw_m2 196 rfl) rfl
theorem q529 : (Jvm.Cond.fieldLink "LeaderLeases$Configuration" (30 : Nat) "LeaderLeases$Configuration" "duration" "I") ∈ lw_all := lw_g (lw_at lw_m2 200 rfl) rfl
theorem q532 : (Jvm.Cond.fieldLink "LeaderLeases$Configuration" (34 : Nat) "LeaderLeases$Configuration" "bound" "I") ∈ lw_all := lw_g (lw_at lw_m2 203 rfl) rfl
theorem q535 : (Jvm.Cond.fieldLink "LeaderLeases$Configuration" (37 : Nat) "LeaderLeases$Configuration" "renewal" "I") ∈ lw_all := lw_g (lw_at lw_m2 206 rfl) rfl
theorem q538 : (Jvm.Cond.fieldLink "LeaderLeases$Configuration" (40 : Nat) "LeaderLeases$Configuration" "retry" "I") ∈ lw_all := lw_g (lw_at lw_m2 209 rfl) rfl
theorem q543 : (Jvm.Cond.fieldLink "LeaderLeases$Configuration" (43 : Nat) "LeaderLeases$Configuration" "seed" "I") ∈ lw_all := lw_g (lw_at lw_m2 214 rfl) rfl
theorem q546 : (Jvm.Cond.lays "LeaderLeases$Configuration" "LeaderLeases$Configuration" "server" "LLeaderLeases$Clock;") ∈ lw_all := lw_g (lw_at lw_m2 217 rfl) rfl
theorem q547 : (Jvm.Cond.soleField "LeaderLeases$Configuration" "server") ∈ lw_all := lw_g (lw_at lw_m2 218 rfl) rfl
theorem q548 : (Jvm.Cond.laysFinal "LeaderLeases$Configuration" "LeaderLeases$Configuration" "clocks" "Ljava/util/List;") ∈ lw_all := lw_g (lw_at lw_m2 219 rfl) rfl
theorem q549 : (Jvm.Cond.soleField "LeaderLeases$Configuration" "clocks") ∈ lw_all := lw_g (lw_at lw_m2 220 rfl) rfl
theorem q550 : (Jvm.Cond.laysFinal "LeaderLeases$Configuration" "LeaderLeases$Configuration" "delays" "Ljava/util/List;") ∈ lw_all := lw_g (lw_at lw_m2 221 rfl) rfl
theorem q551 : (Jvm.Cond.soleField "LeaderLeases$Configuration" "delays") ∈ lw_all := lw_g (lw_at lw_m2 222 rfl) rfl
theorem q552 : (Jvm.Cond.lays "LeaderLeases$Configuration" "LeaderLeases$Configuration" "duration" "I") ∈ lw_all := lw_g (lw_at lw_m2 223 rfl) rfl
theorem q553 : (Jvm.Cond.soleField "LeaderLeases$Configuration" "duration") ∈ lw_all := lw_g (lw_at lw_m2 224 rfl) rfl
theorem q554 : (Jvm.Cond.lays "LeaderLeases$Configuration" "LeaderLeases$Configuration" "bound" "I") ∈ lw_all := lw_g (lw_at lw_m2 225 rfl) rfl
theorem q555 : (Jvm.Cond.soleField "LeaderLeases$Configuration" "bound") ∈ lw_all := lw_g (lw_at lw_m2 226 rfl) rfl
theorem q556 : (Jvm.Cond.lays "LeaderLeases$Configuration" "LeaderLeases$Configuration" "renewal" "I") ∈ lw_all := lw_g (lw_at lw_m2 227 rfl) rfl
theorem q557 : (Jvm.Cond.soleField "LeaderLeases$Configuration" "renewal") ∈ lw_all := lw_g (lw_at lw_m2 228 rfl) rfl
theorem q558 : (Jvm.Cond.lays "LeaderLeases$Configuration" "LeaderLeases$Configuration" "retry" "I") ∈ lw_all := lw_g (lw_at lw_m2 229 rfl) rfl
theorem q559 : (Jvm.Cond.soleField "LeaderLeases$Configuration" "retry") ∈ lw_all := lw_g (lw_at lw_m2 230 rfl) rfl
theorem q560 : (Jvm.Cond.lays "LeaderLeases$Configuration" "LeaderLeases$Configuration" "jitter" "I") ∈ lw_all := lw_g (lw_at lw_m2 231 rfl) rfl
theorem q561 : (Jvm.Cond.soleField "LeaderLeases$Configuration" "jitter") ∈ lw_all := lw_g (lw_at lw_m2 232 rfl) rfl
theorem q562 : (Jvm.Cond.lays "LeaderLeases$Configuration" "LeaderLeases$Configuration" "seed" "I") ∈ lw_all := lw_g (lw_at lw_m2 233 rfl) rfl
theorem q563 : (Jvm.Cond.soleField "LeaderLeases$Configuration" "seed") ∈ lw_all := lw_g (lw_at lw_m2 234 rfl) rfl
theorem q564 : (Jvm.Cond.superclass "LeaderLeases$Configuration" "java/lang/Object") ∈ lw_all := lw_g (lw_at lw_m2 235 rfl) rfl
theorem q600 : (Jvm.Cond.selects "LeaderLeases$Configuration" ({ cls := "java/lang/Object", name := "getClass", desc := "()Ljava/lang/Class;" } : Jvm.MethodName) ({ cls := "java/lang/Object", name := "getClass", desc := "()Ljava/lang/Class;" } : Jvm.MethodName)) ∈ lw_all := lw_g (lw_at lw_m3 31 rfl) rfl
theorem q1009 : (Jvm.Cond.selects "LeaderLeases$Configuration" ({ cls := "java/lang/Object", name := "equals", desc := "(Ljava/lang/Object;)Z" } : Jvm.MethodName) ({ cls := "java/lang/Object", name := "equals", desc := "(Ljava/lang/Object;)Z" } : Jvm.MethodName)) ∈ lw_all := lw_g (lw_at lw_m4 200 rfl) rfl
theorem q2800 : (Jvm.Cond.castable "LeaderLeases$Configuration" "java/lang/Object") ∈ lw_tbl := lw_at lw_m12 71 rfl
theorem in_X3 : ∀ w ∈ wsX30, w ∈ lw_all := lw_in wsX30 [546, 548, 550, 552, 554, 556, 558, 560, 562] (by decide +kernel) (by decide +kernel)

/-! LeaderLeases$Clock -/
set_option maxRecDepth 100000
def RX4 : String := "LeaderLeases$Clock"
def TX4 : u_T := fun k => match k with
  | 0 => ("LeaderLeases$Clock", "rate", "I", true)
  | _ => ("LeaderLeases$Clock", "offset", "I", true)
def tyX4 : Nat → FieldType := fun k => match k with
  | 0 => .int
  | _ => .int
abbrev wsX40 : List Cond := u_ws RX4 TX4 2
theorem nmX4 : ∀ a, a < 2 → ∀ b, b < 2 → a ≠ b → (TX4 a).2.1 ≠ (TX4 b).2.1 := by decide +kernel
theorem tyX4_ok : ∀ k, k < 2 → parseFieldDescriptor (TX4 k).2.2.1 = some (tyX4 k) := by decide +kernel
abbrev cX4_init : ByteArray := prog_2_method_1_code
def yX4_init : MethodName := ⟨RX4, "<init>", "(II)V"⟩
def dkwX4_init_0 : List UInt8 := [42, 183, 0, 1, 42, 27, 181, 0, 7, 42, 28, 181, 0, 13, 177]
abbrev dktX4_init_0 : List UInt8 := dkwX4_init_0 ++ []
theorem dksX4_init_0 : cX4_init.data.toList.drop 0 = dktX4_init_0 := by decide +kernel
theorem dX4_init_0 : decode cX4_init 0 = .ok (.aload_n 0, 1) := dk_42 (dk_at dksX4_init_0 0 rfl rfl)
theorem dX4_init_1 : decode cX4_init 1 = .ok (.invokespecial 1, 3) := dk_183 0 1 (dk_at dksX4_init_0 1 rfl rfl)
theorem dX4_init_4 : decode cX4_init 4 = .ok (.aload_n 0, 1) := dk_42 (dk_at dksX4_init_0 4 rfl rfl)
theorem dX4_init_5 : decode cX4_init 5 = .ok (.iload_n 1, 1) := dk_27 (dk_at dksX4_init_0 5 rfl rfl)
theorem dX4_init_6 : decode cX4_init 6 = .ok (.putfield 7, 3) := dk_181 0 7 (dk_at dksX4_init_0 6 rfl rfl)
theorem dX4_init_9 : decode cX4_init 9 = .ok (.aload_n 0, 1) := dk_42 (dk_at dksX4_init_0 9 rfl rfl)
theorem dX4_init_10 : decode cX4_init 10 = .ok (.iload_n 2, 1) := dk_28 (dk_at dksX4_init_0 10 rfl rfl)
theorem dX4_init_11 : decode cX4_init 11 = .ok (.putfield 13, 3) := dk_181 0 13 (dk_at dksX4_init_0 11 rfl rfl)
theorem dX4_init_14 : decode cX4_init 14 = .ok (.return_, 1) := dk_177 (dk_at dksX4_init_0 14 rfl rfl)
abbrev cX4_reaches : ByteArray := prog_2_method_3_code
def yX4_reaches : MethodName := ⟨RX4, "reaches", "(I)I"⟩
def dkwX4_reaches_1 : List UInt8 := [10, 101, 42, 180, 0, 7, 133, 109, 136, 172]
abbrev dktX4_reaches_1 : List UInt8 := dkwX4_reaches_1 ++ []
def dkwX4_reaches_0 : List UInt8 := [9, 27, 133, 42, 180, 0, 13, 133, 101, 184, 0, 18, 65, 32, 20, 0, 16, 105, 42, 180, 0, 7, 133, 97]
abbrev dktX4_reaches_0 : List UInt8 := dkwX4_reaches_0 ++ dktX4_reaches_1
theorem dksX4_reaches_0 : cX4_reaches.data.toList.drop 0 = dktX4_reaches_0 := by decide +kernel
theorem dksX4_reaches_1 : cX4_reaches.data.toList.drop 24 = dktX4_reaches_1 := dk_seg dksX4_reaches_0 24 rfl rfl
theorem dX4_reaches_0 : decode cX4_reaches 0 = .ok (.lconst 0, 1) := dk_9 (dk_at dksX4_reaches_0 0 rfl rfl)
theorem dX4_reaches_1 : decode cX4_reaches 1 = .ok (.iload_n 1, 1) := dk_27 (dk_at dksX4_reaches_0 1 rfl rfl)
theorem dX4_reaches_2 : decode cX4_reaches 2 = .ok (.i2l, 1) := dk_133 (dk_at dksX4_reaches_0 2 rfl rfl)
theorem dX4_reaches_3 : decode cX4_reaches 3 = .ok (.aload_n 0, 1) := dk_42 (dk_at dksX4_reaches_0 3 rfl rfl)
theorem dX4_reaches_4 : decode cX4_reaches 4 = .ok (.getfield 13, 3) := dk_180 0 13 (dk_at dksX4_reaches_0 4 rfl rfl)
theorem dX4_reaches_7 : decode cX4_reaches 7 = .ok (.i2l, 1) := dk_133 (dk_at dksX4_reaches_0 7 rfl rfl)
theorem dX4_reaches_8 : decode cX4_reaches 8 = .ok (.lsub, 1) := dk_101 (dk_at dksX4_reaches_0 8 rfl rfl)
theorem dX4_reaches_9 : decode cX4_reaches 9 = .ok (.invokestatic 18, 3) := dk_184 0 18 (dk_at dksX4_reaches_0 9 rfl rfl)
theorem dX4_reaches_12 : decode cX4_reaches 12 = .ok (.lstore_n 2, 1) := dk_65 (dk_at dksX4_reaches_0 12 rfl rfl)
theorem dX4_reaches_13 : decode cX4_reaches 13 = .ok (.lload_n 2, 1) := dk_32 (dk_at dksX4_reaches_0 13 rfl rfl)
theorem dX4_reaches_14 : decode cX4_reaches 14 = .ok (.ldc2_w 16, 3) := dk_20 0 16 (dk_at dksX4_reaches_0 14 rfl rfl)
theorem dX4_reaches_17 : decode cX4_reaches 17 = .ok (.lmul, 1) := dk_105 (dk_at dksX4_reaches_0 17 rfl rfl)
theorem dX4_reaches_18 : decode cX4_reaches 18 = .ok (.aload_n 0, 1) := dk_42 (dk_at dksX4_reaches_0 18 rfl rfl)
theorem dX4_reaches_19 : decode cX4_reaches 19 = .ok (.getfield 7, 3) := dk_180 0 7 (dk_at dksX4_reaches_0 19 rfl rfl)
theorem dX4_reaches_22 : decode cX4_reaches 22 = .ok (.i2l, 1) := dk_133 (dk_at dksX4_reaches_0 22 rfl rfl)
theorem dX4_reaches_23 : decode cX4_reaches 23 = .ok (.ladd, 1) := dk_97 (dk_at dksX4_reaches_0 23 rfl rfl)
theorem dX4_reaches_24 : decode cX4_reaches 24 = .ok (.lconst 1, 1) := dk_10 (dk_at dksX4_reaches_1 0 rfl rfl)
theorem dX4_reaches_25 : decode cX4_reaches 25 = .ok (.lsub, 1) := dk_101 (dk_at dksX4_reaches_1 1 rfl rfl)
theorem dX4_reaches_26 : decode cX4_reaches 26 = .ok (.aload_n 0, 1) := dk_42 (dk_at dksX4_reaches_1 2 rfl rfl)
theorem dX4_reaches_27 : decode cX4_reaches 27 = .ok (.getfield 7, 3) := dk_180 0 7 (dk_at dksX4_reaches_1 3 rfl rfl)
theorem dX4_reaches_30 : decode cX4_reaches 30 = .ok (.i2l, 1) := dk_133 (dk_at dksX4_reaches_1 6 rfl rfl)
theorem dX4_reaches_31 : decode cX4_reaches 31 = .ok (.ldiv, 1) := dk_109 (dk_at dksX4_reaches_1 7 rfl rfl)
theorem dX4_reaches_32 : decode cX4_reaches 32 = .ok (.l2i, 1) := dk_136 (dk_at dksX4_reaches_1 8 rfl rfl)
theorem dX4_reaches_33 : decode cX4_reaches 33 = .ok (.ireturn, 1) := dk_172 (dk_at dksX4_reaches_1 9 rfl rfl)
abbrev cX4_at : ByteArray := prog_2_method_2_code
def yX4_at : MethodName := ⟨RX4, "at", "(I)I"⟩
def dkwX4_at_0 : List UInt8 := [42, 180, 0, 13, 133, 42, 180, 0, 7, 133, 27, 133, 105, 20, 0, 16, 109, 97, 136, 172]
abbrev dktX4_at_0 : List UInt8 := dkwX4_at_0 ++ []
theorem dksX4_at_0 : cX4_at.data.toList.drop 0 = dktX4_at_0 := by decide +kernel
theorem dX4_at_0 : decode cX4_at 0 = .ok (.aload_n 0, 1) := dk_42 (dk_at dksX4_at_0 0 rfl rfl)
theorem dX4_at_1 : decode cX4_at 1 = .ok (.getfield 13, 3) := dk_180 0 13 (dk_at dksX4_at_0 1 rfl rfl)
theorem dX4_at_4 : decode cX4_at 4 = .ok (.i2l, 1) := dk_133 (dk_at dksX4_at_0 4 rfl rfl)
theorem dX4_at_5 : decode cX4_at 5 = .ok (.aload_n 0, 1) := dk_42 (dk_at dksX4_at_0 5 rfl rfl)
theorem dX4_at_6 : decode cX4_at 6 = .ok (.getfield 7, 3) := dk_180 0 7 (dk_at dksX4_at_0 6 rfl rfl)
theorem dX4_at_9 : decode cX4_at 9 = .ok (.i2l, 1) := dk_133 (dk_at dksX4_at_0 9 rfl rfl)
theorem dX4_at_10 : decode cX4_at 10 = .ok (.iload_n 1, 1) := dk_27 (dk_at dksX4_at_0 10 rfl rfl)
theorem dX4_at_11 : decode cX4_at 11 = .ok (.i2l, 1) := dk_133 (dk_at dksX4_at_0 11 rfl rfl)
theorem dX4_at_12 : decode cX4_at 12 = .ok (.lmul, 1) := dk_105 (dk_at dksX4_at_0 12 rfl rfl)
theorem dX4_at_13 : decode cX4_at 13 = .ok (.ldc2_w 16, 3) := dk_20 0 16 (dk_at dksX4_at_0 13 rfl rfl)
theorem dX4_at_16 : decode cX4_at 16 = .ok (.ldiv, 1) := dk_109 (dk_at dksX4_at_0 16 rfl rfl)
theorem dX4_at_17 : decode cX4_at 17 = .ok (.ladd, 1) := dk_97 (dk_at dksX4_at_0 17 rfl rfl)
theorem dX4_at_18 : decode cX4_at 18 = .ok (.l2i, 1) := dk_136 (dk_at dksX4_at_0 18 rfl rfl)
theorem dX4_at_19 : decode cX4_at 19 = .ok (.ireturn, 1) := dk_172 (dk_at dksX4_at_0 19 rfl rfl)
theorem q93 : (Jvm.Cond.initialized "LeaderLeases$Clock") ∈ lw_all := lw_g (lw_at lw_m1 4 rfl) rfl
theorem q155 : (Jvm.Cond.instantiable "LeaderLeases$Clock" (2 : Nat)) ∈ lw_all := lw_g (lw_at lw_m1 66 rfl) rfl
theorem q157 : (Jvm.Cond.instanceMethod ({ cls := "LeaderLeases$Clock", name := "<init>", desc := "(II)V" } : Jvm.MethodName)) ∈ lw_all := lw_g (lw_at lw_m1 68 rfl) rfl
theorem q158 : (Jvm.Cond.code ({ cls := "LeaderLeases$Clock", name := "<init>", desc := "(II)V" } : Jvm.MethodName) prog_2_method_1_code (3 : Nat) (Option.none : Option Jvm.ClassFile.FieldType)) ∈ lw_all := lw_g (lw_at lw_m1 69 rfl) rfl
theorem q159 : (Jvm.Cond.methodLink "LeaderLeases$Clock" (1 : Nat) ({ cls := "java/lang/Object", name := "<init>", desc := "()V" } : Jvm.MethodName)) ∈ lw_all := lw_g (lw_at lw_m1 70 rfl) rfl
theorem q160 : (Jvm.Cond.fieldLink "LeaderLeases$Clock" (7 : Nat) "LeaderLeases$Clock" "rate" "I") ∈ lw_all := lw_g (lw_at lw_m1 71 rfl) rfl
theorem q162 : (Jvm.Cond.fieldLink "LeaderLeases$Clock" (13 : Nat) "LeaderLeases$Clock" "offset" "I") ∈ lw_all := lw_g (lw_at lw_m1 73 rfl) rfl
theorem q163 : (Jvm.Cond.laysFinal "LeaderLeases$Clock" "LeaderLeases$Clock" "rate" "I") ∈ lw_all := lw_g (lw_at lw_m1 74 rfl) rfl
theorem q164 : (Jvm.Cond.soleField "LeaderLeases$Clock" "rate") ∈ lw_all := lw_g (lw_at lw_m1 75 rfl) rfl
theorem q165 : (Jvm.Cond.laysFinal "LeaderLeases$Clock" "LeaderLeases$Clock" "offset" "I") ∈ lw_all := lw_g (lw_at lw_m1 76 rfl) rfl
theorem q166 : (Jvm.Cond.soleField "LeaderLeases$Clock" "offset") ∈ lw_all := lw_g (lw_at lw_m1 77 rfl) rfl
theorem q167 : (Jvm.Cond.superclass "LeaderLeases$Clock" "java/lang/Object") ∈ lw_all := lw_g (lw_at lw_m1 78 rfl) rfl
theorem q599 : (Jvm.Cond.selects "LeaderLeases$Clock" ({ cls := "java/lang/Object", name := "getClass", desc := "()Ljava/lang/Class;" } : Jvm.MethodName) ({ cls := "java/lang/Object", name := "getClass", desc := "()Ljava/lang/Class;" } : Jvm.MethodName)) ∈ lw_all := lw_g (lw_at lw_m3 30 rfl) rfl
theorem q1008 : (Jvm.Cond.selects "LeaderLeases$Clock" ({ cls := "java/lang/Object", name := "equals", desc := "(Ljava/lang/Object;)Z" } : Jvm.MethodName) ({ cls := "java/lang/Object", name := "equals", desc := "(Ljava/lang/Object;)Z" } : Jvm.MethodName)) ∈ lw_all := lw_g (lw_at lw_m4 199 rfl) rfl
theorem q1304 : (Jvm.Cond.instanceMethod ({ cls := "LeaderLeases$Clock", name := "reaches", desc := "(I)I" } : Jvm.MethodName)) ∈ lw_all := lw_g (lw_at lw_m6 15 rfl) rfl
theorem q1305 : (Jvm.Cond.selects "LeaderLeases$Clock" ({ cls := "LeaderLeases$Clock", name := "reaches", desc := "(I)I" } : Jvm.MethodName) ({ cls := "LeaderLeases$Clock", name := "reaches", desc := "(I)I" } : Jvm.MethodName)) ∈ lw_all := lw_g (lw_at lw_m6 16 rfl) rfl
theorem q1306 : (Jvm.Cond.code ({ cls := "LeaderLeases$Clock", name := "reaches", desc := "(I)I" } : Jvm.MethodName) prog_2_method_3_code (4 : Nat) (Option.some Jvm.ClassFile.FieldType.int)) ∈ lw_all := lw_g (lw_at lw_m6 17 rfl) rfl
theorem q1307 : (Jvm.Cond.methodLink "LeaderLeases$Clock" (18 : Nat) ({ cls := "java/lang/Math", name := "max", desc := "(JJ)J" } : Jvm.MethodName)) ∈ lw_all := lw_g (lw_at lw_m6 18 rfl) rfl
theorem q1310 : (Jvm.Cond.constantLong "LeaderLeases$Clock" (16 : Nat) (1000 : Int64)) ∈ lw_all := lw_g (lw_at lw_m6 21 rfl) rfl
theorem q1422 : (Jvm.Cond.instanceMethod ({ cls := "LeaderLeases$Clock", name := "at", desc := "(I)I" } : Jvm.MethodName)) ∈ lw_all := lw_g (lw_at lw_m6 133 rfl) rfl
theorem q1423 : (Jvm.Cond.selects "LeaderLeases$Clock" ({ cls := "LeaderLeases$Clock", name := "at", desc := "(I)I" } : Jvm.MethodName) ({ cls := "LeaderLeases$Clock", name := "at", desc := "(I)I" } : Jvm.MethodName)) ∈ lw_all := lw_g (lw_at lw_m6 134 rfl) rfl
theorem q1424 : (Jvm.Cond.code ({ cls := "LeaderLeases$Clock", name := "at", desc := "(I)I" } : Jvm.MethodName) prog_2_method_2_code (2 : Nat) (Option.some Jvm.ClassFile.FieldType.int)) ∈ lw_all := lw_g (lw_at lw_m6 135 rfl) rfl
theorem q2801 : (Jvm.Cond.castable "LeaderLeases$Clock" "java/lang/Object") ∈ lw_tbl := lw_at lw_m12 72 rfl
theorem in_X4 : ∀ w ∈ wsX40, w ∈ lw_all := lw_in wsX40 [163, 165] (by decide +kernel) (by decide +kernel)

/-! LeaderLeases$Storage -/
set_option maxRecDepth 100000
def RX5 : String := "LeaderLeases$Storage"
def TX5 : u_T := fun k => match k with
  | 0 => ("LeaderLeases$Storage", "values", "[I", true)
  | 1 => ("LeaderLeases$Storage", "versions", "[I", true)
  | _ => ("LeaderLeases$Storage", "greatest", "I", false)
def tyX5 : Nat → FieldType := fun k => match k with
  | 0 => .array .int
  | 1 => .array .int
  | _ => .int
abbrev wsX50 : List Cond := u_ws RX5 TX5 3
theorem nmX5 : ∀ a, a < 3 → ∀ b, b < 3 → a ≠ b → (TX5 a).2.1 ≠ (TX5 b).2.1 := by decide +kernel
theorem tyX5_ok : ∀ k, k < 3 → parseFieldDescriptor (TX5 k).2.2.1 = some (tyX5 k) := by decide +kernel
abbrev cX5_init : ByteArray := prog_19_method_1_code
def yX5_init : MethodName := ⟨RX5, "<init>", "()V"⟩
def dkwX5_init_0 : List UInt8 := [42, 183, 0, 3, 42, 16, 8, 188, 10, 181, 0, 9, 42, 16, 8, 188, 10, 181, 0, 15, 177]
abbrev dktX5_init_0 : List UInt8 := dkwX5_init_0 ++ []
theorem dksX5_init_0 : cX5_init.data.toList.drop 0 = dktX5_init_0 := by decide +kernel
theorem dX5_init_0 : decode cX5_init 0 = .ok (.aload_n 0, 1) := dk_42 (dk_at dksX5_init_0 0 rfl rfl)
theorem dX5_init_1 : decode cX5_init 1 = .ok (.invokespecial 3, 3) := dk_183 0 3 (dk_at dksX5_init_0 1 rfl rfl)
theorem dX5_init_4 : decode cX5_init 4 = .ok (.aload_n 0, 1) := dk_42 (dk_at dksX5_init_0 4 rfl rfl)
theorem dX5_init_5 : decode cX5_init 5 = .ok (.bipush 8, 2) := dk_16 8 (dk_at dksX5_init_0 5 rfl rfl)
theorem dX5_init_7 : decode cX5_init 7 = .ok (.newarray .int, 2) := dk_188_10 (dk_at dksX5_init_0 7 rfl rfl)
theorem dX5_init_9 : decode cX5_init 9 = .ok (.putfield 9, 3) := dk_181 0 9 (dk_at dksX5_init_0 9 rfl rfl)
theorem dX5_init_12 : decode cX5_init 12 = .ok (.aload_n 0, 1) := dk_42 (dk_at dksX5_init_0 12 rfl rfl)
theorem dX5_init_13 : decode cX5_init 13 = .ok (.bipush 8, 2) := dk_16 8 (dk_at dksX5_init_0 13 rfl rfl)
theorem dX5_init_15 : decode cX5_init 15 = .ok (.newarray .int, 2) := dk_188_10 (dk_at dksX5_init_0 15 rfl rfl)
theorem dX5_init_17 : decode cX5_init 17 = .ok (.putfield 15, 3) := dk_181 0 15 (dk_at dksX5_init_0 17 rfl rfl)
theorem dX5_init_20 : decode cX5_init 20 = .ok (.return_, 1) := dk_177 (dk_at dksX5_init_0 20 rfl rfl)
abbrev cX5_fetch : ByteArray := prog_19_method_4_code
def yX5_fetch : MethodName := ⟨RX5, "fetch", "(II)I"⟩
def dkwX5_fetch_0 : List UInt8 := [42, 27, 182, 0, 27, 42, 180, 0, 9, 28, 46, 172]
abbrev dktX5_fetch_0 : List UInt8 := dkwX5_fetch_0 ++ []
theorem dksX5_fetch_0 : cX5_fetch.data.toList.drop 0 = dktX5_fetch_0 := by decide +kernel
theorem dX5_fetch_0 : decode cX5_fetch 0 = .ok (.aload_n 0, 1) := dk_42 (dk_at dksX5_fetch_0 0 rfl rfl)
theorem dX5_fetch_1 : decode cX5_fetch 1 = .ok (.iload_n 1, 1) := dk_27 (dk_at dksX5_fetch_0 1 rfl rfl)
theorem dX5_fetch_2 : decode cX5_fetch 2 = .ok (.invokevirtual 27, 3) := dk_182 0 27 (dk_at dksX5_fetch_0 2 rfl rfl)
theorem dX5_fetch_5 : decode cX5_fetch 5 = .ok (.aload_n 0, 1) := dk_42 (dk_at dksX5_fetch_0 5 rfl rfl)
theorem dX5_fetch_6 : decode cX5_fetch 6 = .ok (.getfield 9, 3) := dk_180 0 9 (dk_at dksX5_fetch_0 6 rfl rfl)
theorem dX5_fetch_9 : decode cX5_fetch 9 = .ok (.iload_n 2, 1) := dk_28 (dk_at dksX5_fetch_0 9 rfl rfl)
theorem dX5_fetch_10 : decode cX5_fetch 10 = .ok (.iaload, 1) := dk_46 (dk_at dksX5_fetch_0 10 rfl rfl)
theorem dX5_fetch_11 : decode cX5_fetch 11 = .ok (.ireturn, 1) := dk_172 (dk_at dksX5_fetch_0 11 rfl rfl)
abbrev cX5_see : ByteArray := prog_19_method_2_code
def yX5_see : MethodName := ⟨RX5, "see", "(I)V"⟩
def dkwX5_see_0 : List UInt8 := [27, 42, 180, 0, 18, 162, 0, 12, 187, 0, 22, 89, 27, 183, 0, 24, 191, 42, 27, 181, 0, 18, 177]
abbrev dktX5_see_0 : List UInt8 := dkwX5_see_0 ++ []
theorem dksX5_see_0 : cX5_see.data.toList.drop 0 = dktX5_see_0 := by decide +kernel
theorem dX5_see_0 : decode cX5_see 0 = .ok (.iload_n 1, 1) := dk_27 (dk_at dksX5_see_0 0 rfl rfl)
theorem dX5_see_1 : decode cX5_see 1 = .ok (.aload_n 0, 1) := dk_42 (dk_at dksX5_see_0 1 rfl rfl)
theorem dX5_see_2 : decode cX5_see 2 = .ok (.getfield 18, 3) := dk_180 0 18 (dk_at dksX5_see_0 2 rfl rfl)
theorem dX5_see_5 : decode cX5_see 5 = .ok (.if_icmp .ge 12, 3) := dk_162 0 12 (dk_at dksX5_see_0 5 rfl rfl)
theorem dX5_see_8 : decode cX5_see 8 = .ok (.new 22, 3) := dk_187 0 22 (dk_at dksX5_see_0 8 rfl rfl)
theorem dX5_see_11 : decode cX5_see 11 = .ok (.dup, 1) := dk_89 (dk_at dksX5_see_0 11 rfl rfl)
theorem dX5_see_12 : decode cX5_see 12 = .ok (.iload_n 1, 1) := dk_27 (dk_at dksX5_see_0 12 rfl rfl)
theorem dX5_see_13 : decode cX5_see 13 = .ok (.invokespecial 24, 3) := dk_183 0 24 (dk_at dksX5_see_0 13 rfl rfl)
theorem dX5_see_16 : decode cX5_see 16 = .ok (.athrow, 1) := dk_191 (dk_at dksX5_see_0 16 rfl rfl)
theorem dX5_see_17 : decode cX5_see 17 = .ok (.aload_n 0, 1) := dk_42 (dk_at dksX5_see_0 17 rfl rfl)
theorem dX5_see_18 : decode cX5_see 18 = .ok (.iload_n 1, 1) := dk_27 (dk_at dksX5_see_0 18 rfl rfl)
theorem dX5_see_19 : decode cX5_see 19 = .ok (.putfield 18, 3) := dk_181 0 18 (dk_at dksX5_see_0 19 rfl rfl)
theorem dX5_see_22 : decode cX5_see 22 = .ok (.return_, 1) := dk_177 (dk_at dksX5_see_0 22 rfl rfl)
abbrev cX5_write : ByteArray := prog_19_method_3_code
def yX5_write : MethodName := ⟨RX5, "write", "(III)V"⟩
def dkwX5_write_0 : List UInt8 := [42, 27, 182, 0, 27, 42, 180, 0, 9, 28, 29, 79, 42, 180, 0, 15, 28, 92, 46, 4, 96, 79, 177]
abbrev dktX5_write_0 : List UInt8 := dkwX5_write_0 ++ []
theorem dksX5_write_0 : cX5_write.data.toList.drop 0 = dktX5_write_0 := by decide +kernel
theorem dX5_write_0 : decode cX5_write 0 = .ok (.aload_n 0, 1) := dk_42 (dk_at dksX5_write_0 0 rfl rfl)
theorem dX5_write_1 : decode cX5_write 1 = .ok (.iload_n 1, 1) := dk_27 (dk_at dksX5_write_0 1 rfl rfl)
theorem dX5_write_2 : decode cX5_write 2 = .ok (.invokevirtual 27, 3) := dk_182 0 27 (dk_at dksX5_write_0 2 rfl rfl)
theorem dX5_write_5 : decode cX5_write 5 = .ok (.aload_n 0, 1) := dk_42 (dk_at dksX5_write_0 5 rfl rfl)
theorem dX5_write_6 : decode cX5_write 6 = .ok (.getfield 9, 3) := dk_180 0 9 (dk_at dksX5_write_0 6 rfl rfl)
theorem dX5_write_9 : decode cX5_write 9 = .ok (.iload_n 2, 1) := dk_28 (dk_at dksX5_write_0 9 rfl rfl)
theorem dX5_write_10 : decode cX5_write 10 = .ok (.iload_n 3, 1) := dk_29 (dk_at dksX5_write_0 10 rfl rfl)
theorem dX5_write_11 : decode cX5_write 11 = .ok (.iastore, 1) := dk_79 (dk_at dksX5_write_0 11 rfl rfl)
theorem dX5_write_12 : decode cX5_write 12 = .ok (.aload_n 0, 1) := dk_42 (dk_at dksX5_write_0 12 rfl rfl)
theorem dX5_write_13 : decode cX5_write 13 = .ok (.getfield 15, 3) := dk_180 0 15 (dk_at dksX5_write_0 13 rfl rfl)
theorem dX5_write_16 : decode cX5_write 16 = .ok (.iload_n 2, 1) := dk_28 (dk_at dksX5_write_0 16 rfl rfl)
theorem dX5_write_17 : decode cX5_write 17 = .ok (.dup2, 1) := dk_92 (dk_at dksX5_write_0 17 rfl rfl)
theorem dX5_write_18 : decode cX5_write 18 = .ok (.iaload, 1) := dk_46 (dk_at dksX5_write_0 18 rfl rfl)
theorem dX5_write_19 : decode cX5_write 19 = .ok (.iconst 1, 1) := dk_4 (dk_at dksX5_write_0 19 rfl rfl)
theorem dX5_write_20 : decode cX5_write 20 = .ok (.iadd, 1) := dk_96 (dk_at dksX5_write_0 20 rfl rfl)
theorem dX5_write_21 : decode cX5_write 21 = .ok (.iastore, 1) := dk_79 (dk_at dksX5_write_0 21 rfl rfl)
theorem dX5_write_22 : decode cX5_write 22 = .ok (.return_, 1) := dk_177 (dk_at dksX5_write_0 22 rfl rfl)
abbrev cX5_copyFrom : ByteArray := prog_19_method_5_code
def yX5_copyFrom : MethodName := ⟨RX5, "copyFrom", "(LLeaderLeases$Storage;)V"⟩
def dkwX5_copyFrom_1 : List UInt8 := [3, 16, 8, 184, 0, 30, 42, 43, 180, 0, 18, 181, 0, 18, 177]
abbrev dktX5_copyFrom_1 : List UInt8 := dkwX5_copyFrom_1 ++ []
def dkwX5_copyFrom_0 : List UInt8 := [43, 180, 0, 9, 3, 42, 180, 0, 9, 3, 16, 8, 184, 0, 30, 43, 180, 0, 15, 3, 42, 180, 0, 15]
abbrev dktX5_copyFrom_0 : List UInt8 := dkwX5_copyFrom_0 ++ dktX5_copyFrom_1
theorem dksX5_copyFrom_0 : cX5_copyFrom.data.toList.drop 0 = dktX5_copyFrom_0 := by decide +kernel
theorem dksX5_copyFrom_1 : cX5_copyFrom.data.toList.drop 24 = dktX5_copyFrom_1 := dk_seg dksX5_copyFrom_0 24 rfl rfl
theorem dX5_copyFrom_0 : decode cX5_copyFrom 0 = .ok (.aload_n 1, 1) := dk_43 (dk_at dksX5_copyFrom_0 0 rfl rfl)
theorem dX5_copyFrom_1 : decode cX5_copyFrom 1 = .ok (.getfield 9, 3) := dk_180 0 9 (dk_at dksX5_copyFrom_0 1 rfl rfl)
theorem dX5_copyFrom_4 : decode cX5_copyFrom 4 = .ok (.iconst 0, 1) := dk_3 (dk_at dksX5_copyFrom_0 4 rfl rfl)
theorem dX5_copyFrom_5 : decode cX5_copyFrom 5 = .ok (.aload_n 0, 1) := dk_42 (dk_at dksX5_copyFrom_0 5 rfl rfl)
theorem dX5_copyFrom_6 : decode cX5_copyFrom 6 = .ok (.getfield 9, 3) := dk_180 0 9 (dk_at dksX5_copyFrom_0 6 rfl rfl)
theorem dX5_copyFrom_9 : decode cX5_copyFrom 9 = .ok (.iconst 0, 1) := dk_3 (dk_at dksX5_copyFrom_0 9 rfl rfl)
theorem dX5_copyFrom_10 : decode cX5_copyFrom 10 = .ok (.bipush 8, 2) := dk_16 8 (dk_at dksX5_copyFrom_0 10 rfl rfl)
theorem dX5_copyFrom_12 : decode cX5_copyFrom 12 = .ok (.invokestatic 30, 3) := dk_184 0 30 (dk_at dksX5_copyFrom_0 12 rfl rfl)
theorem dX5_copyFrom_15 : decode cX5_copyFrom 15 = .ok (.aload_n 1, 1) := dk_43 (dk_at dksX5_copyFrom_0 15 rfl rfl)
theorem dX5_copyFrom_16 : decode cX5_copyFrom 16 = .ok (.getfield 15, 3) := dk_180 0 15 (dk_at dksX5_copyFrom_0 16 rfl rfl)
theorem dX5_copyFrom_19 : decode cX5_copyFrom 19 = .ok (.iconst 0, 1) := dk_3 (dk_at dksX5_copyFrom_0 19 rfl rfl)
theorem dX5_copyFrom_20 : decode cX5_copyFrom 20 = .ok (.aload_n 0, 1) := dk_42 (dk_at dksX5_copyFrom_0 20 rfl rfl)
theorem dX5_copyFrom_21 : decode cX5_copyFrom 21 = .ok (.getfield 15, 3) := dk_180 0 15 (dk_at dksX5_copyFrom_0 21 rfl rfl)
theorem dX5_copyFrom_24 : decode cX5_copyFrom 24 = .ok (.iconst 0, 1) := dk_3 (dk_at dksX5_copyFrom_1 0 rfl rfl)
theorem dX5_copyFrom_25 : decode cX5_copyFrom 25 = .ok (.bipush 8, 2) := dk_16 8 (dk_at dksX5_copyFrom_1 1 rfl rfl)
theorem dX5_copyFrom_27 : decode cX5_copyFrom 27 = .ok (.invokestatic 30, 3) := dk_184 0 30 (dk_at dksX5_copyFrom_1 3 rfl rfl)
theorem dX5_copyFrom_30 : decode cX5_copyFrom 30 = .ok (.aload_n 0, 1) := dk_42 (dk_at dksX5_copyFrom_1 6 rfl rfl)
theorem dX5_copyFrom_31 : decode cX5_copyFrom 31 = .ok (.aload_n 1, 1) := dk_43 (dk_at dksX5_copyFrom_1 7 rfl rfl)
theorem dX5_copyFrom_32 : decode cX5_copyFrom 32 = .ok (.getfield 18, 3) := dk_180 0 18 (dk_at dksX5_copyFrom_1 8 rfl rfl)
theorem dX5_copyFrom_35 : decode cX5_copyFrom 35 = .ok (.putfield 18, 3) := dk_181 0 18 (dk_at dksX5_copyFrom_1 11 rfl rfl)
theorem dX5_copyFrom_38 : decode cX5_copyFrom 38 = .ok (.return_, 1) := dk_177 (dk_at dksX5_copyFrom_1 14 rfl rfl)
theorem q114 : (Jvm.Cond.initialized "LeaderLeases$Storage") ∈ lw_all := lw_g (lw_at lw_m1 25 rfl) rfl
theorem q615 : (Jvm.Cond.selects "LeaderLeases$Storage" ({ cls := "java/lang/Object", name := "getClass", desc := "()Ljava/lang/Class;" } : Jvm.MethodName) ({ cls := "java/lang/Object", name := "getClass", desc := "()Ljava/lang/Class;" } : Jvm.MethodName)) ∈ lw_all := lw_g (lw_at lw_m3 46 rfl) rfl
theorem q660 : (Jvm.Cond.instantiable "LeaderLeases$Storage" (3 : Nat)) ∈ lw_all := lw_g (lw_at lw_m3 91 rfl) rfl
theorem q662 : (Jvm.Cond.instanceMethod ({ cls := "LeaderLeases$Storage", name := "<init>", desc := "()V" } : Jvm.MethodName)) ∈ lw_all := lw_g (lw_at lw_m3 93 rfl) rfl
theorem q663 : (Jvm.Cond.code ({ cls := "LeaderLeases$Storage", name := "<init>", desc := "()V" } : Jvm.MethodName) prog_19_method_1_code (1 : Nat) (Option.none : Option Jvm.ClassFile.FieldType)) ∈ lw_all := lw_g (lw_at lw_m3 94 rfl) rfl
theorem q664 : (Jvm.Cond.methodLink "LeaderLeases$Storage" (3 : Nat) ({ cls := "java/lang/Object", name := "<init>", desc := "()V" } : Jvm.MethodName)) ∈ lw_all := lw_g (lw_at lw_m3 95 rfl) rfl
theorem q665 : (Jvm.Cond.fieldLink "LeaderLeases$Storage" (9 : Nat) "LeaderLeases$Storage" "values" "[I") ∈ lw_all := lw_g (lw_at lw_m3 96 rfl) rfl
theorem q668 : (Jvm.Cond.fieldLink "LeaderLeases$Storage" (15 : Nat) "LeaderLeases$Storage" "versions" "[I") ∈ lw_all := lw_g (lw_at lw_m3 99 rfl) rfl
theorem q670 : (Jvm.Cond.fieldLink "LeaderLeases$Storage" (18 : Nat) "LeaderLeases$Storage" "greatest" "I") ∈ lw_all := lw_g (lw_at lw_m3 101 rfl) rfl
theorem q672 : (Jvm.Cond.laysFinal "LeaderLeases$Storage" "LeaderLeases$Storage" "values" "[I") ∈ lw_all := lw_g (lw_at lw_m3 103 rfl) rfl
theorem q673 : (Jvm.Cond.soleField "LeaderLeases$Storage" "values") ∈ lw_all := lw_g (lw_at lw_m3 104 rfl) rfl
theorem q674 : (Jvm.Cond.laysFinal "LeaderLeases$Storage" "LeaderLeases$Storage" "versions" "[I") ∈ lw_all := lw_g (lw_at lw_m3 105 rfl) rfl
theorem q675 : (Jvm.Cond.soleField "LeaderLeases$Storage" "versions") ∈ lw_all := lw_g (lw_at lw_m3 106 rfl) rfl
theorem q676 : (Jvm.Cond.lays "LeaderLeases$Storage" "LeaderLeases$Storage" "greatest" "I") ∈ lw_all := lw_g (lw_at lw_m3 107 rfl) rfl
theorem q677 : (Jvm.Cond.soleField "LeaderLeases$Storage" "greatest") ∈ lw_all := lw_g (lw_at lw_m3 108 rfl) rfl
theorem q678 : (Jvm.Cond.superclass "LeaderLeases$Storage" "java/lang/Object") ∈ lw_all := lw_g (lw_at lw_m3 109 rfl) rfl
theorem q1026 : (Jvm.Cond.selects "LeaderLeases$Storage" ({ cls := "java/lang/Object", name := "equals", desc := "(Ljava/lang/Object;)Z" } : Jvm.MethodName) ({ cls := "java/lang/Object", name := "equals", desc := "(Ljava/lang/Object;)Z" } : Jvm.MethodName)) ∈ lw_all := lw_g (lw_at lw_m4 217 rfl) rfl
theorem q1479 : (Jvm.Cond.instanceMethod ({ cls := "LeaderLeases$Storage", name := "fetch", desc := "(II)I" } : Jvm.MethodName)) ∈ lw_all := lw_g (lw_at lw_m6 190 rfl) rfl
theorem q1480 : (Jvm.Cond.selects "LeaderLeases$Storage" ({ cls := "LeaderLeases$Storage", name := "fetch", desc := "(II)I" } : Jvm.MethodName) ({ cls := "LeaderLeases$Storage", name := "fetch", desc := "(II)I" } : Jvm.MethodName)) ∈ lw_all := lw_g (lw_at lw_m6 191 rfl) rfl
theorem q1481 : (Jvm.Cond.code ({ cls := "LeaderLeases$Storage", name := "fetch", desc := "(II)I" } : Jvm.MethodName) prog_19_method_4_code (3 : Nat) (Option.some Jvm.ClassFile.FieldType.int)) ∈ lw_all := lw_g (lw_at lw_m6 192 rfl) rfl
theorem q1482 : (Jvm.Cond.methodLink "LeaderLeases$Storage" (27 : Nat) ({ cls := "LeaderLeases$Storage", name := "see", desc := "(I)V" } : Jvm.MethodName)) ∈ lw_all := lw_g (lw_at lw_m6 193 rfl) rfl
theorem q1483 : (Jvm.Cond.privateMethod ({ cls := "LeaderLeases$Storage", name := "see", desc := "(I)V" } : Jvm.MethodName)) ∈ lw_tbl := lw_at lw_m6 194 rfl
theorem q1484 : (Jvm.Cond.instanceMethod ({ cls := "LeaderLeases$Storage", name := "see", desc := "(I)V" } : Jvm.MethodName)) ∈ lw_all := lw_g (lw_at lw_m6 195 rfl) rfl
theorem q1485 : (Jvm.Cond.code ({ cls := "LeaderLeases$Storage", name := "see", desc := "(I)V" } : Jvm.MethodName) prog_19_method_2_code (2 : Nat) (Option.none : Option Jvm.ClassFile.FieldType)) ∈ lw_all := lw_g (lw_at lw_m6 196 rfl) rfl
theorem q1486 : (Jvm.Cond.classLink "LeaderLeases$Storage" (22 : Nat) "LeaderLeases$StaleToken") ∈ lw_all := lw_g (lw_at lw_m6 197 rfl) rfl
theorem q1495 : (Jvm.Cond.methodLink "LeaderLeases$Storage" (24 : Nat) ({ cls := "LeaderLeases$StaleToken", name := "<init>", desc := "(I)V" } : Jvm.MethodName)) ∈ lw_all := lw_g (lw_at lw_m6 206 rfl) rfl
theorem q1508 : (Jvm.Cond.instanceMethod ({ cls := "LeaderLeases$Storage", name := "write", desc := "(III)V" } : Jvm.MethodName)) ∈ lw_all := lw_g (lw_at lw_m6 219 rfl) rfl
theorem q1509 : (Jvm.Cond.selects "LeaderLeases$Storage" ({ cls := "LeaderLeases$Storage", name := "write", desc := "(III)V" } : Jvm.MethodName) ({ cls := "LeaderLeases$Storage", name := "write", desc := "(III)V" } : Jvm.MethodName)) ∈ lw_all := lw_g (lw_at lw_m6 220 rfl) rfl
theorem q1510 : (Jvm.Cond.code ({ cls := "LeaderLeases$Storage", name := "write", desc := "(III)V" } : Jvm.MethodName) prog_19_method_3_code (4 : Nat) (Option.none : Option Jvm.ClassFile.FieldType)) ∈ lw_all := lw_g (lw_at lw_m6 221 rfl) rfl
theorem q2065 : (Jvm.Cond.instanceMethod ({ cls := "LeaderLeases$Storage", name := "copyFrom", desc := "(LLeaderLeases$Storage;)V" } : Jvm.MethodName)) ∈ lw_all := lw_g (lw_at lw_m9 56 rfl) rfl
theorem q2066 : (Jvm.Cond.selects "LeaderLeases$Storage" ({ cls := "LeaderLeases$Storage", name := "copyFrom", desc := "(LLeaderLeases$Storage;)V" } : Jvm.MethodName) ({ cls := "LeaderLeases$Storage", name := "copyFrom", desc := "(LLeaderLeases$Storage;)V" } : Jvm.MethodName)) ∈ lw_all := lw_g (lw_at lw_m9 57 rfl) rfl
theorem q2067 : (Jvm.Cond.code ({ cls := "LeaderLeases$Storage", name := "copyFrom", desc := "(LLeaderLeases$Storage;)V" } : Jvm.MethodName) prog_19_method_5_code (2 : Nat) (Option.none : Option Jvm.ClassFile.FieldType)) ∈ lw_all := lw_g (lw_at lw_m9 58 rfl) rfl
theorem q2068 : (Jvm.Cond.methodLink "LeaderLeases$Storage" (30 : Nat) ({ cls := "java/lang/System", name := "arraycopy", desc := "(Ljava/lang/Object;ILjava/lang/Object;II)V" } : Jvm.MethodName)) ∈ lw_all := lw_g (lw_at lw_m9 59 rfl) rfl
theorem q2806 : (Jvm.Cond.castable "LeaderLeases$Storage" "java/lang/Object") ∈ lw_tbl := lw_at lw_m12 77 rfl
theorem in_X5 : ∀ w ∈ wsX50, w ∈ lw_all := lw_in wsX50 [672, 674, 676] (by decide +kernel) (by decide +kernel)

/-! LeaderLeases$Node -/
set_option maxRecDepth 100000
def RX6 : String := "LeaderLeases$Node"
def TX6 : u_T := fun k => match k with
  | 0 => ("LeaderLeases$Node", "clock", "LLeaderLeases$Clock;", true)
  | 1 => ("LeaderLeases$Node", "delay", "I", true)
  | 2 => ("LeaderLeases$Node", "isUp", "Z", false)
  | 3 => ("LeaderLeases$Node", "isCandidate", "Z", false)
  | 4 => ("LeaderLeases$Node", "isCut", "Z", false)
  | 5 => ("LeaderLeases$Node", "pausedUntil", "I", false)
  | 6 => ("LeaderLeases$Node", "token", "I", false)
  | 7 => ("LeaderLeases$Node", "limit", "I", false)
  | 8 => ("LeaderLeases$Node", "timer", "I", false)
  | 9 => ("LeaderLeases$Node", "cachedSet", "I", false)
  | 10 => ("LeaderLeases$Node", "led", "I", false)
  | 11 => ("LeaderLeases$Node", "acquires", "I", false)
  | _ => ("LeaderLeases$Node", "cache", "[I", true)
def tyX6 : Nat → FieldType := fun k => match k with
  | 0 => .object "LeaderLeases$Clock"
  | 1 => .int
  | 2 => .boolean
  | 3 => .boolean
  | 4 => .boolean
  | 5 => .int
  | 6 => .int
  | 7 => .int
  | 8 => .int
  | 9 => .int
  | 10 => .int
  | 11 => .int
  | _ => .array .int
abbrev wsX60 : List Cond := u_ws RX6 TX6 13
set_option maxRecDepth 100000 in
theorem nmX6 : ∀ a, a < 13 → ∀ b, b < 13 → a ≠ b → (TX6 a).2.1 ≠ (TX6 b).2.1 := by decide +kernel
set_option maxRecDepth 100000 in
theorem tyX6_ok : ∀ k, k < 13 → parseFieldDescriptor (TX6 k).2.2.1 = some (tyX6 k) := by decide +kernel
abbrev cX6_init : ByteArray := prog_11_method_1_code
def yX6_init : MethodName := ⟨RX6, "<init>", "(LLeaderLeases$Clock;I)V"⟩
def dkwX6_init_1 : List UInt8 := [43, 181, 0, 23, 42, 28, 181, 0, 27, 177]
abbrev dktX6_init_1 : List UInt8 := dkwX6_init_1 ++ []
def dkwX6_init_0 : List UInt8 := [42, 183, 0, 3, 42, 4, 181, 0, 9, 42, 16, 252, 181, 0, 15, 42, 16, 8, 188, 10, 181, 0, 19, 42]
abbrev dktX6_init_0 : List UInt8 := dkwX6_init_0 ++ dktX6_init_1
theorem dksX6_init_0 : cX6_init.data.toList.drop 0 = dktX6_init_0 := by decide +kernel
theorem dksX6_init_1 : cX6_init.data.toList.drop 24 = dktX6_init_1 := dk_seg dksX6_init_0 24 rfl rfl
theorem dX6_init_0 : decode cX6_init 0 = .ok (.aload_n 0, 1) := dk_42 (dk_at dksX6_init_0 0 rfl rfl)
theorem dX6_init_1 : decode cX6_init 1 = .ok (.invokespecial 3, 3) := dk_183 0 3 (dk_at dksX6_init_0 1 rfl rfl)
theorem dX6_init_4 : decode cX6_init 4 = .ok (.aload_n 0, 1) := dk_42 (dk_at dksX6_init_0 4 rfl rfl)
theorem dX6_init_5 : decode cX6_init 5 = .ok (.iconst 1, 1) := dk_4 (dk_at dksX6_init_0 5 rfl rfl)
theorem dX6_init_6 : decode cX6_init 6 = .ok (.putfield 9, 3) := dk_181 0 9 (dk_at dksX6_init_0 6 rfl rfl)
theorem dX6_init_9 : decode cX6_init 9 = .ok (.aload_n 0, 1) := dk_42 (dk_at dksX6_init_0 9 rfl rfl)
theorem dX6_init_10 : decode cX6_init 10 = .ok (.bipush (-4), 2) := dk_16 252 (dk_at dksX6_init_0 10 rfl rfl)
theorem dX6_init_12 : decode cX6_init 12 = .ok (.putfield 15, 3) := dk_181 0 15 (dk_at dksX6_init_0 12 rfl rfl)
theorem dX6_init_15 : decode cX6_init 15 = .ok (.aload_n 0, 1) := dk_42 (dk_at dksX6_init_0 15 rfl rfl)
theorem dX6_init_16 : decode cX6_init 16 = .ok (.bipush 8, 2) := dk_16 8 (dk_at dksX6_init_0 16 rfl rfl)
theorem dX6_init_18 : decode cX6_init 18 = .ok (.newarray .int, 2) := dk_188_10 (dk_at dksX6_init_0 18 rfl rfl)
theorem dX6_init_20 : decode cX6_init 20 = .ok (.putfield 19, 3) := dk_181 0 19 (dk_at dksX6_init_0 20 rfl rfl)
theorem dX6_init_23 : decode cX6_init 23 = .ok (.aload_n 0, 1) := dk_42 (dk_at dksX6_init_0 23 rfl rfl)
theorem dX6_init_24 : decode cX6_init 24 = .ok (.aload_n 1, 1) := dk_43 (dk_at dksX6_init_1 0 rfl rfl)
theorem dX6_init_25 : decode cX6_init 25 = .ok (.putfield 23, 3) := dk_181 0 23 (dk_at dksX6_init_1 1 rfl rfl)
theorem dX6_init_28 : decode cX6_init 28 = .ok (.aload_n 0, 1) := dk_42 (dk_at dksX6_init_1 4 rfl rfl)
theorem dX6_init_29 : decode cX6_init 29 = .ok (.iload_n 2, 1) := dk_28 (dk_at dksX6_init_1 5 rfl rfl)
theorem dX6_init_30 : decode cX6_init 30 = .ok (.putfield 27, 3) := dk_181 0 27 (dk_at dksX6_init_1 6 rfl rfl)
theorem dX6_init_33 : decode cX6_init 33 = .ok (.return_, 1) := dk_177 (dk_at dksX6_init_1 9 rfl rfl)
abbrev cX6_isPaused : ByteArray := prog_11_method_3_code
def yX6_isPaused : MethodName := ⟨RX6, "isPaused", "(I)Z"⟩
def dkwX6_isPaused_0 : List UInt8 := [42, 180, 0, 9, 153, 0, 15, 42, 180, 0, 39, 27, 164, 0, 7, 4, 167, 0, 4, 3, 172]
abbrev dktX6_isPaused_0 : List UInt8 := dkwX6_isPaused_0 ++ []
theorem dksX6_isPaused_0 : cX6_isPaused.data.toList.drop 0 = dktX6_isPaused_0 := by decide +kernel
theorem dX6_isPaused_0 : decode cX6_isPaused 0 = .ok (.aload_n 0, 1) := dk_42 (dk_at dksX6_isPaused_0 0 rfl rfl)
theorem dX6_isPaused_1 : decode cX6_isPaused 1 = .ok (.getfield 9, 3) := dk_180 0 9 (dk_at dksX6_isPaused_0 1 rfl rfl)
theorem dX6_isPaused_4 : decode cX6_isPaused 4 = .ok (.ifCond .eq 15, 3) := dk_153 0 15 (dk_at dksX6_isPaused_0 4 rfl rfl)
theorem dX6_isPaused_7 : decode cX6_isPaused 7 = .ok (.aload_n 0, 1) := dk_42 (dk_at dksX6_isPaused_0 7 rfl rfl)
theorem dX6_isPaused_8 : decode cX6_isPaused 8 = .ok (.getfield 39, 3) := dk_180 0 39 (dk_at dksX6_isPaused_0 8 rfl rfl)
theorem dX6_isPaused_11 : decode cX6_isPaused 11 = .ok (.iload_n 1, 1) := dk_27 (dk_at dksX6_isPaused_0 11 rfl rfl)
theorem dX6_isPaused_12 : decode cX6_isPaused 12 = .ok (.if_icmp .le 7, 3) := dk_164 0 7 (dk_at dksX6_isPaused_0 12 rfl rfl)
theorem dX6_isPaused_15 : decode cX6_isPaused 15 = .ok (.iconst 1, 1) := dk_4 (dk_at dksX6_isPaused_0 15 rfl rfl)
theorem dX6_isPaused_16 : decode cX6_isPaused 16 = .ok (.goto 4, 3) := dk_167 0 4 (dk_at dksX6_isPaused_0 16 rfl rfl)
theorem dX6_isPaused_19 : decode cX6_isPaused 19 = .ok (.iconst 0, 1) := dk_3 (dk_at dksX6_isPaused_0 19 rfl rfl)
theorem dX6_isPaused_20 : decode cX6_isPaused 20 = .ok (.ireturn, 1) := dk_172 (dk_at dksX6_isPaused_0 20 rfl rfl)
abbrev cX6_leadsUntil : ByteArray := prog_11_method_4_code
def yX6_leadsUntil : MethodName := ⟨RX6, "leadsUntil", "()I"⟩
def dkwX6_leadsUntil_1 : List UInt8 := [182, 0, 63, 167, 0, 4, 3, 172]
abbrev dktX6_leadsUntil_1 : List UInt8 := dkwX6_leadsUntil_1 ++ []
def dkwX6_leadsUntil_0 : List UInt8 := [42, 180, 0, 9, 153, 0, 24, 42, 180, 0, 42, 158, 0, 17, 42, 180, 0, 23, 42, 180, 0, 45]
abbrev dktX6_leadsUntil_0 : List UInt8 := dkwX6_leadsUntil_0 ++ dktX6_leadsUntil_1
theorem dksX6_leadsUntil_0 : cX6_leadsUntil.data.toList.drop 0 = dktX6_leadsUntil_0 := by decide +kernel
theorem dksX6_leadsUntil_1 : cX6_leadsUntil.data.toList.drop 22 = dktX6_leadsUntil_1 := dk_seg dksX6_leadsUntil_0 22 rfl rfl
theorem dX6_leadsUntil_0 : decode cX6_leadsUntil 0 = .ok (.aload_n 0, 1) := dk_42 (dk_at dksX6_leadsUntil_0 0 rfl rfl)
theorem dX6_leadsUntil_1 : decode cX6_leadsUntil 1 = .ok (.getfield 9, 3) := dk_180 0 9 (dk_at dksX6_leadsUntil_0 1 rfl rfl)
theorem dX6_leadsUntil_4 : decode cX6_leadsUntil 4 = .ok (.ifCond .eq 24, 3) := dk_153 0 24 (dk_at dksX6_leadsUntil_0 4 rfl rfl)
theorem dX6_leadsUntil_7 : decode cX6_leadsUntil 7 = .ok (.aload_n 0, 1) := dk_42 (dk_at dksX6_leadsUntil_0 7 rfl rfl)
theorem dX6_leadsUntil_8 : decode cX6_leadsUntil 8 = .ok (.getfield 42, 3) := dk_180 0 42 (dk_at dksX6_leadsUntil_0 8 rfl rfl)
theorem dX6_leadsUntil_11 : decode cX6_leadsUntil 11 = .ok (.ifCond .le 17, 3) := dk_158 0 17 (dk_at dksX6_leadsUntil_0 11 rfl rfl)
theorem dX6_leadsUntil_14 : decode cX6_leadsUntil 14 = .ok (.aload_n 0, 1) := dk_42 (dk_at dksX6_leadsUntil_0 14 rfl rfl)
theorem dX6_leadsUntil_15 : decode cX6_leadsUntil 15 = .ok (.getfield 23, 3) := dk_180 0 23 (dk_at dksX6_leadsUntil_0 15 rfl rfl)
theorem dX6_leadsUntil_18 : decode cX6_leadsUntil 18 = .ok (.aload_n 0, 1) := dk_42 (dk_at dksX6_leadsUntil_0 18 rfl rfl)
theorem dX6_leadsUntil_19 : decode cX6_leadsUntil 19 = .ok (.getfield 45, 3) := dk_180 0 45 (dk_at dksX6_leadsUntil_0 19 rfl rfl)
theorem dX6_leadsUntil_22 : decode cX6_leadsUntil 22 = .ok (.invokevirtual 63, 3) := dk_182 0 63 (dk_at dksX6_leadsUntil_1 0 rfl rfl)
theorem dX6_leadsUntil_25 : decode cX6_leadsUntil 25 = .ok (.goto 4, 3) := dk_167 0 4 (dk_at dksX6_leadsUntil_1 3 rfl rfl)
theorem dX6_leadsUntil_28 : decode cX6_leadsUntil 28 = .ok (.iconst 0, 1) := dk_3 (dk_at dksX6_leadsUntil_1 6 rfl rfl)
theorem dX6_leadsUntil_29 : decode cX6_leadsUntil 29 = .ok (.ireturn, 1) := dk_172 (dk_at dksX6_leadsUntil_1 7 rfl rfl)
abbrev cX6_setTimer : ByteArray := prog_11_method_6_code
def yX6_setTimer : MethodName := ⟨RX6, "setTimer", "(II)V"⟩
def dkwX6_setTimer_0 : List UInt8 := [42, 27, 4, 96, 42, 180, 0, 23, 28, 182, 0, 63, 184, 0, 73, 181, 0, 15, 177]
abbrev dktX6_setTimer_0 : List UInt8 := dkwX6_setTimer_0 ++ []
theorem dksX6_setTimer_0 : cX6_setTimer.data.toList.drop 0 = dktX6_setTimer_0 := by decide +kernel
theorem dX6_setTimer_0 : decode cX6_setTimer 0 = .ok (.aload_n 0, 1) := dk_42 (dk_at dksX6_setTimer_0 0 rfl rfl)
theorem dX6_setTimer_1 : decode cX6_setTimer 1 = .ok (.iload_n 1, 1) := dk_27 (dk_at dksX6_setTimer_0 1 rfl rfl)
theorem dX6_setTimer_2 : decode cX6_setTimer 2 = .ok (.iconst 1, 1) := dk_4 (dk_at dksX6_setTimer_0 2 rfl rfl)
theorem dX6_setTimer_3 : decode cX6_setTimer 3 = .ok (.iadd, 1) := dk_96 (dk_at dksX6_setTimer_0 3 rfl rfl)
theorem dX6_setTimer_4 : decode cX6_setTimer 4 = .ok (.aload_n 0, 1) := dk_42 (dk_at dksX6_setTimer_0 4 rfl rfl)
theorem dX6_setTimer_5 : decode cX6_setTimer 5 = .ok (.getfield 23, 3) := dk_180 0 23 (dk_at dksX6_setTimer_0 5 rfl rfl)
theorem dX6_setTimer_8 : decode cX6_setTimer 8 = .ok (.iload_n 2, 1) := dk_28 (dk_at dksX6_setTimer_0 8 rfl rfl)
theorem dX6_setTimer_9 : decode cX6_setTimer 9 = .ok (.invokevirtual 63, 3) := dk_182 0 63 (dk_at dksX6_setTimer_0 9 rfl rfl)
theorem dX6_setTimer_12 : decode cX6_setTimer 12 = .ok (.invokestatic 73, 3) := dk_184 0 73 (dk_at dksX6_setTimer_0 12 rfl rfl)
theorem dX6_setTimer_15 : decode cX6_setTimer 15 = .ok (.putfield 15, 3) := dk_181 0 15 (dk_at dksX6_setTimer_0 15 rfl rfl)
theorem dX6_setTimer_18 : decode cX6_setTimer 18 = .ok (.return_, 1) := dk_177 (dk_at dksX6_setTimer_0 18 rfl rfl)
abbrev cX6_loseToken : ByteArray := prog_11_method_7_code
def yX6_loseToken : MethodName := ⟨RX6, "loseToken", "()V"⟩
def dkwX6_loseToken_0 : List UInt8 := [42, 3, 181, 0, 42, 42, 3, 181, 0, 48, 177]
abbrev dktX6_loseToken_0 : List UInt8 := dkwX6_loseToken_0 ++ []
theorem dksX6_loseToken_0 : cX6_loseToken.data.toList.drop 0 = dktX6_loseToken_0 := by decide +kernel
theorem dX6_loseToken_0 : decode cX6_loseToken 0 = .ok (.aload_n 0, 1) := dk_42 (dk_at dksX6_loseToken_0 0 rfl rfl)
theorem dX6_loseToken_1 : decode cX6_loseToken 1 = .ok (.iconst 0, 1) := dk_3 (dk_at dksX6_loseToken_0 1 rfl rfl)
theorem dX6_loseToken_2 : decode cX6_loseToken 2 = .ok (.putfield 42, 3) := dk_181 0 42 (dk_at dksX6_loseToken_0 2 rfl rfl)
theorem dX6_loseToken_5 : decode cX6_loseToken 5 = .ok (.aload_n 0, 1) := dk_42 (dk_at dksX6_loseToken_0 5 rfl rfl)
theorem dX6_loseToken_6 : decode cX6_loseToken 6 = .ok (.iconst 0, 1) := dk_3 (dk_at dksX6_loseToken_0 6 rfl rfl)
theorem dX6_loseToken_7 : decode cX6_loseToken 7 = .ok (.putfield 48, 3) := dk_181 0 48 (dk_at dksX6_loseToken_0 7 rfl rfl)
theorem dX6_loseToken_10 : decode cX6_loseToken 10 = .ok (.return_, 1) := dk_177 (dk_at dksX6_loseToken_0 10 rfl rfl)
abbrev cX6_cache : ByteArray := prog_11_method_8_code
def yX6_cache : MethodName := ⟨RX6, "cache", "(II)V"⟩
def dkwX6_cache_0 : List UInt8 := [42, 89, 180, 0, 48, 4, 27, 120, 128, 181, 0, 48, 42, 180, 0, 19, 27, 28, 79, 177]
abbrev dktX6_cache_0 : List UInt8 := dkwX6_cache_0 ++ []
theorem dksX6_cache_0 : cX6_cache.data.toList.drop 0 = dktX6_cache_0 := by decide +kernel
theorem dX6_cache_0 : decode cX6_cache 0 = .ok (.aload_n 0, 1) := dk_42 (dk_at dksX6_cache_0 0 rfl rfl)
theorem dX6_cache_1 : decode cX6_cache 1 = .ok (.dup, 1) := dk_89 (dk_at dksX6_cache_0 1 rfl rfl)
theorem dX6_cache_2 : decode cX6_cache 2 = .ok (.getfield 48, 3) := dk_180 0 48 (dk_at dksX6_cache_0 2 rfl rfl)
theorem dX6_cache_5 : decode cX6_cache 5 = .ok (.iconst 1, 1) := dk_4 (dk_at dksX6_cache_0 5 rfl rfl)
theorem dX6_cache_6 : decode cX6_cache 6 = .ok (.iload_n 1, 1) := dk_27 (dk_at dksX6_cache_0 6 rfl rfl)
theorem dX6_cache_7 : decode cX6_cache 7 = .ok (.ishl, 1) := dk_120 (dk_at dksX6_cache_0 7 rfl rfl)
theorem dX6_cache_8 : decode cX6_cache 8 = .ok (.ior, 1) := dk_128 (dk_at dksX6_cache_0 8 rfl rfl)
theorem dX6_cache_9 : decode cX6_cache 9 = .ok (.putfield 48, 3) := dk_181 0 48 (dk_at dksX6_cache_0 9 rfl rfl)
theorem dX6_cache_12 : decode cX6_cache 12 = .ok (.aload_n 0, 1) := dk_42 (dk_at dksX6_cache_0 12 rfl rfl)
theorem dX6_cache_13 : decode cX6_cache 13 = .ok (.getfield 19, 3) := dk_180 0 19 (dk_at dksX6_cache_0 13 rfl rfl)
theorem dX6_cache_16 : decode cX6_cache 16 = .ok (.iload_n 1, 1) := dk_27 (dk_at dksX6_cache_0 16 rfl rfl)
theorem dX6_cache_17 : decode cX6_cache 17 = .ok (.iload_n 2, 1) := dk_28 (dk_at dksX6_cache_0 17 rfl rfl)
theorem dX6_cache_18 : decode cX6_cache 18 = .ok (.iastore, 1) := dk_79 (dk_at dksX6_cache_0 18 rfl rfl)
theorem dX6_cache_19 : decode cX6_cache 19 = .ok (.return_, 1) := dk_177 (dk_at dksX6_cache_0 19 rfl rfl)
abbrev cX6_isDue : ByteArray := prog_11_method_9_code
def yX6_isDue : MethodName := ⟨RX6, "isDue", "(I)Z"⟩
def dkwX6_isDue_1 : List UInt8 := [180, 0, 15, 27, 163, 0, 7, 4, 167, 0, 4, 3, 172]
abbrev dktX6_isDue_1 : List UInt8 := dkwX6_isDue_1 ++ []
def dkwX6_isDue_0 : List UInt8 := [42, 180, 0, 9, 153, 0, 30, 42, 27, 182, 0, 79, 154, 0, 22, 42, 180, 0, 15, 155, 0, 15, 42]
abbrev dktX6_isDue_0 : List UInt8 := dkwX6_isDue_0 ++ dktX6_isDue_1
theorem dksX6_isDue_0 : cX6_isDue.data.toList.drop 0 = dktX6_isDue_0 := by decide +kernel
theorem dksX6_isDue_1 : cX6_isDue.data.toList.drop 23 = dktX6_isDue_1 := dk_seg dksX6_isDue_0 23 rfl rfl
theorem dX6_isDue_0 : decode cX6_isDue 0 = .ok (.aload_n 0, 1) := dk_42 (dk_at dksX6_isDue_0 0 rfl rfl)
theorem dX6_isDue_1 : decode cX6_isDue 1 = .ok (.getfield 9, 3) := dk_180 0 9 (dk_at dksX6_isDue_0 1 rfl rfl)
theorem dX6_isDue_4 : decode cX6_isDue 4 = .ok (.ifCond .eq 30, 3) := dk_153 0 30 (dk_at dksX6_isDue_0 4 rfl rfl)
theorem dX6_isDue_7 : decode cX6_isDue 7 = .ok (.aload_n 0, 1) := dk_42 (dk_at dksX6_isDue_0 7 rfl rfl)
theorem dX6_isDue_8 : decode cX6_isDue 8 = .ok (.iload_n 1, 1) := dk_27 (dk_at dksX6_isDue_0 8 rfl rfl)
theorem dX6_isDue_9 : decode cX6_isDue 9 = .ok (.invokevirtual 79, 3) := dk_182 0 79 (dk_at dksX6_isDue_0 9 rfl rfl)
theorem dX6_isDue_12 : decode cX6_isDue 12 = .ok (.ifCond .ne 22, 3) := dk_154 0 22 (dk_at dksX6_isDue_0 12 rfl rfl)
theorem dX6_isDue_15 : decode cX6_isDue 15 = .ok (.aload_n 0, 1) := dk_42 (dk_at dksX6_isDue_0 15 rfl rfl)
theorem dX6_isDue_16 : decode cX6_isDue 16 = .ok (.getfield 15, 3) := dk_180 0 15 (dk_at dksX6_isDue_0 16 rfl rfl)
theorem dX6_isDue_19 : decode cX6_isDue 19 = .ok (.ifCond .lt 15, 3) := dk_155 0 15 (dk_at dksX6_isDue_0 19 rfl rfl)
theorem dX6_isDue_22 : decode cX6_isDue 22 = .ok (.aload_n 0, 1) := dk_42 (dk_at dksX6_isDue_0 22 rfl rfl)
theorem dX6_isDue_23 : decode cX6_isDue 23 = .ok (.getfield 15, 3) := dk_180 0 15 (dk_at dksX6_isDue_1 0 rfl rfl)
theorem dX6_isDue_26 : decode cX6_isDue 26 = .ok (.iload_n 1, 1) := dk_27 (dk_at dksX6_isDue_1 3 rfl rfl)
theorem dX6_isDue_27 : decode cX6_isDue 27 = .ok (.if_icmp .gt 7, 3) := dk_163 0 7 (dk_at dksX6_isDue_1 4 rfl rfl)
theorem dX6_isDue_30 : decode cX6_isDue 30 = .ok (.iconst 1, 1) := dk_4 (dk_at dksX6_isDue_1 7 rfl rfl)
theorem dX6_isDue_31 : decode cX6_isDue 31 = .ok (.goto 4, 3) := dk_167 0 4 (dk_at dksX6_isDue_1 8 rfl rfl)
theorem dX6_isDue_34 : decode cX6_isDue 34 = .ok (.iconst 0, 1) := dk_3 (dk_at dksX6_isDue_1 11 rfl rfl)
theorem dX6_isDue_35 : decode cX6_isDue 35 = .ok (.ireturn, 1) := dk_172 (dk_at dksX6_isDue_1 12 rfl rfl)
abbrev cX6_leads : ByteArray := prog_11_method_5_code
def yX6_leads : MethodName := ⟨RX6, "leads", "(I)Z"⟩
def dkwX6_leads_0 : List UInt8 := [42, 182, 0, 69, 27, 164, 0, 7, 4, 167, 0, 4, 3, 172]
abbrev dktX6_leads_0 : List UInt8 := dkwX6_leads_0 ++ []
theorem dksX6_leads_0 : cX6_leads.data.toList.drop 0 = dktX6_leads_0 := by decide +kernel
theorem dX6_leads_0 : decode cX6_leads 0 = .ok (.aload_n 0, 1) := dk_42 (dk_at dksX6_leads_0 0 rfl rfl)
theorem dX6_leads_1 : decode cX6_leads 1 = .ok (.invokevirtual 69, 3) := dk_182 0 69 (dk_at dksX6_leads_0 1 rfl rfl)
theorem dX6_leads_4 : decode cX6_leads 4 = .ok (.iload_n 1, 1) := dk_27 (dk_at dksX6_leads_0 4 rfl rfl)
theorem dX6_leads_5 : decode cX6_leads 5 = .ok (.if_icmp .le 7, 3) := dk_164 0 7 (dk_at dksX6_leads_0 5 rfl rfl)
theorem dX6_leads_8 : decode cX6_leads 8 = .ok (.iconst 1, 1) := dk_4 (dk_at dksX6_leads_0 8 rfl rfl)
theorem dX6_leads_9 : decode cX6_leads 9 = .ok (.goto 4, 3) := dk_167 0 4 (dk_at dksX6_leads_0 9 rfl rfl)
theorem dX6_leads_12 : decode cX6_leads 12 = .ok (.iconst 0, 1) := dk_3 (dk_at dksX6_leads_0 12 rfl rfl)
theorem dX6_leads_13 : decode cX6_leads 13 = .ok (.ireturn, 1) := dk_172 (dk_at dksX6_leads_0 13 rfl rfl)
abbrev cX6_copy : ByteArray := prog_11_method_2_code
def yX6_copy : MethodName := ⟨RX6, "copy", "()LLeaderLeases$Node;"⟩
def dkwX6_copy_4 : List UInt8 := [42, 180, 0, 19, 3, 43, 180, 0, 19, 3, 16, 8, 184, 0, 57, 43, 176]
abbrev dktX6_copy_4 : List UInt8 := dkwX6_copy_4 ++ []
def dkwX6_copy_3 : List UInt8 := [43, 42, 180, 0, 48, 181, 0, 48, 43, 42, 180, 0, 51, 181, 0, 51, 43, 42, 180, 0, 54, 181, 0, 54]
abbrev dktX6_copy_3 : List UInt8 := dkwX6_copy_3 ++ dktX6_copy_4
def dkwX6_copy_2 : List UInt8 := [43, 42, 180, 0, 42, 181, 0, 42, 43, 42, 180, 0, 45, 181, 0, 45, 43, 42, 180, 0, 15, 181, 0, 15]
abbrev dktX6_copy_2 : List UInt8 := dkwX6_copy_2 ++ dktX6_copy_3
def dkwX6_copy_1 : List UInt8 := [43, 42, 180, 0, 33, 181, 0, 33, 43, 42, 180, 0, 36, 181, 0, 36, 43, 42, 180, 0, 39, 181, 0, 39]
abbrev dktX6_copy_1 : List UInt8 := dkwX6_copy_1 ++ dktX6_copy_2
def dkwX6_copy_0 : List UInt8 := [187, 0, 10, 89, 42, 180, 0, 23, 42, 180, 0, 27, 183, 0, 30, 76, 43, 42, 180, 0, 9, 181, 0, 9]
abbrev dktX6_copy_0 : List UInt8 := dkwX6_copy_0 ++ dktX6_copy_1
theorem dksX6_copy_0 : cX6_copy.data.toList.drop 0 = dktX6_copy_0 := by decide +kernel
theorem dksX6_copy_1 : cX6_copy.data.toList.drop 24 = dktX6_copy_1 := dk_seg dksX6_copy_0 24 rfl rfl
theorem dksX6_copy_2 : cX6_copy.data.toList.drop 48 = dktX6_copy_2 := dk_seg dksX6_copy_1 24 rfl rfl
theorem dksX6_copy_3 : cX6_copy.data.toList.drop 72 = dktX6_copy_3 := dk_seg dksX6_copy_2 24 rfl rfl
theorem dksX6_copy_4 : cX6_copy.data.toList.drop 96 = dktX6_copy_4 := dk_seg dksX6_copy_3 24 rfl rfl
theorem dX6_copy_0 : decode cX6_copy 0 = .ok (.new 10, 3) := dk_187 0 10 (dk_at dksX6_copy_0 0 rfl rfl)
theorem dX6_copy_3 : decode cX6_copy 3 = .ok (.dup, 1) := dk_89 (dk_at dksX6_copy_0 3 rfl rfl)
theorem dX6_copy_4 : decode cX6_copy 4 = .ok (.aload_n 0, 1) := dk_42 (dk_at dksX6_copy_0 4 rfl rfl)
theorem dX6_copy_5 : decode cX6_copy 5 = .ok (.getfield 23, 3) := dk_180 0 23 (dk_at dksX6_copy_0 5 rfl rfl)
theorem dX6_copy_8 : decode cX6_copy 8 = .ok (.aload_n 0, 1) := dk_42 (dk_at dksX6_copy_0 8 rfl rfl)
theorem dX6_copy_9 : decode cX6_copy 9 = .ok (.getfield 27, 3) := dk_180 0 27 (dk_at dksX6_copy_0 9 rfl rfl)
theorem dX6_copy_12 : decode cX6_copy 12 = .ok (.invokespecial 30, 3) := dk_183 0 30 (dk_at dksX6_copy_0 12 rfl rfl)
theorem dX6_copy_15 : decode cX6_copy 15 = .ok (.astore_n 1, 1) := dk_76 (dk_at dksX6_copy_0 15 rfl rfl)
theorem dX6_copy_16 : decode cX6_copy 16 = .ok (.aload_n 1, 1) := dk_43 (dk_at dksX6_copy_0 16 rfl rfl)
theorem dX6_copy_17 : decode cX6_copy 17 = .ok (.aload_n 0, 1) := dk_42 (dk_at dksX6_copy_0 17 rfl rfl)
theorem dX6_copy_18 : decode cX6_copy 18 = .ok (.getfield 9, 3) := dk_180 0 9 (dk_at dksX6_copy_0 18 rfl rfl)
theorem dX6_copy_21 : decode cX6_copy 21 = .ok (.putfield 9, 3) := dk_181 0 9 (dk_at dksX6_copy_0 21 rfl rfl)
theorem dX6_copy_24 : decode cX6_copy 24 = .ok (.aload_n 1, 1) := dk_43 (dk_at dksX6_copy_1 0 rfl rfl)
theorem dX6_copy_25 : decode cX6_copy 25 = .ok (.aload_n 0, 1) := dk_42 (dk_at dksX6_copy_1 1 rfl rfl)
theorem dX6_copy_26 : decode cX6_copy 26 = .ok (.getfield 33, 3) := dk_180 0 33 (dk_at dksX6_copy_1 2 rfl rfl)
theorem dX6_copy_29 : decode cX6_copy 29 = .ok (.putfield 33, 3) := dk_181 0 33 (dk_at dksX6_copy_1 5 rfl rfl)
theorem dX6_copy_32 : decode cX6_copy 32 = .ok (.aload_n 1, 1) := dk_43 (dk_at dksX6_copy_1 8 rfl rfl)
theorem dX6_copy_33 : decode cX6_copy 33 = .ok (.aload_n 0, 1) := dk_42 (dk_at dksX6_copy_1 9 rfl rfl)
theorem dX6_copy_34 : decode cX6_copy 34 = .ok (.getfield 36, 3) := dk_180 0 36 (dk_at dksX6_copy_1 10 rfl rfl)
theorem dX6_copy_37 : decode cX6_copy 37 = .ok (.putfield 36, 3) := dk_181 0 36 (dk_at dksX6_copy_1 13 rfl rfl)
theorem dX6_copy_40 : decode cX6_copy 40 = .ok (.aload_n 1, 1) := dk_43 (dk_at dksX6_copy_1 16 rfl rfl)
theorem dX6_copy_41 : decode cX6_copy 41 = .ok (.aload_n 0, 1) := dk_42 (dk_at dksX6_copy_1 17 rfl rfl)
theorem dX6_copy_42 : decode cX6_copy 42 = .ok (.getfield 39, 3) := dk_180 0 39 (dk_at dksX6_copy_1 18 rfl rfl)
theorem dX6_copy_45 : decode cX6_copy 45 = .ok (.putfield 39, 3) := dk_181 0 39 (dk_at dksX6_copy_1 21 rfl rfl)
theorem dX6_copy_48 : decode cX6_copy 48 = .ok (.aload_n 1, 1) := dk_43 (dk_at dksX6_copy_2 0 rfl rfl)
theorem dX6_copy_49 : decode cX6_copy 49 = .ok (.aload_n 0, 1) := dk_42 (dk_at dksX6_copy_2 1 rfl rfl)
theorem dX6_copy_50 : decode cX6_copy 50 = .ok (.getfield 42, 3) := dk_180 0 42 (dk_at dksX6_copy_2 2 rfl rfl)
theorem dX6_copy_53 : decode cX6_copy 53 = .ok (.putfield 42, 3) := dk_181 0 42 (dk_at dksX6_copy_2 5 rfl rfl)
theorem dX6_copy_56 : decode cX6_copy 56 = .ok (.aload_n 1, 1) := dk_43 (dk_at dksX6_copy_2 8 rfl rfl)
theorem dX6_copy_57 : decode cX6_copy 57 = .ok (.aload_n 0, 1) := dk_42 (dk_at dksX6_copy_2 9 rfl rfl)
theorem dX6_copy_58 : decode cX6_copy 58 = .ok (.getfield 45, 3) := dk_180 0 45 (dk_at dksX6_copy_2 10 rfl rfl)
theorem dX6_copy_61 : decode cX6_copy 61 = .ok (.putfield 45, 3) := dk_181 0 45 (dk_at dksX6_copy_2 13 rfl rfl)
theorem dX6_copy_64 : decode cX6_copy 64 = .ok (.aload_n 1, 1) := dk_43 (dk_at dksX6_copy_2 16 rfl rfl)
theorem dX6_copy_65 : decode cX6_copy 65 = .ok (.aload_n 0, 1) := dk_42 (dk_at dksX6_copy_2 17 rfl rfl)
theorem dX6_copy_66 : decode cX6_copy 66 = .ok (.getfield 15, 3) := dk_180 0 15 (dk_at dksX6_copy_2 18 rfl rfl)
theorem dX6_copy_69 : decode cX6_copy 69 = .ok (.putfield 15, 3) := dk_181 0 15 (dk_at dksX6_copy_2 21 rfl rfl)
theorem dX6_copy_72 : decode cX6_copy 72 = .ok (.aload_n 1, 1) := dk_43 (dk_at dksX6_copy_3 0 rfl rfl)
theorem dX6_copy_73 : decode cX6_copy 73 = .ok (.aload_n 0, 1) := dk_42 (dk_at dksX6_copy_3 1 rfl rfl)
theorem dX6_copy_74 : decode cX6_copy 74 = .ok (.getfield 48, 3) := dk_180 0 48 (dk_at dksX6_copy_3 2 rfl rfl)
theorem dX6_copy_77 : decode cX6_copy 77 = .ok (.putfield 48, 3) := dk_181 0 48 (dk_at dksX6_copy_3 5 rfl rfl)
theorem dX6_copy_80 : decode cX6_copy 80 = .ok (.aload_n 1, 1) := dk_43 (dk_at dksX6_copy_3 8 rfl rfl)
theorem dX6_copy_81 : decode cX6_copy 81 = .ok (.aload_n 0, 1) := dk_42 (dk_at dksX6_copy_3 9 rfl rfl)
theorem dX6_copy_82 : decode cX6_copy 82 = .ok (.getfield 51, 3) := dk_180 0 51 (dk_at dksX6_copy_3 10 rfl rfl)
theorem dX6_copy_85 : decode cX6_copy 85 = .ok (.putfield 51, 3) := dk_181 0 51 (dk_at dksX6_copy_3 13 rfl rfl)
theorem dX6_copy_88 : decode cX6_copy 88 = .ok (.aload_n 1, 1) := dk_43 (dk_at dksX6_copy_3 16 rfl rfl)
theorem dX6_copy_89 : decode cX6_copy 89 = .ok (.aload_n 0, 1) := dk_42 (dk_at dksX6_copy_3 17 rfl rfl)
theorem dX6_copy_90 : decode cX6_copy 90 = .ok (.getfield 54, 3) := dk_180 0 54 (dk_at dksX6_copy_3 18 rfl rfl)
theorem dX6_copy_93 : decode cX6_copy 93 = .ok (.putfield 54, 3) := dk_181 0 54 (dk_at dksX6_copy_3 21 rfl rfl)
theorem dX6_copy_96 : decode cX6_copy 96 = .ok (.aload_n 0, 1) := dk_42 (dk_at dksX6_copy_4 0 rfl rfl)
theorem dX6_copy_97 : decode cX6_copy 97 = .ok (.getfield 19, 3) := dk_180 0 19 (dk_at dksX6_copy_4 1 rfl rfl)
theorem dX6_copy_100 : decode cX6_copy 100 = .ok (.iconst 0, 1) := dk_3 (dk_at dksX6_copy_4 4 rfl rfl)
theorem dX6_copy_101 : decode cX6_copy 101 = .ok (.aload_n 1, 1) := dk_43 (dk_at dksX6_copy_4 5 rfl rfl)
theorem dX6_copy_102 : decode cX6_copy 102 = .ok (.getfield 19, 3) := dk_180 0 19 (dk_at dksX6_copy_4 6 rfl rfl)
theorem dX6_copy_105 : decode cX6_copy 105 = .ok (.iconst 0, 1) := dk_3 (dk_at dksX6_copy_4 9 rfl rfl)
theorem dX6_copy_106 : decode cX6_copy 106 = .ok (.bipush 8, 2) := dk_16 8 (dk_at dksX6_copy_4 10 rfl rfl)
theorem dX6_copy_108 : decode cX6_copy 108 = .ok (.invokestatic 57, 3) := dk_184 0 57 (dk_at dksX6_copy_4 12 rfl rfl)
theorem dX6_copy_111 : decode cX6_copy 111 = .ok (.aload_n 1, 1) := dk_43 (dk_at dksX6_copy_4 15 rfl rfl)
theorem dX6_copy_112 : decode cX6_copy 112 = .ok (.areturn, 1) := dk_176 (dk_at dksX6_copy_4 16 rfl rfl)
theorem q115 : (Jvm.Cond.initialized "LeaderLeases$Node") ∈ lw_all := lw_g (lw_at lw_m1 26 rfl) rfl
theorem q607 : (Jvm.Cond.selects "LeaderLeases$Node" ({ cls := "java/lang/Object", name := "getClass", desc := "()Ljava/lang/Class;" } : Jvm.MethodName) ({ cls := "java/lang/Object", name := "getClass", desc := "()Ljava/lang/Class;" } : Jvm.MethodName)) ∈ lw_all := lw_g (lw_at lw_m3 38 rfl) rfl
theorem q691 : (Jvm.Cond.instantiable "LeaderLeases$Node" (13 : Nat)) ∈ lw_all := lw_g (lw_at lw_m3 122 rfl) rfl
theorem q718 : (Jvm.Cond.instanceMethod ({ cls := "LeaderLeases$Node", name := "<init>", desc := "(LLeaderLeases$Clock;I)V" } : Jvm.MethodName)) ∈ lw_all := lw_g (lw_at lw_m3 149 rfl) rfl
theorem q719 : (Jvm.Cond.code ({ cls := "LeaderLeases$Node", name := "<init>", desc := "(LLeaderLeases$Clock;I)V" } : Jvm.MethodName) prog_11_method_1_code (3 : Nat) (Option.none : Option Jvm.ClassFile.FieldType)) ∈ lw_all := lw_g (lw_at lw_m3 150 rfl) rfl
theorem q720 : (Jvm.Cond.methodLink "LeaderLeases$Node" (3 : Nat) ({ cls := "java/lang/Object", name := "<init>", desc := "()V" } : Jvm.MethodName)) ∈ lw_all := lw_g (lw_at lw_m3 151 rfl) rfl
theorem q721 : (Jvm.Cond.fieldLink "LeaderLeases$Node" (23 : Nat) "LeaderLeases$Node" "clock" "LLeaderLeases$Clock;") ∈ lw_all := lw_g (lw_at lw_m3 152 rfl) rfl
theorem q724 : (Jvm.Cond.fieldLink "LeaderLeases$Node" (27 : Nat) "LeaderLeases$Node" "delay" "I") ∈ lw_all := lw_g (lw_at lw_m3 155 rfl) rfl
theorem q726 : (Jvm.Cond.fieldLink "LeaderLeases$Node" (9 : Nat) "LeaderLeases$Node" "isUp" "Z") ∈ lw_all := lw_g (lw_at lw_m3 157 rfl) rfl
theorem q729 : (Jvm.Cond.fieldLink "LeaderLeases$Node" (33 : Nat) "LeaderLeases$Node" "isCandidate" "Z") ∈ lw_all := lw_g (lw_at lw_m3 160 rfl) rfl
theorem q732 : (Jvm.Cond.fieldLink "LeaderLeases$Node" (36 : Nat) "LeaderLeases$Node" "isCut" "Z") ∈ lw_all := lw_g (lw_at lw_m3 163 rfl) rfl
theorem q735 : (Jvm.Cond.fieldLink "LeaderLeases$Node" (39 : Nat) "LeaderLeases$Node" "pausedUntil" "I") ∈ lw_all := lw_g (lw_at lw_m3 166 rfl) rfl
theorem q738 : (Jvm.Cond.fieldLink "LeaderLeases$Node" (42 : Nat) "LeaderLeases$Node" "token" "I") ∈ lw_all := lw_g (lw_at lw_m3 169 rfl) rfl
theorem q741 : (Jvm.Cond.fieldLink "LeaderLeases$Node" (45 : Nat) "LeaderLeases$Node" "limit" "I") ∈ lw_all := lw_g (lw_at lw_m3 172 rfl) rfl
theorem q744 : (Jvm.Cond.fieldLink "LeaderLeases$Node" (15 : Nat) "LeaderLeases$Node" "timer" "I") ∈ lw_all := lw_g (lw_at lw_m3 175 rfl) rfl
theorem q747 : (Jvm.Cond.fieldLink "LeaderLeases$Node" (48 : Nat) "LeaderLeases$Node" "cachedSet" "I") ∈ lw_all := lw_g (lw_at lw_m3 178 rfl) rfl
theorem q750 : (Jvm.Cond.fieldLink "LeaderLeases$Node" (51 : Nat) "LeaderLeases$Node" "led" "I") ∈ lw_all := lw_g (lw_at lw_m3 181 rfl) rfl
theorem q753 : (Jvm.Cond.fieldLink "LeaderLeases$Node" (54 : Nat) "LeaderLeases$Node" "acquires" "I") ∈ lw_all := lw_g (lw_at lw_m3 184 rfl) rfl
theorem q756 : (Jvm.Cond.fieldLink "LeaderLeases$Node" (19 : Nat) "LeaderLeases$Node" "cache" "[I") ∈ lw_all := lw_g (lw_at lw_m3 187 rfl) rfl
theorem q759 : (Jvm.Cond.laysFinal "LeaderLeases$Node" "LeaderLeases$Node" "clock" "LLeaderLeases$Clock;") ∈ lw_all := lw_g (lw_at lw_m3 190 rfl) rfl
theorem q760 : (Jvm.Cond.soleField "LeaderLeases$Node" "clock") ∈ lw_all := lw_g (lw_at lw_m3 191 rfl) rfl
theorem q761 : (Jvm.Cond.laysFinal "LeaderLeases$Node" "LeaderLeases$Node" "delay" "I") ∈ lw_all := lw_g (lw_at lw_m3 192 rfl) rfl
theorem q762 : (Jvm.Cond.soleField "LeaderLeases$Node" "delay") ∈ lw_all := lw_g (lw_at lw_m3 193 rfl) rfl
theorem q763 : (Jvm.Cond.lays "LeaderLeases$Node" "LeaderLeases$Node" "isUp" "Z") ∈ lw_all := lw_g (lw_at lw_m3 194 rfl) rfl
theorem q764 : (Jvm.Cond.soleField "LeaderLeases$Node" "isUp") ∈ lw_all := lw_g (lw_at lw_m3 195 rfl) rfl
theorem q765 : (Jvm.Cond.lays "LeaderLeases$Node" "LeaderLeases$Node" "isCandidate" "Z") ∈ lw_all := lw_g (lw_at lw_m3 196 rfl) rfl
theorem q766 : (Jvm.Cond.soleField "LeaderLeases$Node" "isCandidate") ∈ lw_all := lw_g (lw_at lw_m3 197 rfl) rfl
theorem q767 : (Jvm.Cond.lays "LeaderLeases$Node" "LeaderLeases$Node" "isCut" "Z") ∈ lw_all := lw_g (lw_at lw_m3 198 rfl) rfl
theorem q768 : (Jvm.Cond.soleField "LeaderLeases$Node" "isCut") ∈ lw_all := lw_g (lw_at lw_m3 199 rfl) rfl
theorem q769 : (Jvm.Cond.lays "LeaderLeases$Node" "LeaderLeases$Node" "pausedUntil" "I") ∈ lw_all := lw_g (lw_at lw_m3 200 rfl) rfl
theorem q770 : (Jvm.Cond.soleField "LeaderLeases$Node" "pausedUntil") ∈ lw_all := lw_g (lw_at lw_m3 201 rfl) rfl
theorem q771 : (Jvm.Cond.lays "LeaderLeases$Node" "LeaderLeases$Node" "token" "I") ∈ lw_all := lw_g (lw_at lw_m3 202 rfl) rfl
theorem q772 : (Jvm.Cond.soleField "LeaderLeases$Node" "token") ∈ lw_all := lw_g (lw_at lw_m3 203 rfl) rfl
theorem q773 : (Jvm.Cond.lays "LeaderLeases$Node" "LeaderLeases$Node" "limit" "I") ∈ lw_all := lw_g (lw_at lw_m3 204 rfl) rfl
theorem q774 : (Jvm.Cond.soleField "LeaderLeases$Node" "limit") ∈ lw_all := lw_g (lw_at lw_m3 205 rfl) rfl
theorem q775 : (Jvm.Cond.lays "LeaderLeases$Node" "LeaderLeases$Node" "timer" "I") ∈ lw_all := lw_g (lw_at lw_m3 206 rfl) rfl
theorem q776 : (Jvm.Cond.soleField "LeaderLeases$Node" "timer") ∈ lw_all := lw_g (lw_at lw_m3 207 rfl) rfl
theorem q777 : (Jvm.Cond.lays "LeaderLeases$Node" "LeaderLeases$Node" "cachedSet" "I") ∈ lw_all := lw_g (lw_at lw_m3 208 rfl) rfl
theorem q778 : (Jvm.Cond.soleField "LeaderLeases$Node" "cachedSet") ∈ lw_all := lw_g (lw_at lw_m3 209 rfl) rfl
theorem q779 : (Jvm.Cond.lays "LeaderLeases$Node" "LeaderLeases$Node" "led" "I") ∈ lw_all := lw_g (lw_at lw_m3 210 rfl) rfl
theorem q780 : (Jvm.Cond.soleField "LeaderLeases$Node" "led") ∈ lw_all := lw_g (lw_at lw_m3 211 rfl) rfl
theorem q781 : (Jvm.Cond.lays "LeaderLeases$Node" "LeaderLeases$Node" "acquires" "I") ∈ lw_all := lw_g (lw_at lw_m3 212 rfl) rfl
theorem q782 : (Jvm.Cond.soleField "LeaderLeases$Node" "acquires") ∈ lw_all := lw_g (lw_at lw_m3 213 rfl) rfl
theorem q783 : (Jvm.Cond.laysFinal "LeaderLeases$Node" "LeaderLeases$Node" "cache" "[I") ∈ lw_all := lw_g (lw_at lw_m3 214 rfl) rfl
theorem q784 : (Jvm.Cond.soleField "LeaderLeases$Node" "cache") ∈ lw_all := lw_g (lw_at lw_m3 215 rfl) rfl
theorem q785 : (Jvm.Cond.superclass "LeaderLeases$Node" "java/lang/Object") ∈ lw_all := lw_g (lw_at lw_m3 216 rfl) rfl
theorem q1018 : (Jvm.Cond.selects "LeaderLeases$Node" ({ cls := "java/lang/Object", name := "equals", desc := "(Ljava/lang/Object;)Z" } : Jvm.MethodName) ({ cls := "java/lang/Object", name := "equals", desc := "(Ljava/lang/Object;)Z" } : Jvm.MethodName)) ∈ lw_all := lw_g (lw_at lw_m4 209 rfl) rfl
theorem q1281 : (Jvm.Cond.instanceMethod ({ cls := "LeaderLeases$Node", name := "isPaused", desc := "(I)Z" } : Jvm.MethodName)) ∈ lw_all := lw_g (lw_at lw_m5 232 rfl) rfl
theorem q1282 : (Jvm.Cond.selects "LeaderLeases$Node" ({ cls := "LeaderLeases$Node", name := "isPaused", desc := "(I)Z" } : Jvm.MethodName) ({ cls := "LeaderLeases$Node", name := "isPaused", desc := "(I)Z" } : Jvm.MethodName)) ∈ lw_all := lw_g (lw_at lw_m5 233 rfl) rfl
theorem q1283 : (Jvm.Cond.code ({ cls := "LeaderLeases$Node", name := "isPaused", desc := "(I)Z" } : Jvm.MethodName) prog_11_method_3_code (2 : Nat) (Option.some Jvm.ClassFile.FieldType.boolean)) ∈ lw_all := lw_g (lw_at lw_m5 234 rfl) rfl
theorem q1300 : (Jvm.Cond.instanceMethod ({ cls := "LeaderLeases$Node", name := "leadsUntil", desc := "()I" } : Jvm.MethodName)) ∈ lw_all := lw_g (lw_at lw_m6 11 rfl) rfl
theorem q1301 : (Jvm.Cond.selects "LeaderLeases$Node" ({ cls := "LeaderLeases$Node", name := "leadsUntil", desc := "()I" } : Jvm.MethodName) ({ cls := "LeaderLeases$Node", name := "leadsUntil", desc := "()I" } : Jvm.MethodName)) ∈ lw_all := lw_g (lw_at lw_m6 12 rfl) rfl
theorem q1302 : (Jvm.Cond.code ({ cls := "LeaderLeases$Node", name := "leadsUntil", desc := "()I" } : Jvm.MethodName) prog_11_method_4_code (1 : Nat) (Option.some Jvm.ClassFile.FieldType.int)) ∈ lw_all := lw_g (lw_at lw_m6 13 rfl) rfl
theorem q1303 : (Jvm.Cond.methodLink "LeaderLeases$Node" (63 : Nat) ({ cls := "LeaderLeases$Clock", name := "reaches", desc := "(I)I" } : Jvm.MethodName)) ∈ lw_all := lw_g (lw_at lw_m6 14 rfl) rfl
theorem q1548 : (Jvm.Cond.instanceMethod ({ cls := "LeaderLeases$Node", name := "setTimer", desc := "(II)V" } : Jvm.MethodName)) ∈ lw_all := lw_g (lw_at lw_m7 19 rfl) rfl
theorem q1549 : (Jvm.Cond.selects "LeaderLeases$Node" ({ cls := "LeaderLeases$Node", name := "setTimer", desc := "(II)V" } : Jvm.MethodName) ({ cls := "LeaderLeases$Node", name := "setTimer", desc := "(II)V" } : Jvm.MethodName)) ∈ lw_all := lw_g (lw_at lw_m7 20 rfl) rfl
theorem q1550 : (Jvm.Cond.code ({ cls := "LeaderLeases$Node", name := "setTimer", desc := "(II)V" } : Jvm.MethodName) prog_11_method_6_code (3 : Nat) (Option.none : Option Jvm.ClassFile.FieldType)) ∈ lw_all := lw_g (lw_at lw_m7 21 rfl) rfl
theorem q1551 : (Jvm.Cond.methodLink "LeaderLeases$Node" (73 : Nat) ({ cls := "java/lang/Math", name := "max", desc := "(II)I" } : Jvm.MethodName)) ∈ lw_all := lw_g (lw_at lw_m7 22 rfl) rfl
theorem q1553 : (Jvm.Cond.instanceMethod ({ cls := "LeaderLeases$Node", name := "loseToken", desc := "()V" } : Jvm.MethodName)) ∈ lw_all := lw_g (lw_at lw_m7 24 rfl) rfl
theorem q1554 : (Jvm.Cond.selects "LeaderLeases$Node" ({ cls := "LeaderLeases$Node", name := "loseToken", desc := "()V" } : Jvm.MethodName) ({ cls := "LeaderLeases$Node", name := "loseToken", desc := "()V" } : Jvm.MethodName)) ∈ lw_all := lw_g (lw_at lw_m7 25 rfl) rfl
theorem q1555 : (Jvm.Cond.code ({ cls := "LeaderLeases$Node", name := "loseToken", desc := "()V" } : Jvm.MethodName) prog_11_method_7_code (1 : Nat) (Option.none : Option Jvm.ClassFile.FieldType)) ∈ lw_all := lw_g (lw_at lw_m7 26 rfl) rfl
theorem q1557 : (Jvm.Cond.instanceMethod ({ cls := "LeaderLeases$Node", name := "cache", desc := "(II)V" } : Jvm.MethodName)) ∈ lw_all := lw_g (lw_at lw_m7 28 rfl) rfl
theorem q1558 : (Jvm.Cond.selects "LeaderLeases$Node" ({ cls := "LeaderLeases$Node", name := "cache", desc := "(II)V" } : Jvm.MethodName) ({ cls := "LeaderLeases$Node", name := "cache", desc := "(II)V" } : Jvm.MethodName)) ∈ lw_all := lw_g (lw_at lw_m7 29 rfl) rfl
theorem q1559 : (Jvm.Cond.code ({ cls := "LeaderLeases$Node", name := "cache", desc := "(II)V" } : Jvm.MethodName) prog_11_method_8_code (3 : Nat) (Option.none : Option Jvm.ClassFile.FieldType)) ∈ lw_all := lw_g (lw_at lw_m7 30 rfl) rfl
theorem q1563 : (Jvm.Cond.instanceMethod ({ cls := "LeaderLeases$Node", name := "isDue", desc := "(I)Z" } : Jvm.MethodName)) ∈ lw_all := lw_g (lw_at lw_m7 34 rfl) rfl
theorem q1564 : (Jvm.Cond.selects "LeaderLeases$Node" ({ cls := "LeaderLeases$Node", name := "isDue", desc := "(I)Z" } : Jvm.MethodName) ({ cls := "LeaderLeases$Node", name := "isDue", desc := "(I)Z" } : Jvm.MethodName)) ∈ lw_all := lw_g (lw_at lw_m7 35 rfl) rfl
theorem q1565 : (Jvm.Cond.code ({ cls := "LeaderLeases$Node", name := "isDue", desc := "(I)Z" } : Jvm.MethodName) prog_11_method_9_code (2 : Nat) (Option.some Jvm.ClassFile.FieldType.boolean)) ∈ lw_all := lw_g (lw_at lw_m7 36 rfl) rfl
theorem q1566 : (Jvm.Cond.methodLink "LeaderLeases$Node" (79 : Nat) ({ cls := "LeaderLeases$Node", name := "isPaused", desc := "(I)Z" } : Jvm.MethodName)) ∈ lw_all := lw_g (lw_at lw_m7 37 rfl) rfl
theorem q1625 : (Jvm.Cond.instanceMethod ({ cls := "LeaderLeases$Node", name := "leads", desc := "(I)Z" } : Jvm.MethodName)) ∈ lw_all := lw_g (lw_at lw_m7 96 rfl) rfl
theorem q1626 : (Jvm.Cond.selects "LeaderLeases$Node" ({ cls := "LeaderLeases$Node", name := "leads", desc := "(I)Z" } : Jvm.MethodName) ({ cls := "LeaderLeases$Node", name := "leads", desc := "(I)Z" } : Jvm.MethodName)) ∈ lw_all := lw_g (lw_at lw_m7 97 rfl) rfl
theorem q1627 : (Jvm.Cond.code ({ cls := "LeaderLeases$Node", name := "leads", desc := "(I)Z" } : Jvm.MethodName) prog_11_method_5_code (2 : Nat) (Option.some Jvm.ClassFile.FieldType.boolean)) ∈ lw_all := lw_g (lw_at lw_m7 98 rfl) rfl
theorem q1628 : (Jvm.Cond.methodLink "LeaderLeases$Node" (69 : Nat) ({ cls := "LeaderLeases$Node", name := "leadsUntil", desc := "()I" } : Jvm.MethodName)) ∈ lw_all := lw_g (lw_at lw_m7 99 rfl) rfl
theorem q2039 : (Jvm.Cond.instanceMethod ({ cls := "LeaderLeases$Node", name := "copy", desc := "()LLeaderLeases$Node;" } : Jvm.MethodName)) ∈ lw_all := lw_g (lw_at lw_m9 30 rfl) rfl
theorem q2040 : (Jvm.Cond.selects "LeaderLeases$Node" ({ cls := "LeaderLeases$Node", name := "copy", desc := "()LLeaderLeases$Node;" } : Jvm.MethodName) ({ cls := "LeaderLeases$Node", name := "copy", desc := "()LLeaderLeases$Node;" } : Jvm.MethodName)) ∈ lw_all := lw_g (lw_at lw_m9 31 rfl) rfl
theorem q2041 : (Jvm.Cond.code ({ cls := "LeaderLeases$Node", name := "copy", desc := "()LLeaderLeases$Node;" } : Jvm.MethodName) prog_11_method_2_code (2 : Nat) (Option.some (Jvm.ClassFile.FieldType.object "LeaderLeases$Node"))) ∈ lw_all := lw_g (lw_at lw_m9 32 rfl) rfl
theorem q2042 : (Jvm.Cond.classLink "LeaderLeases$Node" (10 : Nat) "LeaderLeases$Node") ∈ lw_all := lw_g (lw_at lw_m9 33 rfl) rfl
theorem q2043 : (Jvm.Cond.methodLink "LeaderLeases$Node" (30 : Nat) ({ cls := "LeaderLeases$Node", name := "<init>", desc := "(LLeaderLeases$Clock;I)V" } : Jvm.MethodName)) ∈ lw_all := lw_g (lw_at lw_m9 34 rfl) rfl
theorem q2044 : (Jvm.Cond.methodLink "LeaderLeases$Node" (57 : Nat) ({ cls := "java/lang/System", name := "arraycopy", desc := "(Ljava/lang/Object;ILjava/lang/Object;II)V" } : Jvm.MethodName)) ∈ lw_all := lw_g (lw_at lw_m9 35 rfl) rfl
theorem q2796 : (Jvm.Cond.castable "LeaderLeases$Node" "java/lang/Object") ∈ lw_tbl := lw_at lw_m12 67 rfl
theorem in_X6 : ∀ w ∈ wsX60, w ∈ lw_all := lw_in wsX60 [759, 761, 763, 765, 767, 769, 771, 773, 775, 777, 779, 781, 783] (by decide +kernel) (by decide +kernel)

/-! LeaderLeases$Parser -/
set_option maxRecDepth 100000
def RX8 : String := "LeaderLeases$Parser"
def TX8 : u_T := fun k => match k with
  | 0 => ("LeaderLeases$Parser", "read", "LLeaderLeases$Configuration;", true)
  | 1 => ("LeaderLeases$Parser", "had", "Ljava/util/List;", true)
  | 2 => ("LeaderLeases$Parser", "at", "I", false)
  | _ => ("LeaderLeases$Parser", "this$0", "LLeaderLeases;", true)
def tyX8 : Nat → FieldType := fun k => match k with
  | 0 => .object "LeaderLeases$Configuration"
  | 1 => .object "java/util/List"
  | 2 => .int
  | _ => .object "LeaderLeases"
abbrev wsX80 : List Cond := u_ws RX8 TX8 4
theorem nmX8 : ∀ a, a < 4 → ∀ b, b < 4 → a ≠ b → (TX8 a).2.1 ≠ (TX8 b).2.1 := by decide +kernel
theorem tyX8_ok : ∀ k, k < 4 → parseFieldDescriptor (TX8 k).2.2.1 = some (tyX8 k) := by decide +kernel
abbrev cX8_init : ByteArray := prog_13_method_1_code
def yX8_init : MethodName := ⟨RX8, "<init>", "(LLeaderLeases;)V"⟩
def dkwX8_init_1 : List UInt8 := [89, 5, 183, 0, 24, 181, 0, 27, 177]
abbrev dktX8_init_1 : List UInt8 := dkwX8_init_1 ++ []
def dkwX8_init_0 : List UInt8 := [42, 43, 181, 0, 3, 42, 183, 0, 9, 42, 187, 0, 15, 89, 183, 0, 17, 181, 0, 18, 42, 187, 0, 22]
abbrev dktX8_init_0 : List UInt8 := dkwX8_init_0 ++ dktX8_init_1
theorem dksX8_init_0 : cX8_init.data.toList.drop 0 = dktX8_init_0 := by decide +kernel
theorem dksX8_init_1 : cX8_init.data.toList.drop 24 = dktX8_init_1 := dk_seg dksX8_init_0 24 rfl rfl
theorem dX8_init_0 : decode cX8_init 0 = .ok (.aload_n 0, 1) := dk_42 (dk_at dksX8_init_0 0 rfl rfl)
theorem dX8_init_1 : decode cX8_init 1 = .ok (.aload_n 1, 1) := dk_43 (dk_at dksX8_init_0 1 rfl rfl)
theorem dX8_init_2 : decode cX8_init 2 = .ok (.putfield 3, 3) := dk_181 0 3 (dk_at dksX8_init_0 2 rfl rfl)
theorem dX8_init_5 : decode cX8_init 5 = .ok (.aload_n 0, 1) := dk_42 (dk_at dksX8_init_0 5 rfl rfl)
theorem dX8_init_6 : decode cX8_init 6 = .ok (.invokespecial 9, 3) := dk_183 0 9 (dk_at dksX8_init_0 6 rfl rfl)
theorem dX8_init_9 : decode cX8_init 9 = .ok (.aload_n 0, 1) := dk_42 (dk_at dksX8_init_0 9 rfl rfl)
theorem dX8_init_10 : decode cX8_init 10 = .ok (.new 15, 3) := dk_187 0 15 (dk_at dksX8_init_0 10 rfl rfl)
theorem dX8_init_13 : decode cX8_init 13 = .ok (.dup, 1) := dk_89 (dk_at dksX8_init_0 13 rfl rfl)
theorem dX8_init_14 : decode cX8_init 14 = .ok (.invokespecial 17, 3) := dk_183 0 17 (dk_at dksX8_init_0 14 rfl rfl)
theorem dX8_init_17 : decode cX8_init 17 = .ok (.putfield 18, 3) := dk_181 0 18 (dk_at dksX8_init_0 17 rfl rfl)
theorem dX8_init_20 : decode cX8_init 20 = .ok (.aload_n 0, 1) := dk_42 (dk_at dksX8_init_0 20 rfl rfl)
theorem dX8_init_21 : decode cX8_init 21 = .ok (.new 22, 3) := dk_187 0 22 (dk_at dksX8_init_0 21 rfl rfl)
theorem dX8_init_24 : decode cX8_init 24 = .ok (.dup, 1) := dk_89 (dk_at dksX8_init_1 0 rfl rfl)
theorem dX8_init_25 : decode cX8_init 25 = .ok (.iconst 2, 1) := dk_5 (dk_at dksX8_init_1 1 rfl rfl)
theorem dX8_init_26 : decode cX8_init 26 = .ok (.invokespecial 24, 3) := dk_183 0 24 (dk_at dksX8_init_1 2 rfl rfl)
theorem dX8_init_29 : decode cX8_init 29 = .ok (.putfield 27, 3) := dk_181 0 27 (dk_at dksX8_init_1 5 rfl rfl)
theorem dX8_init_32 : decode cX8_init 32 = .ok (.return_, 1) := dk_177 (dk_at dksX8_init_1 8 rfl rfl)
abbrev cX8_configuration : ByteArray := prog_13_method_9_code
def yX8_configuration : MethodName := ⟨RX8, "configuration", "()LLeaderLeases$Configuration;"⟩
def dkwX8_configuration_2 : List UInt8 := [191, 76, 187, 0, 189, 89, 43, 183, 0, 191, 191]
abbrev dktX8_configuration_2 : List UInt8 := dkwX8_configuration_2 ++ []
def dkwX8_configuration_1 : List UInt8 := [180, 0, 3, 180, 0, 35, 183, 0, 188, 191, 42, 180, 0, 18, 176, 76, 187, 0, 189, 89, 43, 183, 0, 191]
abbrev dktX8_configuration_1 : List UInt8 := dkwX8_configuration_1 ++ dktX8_configuration_2
def dkwX8_configuration_0 : List UInt8 := [42, 182, 0, 179, 42, 180, 0, 18, 180, 0, 101, 185, 0, 182, 1, 0, 153, 0, 18, 187, 0, 186, 89, 42]
abbrev dktX8_configuration_0 : List UInt8 := dkwX8_configuration_0 ++ dktX8_configuration_1
theorem dksX8_configuration_0 : cX8_configuration.data.toList.drop 0 = dktX8_configuration_0 := by decide +kernel
theorem dksX8_configuration_1 : cX8_configuration.data.toList.drop 24 = dktX8_configuration_1 := dk_seg dksX8_configuration_0 24 rfl rfl
theorem dksX8_configuration_2 : cX8_configuration.data.toList.drop 48 = dktX8_configuration_2 := dk_seg dksX8_configuration_1 24 rfl rfl
theorem dX8_configuration_0 : decode cX8_configuration 0 = .ok (.aload_n 0, 1) := dk_42 (dk_at dksX8_configuration_0 0 rfl rfl)
theorem dX8_configuration_1 : decode cX8_configuration 1 = .ok (.invokevirtual 179, 3) := dk_182 0 179 (dk_at dksX8_configuration_0 1 rfl rfl)
theorem dX8_configuration_4 : decode cX8_configuration 4 = .ok (.aload_n 0, 1) := dk_42 (dk_at dksX8_configuration_0 4 rfl rfl)
theorem dX8_configuration_5 : decode cX8_configuration 5 = .ok (.getfield 18, 3) := dk_180 0 18 (dk_at dksX8_configuration_0 5 rfl rfl)
theorem dX8_configuration_8 : decode cX8_configuration 8 = .ok (.getfield 101, 3) := dk_180 0 101 (dk_at dksX8_configuration_0 8 rfl rfl)
theorem dX8_configuration_11 : decode cX8_configuration 11 = .ok (.invokeinterface 182 1, 5) := by decide +kernel
theorem dX8_configuration_16 : decode cX8_configuration 16 = .ok (.ifCond .eq 18, 3) := dk_153 0 18 (dk_at dksX8_configuration_0 16 rfl rfl)
theorem dX8_configuration_19 : decode cX8_configuration 19 = .ok (.new 186, 3) := dk_187 0 186 (dk_at dksX8_configuration_0 19 rfl rfl)
theorem dX8_configuration_22 : decode cX8_configuration 22 = .ok (.dup, 1) := dk_89 (dk_at dksX8_configuration_0 22 rfl rfl)
theorem dX8_configuration_23 : decode cX8_configuration 23 = .ok (.aload_n 0, 1) := dk_42 (dk_at dksX8_configuration_0 23 rfl rfl)
theorem dX8_configuration_24 : decode cX8_configuration 24 = .ok (.getfield 3, 3) := dk_180 0 3 (dk_at dksX8_configuration_1 0 rfl rfl)
theorem dX8_configuration_27 : decode cX8_configuration 27 = .ok (.getfield 35, 3) := dk_180 0 35 (dk_at dksX8_configuration_1 3 rfl rfl)
theorem dX8_configuration_30 : decode cX8_configuration 30 = .ok (.invokespecial 188, 3) := dk_183 0 188 (dk_at dksX8_configuration_1 6 rfl rfl)
theorem dX8_configuration_33 : decode cX8_configuration 33 = .ok (.athrow, 1) := dk_191 (dk_at dksX8_configuration_1 9 rfl rfl)
theorem dX8_configuration_34 : decode cX8_configuration 34 = .ok (.aload_n 0, 1) := dk_42 (dk_at dksX8_configuration_1 10 rfl rfl)
theorem dX8_configuration_35 : decode cX8_configuration 35 = .ok (.getfield 18, 3) := dk_180 0 18 (dk_at dksX8_configuration_1 11 rfl rfl)
theorem dX8_configuration_38 : decode cX8_configuration 38 = .ok (.areturn, 1) := dk_176 (dk_at dksX8_configuration_1 14 rfl rfl)
theorem dX8_configuration_39 : decode cX8_configuration 39 = .ok (.astore_n 1, 1) := dk_76 (dk_at dksX8_configuration_1 15 rfl rfl)
theorem dX8_configuration_40 : decode cX8_configuration 40 = .ok (.new 189, 3) := dk_187 0 189 (dk_at dksX8_configuration_1 16 rfl rfl)
theorem dX8_configuration_43 : decode cX8_configuration 43 = .ok (.dup, 1) := dk_89 (dk_at dksX8_configuration_1 19 rfl rfl)
theorem dX8_configuration_44 : decode cX8_configuration 44 = .ok (.aload_n 1, 1) := dk_43 (dk_at dksX8_configuration_1 20 rfl rfl)
theorem dX8_configuration_45 : decode cX8_configuration 45 = .ok (.invokespecial 191, 3) := dk_183 0 191 (dk_at dksX8_configuration_1 21 rfl rfl)
theorem dX8_configuration_48 : decode cX8_configuration 48 = .ok (.athrow, 1) := dk_191 (dk_at dksX8_configuration_2 0 rfl rfl)
theorem dX8_configuration_49 : decode cX8_configuration 49 = .ok (.astore_n 1, 1) := dk_76 (dk_at dksX8_configuration_2 1 rfl rfl)
theorem dX8_configuration_50 : decode cX8_configuration 50 = .ok (.new 189, 3) := dk_187 0 189 (dk_at dksX8_configuration_2 2 rfl rfl)
theorem dX8_configuration_53 : decode cX8_configuration 53 = .ok (.dup, 1) := dk_89 (dk_at dksX8_configuration_2 5 rfl rfl)
theorem dX8_configuration_54 : decode cX8_configuration 54 = .ok (.aload_n 1, 1) := dk_43 (dk_at dksX8_configuration_2 6 rfl rfl)
theorem dX8_configuration_55 : decode cX8_configuration 55 = .ok (.invokespecial 191, 3) := dk_183 0 191 (dk_at dksX8_configuration_2 7 rfl rfl)
theorem dX8_configuration_58 : decode cX8_configuration 58 = .ok (.athrow, 1) := dk_191 (dk_at dksX8_configuration_2 10 rfl rfl)
abbrev cX8_statements : ByteArray := prog_13_method_8_code
def yX8_statements : MethodName := ⟨RX8, "statements", "()V"⟩
def dkwX8_statements_2 : List UInt8 := [167, 255, 214, 177]
abbrev dktX8_statements_2 : List UInt8 := dkwX8_statements_2 ++ []
def dkwX8_statements_1 : List UInt8 := [42, 180, 0, 31, 183, 0, 74, 191, 42, 89, 180, 0, 31, 4, 96, 181, 0, 31, 42, 182, 0, 176]
abbrev dktX8_statements_1 : List UInt8 := dkwX8_statements_1 ++ dktX8_statements_2
def dkwX8_statements_0 : List UInt8 := [42, 182, 0, 176, 42, 182, 0, 46, 155, 0, 41, 42, 182, 0, 42, 16, 59, 159, 0, 15, 187, 0, 72, 89]
abbrev dktX8_statements_0 : List UInt8 := dkwX8_statements_0 ++ dktX8_statements_1
theorem dksX8_statements_0 : cX8_statements.data.toList.drop 0 = dktX8_statements_0 := by decide +kernel
theorem dksX8_statements_1 : cX8_statements.data.toList.drop 24 = dktX8_statements_1 := dk_seg dksX8_statements_0 24 rfl rfl
theorem dksX8_statements_2 : cX8_statements.data.toList.drop 46 = dktX8_statements_2 := dk_seg dksX8_statements_1 22 rfl rfl
theorem dX8_statements_0 : decode cX8_statements 0 = .ok (.aload_n 0, 1) := dk_42 (dk_at dksX8_statements_0 0 rfl rfl)
theorem dX8_statements_1 : decode cX8_statements 1 = .ok (.invokevirtual 176, 3) := dk_182 0 176 (dk_at dksX8_statements_0 1 rfl rfl)
theorem dX8_statements_4 : decode cX8_statements 4 = .ok (.aload_n 0, 1) := dk_42 (dk_at dksX8_statements_0 4 rfl rfl)
theorem dX8_statements_5 : decode cX8_statements 5 = .ok (.invokevirtual 46, 3) := dk_182 0 46 (dk_at dksX8_statements_0 5 rfl rfl)
theorem dX8_statements_8 : decode cX8_statements 8 = .ok (.ifCond .lt 41, 3) := dk_155 0 41 (dk_at dksX8_statements_0 8 rfl rfl)
theorem dX8_statements_11 : decode cX8_statements 11 = .ok (.aload_n 0, 1) := dk_42 (dk_at dksX8_statements_0 11 rfl rfl)
theorem dX8_statements_12 : decode cX8_statements 12 = .ok (.invokevirtual 42, 3) := dk_182 0 42 (dk_at dksX8_statements_0 12 rfl rfl)
theorem dX8_statements_15 : decode cX8_statements 15 = .ok (.bipush 59, 2) := dk_16 59 (dk_at dksX8_statements_0 15 rfl rfl)
theorem dX8_statements_17 : decode cX8_statements 17 = .ok (.if_icmp .eq 15, 3) := dk_159 0 15 (dk_at dksX8_statements_0 17 rfl rfl)
theorem dX8_statements_20 : decode cX8_statements 20 = .ok (.new 72, 3) := dk_187 0 72 (dk_at dksX8_statements_0 20 rfl rfl)
theorem dX8_statements_23 : decode cX8_statements 23 = .ok (.dup, 1) := dk_89 (dk_at dksX8_statements_0 23 rfl rfl)
theorem dX8_statements_24 : decode cX8_statements 24 = .ok (.aload_n 0, 1) := dk_42 (dk_at dksX8_statements_1 0 rfl rfl)
theorem dX8_statements_25 : decode cX8_statements 25 = .ok (.getfield 31, 3) := dk_180 0 31 (dk_at dksX8_statements_1 1 rfl rfl)
theorem dX8_statements_28 : decode cX8_statements 28 = .ok (.invokespecial 74, 3) := dk_183 0 74 (dk_at dksX8_statements_1 4 rfl rfl)
theorem dX8_statements_31 : decode cX8_statements 31 = .ok (.athrow, 1) := dk_191 (dk_at dksX8_statements_1 7 rfl rfl)
theorem dX8_statements_32 : decode cX8_statements 32 = .ok (.aload_n 0, 1) := dk_42 (dk_at dksX8_statements_1 8 rfl rfl)
theorem dX8_statements_33 : decode cX8_statements 33 = .ok (.dup, 1) := dk_89 (dk_at dksX8_statements_1 9 rfl rfl)
theorem dX8_statements_34 : decode cX8_statements 34 = .ok (.getfield 31, 3) := dk_180 0 31 (dk_at dksX8_statements_1 10 rfl rfl)
theorem dX8_statements_37 : decode cX8_statements 37 = .ok (.iconst 1, 1) := dk_4 (dk_at dksX8_statements_1 13 rfl rfl)
theorem dX8_statements_38 : decode cX8_statements 38 = .ok (.iadd, 1) := dk_96 (dk_at dksX8_statements_1 14 rfl rfl)
theorem dX8_statements_39 : decode cX8_statements 39 = .ok (.putfield 31, 3) := dk_181 0 31 (dk_at dksX8_statements_1 15 rfl rfl)
theorem dX8_statements_42 : decode cX8_statements 42 = .ok (.aload_n 0, 1) := dk_42 (dk_at dksX8_statements_1 18 rfl rfl)
theorem dX8_statements_43 : decode cX8_statements 43 = .ok (.invokevirtual 176, 3) := dk_182 0 176 (dk_at dksX8_statements_1 19 rfl rfl)
theorem dX8_statements_46 : decode cX8_statements 46 = .ok (.goto (-42), 3) := dk_167 255 214 (dk_at dksX8_statements_2 0 rfl rfl)
theorem dX8_statements_49 : decode cX8_statements 49 = .ok (.return_, 1) := dk_177 (dk_at dksX8_statements_2 3 rfl rfl)
abbrev cX8_statement : ByteArray := prog_13_method_6_code
def yX8_statement : MethodName := ⟨RX8, "statement", "()V"⟩
def dkwX8_statement_19 : List UInt8 := [28, 183, 0, 74, 191, 177]
abbrev dktX8_statement_19 : List UInt8 := dkwX8_statement_19 ++ []
def dkwX8_statement_18 : List UInt8 := [167, 0, 29, 42, 180, 0, 18, 42, 3, 18, 167, 182, 0, 143, 181, 0, 168, 167, 0, 12, 187, 0, 72, 89]
abbrev dktX8_statement_18 : List UInt8 := dkwX8_statement_18 ++ dktX8_statement_19
def dkwX8_statement_17 : List UInt8 := [182, 0, 143, 181, 0, 163, 167, 0, 47, 42, 180, 0, 18, 42, 3, 17, 3, 232, 182, 0, 143, 181, 0, 165]
abbrev dktX8_statement_17 : List UInt8 := dkwX8_statement_17 ++ dktX8_statement_18
def dkwX8_statement_16 : List UInt8 := [42, 16, 50, 18, 153, 182, 0, 143, 181, 0, 160, 167, 0, 65, 42, 180, 0, 18, 42, 16, 50, 18, 153]
abbrev dktX8_statement_16 : List UInt8 := dkwX8_statement_16 ++ dktX8_statement_17
def dkwX8_statement_15 : List UInt8 := [181, 0, 154, 42, 180, 0, 18, 42, 3, 16, 100, 182, 0, 143, 181, 0, 157, 167, 0, 83, 42, 180, 0, 18]
abbrev dktX8_statement_15 : List UInt8 := dkwX8_statement_15 ++ dktX8_statement_16
def dkwX8_statement_14 : List UInt8 := [184, 0, 147, 185, 0, 115, 2, 0, 87, 167, 0, 115, 42, 180, 0, 18, 42, 16, 100, 18, 153, 182, 0, 143]
abbrev dktX8_statement_14 : List UInt8 := dkwX8_statement_14 ++ dktX8_statement_15
def dkwX8_statement_13 : List UInt8 := [182, 0, 133, 185, 0, 115, 2, 0, 87, 42, 180, 0, 18, 180, 0, 140, 42, 4, 17, 3, 232, 182, 0, 143]
abbrev dktX8_statement_13 : List UInt8 := dkwX8_statement_13 ++ dktX8_statement_14
def dkwX8_statement_12 : List UInt8 := [42, 180, 0, 18, 42, 182, 0, 133, 181, 0, 137, 167, 0, 159, 42, 180, 0, 18, 180, 0, 101, 42]
abbrev dktX8_statement_12 : List UInt8 := dkwX8_statement_12 ++ dktX8_statement_13
def dkwX8_statement_11 : List UInt8 := [170, 0, 0, 0, 0, 0, 0, 205, 0, 0, 0, 0, 0, 0, 0, 6, 0, 0, 0, 44, 0, 0, 0, 58, 0, 0, 0, 102, 0, 0, 0, 134, 0, 0, 0, 152, 0, 0, 0, 170, 0, 0, 0, 188]
abbrev dktX8_statement_11 : List UInt8 := dkwX8_statement_11 ++ dktX8_statement_12
def dkwX8_statement_10 : List UInt8 := [54, 5, 167, 0, 17, 25, 4, 18, 131, 182, 0, 97, 153, 0, 7, 16, 6, 54, 5, 21, 5]
abbrev dktX8_statement_10 : List UInt8 := dkwX8_statement_10 ++ dktX8_statement_11
def dkwX8_statement_9 : List UInt8 := [182, 0, 97, 153, 0, 39, 7, 54, 5, 167, 0, 33, 25, 4, 18, 129, 182, 0, 97, 153, 0, 23, 8]
abbrev dktX8_statement_9 : List UInt8 := dkwX8_statement_9 ++ dktX8_statement_10
def dkwX8_statement_8 : List UInt8 := [167, 0, 65, 25, 4, 18, 125, 182, 0, 97, 153, 0, 55, 6, 54, 5, 167, 0, 49, 25, 4, 18, 127]
abbrev dktX8_statement_8 : List UInt8 := dkwX8_statement_8 ++ dktX8_statement_9
def dkwX8_statement_7 : List UInt8 := [153, 0, 87, 4, 54, 5, 167, 0, 81, 25, 4, 18, 123, 182, 0, 97, 153, 0, 71, 5, 54, 5]
abbrev dktX8_statement_7 : List UInt8 := dkwX8_statement_7 ++ dktX8_statement_8
def dkwX8_statement_6 : List UInt8 := [25, 4, 18, 121, 182, 0, 97, 153, 0, 103, 3, 54, 5, 167, 0, 97, 25, 4, 18, 95, 182, 0, 97]
abbrev dktX8_statement_6 : List UInt8 := dkwX8_statement_6 ++ dktX8_statement_7
def dkwX8_statement_5 : List UInt8 := [171, 0, 0, 0, 0, 176, 0, 0, 0, 7, 186, 223, 208, 236, 0, 0, 0, 146, 202, 2, 47, 67, 0, 0, 0, 66, 0, 51, 174, 2, 0, 0, 0, 82, 0, 53, 206, 113, 0, 0, 0, 162, 6, 33, 78, 90, 0, 0, 0, 98, 6, 118, 10, 141, 0, 0, 0, 114, 6, 118, 34, 168, 0, 0, 0, 130]
abbrev dktX8_statement_5 : List UInt8 := dkwX8_statement_5 ++ dktX8_statement_6
def dkwX8_statement_4 : List UInt8 := [182, 0, 118]
abbrev dktX8_statement_4 : List UInt8 := dkwX8_statement_4 ++ dktX8_statement_5
def dkwX8_statement_3 : List UInt8 := [154, 0, 14, 42, 180, 0, 27, 43, 185, 0, 115, 2, 0, 87, 43, 58, 4, 2, 54, 5, 25, 4]
abbrev dktX8_statement_3 : List UInt8 := dkwX8_statement_3 ++ dktX8_statement_4
def dkwX8_statement_2 : List UInt8 := [180, 0, 27, 43, 185, 0, 109, 2, 0, 153, 0, 12, 187, 0, 112, 89, 28, 183, 0, 114, 191, 29]
abbrev dktX8_statement_2 : List UInt8 := dkwX8_statement_2 ++ dktX8_statement_3
def dkwX8_statement_1 : List UInt8 := [153, 0, 23, 42, 180, 0, 18, 180, 0, 101, 185, 0, 104, 1, 0, 16, 6, 160, 0, 28, 167, 0, 16, 42]
abbrev dktX8_statement_1 : List UInt8 := dkwX8_statement_1 ++ dktX8_statement_2
def dkwX8_statement_0 : List UInt8 := [42, 182, 0, 88, 76, 42, 180, 0, 31, 43, 182, 0, 91, 100, 61, 43, 18, 95, 182, 0, 97, 62, 29]
abbrev dktX8_statement_0 : List UInt8 := dkwX8_statement_0 ++ dktX8_statement_1
theorem dksX8_statement_0 : cX8_statement.data.toList.drop 0 = dktX8_statement_0 := by decide +kernel
theorem dksX8_statement_1 : cX8_statement.data.toList.drop 23 = dktX8_statement_1 := dk_seg dksX8_statement_0 23 rfl rfl
theorem dksX8_statement_2 : cX8_statement.data.toList.drop 47 = dktX8_statement_2 := dk_seg dksX8_statement_1 24 rfl rfl
theorem dksX8_statement_3 : cX8_statement.data.toList.drop 69 = dktX8_statement_3 := dk_seg dksX8_statement_2 22 rfl rfl
theorem dksX8_statement_4 : cX8_statement.data.toList.drop 91 = dktX8_statement_4 := dk_seg dksX8_statement_3 22 rfl rfl
theorem dksX8_statement_5 : cX8_statement.data.toList.drop 94 = dktX8_statement_5 := dk_seg dksX8_statement_4 3 rfl rfl
theorem dksX8_statement_6 : cX8_statement.data.toList.drop 160 = dktX8_statement_6 := dk_seg dksX8_statement_5 66 rfl rfl
theorem dksX8_statement_7 : cX8_statement.data.toList.drop 183 = dktX8_statement_7 := dk_seg dksX8_statement_6 23 rfl rfl
theorem dksX8_statement_8 : cX8_statement.data.toList.drop 205 = dktX8_statement_8 := dk_seg dksX8_statement_7 22 rfl rfl
theorem dksX8_statement_9 : cX8_statement.data.toList.drop 228 = dktX8_statement_9 := dk_seg dksX8_statement_8 23 rfl rfl
theorem dksX8_statement_10 : cX8_statement.data.toList.drop 251 = dktX8_statement_10 := dk_seg dksX8_statement_9 23 rfl rfl
theorem dksX8_statement_11 : cX8_statement.data.toList.drop 272 = dktX8_statement_11 := dk_seg dksX8_statement_10 21 rfl rfl
theorem dksX8_statement_12 : cX8_statement.data.toList.drop 316 = dktX8_statement_12 := dk_seg dksX8_statement_11 44 rfl rfl
theorem dksX8_statement_13 : cX8_statement.data.toList.drop 338 = dktX8_statement_13 := dk_seg dksX8_statement_12 22 rfl rfl
theorem dksX8_statement_14 : cX8_statement.data.toList.drop 362 = dktX8_statement_14 := dk_seg dksX8_statement_13 24 rfl rfl
theorem dksX8_statement_15 : cX8_statement.data.toList.drop 386 = dktX8_statement_15 := dk_seg dksX8_statement_14 24 rfl rfl
theorem dksX8_statement_16 : cX8_statement.data.toList.drop 410 = dktX8_statement_16 := dk_seg dksX8_statement_15 24 rfl rfl
theorem dksX8_statement_17 : cX8_statement.data.toList.drop 433 = dktX8_statement_17 := dk_seg dksX8_statement_16 23 rfl rfl
theorem dksX8_statement_18 : cX8_statement.data.toList.drop 457 = dktX8_statement_18 := dk_seg dksX8_statement_17 24 rfl rfl
theorem dksX8_statement_19 : cX8_statement.data.toList.drop 481 = dktX8_statement_19 := dk_seg dksX8_statement_18 24 rfl rfl
theorem dX8_statement_0 : decode cX8_statement 0 = .ok (.aload_n 0, 1) := dk_42 (dk_at dksX8_statement_0 0 rfl rfl)
theorem dX8_statement_1 : decode cX8_statement 1 = .ok (.invokevirtual 88, 3) := dk_182 0 88 (dk_at dksX8_statement_0 1 rfl rfl)
theorem dX8_statement_4 : decode cX8_statement 4 = .ok (.astore_n 1, 1) := dk_76 (dk_at dksX8_statement_0 4 rfl rfl)
theorem dX8_statement_5 : decode cX8_statement 5 = .ok (.aload_n 0, 1) := dk_42 (dk_at dksX8_statement_0 5 rfl rfl)
theorem dX8_statement_6 : decode cX8_statement 6 = .ok (.getfield 31, 3) := dk_180 0 31 (dk_at dksX8_statement_0 6 rfl rfl)
theorem dX8_statement_9 : decode cX8_statement 9 = .ok (.aload_n 1, 1) := dk_43 (dk_at dksX8_statement_0 9 rfl rfl)
theorem dX8_statement_10 : decode cX8_statement 10 = .ok (.invokevirtual 91, 3) := dk_182 0 91 (dk_at dksX8_statement_0 10 rfl rfl)
theorem dX8_statement_13 : decode cX8_statement 13 = .ok (.isub, 1) := dk_100 (dk_at dksX8_statement_0 13 rfl rfl)
theorem dX8_statement_14 : decode cX8_statement 14 = .ok (.istore_n 2, 1) := dk_61 (dk_at dksX8_statement_0 14 rfl rfl)
theorem dX8_statement_15 : decode cX8_statement 15 = .ok (.aload_n 1, 1) := dk_43 (dk_at dksX8_statement_0 15 rfl rfl)
theorem dX8_statement_16 : decode cX8_statement 16 = .ok (.ldc 95, 2) := dk_18 95 (dk_at dksX8_statement_0 16 rfl rfl)
theorem dX8_statement_18 : decode cX8_statement 18 = .ok (.invokevirtual 97, 3) := dk_182 0 97 (dk_at dksX8_statement_0 18 rfl rfl)
theorem dX8_statement_21 : decode cX8_statement 21 = .ok (.istore_n 3, 1) := dk_62 (dk_at dksX8_statement_0 21 rfl rfl)
theorem dX8_statement_22 : decode cX8_statement 22 = .ok (.iload_n 3, 1) := dk_29 (dk_at dksX8_statement_0 22 rfl rfl)
theorem dX8_statement_23 : decode cX8_statement 23 = .ok (.ifCond .eq 23, 3) := dk_153 0 23 (dk_at dksX8_statement_1 0 rfl rfl)
theorem dX8_statement_26 : decode cX8_statement 26 = .ok (.aload_n 0, 1) := dk_42 (dk_at dksX8_statement_1 3 rfl rfl)
theorem dX8_statement_27 : decode cX8_statement 27 = .ok (.getfield 18, 3) := dk_180 0 18 (dk_at dksX8_statement_1 4 rfl rfl)
theorem dX8_statement_30 : decode cX8_statement 30 = .ok (.getfield 101, 3) := dk_180 0 101 (dk_at dksX8_statement_1 7 rfl rfl)
theorem dX8_statement_33 : decode cX8_statement 33 = .ok (.invokeinterface 104 1, 5) := by decide +kernel
theorem dX8_statement_38 : decode cX8_statement 38 = .ok (.bipush 6, 2) := dk_16 6 (dk_at dksX8_statement_1 15 rfl rfl)
theorem dX8_statement_40 : decode cX8_statement 40 = .ok (.if_icmp .ne 28, 3) := dk_160 0 28 (dk_at dksX8_statement_1 17 rfl rfl)
theorem dX8_statement_43 : decode cX8_statement 43 = .ok (.goto 16, 3) := dk_167 0 16 (dk_at dksX8_statement_1 20 rfl rfl)
theorem dX8_statement_46 : decode cX8_statement 46 = .ok (.aload_n 0, 1) := dk_42 (dk_at dksX8_statement_1 23 rfl rfl)
theorem dX8_statement_47 : decode cX8_statement 47 = .ok (.getfield 27, 3) := dk_180 0 27 (dk_at dksX8_statement_2 0 rfl rfl)
theorem dX8_statement_50 : decode cX8_statement 50 = .ok (.aload_n 1, 1) := dk_43 (dk_at dksX8_statement_2 3 rfl rfl)
theorem dX8_statement_51 : decode cX8_statement 51 = .ok (.invokeinterface 109 2, 5) := by decide +kernel
theorem dX8_statement_56 : decode cX8_statement 56 = .ok (.ifCond .eq 12, 3) := dk_153 0 12 (dk_at dksX8_statement_2 9 rfl rfl)
theorem dX8_statement_59 : decode cX8_statement 59 = .ok (.new 112, 3) := dk_187 0 112 (dk_at dksX8_statement_2 12 rfl rfl)
theorem dX8_statement_62 : decode cX8_statement 62 = .ok (.dup, 1) := dk_89 (dk_at dksX8_statement_2 15 rfl rfl)
theorem dX8_statement_63 : decode cX8_statement 63 = .ok (.iload_n 2, 1) := dk_28 (dk_at dksX8_statement_2 16 rfl rfl)
theorem dX8_statement_64 : decode cX8_statement 64 = .ok (.invokespecial 114, 3) := dk_183 0 114 (dk_at dksX8_statement_2 17 rfl rfl)
theorem dX8_statement_67 : decode cX8_statement 67 = .ok (.athrow, 1) := dk_191 (dk_at dksX8_statement_2 20 rfl rfl)
theorem dX8_statement_68 : decode cX8_statement 68 = .ok (.iload_n 3, 1) := dk_29 (dk_at dksX8_statement_2 21 rfl rfl)
theorem dX8_statement_69 : decode cX8_statement 69 = .ok (.ifCond .ne 14, 3) := dk_154 0 14 (dk_at dksX8_statement_3 0 rfl rfl)
theorem dX8_statement_72 : decode cX8_statement 72 = .ok (.aload_n 0, 1) := dk_42 (dk_at dksX8_statement_3 3 rfl rfl)
theorem dX8_statement_73 : decode cX8_statement 73 = .ok (.getfield 27, 3) := dk_180 0 27 (dk_at dksX8_statement_3 4 rfl rfl)
theorem dX8_statement_76 : decode cX8_statement 76 = .ok (.aload_n 1, 1) := dk_43 (dk_at dksX8_statement_3 7 rfl rfl)
theorem dX8_statement_77 : decode cX8_statement 77 = .ok (.invokeinterface 115 2, 5) := by decide +kernel
theorem dX8_statement_82 : decode cX8_statement 82 = .ok (.pop, 1) := dk_87 (dk_at dksX8_statement_3 13 rfl rfl)
theorem dX8_statement_83 : decode cX8_statement 83 = .ok (.aload_n 1, 1) := dk_43 (dk_at dksX8_statement_3 14 rfl rfl)
theorem dX8_statement_84 : decode cX8_statement 84 = .ok (.astore 4, 2) := dk_58 4 (dk_at dksX8_statement_3 15 rfl rfl)
theorem dX8_statement_86 : decode cX8_statement 86 = .ok (.iconst (-1), 1) := dk_2 (dk_at dksX8_statement_3 17 rfl rfl)
theorem dX8_statement_87 : decode cX8_statement 87 = .ok (.istore 5, 2) := dk_54 5 (dk_at dksX8_statement_3 18 rfl rfl)
theorem dX8_statement_89 : decode cX8_statement 89 = .ok (.aload 4, 2) := dk_25 4 (dk_at dksX8_statement_3 20 rfl rfl)
theorem dX8_statement_91 : decode cX8_statement 91 = .ok (.invokevirtual 118, 3) := dk_182 0 118 (dk_at dksX8_statement_4 0 rfl rfl)
theorem dX8_statement_94 : decode cX8_statement 94 = .ok (.lookupswitch 176 #[(-1159737108, 146), (-905826493, 66), (3386882, 82), (3526257, 162), (102846042, 98), (108399245, 114), (108405416, 130)], 66) := by decide +kernel
theorem dX8_statement_160 : decode cX8_statement 160 = .ok (.aload 4, 2) := dk_25 4 (dk_at dksX8_statement_6 0 rfl rfl)
theorem dX8_statement_162 : decode cX8_statement 162 = .ok (.ldc 121, 2) := dk_18 121 (dk_at dksX8_statement_6 2 rfl rfl)
theorem dX8_statement_164 : decode cX8_statement 164 = .ok (.invokevirtual 97, 3) := dk_182 0 97 (dk_at dksX8_statement_6 4 rfl rfl)
theorem dX8_statement_167 : decode cX8_statement 167 = .ok (.ifCond .eq 103, 3) := dk_153 0 103 (dk_at dksX8_statement_6 7 rfl rfl)
theorem dX8_statement_170 : decode cX8_statement 170 = .ok (.iconst 0, 1) := dk_3 (dk_at dksX8_statement_6 10 rfl rfl)
theorem dX8_statement_171 : decode cX8_statement 171 = .ok (.istore 5, 2) := dk_54 5 (dk_at dksX8_statement_6 11 rfl rfl)
theorem dX8_statement_173 : decode cX8_statement 173 = .ok (.goto 97, 3) := dk_167 0 97 (dk_at dksX8_statement_6 13 rfl rfl)
theorem dX8_statement_176 : decode cX8_statement 176 = .ok (.aload 4, 2) := dk_25 4 (dk_at dksX8_statement_6 16 rfl rfl)
theorem dX8_statement_178 : decode cX8_statement 178 = .ok (.ldc 95, 2) := dk_18 95 (dk_at dksX8_statement_6 18 rfl rfl)
theorem dX8_statement_180 : decode cX8_statement 180 = .ok (.invokevirtual 97, 3) := dk_182 0 97 (dk_at dksX8_statement_6 20 rfl rfl)
theorem dX8_statement_183 : decode cX8_statement 183 = .ok (.ifCond .eq 87, 3) := dk_153 0 87 (dk_at dksX8_statement_7 0 rfl rfl)
theorem dX8_statement_186 : decode cX8_statement 186 = .ok (.iconst 1, 1) := dk_4 (dk_at dksX8_statement_7 3 rfl rfl)
theorem dX8_statement_187 : decode cX8_statement 187 = .ok (.istore 5, 2) := dk_54 5 (dk_at dksX8_statement_7 4 rfl rfl)
theorem dX8_statement_189 : decode cX8_statement 189 = .ok (.goto 81, 3) := dk_167 0 81 (dk_at dksX8_statement_7 6 rfl rfl)
theorem dX8_statement_192 : decode cX8_statement 192 = .ok (.aload 4, 2) := dk_25 4 (dk_at dksX8_statement_7 9 rfl rfl)
theorem dX8_statement_194 : decode cX8_statement 194 = .ok (.ldc 123, 2) := dk_18 123 (dk_at dksX8_statement_7 11 rfl rfl)
theorem dX8_statement_196 : decode cX8_statement 196 = .ok (.invokevirtual 97, 3) := dk_182 0 97 (dk_at dksX8_statement_7 13 rfl rfl)
theorem dX8_statement_199 : decode cX8_statement 199 = .ok (.ifCond .eq 71, 3) := dk_153 0 71 (dk_at dksX8_statement_7 16 rfl rfl)
theorem dX8_statement_202 : decode cX8_statement 202 = .ok (.iconst 2, 1) := dk_5 (dk_at dksX8_statement_7 19 rfl rfl)
theorem dX8_statement_203 : decode cX8_statement 203 = .ok (.istore 5, 2) := dk_54 5 (dk_at dksX8_statement_7 20 rfl rfl)
theorem dX8_statement_205 : decode cX8_statement 205 = .ok (.goto 65, 3) := dk_167 0 65 (dk_at dksX8_statement_8 0 rfl rfl)
theorem dX8_statement_208 : decode cX8_statement 208 = .ok (.aload 4, 2) := dk_25 4 (dk_at dksX8_statement_8 3 rfl rfl)
theorem dX8_statement_210 : decode cX8_statement 210 = .ok (.ldc 125, 2) := dk_18 125 (dk_at dksX8_statement_8 5 rfl rfl)
theorem dX8_statement_212 : decode cX8_statement 212 = .ok (.invokevirtual 97, 3) := dk_182 0 97 (dk_at dksX8_statement_8 7 rfl rfl)
theorem dX8_statement_215 : decode cX8_statement 215 = .ok (.ifCond .eq 55, 3) := dk_153 0 55 (dk_at dksX8_statement_8 10 rfl rfl)
theorem dX8_statement_218 : decode cX8_statement 218 = .ok (.iconst 3, 1) := dk_6 (dk_at dksX8_statement_8 13 rfl rfl)
theorem dX8_statement_219 : decode cX8_statement 219 = .ok (.istore 5, 2) := dk_54 5 (dk_at dksX8_statement_8 14 rfl rfl)
theorem dX8_statement_221 : decode cX8_statement 221 = .ok (.goto 49, 3) := dk_167 0 49 (dk_at dksX8_statement_8 16 rfl rfl)
theorem dX8_statement_224 : decode cX8_statement 224 = .ok (.aload 4, 2) := dk_25 4 (dk_at dksX8_statement_8 19 rfl rfl)
theorem dX8_statement_226 : decode cX8_statement 226 = .ok (.ldc 127, 2) := dk_18 127 (dk_at dksX8_statement_8 21 rfl rfl)
theorem dX8_statement_228 : decode cX8_statement 228 = .ok (.invokevirtual 97, 3) := dk_182 0 97 (dk_at dksX8_statement_9 0 rfl rfl)
theorem dX8_statement_231 : decode cX8_statement 231 = .ok (.ifCond .eq 39, 3) := dk_153 0 39 (dk_at dksX8_statement_9 3 rfl rfl)
theorem dX8_statement_234 : decode cX8_statement 234 = .ok (.iconst 4, 1) := dk_7 (dk_at dksX8_statement_9 6 rfl rfl)
theorem dX8_statement_235 : decode cX8_statement 235 = .ok (.istore 5, 2) := dk_54 5 (dk_at dksX8_statement_9 7 rfl rfl)
theorem dX8_statement_237 : decode cX8_statement 237 = .ok (.goto 33, 3) := dk_167 0 33 (dk_at dksX8_statement_9 9 rfl rfl)
theorem dX8_statement_240 : decode cX8_statement 240 = .ok (.aload 4, 2) := dk_25 4 (dk_at dksX8_statement_9 12 rfl rfl)
theorem dX8_statement_242 : decode cX8_statement 242 = .ok (.ldc 129, 2) := dk_18 129 (dk_at dksX8_statement_9 14 rfl rfl)
theorem dX8_statement_244 : decode cX8_statement 244 = .ok (.invokevirtual 97, 3) := dk_182 0 97 (dk_at dksX8_statement_9 16 rfl rfl)
theorem dX8_statement_247 : decode cX8_statement 247 = .ok (.ifCond .eq 23, 3) := dk_153 0 23 (dk_at dksX8_statement_9 19 rfl rfl)
theorem dX8_statement_250 : decode cX8_statement 250 = .ok (.iconst 5, 1) := dk_8 (dk_at dksX8_statement_9 22 rfl rfl)
theorem dX8_statement_251 : decode cX8_statement 251 = .ok (.istore 5, 2) := dk_54 5 (dk_at dksX8_statement_10 0 rfl rfl)
theorem dX8_statement_253 : decode cX8_statement 253 = .ok (.goto 17, 3) := dk_167 0 17 (dk_at dksX8_statement_10 2 rfl rfl)
theorem dX8_statement_256 : decode cX8_statement 256 = .ok (.aload 4, 2) := dk_25 4 (dk_at dksX8_statement_10 5 rfl rfl)
theorem dX8_statement_258 : decode cX8_statement 258 = .ok (.ldc 131, 2) := dk_18 131 (dk_at dksX8_statement_10 7 rfl rfl)
theorem dX8_statement_260 : decode cX8_statement 260 = .ok (.invokevirtual 97, 3) := dk_182 0 97 (dk_at dksX8_statement_10 9 rfl rfl)
theorem dX8_statement_263 : decode cX8_statement 263 = .ok (.ifCond .eq 7, 3) := dk_153 0 7 (dk_at dksX8_statement_10 12 rfl rfl)
theorem dX8_statement_266 : decode cX8_statement 266 = .ok (.bipush 6, 2) := dk_16 6 (dk_at dksX8_statement_10 15 rfl rfl)
theorem dX8_statement_268 : decode cX8_statement 268 = .ok (.istore 5, 2) := dk_54 5 (dk_at dksX8_statement_10 17 rfl rfl)
theorem dX8_statement_270 : decode cX8_statement 270 = .ok (.iload 5, 2) := dk_21 5 (dk_at dksX8_statement_10 19 rfl rfl)
theorem dX8_statement_272 : decode cX8_statement 272 = .ok (.tableswitch 205 0 6 #[44, 58, 102, 134, 152, 170, 188], 44) := by decide +kernel
theorem dX8_statement_316 : decode cX8_statement 316 = .ok (.aload_n 0, 1) := dk_42 (dk_at dksX8_statement_12 0 rfl rfl)
theorem dX8_statement_317 : decode cX8_statement 317 = .ok (.getfield 18, 3) := dk_180 0 18 (dk_at dksX8_statement_12 1 rfl rfl)
theorem dX8_statement_320 : decode cX8_statement 320 = .ok (.aload_n 0, 1) := dk_42 (dk_at dksX8_statement_12 4 rfl rfl)
theorem dX8_statement_321 : decode cX8_statement 321 = .ok (.invokevirtual 133, 3) := dk_182 0 133 (dk_at dksX8_statement_12 5 rfl rfl)
theorem dX8_statement_324 : decode cX8_statement 324 = .ok (.putfield 137, 3) := dk_181 0 137 (dk_at dksX8_statement_12 8 rfl rfl)
theorem dX8_statement_327 : decode cX8_statement 327 = .ok (.goto 159, 3) := dk_167 0 159 (dk_at dksX8_statement_12 11 rfl rfl)
theorem dX8_statement_330 : decode cX8_statement 330 = .ok (.aload_n 0, 1) := dk_42 (dk_at dksX8_statement_12 14 rfl rfl)
theorem dX8_statement_331 : decode cX8_statement 331 = .ok (.getfield 18, 3) := dk_180 0 18 (dk_at dksX8_statement_12 15 rfl rfl)
theorem dX8_statement_334 : decode cX8_statement 334 = .ok (.getfield 101, 3) := dk_180 0 101 (dk_at dksX8_statement_12 18 rfl rfl)
theorem dX8_statement_337 : decode cX8_statement 337 = .ok (.aload_n 0, 1) := dk_42 (dk_at dksX8_statement_12 21 rfl rfl)
theorem dX8_statement_338 : decode cX8_statement 338 = .ok (.invokevirtual 133, 3) := dk_182 0 133 (dk_at dksX8_statement_13 0 rfl rfl)
theorem dX8_statement_341 : decode cX8_statement 341 = .ok (.invokeinterface 115 2, 5) := by decide +kernel
theorem dX8_statement_346 : decode cX8_statement 346 = .ok (.pop, 1) := dk_87 (dk_at dksX8_statement_13 8 rfl rfl)
theorem dX8_statement_347 : decode cX8_statement 347 = .ok (.aload_n 0, 1) := dk_42 (dk_at dksX8_statement_13 9 rfl rfl)
theorem dX8_statement_348 : decode cX8_statement 348 = .ok (.getfield 18, 3) := dk_180 0 18 (dk_at dksX8_statement_13 10 rfl rfl)
theorem dX8_statement_351 : decode cX8_statement 351 = .ok (.getfield 140, 3) := dk_180 0 140 (dk_at dksX8_statement_13 13 rfl rfl)
theorem dX8_statement_354 : decode cX8_statement 354 = .ok (.aload_n 0, 1) := dk_42 (dk_at dksX8_statement_13 16 rfl rfl)
theorem dX8_statement_355 : decode cX8_statement 355 = .ok (.iconst 1, 1) := dk_4 (dk_at dksX8_statement_13 17 rfl rfl)
theorem dX8_statement_356 : decode cX8_statement 356 = .ok (.sipush 1000, 3) := dk_17 3 232 (dk_at dksX8_statement_13 18 rfl rfl)
theorem dX8_statement_359 : decode cX8_statement 359 = .ok (.invokevirtual 143, 3) := dk_182 0 143 (dk_at dksX8_statement_13 21 rfl rfl)
theorem dX8_statement_362 : decode cX8_statement 362 = .ok (.invokestatic 147, 3) := dk_184 0 147 (dk_at dksX8_statement_14 0 rfl rfl)
theorem dX8_statement_365 : decode cX8_statement 365 = .ok (.invokeinterface 115 2, 5) := by decide +kernel
theorem dX8_statement_370 : decode cX8_statement 370 = .ok (.pop, 1) := dk_87 (dk_at dksX8_statement_14 8 rfl rfl)
theorem dX8_statement_371 : decode cX8_statement 371 = .ok (.goto 115, 3) := dk_167 0 115 (dk_at dksX8_statement_14 9 rfl rfl)
theorem dX8_statement_374 : decode cX8_statement 374 = .ok (.aload_n 0, 1) := dk_42 (dk_at dksX8_statement_14 12 rfl rfl)
theorem dX8_statement_375 : decode cX8_statement 375 = .ok (.getfield 18, 3) := dk_180 0 18 (dk_at dksX8_statement_14 13 rfl rfl)
theorem dX8_statement_378 : decode cX8_statement 378 = .ok (.aload_n 0, 1) := dk_42 (dk_at dksX8_statement_14 16 rfl rfl)
theorem dX8_statement_379 : decode cX8_statement 379 = .ok (.bipush 100, 2) := dk_16 100 (dk_at dksX8_statement_14 17 rfl rfl)
theorem dX8_statement_381 : decode cX8_statement 381 = .ok (.ldc 153, 2) := dk_18 153 (dk_at dksX8_statement_14 19 rfl rfl)
theorem dX8_statement_383 : decode cX8_statement 383 = .ok (.invokevirtual 143, 3) := dk_182 0 143 (dk_at dksX8_statement_14 21 rfl rfl)
theorem dX8_statement_386 : decode cX8_statement 386 = .ok (.putfield 154, 3) := dk_181 0 154 (dk_at dksX8_statement_15 0 rfl rfl)
theorem dX8_statement_389 : decode cX8_statement 389 = .ok (.aload_n 0, 1) := dk_42 (dk_at dksX8_statement_15 3 rfl rfl)
theorem dX8_statement_390 : decode cX8_statement 390 = .ok (.getfield 18, 3) := dk_180 0 18 (dk_at dksX8_statement_15 4 rfl rfl)
theorem dX8_statement_393 : decode cX8_statement 393 = .ok (.aload_n 0, 1) := dk_42 (dk_at dksX8_statement_15 7 rfl rfl)
theorem dX8_statement_394 : decode cX8_statement 394 = .ok (.iconst 0, 1) := dk_3 (dk_at dksX8_statement_15 8 rfl rfl)
theorem dX8_statement_395 : decode cX8_statement 395 = .ok (.bipush 100, 2) := dk_16 100 (dk_at dksX8_statement_15 9 rfl rfl)
theorem dX8_statement_397 : decode cX8_statement 397 = .ok (.invokevirtual 143, 3) := dk_182 0 143 (dk_at dksX8_statement_15 11 rfl rfl)
theorem dX8_statement_400 : decode cX8_statement 400 = .ok (.putfield 157, 3) := dk_181 0 157 (dk_at dksX8_statement_15 14 rfl rfl)
theorem dX8_statement_403 : decode cX8_statement 403 = .ok (.goto 83, 3) := dk_167 0 83 (dk_at dksX8_statement_15 17 rfl rfl)
theorem dX8_statement_406 : decode cX8_statement 406 = .ok (.aload_n 0, 1) := dk_42 (dk_at dksX8_statement_15 20 rfl rfl)
theorem dX8_statement_407 : decode cX8_statement 407 = .ok (.getfield 18, 3) := dk_180 0 18 (dk_at dksX8_statement_15 21 rfl rfl)
theorem dX8_statement_410 : decode cX8_statement 410 = .ok (.aload_n 0, 1) := dk_42 (dk_at dksX8_statement_16 0 rfl rfl)
theorem dX8_statement_411 : decode cX8_statement 411 = .ok (.bipush 50, 2) := dk_16 50 (dk_at dksX8_statement_16 1 rfl rfl)
theorem dX8_statement_413 : decode cX8_statement 413 = .ok (.ldc 153, 2) := dk_18 153 (dk_at dksX8_statement_16 3 rfl rfl)
theorem dX8_statement_415 : decode cX8_statement 415 = .ok (.invokevirtual 143, 3) := dk_182 0 143 (dk_at dksX8_statement_16 5 rfl rfl)
theorem dX8_statement_418 : decode cX8_statement 418 = .ok (.putfield 160, 3) := dk_181 0 160 (dk_at dksX8_statement_16 8 rfl rfl)
theorem dX8_statement_421 : decode cX8_statement 421 = .ok (.goto 65, 3) := dk_167 0 65 (dk_at dksX8_statement_16 11 rfl rfl)
theorem dX8_statement_424 : decode cX8_statement 424 = .ok (.aload_n 0, 1) := dk_42 (dk_at dksX8_statement_16 14 rfl rfl)
theorem dX8_statement_425 : decode cX8_statement 425 = .ok (.getfield 18, 3) := dk_180 0 18 (dk_at dksX8_statement_16 15 rfl rfl)
theorem dX8_statement_428 : decode cX8_statement 428 = .ok (.aload_n 0, 1) := dk_42 (dk_at dksX8_statement_16 18 rfl rfl)
theorem dX8_statement_429 : decode cX8_statement 429 = .ok (.bipush 50, 2) := dk_16 50 (dk_at dksX8_statement_16 19 rfl rfl)
theorem dX8_statement_431 : decode cX8_statement 431 = .ok (.ldc 153, 2) := dk_18 153 (dk_at dksX8_statement_16 21 rfl rfl)
theorem dX8_statement_433 : decode cX8_statement 433 = .ok (.invokevirtual 143, 3) := dk_182 0 143 (dk_at dksX8_statement_17 0 rfl rfl)
theorem dX8_statement_436 : decode cX8_statement 436 = .ok (.putfield 163, 3) := dk_181 0 163 (dk_at dksX8_statement_17 3 rfl rfl)
theorem dX8_statement_439 : decode cX8_statement 439 = .ok (.goto 47, 3) := dk_167 0 47 (dk_at dksX8_statement_17 6 rfl rfl)
theorem dX8_statement_442 : decode cX8_statement 442 = .ok (.aload_n 0, 1) := dk_42 (dk_at dksX8_statement_17 9 rfl rfl)
theorem dX8_statement_443 : decode cX8_statement 443 = .ok (.getfield 18, 3) := dk_180 0 18 (dk_at dksX8_statement_17 10 rfl rfl)
theorem dX8_statement_446 : decode cX8_statement 446 = .ok (.aload_n 0, 1) := dk_42 (dk_at dksX8_statement_17 13 rfl rfl)
theorem dX8_statement_447 : decode cX8_statement 447 = .ok (.iconst 0, 1) := dk_3 (dk_at dksX8_statement_17 14 rfl rfl)
theorem dX8_statement_448 : decode cX8_statement 448 = .ok (.sipush 1000, 3) := dk_17 3 232 (dk_at dksX8_statement_17 15 rfl rfl)
theorem dX8_statement_451 : decode cX8_statement 451 = .ok (.invokevirtual 143, 3) := dk_182 0 143 (dk_at dksX8_statement_17 18 rfl rfl)
theorem dX8_statement_454 : decode cX8_statement 454 = .ok (.putfield 165, 3) := dk_181 0 165 (dk_at dksX8_statement_17 21 rfl rfl)
theorem dX8_statement_457 : decode cX8_statement 457 = .ok (.goto 29, 3) := dk_167 0 29 (dk_at dksX8_statement_18 0 rfl rfl)
theorem dX8_statement_460 : decode cX8_statement 460 = .ok (.aload_n 0, 1) := dk_42 (dk_at dksX8_statement_18 3 rfl rfl)
theorem dX8_statement_461 : decode cX8_statement 461 = .ok (.getfield 18, 3) := dk_180 0 18 (dk_at dksX8_statement_18 4 rfl rfl)
theorem dX8_statement_464 : decode cX8_statement 464 = .ok (.aload_n 0, 1) := dk_42 (dk_at dksX8_statement_18 7 rfl rfl)
theorem dX8_statement_465 : decode cX8_statement 465 = .ok (.iconst 0, 1) := dk_3 (dk_at dksX8_statement_18 8 rfl rfl)
theorem dX8_statement_466 : decode cX8_statement 466 = .ok (.ldc 167, 2) := dk_18 167 (dk_at dksX8_statement_18 9 rfl rfl)
theorem dX8_statement_468 : decode cX8_statement 468 = .ok (.invokevirtual 143, 3) := dk_182 0 143 (dk_at dksX8_statement_18 11 rfl rfl)
theorem dX8_statement_471 : decode cX8_statement 471 = .ok (.putfield 168, 3) := dk_181 0 168 (dk_at dksX8_statement_18 14 rfl rfl)
theorem dX8_statement_474 : decode cX8_statement 474 = .ok (.goto 12, 3) := dk_167 0 12 (dk_at dksX8_statement_18 17 rfl rfl)
theorem dX8_statement_477 : decode cX8_statement 477 = .ok (.new 72, 3) := dk_187 0 72 (dk_at dksX8_statement_18 20 rfl rfl)
theorem dX8_statement_480 : decode cX8_statement 480 = .ok (.dup, 1) := dk_89 (dk_at dksX8_statement_18 23 rfl rfl)
theorem dX8_statement_481 : decode cX8_statement 481 = .ok (.iload_n 2, 1) := dk_28 (dk_at dksX8_statement_19 0 rfl rfl)
theorem dX8_statement_482 : decode cX8_statement 482 = .ok (.invokespecial 74, 3) := dk_183 0 74 (dk_at dksX8_statement_19 1 rfl rfl)
theorem dX8_statement_485 : decode cX8_statement 485 = .ok (.athrow, 1) := dk_191 (dk_at dksX8_statement_19 4 rfl rfl)
theorem dX8_statement_486 : decode cX8_statement 486 = .ok (.return_, 1) := dk_177 (dk_at dksX8_statement_19 5 rfl rfl)
abbrev cX8_word : ByteArray := prog_13_method_4_code
def yX8_word : MethodName := ⟨RX8, "word", "()Ljava/lang/String;"⟩
def dkwX8_word_2 : List UInt8 := [181, 0, 31, 167, 255, 219, 43, 182, 0, 64, 176]
abbrev dktX8_word_2 : List UInt8 := dkwX8_word_2 ++ []
def dkwX8_word_1 : List UInt8 := [184, 0, 56, 153, 0, 26, 43, 42, 182, 0, 42, 146, 182, 0, 60, 87, 42, 89, 180, 0, 31, 4, 96]
abbrev dktX8_word_1 : List UInt8 := dkwX8_word_1 ++ dktX8_word_2
def dkwX8_word_0 : List UInt8 := [42, 182, 0, 46, 87, 187, 0, 49, 89, 183, 0, 51, 76, 42, 182, 0, 42, 133, 20, 0, 52, 20, 0, 54]
abbrev dktX8_word_0 : List UInt8 := dkwX8_word_0 ++ dktX8_word_1
theorem dksX8_word_0 : cX8_word.data.toList.drop 0 = dktX8_word_0 := by decide +kernel
theorem dksX8_word_1 : cX8_word.data.toList.drop 24 = dktX8_word_1 := dk_seg dksX8_word_0 24 rfl rfl
theorem dksX8_word_2 : cX8_word.data.toList.drop 47 = dktX8_word_2 := dk_seg dksX8_word_1 23 rfl rfl
theorem dX8_word_0 : decode cX8_word 0 = .ok (.aload_n 0, 1) := dk_42 (dk_at dksX8_word_0 0 rfl rfl)
theorem dX8_word_1 : decode cX8_word 1 = .ok (.invokevirtual 46, 3) := dk_182 0 46 (dk_at dksX8_word_0 1 rfl rfl)
theorem dX8_word_4 : decode cX8_word 4 = .ok (.pop, 1) := dk_87 (dk_at dksX8_word_0 4 rfl rfl)
theorem dX8_word_5 : decode cX8_word 5 = .ok (.new 49, 3) := dk_187 0 49 (dk_at dksX8_word_0 5 rfl rfl)
theorem dX8_word_8 : decode cX8_word 8 = .ok (.dup, 1) := dk_89 (dk_at dksX8_word_0 8 rfl rfl)
theorem dX8_word_9 : decode cX8_word 9 = .ok (.invokespecial 51, 3) := dk_183 0 51 (dk_at dksX8_word_0 9 rfl rfl)
theorem dX8_word_12 : decode cX8_word 12 = .ok (.astore_n 1, 1) := dk_76 (dk_at dksX8_word_0 12 rfl rfl)
theorem dX8_word_13 : decode cX8_word 13 = .ok (.aload_n 0, 1) := dk_42 (dk_at dksX8_word_0 13 rfl rfl)
theorem dX8_word_14 : decode cX8_word 14 = .ok (.invokevirtual 42, 3) := dk_182 0 42 (dk_at dksX8_word_0 14 rfl rfl)
theorem dX8_word_17 : decode cX8_word 17 = .ok (.i2l, 1) := dk_133 (dk_at dksX8_word_0 17 rfl rfl)
theorem dX8_word_18 : decode cX8_word 18 = .ok (.ldc2_w 52, 3) := dk_20 0 52 (dk_at dksX8_word_0 18 rfl rfl)
theorem dX8_word_21 : decode cX8_word 21 = .ok (.ldc2_w 54, 3) := dk_20 0 54 (dk_at dksX8_word_0 21 rfl rfl)
theorem dX8_word_24 : decode cX8_word 24 = .ok (.invokestatic 56, 3) := dk_184 0 56 (dk_at dksX8_word_1 0 rfl rfl)
theorem dX8_word_27 : decode cX8_word 27 = .ok (.ifCond .eq 26, 3) := dk_153 0 26 (dk_at dksX8_word_1 3 rfl rfl)
theorem dX8_word_30 : decode cX8_word 30 = .ok (.aload_n 1, 1) := dk_43 (dk_at dksX8_word_1 6 rfl rfl)
theorem dX8_word_31 : decode cX8_word 31 = .ok (.aload_n 0, 1) := dk_42 (dk_at dksX8_word_1 7 rfl rfl)
theorem dX8_word_32 : decode cX8_word 32 = .ok (.invokevirtual 42, 3) := dk_182 0 42 (dk_at dksX8_word_1 8 rfl rfl)
theorem dX8_word_35 : decode cX8_word 35 = .ok (.i2c, 1) := dk_146 (dk_at dksX8_word_1 11 rfl rfl)
theorem dX8_word_36 : decode cX8_word 36 = .ok (.invokevirtual 60, 3) := dk_182 0 60 (dk_at dksX8_word_1 12 rfl rfl)
theorem dX8_word_39 : decode cX8_word 39 = .ok (.pop, 1) := dk_87 (dk_at dksX8_word_1 15 rfl rfl)
theorem dX8_word_40 : decode cX8_word 40 = .ok (.aload_n 0, 1) := dk_42 (dk_at dksX8_word_1 16 rfl rfl)
theorem dX8_word_41 : decode cX8_word 41 = .ok (.dup, 1) := dk_89 (dk_at dksX8_word_1 17 rfl rfl)
theorem dX8_word_42 : decode cX8_word 42 = .ok (.getfield 31, 3) := dk_180 0 31 (dk_at dksX8_word_1 18 rfl rfl)
theorem dX8_word_45 : decode cX8_word 45 = .ok (.iconst 1, 1) := dk_4 (dk_at dksX8_word_1 21 rfl rfl)
theorem dX8_word_46 : decode cX8_word 46 = .ok (.iadd, 1) := dk_96 (dk_at dksX8_word_1 22 rfl rfl)
theorem dX8_word_47 : decode cX8_word 47 = .ok (.putfield 31, 3) := dk_181 0 31 (dk_at dksX8_word_2 0 rfl rfl)
theorem dX8_word_50 : decode cX8_word 50 = .ok (.goto (-37), 3) := dk_167 255 219 (dk_at dksX8_word_2 3 rfl rfl)
theorem dX8_word_53 : decode cX8_word 53 = .ok (.aload_n 1, 1) := dk_43 (dk_at dksX8_word_2 6 rfl rfl)
theorem dX8_word_54 : decode cX8_word 54 = .ok (.invokevirtual 64, 3) := dk_182 0 64 (dk_at dksX8_word_2 7 rfl rfl)
theorem dX8_word_57 : decode cX8_word 57 = .ok (.areturn, 1) := dk_176 (dk_at dksX8_word_2 10 rfl rfl)
abbrev cX8_next : ByteArray := prog_13_method_3_code
def yX8_next : MethodName := ⟨RX8, "next", "()I"⟩
def dkwX8_next_1 : List UInt8 := [182, 0, 42, 172]
abbrev dktX8_next_1 : List UInt8 := dkwX8_next_1 ++ []
def dkwX8_next_0 : List UInt8 := [42, 182, 0, 42, 16, 32, 160, 0, 16, 42, 89, 180, 0, 31, 4, 96, 181, 0, 31, 167, 255, 237, 42]
abbrev dktX8_next_0 : List UInt8 := dkwX8_next_0 ++ dktX8_next_1
theorem dksX8_next_0 : cX8_next.data.toList.drop 0 = dktX8_next_0 := by decide +kernel
theorem dksX8_next_1 : cX8_next.data.toList.drop 23 = dktX8_next_1 := dk_seg dksX8_next_0 23 rfl rfl
theorem dX8_next_0 : decode cX8_next 0 = .ok (.aload_n 0, 1) := dk_42 (dk_at dksX8_next_0 0 rfl rfl)
theorem dX8_next_1 : decode cX8_next 1 = .ok (.invokevirtual 42, 3) := dk_182 0 42 (dk_at dksX8_next_0 1 rfl rfl)
theorem dX8_next_4 : decode cX8_next 4 = .ok (.bipush 32, 2) := dk_16 32 (dk_at dksX8_next_0 4 rfl rfl)
theorem dX8_next_6 : decode cX8_next 6 = .ok (.if_icmp .ne 16, 3) := dk_160 0 16 (dk_at dksX8_next_0 6 rfl rfl)
theorem dX8_next_9 : decode cX8_next 9 = .ok (.aload_n 0, 1) := dk_42 (dk_at dksX8_next_0 9 rfl rfl)
theorem dX8_next_10 : decode cX8_next 10 = .ok (.dup, 1) := dk_89 (dk_at dksX8_next_0 10 rfl rfl)
theorem dX8_next_11 : decode cX8_next 11 = .ok (.getfield 31, 3) := dk_180 0 31 (dk_at dksX8_next_0 11 rfl rfl)
theorem dX8_next_14 : decode cX8_next 14 = .ok (.iconst 1, 1) := dk_4 (dk_at dksX8_next_0 14 rfl rfl)
theorem dX8_next_15 : decode cX8_next 15 = .ok (.iadd, 1) := dk_96 (dk_at dksX8_next_0 15 rfl rfl)
theorem dX8_next_16 : decode cX8_next 16 = .ok (.putfield 31, 3) := dk_181 0 31 (dk_at dksX8_next_0 16 rfl rfl)
theorem dX8_next_19 : decode cX8_next 19 = .ok (.goto (-19), 3) := dk_167 255 237 (dk_at dksX8_next_0 19 rfl rfl)
theorem dX8_next_22 : decode cX8_next 22 = .ok (.aload_n 0, 1) := dk_42 (dk_at dksX8_next_0 22 rfl rfl)
theorem dX8_next_23 : decode cX8_next 23 = .ok (.invokevirtual 42, 3) := dk_182 0 42 (dk_at dksX8_next_1 0 rfl rfl)
theorem dX8_next_26 : decode cX8_next 26 = .ok (.ireturn, 1) := dk_172 (dk_at dksX8_next_1 3 rfl rfl)
abbrev cX8_here : ByteArray := prog_13_method_2_code
def yX8_here : MethodName := ⟨RX8, "here", "()I"⟩
def dkwX8_here_1 : List UInt8 := [180, 0, 31, 51, 17, 0, 255, 126, 167, 0, 4, 2, 172]
abbrev dktX8_here_1 : List UInt8 := dkwX8_here_1 ++ []
def dkwX8_here_0 : List UInt8 := [42, 180, 0, 31, 42, 180, 0, 3, 180, 0, 35, 162, 0, 22, 42, 180, 0, 3, 180, 0, 38, 42]
abbrev dktX8_here_0 : List UInt8 := dkwX8_here_0 ++ dktX8_here_1
theorem dksX8_here_0 : cX8_here.data.toList.drop 0 = dktX8_here_0 := by decide +kernel
theorem dksX8_here_1 : cX8_here.data.toList.drop 22 = dktX8_here_1 := dk_seg dksX8_here_0 22 rfl rfl
theorem dX8_here_0 : decode cX8_here 0 = .ok (.aload_n 0, 1) := dk_42 (dk_at dksX8_here_0 0 rfl rfl)
theorem dX8_here_1 : decode cX8_here 1 = .ok (.getfield 31, 3) := dk_180 0 31 (dk_at dksX8_here_0 1 rfl rfl)
theorem dX8_here_4 : decode cX8_here 4 = .ok (.aload_n 0, 1) := dk_42 (dk_at dksX8_here_0 4 rfl rfl)
theorem dX8_here_5 : decode cX8_here 5 = .ok (.getfield 3, 3) := dk_180 0 3 (dk_at dksX8_here_0 5 rfl rfl)
theorem dX8_here_8 : decode cX8_here 8 = .ok (.getfield 35, 3) := dk_180 0 35 (dk_at dksX8_here_0 8 rfl rfl)
theorem dX8_here_11 : decode cX8_here 11 = .ok (.if_icmp .ge 22, 3) := dk_162 0 22 (dk_at dksX8_here_0 11 rfl rfl)
theorem dX8_here_14 : decode cX8_here 14 = .ok (.aload_n 0, 1) := dk_42 (dk_at dksX8_here_0 14 rfl rfl)
theorem dX8_here_15 : decode cX8_here 15 = .ok (.getfield 3, 3) := dk_180 0 3 (dk_at dksX8_here_0 15 rfl rfl)
theorem dX8_here_18 : decode cX8_here 18 = .ok (.getfield 38, 3) := dk_180 0 38 (dk_at dksX8_here_0 18 rfl rfl)
theorem dX8_here_21 : decode cX8_here 21 = .ok (.aload_n 0, 1) := dk_42 (dk_at dksX8_here_0 21 rfl rfl)
theorem dX8_here_22 : decode cX8_here 22 = .ok (.getfield 31, 3) := dk_180 0 31 (dk_at dksX8_here_1 0 rfl rfl)
theorem dX8_here_25 : decode cX8_here 25 = .ok (.baload, 1) := dk_51 (dk_at dksX8_here_1 3 rfl rfl)
theorem dX8_here_26 : decode cX8_here 26 = .ok (.sipush 255, 3) := dk_17 0 255 (dk_at dksX8_here_1 4 rfl rfl)
theorem dX8_here_29 : decode cX8_here 29 = .ok (.iand, 1) := dk_126 (dk_at dksX8_here_1 7 rfl rfl)
theorem dX8_here_30 : decode cX8_here 30 = .ok (.goto 4, 3) := dk_167 0 4 (dk_at dksX8_here_1 8 rfl rfl)
theorem dX8_here_33 : decode cX8_here 33 = .ok (.iconst (-1), 1) := dk_2 (dk_at dksX8_here_1 11 rfl rfl)
theorem dX8_here_34 : decode cX8_here 34 = .ok (.ireturn, 1) := dk_172 (dk_at dksX8_here_1 12 rfl rfl)
abbrev cX8_clock : ByteArray := prog_13_method_7_code
def yX8_clock : MethodName := ⟨RX8, "clock", "()LLeaderLeases$Clock;"⟩
def dkwX8_clock_1 : List UInt8 := [183, 0, 173, 176]
abbrev dktX8_clock_1 : List UInt8 := dkwX8_clock_1 ++ []
def dkwX8_clock_0 : List UInt8 := [42, 17, 3, 132, 17, 4, 76, 182, 0, 143, 60, 187, 0, 170, 89, 27, 42, 3, 18, 172, 182, 0, 143]
abbrev dktX8_clock_0 : List UInt8 := dkwX8_clock_0 ++ dktX8_clock_1
theorem dksX8_clock_0 : cX8_clock.data.toList.drop 0 = dktX8_clock_0 := by decide +kernel
theorem dksX8_clock_1 : cX8_clock.data.toList.drop 23 = dktX8_clock_1 := dk_seg dksX8_clock_0 23 rfl rfl
theorem dX8_clock_0 : decode cX8_clock 0 = .ok (.aload_n 0, 1) := dk_42 (dk_at dksX8_clock_0 0 rfl rfl)
theorem dX8_clock_1 : decode cX8_clock 1 = .ok (.sipush 900, 3) := dk_17 3 132 (dk_at dksX8_clock_0 1 rfl rfl)
theorem dX8_clock_4 : decode cX8_clock 4 = .ok (.sipush 1100, 3) := dk_17 4 76 (dk_at dksX8_clock_0 4 rfl rfl)
theorem dX8_clock_7 : decode cX8_clock 7 = .ok (.invokevirtual 143, 3) := dk_182 0 143 (dk_at dksX8_clock_0 7 rfl rfl)
theorem dX8_clock_10 : decode cX8_clock 10 = .ok (.istore_n 1, 1) := dk_60 (dk_at dksX8_clock_0 10 rfl rfl)
theorem dX8_clock_11 : decode cX8_clock 11 = .ok (.new 170, 3) := dk_187 0 170 (dk_at dksX8_clock_0 11 rfl rfl)
theorem dX8_clock_14 : decode cX8_clock 14 = .ok (.dup, 1) := dk_89 (dk_at dksX8_clock_0 14 rfl rfl)
theorem dX8_clock_15 : decode cX8_clock 15 = .ok (.iload_n 1, 1) := dk_27 (dk_at dksX8_clock_0 15 rfl rfl)
theorem dX8_clock_16 : decode cX8_clock 16 = .ok (.aload_n 0, 1) := dk_42 (dk_at dksX8_clock_0 16 rfl rfl)
theorem dX8_clock_17 : decode cX8_clock 17 = .ok (.iconst 0, 1) := dk_3 (dk_at dksX8_clock_0 17 rfl rfl)
theorem dX8_clock_18 : decode cX8_clock 18 = .ok (.ldc 172, 2) := dk_18 172 (dk_at dksX8_clock_0 18 rfl rfl)
theorem dX8_clock_20 : decode cX8_clock 20 = .ok (.invokevirtual 143, 3) := dk_182 0 143 (dk_at dksX8_clock_0 20 rfl rfl)
theorem dX8_clock_23 : decode cX8_clock 23 = .ok (.invokespecial 173, 3) := dk_183 0 173 (dk_at dksX8_clock_1 0 rfl rfl)
theorem dX8_clock_26 : decode cX8_clock 26 = .ok (.areturn, 1) := dk_176 (dk_at dksX8_clock_1 3 rfl rfl)
abbrev cX8_number : ByteArray := prog_13_method_5_code
def yX8_number : MethodName := ⟨RX8, "number", "(II)I"⟩
def dkwX8_number_4 : List UInt8 := [27, 133, 28, 133, 184, 0, 56, 154, 0, 12, 187, 0, 85, 89, 29, 183, 0, 87, 191, 22, 4, 136, 172]
abbrev dktX8_number_4 : List UInt8 := dkwX8_number_4 ++ []
def dkwX8_number_3 : List UInt8 := [20, 0, 68, 101, 184, 0, 79, 55, 4, 42, 89, 180, 0, 31, 4, 96, 181, 0, 31, 167, 255, 205, 22, 4]
abbrev dktX8_number_3 : List UInt8 := dkwX8_number_3 ++ dktX8_number_4
def dkwX8_number_2 : List UInt8 := [20, 0, 70, 184, 0, 56, 153, 0, 40, 20, 0, 75, 20, 0, 77, 22, 4, 105, 42, 182, 0, 42, 133, 97]
abbrev dktX8_number_2 : List UInt8 := dkwX8_number_2 ++ dktX8_number_3
def dkwX8_number_1 : List UInt8 := [180, 0, 31, 183, 0, 74, 191, 42, 180, 0, 31, 62, 9, 55, 4, 42, 182, 0, 42, 133, 20, 0, 68]
abbrev dktX8_number_1 : List UInt8 := dkwX8_number_1 ++ dktX8_number_2
def dkwX8_number_0 : List UInt8 := [42, 182, 0, 46, 133, 20, 0, 68, 20, 0, 70, 184, 0, 56, 154, 0, 15, 187, 0, 72, 89, 42]
abbrev dktX8_number_0 : List UInt8 := dkwX8_number_0 ++ dktX8_number_1
theorem dksX8_number_0 : cX8_number.data.toList.drop 0 = dktX8_number_0 := by decide +kernel
theorem dksX8_number_1 : cX8_number.data.toList.drop 22 = dktX8_number_1 := dk_seg dksX8_number_0 22 rfl rfl
theorem dksX8_number_2 : cX8_number.data.toList.drop 45 = dktX8_number_2 := dk_seg dksX8_number_1 23 rfl rfl
theorem dksX8_number_3 : cX8_number.data.toList.drop 69 = dktX8_number_3 := dk_seg dksX8_number_2 24 rfl rfl
theorem dksX8_number_4 : cX8_number.data.toList.drop 93 = dktX8_number_4 := dk_seg dksX8_number_3 24 rfl rfl
theorem dX8_number_0 : decode cX8_number 0 = .ok (.aload_n 0, 1) := dk_42 (dk_at dksX8_number_0 0 rfl rfl)
theorem dX8_number_1 : decode cX8_number 1 = .ok (.invokevirtual 46, 3) := dk_182 0 46 (dk_at dksX8_number_0 1 rfl rfl)
theorem dX8_number_4 : decode cX8_number 4 = .ok (.i2l, 1) := dk_133 (dk_at dksX8_number_0 4 rfl rfl)
theorem dX8_number_5 : decode cX8_number 5 = .ok (.ldc2_w 68, 3) := dk_20 0 68 (dk_at dksX8_number_0 5 rfl rfl)
theorem dX8_number_8 : decode cX8_number 8 = .ok (.ldc2_w 70, 3) := dk_20 0 70 (dk_at dksX8_number_0 8 rfl rfl)
theorem dX8_number_11 : decode cX8_number 11 = .ok (.invokestatic 56, 3) := dk_184 0 56 (dk_at dksX8_number_0 11 rfl rfl)
theorem dX8_number_14 : decode cX8_number 14 = .ok (.ifCond .ne 15, 3) := dk_154 0 15 (dk_at dksX8_number_0 14 rfl rfl)
theorem dX8_number_17 : decode cX8_number 17 = .ok (.new 72, 3) := dk_187 0 72 (dk_at dksX8_number_0 17 rfl rfl)
theorem dX8_number_20 : decode cX8_number 20 = .ok (.dup, 1) := dk_89 (dk_at dksX8_number_0 20 rfl rfl)
theorem dX8_number_21 : decode cX8_number 21 = .ok (.aload_n 0, 1) := dk_42 (dk_at dksX8_number_0 21 rfl rfl)
theorem dX8_number_22 : decode cX8_number 22 = .ok (.getfield 31, 3) := dk_180 0 31 (dk_at dksX8_number_1 0 rfl rfl)
theorem dX8_number_25 : decode cX8_number 25 = .ok (.invokespecial 74, 3) := dk_183 0 74 (dk_at dksX8_number_1 3 rfl rfl)
theorem dX8_number_28 : decode cX8_number 28 = .ok (.athrow, 1) := dk_191 (dk_at dksX8_number_1 6 rfl rfl)
theorem dX8_number_29 : decode cX8_number 29 = .ok (.aload_n 0, 1) := dk_42 (dk_at dksX8_number_1 7 rfl rfl)
theorem dX8_number_30 : decode cX8_number 30 = .ok (.getfield 31, 3) := dk_180 0 31 (dk_at dksX8_number_1 8 rfl rfl)
theorem dX8_number_33 : decode cX8_number 33 = .ok (.istore_n 3, 1) := dk_62 (dk_at dksX8_number_1 11 rfl rfl)
theorem dX8_number_34 : decode cX8_number 34 = .ok (.lconst 0, 1) := dk_9 (dk_at dksX8_number_1 12 rfl rfl)
theorem dX8_number_35 : decode cX8_number 35 = .ok (.lstore 4, 2) := dk_55 4 (dk_at dksX8_number_1 13 rfl rfl)
theorem dX8_number_37 : decode cX8_number 37 = .ok (.aload_n 0, 1) := dk_42 (dk_at dksX8_number_1 15 rfl rfl)
theorem dX8_number_38 : decode cX8_number 38 = .ok (.invokevirtual 42, 3) := dk_182 0 42 (dk_at dksX8_number_1 16 rfl rfl)
theorem dX8_number_41 : decode cX8_number 41 = .ok (.i2l, 1) := dk_133 (dk_at dksX8_number_1 19 rfl rfl)
theorem dX8_number_42 : decode cX8_number 42 = .ok (.ldc2_w 68, 3) := dk_20 0 68 (dk_at dksX8_number_1 20 rfl rfl)
theorem dX8_number_45 : decode cX8_number 45 = .ok (.ldc2_w 70, 3) := dk_20 0 70 (dk_at dksX8_number_2 0 rfl rfl)
theorem dX8_number_48 : decode cX8_number 48 = .ok (.invokestatic 56, 3) := dk_184 0 56 (dk_at dksX8_number_2 3 rfl rfl)
theorem dX8_number_51 : decode cX8_number 51 = .ok (.ifCond .eq 40, 3) := dk_153 0 40 (dk_at dksX8_number_2 6 rfl rfl)
theorem dX8_number_54 : decode cX8_number 54 = .ok (.ldc2_w 75, 3) := dk_20 0 75 (dk_at dksX8_number_2 9 rfl rfl)
theorem dX8_number_57 : decode cX8_number 57 = .ok (.ldc2_w 77, 3) := dk_20 0 77 (dk_at dksX8_number_2 12 rfl rfl)
theorem dX8_number_60 : decode cX8_number 60 = .ok (.lload 4, 2) := dk_22 4 (dk_at dksX8_number_2 15 rfl rfl)
theorem dX8_number_62 : decode cX8_number 62 = .ok (.lmul, 1) := dk_105 (dk_at dksX8_number_2 17 rfl rfl)
theorem dX8_number_63 : decode cX8_number 63 = .ok (.aload_n 0, 1) := dk_42 (dk_at dksX8_number_2 18 rfl rfl)
theorem dX8_number_64 : decode cX8_number 64 = .ok (.invokevirtual 42, 3) := dk_182 0 42 (dk_at dksX8_number_2 19 rfl rfl)
theorem dX8_number_67 : decode cX8_number 67 = .ok (.i2l, 1) := dk_133 (dk_at dksX8_number_2 22 rfl rfl)
theorem dX8_number_68 : decode cX8_number 68 = .ok (.ladd, 1) := dk_97 (dk_at dksX8_number_2 23 rfl rfl)
theorem dX8_number_69 : decode cX8_number 69 = .ok (.ldc2_w 68, 3) := dk_20 0 68 (dk_at dksX8_number_3 0 rfl rfl)
theorem dX8_number_72 : decode cX8_number 72 = .ok (.lsub, 1) := dk_101 (dk_at dksX8_number_3 3 rfl rfl)
theorem dX8_number_73 : decode cX8_number 73 = .ok (.invokestatic 79, 3) := dk_184 0 79 (dk_at dksX8_number_3 4 rfl rfl)
theorem dX8_number_76 : decode cX8_number 76 = .ok (.lstore 4, 2) := dk_55 4 (dk_at dksX8_number_3 7 rfl rfl)
theorem dX8_number_78 : decode cX8_number 78 = .ok (.aload_n 0, 1) := dk_42 (dk_at dksX8_number_3 9 rfl rfl)
theorem dX8_number_79 : decode cX8_number 79 = .ok (.dup, 1) := dk_89 (dk_at dksX8_number_3 10 rfl rfl)
theorem dX8_number_80 : decode cX8_number 80 = .ok (.getfield 31, 3) := dk_180 0 31 (dk_at dksX8_number_3 11 rfl rfl)
theorem dX8_number_83 : decode cX8_number 83 = .ok (.iconst 1, 1) := dk_4 (dk_at dksX8_number_3 14 rfl rfl)
theorem dX8_number_84 : decode cX8_number 84 = .ok (.iadd, 1) := dk_96 (dk_at dksX8_number_3 15 rfl rfl)
theorem dX8_number_85 : decode cX8_number 85 = .ok (.putfield 31, 3) := dk_181 0 31 (dk_at dksX8_number_3 16 rfl rfl)
theorem dX8_number_88 : decode cX8_number 88 = .ok (.goto (-51), 3) := dk_167 255 205 (dk_at dksX8_number_3 19 rfl rfl)
theorem dX8_number_91 : decode cX8_number 91 = .ok (.lload 4, 2) := dk_22 4 (dk_at dksX8_number_3 22 rfl rfl)
theorem dX8_number_93 : decode cX8_number 93 = .ok (.iload_n 1, 1) := dk_27 (dk_at dksX8_number_4 0 rfl rfl)
theorem dX8_number_94 : decode cX8_number 94 = .ok (.i2l, 1) := dk_133 (dk_at dksX8_number_4 1 rfl rfl)
theorem dX8_number_95 : decode cX8_number 95 = .ok (.iload_n 2, 1) := dk_28 (dk_at dksX8_number_4 2 rfl rfl)
theorem dX8_number_96 : decode cX8_number 96 = .ok (.i2l, 1) := dk_133 (dk_at dksX8_number_4 3 rfl rfl)
theorem dX8_number_97 : decode cX8_number 97 = .ok (.invokestatic 56, 3) := dk_184 0 56 (dk_at dksX8_number_4 4 rfl rfl)
theorem dX8_number_100 : decode cX8_number 100 = .ok (.ifCond .ne 12, 3) := dk_154 0 12 (dk_at dksX8_number_4 7 rfl rfl)
theorem dX8_number_103 : decode cX8_number 103 = .ok (.new 85, 3) := dk_187 0 85 (dk_at dksX8_number_4 10 rfl rfl)
theorem dX8_number_106 : decode cX8_number 106 = .ok (.dup, 1) := dk_89 (dk_at dksX8_number_4 13 rfl rfl)
theorem dX8_number_107 : decode cX8_number 107 = .ok (.iload_n 3, 1) := dk_29 (dk_at dksX8_number_4 14 rfl rfl)
theorem dX8_number_108 : decode cX8_number 108 = .ok (.invokespecial 87, 3) := dk_183 0 87 (dk_at dksX8_number_4 15 rfl rfl)
theorem dX8_number_111 : decode cX8_number 111 = .ok (.athrow, 1) := dk_191 (dk_at dksX8_number_4 18 rfl rfl)
theorem dX8_number_112 : decode cX8_number 112 = .ok (.lload 4, 2) := dk_22 4 (dk_at dksX8_number_4 19 rfl rfl)
theorem dX8_number_114 : decode cX8_number 114 = .ok (.l2i, 1) := dk_136 (dk_at dksX8_number_4 21 rfl rfl)
theorem dX8_number_115 : decode cX8_number 115 = .ok (.ireturn, 1) := dk_172 (dk_at dksX8_number_4 22 rfl rfl)
theorem q118 : (Jvm.Cond.initialized "LeaderLeases$Parser") ∈ lw_all := lw_g (lw_at lw_m1 29 rfl) rfl
theorem q519 : (Jvm.Cond.fieldLinkNest "LeaderLeases$Parser" (137 : Nat) "LeaderLeases$Configuration" "server" "LLeaderLeases$Clock;" "LeaderLeases") ∈ lw_tbl := lw_at lw_m2 190 rfl
theorem q524 : (Jvm.Cond.fieldLinkNest "LeaderLeases$Parser" (101 : Nat) "LeaderLeases$Configuration" "clocks" "Ljava/util/List;" "LeaderLeases") ∈ lw_tbl := lw_at lw_m2 195 rfl
theorem q528 : (Jvm.Cond.fieldLinkNest "LeaderLeases$Parser" (140 : Nat) "LeaderLeases$Configuration" "delays" "Ljava/util/List;" "LeaderLeases") ∈ lw_tbl := lw_at lw_m2 199 rfl
theorem q530 : (Jvm.Cond.fieldLinkNest "LeaderLeases$Parser" (154 : Nat) "LeaderLeases$Configuration" "duration" "I" "LeaderLeases") ∈ lw_tbl := lw_at lw_m2 201 rfl
theorem q533 : (Jvm.Cond.fieldLinkNest "LeaderLeases$Parser" (157 : Nat) "LeaderLeases$Configuration" "bound" "I" "LeaderLeases") ∈ lw_tbl := lw_at lw_m2 204 rfl
theorem q536 : (Jvm.Cond.fieldLinkNest "LeaderLeases$Parser" (160 : Nat) "LeaderLeases$Configuration" "renewal" "I" "LeaderLeases") ∈ lw_tbl := lw_at lw_m2 207 rfl
theorem q540 : (Jvm.Cond.fieldLinkNest "LeaderLeases$Parser" (163 : Nat) "LeaderLeases$Configuration" "retry" "I" "LeaderLeases") ∈ lw_tbl := lw_at lw_m2 211 rfl
theorem q542 : (Jvm.Cond.fieldLinkNest "LeaderLeases$Parser" (165 : Nat) "LeaderLeases$Configuration" "jitter" "I" "LeaderLeases") ∈ lw_tbl := lw_at lw_m2 213 rfl
theorem q545 : (Jvm.Cond.fieldLinkNest "LeaderLeases$Parser" (168 : Nat) "LeaderLeases$Configuration" "seed" "I" "LeaderLeases") ∈ lw_tbl := lw_at lw_m2 216 rfl
theorem q609 : (Jvm.Cond.selects "LeaderLeases$Parser" ({ cls := "java/lang/Object", name := "getClass", desc := "()Ljava/lang/Class;" } : Jvm.MethodName) ({ cls := "java/lang/Object", name := "getClass", desc := "()Ljava/lang/Class;" } : Jvm.MethodName)) ∈ lw_all := lw_g (lw_at lw_m3 40 rfl) rfl
theorem q872 : (Jvm.Cond.fieldLinkNest "LeaderLeases$Parser" (38 : Nat) "LeaderLeases" "buffer" "[B" "LeaderLeases") ∈ lw_tbl := lw_at lw_m4 63 rfl
theorem q874 : (Jvm.Cond.fieldLinkNest "LeaderLeases$Parser" (35 : Nat) "LeaderLeases" "length" "I" "LeaderLeases") ∈ lw_tbl := lw_at lw_m4 65 rfl
theorem q896 : (Jvm.Cond.instantiable "LeaderLeases$Parser" (4 : Nat)) ∈ lw_all := lw_g (lw_at lw_m4 87 rfl) rfl
theorem q898 : (Jvm.Cond.instanceMethod ({ cls := "LeaderLeases$Parser", name := "<init>", desc := "(LLeaderLeases;)V" } : Jvm.MethodName)) ∈ lw_all := lw_g (lw_at lw_m4 89 rfl) rfl
theorem q899 : (Jvm.Cond.code ({ cls := "LeaderLeases$Parser", name := "<init>", desc := "(LLeaderLeases;)V" } : Jvm.MethodName) prog_13_method_1_code (2 : Nat) (Option.none : Option Jvm.ClassFile.FieldType)) ∈ lw_all := lw_g (lw_at lw_m4 90 rfl) rfl
theorem q900 : (Jvm.Cond.methodLink "LeaderLeases$Parser" (9 : Nat) ({ cls := "java/lang/Object", name := "<init>", desc := "()V" } : Jvm.MethodName)) ∈ lw_all := lw_g (lw_at lw_m4 91 rfl) rfl
theorem q901 : (Jvm.Cond.classLink "LeaderLeases$Parser" (15 : Nat) "LeaderLeases$Configuration") ∈ lw_all := lw_g (lw_at lw_m4 92 rfl) rfl
theorem q902 : (Jvm.Cond.methodLinkNest "LeaderLeases$Parser" (17 : Nat) ({ cls := "LeaderLeases$Configuration", name := "<init>", desc := "()V" } : Jvm.MethodName) "LeaderLeases") ∈ lw_tbl := lw_at lw_m4 93 rfl
theorem q903 : (Jvm.Cond.classLink "LeaderLeases$Parser" (22 : Nat) "java/util/ArrayList") ∈ lw_all := lw_g (lw_at lw_m4 94 rfl) rfl
theorem q904 : (Jvm.Cond.methodLink "LeaderLeases$Parser" (24 : Nat) ({ cls := "java/util/ArrayList", name := "<init>", desc := "(I)V" } : Jvm.MethodName)) ∈ lw_all := lw_g (lw_at lw_m4 95 rfl) rfl
theorem q905 : (Jvm.Cond.fieldLink "LeaderLeases$Parser" (18 : Nat) "LeaderLeases$Parser" "read" "LLeaderLeases$Configuration;") ∈ lw_all := lw_g (lw_at lw_m4 96 rfl) rfl
theorem q906 : (Jvm.Cond.fieldLink "LeaderLeases$Parser" (27 : Nat) "LeaderLeases$Parser" "had" "Ljava/util/List;") ∈ lw_all := lw_g (lw_at lw_m4 97 rfl) rfl
theorem q907 : (Jvm.Cond.fieldLink "LeaderLeases$Parser" (31 : Nat) "LeaderLeases$Parser" "at" "I") ∈ lw_all := lw_g (lw_at lw_m4 98 rfl) rfl
theorem q908 : (Jvm.Cond.fieldLink "LeaderLeases$Parser" (3 : Nat) "LeaderLeases$Parser" "this$0" "LLeaderLeases;") ∈ lw_all := lw_g (lw_at lw_m4 99 rfl) rfl
theorem q909 : (Jvm.Cond.laysFinal "LeaderLeases$Parser" "LeaderLeases$Parser" "read" "LLeaderLeases$Configuration;") ∈ lw_all := lw_g (lw_at lw_m4 100 rfl) rfl
theorem q910 : (Jvm.Cond.soleField "LeaderLeases$Parser" "read") ∈ lw_all := lw_g (lw_at lw_m4 101 rfl) rfl
theorem q911 : (Jvm.Cond.laysFinal "LeaderLeases$Parser" "LeaderLeases$Parser" "had" "Ljava/util/List;") ∈ lw_all := lw_g (lw_at lw_m4 102 rfl) rfl
theorem q912 : (Jvm.Cond.soleField "LeaderLeases$Parser" "had") ∈ lw_all := lw_g (lw_at lw_m4 103 rfl) rfl
theorem q913 : (Jvm.Cond.lays "LeaderLeases$Parser" "LeaderLeases$Parser" "at" "I") ∈ lw_all := lw_g (lw_at lw_m4 104 rfl) rfl
theorem q914 : (Jvm.Cond.soleField "LeaderLeases$Parser" "at") ∈ lw_all := lw_g (lw_at lw_m4 105 rfl) rfl
theorem q915 : (Jvm.Cond.laysFinal "LeaderLeases$Parser" "LeaderLeases$Parser" "this$0" "LLeaderLeases;") ∈ lw_all := lw_g (lw_at lw_m4 106 rfl) rfl
theorem q916 : (Jvm.Cond.soleField "LeaderLeases$Parser" "this$0") ∈ lw_all := lw_g (lw_at lw_m4 107 rfl) rfl
theorem q917 : (Jvm.Cond.superclass "LeaderLeases$Parser" "java/lang/Object") ∈ lw_all := lw_g (lw_at lw_m4 108 rfl) rfl
theorem q919 : (Jvm.Cond.instanceMethod ({ cls := "LeaderLeases$Parser", name := "configuration", desc := "()LLeaderLeases$Configuration;" } : Jvm.MethodName)) ∈ lw_all := lw_g (lw_at lw_m4 110 rfl) rfl
theorem q920 : (Jvm.Cond.selects "LeaderLeases$Parser" ({ cls := "LeaderLeases$Parser", name := "configuration", desc := "()LLeaderLeases$Configuration;" } : Jvm.MethodName) ({ cls := "LeaderLeases$Parser", name := "configuration", desc := "()LLeaderLeases$Configuration;" } : Jvm.MethodName)) ∈ lw_all := lw_g (lw_at lw_m4 111 rfl) rfl
theorem q921 : (Jvm.Cond.codeWith ({ cls := "LeaderLeases$Parser", name := "configuration", desc := "()LLeaderLeases$Configuration;" } : Jvm.MethodName) prog_13_method_9_code (2 : Nat) (Option.some (Jvm.ClassFile.FieldType.object "LeaderLeases$Configuration")) [((0 : Nat), (38 : Nat), (39 : Nat), (72 : Nat)), ((0 : Nat), (38 : Nat), (39 : Nat), (85 : Nat)), ((0 : Nat), (38 : Nat), (49 : Nat), (112 : Nat)), ((0 : Nat), (38 : Nat), (49 : Nat), (186 : Nat))]) ∈ lw_all := lw_g (lw_at lw_m4 112 rfl) rfl
theorem q922 : (Jvm.Cond.classLink "LeaderLeases$Parser" (72 : Nat) "LeaderLeases$SyntaxError") ∈ lw_all := lw_g (lw_at lw_m4 113 rfl) rfl
theorem q923 : (Jvm.Cond.classLink "LeaderLeases$Parser" (85 : Nat) "LeaderLeases$RangeError") ∈ lw_all := lw_g (lw_at lw_m4 114 rfl) rfl
theorem q924 : (Jvm.Cond.classLink "LeaderLeases$Parser" (112 : Nat) "LeaderLeases$RepetitionError") ∈ lw_all := lw_g (lw_at lw_m4 115 rfl) rfl
theorem q925 : (Jvm.Cond.classLink "LeaderLeases$Parser" (186 : Nat) "LeaderLeases$MissingNode") ∈ lw_all := lw_g (lw_at lw_m4 116 rfl) rfl
theorem q926 : (Jvm.Cond.methodLink "LeaderLeases$Parser" (179 : Nat) ({ cls := "LeaderLeases$Parser", name := "statements", desc := "()V" } : Jvm.MethodName)) ∈ lw_all := lw_g (lw_at lw_m4 117 rfl) rfl
theorem q927 : (Jvm.Cond.privateMethod ({ cls := "LeaderLeases$Parser", name := "statements", desc := "()V" } : Jvm.MethodName)) ∈ lw_tbl := lw_at lw_m4 118 rfl
theorem q928 : (Jvm.Cond.instanceMethod ({ cls := "LeaderLeases$Parser", name := "statements", desc := "()V" } : Jvm.MethodName)) ∈ lw_all := lw_g (lw_at lw_m4 119 rfl) rfl
theorem q929 : (Jvm.Cond.code ({ cls := "LeaderLeases$Parser", name := "statements", desc := "()V" } : Jvm.MethodName) prog_13_method_8_code (1 : Nat) (Option.none : Option Jvm.ClassFile.FieldType)) ∈ lw_all := lw_g (lw_at lw_m4 120 rfl) rfl
theorem q930 : (Jvm.Cond.methodLink "LeaderLeases$Parser" (176 : Nat) ({ cls := "LeaderLeases$Parser", name := "statement", desc := "()V" } : Jvm.MethodName)) ∈ lw_all := lw_g (lw_at lw_m4 121 rfl) rfl
theorem q931 : (Jvm.Cond.privateMethod ({ cls := "LeaderLeases$Parser", name := "statement", desc := "()V" } : Jvm.MethodName)) ∈ lw_tbl := lw_at lw_m4 122 rfl
theorem q932 : (Jvm.Cond.instanceMethod ({ cls := "LeaderLeases$Parser", name := "statement", desc := "()V" } : Jvm.MethodName)) ∈ lw_all := lw_g (lw_at lw_m4 123 rfl) rfl
theorem q933 : (Jvm.Cond.code ({ cls := "LeaderLeases$Parser", name := "statement", desc := "()V" } : Jvm.MethodName) prog_13_method_6_code (6 : Nat) (Option.none : Option Jvm.ClassFile.FieldType)) ∈ lw_all := lw_g (lw_at lw_m4 124 rfl) rfl
theorem q934 : (Jvm.Cond.methodLink "LeaderLeases$Parser" (88 : Nat) ({ cls := "LeaderLeases$Parser", name := "word", desc := "()Ljava/lang/String;" } : Jvm.MethodName)) ∈ lw_all := lw_g (lw_at lw_m4 125 rfl) rfl
theorem q935 : (Jvm.Cond.privateMethod ({ cls := "LeaderLeases$Parser", name := "word", desc := "()Ljava/lang/String;" } : Jvm.MethodName)) ∈ lw_tbl := lw_at lw_m4 126 rfl
theorem q936 : (Jvm.Cond.instanceMethod ({ cls := "LeaderLeases$Parser", name := "word", desc := "()Ljava/lang/String;" } : Jvm.MethodName)) ∈ lw_all := lw_g (lw_at lw_m4 127 rfl) rfl
theorem q937 : (Jvm.Cond.code ({ cls := "LeaderLeases$Parser", name := "word", desc := "()Ljava/lang/String;" } : Jvm.MethodName) prog_13_method_4_code (2 : Nat) (Option.some (Jvm.ClassFile.FieldType.object "java/lang/String"))) ∈ lw_all := lw_g (lw_at lw_m4 128 rfl) rfl
theorem q938 : (Jvm.Cond.methodLink "LeaderLeases$Parser" (46 : Nat) ({ cls := "LeaderLeases$Parser", name := "next", desc := "()I" } : Jvm.MethodName)) ∈ lw_all := lw_g (lw_at lw_m4 129 rfl) rfl
theorem q939 : (Jvm.Cond.privateMethod ({ cls := "LeaderLeases$Parser", name := "next", desc := "()I" } : Jvm.MethodName)) ∈ lw_tbl := lw_at lw_m4 130 rfl
theorem q940 : (Jvm.Cond.instanceMethod ({ cls := "LeaderLeases$Parser", name := "next", desc := "()I" } : Jvm.MethodName)) ∈ lw_all := lw_g (lw_at lw_m4 131 rfl) rfl
theorem q941 : (Jvm.Cond.code ({ cls := "LeaderLeases$Parser", name := "next", desc := "()I" } : Jvm.MethodName) prog_13_method_3_code (1 : Nat) (Option.some Jvm.ClassFile.FieldType.int)) ∈ lw_all := lw_g (lw_at lw_m4 132 rfl) rfl
theorem q942 : (Jvm.Cond.methodLink "LeaderLeases$Parser" (42 : Nat) ({ cls := "LeaderLeases$Parser", name := "here", desc := "()I" } : Jvm.MethodName)) ∈ lw_all := lw_g (lw_at lw_m4 133 rfl) rfl
theorem q943 : (Jvm.Cond.privateMethod ({ cls := "LeaderLeases$Parser", name := "here", desc := "()I" } : Jvm.MethodName)) ∈ lw_tbl := lw_at lw_m4 134 rfl
theorem q944 : (Jvm.Cond.instanceMethod ({ cls := "LeaderLeases$Parser", name := "here", desc := "()I" } : Jvm.MethodName)) ∈ lw_all := lw_g (lw_at lw_m4 135 rfl) rfl
theorem q945 : (Jvm.Cond.code ({ cls := "LeaderLeases$Parser", name := "here", desc := "()I" } : Jvm.MethodName) prog_13_method_2_code (1 : Nat) (Option.some Jvm.ClassFile.FieldType.int)) ∈ lw_all := lw_g (lw_at lw_m4 136 rfl) rfl
theorem q946 : (Jvm.Cond.classLink "LeaderLeases$Parser" (49 : Nat) "java/lang/StringBuilder") ∈ lw_all := lw_g (lw_at lw_m4 137 rfl) rfl
theorem q947 : (Jvm.Cond.methodLink "LeaderLeases$Parser" (51 : Nat) ({ cls := "java/lang/StringBuilder", name := "<init>", desc := "()V" } : Jvm.MethodName)) ∈ lw_all := lw_g (lw_at lw_m4 138 rfl) rfl
theorem q948 : (Jvm.Cond.constantLong "LeaderLeases$Parser" (52 : Nat) (97 : Int64)) ∈ lw_all := lw_g (lw_at lw_m4 139 rfl) rfl
theorem q949 : (Jvm.Cond.constantLong "LeaderLeases$Parser" (54 : Nat) (122 : Int64)) ∈ lw_all := lw_g (lw_at lw_m4 140 rfl) rfl
theorem q950 : (Jvm.Cond.methodLinkNest "LeaderLeases$Parser" (56 : Nat) ({ cls := "LeaderLeases", name := "in", desc := "(JJJ)Z" } : Jvm.MethodName) "LeaderLeases") ∈ lw_tbl := lw_at lw_m4 141 rfl
theorem q953 : (Jvm.Cond.methodLink "LeaderLeases$Parser" (60 : Nat) ({ cls := "java/lang/StringBuilder", name := "append", desc := "(C)Ljava/lang/StringBuilder;" } : Jvm.MethodName)) ∈ lw_all := lw_g (lw_at lw_m4 144 rfl) rfl
theorem q973 : (Jvm.Cond.methodLink "LeaderLeases$Parser" (64 : Nat) ({ cls := "java/lang/StringBuilder", name := "toString", desc := "()Ljava/lang/String;" } : Jvm.MethodName)) ∈ lw_all := lw_g (lw_at lw_m4 164 rfl) rfl
theorem q974 : (Jvm.Cond.methodLink "LeaderLeases$Parser" (91 : Nat) ({ cls := "java/lang/String", name := "length", desc := "()I" } : Jvm.MethodName)) ∈ lw_all := lw_g (lw_at lw_m4 165 rfl) rfl
theorem q975 : (Jvm.Cond.stringRef "LeaderLeases$Parser" (95 : Nat) "node") ∈ lw_tbl := lw_at lw_m4 166 rfl
theorem q976 : (Jvm.Cond.methodLink "LeaderLeases$Parser" (97 : Nat) ({ cls := "java/lang/String", name := "equals", desc := "(Ljava/lang/Object;)Z" } : Jvm.MethodName)) ∈ lw_all := lw_g (lw_at lw_m4 167 rfl) rfl
theorem q984 : (Jvm.Cond.interfaceEntry "LeaderLeases$Parser" (104 : Nat)) ∈ lw_tbl := lw_at lw_m4 175 rfl
theorem q985 : (Jvm.Cond.methodLink "LeaderLeases$Parser" (104 : Nat) ({ cls := "java/util/List", name := "size", desc := "()I" } : Jvm.MethodName)) ∈ lw_all := lw_g (lw_at lw_m4 176 rfl) rfl
theorem q986 : (Jvm.Cond.interfaceEntry "LeaderLeases$Parser" (109 : Nat)) ∈ lw_tbl := lw_at lw_m4 177 rfl
theorem q987 : (Jvm.Cond.methodLink "LeaderLeases$Parser" (109 : Nat) ({ cls := "java/util/List", name := "contains", desc := "(Ljava/lang/Object;)Z" } : Jvm.MethodName)) ∈ lw_all := lw_g (lw_at lw_m4 178 rfl) rfl
theorem q1020 : (Jvm.Cond.selects "LeaderLeases$Parser" ({ cls := "java/lang/Object", name := "equals", desc := "(Ljava/lang/Object;)Z" } : Jvm.MethodName) ({ cls := "java/lang/Object", name := "equals", desc := "(Ljava/lang/Object;)Z" } : Jvm.MethodName)) ∈ lw_all := lw_g (lw_at lw_m4 211 rfl) rfl
theorem q1048 : (Jvm.Cond.methodLink "LeaderLeases$Parser" (114 : Nat) ({ cls := "LeaderLeases$RepetitionError", name := "<init>", desc := "(I)V" } : Jvm.MethodName)) ∈ lw_all := lw_g (lw_at lw_m4 239 rfl) rfl
theorem q1065 : (Jvm.Cond.interfaceEntry "LeaderLeases$Parser" (115 : Nat)) ∈ lw_tbl := lw_at lw_m5 16 rfl
theorem q1066 : (Jvm.Cond.methodLink "LeaderLeases$Parser" (115 : Nat) ({ cls := "java/util/List", name := "add", desc := "(Ljava/lang/Object;)Z" } : Jvm.MethodName)) ∈ lw_all := lw_g (lw_at lw_m5 17 rfl) rfl
theorem q1067 : (Jvm.Cond.methodLink "LeaderLeases$Parser" (118 : Nat) ({ cls := "java/lang/String", name := "hashCode", desc := "()I" } : Jvm.MethodName)) ∈ lw_all := lw_g (lw_at lw_m5 18 rfl) rfl
theorem q1128 : (Jvm.Cond.stringRef "LeaderLeases$Parser" (121 : Nat) "server") ∈ lw_tbl := lw_at lw_m5 79 rfl
theorem q1129 : (Jvm.Cond.stringRef "LeaderLeases$Parser" (123 : Nat) "lease") ∈ lw_tbl := lw_at lw_m5 80 rfl
theorem q1130 : (Jvm.Cond.stringRef "LeaderLeases$Parser" (125 : Nat) "renew") ∈ lw_tbl := lw_at lw_m5 81 rfl
theorem q1131 : (Jvm.Cond.stringRef "LeaderLeases$Parser" (127 : Nat) "retry") ∈ lw_tbl := lw_at lw_m5 82 rfl
theorem q1132 : (Jvm.Cond.stringRef "LeaderLeases$Parser" (129 : Nat) "jitter") ∈ lw_tbl := lw_at lw_m5 83 rfl
theorem q1133 : (Jvm.Cond.stringRef "LeaderLeases$Parser" (131 : Nat) "seed") ∈ lw_tbl := lw_at lw_m5 84 rfl
theorem q1134 : (Jvm.Cond.methodLink "LeaderLeases$Parser" (133 : Nat) ({ cls := "LeaderLeases$Parser", name := "clock", desc := "()LLeaderLeases$Clock;" } : Jvm.MethodName)) ∈ lw_all := lw_g (lw_at lw_m5 85 rfl) rfl
theorem q1135 : (Jvm.Cond.privateMethod ({ cls := "LeaderLeases$Parser", name := "clock", desc := "()LLeaderLeases$Clock;" } : Jvm.MethodName)) ∈ lw_tbl := lw_at lw_m5 86 rfl
theorem q1136 : (Jvm.Cond.instanceMethod ({ cls := "LeaderLeases$Parser", name := "clock", desc := "()LLeaderLeases$Clock;" } : Jvm.MethodName)) ∈ lw_all := lw_g (lw_at lw_m5 87 rfl) rfl
theorem q1137 : (Jvm.Cond.code ({ cls := "LeaderLeases$Parser", name := "clock", desc := "()LLeaderLeases$Clock;" } : Jvm.MethodName) prog_13_method_7_code (2 : Nat) (Option.some (Jvm.ClassFile.FieldType.object "LeaderLeases$Clock"))) ∈ lw_all := lw_g (lw_at lw_m5 88 rfl) rfl
theorem q1138 : (Jvm.Cond.methodLink "LeaderLeases$Parser" (143 : Nat) ({ cls := "LeaderLeases$Parser", name := "number", desc := "(II)I" } : Jvm.MethodName)) ∈ lw_all := lw_g (lw_at lw_m5 89 rfl) rfl
theorem q1139 : (Jvm.Cond.privateMethod ({ cls := "LeaderLeases$Parser", name := "number", desc := "(II)I" } : Jvm.MethodName)) ∈ lw_tbl := lw_at lw_m5 90 rfl
theorem q1140 : (Jvm.Cond.instanceMethod ({ cls := "LeaderLeases$Parser", name := "number", desc := "(II)I" } : Jvm.MethodName)) ∈ lw_all := lw_g (lw_at lw_m5 91 rfl) rfl
theorem q1141 : (Jvm.Cond.code ({ cls := "LeaderLeases$Parser", name := "number", desc := "(II)I" } : Jvm.MethodName) prog_13_method_5_code (6 : Nat) (Option.some Jvm.ClassFile.FieldType.int)) ∈ lw_all := lw_g (lw_at lw_m5 92 rfl) rfl
theorem q1142 : (Jvm.Cond.constantLong "LeaderLeases$Parser" (68 : Nat) (48 : Int64)) ∈ lw_all := lw_g (lw_at lw_m5 93 rfl) rfl
theorem q1143 : (Jvm.Cond.constantLong "LeaderLeases$Parser" (70 : Nat) (57 : Int64)) ∈ lw_all := lw_g (lw_at lw_m5 94 rfl) rfl
theorem q1152 : (Jvm.Cond.methodLink "LeaderLeases$Parser" (74 : Nat) ({ cls := "LeaderLeases$SyntaxError", name := "<init>", desc := "(I)V" } : Jvm.MethodName)) ∈ lw_all := lw_g (lw_at lw_m5 103 rfl) rfl
theorem q1159 : (Jvm.Cond.constantLong "LeaderLeases$Parser" (75 : Nat) (10000000000 : Int64)) ∈ lw_all := lw_g (lw_at lw_m5 110 rfl) rfl
theorem q1160 : (Jvm.Cond.constantLong "LeaderLeases$Parser" (77 : Nat) (10 : Int64)) ∈ lw_all := lw_g (lw_at lw_m5 111 rfl) rfl
theorem q1161 : (Jvm.Cond.methodLink "LeaderLeases$Parser" (79 : Nat) ({ cls := "java/lang/Math", name := "min", desc := "(JJ)J" } : Jvm.MethodName)) ∈ lw_all := lw_g (lw_at lw_m5 112 rfl) rfl
theorem q1172 : (Jvm.Cond.methodLink "LeaderLeases$Parser" (87 : Nat) ({ cls := "LeaderLeases$RangeError", name := "<init>", desc := "(I)V" } : Jvm.MethodName)) ∈ lw_all := lw_g (lw_at lw_m5 123 rfl) rfl
theorem q1179 : (Jvm.Cond.classLink "LeaderLeases$Parser" (170 : Nat) "LeaderLeases$Clock") ∈ lw_all := lw_g (lw_at lw_m5 130 rfl) rfl
theorem q1180 : (Jvm.Cond.constant "LeaderLeases$Parser" (172 : Nat) (100000 : Int32)) ∈ lw_all := lw_g (lw_at lw_m5 131 rfl) rfl
theorem q1181 : (Jvm.Cond.methodLink "LeaderLeases$Parser" (173 : Nat) ({ cls := "LeaderLeases$Clock", name := "<init>", desc := "(II)V" } : Jvm.MethodName)) ∈ lw_all := lw_g (lw_at lw_m5 132 rfl) rfl
theorem q1182 : (Jvm.Cond.methodLink "LeaderLeases$Parser" (147 : Nat) ({ cls := "java/lang/Integer", name := "valueOf", desc := "(I)Ljava/lang/Integer;" } : Jvm.MethodName)) ∈ lw_all := lw_g (lw_at lw_m5 133 rfl) rfl
theorem q1183 : (Jvm.Cond.constant "LeaderLeases$Parser" (153 : Nat) (60000 : Int32)) ∈ lw_all := lw_g (lw_at lw_m5 134 rfl) rfl
theorem q1184 : (Jvm.Cond.constant "LeaderLeases$Parser" (167 : Nat) (2147483647 : Int32)) ∈ lw_all := lw_g (lw_at lw_m5 135 rfl) rfl
theorem q1185 : (Jvm.Cond.interfaceEntry "LeaderLeases$Parser" (182 : Nat)) ∈ lw_tbl := lw_at lw_m5 136 rfl
theorem q1186 : (Jvm.Cond.methodLink "LeaderLeases$Parser" (182 : Nat) ({ cls := "java/util/List", name := "isEmpty", desc := "()Z" } : Jvm.MethodName)) ∈ lw_all := lw_g (lw_at lw_m5 137 rfl) rfl
theorem q1202 : (Jvm.Cond.methodLink "LeaderLeases$Parser" (188 : Nat) ({ cls := "LeaderLeases$MissingNode", name := "<init>", desc := "(I)V" } : Jvm.MethodName)) ∈ lw_all := lw_g (lw_at lw_m5 153 rfl) rfl
theorem q1209 : (Jvm.Cond.classLink "LeaderLeases$Parser" (189 : Nat) "LeaderLeases$ConfigurationException") ∈ lw_all := lw_g (lw_at lw_m5 160 rfl) rfl
theorem q1218 : (Jvm.Cond.methodLink "LeaderLeases$Parser" (191 : Nat) ({ cls := "LeaderLeases$ConfigurationException", name := "<init>", desc := "(LLeaderLeases$Located;)V" } : Jvm.MethodName)) ∈ lw_all := lw_g (lw_at lw_m5 169 rfl) rfl
theorem q2808 : (Jvm.Cond.castable "LeaderLeases$Parser" "java/lang/Object") ∈ lw_tbl := lw_at lw_m12 79 rfl
theorem in_X8 : ∀ w ∈ wsX80, w ∈ lw_all := lw_in wsX80 [909, 911, 913, 915] (by decide +kernel) (by decide +kernel)

/-! LeaderLeases$Located -/
set_option maxRecDepth 100000
def RX9 : String := "LeaderLeases$Located"
abbrev cX9_init : ByteArray := prog_8_method_1_code
def yX9_init : MethodName := ⟨RX9, "<init>", "(I)V"⟩
def dkwX9_init_0 : List UInt8 := [42, 1, 1, 3, 3, 183, 0, 1, 42, 27, 181, 0, 7, 177]
abbrev dktX9_init_0 : List UInt8 := dkwX9_init_0 ++ []
theorem dksX9_init_0 : cX9_init.data.toList.drop 0 = dktX9_init_0 := by decide +kernel
theorem dX9_init_0 : decode cX9_init 0 = .ok (.aload_n 0, 1) := dk_42 (dk_at dksX9_init_0 0 rfl rfl)
theorem dX9_init_1 : decode cX9_init 1 = .ok (.aconst_null, 1) := dk_1 (dk_at dksX9_init_0 1 rfl rfl)
theorem dX9_init_2 : decode cX9_init 2 = .ok (.aconst_null, 1) := dk_1 (dk_at dksX9_init_0 2 rfl rfl)
theorem dX9_init_3 : decode cX9_init 3 = .ok (.iconst 0, 1) := dk_3 (dk_at dksX9_init_0 3 rfl rfl)
theorem dX9_init_4 : decode cX9_init 4 = .ok (.iconst 0, 1) := dk_3 (dk_at dksX9_init_0 4 rfl rfl)
theorem dX9_init_5 : decode cX9_init 5 = .ok (.invokespecial 1, 3) := dk_183 0 1 (dk_at dksX9_init_0 5 rfl rfl)
theorem dX9_init_8 : decode cX9_init 8 = .ok (.aload_n 0, 1) := dk_42 (dk_at dksX9_init_0 8 rfl rfl)
theorem dX9_init_9 : decode cX9_init 9 = .ok (.iload_n 1, 1) := dk_27 (dk_at dksX9_init_0 9 rfl rfl)
theorem dX9_init_10 : decode cX9_init 10 = .ok (.putfield 7, 3) := dk_181 0 7 (dk_at dksX9_init_0 10 rfl rfl)
theorem dX9_init_13 : decode cX9_init 13 = .ok (.return_, 1) := dk_177 (dk_at dksX9_init_0 13 rfl rfl)
abbrev cX9_position : ByteArray := prog_8_method_2_code
def yX9_position : MethodName := ⟨RX9, "position", "()I"⟩
theorem dX9_position_0 : decode cX9_position 0 = .ok (.aload_n 0, 1) := by decide +kernel
theorem dX9_position_1 : decode cX9_position 1 = .ok (.getfield 7, 3) := by decide +kernel
theorem dX9_position_4 : decode cX9_position 4 = .ok (.ireturn, 1) := by decide +kernel
theorem q119 : (Jvm.Cond.initialized "LeaderLeases$Located") ∈ lw_all := lw_g (lw_at lw_m1 30 rfl) rfl
theorem q1052 : (Jvm.Cond.instanceMethod ({ cls := "LeaderLeases$Located", name := "<init>", desc := "(I)V" } : Jvm.MethodName)) ∈ lw_all := lw_g (lw_at lw_m5 3 rfl) rfl
theorem q1053 : (Jvm.Cond.code ({ cls := "LeaderLeases$Located", name := "<init>", desc := "(I)V" } : Jvm.MethodName) prog_8_method_1_code (2 : Nat) (Option.none : Option Jvm.ClassFile.FieldType)) ∈ lw_all := lw_g (lw_at lw_m5 4 rfl) rfl
theorem q1054 : (Jvm.Cond.methodLink "LeaderLeases$Located" (1 : Nat) ({ cls := "java/lang/Exception", name := "<init>", desc := "(Ljava/lang/String;Ljava/lang/Throwable;ZZ)V" } : Jvm.MethodName)) ∈ lw_all := lw_g (lw_at lw_m5 5 rfl) rfl
theorem q1060 : (Jvm.Cond.fieldLink "LeaderLeases$Located" (7 : Nat) "LeaderLeases$Located" "position" "I") ∈ lw_all := lw_g (lw_at lw_m5 11 rfl) rfl
theorem q1062 : (Jvm.Cond.soleField "LeaderLeases$Located" "position") ∈ lw_all := lw_g (lw_at lw_m5 13 rfl) rfl
theorem q1243 : (Jvm.Cond.instanceMethod ({ cls := "LeaderLeases$Located", name := "position", desc := "()I" } : Jvm.MethodName)) ∈ lw_all := lw_g (lw_at lw_m5 194 rfl) rfl
theorem q1244 : (Jvm.Cond.sameMethod "LeaderLeases$Located" "LeaderLeases$Located" "position" "()I") ∈ lw_all := lw_g (lw_at lw_m5 195 rfl) rfl
theorem q1249 : (Jvm.Cond.code ({ cls := "LeaderLeases$Located", name := "position", desc := "()I" } : Jvm.MethodName) prog_8_method_2_code (1 : Nat) (Option.some Jvm.ClassFile.FieldType.int)) ∈ lw_all := lw_g (lw_at lw_m5 200 rfl) rfl

/-! LeaderLeases$RepetitionError -/
set_option maxRecDepth 100000
def RX10 : String := "LeaderLeases$RepetitionError"
def TX10 : u_T := fun k => match k with
  | 0 => ("LeaderLeases$Located", "position", "I", true)
  | 1 => ("java/lang/Throwable", "cause", "Ljava/lang/Throwable;", false)
  | 2 => ("java/lang/Throwable", "stackTrace", "[Ljava/lang/StackTraceElement;", false)
  | 3 => ("java/lang/Throwable", "suppressedExceptions", "Ljava/util/List;", false)
  | 4 => ("java/lang/Throwable", "detailMessage", "Ljava/lang/String;", false)
  | 5 => ("java/lang/Throwable", "backtrace", "Ljava/lang/Object;", false)
  | _ => ("java/lang/Throwable", "depth", "I", false)
def tyX10 : Nat → FieldType := fun k => match k with
  | 0 => .int
  | 1 => .object "java/lang/Throwable"
  | 2 => .array (.object "java/lang/StackTraceElement")
  | 3 => .object "java/util/List"
  | 4 => .object "java/lang/String"
  | 5 => .object "java/lang/Object"
  | _ => .int
abbrev wsX100 : List Cond := u_ws RX10 TX10 7
theorem nmX10 : ∀ a, a < 7 → ∀ b, b < 7 → a ≠ b → (TX10 a).2.1 ≠ (TX10 b).2.1 := by decide +kernel
theorem tyX10_ok : ∀ k, k < 7 → parseFieldDescriptor (TX10 k).2.2.1 = some (tyX10 k) := by decide +kernel
abbrev cX10_init : ByteArray := prog_16_method_1_code
def yX10_init : MethodName := ⟨RX10, "<init>", "(I)V"⟩
def dkwX10_init_0 : List UInt8 := [42, 27, 183, 0, 1, 177]
abbrev dktX10_init_0 : List UInt8 := dkwX10_init_0 ++ []
theorem dksX10_init_0 : cX10_init.data.toList.drop 0 = dktX10_init_0 := by decide +kernel
theorem dX10_init_0 : decode cX10_init 0 = .ok (.aload_n 0, 1) := dk_42 (dk_at dksX10_init_0 0 rfl rfl)
theorem dX10_init_1 : decode cX10_init 1 = .ok (.iload_n 1, 1) := dk_27 (dk_at dksX10_init_0 1 rfl rfl)
theorem dX10_init_2 : decode cX10_init 2 = .ok (.invokespecial 1, 3) := dk_183 0 1 (dk_at dksX10_init_0 2 rfl rfl)
theorem dX10_init_5 : decode cX10_init 5 = .ok (.return_, 1) := dk_177 (dk_at dksX10_init_0 5 rfl rfl)
theorem q120 : (Jvm.Cond.initialized "LeaderLeases$RepetitionError") ∈ lw_all := lw_g (lw_at lw_m1 31 rfl) rfl
theorem q222 : (Jvm.Cond.selects "LeaderLeases$RepetitionError" ({ cls := "java/lang/Throwable", name := "fillInStackTrace", desc := "()Ljava/lang/Throwable;" } : Jvm.MethodName) ({ cls := "java/lang/Throwable", name := "fillInStackTrace", desc := "()Ljava/lang/Throwable;" } : Jvm.MethodName)) ∈ lw_all := lw_g (lw_at lw_m1 133 rfl) rfl
theorem q612 : (Jvm.Cond.selects "LeaderLeases$RepetitionError" ({ cls := "java/lang/Object", name := "getClass", desc := "()Ljava/lang/Class;" } : Jvm.MethodName) ({ cls := "java/lang/Object", name := "getClass", desc := "()Ljava/lang/Class;" } : Jvm.MethodName)) ∈ lw_all := lw_g (lw_at lw_m3 43 rfl) rfl
theorem q1023 : (Jvm.Cond.selects "LeaderLeases$RepetitionError" ({ cls := "java/lang/Object", name := "equals", desc := "(Ljava/lang/Object;)Z" } : Jvm.MethodName) ({ cls := "java/lang/Object", name := "equals", desc := "(Ljava/lang/Object;)Z" } : Jvm.MethodName)) ∈ lw_all := lw_g (lw_at lw_m4 214 rfl) rfl
theorem q1040 : (Jvm.Cond.instantiable "LeaderLeases$RepetitionError" (7 : Nat)) ∈ lw_all := lw_g (lw_at lw_m4 231 rfl) rfl
theorem q1041 : (Jvm.Cond.castable "LeaderLeases$RepetitionError" "LeaderLeases$RepetitionError") ∈ lw_tbl := lw_at lw_m4 232 rfl
theorem q1042 : (Jvm.Cond.selects "LeaderLeases$RepetitionError" ({ cls := "java/lang/Throwable", name := "fillInStackTrace", desc := "(I)Ljava/lang/Throwable;" } : Jvm.MethodName) ({ cls := "java/lang/Throwable", name := "fillInStackTrace", desc := "(I)Ljava/lang/Throwable;" } : Jvm.MethodName)) ∈ lw_all := lw_g (lw_at lw_m4 233 rfl) rfl
theorem q1043 : (Jvm.Cond.lays "LeaderLeases$RepetitionError" "java/lang/Throwable" "cause" "Ljava/lang/Throwable;") ∈ lw_all := lw_g (lw_at lw_m4 234 rfl) rfl
theorem q1044 : (Jvm.Cond.lays "LeaderLeases$RepetitionError" "java/lang/Throwable" "stackTrace" "[Ljava/lang/StackTraceElement;") ∈ lw_all := lw_g (lw_at lw_m4 235 rfl) rfl
theorem q1045 : (Jvm.Cond.lays "LeaderLeases$RepetitionError" "java/lang/Throwable" "suppressedExceptions" "Ljava/util/List;") ∈ lw_all := lw_g (lw_at lw_m4 236 rfl) rfl
theorem q1046 : (Jvm.Cond.lays "LeaderLeases$RepetitionError" "java/lang/Throwable" "detailMessage" "Ljava/lang/String;") ∈ lw_all := lw_g (lw_at lw_m4 237 rfl) rfl
theorem q1047 : (Jvm.Cond.lays "LeaderLeases$RepetitionError" "java/lang/Throwable" "backtrace" "Ljava/lang/Object;") ∈ lw_all := lw_g (lw_at lw_m4 238 rfl) rfl
theorem q1049 : (Jvm.Cond.instanceMethod ({ cls := "LeaderLeases$RepetitionError", name := "<init>", desc := "(I)V" } : Jvm.MethodName)) ∈ lw_all := lw_g (lw_at lw_m5 0 rfl) rfl
theorem q1050 : (Jvm.Cond.code ({ cls := "LeaderLeases$RepetitionError", name := "<init>", desc := "(I)V" } : Jvm.MethodName) prog_16_method_1_code (2 : Nat) (Option.none : Option Jvm.ClassFile.FieldType)) ∈ lw_all := lw_g (lw_at lw_m5 1 rfl) rfl
theorem q1051 : (Jvm.Cond.methodLink "LeaderLeases$RepetitionError" (1 : Nat) ({ cls := "LeaderLeases$Located", name := "<init>", desc := "(I)V" } : Jvm.MethodName)) ∈ lw_all := lw_g (lw_at lw_m5 2 rfl) rfl
theorem q1061 : (Jvm.Cond.laysFinal "LeaderLeases$RepetitionError" "LeaderLeases$Located" "position" "I") ∈ lw_all := lw_g (lw_at lw_m5 12 rfl) rfl
theorem q1063 : (Jvm.Cond.lays "LeaderLeases$RepetitionError" "java/lang/Throwable" "depth" "I") ∈ lw_all := lw_g (lw_at lw_m5 14 rfl) rfl
theorem q1064 : (Jvm.Cond.superclass "LeaderLeases$RepetitionError" "LeaderLeases$Located") ∈ lw_all := lw_g (lw_at lw_m5 15 rfl) rfl
theorem q1247 : (Jvm.Cond.selects "LeaderLeases$RepetitionError" ({ cls := "LeaderLeases$Located", name := "position", desc := "()I" } : Jvm.MethodName) ({ cls := "LeaderLeases$Located", name := "position", desc := "()I" } : Jvm.MethodName)) ∈ lw_all := lw_g (lw_at lw_m5 198 rfl) rfl
theorem q2794 : (Jvm.Cond.castable "LeaderLeases$RepetitionError" "LeaderLeases$Located") ∈ lw_tbl := lw_at lw_m12 65 rfl
theorem q2809 : (Jvm.Cond.castable "LeaderLeases$RepetitionError" "java/lang/Object") ∈ lw_tbl := lw_at lw_m12 80 rfl
theorem in_X10 : ∀ w ∈ wsX100, w ∈ lw_all := lw_in wsX100 [1061, 1043, 1044, 1045, 1046, 1047, 1063] (by decide +kernel) (by decide +kernel)

/-! LeaderLeases$SyntaxError -/
set_option maxRecDepth 100000
def RX11 : String := "LeaderLeases$SyntaxError"
def TX11 : u_T := fun k => match k with
  | 0 => ("LeaderLeases$Located", "position", "I", true)
  | 1 => ("java/lang/Throwable", "cause", "Ljava/lang/Throwable;", false)
  | 2 => ("java/lang/Throwable", "stackTrace", "[Ljava/lang/StackTraceElement;", false)
  | 3 => ("java/lang/Throwable", "suppressedExceptions", "Ljava/util/List;", false)
  | 4 => ("java/lang/Throwable", "detailMessage", "Ljava/lang/String;", false)
  | 5 => ("java/lang/Throwable", "backtrace", "Ljava/lang/Object;", false)
  | _ => ("java/lang/Throwable", "depth", "I", false)
def tyX11 : Nat → FieldType := fun k => match k with
  | 0 => .int
  | 1 => .object "java/lang/Throwable"
  | 2 => .array (.object "java/lang/StackTraceElement")
  | 3 => .object "java/util/List"
  | 4 => .object "java/lang/String"
  | 5 => .object "java/lang/Object"
  | _ => .int
abbrev wsX110 : List Cond := u_ws RX11 TX11 7
theorem nmX11 : ∀ a, a < 7 → ∀ b, b < 7 → a ≠ b → (TX11 a).2.1 ≠ (TX11 b).2.1 := by decide +kernel
theorem tyX11_ok : ∀ k, k < 7 → parseFieldDescriptor (TX11 k).2.2.1 = some (tyX11 k) := by decide +kernel
abbrev cX11_init : ByteArray := prog_20_method_1_code
def yX11_init : MethodName := ⟨RX11, "<init>", "(I)V"⟩
def dkwX11_init_0 : List UInt8 := [42, 27, 183, 0, 1, 177]
abbrev dktX11_init_0 : List UInt8 := dkwX11_init_0 ++ []
theorem dksX11_init_0 : cX11_init.data.toList.drop 0 = dktX11_init_0 := by decide +kernel
theorem dX11_init_0 : decode cX11_init 0 = .ok (.aload_n 0, 1) := dk_42 (dk_at dksX11_init_0 0 rfl rfl)
theorem dX11_init_1 : decode cX11_init 1 = .ok (.iload_n 1, 1) := dk_27 (dk_at dksX11_init_0 1 rfl rfl)
theorem dX11_init_2 : decode cX11_init 2 = .ok (.invokespecial 1, 3) := dk_183 0 1 (dk_at dksX11_init_0 2 rfl rfl)
theorem dX11_init_5 : decode cX11_init 5 = .ok (.return_, 1) := dk_177 (dk_at dksX11_init_0 5 rfl rfl)
theorem q121 : (Jvm.Cond.initialized "LeaderLeases$SyntaxError") ∈ lw_all := lw_g (lw_at lw_m1 32 rfl) rfl
theorem q224 : (Jvm.Cond.selects "LeaderLeases$SyntaxError" ({ cls := "java/lang/Throwable", name := "fillInStackTrace", desc := "()Ljava/lang/Throwable;" } : Jvm.MethodName) ({ cls := "java/lang/Throwable", name := "fillInStackTrace", desc := "()Ljava/lang/Throwable;" } : Jvm.MethodName)) ∈ lw_all := lw_g (lw_at lw_m1 135 rfl) rfl
theorem q616 : (Jvm.Cond.selects "LeaderLeases$SyntaxError" ({ cls := "java/lang/Object", name := "getClass", desc := "()Ljava/lang/Class;" } : Jvm.MethodName) ({ cls := "java/lang/Object", name := "getClass", desc := "()Ljava/lang/Class;" } : Jvm.MethodName)) ∈ lw_all := lw_g (lw_at lw_m3 47 rfl) rfl
theorem q1027 : (Jvm.Cond.selects "LeaderLeases$SyntaxError" ({ cls := "java/lang/Object", name := "equals", desc := "(Ljava/lang/Object;)Z" } : Jvm.MethodName) ({ cls := "java/lang/Object", name := "equals", desc := "(Ljava/lang/Object;)Z" } : Jvm.MethodName)) ∈ lw_all := lw_g (lw_at lw_m4 218 rfl) rfl
theorem q1144 : (Jvm.Cond.instantiable "LeaderLeases$SyntaxError" (7 : Nat)) ∈ lw_all := lw_g (lw_at lw_m5 95 rfl) rfl
theorem q1145 : (Jvm.Cond.castable "LeaderLeases$SyntaxError" "LeaderLeases$SyntaxError") ∈ lw_tbl := lw_at lw_m5 96 rfl
theorem q1146 : (Jvm.Cond.selects "LeaderLeases$SyntaxError" ({ cls := "java/lang/Throwable", name := "fillInStackTrace", desc := "(I)Ljava/lang/Throwable;" } : Jvm.MethodName) ({ cls := "java/lang/Throwable", name := "fillInStackTrace", desc := "(I)Ljava/lang/Throwable;" } : Jvm.MethodName)) ∈ lw_all := lw_g (lw_at lw_m5 97 rfl) rfl
theorem q1147 : (Jvm.Cond.lays "LeaderLeases$SyntaxError" "java/lang/Throwable" "cause" "Ljava/lang/Throwable;") ∈ lw_all := lw_g (lw_at lw_m5 98 rfl) rfl
theorem q1148 : (Jvm.Cond.lays "LeaderLeases$SyntaxError" "java/lang/Throwable" "stackTrace" "[Ljava/lang/StackTraceElement;") ∈ lw_all := lw_g (lw_at lw_m5 99 rfl) rfl
theorem q1149 : (Jvm.Cond.lays "LeaderLeases$SyntaxError" "java/lang/Throwable" "suppressedExceptions" "Ljava/util/List;") ∈ lw_all := lw_g (lw_at lw_m5 100 rfl) rfl
theorem q1150 : (Jvm.Cond.lays "LeaderLeases$SyntaxError" "java/lang/Throwable" "detailMessage" "Ljava/lang/String;") ∈ lw_all := lw_g (lw_at lw_m5 101 rfl) rfl
theorem q1151 : (Jvm.Cond.lays "LeaderLeases$SyntaxError" "java/lang/Throwable" "backtrace" "Ljava/lang/Object;") ∈ lw_all := lw_g (lw_at lw_m5 102 rfl) rfl
theorem q1153 : (Jvm.Cond.instanceMethod ({ cls := "LeaderLeases$SyntaxError", name := "<init>", desc := "(I)V" } : Jvm.MethodName)) ∈ lw_all := lw_g (lw_at lw_m5 104 rfl) rfl
theorem q1154 : (Jvm.Cond.code ({ cls := "LeaderLeases$SyntaxError", name := "<init>", desc := "(I)V" } : Jvm.MethodName) prog_20_method_1_code (2 : Nat) (Option.none : Option Jvm.ClassFile.FieldType)) ∈ lw_all := lw_g (lw_at lw_m5 105 rfl) rfl
theorem q1155 : (Jvm.Cond.methodLink "LeaderLeases$SyntaxError" (1 : Nat) ({ cls := "LeaderLeases$Located", name := "<init>", desc := "(I)V" } : Jvm.MethodName)) ∈ lw_all := lw_g (lw_at lw_m5 106 rfl) rfl
theorem q1156 : (Jvm.Cond.laysFinal "LeaderLeases$SyntaxError" "LeaderLeases$Located" "position" "I") ∈ lw_all := lw_g (lw_at lw_m5 107 rfl) rfl
theorem q1157 : (Jvm.Cond.lays "LeaderLeases$SyntaxError" "java/lang/Throwable" "depth" "I") ∈ lw_all := lw_g (lw_at lw_m5 108 rfl) rfl
theorem q1158 : (Jvm.Cond.superclass "LeaderLeases$SyntaxError" "LeaderLeases$Located") ∈ lw_all := lw_g (lw_at lw_m5 109 rfl) rfl
theorem q1248 : (Jvm.Cond.selects "LeaderLeases$SyntaxError" ({ cls := "LeaderLeases$Located", name := "position", desc := "()I" } : Jvm.MethodName) ({ cls := "LeaderLeases$Located", name := "position", desc := "()I" } : Jvm.MethodName)) ∈ lw_all := lw_g (lw_at lw_m5 199 rfl) rfl
theorem q2795 : (Jvm.Cond.castable "LeaderLeases$SyntaxError" "LeaderLeases$Located") ∈ lw_tbl := lw_at lw_m12 66 rfl
theorem q2811 : (Jvm.Cond.castable "LeaderLeases$SyntaxError" "java/lang/Object") ∈ lw_tbl := lw_at lw_m12 82 rfl
theorem in_X11 : ∀ w ∈ wsX110, w ∈ lw_all := lw_in wsX110 [1156, 1147, 1148, 1149, 1150, 1151, 1157] (by decide +kernel) (by decide +kernel)

/-! LeaderLeases$RangeError -/
set_option maxRecDepth 100000
def RX12 : String := "LeaderLeases$RangeError"
def TX12 : u_T := fun k => match k with
  | 0 => ("LeaderLeases$Located", "position", "I", true)
  | 1 => ("java/lang/Throwable", "cause", "Ljava/lang/Throwable;", false)
  | 2 => ("java/lang/Throwable", "stackTrace", "[Ljava/lang/StackTraceElement;", false)
  | 3 => ("java/lang/Throwable", "suppressedExceptions", "Ljava/util/List;", false)
  | 4 => ("java/lang/Throwable", "detailMessage", "Ljava/lang/String;", false)
  | 5 => ("java/lang/Throwable", "backtrace", "Ljava/lang/Object;", false)
  | _ => ("java/lang/Throwable", "depth", "I", false)
def tyX12 : Nat → FieldType := fun k => match k with
  | 0 => .int
  | 1 => .object "java/lang/Throwable"
  | 2 => .array (.object "java/lang/StackTraceElement")
  | 3 => .object "java/util/List"
  | 4 => .object "java/lang/String"
  | 5 => .object "java/lang/Object"
  | _ => .int
abbrev wsX120 : List Cond := u_ws RX12 TX12 7
theorem nmX12 : ∀ a, a < 7 → ∀ b, b < 7 → a ≠ b → (TX12 a).2.1 ≠ (TX12 b).2.1 := by decide +kernel
theorem tyX12_ok : ∀ k, k < 7 → parseFieldDescriptor (TX12 k).2.2.1 = some (tyX12 k) := by decide +kernel
abbrev cX12_init : ByteArray := prog_14_method_1_code
def yX12_init : MethodName := ⟨RX12, "<init>", "(I)V"⟩
def dkwX12_init_0 : List UInt8 := [42, 27, 183, 0, 1, 177]
abbrev dktX12_init_0 : List UInt8 := dkwX12_init_0 ++ []
theorem dksX12_init_0 : cX12_init.data.toList.drop 0 = dktX12_init_0 := by decide +kernel
theorem dX12_init_0 : decode cX12_init 0 = .ok (.aload_n 0, 1) := dk_42 (dk_at dksX12_init_0 0 rfl rfl)
theorem dX12_init_1 : decode cX12_init 1 = .ok (.iload_n 1, 1) := dk_27 (dk_at dksX12_init_0 1 rfl rfl)
theorem dX12_init_2 : decode cX12_init 2 = .ok (.invokespecial 1, 3) := dk_183 0 1 (dk_at dksX12_init_0 2 rfl rfl)
theorem dX12_init_5 : decode cX12_init 5 = .ok (.return_, 1) := dk_177 (dk_at dksX12_init_0 5 rfl rfl)
theorem q122 : (Jvm.Cond.initialized "LeaderLeases$RangeError") ∈ lw_all := lw_g (lw_at lw_m1 33 rfl) rfl
theorem q220 : (Jvm.Cond.selects "LeaderLeases$RangeError" ({ cls := "java/lang/Throwable", name := "fillInStackTrace", desc := "()Ljava/lang/Throwable;" } : Jvm.MethodName) ({ cls := "java/lang/Throwable", name := "fillInStackTrace", desc := "()Ljava/lang/Throwable;" } : Jvm.MethodName)) ∈ lw_all := lw_g (lw_at lw_m1 131 rfl) rfl
theorem q610 : (Jvm.Cond.selects "LeaderLeases$RangeError" ({ cls := "java/lang/Object", name := "getClass", desc := "()Ljava/lang/Class;" } : Jvm.MethodName) ({ cls := "java/lang/Object", name := "getClass", desc := "()Ljava/lang/Class;" } : Jvm.MethodName)) ∈ lw_all := lw_g (lw_at lw_m3 41 rfl) rfl
theorem q1021 : (Jvm.Cond.selects "LeaderLeases$RangeError" ({ cls := "java/lang/Object", name := "equals", desc := "(Ljava/lang/Object;)Z" } : Jvm.MethodName) ({ cls := "java/lang/Object", name := "equals", desc := "(Ljava/lang/Object;)Z" } : Jvm.MethodName)) ∈ lw_all := lw_g (lw_at lw_m4 212 rfl) rfl
theorem q1164 : (Jvm.Cond.instantiable "LeaderLeases$RangeError" (7 : Nat)) ∈ lw_all := lw_g (lw_at lw_m5 115 rfl) rfl
theorem q1165 : (Jvm.Cond.castable "LeaderLeases$RangeError" "LeaderLeases$RangeError") ∈ lw_tbl := lw_at lw_m5 116 rfl
theorem q1166 : (Jvm.Cond.selects "LeaderLeases$RangeError" ({ cls := "java/lang/Throwable", name := "fillInStackTrace", desc := "(I)Ljava/lang/Throwable;" } : Jvm.MethodName) ({ cls := "java/lang/Throwable", name := "fillInStackTrace", desc := "(I)Ljava/lang/Throwable;" } : Jvm.MethodName)) ∈ lw_all := lw_g (lw_at lw_m5 117 rfl) rfl
theorem q1167 : (Jvm.Cond.lays "LeaderLeases$RangeError" "java/lang/Throwable" "cause" "Ljava/lang/Throwable;") ∈ lw_all := lw_g (lw_at lw_m5 118 rfl) rfl
theorem q1168 : (Jvm.Cond.lays "LeaderLeases$RangeError" "java/lang/Throwable" "stackTrace" "[Ljava/lang/StackTraceElement;") ∈ lw_all := lw_g (lw_at lw_m5 119 rfl) rfl
theorem q1169 : (Jvm.Cond.lays "LeaderLeases$RangeError" "java/lang/Throwable" "suppressedExceptions" "Ljava/util/List;") ∈ lw_all := lw_g (lw_at lw_m5 120 rfl) rfl
theorem q1170 : (Jvm.Cond.lays "LeaderLeases$RangeError" "java/lang/Throwable" "detailMessage" "Ljava/lang/String;") ∈ lw_all := lw_g (lw_at lw_m5 121 rfl) rfl
theorem q1171 : (Jvm.Cond.lays "LeaderLeases$RangeError" "java/lang/Throwable" "backtrace" "Ljava/lang/Object;") ∈ lw_all := lw_g (lw_at lw_m5 122 rfl) rfl
theorem q1173 : (Jvm.Cond.instanceMethod ({ cls := "LeaderLeases$RangeError", name := "<init>", desc := "(I)V" } : Jvm.MethodName)) ∈ lw_all := lw_g (lw_at lw_m5 124 rfl) rfl
theorem q1174 : (Jvm.Cond.code ({ cls := "LeaderLeases$RangeError", name := "<init>", desc := "(I)V" } : Jvm.MethodName) prog_14_method_1_code (2 : Nat) (Option.none : Option Jvm.ClassFile.FieldType)) ∈ lw_all := lw_g (lw_at lw_m5 125 rfl) rfl
theorem q1175 : (Jvm.Cond.methodLink "LeaderLeases$RangeError" (1 : Nat) ({ cls := "LeaderLeases$Located", name := "<init>", desc := "(I)V" } : Jvm.MethodName)) ∈ lw_all := lw_g (lw_at lw_m5 126 rfl) rfl
theorem q1176 : (Jvm.Cond.laysFinal "LeaderLeases$RangeError" "LeaderLeases$Located" "position" "I") ∈ lw_all := lw_g (lw_at lw_m5 127 rfl) rfl
theorem q1177 : (Jvm.Cond.lays "LeaderLeases$RangeError" "java/lang/Throwable" "depth" "I") ∈ lw_all := lw_g (lw_at lw_m5 128 rfl) rfl
theorem q1178 : (Jvm.Cond.superclass "LeaderLeases$RangeError" "LeaderLeases$Located") ∈ lw_all := lw_g (lw_at lw_m5 129 rfl) rfl
theorem q1246 : (Jvm.Cond.selects "LeaderLeases$RangeError" ({ cls := "LeaderLeases$Located", name := "position", desc := "()I" } : Jvm.MethodName) ({ cls := "LeaderLeases$Located", name := "position", desc := "()I" } : Jvm.MethodName)) ∈ lw_all := lw_g (lw_at lw_m5 197 rfl) rfl
theorem q2793 : (Jvm.Cond.castable "LeaderLeases$RangeError" "LeaderLeases$Located") ∈ lw_tbl := lw_at lw_m12 64 rfl
theorem q2812 : (Jvm.Cond.castable "LeaderLeases$RangeError" "java/lang/Object") ∈ lw_tbl := lw_at lw_m12 83 rfl
theorem in_X12 : ∀ w ∈ wsX120, w ∈ lw_all := lw_in wsX120 [1176, 1167, 1168, 1169, 1170, 1171, 1177] (by decide +kernel) (by decide +kernel)

/-! LeaderLeases$MissingNode -/
set_option maxRecDepth 100000
def RX13 : String := "LeaderLeases$MissingNode"
def TX13 : u_T := fun k => match k with
  | 0 => ("LeaderLeases$Located", "position", "I", true)
  | 1 => ("java/lang/Throwable", "cause", "Ljava/lang/Throwable;", false)
  | 2 => ("java/lang/Throwable", "stackTrace", "[Ljava/lang/StackTraceElement;", false)
  | 3 => ("java/lang/Throwable", "suppressedExceptions", "Ljava/util/List;", false)
  | 4 => ("java/lang/Throwable", "detailMessage", "Ljava/lang/String;", false)
  | 5 => ("java/lang/Throwable", "backtrace", "Ljava/lang/Object;", false)
  | _ => ("java/lang/Throwable", "depth", "I", false)
def tyX13 : Nat → FieldType := fun k => match k with
  | 0 => .int
  | 1 => .object "java/lang/Throwable"
  | 2 => .array (.object "java/lang/StackTraceElement")
  | 3 => .object "java/util/List"
  | 4 => .object "java/lang/String"
  | 5 => .object "java/lang/Object"
  | _ => .int
abbrev wsX130 : List Cond := u_ws RX13 TX13 7
theorem nmX13 : ∀ a, a < 7 → ∀ b, b < 7 → a ≠ b → (TX13 a).2.1 ≠ (TX13 b).2.1 := by decide +kernel
theorem tyX13_ok : ∀ k, k < 7 → parseFieldDescriptor (TX13 k).2.2.1 = some (tyX13 k) := by decide +kernel
abbrev cX13_init : ByteArray := prog_10_method_1_code
def yX13_init : MethodName := ⟨RX13, "<init>", "(I)V"⟩
def dkwX13_init_0 : List UInt8 := [42, 27, 183, 0, 1, 177]
abbrev dktX13_init_0 : List UInt8 := dkwX13_init_0 ++ []
theorem dksX13_init_0 : cX13_init.data.toList.drop 0 = dktX13_init_0 := by decide +kernel
theorem dX13_init_0 : decode cX13_init 0 = .ok (.aload_n 0, 1) := dk_42 (dk_at dksX13_init_0 0 rfl rfl)
theorem dX13_init_1 : decode cX13_init 1 = .ok (.iload_n 1, 1) := dk_27 (dk_at dksX13_init_0 1 rfl rfl)
theorem dX13_init_2 : decode cX13_init 2 = .ok (.invokespecial 1, 3) := dk_183 0 1 (dk_at dksX13_init_0 2 rfl rfl)
theorem dX13_init_5 : decode cX13_init 5 = .ok (.return_, 1) := dk_177 (dk_at dksX13_init_0 5 rfl rfl)
theorem q123 : (Jvm.Cond.initialized "LeaderLeases$MissingNode") ∈ lw_all := lw_g (lw_at lw_m1 34 rfl) rfl
theorem q219 : (Jvm.Cond.selects "LeaderLeases$MissingNode" ({ cls := "java/lang/Throwable", name := "fillInStackTrace", desc := "()Ljava/lang/Throwable;" } : Jvm.MethodName) ({ cls := "java/lang/Throwable", name := "fillInStackTrace", desc := "()Ljava/lang/Throwable;" } : Jvm.MethodName)) ∈ lw_all := lw_g (lw_at lw_m1 130 rfl) rfl
theorem q606 : (Jvm.Cond.selects "LeaderLeases$MissingNode" ({ cls := "java/lang/Object", name := "getClass", desc := "()Ljava/lang/Class;" } : Jvm.MethodName) ({ cls := "java/lang/Object", name := "getClass", desc := "()Ljava/lang/Class;" } : Jvm.MethodName)) ∈ lw_all := lw_g (lw_at lw_m3 37 rfl) rfl
theorem q1017 : (Jvm.Cond.selects "LeaderLeases$MissingNode" ({ cls := "java/lang/Object", name := "equals", desc := "(Ljava/lang/Object;)Z" } : Jvm.MethodName) ({ cls := "java/lang/Object", name := "equals", desc := "(Ljava/lang/Object;)Z" } : Jvm.MethodName)) ∈ lw_all := lw_g (lw_at lw_m4 208 rfl) rfl
theorem q1194 : (Jvm.Cond.instantiable "LeaderLeases$MissingNode" (7 : Nat)) ∈ lw_all := lw_g (lw_at lw_m5 145 rfl) rfl
theorem q1195 : (Jvm.Cond.castable "LeaderLeases$MissingNode" "LeaderLeases$MissingNode") ∈ lw_tbl := lw_at lw_m5 146 rfl
theorem q1196 : (Jvm.Cond.selects "LeaderLeases$MissingNode" ({ cls := "java/lang/Throwable", name := "fillInStackTrace", desc := "(I)Ljava/lang/Throwable;" } : Jvm.MethodName) ({ cls := "java/lang/Throwable", name := "fillInStackTrace", desc := "(I)Ljava/lang/Throwable;" } : Jvm.MethodName)) ∈ lw_all := lw_g (lw_at lw_m5 147 rfl) rfl
theorem q1197 : (Jvm.Cond.lays "LeaderLeases$MissingNode" "java/lang/Throwable" "cause" "Ljava/lang/Throwable;") ∈ lw_all := lw_g (lw_at lw_m5 148 rfl) rfl
theorem q1198 : (Jvm.Cond.lays "LeaderLeases$MissingNode" "java/lang/Throwable" "stackTrace" "[Ljava/lang/StackTraceElement;") ∈ lw_all := lw_g (lw_at lw_m5 149 rfl) rfl
theorem q1199 : (Jvm.Cond.lays "LeaderLeases$MissingNode" "java/lang/Throwable" "suppressedExceptions" "Ljava/util/List;") ∈ lw_all := lw_g (lw_at lw_m5 150 rfl) rfl
theorem q1200 : (Jvm.Cond.lays "LeaderLeases$MissingNode" "java/lang/Throwable" "detailMessage" "Ljava/lang/String;") ∈ lw_all := lw_g (lw_at lw_m5 151 rfl) rfl
theorem q1201 : (Jvm.Cond.lays "LeaderLeases$MissingNode" "java/lang/Throwable" "backtrace" "Ljava/lang/Object;") ∈ lw_all := lw_g (lw_at lw_m5 152 rfl) rfl
theorem q1203 : (Jvm.Cond.instanceMethod ({ cls := "LeaderLeases$MissingNode", name := "<init>", desc := "(I)V" } : Jvm.MethodName)) ∈ lw_all := lw_g (lw_at lw_m5 154 rfl) rfl
theorem q1204 : (Jvm.Cond.code ({ cls := "LeaderLeases$MissingNode", name := "<init>", desc := "(I)V" } : Jvm.MethodName) prog_10_method_1_code (2 : Nat) (Option.none : Option Jvm.ClassFile.FieldType)) ∈ lw_all := lw_g (lw_at lw_m5 155 rfl) rfl
theorem q1205 : (Jvm.Cond.methodLink "LeaderLeases$MissingNode" (1 : Nat) ({ cls := "LeaderLeases$Located", name := "<init>", desc := "(I)V" } : Jvm.MethodName)) ∈ lw_all := lw_g (lw_at lw_m5 156 rfl) rfl
theorem q1206 : (Jvm.Cond.laysFinal "LeaderLeases$MissingNode" "LeaderLeases$Located" "position" "I") ∈ lw_all := lw_g (lw_at lw_m5 157 rfl) rfl
theorem q1207 : (Jvm.Cond.lays "LeaderLeases$MissingNode" "java/lang/Throwable" "depth" "I") ∈ lw_all := lw_g (lw_at lw_m5 158 rfl) rfl
theorem q1208 : (Jvm.Cond.superclass "LeaderLeases$MissingNode" "LeaderLeases$Located") ∈ lw_all := lw_g (lw_at lw_m5 159 rfl) rfl
theorem q1245 : (Jvm.Cond.selects "LeaderLeases$MissingNode" ({ cls := "LeaderLeases$Located", name := "position", desc := "()I" } : Jvm.MethodName) ({ cls := "LeaderLeases$Located", name := "position", desc := "()I" } : Jvm.MethodName)) ∈ lw_all := lw_g (lw_at lw_m5 196 rfl) rfl
theorem q2792 : (Jvm.Cond.castable "LeaderLeases$MissingNode" "LeaderLeases$Located") ∈ lw_tbl := lw_at lw_m12 63 rfl
theorem q2813 : (Jvm.Cond.castable "LeaderLeases$MissingNode" "java/lang/Object") ∈ lw_tbl := lw_at lw_m12 84 rfl
theorem in_X13 : ∀ w ∈ wsX130, w ∈ lw_all := lw_in wsX130 [1206, 1197, 1198, 1199, 1200, 1201, 1207] (by decide +kernel) (by decide +kernel)

/-! LeaderLeases$ConfigurationException -/
set_option maxRecDepth 100000
def RX14 : String := "LeaderLeases$ConfigurationException"
def TX14 : u_T := fun k => match k with
  | 0 => ("java/lang/Throwable", "cause", "Ljava/lang/Throwable;", false)
  | 1 => ("java/lang/Throwable", "stackTrace", "[Ljava/lang/StackTraceElement;", false)
  | 2 => ("java/lang/Throwable", "suppressedExceptions", "Ljava/util/List;", false)
  | 3 => ("java/lang/Throwable", "detailMessage", "Ljava/lang/String;", false)
  | 4 => ("java/lang/Throwable", "backtrace", "Ljava/lang/Object;", false)
  | _ => ("java/lang/Throwable", "depth", "I", false)
def tyX14 : Nat → FieldType := fun k => match k with
  | 0 => .object "java/lang/Throwable"
  | 1 => .array (.object "java/lang/StackTraceElement")
  | 2 => .object "java/util/List"
  | 3 => .object "java/lang/String"
  | 4 => .object "java/lang/Object"
  | _ => .int
abbrev wsX140 : List Cond := u_ws RX14 TX14 6
theorem nmX14 : ∀ a, a < 6 → ∀ b, b < 6 → a ≠ b → (TX14 a).2.1 ≠ (TX14 b).2.1 := by decide +kernel
theorem tyX14_ok : ∀ k, k < 6 → parseFieldDescriptor (TX14 k).2.2.1 = some (tyX14 k) := by decide +kernel
abbrev cX14_init : ByteArray := prog_4_method_1_code
def yX14_init : MethodName := ⟨RX14, "<init>", "(LLeaderLeases$Located;)V"⟩
def dkwX14_init_0 : List UInt8 := [42, 1, 43, 3, 3, 183, 0, 1, 177]
abbrev dktX14_init_0 : List UInt8 := dkwX14_init_0 ++ []
theorem dksX14_init_0 : cX14_init.data.toList.drop 0 = dktX14_init_0 := by decide +kernel
theorem dX14_init_0 : decode cX14_init 0 = .ok (.aload_n 0, 1) := dk_42 (dk_at dksX14_init_0 0 rfl rfl)
theorem dX14_init_1 : decode cX14_init 1 = .ok (.aconst_null, 1) := dk_1 (dk_at dksX14_init_0 1 rfl rfl)
theorem dX14_init_2 : decode cX14_init 2 = .ok (.aload_n 1, 1) := dk_43 (dk_at dksX14_init_0 2 rfl rfl)
theorem dX14_init_3 : decode cX14_init 3 = .ok (.iconst 0, 1) := dk_3 (dk_at dksX14_init_0 3 rfl rfl)
theorem dX14_init_4 : decode cX14_init 4 = .ok (.iconst 0, 1) := dk_3 (dk_at dksX14_init_0 4 rfl rfl)
theorem dX14_init_5 : decode cX14_init 5 = .ok (.invokespecial 1, 3) := dk_183 0 1 (dk_at dksX14_init_0 5 rfl rfl)
theorem dX14_init_8 : decode cX14_init 8 = .ok (.return_, 1) := dk_177 (dk_at dksX14_init_0 8 rfl rfl)
abbrev cX14_number : ByteArray := prog_4_method_3_code
def yX14_number : MethodName := ⟨RX14, "number", "()I"⟩
def dkwX14_number_1 : List UInt8 := [167, 0, 15, 43, 193, 0, 23, 153, 0, 7, 6, 167, 0, 4, 7, 172]
abbrev dktX14_number_1 : List UInt8 := dkwX14_number_1 ++ []
def dkwX14_number_0 : List UInt8 := [42, 182, 0, 7, 76, 43, 193, 0, 19, 153, 0, 7, 4, 167, 0, 26, 43, 193, 0, 21, 153, 0, 7, 5]
abbrev dktX14_number_0 : List UInt8 := dkwX14_number_0 ++ dktX14_number_1
theorem dksX14_number_0 : cX14_number.data.toList.drop 0 = dktX14_number_0 := by decide +kernel
theorem dksX14_number_1 : cX14_number.data.toList.drop 24 = dktX14_number_1 := dk_seg dksX14_number_0 24 rfl rfl
theorem dX14_number_0 : decode cX14_number 0 = .ok (.aload_n 0, 1) := dk_42 (dk_at dksX14_number_0 0 rfl rfl)
theorem dX14_number_1 : decode cX14_number 1 = .ok (.invokevirtual 7, 3) := dk_182 0 7 (dk_at dksX14_number_0 1 rfl rfl)
theorem dX14_number_4 : decode cX14_number 4 = .ok (.astore_n 1, 1) := dk_76 (dk_at dksX14_number_0 4 rfl rfl)
theorem dX14_number_5 : decode cX14_number 5 = .ok (.aload_n 1, 1) := dk_43 (dk_at dksX14_number_0 5 rfl rfl)
theorem dX14_number_6 : decode cX14_number 6 = .ok (.instanceof 19, 3) := dk_193 0 19 (dk_at dksX14_number_0 6 rfl rfl)
theorem dX14_number_9 : decode cX14_number 9 = .ok (.ifCond .eq 7, 3) := dk_153 0 7 (dk_at dksX14_number_0 9 rfl rfl)
theorem dX14_number_12 : decode cX14_number 12 = .ok (.iconst 1, 1) := dk_4 (dk_at dksX14_number_0 12 rfl rfl)
theorem dX14_number_13 : decode cX14_number 13 = .ok (.goto 26, 3) := dk_167 0 26 (dk_at dksX14_number_0 13 rfl rfl)
theorem dX14_number_16 : decode cX14_number 16 = .ok (.aload_n 1, 1) := dk_43 (dk_at dksX14_number_0 16 rfl rfl)
theorem dX14_number_17 : decode cX14_number 17 = .ok (.instanceof 21, 3) := dk_193 0 21 (dk_at dksX14_number_0 17 rfl rfl)
theorem dX14_number_20 : decode cX14_number 20 = .ok (.ifCond .eq 7, 3) := dk_153 0 7 (dk_at dksX14_number_0 20 rfl rfl)
theorem dX14_number_23 : decode cX14_number 23 = .ok (.iconst 2, 1) := dk_5 (dk_at dksX14_number_0 23 rfl rfl)
theorem dX14_number_24 : decode cX14_number 24 = .ok (.goto 15, 3) := dk_167 0 15 (dk_at dksX14_number_1 0 rfl rfl)
theorem dX14_number_27 : decode cX14_number 27 = .ok (.aload_n 1, 1) := dk_43 (dk_at dksX14_number_1 3 rfl rfl)
theorem dX14_number_28 : decode cX14_number 28 = .ok (.instanceof 23, 3) := dk_193 0 23 (dk_at dksX14_number_1 4 rfl rfl)
theorem dX14_number_31 : decode cX14_number 31 = .ok (.ifCond .eq 7, 3) := dk_153 0 7 (dk_at dksX14_number_1 7 rfl rfl)
theorem dX14_number_34 : decode cX14_number 34 = .ok (.iconst 3, 1) := dk_6 (dk_at dksX14_number_1 10 rfl rfl)
theorem dX14_number_35 : decode cX14_number 35 = .ok (.goto 4, 3) := dk_167 0 4 (dk_at dksX14_number_1 11 rfl rfl)
theorem dX14_number_38 : decode cX14_number 38 = .ok (.iconst 4, 1) := dk_7 (dk_at dksX14_number_1 14 rfl rfl)
theorem dX14_number_39 : decode cX14_number 39 = .ok (.ireturn, 1) := dk_172 (dk_at dksX14_number_1 15 rfl rfl)
abbrev cX14_position : ByteArray := prog_4_method_2_code
def yX14_position : MethodName := ⟨RX14, "position", "()I"⟩
def dkwX14_position_0 : List UInt8 := [42, 182, 0, 7, 192, 0, 13, 182, 0, 15, 172]
abbrev dktX14_position_0 : List UInt8 := dkwX14_position_0 ++ []
theorem dksX14_position_0 : cX14_position.data.toList.drop 0 = dktX14_position_0 := by decide +kernel
theorem dX14_position_0 : decode cX14_position 0 = .ok (.aload_n 0, 1) := dk_42 (dk_at dksX14_position_0 0 rfl rfl)
theorem dX14_position_1 : decode cX14_position 1 = .ok (.invokevirtual 7, 3) := dk_182 0 7 (dk_at dksX14_position_0 1 rfl rfl)
theorem dX14_position_4 : decode cX14_position 4 = .ok (.checkcast 13, 3) := dk_192 0 13 (dk_at dksX14_position_0 4 rfl rfl)
theorem dX14_position_7 : decode cX14_position 7 = .ok (.invokevirtual 15, 3) := dk_182 0 15 (dk_at dksX14_position_0 7 rfl rfl)
theorem dX14_position_10 : decode cX14_position 10 = .ok (.ireturn, 1) := dk_172 (dk_at dksX14_position_0 10 rfl rfl)
theorem q124 : (Jvm.Cond.initialized "LeaderLeases$ConfigurationException") ∈ lw_all := lw_g (lw_at lw_m1 35 rfl) rfl
theorem q218 : (Jvm.Cond.selects "LeaderLeases$ConfigurationException" ({ cls := "java/lang/Throwable", name := "fillInStackTrace", desc := "()Ljava/lang/Throwable;" } : Jvm.MethodName) ({ cls := "java/lang/Throwable", name := "fillInStackTrace", desc := "()Ljava/lang/Throwable;" } : Jvm.MethodName)) ∈ lw_all := lw_g (lw_at lw_m1 129 rfl) rfl
theorem q601 : (Jvm.Cond.selects "LeaderLeases$ConfigurationException" ({ cls := "java/lang/Object", name := "getClass", desc := "()Ljava/lang/Class;" } : Jvm.MethodName) ({ cls := "java/lang/Object", name := "getClass", desc := "()Ljava/lang/Class;" } : Jvm.MethodName)) ∈ lw_all := lw_g (lw_at lw_m3 32 rfl) rfl
theorem q1010 : (Jvm.Cond.selects "LeaderLeases$ConfigurationException" ({ cls := "java/lang/Object", name := "equals", desc := "(Ljava/lang/Object;)Z" } : Jvm.MethodName) ({ cls := "java/lang/Object", name := "equals", desc := "(Ljava/lang/Object;)Z" } : Jvm.MethodName)) ∈ lw_all := lw_g (lw_at lw_m4 201 rfl) rfl
theorem q1210 : (Jvm.Cond.instantiable "LeaderLeases$ConfigurationException" (6 : Nat)) ∈ lw_all := lw_g (lw_at lw_m5 161 rfl) rfl
theorem q1211 : (Jvm.Cond.castable "LeaderLeases$ConfigurationException" "LeaderLeases$ConfigurationException") ∈ lw_tbl := lw_at lw_m5 162 rfl
theorem q1212 : (Jvm.Cond.selects "LeaderLeases$ConfigurationException" ({ cls := "java/lang/Throwable", name := "fillInStackTrace", desc := "(I)Ljava/lang/Throwable;" } : Jvm.MethodName) ({ cls := "java/lang/Throwable", name := "fillInStackTrace", desc := "(I)Ljava/lang/Throwable;" } : Jvm.MethodName)) ∈ lw_all := lw_g (lw_at lw_m5 163 rfl) rfl
theorem q1213 : (Jvm.Cond.lays "LeaderLeases$ConfigurationException" "java/lang/Throwable" "cause" "Ljava/lang/Throwable;") ∈ lw_all := lw_g (lw_at lw_m5 164 rfl) rfl
theorem q1214 : (Jvm.Cond.lays "LeaderLeases$ConfigurationException" "java/lang/Throwable" "stackTrace" "[Ljava/lang/StackTraceElement;") ∈ lw_all := lw_g (lw_at lw_m5 165 rfl) rfl
theorem q1215 : (Jvm.Cond.lays "LeaderLeases$ConfigurationException" "java/lang/Throwable" "suppressedExceptions" "Ljava/util/List;") ∈ lw_all := lw_g (lw_at lw_m5 166 rfl) rfl
theorem q1216 : (Jvm.Cond.lays "LeaderLeases$ConfigurationException" "java/lang/Throwable" "detailMessage" "Ljava/lang/String;") ∈ lw_all := lw_g (lw_at lw_m5 167 rfl) rfl
theorem q1217 : (Jvm.Cond.lays "LeaderLeases$ConfigurationException" "java/lang/Throwable" "backtrace" "Ljava/lang/Object;") ∈ lw_all := lw_g (lw_at lw_m5 168 rfl) rfl
theorem q1219 : (Jvm.Cond.instanceMethod ({ cls := "LeaderLeases$ConfigurationException", name := "<init>", desc := "(LLeaderLeases$Located;)V" } : Jvm.MethodName)) ∈ lw_all := lw_g (lw_at lw_m5 170 rfl) rfl
theorem q1220 : (Jvm.Cond.code ({ cls := "LeaderLeases$ConfigurationException", name := "<init>", desc := "(LLeaderLeases$Located;)V" } : Jvm.MethodName) prog_4_method_1_code (2 : Nat) (Option.none : Option Jvm.ClassFile.FieldType)) ∈ lw_all := lw_g (lw_at lw_m5 171 rfl) rfl
theorem q1221 : (Jvm.Cond.methodLink "LeaderLeases$ConfigurationException" (1 : Nat) ({ cls := "java/lang/Exception", name := "<init>", desc := "(Ljava/lang/String;Ljava/lang/Throwable;ZZ)V" } : Jvm.MethodName)) ∈ lw_all := lw_g (lw_at lw_m5 172 rfl) rfl
theorem q1222 : (Jvm.Cond.lays "LeaderLeases$ConfigurationException" "java/lang/Throwable" "depth" "I") ∈ lw_all := lw_g (lw_at lw_m5 173 rfl) rfl
theorem q1223 : (Jvm.Cond.superclass "LeaderLeases$ConfigurationException" "java/lang/Exception") ∈ lw_all := lw_g (lw_at lw_m5 174 rfl) rfl
theorem q1225 : (Jvm.Cond.instanceMethod ({ cls := "LeaderLeases$ConfigurationException", name := "number", desc := "()I" } : Jvm.MethodName)) ∈ lw_all := lw_g (lw_at lw_m5 176 rfl) rfl
theorem q1226 : (Jvm.Cond.selects "LeaderLeases$ConfigurationException" ({ cls := "LeaderLeases$ConfigurationException", name := "number", desc := "()I" } : Jvm.MethodName) ({ cls := "LeaderLeases$ConfigurationException", name := "number", desc := "()I" } : Jvm.MethodName)) ∈ lw_all := lw_g (lw_at lw_m5 177 rfl) rfl
theorem q1227 : (Jvm.Cond.code ({ cls := "LeaderLeases$ConfigurationException", name := "number", desc := "()I" } : Jvm.MethodName) prog_4_method_3_code (2 : Nat) (Option.some Jvm.ClassFile.FieldType.int)) ∈ lw_all := lw_g (lw_at lw_m5 178 rfl) rfl
theorem q1228 : (Jvm.Cond.methodLink "LeaderLeases$ConfigurationException" (7 : Nat) ({ cls := "LeaderLeases$ConfigurationException", name := "getCause", desc := "()Ljava/lang/Throwable;" } : Jvm.MethodName)) ∈ lw_all := lw_g (lw_at lw_m5 179 rfl) rfl
theorem q1229 : (Jvm.Cond.sameMethod "LeaderLeases$ConfigurationException" "java/lang/Throwable" "getCause" "()Ljava/lang/Throwable;") ∈ lw_all := lw_g (lw_at lw_m5 180 rfl) rfl
theorem q1231 : (Jvm.Cond.selects "LeaderLeases$ConfigurationException" ({ cls := "LeaderLeases$ConfigurationException", name := "getCause", desc := "()Ljava/lang/Throwable;" } : Jvm.MethodName) ({ cls := "java/lang/Throwable", name := "getCause", desc := "()Ljava/lang/Throwable;" } : Jvm.MethodName)) ∈ lw_all := lw_g (lw_at lw_m5 182 rfl) rfl
theorem q1234 : (Jvm.Cond.classLink "LeaderLeases$ConfigurationException" (19 : Nat) "LeaderLeases$SyntaxError") ∈ lw_all := lw_g (lw_at lw_m5 185 rfl) rfl
theorem q1235 : (Jvm.Cond.classLink "LeaderLeases$ConfigurationException" (21 : Nat) "LeaderLeases$RangeError") ∈ lw_all := lw_g (lw_at lw_m5 186 rfl) rfl
theorem q1236 : (Jvm.Cond.classLink "LeaderLeases$ConfigurationException" (23 : Nat) "LeaderLeases$RepetitionError") ∈ lw_all := lw_g (lw_at lw_m5 187 rfl) rfl
theorem q1238 : (Jvm.Cond.instanceMethod ({ cls := "LeaderLeases$ConfigurationException", name := "position", desc := "()I" } : Jvm.MethodName)) ∈ lw_all := lw_g (lw_at lw_m5 189 rfl) rfl
theorem q1239 : (Jvm.Cond.selects "LeaderLeases$ConfigurationException" ({ cls := "LeaderLeases$ConfigurationException", name := "position", desc := "()I" } : Jvm.MethodName) ({ cls := "LeaderLeases$ConfigurationException", name := "position", desc := "()I" } : Jvm.MethodName)) ∈ lw_all := lw_g (lw_at lw_m5 190 rfl) rfl
theorem q1240 : (Jvm.Cond.code ({ cls := "LeaderLeases$ConfigurationException", name := "position", desc := "()I" } : Jvm.MethodName) prog_4_method_2_code (1 : Nat) (Option.some Jvm.ClassFile.FieldType.int)) ∈ lw_all := lw_g (lw_at lw_m5 191 rfl) rfl
theorem q1241 : (Jvm.Cond.classLink "LeaderLeases$ConfigurationException" (13 : Nat) "LeaderLeases$Located") ∈ lw_all := lw_g (lw_at lw_m5 192 rfl) rfl
theorem q1242 : (Jvm.Cond.methodLink "LeaderLeases$ConfigurationException" (15 : Nat) ({ cls := "LeaderLeases$Located", name := "position", desc := "()I" } : Jvm.MethodName)) ∈ lw_all := lw_g (lw_at lw_m5 193 rfl) rfl
theorem q2814 : (Jvm.Cond.castable "LeaderLeases$ConfigurationException" "java/lang/Object") ∈ lw_tbl := lw_at lw_m12 85 rfl
theorem in_X14 : ∀ w ∈ wsX140, w ∈ lw_all := lw_in wsX140 [1213, 1214, 1215, 1216, 1217, 1222] (by decide +kernel) (by decide +kernel)

/-! LeaderLeases$Kind -/
set_option maxRecDepth 100000
def RX15 : String := "LeaderLeases$Kind"
abbrev cX15_isToNode : ByteArray := prog_7_method_4_code
def yX15_isToNode : MethodName := ⟨RX15, "isToNode", "()Z"⟩
def dkwX15_isToNode_1 : List UInt8 := [161, 0, 7, 4, 167, 0, 4, 3, 172]
abbrev dktX15_isToNode_1 : List UInt8 := dkwX15_isToNode_1 ++ []
def dkwX15_isToNode_0 : List UInt8 := [42, 178, 0, 7, 165, 0, 23, 42, 178, 0, 10, 165, 0, 16, 42, 182, 0, 50, 178, 0, 22, 182, 0, 50]
abbrev dktX15_isToNode_0 : List UInt8 := dkwX15_isToNode_0 ++ dktX15_isToNode_1
theorem dksX15_isToNode_0 : cX15_isToNode.data.toList.drop 0 = dktX15_isToNode_0 := by decide +kernel
theorem dksX15_isToNode_1 : cX15_isToNode.data.toList.drop 24 = dktX15_isToNode_1 := dk_seg dksX15_isToNode_0 24 rfl rfl
theorem dX15_isToNode_0 : decode cX15_isToNode 0 = .ok (.aload_n 0, 1) := dk_42 (dk_at dksX15_isToNode_0 0 rfl rfl)
theorem dX15_isToNode_1 : decode cX15_isToNode 1 = .ok (.getstatic 7, 3) := dk_178 0 7 (dk_at dksX15_isToNode_0 1 rfl rfl)
theorem dX15_isToNode_4 : decode cX15_isToNode 4 = .ok (.if_acmp .eq 23, 3) := dk_165 0 23 (dk_at dksX15_isToNode_0 4 rfl rfl)
theorem dX15_isToNode_7 : decode cX15_isToNode 7 = .ok (.aload_n 0, 1) := dk_42 (dk_at dksX15_isToNode_0 7 rfl rfl)
theorem dX15_isToNode_8 : decode cX15_isToNode 8 = .ok (.getstatic 10, 3) := dk_178 0 10 (dk_at dksX15_isToNode_0 8 rfl rfl)
theorem dX15_isToNode_11 : decode cX15_isToNode 11 = .ok (.if_acmp .eq 16, 3) := dk_165 0 16 (dk_at dksX15_isToNode_0 11 rfl rfl)
theorem dX15_isToNode_14 : decode cX15_isToNode 14 = .ok (.aload_n 0, 1) := dk_42 (dk_at dksX15_isToNode_0 14 rfl rfl)
theorem dX15_isToNode_15 : decode cX15_isToNode 15 = .ok (.invokevirtual 50, 3) := dk_182 0 50 (dk_at dksX15_isToNode_0 15 rfl rfl)
theorem dX15_isToNode_18 : decode cX15_isToNode 18 = .ok (.getstatic 22, 3) := dk_178 0 22 (dk_at dksX15_isToNode_0 18 rfl rfl)
theorem dX15_isToNode_21 : decode cX15_isToNode 21 = .ok (.invokevirtual 50, 3) := dk_182 0 50 (dk_at dksX15_isToNode_0 21 rfl rfl)
theorem dX15_isToNode_24 : decode cX15_isToNode 24 = .ok (.if_icmp .lt 7, 3) := dk_161 0 7 (dk_at dksX15_isToNode_1 0 rfl rfl)
theorem dX15_isToNode_27 : decode cX15_isToNode 27 = .ok (.iconst 1, 1) := dk_4 (dk_at dksX15_isToNode_1 3 rfl rfl)
theorem dX15_isToNode_28 : decode cX15_isToNode 28 = .ok (.goto 4, 3) := dk_167 0 4 (dk_at dksX15_isToNode_1 4 rfl rfl)
theorem dX15_isToNode_31 : decode cX15_isToNode 31 = .ok (.iconst 0, 1) := dk_3 (dk_at dksX15_isToNode_1 7 rfl rfl)
theorem dX15_isToNode_32 : decode cX15_isToNode 32 = .ok (.ireturn, 1) := dk_172 (dk_at dksX15_isToNode_1 8 rfl rfl)
theorem q126 : (Jvm.Cond.initialized "LeaderLeases$Kind") ∈ lw_all := lw_g (lw_at lw_m1 37 rfl) rfl
theorem q604 : (Jvm.Cond.selects "LeaderLeases$Kind" ({ cls := "java/lang/Object", name := "getClass", desc := "()Ljava/lang/Class;" } : Jvm.MethodName) ({ cls := "java/lang/Object", name := "getClass", desc := "()Ljava/lang/Class;" } : Jvm.MethodName)) ∈ lw_all := lw_g (lw_at lw_m3 35 rfl) rfl
theorem q1013 : (Jvm.Cond.selects "LeaderLeases$Kind" ({ cls := "java/lang/Object", name := "equals", desc := "(Ljava/lang/Object;)Z" } : Jvm.MethodName) ({ cls := "java/lang/Enum", name := "equals", desc := "(Ljava/lang/Object;)Z" } : Jvm.MethodName)) ∈ lw_all := lw_g (lw_at lw_m4 204 rfl) rfl
theorem q1348 : (Jvm.Cond.instanceMethod ({ cls := "LeaderLeases$Kind", name := "isToNode", desc := "()Z" } : Jvm.MethodName)) ∈ lw_all := lw_g (lw_at lw_m6 59 rfl) rfl
theorem q1349 : (Jvm.Cond.selects "LeaderLeases$Kind" ({ cls := "LeaderLeases$Kind", name := "isToNode", desc := "()Z" } : Jvm.MethodName) ({ cls := "LeaderLeases$Kind", name := "isToNode", desc := "()Z" } : Jvm.MethodName)) ∈ lw_all := lw_g (lw_at lw_m6 60 rfl) rfl
theorem q1350 : (Jvm.Cond.code ({ cls := "LeaderLeases$Kind", name := "isToNode", desc := "()Z" } : Jvm.MethodName) prog_7_method_4_code (1 : Nat) (Option.some Jvm.ClassFile.FieldType.boolean)) ∈ lw_all := lw_g (lw_at lw_m6 61 rfl) rfl
theorem q1351 : (Jvm.Cond.fieldLink "LeaderLeases$Kind" (7 : Nat) "LeaderLeases$Kind" "GRANT" "LLeaderLeases$Kind;") ∈ lw_all := lw_g (lw_at lw_m6 62 rfl) rfl
theorem q1352 : (Jvm.Cond.laysStatic "LeaderLeases$Kind" "GRANT" "LLeaderLeases$Kind;") ∈ lw_tbl := lw_at lw_m6 63 rfl
theorem q1353 : (Jvm.Cond.fieldLink "LeaderLeases$Kind" (10 : Nat) "LeaderLeases$Kind" "DENY" "LLeaderLeases$Kind;") ∈ lw_all := lw_g (lw_at lw_m6 64 rfl) rfl
theorem q1354 : (Jvm.Cond.laysStatic "LeaderLeases$Kind" "DENY" "LLeaderLeases$Kind;") ∈ lw_tbl := lw_at lw_m6 65 rfl
theorem q1355 : (Jvm.Cond.methodLink "LeaderLeases$Kind" (50 : Nat) ({ cls := "LeaderLeases$Kind", name := "ordinal", desc := "()I" } : Jvm.MethodName)) ∈ lw_all := lw_g (lw_at lw_m6 66 rfl) rfl
theorem q1356 : (Jvm.Cond.sameMethod "LeaderLeases$Kind" "java/lang/Enum" "ordinal" "()I") ∈ lw_all := lw_g (lw_at lw_m6 67 rfl) rfl
theorem q1358 : (Jvm.Cond.selects "LeaderLeases$Kind" ({ cls := "LeaderLeases$Kind", name := "ordinal", desc := "()I" } : Jvm.MethodName) ({ cls := "java/lang/Enum", name := "ordinal", desc := "()I" } : Jvm.MethodName)) ∈ lw_all := lw_g (lw_at lw_m6 69 rfl) rfl
theorem q1361 : (Jvm.Cond.fieldLink "LeaderLeases$Kind" (22 : Nat) "LeaderLeases$Kind" "WRITTEN" "LLeaderLeases$Kind;") ∈ lw_all := lw_g (lw_at lw_m6 72 rfl) rfl
theorem q1362 : (Jvm.Cond.laysStatic "LeaderLeases$Kind" "WRITTEN" "LLeaderLeases$Kind;") ∈ lw_tbl := lw_at lw_m6 73 rfl
theorem q1477 : (Jvm.Cond.laysStatic "LeaderLeases$Kind" "FETCH" "LLeaderLeases$Kind;") ∈ lw_tbl := lw_at lw_m6 188 rfl
theorem q1506 : (Jvm.Cond.laysStatic "LeaderLeases$Kind" "FETCHED" "LLeaderLeases$Kind;") ∈ lw_tbl := lw_at lw_m6 217 rfl
theorem q1535 : (Jvm.Cond.laysStatic "LeaderLeases$Kind" "FENCED" "LLeaderLeases$Kind;") ∈ lw_tbl := lw_at lw_m7 6 rfl
theorem q1545 : (Jvm.Cond.laysStatic "LeaderLeases$Kind" "RELEASE" "LLeaderLeases$Kind;") ∈ lw_tbl := lw_at lw_m7 16 rfl
theorem q1561 : (Jvm.Cond.laysStatic "LeaderLeases$Kind" "WRITE" "LLeaderLeases$Kind;") ∈ lw_tbl := lw_at lw_m7 32 rfl
theorem q1572 : (Jvm.Cond.laysStatic "LeaderLeases$Kind" "ACQUIRE" "LLeaderLeases$Kind;") ∈ lw_tbl := lw_at lw_m7 43 rfl
theorem q2815 : (Jvm.Cond.castable "LeaderLeases$Kind" "java/lang/Object") ∈ lw_tbl := lw_at lw_m12 86 rfl

/-! LeaderLeases$Message -/
set_option maxRecDepth 100000
def RX16 : String := "LeaderLeases$Message"
def TX16 : u_T := fun k => match k with
  | 0 => ("LeaderLeases$Message", "kind", "LLeaderLeases$Kind;", true)
  | 1 => ("LeaderLeases$Message", "node", "I", true)
  | 2 => ("LeaderLeases$Message", "sequence", "I", true)
  | 3 => ("LeaderLeases$Message", "first", "I", true)
  | 4 => ("LeaderLeases$Message", "second", "I", true)
  | 5 => ("LeaderLeases$Message", "third", "I", true)
  | _ => ("LeaderLeases$Message", "time", "I", true)
def tyX16 : Nat → FieldType := fun k => match k with
  | 0 => .object "LeaderLeases$Kind"
  | 1 => .int
  | 2 => .int
  | 3 => .int
  | 4 => .int
  | 5 => .int
  | _ => .int
abbrev wsX160 : List Cond := u_ws RX16 TX16 7
theorem nmX16 : ∀ a, a < 7 → ∀ b, b < 7 → a ≠ b → (TX16 a).2.1 ≠ (TX16 b).2.1 := by decide +kernel
theorem tyX16_ok : ∀ k, k < 7 → parseFieldDescriptor (TX16 k).2.2.1 = some (tyX16 k) := by decide +kernel
abbrev cX16_isBefore : ByteArray := prog_9_method_4_code
def yX16_isBefore : MethodName := ⟨RX16, "isBefore", "(LLeaderLeases$Message;)Z"⟩
def dkwX16_isBefore_1 : List UInt8 := [180, 0, 17, 43, 180, 0, 17, 162, 0, 7, 4, 167, 0, 4, 3, 172]
abbrev dktX16_isBefore_1 : List UInt8 := dkwX16_isBefore_1 ++ []
def dkwX16_isBefore_0 : List UInt8 := [42, 180, 0, 29, 43, 180, 0, 29, 161, 0, 25, 42, 180, 0, 29, 43, 180, 0, 29, 160, 0, 18, 42]
abbrev dktX16_isBefore_0 : List UInt8 := dkwX16_isBefore_0 ++ dktX16_isBefore_1
theorem dksX16_isBefore_0 : cX16_isBefore.data.toList.drop 0 = dktX16_isBefore_0 := by decide +kernel
theorem dksX16_isBefore_1 : cX16_isBefore.data.toList.drop 23 = dktX16_isBefore_1 := dk_seg dksX16_isBefore_0 23 rfl rfl
theorem dX16_isBefore_0 : decode cX16_isBefore 0 = .ok (.aload_n 0, 1) := dk_42 (dk_at dksX16_isBefore_0 0 rfl rfl)
theorem dX16_isBefore_1 : decode cX16_isBefore 1 = .ok (.getfield 29, 3) := dk_180 0 29 (dk_at dksX16_isBefore_0 1 rfl rfl)
theorem dX16_isBefore_4 : decode cX16_isBefore 4 = .ok (.aload_n 1, 1) := dk_43 (dk_at dksX16_isBefore_0 4 rfl rfl)
theorem dX16_isBefore_5 : decode cX16_isBefore 5 = .ok (.getfield 29, 3) := dk_180 0 29 (dk_at dksX16_isBefore_0 5 rfl rfl)
theorem dX16_isBefore_8 : decode cX16_isBefore 8 = .ok (.if_icmp .lt 25, 3) := dk_161 0 25 (dk_at dksX16_isBefore_0 8 rfl rfl)
theorem dX16_isBefore_11 : decode cX16_isBefore 11 = .ok (.aload_n 0, 1) := dk_42 (dk_at dksX16_isBefore_0 11 rfl rfl)
theorem dX16_isBefore_12 : decode cX16_isBefore 12 = .ok (.getfield 29, 3) := dk_180 0 29 (dk_at dksX16_isBefore_0 12 rfl rfl)
theorem dX16_isBefore_15 : decode cX16_isBefore 15 = .ok (.aload_n 1, 1) := dk_43 (dk_at dksX16_isBefore_0 15 rfl rfl)
theorem dX16_isBefore_16 : decode cX16_isBefore 16 = .ok (.getfield 29, 3) := dk_180 0 29 (dk_at dksX16_isBefore_0 16 rfl rfl)
theorem dX16_isBefore_19 : decode cX16_isBefore 19 = .ok (.if_icmp .ne 18, 3) := dk_160 0 18 (dk_at dksX16_isBefore_0 19 rfl rfl)
theorem dX16_isBefore_22 : decode cX16_isBefore 22 = .ok (.aload_n 0, 1) := dk_42 (dk_at dksX16_isBefore_0 22 rfl rfl)
theorem dX16_isBefore_23 : decode cX16_isBefore 23 = .ok (.getfield 17, 3) := dk_180 0 17 (dk_at dksX16_isBefore_1 0 rfl rfl)
theorem dX16_isBefore_26 : decode cX16_isBefore 26 = .ok (.aload_n 1, 1) := dk_43 (dk_at dksX16_isBefore_1 3 rfl rfl)
theorem dX16_isBefore_27 : decode cX16_isBefore 27 = .ok (.getfield 17, 3) := dk_180 0 17 (dk_at dksX16_isBefore_1 4 rfl rfl)
theorem dX16_isBefore_30 : decode cX16_isBefore 30 = .ok (.if_icmp .ge 7, 3) := dk_162 0 7 (dk_at dksX16_isBefore_1 7 rfl rfl)
theorem dX16_isBefore_33 : decode cX16_isBefore 33 = .ok (.iconst 1, 1) := dk_4 (dk_at dksX16_isBefore_1 10 rfl rfl)
theorem dX16_isBefore_34 : decode cX16_isBefore 34 = .ok (.goto 4, 3) := dk_167 0 4 (dk_at dksX16_isBefore_1 11 rfl rfl)
theorem dX16_isBefore_37 : decode cX16_isBefore 37 = .ok (.iconst 0, 1) := dk_3 (dk_at dksX16_isBefore_1 14 rfl rfl)
theorem dX16_isBefore_38 : decode cX16_isBefore 38 = .ok (.ireturn, 1) := dk_172 (dk_at dksX16_isBefore_1 15 rfl rfl)
abbrev cX16_postponedTo : ByteArray := prog_9_method_3_code
def yX16_postponedTo : MethodName := ⟨RX16, "postponedTo", "(I)LLeaderLeases$Message;"⟩
def dkwX16_postponedTo_0 : List UInt8 := [187, 0, 8, 89, 42, 27, 183, 0, 32, 176]
abbrev dktX16_postponedTo_0 : List UInt8 := dkwX16_postponedTo_0 ++ []
theorem dksX16_postponedTo_0 : cX16_postponedTo.data.toList.drop 0 = dktX16_postponedTo_0 := by decide +kernel
theorem dX16_postponedTo_0 : decode cX16_postponedTo 0 = .ok (.new 8, 3) := dk_187 0 8 (dk_at dksX16_postponedTo_0 0 rfl rfl)
theorem dX16_postponedTo_3 : decode cX16_postponedTo 3 = .ok (.dup, 1) := dk_89 (dk_at dksX16_postponedTo_0 3 rfl rfl)
theorem dX16_postponedTo_4 : decode cX16_postponedTo 4 = .ok (.aload_n 0, 1) := dk_42 (dk_at dksX16_postponedTo_0 4 rfl rfl)
theorem dX16_postponedTo_5 : decode cX16_postponedTo 5 = .ok (.iload_n 1, 1) := dk_27 (dk_at dksX16_postponedTo_0 5 rfl rfl)
theorem dX16_postponedTo_6 : decode cX16_postponedTo 6 = .ok (.invokespecial 32, 3) := dk_183 0 32 (dk_at dksX16_postponedTo_0 6 rfl rfl)
theorem dX16_postponedTo_9 : decode cX16_postponedTo 9 = .ok (.areturn, 1) := dk_176 (dk_at dksX16_postponedTo_0 9 rfl rfl)
abbrev cX16_init : ByteArray := prog_9_method_2_code
def yX16_init : MethodName := ⟨RX16, "<init>", "(LLeaderLeases$Message;I)V"⟩
def dkwX16_init_2 : List UInt8 := [180, 0, 26, 181, 0, 26, 42, 28, 181, 0, 29, 177]
abbrev dktX16_init_2 : List UInt8 := dkwX16_init_2 ++ []
def dkwX16_init_1 : List UInt8 := [180, 0, 17, 181, 0, 17, 42, 43, 180, 0, 20, 181, 0, 20, 42, 43, 180, 0, 23, 181, 0, 23, 42, 43]
abbrev dktX16_init_1 : List UInt8 := dkwX16_init_1 ++ dktX16_init_2
def dkwX16_init_0 : List UInt8 := [42, 183, 0, 1, 42, 43, 180, 0, 7, 181, 0, 7, 42, 43, 180, 0, 13, 181, 0, 13, 42, 43]
abbrev dktX16_init_0 : List UInt8 := dkwX16_init_0 ++ dktX16_init_1
theorem dksX16_init_0 : cX16_init.data.toList.drop 0 = dktX16_init_0 := by decide +kernel
theorem dksX16_init_1 : cX16_init.data.toList.drop 22 = dktX16_init_1 := dk_seg dksX16_init_0 22 rfl rfl
theorem dksX16_init_2 : cX16_init.data.toList.drop 46 = dktX16_init_2 := dk_seg dksX16_init_1 24 rfl rfl
theorem dX16_init_0 : decode cX16_init 0 = .ok (.aload_n 0, 1) := dk_42 (dk_at dksX16_init_0 0 rfl rfl)
theorem dX16_init_1 : decode cX16_init 1 = .ok (.invokespecial 1, 3) := dk_183 0 1 (dk_at dksX16_init_0 1 rfl rfl)
theorem dX16_init_4 : decode cX16_init 4 = .ok (.aload_n 0, 1) := dk_42 (dk_at dksX16_init_0 4 rfl rfl)
theorem dX16_init_5 : decode cX16_init 5 = .ok (.aload_n 1, 1) := dk_43 (dk_at dksX16_init_0 5 rfl rfl)
theorem dX16_init_6 : decode cX16_init 6 = .ok (.getfield 7, 3) := dk_180 0 7 (dk_at dksX16_init_0 6 rfl rfl)
theorem dX16_init_9 : decode cX16_init 9 = .ok (.putfield 7, 3) := dk_181 0 7 (dk_at dksX16_init_0 9 rfl rfl)
theorem dX16_init_12 : decode cX16_init 12 = .ok (.aload_n 0, 1) := dk_42 (dk_at dksX16_init_0 12 rfl rfl)
theorem dX16_init_13 : decode cX16_init 13 = .ok (.aload_n 1, 1) := dk_43 (dk_at dksX16_init_0 13 rfl rfl)
theorem dX16_init_14 : decode cX16_init 14 = .ok (.getfield 13, 3) := dk_180 0 13 (dk_at dksX16_init_0 14 rfl rfl)
theorem dX16_init_17 : decode cX16_init 17 = .ok (.putfield 13, 3) := dk_181 0 13 (dk_at dksX16_init_0 17 rfl rfl)
theorem dX16_init_20 : decode cX16_init 20 = .ok (.aload_n 0, 1) := dk_42 (dk_at dksX16_init_0 20 rfl rfl)
theorem dX16_init_21 : decode cX16_init 21 = .ok (.aload_n 1, 1) := dk_43 (dk_at dksX16_init_0 21 rfl rfl)
theorem dX16_init_22 : decode cX16_init 22 = .ok (.getfield 17, 3) := dk_180 0 17 (dk_at dksX16_init_1 0 rfl rfl)
theorem dX16_init_25 : decode cX16_init 25 = .ok (.putfield 17, 3) := dk_181 0 17 (dk_at dksX16_init_1 3 rfl rfl)
theorem dX16_init_28 : decode cX16_init 28 = .ok (.aload_n 0, 1) := dk_42 (dk_at dksX16_init_1 6 rfl rfl)
theorem dX16_init_29 : decode cX16_init 29 = .ok (.aload_n 1, 1) := dk_43 (dk_at dksX16_init_1 7 rfl rfl)
theorem dX16_init_30 : decode cX16_init 30 = .ok (.getfield 20, 3) := dk_180 0 20 (dk_at dksX16_init_1 8 rfl rfl)
theorem dX16_init_33 : decode cX16_init 33 = .ok (.putfield 20, 3) := dk_181 0 20 (dk_at dksX16_init_1 11 rfl rfl)
theorem dX16_init_36 : decode cX16_init 36 = .ok (.aload_n 0, 1) := dk_42 (dk_at dksX16_init_1 14 rfl rfl)
theorem dX16_init_37 : decode cX16_init 37 = .ok (.aload_n 1, 1) := dk_43 (dk_at dksX16_init_1 15 rfl rfl)
theorem dX16_init_38 : decode cX16_init 38 = .ok (.getfield 23, 3) := dk_180 0 23 (dk_at dksX16_init_1 16 rfl rfl)
theorem dX16_init_41 : decode cX16_init 41 = .ok (.putfield 23, 3) := dk_181 0 23 (dk_at dksX16_init_1 19 rfl rfl)
theorem dX16_init_44 : decode cX16_init 44 = .ok (.aload_n 0, 1) := dk_42 (dk_at dksX16_init_1 22 rfl rfl)
theorem dX16_init_45 : decode cX16_init 45 = .ok (.aload_n 1, 1) := dk_43 (dk_at dksX16_init_1 23 rfl rfl)
theorem dX16_init_46 : decode cX16_init 46 = .ok (.getfield 26, 3) := dk_180 0 26 (dk_at dksX16_init_2 0 rfl rfl)
theorem dX16_init_49 : decode cX16_init 49 = .ok (.putfield 26, 3) := dk_181 0 26 (dk_at dksX16_init_2 3 rfl rfl)
theorem dX16_init_52 : decode cX16_init 52 = .ok (.aload_n 0, 1) := dk_42 (dk_at dksX16_init_2 6 rfl rfl)
theorem dX16_init_53 : decode cX16_init 53 = .ok (.iload_n 2, 1) := dk_28 (dk_at dksX16_init_2 7 rfl rfl)
theorem dX16_init_54 : decode cX16_init 54 = .ok (.putfield 29, 3) := dk_181 0 29 (dk_at dksX16_init_2 8 rfl rfl)
theorem dX16_init_57 : decode cX16_init 57 = .ok (.return_, 1) := dk_177 (dk_at dksX16_init_2 11 rfl rfl)
abbrev cX16_init_2 : ByteArray := prog_9_method_1_code
def yX16_init_2 : MethodName := ⟨RX16, "<init>", "(LLeaderLeases$Kind;II[II)V"⟩
def dkwX16_init_2_2 : List UInt8 := [181, 0, 29, 177]
abbrev dktX16_init_2_2 : List UInt8 := dkwX16_init_2_2 ++ []
def dkwX16_init_2_1 : List UInt8 := [181, 0, 20, 42, 25, 4, 4, 46, 181, 0, 23, 42, 25, 4, 5, 46, 181, 0, 26, 42, 21, 5]
abbrev dktX16_init_2_1 : List UInt8 := dkwX16_init_2_1 ++ dktX16_init_2_2
def dkwX16_init_2_0 : List UInt8 := [42, 183, 0, 1, 42, 43, 181, 0, 7, 42, 28, 181, 0, 13, 42, 29, 181, 0, 17, 42, 25, 4, 3, 46]
abbrev dktX16_init_2_0 : List UInt8 := dkwX16_init_2_0 ++ dktX16_init_2_1
theorem dksX16_init_2_0 : cX16_init_2.data.toList.drop 0 = dktX16_init_2_0 := by decide +kernel
theorem dksX16_init_2_1 : cX16_init_2.data.toList.drop 24 = dktX16_init_2_1 := dk_seg dksX16_init_2_0 24 rfl rfl
theorem dksX16_init_2_2 : cX16_init_2.data.toList.drop 46 = dktX16_init_2_2 := dk_seg dksX16_init_2_1 22 rfl rfl
theorem dX16_init_2_0 : decode cX16_init_2 0 = .ok (.aload_n 0, 1) := dk_42 (dk_at dksX16_init_2_0 0 rfl rfl)
theorem dX16_init_2_1 : decode cX16_init_2 1 = .ok (.invokespecial 1, 3) := dk_183 0 1 (dk_at dksX16_init_2_0 1 rfl rfl)
theorem dX16_init_2_4 : decode cX16_init_2 4 = .ok (.aload_n 0, 1) := dk_42 (dk_at dksX16_init_2_0 4 rfl rfl)
theorem dX16_init_2_5 : decode cX16_init_2 5 = .ok (.aload_n 1, 1) := dk_43 (dk_at dksX16_init_2_0 5 rfl rfl)
theorem dX16_init_2_6 : decode cX16_init_2 6 = .ok (.putfield 7, 3) := dk_181 0 7 (dk_at dksX16_init_2_0 6 rfl rfl)
theorem dX16_init_2_9 : decode cX16_init_2 9 = .ok (.aload_n 0, 1) := dk_42 (dk_at dksX16_init_2_0 9 rfl rfl)
theorem dX16_init_2_10 : decode cX16_init_2 10 = .ok (.iload_n 2, 1) := dk_28 (dk_at dksX16_init_2_0 10 rfl rfl)
theorem dX16_init_2_11 : decode cX16_init_2 11 = .ok (.putfield 13, 3) := dk_181 0 13 (dk_at dksX16_init_2_0 11 rfl rfl)
theorem dX16_init_2_14 : decode cX16_init_2 14 = .ok (.aload_n 0, 1) := dk_42 (dk_at dksX16_init_2_0 14 rfl rfl)
theorem dX16_init_2_15 : decode cX16_init_2 15 = .ok (.iload_n 3, 1) := dk_29 (dk_at dksX16_init_2_0 15 rfl rfl)
theorem dX16_init_2_16 : decode cX16_init_2 16 = .ok (.putfield 17, 3) := dk_181 0 17 (dk_at dksX16_init_2_0 16 rfl rfl)
theorem dX16_init_2_19 : decode cX16_init_2 19 = .ok (.aload_n 0, 1) := dk_42 (dk_at dksX16_init_2_0 19 rfl rfl)
theorem dX16_init_2_20 : decode cX16_init_2 20 = .ok (.aload 4, 2) := dk_25 4 (dk_at dksX16_init_2_0 20 rfl rfl)
theorem dX16_init_2_22 : decode cX16_init_2 22 = .ok (.iconst 0, 1) := dk_3 (dk_at dksX16_init_2_0 22 rfl rfl)
theorem dX16_init_2_23 : decode cX16_init_2 23 = .ok (.iaload, 1) := dk_46 (dk_at dksX16_init_2_0 23 rfl rfl)
theorem dX16_init_2_24 : decode cX16_init_2 24 = .ok (.putfield 20, 3) := dk_181 0 20 (dk_at dksX16_init_2_1 0 rfl rfl)
theorem dX16_init_2_27 : decode cX16_init_2 27 = .ok (.aload_n 0, 1) := dk_42 (dk_at dksX16_init_2_1 3 rfl rfl)
theorem dX16_init_2_28 : decode cX16_init_2 28 = .ok (.aload 4, 2) := dk_25 4 (dk_at dksX16_init_2_1 4 rfl rfl)
theorem dX16_init_2_30 : decode cX16_init_2 30 = .ok (.iconst 1, 1) := dk_4 (dk_at dksX16_init_2_1 6 rfl rfl)
theorem dX16_init_2_31 : decode cX16_init_2 31 = .ok (.iaload, 1) := dk_46 (dk_at dksX16_init_2_1 7 rfl rfl)
theorem dX16_init_2_32 : decode cX16_init_2 32 = .ok (.putfield 23, 3) := dk_181 0 23 (dk_at dksX16_init_2_1 8 rfl rfl)
theorem dX16_init_2_35 : decode cX16_init_2 35 = .ok (.aload_n 0, 1) := dk_42 (dk_at dksX16_init_2_1 11 rfl rfl)
theorem dX16_init_2_36 : decode cX16_init_2 36 = .ok (.aload 4, 2) := dk_25 4 (dk_at dksX16_init_2_1 12 rfl rfl)
theorem dX16_init_2_38 : decode cX16_init_2 38 = .ok (.iconst 2, 1) := dk_5 (dk_at dksX16_init_2_1 14 rfl rfl)
theorem dX16_init_2_39 : decode cX16_init_2 39 = .ok (.iaload, 1) := dk_46 (dk_at dksX16_init_2_1 15 rfl rfl)
theorem dX16_init_2_40 : decode cX16_init_2 40 = .ok (.putfield 26, 3) := dk_181 0 26 (dk_at dksX16_init_2_1 16 rfl rfl)
theorem dX16_init_2_43 : decode cX16_init_2 43 = .ok (.aload_n 0, 1) := dk_42 (dk_at dksX16_init_2_1 19 rfl rfl)
theorem dX16_init_2_44 : decode cX16_init_2 44 = .ok (.iload 5, 2) := dk_21 5 (dk_at dksX16_init_2_1 20 rfl rfl)
theorem dX16_init_2_46 : decode cX16_init_2 46 = .ok (.putfield 29, 3) := dk_181 0 29 (dk_at dksX16_init_2_2 0 rfl rfl)
theorem dX16_init_2_49 : decode cX16_init_2 49 = .ok (.return_, 1) := dk_177 (dk_at dksX16_init_2_2 3 rfl rfl)
theorem q127 : (Jvm.Cond.initialized "LeaderLeases$Message") ∈ lw_all := lw_g (lw_at lw_m1 38 rfl) rfl
theorem q605 : (Jvm.Cond.selects "LeaderLeases$Message" ({ cls := "java/lang/Object", name := "getClass", desc := "()Ljava/lang/Class;" } : Jvm.MethodName) ({ cls := "java/lang/Object", name := "getClass", desc := "()Ljava/lang/Class;" } : Jvm.MethodName)) ∈ lw_all := lw_g (lw_at lw_m3 36 rfl) rfl
theorem q1016 : (Jvm.Cond.selects "LeaderLeases$Message" ({ cls := "java/lang/Object", name := "equals", desc := "(Ljava/lang/Object;)Z" } : Jvm.MethodName) ({ cls := "java/lang/Object", name := "equals", desc := "(Ljava/lang/Object;)Z" } : Jvm.MethodName)) ∈ lw_all := lw_g (lw_at lw_m4 207 rfl) rfl
theorem q1268 : (Jvm.Cond.instanceMethod ({ cls := "LeaderLeases$Message", name := "isBefore", desc := "(LLeaderLeases$Message;)Z" } : Jvm.MethodName)) ∈ lw_all := lw_g (lw_at lw_m5 219 rfl) rfl
theorem q1269 : (Jvm.Cond.selects "LeaderLeases$Message" ({ cls := "LeaderLeases$Message", name := "isBefore", desc := "(LLeaderLeases$Message;)Z" } : Jvm.MethodName) ({ cls := "LeaderLeases$Message", name := "isBefore", desc := "(LLeaderLeases$Message;)Z" } : Jvm.MethodName)) ∈ lw_all := lw_g (lw_at lw_m5 220 rfl) rfl
theorem q1270 : (Jvm.Cond.code ({ cls := "LeaderLeases$Message", name := "isBefore", desc := "(LLeaderLeases$Message;)Z" } : Jvm.MethodName) prog_9_method_4_code (2 : Nat) (Option.some Jvm.ClassFile.FieldType.boolean)) ∈ lw_all := lw_g (lw_at lw_m5 221 rfl) rfl
theorem q1368 : (Jvm.Cond.instanceMethod ({ cls := "LeaderLeases$Message", name := "postponedTo", desc := "(I)LLeaderLeases$Message;" } : Jvm.MethodName)) ∈ lw_all := lw_g (lw_at lw_m6 79 rfl) rfl
theorem q1369 : (Jvm.Cond.selects "LeaderLeases$Message" ({ cls := "LeaderLeases$Message", name := "postponedTo", desc := "(I)LLeaderLeases$Message;" } : Jvm.MethodName) ({ cls := "LeaderLeases$Message", name := "postponedTo", desc := "(I)LLeaderLeases$Message;" } : Jvm.MethodName)) ∈ lw_all := lw_g (lw_at lw_m6 80 rfl) rfl
theorem q1370 : (Jvm.Cond.code ({ cls := "LeaderLeases$Message", name := "postponedTo", desc := "(I)LLeaderLeases$Message;" } : Jvm.MethodName) prog_9_method_3_code (2 : Nat) (Option.some (Jvm.ClassFile.FieldType.object "LeaderLeases$Message"))) ∈ lw_all := lw_g (lw_at lw_m6 81 rfl) rfl
theorem q1371 : (Jvm.Cond.classLink "LeaderLeases$Message" (8 : Nat) "LeaderLeases$Message") ∈ lw_all := lw_g (lw_at lw_m6 82 rfl) rfl
theorem q1372 : (Jvm.Cond.instantiable "LeaderLeases$Message" (7 : Nat)) ∈ lw_all := lw_g (lw_at lw_m6 83 rfl) rfl
theorem q1373 : (Jvm.Cond.methodLink "LeaderLeases$Message" (32 : Nat) ({ cls := "LeaderLeases$Message", name := "<init>", desc := "(LLeaderLeases$Message;I)V" } : Jvm.MethodName)) ∈ lw_all := lw_g (lw_at lw_m6 84 rfl) rfl
theorem q1374 : (Jvm.Cond.instanceMethod ({ cls := "LeaderLeases$Message", name := "<init>", desc := "(LLeaderLeases$Message;I)V" } : Jvm.MethodName)) ∈ lw_all := lw_g (lw_at lw_m6 85 rfl) rfl
theorem q1375 : (Jvm.Cond.code ({ cls := "LeaderLeases$Message", name := "<init>", desc := "(LLeaderLeases$Message;I)V" } : Jvm.MethodName) prog_9_method_2_code (3 : Nat) (Option.none : Option Jvm.ClassFile.FieldType)) ∈ lw_all := lw_g (lw_at lw_m6 86 rfl) rfl
theorem q1376 : (Jvm.Cond.methodLink "LeaderLeases$Message" (1 : Nat) ({ cls := "java/lang/Object", name := "<init>", desc := "()V" } : Jvm.MethodName)) ∈ lw_all := lw_g (lw_at lw_m6 87 rfl) rfl
theorem q1377 : (Jvm.Cond.fieldLink "LeaderLeases$Message" (7 : Nat) "LeaderLeases$Message" "kind" "LLeaderLeases$Kind;") ∈ lw_all := lw_g (lw_at lw_m6 88 rfl) rfl
theorem q1379 : (Jvm.Cond.fieldLink "LeaderLeases$Message" (13 : Nat) "LeaderLeases$Message" "node" "I") ∈ lw_all := lw_g (lw_at lw_m6 90 rfl) rfl
theorem q1381 : (Jvm.Cond.fieldLink "LeaderLeases$Message" (17 : Nat) "LeaderLeases$Message" "sequence" "I") ∈ lw_all := lw_g (lw_at lw_m6 92 rfl) rfl
theorem q1383 : (Jvm.Cond.fieldLink "LeaderLeases$Message" (20 : Nat) "LeaderLeases$Message" "first" "I") ∈ lw_all := lw_g (lw_at lw_m6 94 rfl) rfl
theorem q1385 : (Jvm.Cond.fieldLink "LeaderLeases$Message" (23 : Nat) "LeaderLeases$Message" "second" "I") ∈ lw_all := lw_g (lw_at lw_m6 96 rfl) rfl
theorem q1387 : (Jvm.Cond.fieldLink "LeaderLeases$Message" (26 : Nat) "LeaderLeases$Message" "third" "I") ∈ lw_all := lw_g (lw_at lw_m6 98 rfl) rfl
theorem q1389 : (Jvm.Cond.fieldLink "LeaderLeases$Message" (29 : Nat) "LeaderLeases$Message" "time" "I") ∈ lw_all := lw_g (lw_at lw_m6 100 rfl) rfl
theorem q1391 : (Jvm.Cond.laysFinal "LeaderLeases$Message" "LeaderLeases$Message" "kind" "LLeaderLeases$Kind;") ∈ lw_all := lw_g (lw_at lw_m6 102 rfl) rfl
theorem q1392 : (Jvm.Cond.soleField "LeaderLeases$Message" "kind") ∈ lw_all := lw_g (lw_at lw_m6 103 rfl) rfl
theorem q1393 : (Jvm.Cond.laysFinal "LeaderLeases$Message" "LeaderLeases$Message" "node" "I") ∈ lw_all := lw_g (lw_at lw_m6 104 rfl) rfl
theorem q1394 : (Jvm.Cond.soleField "LeaderLeases$Message" "node") ∈ lw_all := lw_g (lw_at lw_m6 105 rfl) rfl
theorem q1395 : (Jvm.Cond.laysFinal "LeaderLeases$Message" "LeaderLeases$Message" "sequence" "I") ∈ lw_all := lw_g (lw_at lw_m6 106 rfl) rfl
theorem q1396 : (Jvm.Cond.soleField "LeaderLeases$Message" "sequence") ∈ lw_all := lw_g (lw_at lw_m6 107 rfl) rfl
theorem q1397 : (Jvm.Cond.laysFinal "LeaderLeases$Message" "LeaderLeases$Message" "first" "I") ∈ lw_all := lw_g (lw_at lw_m6 108 rfl) rfl
theorem q1398 : (Jvm.Cond.soleField "LeaderLeases$Message" "first") ∈ lw_all := lw_g (lw_at lw_m6 109 rfl) rfl
theorem q1399 : (Jvm.Cond.laysFinal "LeaderLeases$Message" "LeaderLeases$Message" "second" "I") ∈ lw_all := lw_g (lw_at lw_m6 110 rfl) rfl
theorem q1400 : (Jvm.Cond.soleField "LeaderLeases$Message" "second") ∈ lw_all := lw_g (lw_at lw_m6 111 rfl) rfl
theorem q1401 : (Jvm.Cond.laysFinal "LeaderLeases$Message" "LeaderLeases$Message" "third" "I") ∈ lw_all := lw_g (lw_at lw_m6 112 rfl) rfl
theorem q1402 : (Jvm.Cond.soleField "LeaderLeases$Message" "third") ∈ lw_all := lw_g (lw_at lw_m6 113 rfl) rfl
theorem q1403 : (Jvm.Cond.laysFinal "LeaderLeases$Message" "LeaderLeases$Message" "time" "I") ∈ lw_all := lw_g (lw_at lw_m6 114 rfl) rfl
theorem q1404 : (Jvm.Cond.soleField "LeaderLeases$Message" "time") ∈ lw_all := lw_g (lw_at lw_m6 115 rfl) rfl
theorem q1405 : (Jvm.Cond.superclass "LeaderLeases$Message" "java/lang/Object") ∈ lw_all := lw_g (lw_at lw_m6 116 rfl) rfl
theorem q1463 : (Jvm.Cond.instanceMethod ({ cls := "LeaderLeases$Message", name := "<init>", desc := "(LLeaderLeases$Kind;II[II)V" } : Jvm.MethodName)) ∈ lw_all := lw_g (lw_at lw_m6 174 rfl) rfl
theorem q1464 : (Jvm.Cond.code ({ cls := "LeaderLeases$Message", name := "<init>", desc := "(LLeaderLeases$Kind;II[II)V" } : Jvm.MethodName) prog_9_method_1_code (6 : Nat) (Option.none : Option Jvm.ClassFile.FieldType)) ∈ lw_all := lw_g (lw_at lw_m6 175 rfl) rfl
theorem q2816 : (Jvm.Cond.castable "LeaderLeases$Message" "java/lang/Object") ∈ lw_tbl := lw_at lw_m12 87 rfl
theorem in_X16 : ∀ w ∈ wsX160, w ∈ lw_all := lw_in wsX160 [1391, 1393, 1395, 1397, 1399, 1401, 1403] (by decide +kernel) (by decide +kernel)

/-! LeaderLeases$Event -/
set_option maxRecDepth 100000
def RX17 : String := "LeaderLeases$Event"
def TX17 : u_T := fun k => match k with
  | 0 => ("LeaderLeases$Event", "time", "I", true)
  | 1 => ("LeaderLeases$Event", "kind", "I", true)
  | 2 => ("LeaderLeases$Event", "node", "I", true)
  | _ => ("LeaderLeases$Event", "token", "I", true)
def tyX17 : Nat → FieldType := fun k => match k with
  | 0 => .int
  | 1 => .int
  | 2 => .int
  | _ => .int
abbrev wsX170 : List Cond := u_ws RX17 TX17 4
theorem nmX17 : ∀ a, a < 4 → ∀ b, b < 4 → a ≠ b → (TX17 a).2.1 ≠ (TX17 b).2.1 := by decide +kernel
theorem tyX17_ok : ∀ k, k < 4 → parseFieldDescriptor (TX17 k).2.2.1 = some (tyX17 k) := by decide +kernel
abbrev cX17_init : ByteArray := prog_6_method_1_code
def yX17_init : MethodName := ⟨RX17, "<init>", "(IIII)V"⟩
def dkwX17_init_1 : List UInt8 := [181, 0, 19, 177]
abbrev dktX17_init_1 : List UInt8 := dkwX17_init_1 ++ []
def dkwX17_init_0 : List UInt8 := [42, 183, 0, 1, 42, 27, 181, 0, 7, 42, 28, 181, 0, 13, 42, 29, 181, 0, 16, 42, 21, 4]
abbrev dktX17_init_0 : List UInt8 := dkwX17_init_0 ++ dktX17_init_1
theorem dksX17_init_0 : cX17_init.data.toList.drop 0 = dktX17_init_0 := by decide +kernel
theorem dksX17_init_1 : cX17_init.data.toList.drop 22 = dktX17_init_1 := dk_seg dksX17_init_0 22 rfl rfl
theorem dX17_init_0 : decode cX17_init 0 = .ok (.aload_n 0, 1) := dk_42 (dk_at dksX17_init_0 0 rfl rfl)
theorem dX17_init_1 : decode cX17_init 1 = .ok (.invokespecial 1, 3) := dk_183 0 1 (dk_at dksX17_init_0 1 rfl rfl)
theorem dX17_init_4 : decode cX17_init 4 = .ok (.aload_n 0, 1) := dk_42 (dk_at dksX17_init_0 4 rfl rfl)
theorem dX17_init_5 : decode cX17_init 5 = .ok (.iload_n 1, 1) := dk_27 (dk_at dksX17_init_0 5 rfl rfl)
theorem dX17_init_6 : decode cX17_init 6 = .ok (.putfield 7, 3) := dk_181 0 7 (dk_at dksX17_init_0 6 rfl rfl)
theorem dX17_init_9 : decode cX17_init 9 = .ok (.aload_n 0, 1) := dk_42 (dk_at dksX17_init_0 9 rfl rfl)
theorem dX17_init_10 : decode cX17_init 10 = .ok (.iload_n 2, 1) := dk_28 (dk_at dksX17_init_0 10 rfl rfl)
theorem dX17_init_11 : decode cX17_init 11 = .ok (.putfield 13, 3) := dk_181 0 13 (dk_at dksX17_init_0 11 rfl rfl)
theorem dX17_init_14 : decode cX17_init 14 = .ok (.aload_n 0, 1) := dk_42 (dk_at dksX17_init_0 14 rfl rfl)
theorem dX17_init_15 : decode cX17_init 15 = .ok (.iload_n 3, 1) := dk_29 (dk_at dksX17_init_0 15 rfl rfl)
theorem dX17_init_16 : decode cX17_init 16 = .ok (.putfield 16, 3) := dk_181 0 16 (dk_at dksX17_init_0 16 rfl rfl)
theorem dX17_init_19 : decode cX17_init 19 = .ok (.aload_n 0, 1) := dk_42 (dk_at dksX17_init_0 19 rfl rfl)
theorem dX17_init_20 : decode cX17_init 20 = .ok (.iload 4, 2) := dk_21 4 (dk_at dksX17_init_0 20 rfl rfl)
theorem dX17_init_22 : decode cX17_init 22 = .ok (.putfield 19, 3) := dk_181 0 19 (dk_at dksX17_init_1 0 rfl rfl)
theorem dX17_init_25 : decode cX17_init 25 = .ok (.return_, 1) := dk_177 (dk_at dksX17_init_1 3 rfl rfl)
theorem q128 : (Jvm.Cond.initialized "LeaderLeases$Event") ∈ lw_all := lw_g (lw_at lw_m1 39 rfl) rfl
theorem q603 : (Jvm.Cond.selects "LeaderLeases$Event" ({ cls := "java/lang/Object", name := "getClass", desc := "()Ljava/lang/Class;" } : Jvm.MethodName) ({ cls := "java/lang/Object", name := "getClass", desc := "()Ljava/lang/Class;" } : Jvm.MethodName)) ∈ lw_all := lw_g (lw_at lw_m3 34 rfl) rfl
theorem q1012 : (Jvm.Cond.selects "LeaderLeases$Event" ({ cls := "java/lang/Object", name := "equals", desc := "(Ljava/lang/Object;)Z" } : Jvm.MethodName) ({ cls := "java/lang/Object", name := "equals", desc := "(Ljava/lang/Object;)Z" } : Jvm.MethodName)) ∈ lw_all := lw_g (lw_at lw_m4 203 rfl) rfl
theorem q1430 : (Jvm.Cond.instantiable "LeaderLeases$Event" (4 : Nat)) ∈ lw_all := lw_g (lw_at lw_m6 141 rfl) rfl
theorem q1432 : (Jvm.Cond.instanceMethod ({ cls := "LeaderLeases$Event", name := "<init>", desc := "(IIII)V" } : Jvm.MethodName)) ∈ lw_all := lw_g (lw_at lw_m6 143 rfl) rfl
theorem q1433 : (Jvm.Cond.code ({ cls := "LeaderLeases$Event", name := "<init>", desc := "(IIII)V" } : Jvm.MethodName) prog_6_method_1_code (5 : Nat) (Option.none : Option Jvm.ClassFile.FieldType)) ∈ lw_all := lw_g (lw_at lw_m6 144 rfl) rfl
theorem q1434 : (Jvm.Cond.methodLink "LeaderLeases$Event" (1 : Nat) ({ cls := "java/lang/Object", name := "<init>", desc := "()V" } : Jvm.MethodName)) ∈ lw_all := lw_g (lw_at lw_m6 145 rfl) rfl
theorem q1435 : (Jvm.Cond.fieldLink "LeaderLeases$Event" (7 : Nat) "LeaderLeases$Event" "time" "I") ∈ lw_all := lw_g (lw_at lw_m6 146 rfl) rfl
theorem q1437 : (Jvm.Cond.fieldLink "LeaderLeases$Event" (13 : Nat) "LeaderLeases$Event" "kind" "I") ∈ lw_all := lw_g (lw_at lw_m6 148 rfl) rfl
theorem q1439 : (Jvm.Cond.fieldLink "LeaderLeases$Event" (16 : Nat) "LeaderLeases$Event" "node" "I") ∈ lw_all := lw_g (lw_at lw_m6 150 rfl) rfl
theorem q1441 : (Jvm.Cond.fieldLink "LeaderLeases$Event" (19 : Nat) "LeaderLeases$Event" "token" "I") ∈ lw_all := lw_g (lw_at lw_m6 152 rfl) rfl
theorem q1443 : (Jvm.Cond.laysFinal "LeaderLeases$Event" "LeaderLeases$Event" "time" "I") ∈ lw_all := lw_g (lw_at lw_m6 154 rfl) rfl
theorem q1444 : (Jvm.Cond.soleField "LeaderLeases$Event" "time") ∈ lw_all := lw_g (lw_at lw_m6 155 rfl) rfl
theorem q1445 : (Jvm.Cond.laysFinal "LeaderLeases$Event" "LeaderLeases$Event" "kind" "I") ∈ lw_all := lw_g (lw_at lw_m6 156 rfl) rfl
theorem q1446 : (Jvm.Cond.soleField "LeaderLeases$Event" "kind") ∈ lw_all := lw_g (lw_at lw_m6 157 rfl) rfl
theorem q1447 : (Jvm.Cond.laysFinal "LeaderLeases$Event" "LeaderLeases$Event" "node" "I") ∈ lw_all := lw_g (lw_at lw_m6 158 rfl) rfl
theorem q1448 : (Jvm.Cond.soleField "LeaderLeases$Event" "node") ∈ lw_all := lw_g (lw_at lw_m6 159 rfl) rfl
theorem q1449 : (Jvm.Cond.laysFinal "LeaderLeases$Event" "LeaderLeases$Event" "token" "I") ∈ lw_all := lw_g (lw_at lw_m6 160 rfl) rfl
theorem q1450 : (Jvm.Cond.soleField "LeaderLeases$Event" "token") ∈ lw_all := lw_g (lw_at lw_m6 161 rfl) rfl
theorem q1451 : (Jvm.Cond.superclass "LeaderLeases$Event" "java/lang/Object") ∈ lw_all := lw_g (lw_at lw_m6 162 rfl) rfl
theorem q2817 : (Jvm.Cond.castable "LeaderLeases$Event" "java/lang/Object") ∈ lw_tbl := lw_at lw_m12 88 rfl
theorem in_X17 : ∀ w ∈ wsX170, w ∈ lw_all := lw_in wsX170 [1443, 1445, 1447, 1449] (by decide +kernel) (by decide +kernel)

/-! LeaderLeases$StaleToken -/
set_option maxRecDepth 100000
def RX18 : String := "LeaderLeases$StaleToken"
def TX18 : u_T := fun k => match k with
  | 0 => ("java/lang/Throwable", "cause", "Ljava/lang/Throwable;", false)
  | 1 => ("java/lang/Throwable", "stackTrace", "[Ljava/lang/StackTraceElement;", false)
  | 2 => ("java/lang/Throwable", "suppressedExceptions", "Ljava/util/List;", false)
  | 3 => ("java/lang/Throwable", "detailMessage", "Ljava/lang/String;", false)
  | 4 => ("java/lang/Throwable", "backtrace", "Ljava/lang/Object;", false)
  | 5 => ("java/lang/Throwable", "depth", "I", false)
  | _ => ("LeaderLeases$StaleToken", "token", "I", true)
def tyX18 : Nat → FieldType := fun k => match k with
  | 0 => .object "java/lang/Throwable"
  | 1 => .array (.object "java/lang/StackTraceElement")
  | 2 => .object "java/util/List"
  | 3 => .object "java/lang/String"
  | 4 => .object "java/lang/Object"
  | 5 => .int
  | _ => .int
abbrev wsX180 : List Cond := u_ws RX18 TX18 7
theorem nmX18 : ∀ a, a < 7 → ∀ b, b < 7 → a ≠ b → (TX18 a).2.1 ≠ (TX18 b).2.1 := by decide +kernel
theorem tyX18_ok : ∀ k, k < 7 → parseFieldDescriptor (TX18 k).2.2.1 = some (tyX18 k) := by decide +kernel
abbrev cX18_init : ByteArray := prog_18_method_1_code
def yX18_init : MethodName := ⟨RX18, "<init>", "(I)V"⟩
def dkwX18_init_0 : List UInt8 := [42, 1, 1, 3, 3, 183, 0, 1, 42, 27, 181, 0, 7, 177]
abbrev dktX18_init_0 : List UInt8 := dkwX18_init_0 ++ []
theorem dksX18_init_0 : cX18_init.data.toList.drop 0 = dktX18_init_0 := by decide +kernel
theorem dX18_init_0 : decode cX18_init 0 = .ok (.aload_n 0, 1) := dk_42 (dk_at dksX18_init_0 0 rfl rfl)
theorem dX18_init_1 : decode cX18_init 1 = .ok (.aconst_null, 1) := dk_1 (dk_at dksX18_init_0 1 rfl rfl)
theorem dX18_init_2 : decode cX18_init 2 = .ok (.aconst_null, 1) := dk_1 (dk_at dksX18_init_0 2 rfl rfl)
theorem dX18_init_3 : decode cX18_init 3 = .ok (.iconst 0, 1) := dk_3 (dk_at dksX18_init_0 3 rfl rfl)
theorem dX18_init_4 : decode cX18_init 4 = .ok (.iconst 0, 1) := dk_3 (dk_at dksX18_init_0 4 rfl rfl)
theorem dX18_init_5 : decode cX18_init 5 = .ok (.invokespecial 1, 3) := dk_183 0 1 (dk_at dksX18_init_0 5 rfl rfl)
theorem dX18_init_8 : decode cX18_init 8 = .ok (.aload_n 0, 1) := dk_42 (dk_at dksX18_init_0 8 rfl rfl)
theorem dX18_init_9 : decode cX18_init 9 = .ok (.iload_n 1, 1) := dk_27 (dk_at dksX18_init_0 9 rfl rfl)
theorem dX18_init_10 : decode cX18_init 10 = .ok (.putfield 7, 3) := dk_181 0 7 (dk_at dksX18_init_0 10 rfl rfl)
theorem dX18_init_13 : decode cX18_init 13 = .ok (.return_, 1) := dk_177 (dk_at dksX18_init_0 13 rfl rfl)
theorem q129 : (Jvm.Cond.initialized "LeaderLeases$StaleToken") ∈ lw_all := lw_g (lw_at lw_m1 40 rfl) rfl
theorem q223 : (Jvm.Cond.selects "LeaderLeases$StaleToken" ({ cls := "java/lang/Throwable", name := "fillInStackTrace", desc := "()Ljava/lang/Throwable;" } : Jvm.MethodName) ({ cls := "java/lang/Throwable", name := "fillInStackTrace", desc := "()Ljava/lang/Throwable;" } : Jvm.MethodName)) ∈ lw_all := lw_g (lw_at lw_m1 134 rfl) rfl
theorem q614 : (Jvm.Cond.selects "LeaderLeases$StaleToken" ({ cls := "java/lang/Object", name := "getClass", desc := "()Ljava/lang/Class;" } : Jvm.MethodName) ({ cls := "java/lang/Object", name := "getClass", desc := "()Ljava/lang/Class;" } : Jvm.MethodName)) ∈ lw_all := lw_g (lw_at lw_m3 45 rfl) rfl
theorem q1025 : (Jvm.Cond.selects "LeaderLeases$StaleToken" ({ cls := "java/lang/Object", name := "equals", desc := "(Ljava/lang/Object;)Z" } : Jvm.MethodName) ({ cls := "java/lang/Object", name := "equals", desc := "(Ljava/lang/Object;)Z" } : Jvm.MethodName)) ∈ lw_all := lw_g (lw_at lw_m4 216 rfl) rfl
theorem q1487 : (Jvm.Cond.instantiable "LeaderLeases$StaleToken" (7 : Nat)) ∈ lw_all := lw_g (lw_at lw_m6 198 rfl) rfl
theorem q1488 : (Jvm.Cond.castable "LeaderLeases$StaleToken" "LeaderLeases$StaleToken") ∈ lw_tbl := lw_at lw_m6 199 rfl
theorem q1489 : (Jvm.Cond.selects "LeaderLeases$StaleToken" ({ cls := "java/lang/Throwable", name := "fillInStackTrace", desc := "(I)Ljava/lang/Throwable;" } : Jvm.MethodName) ({ cls := "java/lang/Throwable", name := "fillInStackTrace", desc := "(I)Ljava/lang/Throwable;" } : Jvm.MethodName)) ∈ lw_all := lw_g (lw_at lw_m6 200 rfl) rfl
theorem q1490 : (Jvm.Cond.lays "LeaderLeases$StaleToken" "java/lang/Throwable" "cause" "Ljava/lang/Throwable;") ∈ lw_all := lw_g (lw_at lw_m6 201 rfl) rfl
theorem q1491 : (Jvm.Cond.lays "LeaderLeases$StaleToken" "java/lang/Throwable" "stackTrace" "[Ljava/lang/StackTraceElement;") ∈ lw_all := lw_g (lw_at lw_m6 202 rfl) rfl
theorem q1492 : (Jvm.Cond.lays "LeaderLeases$StaleToken" "java/lang/Throwable" "suppressedExceptions" "Ljava/util/List;") ∈ lw_all := lw_g (lw_at lw_m6 203 rfl) rfl
theorem q1493 : (Jvm.Cond.lays "LeaderLeases$StaleToken" "java/lang/Throwable" "detailMessage" "Ljava/lang/String;") ∈ lw_all := lw_g (lw_at lw_m6 204 rfl) rfl
theorem q1494 : (Jvm.Cond.lays "LeaderLeases$StaleToken" "java/lang/Throwable" "backtrace" "Ljava/lang/Object;") ∈ lw_all := lw_g (lw_at lw_m6 205 rfl) rfl
theorem q1496 : (Jvm.Cond.instanceMethod ({ cls := "LeaderLeases$StaleToken", name := "<init>", desc := "(I)V" } : Jvm.MethodName)) ∈ lw_all := lw_g (lw_at lw_m6 207 rfl) rfl
theorem q1497 : (Jvm.Cond.code ({ cls := "LeaderLeases$StaleToken", name := "<init>", desc := "(I)V" } : Jvm.MethodName) prog_18_method_1_code (2 : Nat) (Option.none : Option Jvm.ClassFile.FieldType)) ∈ lw_all := lw_g (lw_at lw_m6 208 rfl) rfl
theorem q1498 : (Jvm.Cond.methodLink "LeaderLeases$StaleToken" (1 : Nat) ({ cls := "java/lang/Exception", name := "<init>", desc := "(Ljava/lang/String;Ljava/lang/Throwable;ZZ)V" } : Jvm.MethodName)) ∈ lw_all := lw_g (lw_at lw_m6 209 rfl) rfl
theorem q1499 : (Jvm.Cond.fieldLink "LeaderLeases$StaleToken" (7 : Nat) "LeaderLeases$StaleToken" "token" "I") ∈ lw_all := lw_g (lw_at lw_m6 210 rfl) rfl
theorem q1501 : (Jvm.Cond.laysFinal "LeaderLeases$StaleToken" "LeaderLeases$StaleToken" "token" "I") ∈ lw_all := lw_g (lw_at lw_m6 212 rfl) rfl
theorem q1502 : (Jvm.Cond.soleField "LeaderLeases$StaleToken" "token") ∈ lw_all := lw_g (lw_at lw_m6 213 rfl) rfl
theorem q1503 : (Jvm.Cond.lays "LeaderLeases$StaleToken" "java/lang/Throwable" "depth" "I") ∈ lw_all := lw_g (lw_at lw_m6 214 rfl) rfl
theorem q1504 : (Jvm.Cond.superclass "LeaderLeases$StaleToken" "java/lang/Exception") ∈ lw_all := lw_g (lw_at lw_m6 215 rfl) rfl
theorem q2818 : (Jvm.Cond.castable "LeaderLeases$StaleToken" "java/lang/Object") ∈ lw_tbl := lw_at lw_m12 89 rfl
theorem in_X18 : ∀ w ∈ wsX180, w ∈ lw_all := lw_in wsX180 [1490, 1491, 1492, 1493, 1494, 1503, 1501] (by decide +kernel) (by decide +kernel)

/-! LeaderLeases$Rejection -/
set_option maxRecDepth 100000
def RX19 : String := "LeaderLeases$Rejection"
def TX19 : u_T := fun k => match k with
  | 0 => ("java/lang/Throwable", "cause", "Ljava/lang/Throwable;", false)
  | 1 => ("java/lang/Throwable", "stackTrace", "[Ljava/lang/StackTraceElement;", false)
  | 2 => ("java/lang/Throwable", "suppressedExceptions", "Ljava/util/List;", false)
  | 3 => ("java/lang/Throwable", "detailMessage", "Ljava/lang/String;", false)
  | 4 => ("java/lang/Throwable", "backtrace", "Ljava/lang/Object;", false)
  | _ => ("java/lang/Throwable", "depth", "I", false)
def tyX19 : Nat → FieldType := fun k => match k with
  | 0 => .object "java/lang/Throwable"
  | 1 => .array (.object "java/lang/StackTraceElement")
  | 2 => .object "java/util/List"
  | 3 => .object "java/lang/String"
  | 4 => .object "java/lang/Object"
  | _ => .int
abbrev wsX190 : List Cond := u_ws RX19 TX19 6
theorem nmX19 : ∀ a, a < 6 → ∀ b, b < 6 → a ≠ b → (TX19 a).2.1 ≠ (TX19 b).2.1 := by decide +kernel
theorem tyX19_ok : ∀ k, k < 6 → parseFieldDescriptor (TX19 k).2.2.1 = some (tyX19 k) := by decide +kernel
abbrev cX19_init : ByteArray := prog_15_method_1_code
def yX19_init : MethodName := ⟨RX19, "<init>", "(LLeaderLeases$StaleToken;)V"⟩
def dkwX19_init_0 : List UInt8 := [42, 1, 43, 3, 3, 183, 0, 1, 177]
abbrev dktX19_init_0 : List UInt8 := dkwX19_init_0 ++ []
theorem dksX19_init_0 : cX19_init.data.toList.drop 0 = dktX19_init_0 := by decide +kernel
theorem dX19_init_0 : decode cX19_init 0 = .ok (.aload_n 0, 1) := dk_42 (dk_at dksX19_init_0 0 rfl rfl)
theorem dX19_init_1 : decode cX19_init 1 = .ok (.aconst_null, 1) := dk_1 (dk_at dksX19_init_0 1 rfl rfl)
theorem dX19_init_2 : decode cX19_init 2 = .ok (.aload_n 1, 1) := dk_43 (dk_at dksX19_init_0 2 rfl rfl)
theorem dX19_init_3 : decode cX19_init 3 = .ok (.iconst 0, 1) := dk_3 (dk_at dksX19_init_0 3 rfl rfl)
theorem dX19_init_4 : decode cX19_init 4 = .ok (.iconst 0, 1) := dk_3 (dk_at dksX19_init_0 4 rfl rfl)
theorem dX19_init_5 : decode cX19_init 5 = .ok (.invokespecial 1, 3) := dk_183 0 1 (dk_at dksX19_init_0 5 rfl rfl)
theorem dX19_init_8 : decode cX19_init 8 = .ok (.return_, 1) := dk_177 (dk_at dksX19_init_0 8 rfl rfl)
abbrev cX19_token : ByteArray := prog_15_method_2_code
def yX19_token : MethodName := ⟨RX19, "token", "()I"⟩
def dkwX19_token_0 : List UInt8 := [42, 182, 0, 7, 192, 0, 13, 180, 0, 15, 172]
abbrev dktX19_token_0 : List UInt8 := dkwX19_token_0 ++ []
theorem dksX19_token_0 : cX19_token.data.toList.drop 0 = dktX19_token_0 := by decide +kernel
theorem dX19_token_0 : decode cX19_token 0 = .ok (.aload_n 0, 1) := dk_42 (dk_at dksX19_token_0 0 rfl rfl)
theorem dX19_token_1 : decode cX19_token 1 = .ok (.invokevirtual 7, 3) := dk_182 0 7 (dk_at dksX19_token_0 1 rfl rfl)
theorem dX19_token_4 : decode cX19_token 4 = .ok (.checkcast 13, 3) := dk_192 0 13 (dk_at dksX19_token_0 4 rfl rfl)
theorem dX19_token_7 : decode cX19_token 7 = .ok (.getfield 15, 3) := dk_180 0 15 (dk_at dksX19_token_0 7 rfl rfl)
theorem dX19_token_10 : decode cX19_token 10 = .ok (.ireturn, 1) := dk_172 (dk_at dksX19_token_0 10 rfl rfl)
theorem q130 : (Jvm.Cond.initialized "LeaderLeases$Rejection") ∈ lw_all := lw_g (lw_at lw_m1 41 rfl) rfl
theorem q221 : (Jvm.Cond.selects "LeaderLeases$Rejection" ({ cls := "java/lang/Throwable", name := "fillInStackTrace", desc := "()Ljava/lang/Throwable;" } : Jvm.MethodName) ({ cls := "java/lang/Throwable", name := "fillInStackTrace", desc := "()Ljava/lang/Throwable;" } : Jvm.MethodName)) ∈ lw_all := lw_g (lw_at lw_m1 132 rfl) rfl
theorem q611 : (Jvm.Cond.selects "LeaderLeases$Rejection" ({ cls := "java/lang/Object", name := "getClass", desc := "()Ljava/lang/Class;" } : Jvm.MethodName) ({ cls := "java/lang/Object", name := "getClass", desc := "()Ljava/lang/Class;" } : Jvm.MethodName)) ∈ lw_all := lw_g (lw_at lw_m3 42 rfl) rfl
theorem q1022 : (Jvm.Cond.selects "LeaderLeases$Rejection" ({ cls := "java/lang/Object", name := "equals", desc := "(Ljava/lang/Object;)Z" } : Jvm.MethodName) ({ cls := "java/lang/Object", name := "equals", desc := "(Ljava/lang/Object;)Z" } : Jvm.MethodName)) ∈ lw_all := lw_g (lw_at lw_m4 213 rfl) rfl
theorem q1500 : (Jvm.Cond.fieldLinkNest "LeaderLeases$Rejection" (15 : Nat) "LeaderLeases$StaleToken" "token" "I" "LeaderLeases") ∈ lw_tbl := lw_at lw_m6 211 rfl
theorem q1512 : (Jvm.Cond.instantiable "LeaderLeases$Rejection" (6 : Nat)) ∈ lw_all := lw_g (lw_at lw_m6 223 rfl) rfl
theorem q1513 : (Jvm.Cond.castable "LeaderLeases$Rejection" "LeaderLeases$Rejection") ∈ lw_tbl := lw_at lw_m6 224 rfl
theorem q1514 : (Jvm.Cond.selects "LeaderLeases$Rejection" ({ cls := "java/lang/Throwable", name := "fillInStackTrace", desc := "(I)Ljava/lang/Throwable;" } : Jvm.MethodName) ({ cls := "java/lang/Throwable", name := "fillInStackTrace", desc := "(I)Ljava/lang/Throwable;" } : Jvm.MethodName)) ∈ lw_all := lw_g (lw_at lw_m6 225 rfl) rfl
theorem q1515 : (Jvm.Cond.lays "LeaderLeases$Rejection" "java/lang/Throwable" "cause" "Ljava/lang/Throwable;") ∈ lw_all := lw_g (lw_at lw_m6 226 rfl) rfl
theorem q1516 : (Jvm.Cond.lays "LeaderLeases$Rejection" "java/lang/Throwable" "stackTrace" "[Ljava/lang/StackTraceElement;") ∈ lw_all := lw_g (lw_at lw_m6 227 rfl) rfl
theorem q1517 : (Jvm.Cond.lays "LeaderLeases$Rejection" "java/lang/Throwable" "suppressedExceptions" "Ljava/util/List;") ∈ lw_all := lw_g (lw_at lw_m6 228 rfl) rfl
theorem q1518 : (Jvm.Cond.lays "LeaderLeases$Rejection" "java/lang/Throwable" "detailMessage" "Ljava/lang/String;") ∈ lw_all := lw_g (lw_at lw_m6 229 rfl) rfl
theorem q1519 : (Jvm.Cond.lays "LeaderLeases$Rejection" "java/lang/Throwable" "backtrace" "Ljava/lang/Object;") ∈ lw_all := lw_g (lw_at lw_m6 230 rfl) rfl
theorem q1521 : (Jvm.Cond.instanceMethod ({ cls := "LeaderLeases$Rejection", name := "<init>", desc := "(LLeaderLeases$StaleToken;)V" } : Jvm.MethodName)) ∈ lw_all := lw_g (lw_at lw_m6 232 rfl) rfl
theorem q1522 : (Jvm.Cond.code ({ cls := "LeaderLeases$Rejection", name := "<init>", desc := "(LLeaderLeases$StaleToken;)V" } : Jvm.MethodName) prog_15_method_1_code (2 : Nat) (Option.none : Option Jvm.ClassFile.FieldType)) ∈ lw_all := lw_g (lw_at lw_m6 233 rfl) rfl
theorem q1523 : (Jvm.Cond.methodLink "LeaderLeases$Rejection" (1 : Nat) ({ cls := "java/lang/Exception", name := "<init>", desc := "(Ljava/lang/String;Ljava/lang/Throwable;ZZ)V" } : Jvm.MethodName)) ∈ lw_all := lw_g (lw_at lw_m6 234 rfl) rfl
theorem q1524 : (Jvm.Cond.lays "LeaderLeases$Rejection" "java/lang/Throwable" "depth" "I") ∈ lw_all := lw_g (lw_at lw_m6 235 rfl) rfl
theorem q1525 : (Jvm.Cond.superclass "LeaderLeases$Rejection" "java/lang/Exception") ∈ lw_all := lw_g (lw_at lw_m6 236 rfl) rfl
theorem q1527 : (Jvm.Cond.instanceMethod ({ cls := "LeaderLeases$Rejection", name := "token", desc := "()I" } : Jvm.MethodName)) ∈ lw_all := lw_g (lw_at lw_m6 238 rfl) rfl
theorem q1528 : (Jvm.Cond.selects "LeaderLeases$Rejection" ({ cls := "LeaderLeases$Rejection", name := "token", desc := "()I" } : Jvm.MethodName) ({ cls := "LeaderLeases$Rejection", name := "token", desc := "()I" } : Jvm.MethodName)) ∈ lw_all := lw_g (lw_at lw_m6 239 rfl) rfl
theorem q1529 : (Jvm.Cond.code ({ cls := "LeaderLeases$Rejection", name := "token", desc := "()I" } : Jvm.MethodName) prog_15_method_2_code (1 : Nat) (Option.some Jvm.ClassFile.FieldType.int)) ∈ lw_all := lw_g (lw_at lw_m7 0 rfl) rfl
theorem q1530 : (Jvm.Cond.methodLink "LeaderLeases$Rejection" (7 : Nat) ({ cls := "LeaderLeases$Rejection", name := "getCause", desc := "()Ljava/lang/Throwable;" } : Jvm.MethodName)) ∈ lw_all := lw_g (lw_at lw_m7 1 rfl) rfl
theorem q1531 : (Jvm.Cond.sameMethod "LeaderLeases$Rejection" "java/lang/Throwable" "getCause" "()Ljava/lang/Throwable;") ∈ lw_all := lw_g (lw_at lw_m7 2 rfl) rfl
theorem q1532 : (Jvm.Cond.selects "LeaderLeases$Rejection" ({ cls := "LeaderLeases$Rejection", name := "getCause", desc := "()Ljava/lang/Throwable;" } : Jvm.MethodName) ({ cls := "java/lang/Throwable", name := "getCause", desc := "()Ljava/lang/Throwable;" } : Jvm.MethodName)) ∈ lw_all := lw_g (lw_at lw_m7 3 rfl) rfl
theorem q1533 : (Jvm.Cond.classLink "LeaderLeases$Rejection" (13 : Nat) "LeaderLeases$StaleToken") ∈ lw_all := lw_g (lw_at lw_m7 4 rfl) rfl
theorem q2819 : (Jvm.Cond.castable "LeaderLeases$Rejection" "java/lang/Object") ∈ lw_tbl := lw_at lw_m12 90 rfl
theorem in_X19 : ∀ w ∈ wsX190, w ∈ lw_all := lw_in wsX190 [1515, 1516, 1517, 1518, 1519, 1524] (by decide +kernel) (by decide +kernel)

/-! LeaderLeases$Outage -/
set_option maxRecDepth 100000
def RX20 : String := "LeaderLeases$Outage"
def TX20 : u_T := fun k => match k with
  | 0 => ("LeaderLeases$Outage", "node", "I", true)
  | 1 => ("LeaderLeases$Outage", "from", "I", true)
  | _ => ("LeaderLeases$Outage", "to", "I", true)
def tyX20 : Nat → FieldType := fun k => match k with
  | 0 => .int
  | 1 => .int
  | _ => .int
abbrev wsX200 : List Cond := u_ws RX20 TX20 3
theorem nmX20 : ∀ a, a < 3 → ∀ b, b < 3 → a ≠ b → (TX20 a).2.1 ≠ (TX20 b).2.1 := by decide +kernel
theorem tyX20_ok : ∀ k, k < 3 → parseFieldDescriptor (TX20 k).2.2.1 = some (tyX20 k) := by decide +kernel
abbrev cX20_next : ByteArray := prog_12_method_2_code
def yX20_next : MethodName := ⟨RX20, "next", "(I)I"⟩
def dkwX20_next_1 : List UInt8 := [180, 0, 16, 167, 0, 5, 18, 21, 172]
abbrev dktX20_next_1 : List UInt8 := dkwX20_next_1 ++ []
def dkwX20_next_0 : List UInt8 := [42, 180, 0, 13, 27, 164, 0, 10, 42, 180, 0, 13, 167, 0, 20, 42, 180, 0, 16, 27, 164, 0, 10, 42]
abbrev dktX20_next_0 : List UInt8 := dkwX20_next_0 ++ dktX20_next_1
theorem dksX20_next_0 : cX20_next.data.toList.drop 0 = dktX20_next_0 := by decide +kernel
theorem dksX20_next_1 : cX20_next.data.toList.drop 24 = dktX20_next_1 := dk_seg dksX20_next_0 24 rfl rfl
theorem dX20_next_0 : decode cX20_next 0 = .ok (.aload_n 0, 1) := dk_42 (dk_at dksX20_next_0 0 rfl rfl)
theorem dX20_next_1 : decode cX20_next 1 = .ok (.getfield 13, 3) := dk_180 0 13 (dk_at dksX20_next_0 1 rfl rfl)
theorem dX20_next_4 : decode cX20_next 4 = .ok (.iload_n 1, 1) := dk_27 (dk_at dksX20_next_0 4 rfl rfl)
theorem dX20_next_5 : decode cX20_next 5 = .ok (.if_icmp .le 10, 3) := dk_164 0 10 (dk_at dksX20_next_0 5 rfl rfl)
theorem dX20_next_8 : decode cX20_next 8 = .ok (.aload_n 0, 1) := dk_42 (dk_at dksX20_next_0 8 rfl rfl)
theorem dX20_next_9 : decode cX20_next 9 = .ok (.getfield 13, 3) := dk_180 0 13 (dk_at dksX20_next_0 9 rfl rfl)
theorem dX20_next_12 : decode cX20_next 12 = .ok (.goto 20, 3) := dk_167 0 20 (dk_at dksX20_next_0 12 rfl rfl)
theorem dX20_next_15 : decode cX20_next 15 = .ok (.aload_n 0, 1) := dk_42 (dk_at dksX20_next_0 15 rfl rfl)
theorem dX20_next_16 : decode cX20_next 16 = .ok (.getfield 16, 3) := dk_180 0 16 (dk_at dksX20_next_0 16 rfl rfl)
theorem dX20_next_19 : decode cX20_next 19 = .ok (.iload_n 1, 1) := dk_27 (dk_at dksX20_next_0 19 rfl rfl)
theorem dX20_next_20 : decode cX20_next 20 = .ok (.if_icmp .le 10, 3) := dk_164 0 10 (dk_at dksX20_next_0 20 rfl rfl)
theorem dX20_next_23 : decode cX20_next 23 = .ok (.aload_n 0, 1) := dk_42 (dk_at dksX20_next_0 23 rfl rfl)
theorem dX20_next_24 : decode cX20_next 24 = .ok (.getfield 16, 3) := dk_180 0 16 (dk_at dksX20_next_1 0 rfl rfl)
theorem dX20_next_27 : decode cX20_next 27 = .ok (.goto 5, 3) := dk_167 0 5 (dk_at dksX20_next_1 3 rfl rfl)
theorem dX20_next_30 : decode cX20_next 30 = .ok (.ldc 21, 2) := dk_18 21 (dk_at dksX20_next_1 6 rfl rfl)
theorem dX20_next_32 : decode cX20_next 32 = .ok (.ireturn, 1) := dk_172 (dk_at dksX20_next_1 8 rfl rfl)
abbrev cX20_init : ByteArray := prog_12_method_1_code
def yX20_init : MethodName := ⟨RX20, "<init>", "(III)V"⟩
def dkwX20_init_0 : List UInt8 := [42, 183, 0, 1, 42, 27, 181, 0, 7, 42, 28, 181, 0, 13, 42, 29, 181, 0, 16, 177]
abbrev dktX20_init_0 : List UInt8 := dkwX20_init_0 ++ []
theorem dksX20_init_0 : cX20_init.data.toList.drop 0 = dktX20_init_0 := by decide +kernel
theorem dX20_init_0 : decode cX20_init 0 = .ok (.aload_n 0, 1) := dk_42 (dk_at dksX20_init_0 0 rfl rfl)
theorem dX20_init_1 : decode cX20_init 1 = .ok (.invokespecial 1, 3) := dk_183 0 1 (dk_at dksX20_init_0 1 rfl rfl)
theorem dX20_init_4 : decode cX20_init 4 = .ok (.aload_n 0, 1) := dk_42 (dk_at dksX20_init_0 4 rfl rfl)
theorem dX20_init_5 : decode cX20_init 5 = .ok (.iload_n 1, 1) := dk_27 (dk_at dksX20_init_0 5 rfl rfl)
theorem dX20_init_6 : decode cX20_init 6 = .ok (.putfield 7, 3) := dk_181 0 7 (dk_at dksX20_init_0 6 rfl rfl)
theorem dX20_init_9 : decode cX20_init 9 = .ok (.aload_n 0, 1) := dk_42 (dk_at dksX20_init_0 9 rfl rfl)
theorem dX20_init_10 : decode cX20_init 10 = .ok (.iload_n 2, 1) := dk_28 (dk_at dksX20_init_0 10 rfl rfl)
theorem dX20_init_11 : decode cX20_init 11 = .ok (.putfield 13, 3) := dk_181 0 13 (dk_at dksX20_init_0 11 rfl rfl)
theorem dX20_init_14 : decode cX20_init 14 = .ok (.aload_n 0, 1) := dk_42 (dk_at dksX20_init_0 14 rfl rfl)
theorem dX20_init_15 : decode cX20_init 15 = .ok (.iload_n 3, 1) := dk_29 (dk_at dksX20_init_0 15 rfl rfl)
theorem dX20_init_16 : decode cX20_init 16 = .ok (.putfield 16, 3) := dk_181 0 16 (dk_at dksX20_init_0 16 rfl rfl)
theorem dX20_init_19 : decode cX20_init 19 = .ok (.return_, 1) := dk_177 (dk_at dksX20_init_0 19 rfl rfl)
theorem q133 : (Jvm.Cond.initialized "LeaderLeases$Outage") ∈ lw_all := lw_g (lw_at lw_m1 44 rfl) rfl
theorem q608 : (Jvm.Cond.selects "LeaderLeases$Outage" ({ cls := "java/lang/Object", name := "getClass", desc := "()Ljava/lang/Class;" } : Jvm.MethodName) ({ cls := "java/lang/Object", name := "getClass", desc := "()Ljava/lang/Class;" } : Jvm.MethodName)) ∈ lw_all := lw_g (lw_at lw_m3 39 rfl) rfl
theorem q1019 : (Jvm.Cond.selects "LeaderLeases$Outage" ({ cls := "java/lang/Object", name := "equals", desc := "(Ljava/lang/Object;)Z" } : Jvm.MethodName) ({ cls := "java/lang/Object", name := "equals", desc := "(Ljava/lang/Object;)Z" } : Jvm.MethodName)) ∈ lw_all := lw_g (lw_at lw_m4 210 rfl) rfl
theorem q1276 : (Jvm.Cond.instanceMethod ({ cls := "LeaderLeases$Outage", name := "next", desc := "(I)I" } : Jvm.MethodName)) ∈ lw_all := lw_g (lw_at lw_m5 227 rfl) rfl
theorem q1277 : (Jvm.Cond.selects "LeaderLeases$Outage" ({ cls := "LeaderLeases$Outage", name := "next", desc := "(I)I" } : Jvm.MethodName) ({ cls := "LeaderLeases$Outage", name := "next", desc := "(I)I" } : Jvm.MethodName)) ∈ lw_all := lw_g (lw_at lw_m5 228 rfl) rfl
theorem q1278 : (Jvm.Cond.code ({ cls := "LeaderLeases$Outage", name := "next", desc := "(I)I" } : Jvm.MethodName) prog_12_method_2_code (2 : Nat) (Option.some Jvm.ClassFile.FieldType.int)) ∈ lw_all := lw_g (lw_at lw_m5 229 rfl) rfl
theorem q1279 : (Jvm.Cond.constant "LeaderLeases$Outage" (21 : Nat) (2147483647 : Int32)) ∈ lw_all := lw_g (lw_at lw_m5 230 rfl) rfl
theorem q1825 : (Jvm.Cond.instantiable "LeaderLeases$Outage" (3 : Nat)) ∈ lw_all := lw_g (lw_at lw_m8 56 rfl) rfl
theorem q1827 : (Jvm.Cond.instanceMethod ({ cls := "LeaderLeases$Outage", name := "<init>", desc := "(III)V" } : Jvm.MethodName)) ∈ lw_all := lw_g (lw_at lw_m8 58 rfl) rfl
theorem q1828 : (Jvm.Cond.code ({ cls := "LeaderLeases$Outage", name := "<init>", desc := "(III)V" } : Jvm.MethodName) prog_12_method_1_code (4 : Nat) (Option.none : Option Jvm.ClassFile.FieldType)) ∈ lw_all := lw_g (lw_at lw_m8 59 rfl) rfl
theorem q1829 : (Jvm.Cond.methodLink "LeaderLeases$Outage" (1 : Nat) ({ cls := "java/lang/Object", name := "<init>", desc := "()V" } : Jvm.MethodName)) ∈ lw_all := lw_g (lw_at lw_m8 60 rfl) rfl
theorem q1830 : (Jvm.Cond.fieldLink "LeaderLeases$Outage" (7 : Nat) "LeaderLeases$Outage" "node" "I") ∈ lw_all := lw_g (lw_at lw_m8 61 rfl) rfl
theorem q1832 : (Jvm.Cond.fieldLink "LeaderLeases$Outage" (13 : Nat) "LeaderLeases$Outage" "from" "I") ∈ lw_all := lw_g (lw_at lw_m8 63 rfl) rfl
theorem q1834 : (Jvm.Cond.fieldLink "LeaderLeases$Outage" (16 : Nat) "LeaderLeases$Outage" "to" "I") ∈ lw_all := lw_g (lw_at lw_m8 65 rfl) rfl
theorem q1836 : (Jvm.Cond.laysFinal "LeaderLeases$Outage" "LeaderLeases$Outage" "node" "I") ∈ lw_all := lw_g (lw_at lw_m8 67 rfl) rfl
theorem q1837 : (Jvm.Cond.soleField "LeaderLeases$Outage" "node") ∈ lw_all := lw_g (lw_at lw_m8 68 rfl) rfl
theorem q1838 : (Jvm.Cond.laysFinal "LeaderLeases$Outage" "LeaderLeases$Outage" "from" "I") ∈ lw_all := lw_g (lw_at lw_m8 69 rfl) rfl
theorem q1839 : (Jvm.Cond.soleField "LeaderLeases$Outage" "from") ∈ lw_all := lw_g (lw_at lw_m8 70 rfl) rfl
theorem q1840 : (Jvm.Cond.laysFinal "LeaderLeases$Outage" "LeaderLeases$Outage" "to" "I") ∈ lw_all := lw_g (lw_at lw_m8 71 rfl) rfl
theorem q1841 : (Jvm.Cond.soleField "LeaderLeases$Outage" "to") ∈ lw_all := lw_g (lw_at lw_m8 72 rfl) rfl
theorem q1842 : (Jvm.Cond.superclass "LeaderLeases$Outage" "java/lang/Object") ∈ lw_all := lw_g (lw_at lw_m8 73 rfl) rfl
theorem q2822 : (Jvm.Cond.castable "LeaderLeases$Outage" "java/lang/Object") ∈ lw_tbl := lw_at lw_m12 93 rfl
theorem in_X20 : ∀ w ∈ wsX200, w ∈ lw_all := lw_in wsX200 [1836, 1838, 1840] (by decide +kernel) (by decide +kernel)

/-! LeaderLeases$Delayed -/
set_option maxRecDepth 100000
def RX21 : String := "LeaderLeases$Delayed"
def TX21 : u_T := fun k => match k with
  | 0 => ("LeaderLeases$Delayed", "node", "I", true)
  | 1 => ("LeaderLeases$Delayed", "token", "I", true)
  | 2 => ("LeaderLeases$Delayed", "register", "I", true)
  | 3 => ("LeaderLeases$Delayed", "value", "I", true)
  | _ => ("LeaderLeases$Delayed", "time", "I", true)
def tyX21 : Nat → FieldType := fun k => match k with
  | 0 => .int
  | 1 => .int
  | 2 => .int
  | 3 => .int
  | _ => .int
abbrev wsX210 : List Cond := u_ws RX21 TX21 5
theorem nmX21 : ∀ a, a < 5 → ∀ b, b < 5 → a ≠ b → (TX21 a).2.1 ≠ (TX21 b).2.1 := by decide +kernel
theorem tyX21_ok : ∀ k, k < 5 → parseFieldDescriptor (TX21 k).2.2.1 = some (tyX21 k) := by decide +kernel
abbrev cX21_init : ByteArray := prog_5_method_1_code
def yX21_init : MethodName := ⟨RX21, "<init>", "(IIIII)V"⟩
def dkwX21_init_1 : List UInt8 := [181, 0, 19, 42, 21, 5, 181, 0, 22, 177]
abbrev dktX21_init_1 : List UInt8 := dkwX21_init_1 ++ []
def dkwX21_init_0 : List UInt8 := [42, 183, 0, 1, 42, 27, 181, 0, 7, 42, 28, 181, 0, 13, 42, 29, 181, 0, 16, 42, 21, 4]
abbrev dktX21_init_0 : List UInt8 := dkwX21_init_0 ++ dktX21_init_1
theorem dksX21_init_0 : cX21_init.data.toList.drop 0 = dktX21_init_0 := by decide +kernel
theorem dksX21_init_1 : cX21_init.data.toList.drop 22 = dktX21_init_1 := dk_seg dksX21_init_0 22 rfl rfl
theorem dX21_init_0 : decode cX21_init 0 = .ok (.aload_n 0, 1) := dk_42 (dk_at dksX21_init_0 0 rfl rfl)
theorem dX21_init_1 : decode cX21_init 1 = .ok (.invokespecial 1, 3) := dk_183 0 1 (dk_at dksX21_init_0 1 rfl rfl)
theorem dX21_init_4 : decode cX21_init 4 = .ok (.aload_n 0, 1) := dk_42 (dk_at dksX21_init_0 4 rfl rfl)
theorem dX21_init_5 : decode cX21_init 5 = .ok (.iload_n 1, 1) := dk_27 (dk_at dksX21_init_0 5 rfl rfl)
theorem dX21_init_6 : decode cX21_init 6 = .ok (.putfield 7, 3) := dk_181 0 7 (dk_at dksX21_init_0 6 rfl rfl)
theorem dX21_init_9 : decode cX21_init 9 = .ok (.aload_n 0, 1) := dk_42 (dk_at dksX21_init_0 9 rfl rfl)
theorem dX21_init_10 : decode cX21_init 10 = .ok (.iload_n 2, 1) := dk_28 (dk_at dksX21_init_0 10 rfl rfl)
theorem dX21_init_11 : decode cX21_init 11 = .ok (.putfield 13, 3) := dk_181 0 13 (dk_at dksX21_init_0 11 rfl rfl)
theorem dX21_init_14 : decode cX21_init 14 = .ok (.aload_n 0, 1) := dk_42 (dk_at dksX21_init_0 14 rfl rfl)
theorem dX21_init_15 : decode cX21_init 15 = .ok (.iload_n 3, 1) := dk_29 (dk_at dksX21_init_0 15 rfl rfl)
theorem dX21_init_16 : decode cX21_init 16 = .ok (.putfield 16, 3) := dk_181 0 16 (dk_at dksX21_init_0 16 rfl rfl)
theorem dX21_init_19 : decode cX21_init 19 = .ok (.aload_n 0, 1) := dk_42 (dk_at dksX21_init_0 19 rfl rfl)
theorem dX21_init_20 : decode cX21_init 20 = .ok (.iload 4, 2) := dk_21 4 (dk_at dksX21_init_0 20 rfl rfl)
theorem dX21_init_22 : decode cX21_init 22 = .ok (.putfield 19, 3) := dk_181 0 19 (dk_at dksX21_init_1 0 rfl rfl)
theorem dX21_init_25 : decode cX21_init 25 = .ok (.aload_n 0, 1) := dk_42 (dk_at dksX21_init_1 3 rfl rfl)
theorem dX21_init_26 : decode cX21_init 26 = .ok (.iload 5, 2) := dk_21 5 (dk_at dksX21_init_1 4 rfl rfl)
theorem dX21_init_28 : decode cX21_init 28 = .ok (.putfield 22, 3) := dk_181 0 22 (dk_at dksX21_init_1 6 rfl rfl)
theorem dX21_init_31 : decode cX21_init 31 = .ok (.return_, 1) := dk_177 (dk_at dksX21_init_1 9 rfl rfl)
theorem q134 : (Jvm.Cond.initialized "LeaderLeases$Delayed") ∈ lw_all := lw_g (lw_at lw_m1 45 rfl) rfl
theorem q602 : (Jvm.Cond.selects "LeaderLeases$Delayed" ({ cls := "java/lang/Object", name := "getClass", desc := "()Ljava/lang/Class;" } : Jvm.MethodName) ({ cls := "java/lang/Object", name := "getClass", desc := "()Ljava/lang/Class;" } : Jvm.MethodName)) ∈ lw_all := lw_g (lw_at lw_m3 33 rfl) rfl
theorem q1011 : (Jvm.Cond.selects "LeaderLeases$Delayed" ({ cls := "java/lang/Object", name := "equals", desc := "(Ljava/lang/Object;)Z" } : Jvm.MethodName) ({ cls := "java/lang/Object", name := "equals", desc := "(Ljava/lang/Object;)Z" } : Jvm.MethodName)) ∈ lw_all := lw_g (lw_at lw_m4 202 rfl) rfl
theorem q1869 : (Jvm.Cond.instantiable "LeaderLeases$Delayed" (5 : Nat)) ∈ lw_all := lw_g (lw_at lw_m8 100 rfl) rfl
theorem q1871 : (Jvm.Cond.instanceMethod ({ cls := "LeaderLeases$Delayed", name := "<init>", desc := "(IIIII)V" } : Jvm.MethodName)) ∈ lw_all := lw_g (lw_at lw_m8 102 rfl) rfl
theorem q1872 : (Jvm.Cond.code ({ cls := "LeaderLeases$Delayed", name := "<init>", desc := "(IIIII)V" } : Jvm.MethodName) prog_5_method_1_code (6 : Nat) (Option.none : Option Jvm.ClassFile.FieldType)) ∈ lw_all := lw_g (lw_at lw_m8 103 rfl) rfl
theorem q1873 : (Jvm.Cond.methodLink "LeaderLeases$Delayed" (1 : Nat) ({ cls := "java/lang/Object", name := "<init>", desc := "()V" } : Jvm.MethodName)) ∈ lw_all := lw_g (lw_at lw_m8 104 rfl) rfl
theorem q1874 : (Jvm.Cond.fieldLink "LeaderLeases$Delayed" (7 : Nat) "LeaderLeases$Delayed" "node" "I") ∈ lw_all := lw_g (lw_at lw_m8 105 rfl) rfl
theorem q1876 : (Jvm.Cond.fieldLink "LeaderLeases$Delayed" (13 : Nat) "LeaderLeases$Delayed" "token" "I") ∈ lw_all := lw_g (lw_at lw_m8 107 rfl) rfl
theorem q1878 : (Jvm.Cond.fieldLink "LeaderLeases$Delayed" (16 : Nat) "LeaderLeases$Delayed" "register" "I") ∈ lw_all := lw_g (lw_at lw_m8 109 rfl) rfl
theorem q1880 : (Jvm.Cond.fieldLink "LeaderLeases$Delayed" (19 : Nat) "LeaderLeases$Delayed" "value" "I") ∈ lw_all := lw_g (lw_at lw_m8 111 rfl) rfl
theorem q1882 : (Jvm.Cond.fieldLink "LeaderLeases$Delayed" (22 : Nat) "LeaderLeases$Delayed" "time" "I") ∈ lw_all := lw_g (lw_at lw_m8 113 rfl) rfl
theorem q1884 : (Jvm.Cond.laysFinal "LeaderLeases$Delayed" "LeaderLeases$Delayed" "node" "I") ∈ lw_all := lw_g (lw_at lw_m8 115 rfl) rfl
theorem q1885 : (Jvm.Cond.soleField "LeaderLeases$Delayed" "node") ∈ lw_all := lw_g (lw_at lw_m8 116 rfl) rfl
theorem q1886 : (Jvm.Cond.laysFinal "LeaderLeases$Delayed" "LeaderLeases$Delayed" "token" "I") ∈ lw_all := lw_g (lw_at lw_m8 117 rfl) rfl
theorem q1887 : (Jvm.Cond.soleField "LeaderLeases$Delayed" "token") ∈ lw_all := lw_g (lw_at lw_m8 118 rfl) rfl
theorem q1888 : (Jvm.Cond.laysFinal "LeaderLeases$Delayed" "LeaderLeases$Delayed" "register" "I") ∈ lw_all := lw_g (lw_at lw_m8 119 rfl) rfl
theorem q1889 : (Jvm.Cond.soleField "LeaderLeases$Delayed" "register") ∈ lw_all := lw_g (lw_at lw_m8 120 rfl) rfl
theorem q1890 : (Jvm.Cond.laysFinal "LeaderLeases$Delayed" "LeaderLeases$Delayed" "value" "I") ∈ lw_all := lw_g (lw_at lw_m8 121 rfl) rfl
theorem q1891 : (Jvm.Cond.soleField "LeaderLeases$Delayed" "value") ∈ lw_all := lw_g (lw_at lw_m8 122 rfl) rfl
theorem q1892 : (Jvm.Cond.laysFinal "LeaderLeases$Delayed" "LeaderLeases$Delayed" "time" "I") ∈ lw_all := lw_g (lw_at lw_m8 123 rfl) rfl
theorem q1893 : (Jvm.Cond.soleField "LeaderLeases$Delayed" "time") ∈ lw_all := lw_g (lw_at lw_m8 124 rfl) rfl
theorem q1894 : (Jvm.Cond.superclass "LeaderLeases$Delayed" "java/lang/Object") ∈ lw_all := lw_g (lw_at lw_m8 125 rfl) rfl
theorem q2823 : (Jvm.Cond.castable "LeaderLeases$Delayed" "java/lang/Object") ∈ lw_tbl := lw_at lw_m12 94 rfl
theorem in_X21 : ∀ w ∈ wsX210, w ∈ lw_all := lw_in wsX210 [1884, 1886, 1888, 1890, 1892] (by decide +kernel) (by decide +kernel)

