/-! LeaderLeasesLaw -/
set_option maxRecDepth 100000
def RX0 : String := "LeaderLeasesLaw"
abbrev cX0_appendByte : ByteArray := method_3_code
def yX0_appendByte : MethodName := ⟨RX0, "appendByte", "(LLeaderLeases;I[J)I"⟩
def dkwX0_appendByte_0 : List UInt8 := [44, 3, 42, 27, 182, 0, 7, 133, 80, 167, 0, 6, 78, 4, 172, 3, 172]
abbrev dktX0_appendByte_0 : List UInt8 := dkwX0_appendByte_0 ++ []
theorem dksX0_appendByte_0 : cX0_appendByte.data.toList.drop 0 = dktX0_appendByte_0 := by decide +kernel
theorem dX0_appendByte_0 : decode cX0_appendByte 0 = .ok (.aload_n 2, 1) := dk_44 (dk_at dksX0_appendByte_0 0 rfl rfl)
theorem dX0_appendByte_1 : decode cX0_appendByte 1 = .ok (.iconst 0, 1) := dk_3 (dk_at dksX0_appendByte_0 1 rfl rfl)
theorem dX0_appendByte_2 : decode cX0_appendByte 2 = .ok (.aload_n 0, 1) := dk_42 (dk_at dksX0_appendByte_0 2 rfl rfl)
theorem dX0_appendByte_3 : decode cX0_appendByte 3 = .ok (.iload_n 1, 1) := dk_27 (dk_at dksX0_appendByte_0 3 rfl rfl)
theorem dX0_appendByte_4 : decode cX0_appendByte 4 = .ok (.invokevirtual 7, 3) := dk_182 0 7 (dk_at dksX0_appendByte_0 4 rfl rfl)
theorem dX0_appendByte_7 : decode cX0_appendByte 7 = .ok (.i2l, 1) := dk_133 (dk_at dksX0_appendByte_0 7 rfl rfl)
theorem dX0_appendByte_8 : decode cX0_appendByte 8 = .ok (.lastore, 1) := dk_80 (dk_at dksX0_appendByte_0 8 rfl rfl)
theorem dX0_appendByte_9 : decode cX0_appendByte 9 = .ok (.goto 6, 3) := dk_167 0 6 (dk_at dksX0_appendByte_0 9 rfl rfl)
theorem dX0_appendByte_12 : decode cX0_appendByte 12 = .ok (.astore_n 3, 1) := dk_78 (dk_at dksX0_appendByte_0 12 rfl rfl)
theorem dX0_appendByte_13 : decode cX0_appendByte 13 = .ok (.iconst 1, 1) := dk_4 (dk_at dksX0_appendByte_0 13 rfl rfl)
theorem dX0_appendByte_14 : decode cX0_appendByte 14 = .ok (.ireturn, 1) := dk_172 (dk_at dksX0_appendByte_0 14 rfl rfl)
theorem dX0_appendByte_15 : decode cX0_appendByte 15 = .ok (.iconst 0, 1) := dk_3 (dk_at dksX0_appendByte_0 15 rfl rfl)
theorem dX0_appendByte_16 : decode cX0_appendByte 16 = .ok (.ireturn, 1) := dk_172 (dk_at dksX0_appendByte_0 16 rfl rfl)
abbrev cX0_advance : ByteArray := method_4_code
def yX0_advance : MethodName := ⟨RX0, "advance", "(LLeaderLeases;I[J)I"⟩
def dkwX0_advance_0 : List UInt8 := [44, 3, 42, 27, 182, 0, 15, 133, 80, 167, 0, 6, 78, 4, 172, 3, 172]
abbrev dktX0_advance_0 : List UInt8 := dkwX0_advance_0 ++ []
theorem dksX0_advance_0 : cX0_advance.data.toList.drop 0 = dktX0_advance_0 := by decide +kernel
theorem dX0_advance_0 : decode cX0_advance 0 = .ok (.aload_n 2, 1) := dk_44 (dk_at dksX0_advance_0 0 rfl rfl)
theorem dX0_advance_1 : decode cX0_advance 1 = .ok (.iconst 0, 1) := dk_3 (dk_at dksX0_advance_0 1 rfl rfl)
theorem dX0_advance_2 : decode cX0_advance 2 = .ok (.aload_n 0, 1) := dk_42 (dk_at dksX0_advance_0 2 rfl rfl)
theorem dX0_advance_3 : decode cX0_advance 3 = .ok (.iload_n 1, 1) := dk_27 (dk_at dksX0_advance_0 3 rfl rfl)
theorem dX0_advance_4 : decode cX0_advance 4 = .ok (.invokevirtual 15, 3) := dk_182 0 15 (dk_at dksX0_advance_0 4 rfl rfl)
theorem dX0_advance_7 : decode cX0_advance 7 = .ok (.i2l, 1) := dk_133 (dk_at dksX0_advance_0 7 rfl rfl)
theorem dX0_advance_8 : decode cX0_advance 8 = .ok (.lastore, 1) := dk_80 (dk_at dksX0_advance_0 8 rfl rfl)
theorem dX0_advance_9 : decode cX0_advance 9 = .ok (.goto 6, 3) := dk_167 0 6 (dk_at dksX0_advance_0 9 rfl rfl)
theorem dX0_advance_12 : decode cX0_advance 12 = .ok (.astore_n 3, 1) := dk_78 (dk_at dksX0_advance_0 12 rfl rfl)
theorem dX0_advance_13 : decode cX0_advance 13 = .ok (.iconst 1, 1) := dk_4 (dk_at dksX0_advance_0 13 rfl rfl)
theorem dX0_advance_14 : decode cX0_advance 14 = .ok (.ireturn, 1) := dk_172 (dk_at dksX0_advance_0 14 rfl rfl)
theorem dX0_advance_15 : decode cX0_advance 15 = .ok (.iconst 0, 1) := dk_3 (dk_at dksX0_advance_0 15 rfl rfl)
theorem dX0_advance_16 : decode cX0_advance 16 = .ok (.ireturn, 1) := dk_172 (dk_at dksX0_advance_0 16 rfl rfl)
abbrev cX0_nodeClock : ByteArray := method_5_code
def yX0_nodeClock : MethodName := ⟨RX0, "nodeClock", "(LLeaderLeases;I[J)I"⟩
def dkwX0_nodeClock_0 : List UInt8 := [44, 3, 42, 27, 182, 0, 18, 133, 80, 167, 0, 6, 78, 4, 172, 3, 172]
abbrev dktX0_nodeClock_0 : List UInt8 := dkwX0_nodeClock_0 ++ []
theorem dksX0_nodeClock_0 : cX0_nodeClock.data.toList.drop 0 = dktX0_nodeClock_0 := by decide +kernel
theorem dX0_nodeClock_0 : decode cX0_nodeClock 0 = .ok (.aload_n 2, 1) := dk_44 (dk_at dksX0_nodeClock_0 0 rfl rfl)
theorem dX0_nodeClock_1 : decode cX0_nodeClock 1 = .ok (.iconst 0, 1) := dk_3 (dk_at dksX0_nodeClock_0 1 rfl rfl)
theorem dX0_nodeClock_2 : decode cX0_nodeClock 2 = .ok (.aload_n 0, 1) := dk_42 (dk_at dksX0_nodeClock_0 2 rfl rfl)
theorem dX0_nodeClock_3 : decode cX0_nodeClock 3 = .ok (.iload_n 1, 1) := dk_27 (dk_at dksX0_nodeClock_0 3 rfl rfl)
theorem dX0_nodeClock_4 : decode cX0_nodeClock 4 = .ok (.invokevirtual 18, 3) := dk_182 0 18 (dk_at dksX0_nodeClock_0 4 rfl rfl)
theorem dX0_nodeClock_7 : decode cX0_nodeClock 7 = .ok (.i2l, 1) := dk_133 (dk_at dksX0_nodeClock_0 7 rfl rfl)
theorem dX0_nodeClock_8 : decode cX0_nodeClock 8 = .ok (.lastore, 1) := dk_80 (dk_at dksX0_nodeClock_0 8 rfl rfl)
theorem dX0_nodeClock_9 : decode cX0_nodeClock 9 = .ok (.goto 6, 3) := dk_167 0 6 (dk_at dksX0_nodeClock_0 9 rfl rfl)
theorem dX0_nodeClock_12 : decode cX0_nodeClock 12 = .ok (.astore_n 3, 1) := dk_78 (dk_at dksX0_nodeClock_0 12 rfl rfl)
theorem dX0_nodeClock_13 : decode cX0_nodeClock 13 = .ok (.iconst 1, 1) := dk_4 (dk_at dksX0_nodeClock_0 13 rfl rfl)
theorem dX0_nodeClock_14 : decode cX0_nodeClock 14 = .ok (.ireturn, 1) := dk_172 (dk_at dksX0_nodeClock_0 14 rfl rfl)
theorem dX0_nodeClock_15 : decode cX0_nodeClock 15 = .ok (.iconst 0, 1) := dk_3 (dk_at dksX0_nodeClock_0 15 rfl rfl)
theorem dX0_nodeClock_16 : decode cX0_nodeClock 16 = .ok (.ireturn, 1) := dk_172 (dk_at dksX0_nodeClock_0 16 rfl rfl)
abbrev cX0_campaign : ByteArray := method_6_code
def yX0_campaign : MethodName := ⟨RX0, "campaign", "(LLeaderLeases;I[J)I"⟩
def dkwX0_campaign_0 : List UInt8 := [44, 3, 42, 27, 182, 0, 23, 133, 80, 167, 0, 6, 78, 4, 172, 3, 172]
abbrev dktX0_campaign_0 : List UInt8 := dkwX0_campaign_0 ++ []
theorem dksX0_campaign_0 : cX0_campaign.data.toList.drop 0 = dktX0_campaign_0 := by decide +kernel
theorem dX0_campaign_0 : decode cX0_campaign 0 = .ok (.aload_n 2, 1) := dk_44 (dk_at dksX0_campaign_0 0 rfl rfl)
theorem dX0_campaign_1 : decode cX0_campaign 1 = .ok (.iconst 0, 1) := dk_3 (dk_at dksX0_campaign_0 1 rfl rfl)
theorem dX0_campaign_2 : decode cX0_campaign 2 = .ok (.aload_n 0, 1) := dk_42 (dk_at dksX0_campaign_0 2 rfl rfl)
theorem dX0_campaign_3 : decode cX0_campaign 3 = .ok (.iload_n 1, 1) := dk_27 (dk_at dksX0_campaign_0 3 rfl rfl)
theorem dX0_campaign_4 : decode cX0_campaign 4 = .ok (.invokevirtual 23, 3) := dk_182 0 23 (dk_at dksX0_campaign_0 4 rfl rfl)
theorem dX0_campaign_7 : decode cX0_campaign 7 = .ok (.i2l, 1) := dk_133 (dk_at dksX0_campaign_0 7 rfl rfl)
theorem dX0_campaign_8 : decode cX0_campaign 8 = .ok (.lastore, 1) := dk_80 (dk_at dksX0_campaign_0 8 rfl rfl)
theorem dX0_campaign_9 : decode cX0_campaign 9 = .ok (.goto 6, 3) := dk_167 0 6 (dk_at dksX0_campaign_0 9 rfl rfl)
theorem dX0_campaign_12 : decode cX0_campaign 12 = .ok (.astore_n 3, 1) := dk_78 (dk_at dksX0_campaign_0 12 rfl rfl)
theorem dX0_campaign_13 : decode cX0_campaign 13 = .ok (.iconst 1, 1) := dk_4 (dk_at dksX0_campaign_0 13 rfl rfl)
theorem dX0_campaign_14 : decode cX0_campaign 14 = .ok (.ireturn, 1) := dk_172 (dk_at dksX0_campaign_0 14 rfl rfl)
theorem dX0_campaign_15 : decode cX0_campaign 15 = .ok (.iconst 0, 1) := dk_3 (dk_at dksX0_campaign_0 15 rfl rfl)
theorem dX0_campaign_16 : decode cX0_campaign 16 = .ok (.ireturn, 1) := dk_172 (dk_at dksX0_campaign_0 16 rfl rfl)
abbrev cX0_withdraw : ByteArray := method_7_code
def yX0_withdraw : MethodName := ⟨RX0, "withdraw", "(LLeaderLeases;I[J)I"⟩
def dkwX0_withdraw_0 : List UInt8 := [44, 3, 42, 27, 182, 0, 26, 133, 80, 167, 0, 6, 78, 4, 172, 3, 172]
abbrev dktX0_withdraw_0 : List UInt8 := dkwX0_withdraw_0 ++ []
theorem dksX0_withdraw_0 : cX0_withdraw.data.toList.drop 0 = dktX0_withdraw_0 := by decide +kernel
theorem dX0_withdraw_0 : decode cX0_withdraw 0 = .ok (.aload_n 2, 1) := dk_44 (dk_at dksX0_withdraw_0 0 rfl rfl)
theorem dX0_withdraw_1 : decode cX0_withdraw 1 = .ok (.iconst 0, 1) := dk_3 (dk_at dksX0_withdraw_0 1 rfl rfl)
theorem dX0_withdraw_2 : decode cX0_withdraw 2 = .ok (.aload_n 0, 1) := dk_42 (dk_at dksX0_withdraw_0 2 rfl rfl)
theorem dX0_withdraw_3 : decode cX0_withdraw 3 = .ok (.iload_n 1, 1) := dk_27 (dk_at dksX0_withdraw_0 3 rfl rfl)
theorem dX0_withdraw_4 : decode cX0_withdraw 4 = .ok (.invokevirtual 26, 3) := dk_182 0 26 (dk_at dksX0_withdraw_0 4 rfl rfl)
theorem dX0_withdraw_7 : decode cX0_withdraw 7 = .ok (.i2l, 1) := dk_133 (dk_at dksX0_withdraw_0 7 rfl rfl)
theorem dX0_withdraw_8 : decode cX0_withdraw 8 = .ok (.lastore, 1) := dk_80 (dk_at dksX0_withdraw_0 8 rfl rfl)
theorem dX0_withdraw_9 : decode cX0_withdraw 9 = .ok (.goto 6, 3) := dk_167 0 6 (dk_at dksX0_withdraw_0 9 rfl rfl)
theorem dX0_withdraw_12 : decode cX0_withdraw 12 = .ok (.astore_n 3, 1) := dk_78 (dk_at dksX0_withdraw_0 12 rfl rfl)
theorem dX0_withdraw_13 : decode cX0_withdraw 13 = .ok (.iconst 1, 1) := dk_4 (dk_at dksX0_withdraw_0 13 rfl rfl)
theorem dX0_withdraw_14 : decode cX0_withdraw 14 = .ok (.ireturn, 1) := dk_172 (dk_at dksX0_withdraw_0 14 rfl rfl)
theorem dX0_withdraw_15 : decode cX0_withdraw 15 = .ok (.iconst 0, 1) := dk_3 (dk_at dksX0_withdraw_0 15 rfl rfl)
theorem dX0_withdraw_16 : decode cX0_withdraw 16 = .ok (.ireturn, 1) := dk_172 (dk_at dksX0_withdraw_0 16 rfl rfl)
abbrev cX0_crash : ByteArray := method_8_code
def yX0_crash : MethodName := ⟨RX0, "crash", "(LLeaderLeases;I[J)I"⟩
def dkwX0_crash_0 : List UInt8 := [44, 3, 42, 27, 182, 0, 29, 133, 80, 167, 0, 6, 78, 4, 172, 3, 172]
abbrev dktX0_crash_0 : List UInt8 := dkwX0_crash_0 ++ []
theorem dksX0_crash_0 : cX0_crash.data.toList.drop 0 = dktX0_crash_0 := by decide +kernel
theorem dX0_crash_0 : decode cX0_crash 0 = .ok (.aload_n 2, 1) := dk_44 (dk_at dksX0_crash_0 0 rfl rfl)
theorem dX0_crash_1 : decode cX0_crash 1 = .ok (.iconst 0, 1) := dk_3 (dk_at dksX0_crash_0 1 rfl rfl)
theorem dX0_crash_2 : decode cX0_crash 2 = .ok (.aload_n 0, 1) := dk_42 (dk_at dksX0_crash_0 2 rfl rfl)
theorem dX0_crash_3 : decode cX0_crash 3 = .ok (.iload_n 1, 1) := dk_27 (dk_at dksX0_crash_0 3 rfl rfl)
theorem dX0_crash_4 : decode cX0_crash 4 = .ok (.invokevirtual 29, 3) := dk_182 0 29 (dk_at dksX0_crash_0 4 rfl rfl)
theorem dX0_crash_7 : decode cX0_crash 7 = .ok (.i2l, 1) := dk_133 (dk_at dksX0_crash_0 7 rfl rfl)
theorem dX0_crash_8 : decode cX0_crash 8 = .ok (.lastore, 1) := dk_80 (dk_at dksX0_crash_0 8 rfl rfl)
theorem dX0_crash_9 : decode cX0_crash 9 = .ok (.goto 6, 3) := dk_167 0 6 (dk_at dksX0_crash_0 9 rfl rfl)
theorem dX0_crash_12 : decode cX0_crash 12 = .ok (.astore_n 3, 1) := dk_78 (dk_at dksX0_crash_0 12 rfl rfl)
theorem dX0_crash_13 : decode cX0_crash 13 = .ok (.iconst 1, 1) := dk_4 (dk_at dksX0_crash_0 13 rfl rfl)
theorem dX0_crash_14 : decode cX0_crash 14 = .ok (.ireturn, 1) := dk_172 (dk_at dksX0_crash_0 14 rfl rfl)
theorem dX0_crash_15 : decode cX0_crash 15 = .ok (.iconst 0, 1) := dk_3 (dk_at dksX0_crash_0 15 rfl rfl)
theorem dX0_crash_16 : decode cX0_crash 16 = .ok (.ireturn, 1) := dk_172 (dk_at dksX0_crash_0 16 rfl rfl)
abbrev cX0_restart : ByteArray := method_9_code
def yX0_restart : MethodName := ⟨RX0, "restart", "(LLeaderLeases;I[J)I"⟩
def dkwX0_restart_0 : List UInt8 := [44, 3, 42, 27, 182, 0, 32, 153, 0, 7, 10, 167, 0, 4, 9, 80, 167, 0, 6, 78, 4, 172, 3, 172]
abbrev dktX0_restart_0 : List UInt8 := dkwX0_restart_0 ++ []
theorem dksX0_restart_0 : cX0_restart.data.toList.drop 0 = dktX0_restart_0 := by decide +kernel
theorem dX0_restart_0 : decode cX0_restart 0 = .ok (.aload_n 2, 1) := dk_44 (dk_at dksX0_restart_0 0 rfl rfl)
theorem dX0_restart_1 : decode cX0_restart 1 = .ok (.iconst 0, 1) := dk_3 (dk_at dksX0_restart_0 1 rfl rfl)
theorem dX0_restart_2 : decode cX0_restart 2 = .ok (.aload_n 0, 1) := dk_42 (dk_at dksX0_restart_0 2 rfl rfl)
theorem dX0_restart_3 : decode cX0_restart 3 = .ok (.iload_n 1, 1) := dk_27 (dk_at dksX0_restart_0 3 rfl rfl)
theorem dX0_restart_4 : decode cX0_restart 4 = .ok (.invokevirtual 32, 3) := dk_182 0 32 (dk_at dksX0_restart_0 4 rfl rfl)
theorem dX0_restart_7 : decode cX0_restart 7 = .ok (.ifCond .eq 7, 3) := dk_153 0 7 (dk_at dksX0_restart_0 7 rfl rfl)
theorem dX0_restart_10 : decode cX0_restart 10 = .ok (.lconst 1, 1) := dk_10 (dk_at dksX0_restart_0 10 rfl rfl)
theorem dX0_restart_11 : decode cX0_restart 11 = .ok (.goto 4, 3) := dk_167 0 4 (dk_at dksX0_restart_0 11 rfl rfl)
theorem dX0_restart_14 : decode cX0_restart 14 = .ok (.lconst 0, 1) := dk_9 (dk_at dksX0_restart_0 14 rfl rfl)
theorem dX0_restart_15 : decode cX0_restart 15 = .ok (.lastore, 1) := dk_80 (dk_at dksX0_restart_0 15 rfl rfl)
theorem dX0_restart_16 : decode cX0_restart 16 = .ok (.goto 6, 3) := dk_167 0 6 (dk_at dksX0_restart_0 16 rfl rfl)
theorem dX0_restart_19 : decode cX0_restart 19 = .ok (.astore_n 3, 1) := dk_78 (dk_at dksX0_restart_0 19 rfl rfl)
theorem dX0_restart_20 : decode cX0_restart 20 = .ok (.iconst 1, 1) := dk_4 (dk_at dksX0_restart_0 20 rfl rfl)
theorem dX0_restart_21 : decode cX0_restart 21 = .ok (.ireturn, 1) := dk_172 (dk_at dksX0_restart_0 21 rfl rfl)
theorem dX0_restart_22 : decode cX0_restart 22 = .ok (.iconst 0, 1) := dk_3 (dk_at dksX0_restart_0 22 rfl rfl)
theorem dX0_restart_23 : decode cX0_restart 23 = .ok (.ireturn, 1) := dk_172 (dk_at dksX0_restart_0 23 rfl rfl)
abbrev cX0_pause : ByteArray := method_10_code
def yX0_pause : MethodName := ⟨RX0, "pause", "(LLeaderLeases;II[J)I"⟩
def dkwX0_pause_0 : List UInt8 := [45, 3, 42, 27, 28, 182, 0, 36, 133, 80, 167, 0, 11, 58, 4, 4, 172, 58, 4, 5, 172, 3, 172]
abbrev dktX0_pause_0 : List UInt8 := dkwX0_pause_0 ++ []
theorem dksX0_pause_0 : cX0_pause.data.toList.drop 0 = dktX0_pause_0 := by decide +kernel
theorem dX0_pause_0 : decode cX0_pause 0 = .ok (.aload_n 3, 1) := dk_45 (dk_at dksX0_pause_0 0 rfl rfl)
theorem dX0_pause_1 : decode cX0_pause 1 = .ok (.iconst 0, 1) := dk_3 (dk_at dksX0_pause_0 1 rfl rfl)
theorem dX0_pause_2 : decode cX0_pause 2 = .ok (.aload_n 0, 1) := dk_42 (dk_at dksX0_pause_0 2 rfl rfl)
theorem dX0_pause_3 : decode cX0_pause 3 = .ok (.iload_n 1, 1) := dk_27 (dk_at dksX0_pause_0 3 rfl rfl)
theorem dX0_pause_4 : decode cX0_pause 4 = .ok (.iload_n 2, 1) := dk_28 (dk_at dksX0_pause_0 4 rfl rfl)
theorem dX0_pause_5 : decode cX0_pause 5 = .ok (.invokevirtual 36, 3) := dk_182 0 36 (dk_at dksX0_pause_0 5 rfl rfl)
theorem dX0_pause_8 : decode cX0_pause 8 = .ok (.i2l, 1) := dk_133 (dk_at dksX0_pause_0 8 rfl rfl)
theorem dX0_pause_9 : decode cX0_pause 9 = .ok (.lastore, 1) := dk_80 (dk_at dksX0_pause_0 9 rfl rfl)
theorem dX0_pause_10 : decode cX0_pause 10 = .ok (.goto 11, 3) := dk_167 0 11 (dk_at dksX0_pause_0 10 rfl rfl)
theorem dX0_pause_13 : decode cX0_pause 13 = .ok (.astore 4, 2) := dk_58 4 (dk_at dksX0_pause_0 13 rfl rfl)
theorem dX0_pause_15 : decode cX0_pause 15 = .ok (.iconst 1, 1) := dk_4 (dk_at dksX0_pause_0 15 rfl rfl)
theorem dX0_pause_16 : decode cX0_pause 16 = .ok (.ireturn, 1) := dk_172 (dk_at dksX0_pause_0 16 rfl rfl)
theorem dX0_pause_17 : decode cX0_pause 17 = .ok (.astore 4, 2) := dk_58 4 (dk_at dksX0_pause_0 17 rfl rfl)
theorem dX0_pause_19 : decode cX0_pause 19 = .ok (.iconst 2, 1) := dk_5 (dk_at dksX0_pause_0 19 rfl rfl)
theorem dX0_pause_20 : decode cX0_pause 20 = .ok (.ireturn, 1) := dk_172 (dk_at dksX0_pause_0 20 rfl rfl)
theorem dX0_pause_21 : decode cX0_pause 21 = .ok (.iconst 0, 1) := dk_3 (dk_at dksX0_pause_0 21 rfl rfl)
theorem dX0_pause_22 : decode cX0_pause 22 = .ok (.ireturn, 1) := dk_172 (dk_at dksX0_pause_0 22 rfl rfl)
abbrev cX0_setCut : ByteArray := method_11_code
def yX0_setCut : MethodName := ⟨RX0, "setCut", "(LLeaderLeases;IZ[J)I"⟩
def dkwX0_setCut_1 : List UInt8 := [3, 172]
abbrev dktX0_setCut_1 : List UInt8 := dkwX0_setCut_1 ++ []
def dkwX0_setCut_0 : List UInt8 := [45, 3, 42, 27, 28, 182, 0, 40, 153, 0, 7, 10, 167, 0, 4, 9, 80, 167, 0, 7, 58, 4, 4, 172]
abbrev dktX0_setCut_0 : List UInt8 := dkwX0_setCut_0 ++ dktX0_setCut_1
theorem dksX0_setCut_0 : cX0_setCut.data.toList.drop 0 = dktX0_setCut_0 := by decide +kernel
theorem dksX0_setCut_1 : cX0_setCut.data.toList.drop 24 = dktX0_setCut_1 := dk_seg dksX0_setCut_0 24 rfl rfl
theorem dX0_setCut_0 : decode cX0_setCut 0 = .ok (.aload_n 3, 1) := dk_45 (dk_at dksX0_setCut_0 0 rfl rfl)
theorem dX0_setCut_1 : decode cX0_setCut 1 = .ok (.iconst 0, 1) := dk_3 (dk_at dksX0_setCut_0 1 rfl rfl)
theorem dX0_setCut_2 : decode cX0_setCut 2 = .ok (.aload_n 0, 1) := dk_42 (dk_at dksX0_setCut_0 2 rfl rfl)
theorem dX0_setCut_3 : decode cX0_setCut 3 = .ok (.iload_n 1, 1) := dk_27 (dk_at dksX0_setCut_0 3 rfl rfl)
theorem dX0_setCut_4 : decode cX0_setCut 4 = .ok (.iload_n 2, 1) := dk_28 (dk_at dksX0_setCut_0 4 rfl rfl)
theorem dX0_setCut_5 : decode cX0_setCut 5 = .ok (.invokevirtual 40, 3) := dk_182 0 40 (dk_at dksX0_setCut_0 5 rfl rfl)
theorem dX0_setCut_8 : decode cX0_setCut 8 = .ok (.ifCond .eq 7, 3) := dk_153 0 7 (dk_at dksX0_setCut_0 8 rfl rfl)
theorem dX0_setCut_11 : decode cX0_setCut 11 = .ok (.lconst 1, 1) := dk_10 (dk_at dksX0_setCut_0 11 rfl rfl)
theorem dX0_setCut_12 : decode cX0_setCut 12 = .ok (.goto 4, 3) := dk_167 0 4 (dk_at dksX0_setCut_0 12 rfl rfl)
theorem dX0_setCut_15 : decode cX0_setCut 15 = .ok (.lconst 0, 1) := dk_9 (dk_at dksX0_setCut_0 15 rfl rfl)
theorem dX0_setCut_16 : decode cX0_setCut 16 = .ok (.lastore, 1) := dk_80 (dk_at dksX0_setCut_0 16 rfl rfl)
theorem dX0_setCut_17 : decode cX0_setCut 17 = .ok (.goto 7, 3) := dk_167 0 7 (dk_at dksX0_setCut_0 17 rfl rfl)
theorem dX0_setCut_20 : decode cX0_setCut 20 = .ok (.astore 4, 2) := dk_58 4 (dk_at dksX0_setCut_0 20 rfl rfl)
theorem dX0_setCut_22 : decode cX0_setCut 22 = .ok (.iconst 1, 1) := dk_4 (dk_at dksX0_setCut_0 22 rfl rfl)
theorem dX0_setCut_23 : decode cX0_setCut 23 = .ok (.ireturn, 1) := dk_172 (dk_at dksX0_setCut_0 23 rfl rfl)
theorem dX0_setCut_24 : decode cX0_setCut 24 = .ok (.iconst 0, 1) := dk_3 (dk_at dksX0_setCut_1 0 rfl rfl)
theorem dX0_setCut_25 : decode cX0_setCut 25 = .ok (.ireturn, 1) := dk_172 (dk_at dksX0_setCut_1 1 rfl rfl)
abbrev cX0_planOutage : ByteArray := method_12_code
def yX0_planOutage : MethodName := ⟨RX0, "planOutage", "(LLeaderLeases;III[J)I"⟩
def dkwX0_planOutage_1 : List UInt8 := [172]
abbrev dktX0_planOutage_1 : List UInt8 := dkwX0_planOutage_1 ++ []
def dkwX0_planOutage_0 : List UInt8 := [25, 4, 3, 42, 27, 28, 29, 182, 0, 44, 133, 80, 167, 0, 11, 58, 5, 4, 172, 58, 5, 5, 172, 3]
abbrev dktX0_planOutage_0 : List UInt8 := dkwX0_planOutage_0 ++ dktX0_planOutage_1
theorem dksX0_planOutage_0 : cX0_planOutage.data.toList.drop 0 = dktX0_planOutage_0 := by decide +kernel
theorem dksX0_planOutage_1 : cX0_planOutage.data.toList.drop 24 = dktX0_planOutage_1 := dk_seg dksX0_planOutage_0 24 rfl rfl
theorem dX0_planOutage_0 : decode cX0_planOutage 0 = .ok (.aload 4, 2) := dk_25 4 (dk_at dksX0_planOutage_0 0 rfl rfl)
theorem dX0_planOutage_2 : decode cX0_planOutage 2 = .ok (.iconst 0, 1) := dk_3 (dk_at dksX0_planOutage_0 2 rfl rfl)
theorem dX0_planOutage_3 : decode cX0_planOutage 3 = .ok (.aload_n 0, 1) := dk_42 (dk_at dksX0_planOutage_0 3 rfl rfl)
theorem dX0_planOutage_4 : decode cX0_planOutage 4 = .ok (.iload_n 1, 1) := dk_27 (dk_at dksX0_planOutage_0 4 rfl rfl)
theorem dX0_planOutage_5 : decode cX0_planOutage 5 = .ok (.iload_n 2, 1) := dk_28 (dk_at dksX0_planOutage_0 5 rfl rfl)
theorem dX0_planOutage_6 : decode cX0_planOutage 6 = .ok (.iload_n 3, 1) := dk_29 (dk_at dksX0_planOutage_0 6 rfl rfl)
theorem dX0_planOutage_7 : decode cX0_planOutage 7 = .ok (.invokevirtual 44, 3) := dk_182 0 44 (dk_at dksX0_planOutage_0 7 rfl rfl)
theorem dX0_planOutage_10 : decode cX0_planOutage 10 = .ok (.i2l, 1) := dk_133 (dk_at dksX0_planOutage_0 10 rfl rfl)
theorem dX0_planOutage_11 : decode cX0_planOutage 11 = .ok (.lastore, 1) := dk_80 (dk_at dksX0_planOutage_0 11 rfl rfl)
theorem dX0_planOutage_12 : decode cX0_planOutage 12 = .ok (.goto 11, 3) := dk_167 0 11 (dk_at dksX0_planOutage_0 12 rfl rfl)
theorem dX0_planOutage_15 : decode cX0_planOutage 15 = .ok (.astore 5, 2) := dk_58 5 (dk_at dksX0_planOutage_0 15 rfl rfl)
theorem dX0_planOutage_17 : decode cX0_planOutage 17 = .ok (.iconst 1, 1) := dk_4 (dk_at dksX0_planOutage_0 17 rfl rfl)
theorem dX0_planOutage_18 : decode cX0_planOutage 18 = .ok (.ireturn, 1) := dk_172 (dk_at dksX0_planOutage_0 18 rfl rfl)
theorem dX0_planOutage_19 : decode cX0_planOutage 19 = .ok (.astore 5, 2) := dk_58 5 (dk_at dksX0_planOutage_0 19 rfl rfl)
theorem dX0_planOutage_21 : decode cX0_planOutage 21 = .ok (.iconst 2, 1) := dk_5 (dk_at dksX0_planOutage_0 21 rfl rfl)
theorem dX0_planOutage_22 : decode cX0_planOutage 22 = .ok (.ireturn, 1) := dk_172 (dk_at dksX0_planOutage_0 22 rfl rfl)
theorem dX0_planOutage_23 : decode cX0_planOutage 23 = .ok (.iconst 0, 1) := dk_3 (dk_at dksX0_planOutage_0 23 rfl rfl)
theorem dX0_planOutage_24 : decode cX0_planOutage 24 = .ok (.ireturn, 1) := dk_172 (dk_at dksX0_planOutage_1 0 rfl rfl)
abbrev cX0_write : ByteArray := method_13_code
def yX0_write : MethodName := ⟨RX0, "write", "(LLeaderLeases;III[J)I"⟩
def dkwX0_write_1 : List UInt8 := [172]
abbrev dktX0_write_1 : List UInt8 := dkwX0_write_1 ++ []
def dkwX0_write_0 : List UInt8 := [25, 4, 3, 42, 27, 28, 29, 182, 0, 48, 133, 80, 167, 0, 11, 58, 5, 4, 172, 58, 5, 5, 172, 3]
abbrev dktX0_write_0 : List UInt8 := dkwX0_write_0 ++ dktX0_write_1
theorem dksX0_write_0 : cX0_write.data.toList.drop 0 = dktX0_write_0 := by decide +kernel
theorem dksX0_write_1 : cX0_write.data.toList.drop 24 = dktX0_write_1 := dk_seg dksX0_write_0 24 rfl rfl
theorem dX0_write_0 : decode cX0_write 0 = .ok (.aload 4, 2) := dk_25 4 (dk_at dksX0_write_0 0 rfl rfl)
theorem dX0_write_2 : decode cX0_write 2 = .ok (.iconst 0, 1) := dk_3 (dk_at dksX0_write_0 2 rfl rfl)
theorem dX0_write_3 : decode cX0_write 3 = .ok (.aload_n 0, 1) := dk_42 (dk_at dksX0_write_0 3 rfl rfl)
theorem dX0_write_4 : decode cX0_write 4 = .ok (.iload_n 1, 1) := dk_27 (dk_at dksX0_write_0 4 rfl rfl)
theorem dX0_write_5 : decode cX0_write 5 = .ok (.iload_n 2, 1) := dk_28 (dk_at dksX0_write_0 5 rfl rfl)
theorem dX0_write_6 : decode cX0_write 6 = .ok (.iload_n 3, 1) := dk_29 (dk_at dksX0_write_0 6 rfl rfl)
theorem dX0_write_7 : decode cX0_write 7 = .ok (.invokevirtual 48, 3) := dk_182 0 48 (dk_at dksX0_write_0 7 rfl rfl)
theorem dX0_write_10 : decode cX0_write 10 = .ok (.i2l, 1) := dk_133 (dk_at dksX0_write_0 10 rfl rfl)
theorem dX0_write_11 : decode cX0_write 11 = .ok (.lastore, 1) := dk_80 (dk_at dksX0_write_0 11 rfl rfl)
theorem dX0_write_12 : decode cX0_write 12 = .ok (.goto 11, 3) := dk_167 0 11 (dk_at dksX0_write_0 12 rfl rfl)
theorem dX0_write_15 : decode cX0_write 15 = .ok (.astore 5, 2) := dk_58 5 (dk_at dksX0_write_0 15 rfl rfl)
theorem dX0_write_17 : decode cX0_write 17 = .ok (.iconst 1, 1) := dk_4 (dk_at dksX0_write_0 17 rfl rfl)
theorem dX0_write_18 : decode cX0_write 18 = .ok (.ireturn, 1) := dk_172 (dk_at dksX0_write_0 18 rfl rfl)
theorem dX0_write_19 : decode cX0_write 19 = .ok (.astore 5, 2) := dk_58 5 (dk_at dksX0_write_0 19 rfl rfl)
theorem dX0_write_21 : decode cX0_write 21 = .ok (.iconst 2, 1) := dk_5 (dk_at dksX0_write_0 21 rfl rfl)
theorem dX0_write_22 : decode cX0_write 22 = .ok (.ireturn, 1) := dk_172 (dk_at dksX0_write_0 22 rfl rfl)
theorem dX0_write_23 : decode cX0_write 23 = .ok (.iconst 0, 1) := dk_3 (dk_at dksX0_write_0 23 rfl rfl)
theorem dX0_write_24 : decode cX0_write 24 = .ok (.ireturn, 1) := dk_172 (dk_at dksX0_write_1 0 rfl rfl)
abbrev cX0_writeLater : ByteArray := method_14_code
def yX0_writeLater : MethodName := ⟨RX0, "writeLater", "(LLeaderLeases;IIII[J)I"⟩
def dkwX0_writeLater_1 : List UInt8 := [172, 3, 172]
abbrev dktX0_writeLater_1 : List UInt8 := dkwX0_writeLater_1 ++ []
def dkwX0_writeLater_0 : List UInt8 := [25, 5, 3, 42, 27, 28, 29, 21, 4, 182, 0, 51, 133, 80, 167, 0, 11, 58, 6, 4, 172, 58, 6, 5]
abbrev dktX0_writeLater_0 : List UInt8 := dkwX0_writeLater_0 ++ dktX0_writeLater_1
theorem dksX0_writeLater_0 : cX0_writeLater.data.toList.drop 0 = dktX0_writeLater_0 := by decide +kernel
theorem dksX0_writeLater_1 : cX0_writeLater.data.toList.drop 24 = dktX0_writeLater_1 := dk_seg dksX0_writeLater_0 24 rfl rfl
theorem dX0_writeLater_0 : decode cX0_writeLater 0 = .ok (.aload 5, 2) := dk_25 5 (dk_at dksX0_writeLater_0 0 rfl rfl)
theorem dX0_writeLater_2 : decode cX0_writeLater 2 = .ok (.iconst 0, 1) := dk_3 (dk_at dksX0_writeLater_0 2 rfl rfl)
theorem dX0_writeLater_3 : decode cX0_writeLater 3 = .ok (.aload_n 0, 1) := dk_42 (dk_at dksX0_writeLater_0 3 rfl rfl)
theorem dX0_writeLater_4 : decode cX0_writeLater 4 = .ok (.iload_n 1, 1) := dk_27 (dk_at dksX0_writeLater_0 4 rfl rfl)
theorem dX0_writeLater_5 : decode cX0_writeLater 5 = .ok (.iload_n 2, 1) := dk_28 (dk_at dksX0_writeLater_0 5 rfl rfl)
theorem dX0_writeLater_6 : decode cX0_writeLater 6 = .ok (.iload_n 3, 1) := dk_29 (dk_at dksX0_writeLater_0 6 rfl rfl)
theorem dX0_writeLater_7 : decode cX0_writeLater 7 = .ok (.iload 4, 2) := dk_21 4 (dk_at dksX0_writeLater_0 7 rfl rfl)
theorem dX0_writeLater_9 : decode cX0_writeLater 9 = .ok (.invokevirtual 51, 3) := dk_182 0 51 (dk_at dksX0_writeLater_0 9 rfl rfl)
theorem dX0_writeLater_12 : decode cX0_writeLater 12 = .ok (.i2l, 1) := dk_133 (dk_at dksX0_writeLater_0 12 rfl rfl)
theorem dX0_writeLater_13 : decode cX0_writeLater 13 = .ok (.lastore, 1) := dk_80 (dk_at dksX0_writeLater_0 13 rfl rfl)
theorem dX0_writeLater_14 : decode cX0_writeLater 14 = .ok (.goto 11, 3) := dk_167 0 11 (dk_at dksX0_writeLater_0 14 rfl rfl)
theorem dX0_writeLater_17 : decode cX0_writeLater 17 = .ok (.astore 6, 2) := dk_58 6 (dk_at dksX0_writeLater_0 17 rfl rfl)
theorem dX0_writeLater_19 : decode cX0_writeLater 19 = .ok (.iconst 1, 1) := dk_4 (dk_at dksX0_writeLater_0 19 rfl rfl)
theorem dX0_writeLater_20 : decode cX0_writeLater 20 = .ok (.ireturn, 1) := dk_172 (dk_at dksX0_writeLater_0 20 rfl rfl)
theorem dX0_writeLater_21 : decode cX0_writeLater 21 = .ok (.astore 6, 2) := dk_58 6 (dk_at dksX0_writeLater_0 21 rfl rfl)
theorem dX0_writeLater_23 : decode cX0_writeLater 23 = .ok (.iconst 2, 1) := dk_5 (dk_at dksX0_writeLater_0 23 rfl rfl)
theorem dX0_writeLater_24 : decode cX0_writeLater 24 = .ok (.ireturn, 1) := dk_172 (dk_at dksX0_writeLater_1 0 rfl rfl)
theorem dX0_writeLater_25 : decode cX0_writeLater 25 = .ok (.iconst 0, 1) := dk_3 (dk_at dksX0_writeLater_1 1 rfl rfl)
theorem dX0_writeLater_26 : decode cX0_writeLater 26 = .ok (.ireturn, 1) := dk_172 (dk_at dksX0_writeLater_1 2 rfl rfl)
abbrev cX0_fetch : ByteArray := method_15_code
def yX0_fetch : MethodName := ⟨RX0, "fetch", "(LLeaderLeases;II[J)I"⟩
def dkwX0_fetch_0 : List UInt8 := [45, 3, 42, 27, 28, 182, 0, 55, 133, 80, 167, 0, 11, 58, 4, 4, 172, 58, 4, 5, 172, 3, 172]
abbrev dktX0_fetch_0 : List UInt8 := dkwX0_fetch_0 ++ []
theorem dksX0_fetch_0 : cX0_fetch.data.toList.drop 0 = dktX0_fetch_0 := by decide +kernel
theorem dX0_fetch_0 : decode cX0_fetch 0 = .ok (.aload_n 3, 1) := dk_45 (dk_at dksX0_fetch_0 0 rfl rfl)
theorem dX0_fetch_1 : decode cX0_fetch 1 = .ok (.iconst 0, 1) := dk_3 (dk_at dksX0_fetch_0 1 rfl rfl)
theorem dX0_fetch_2 : decode cX0_fetch 2 = .ok (.aload_n 0, 1) := dk_42 (dk_at dksX0_fetch_0 2 rfl rfl)
theorem dX0_fetch_3 : decode cX0_fetch 3 = .ok (.iload_n 1, 1) := dk_27 (dk_at dksX0_fetch_0 3 rfl rfl)
theorem dX0_fetch_4 : decode cX0_fetch 4 = .ok (.iload_n 2, 1) := dk_28 (dk_at dksX0_fetch_0 4 rfl rfl)
theorem dX0_fetch_5 : decode cX0_fetch 5 = .ok (.invokevirtual 55, 3) := dk_182 0 55 (dk_at dksX0_fetch_0 5 rfl rfl)
theorem dX0_fetch_8 : decode cX0_fetch 8 = .ok (.i2l, 1) := dk_133 (dk_at dksX0_fetch_0 8 rfl rfl)
theorem dX0_fetch_9 : decode cX0_fetch 9 = .ok (.lastore, 1) := dk_80 (dk_at dksX0_fetch_0 9 rfl rfl)
theorem dX0_fetch_10 : decode cX0_fetch 10 = .ok (.goto 11, 3) := dk_167 0 11 (dk_at dksX0_fetch_0 10 rfl rfl)
theorem dX0_fetch_13 : decode cX0_fetch 13 = .ok (.astore 4, 2) := dk_58 4 (dk_at dksX0_fetch_0 13 rfl rfl)
theorem dX0_fetch_15 : decode cX0_fetch 15 = .ok (.iconst 1, 1) := dk_4 (dk_at dksX0_fetch_0 15 rfl rfl)
theorem dX0_fetch_16 : decode cX0_fetch 16 = .ok (.ireturn, 1) := dk_172 (dk_at dksX0_fetch_0 16 rfl rfl)
theorem dX0_fetch_17 : decode cX0_fetch 17 = .ok (.astore 4, 2) := dk_58 4 (dk_at dksX0_fetch_0 17 rfl rfl)
theorem dX0_fetch_19 : decode cX0_fetch 19 = .ok (.iconst 2, 1) := dk_5 (dk_at dksX0_fetch_0 19 rfl rfl)
theorem dX0_fetch_20 : decode cX0_fetch 20 = .ok (.ireturn, 1) := dk_172 (dk_at dksX0_fetch_0 20 rfl rfl)
theorem dX0_fetch_21 : decode cX0_fetch 21 = .ok (.iconst 0, 1) := dk_3 (dk_at dksX0_fetch_0 21 rfl rfl)
theorem dX0_fetch_22 : decode cX0_fetch 22 = .ok (.ireturn, 1) := dk_172 (dk_at dksX0_fetch_0 22 rfl rfl)
abbrev cX0_read : ByteArray := method_16_code
def yX0_read : MethodName := ⟨RX0, "read", "(LLeaderLeases;II[J)I"⟩
def dkwX0_read_0 : List UInt8 := [45, 3, 42, 27, 28, 182, 0, 58, 133, 80, 167, 0, 11, 58, 4, 4, 172, 58, 4, 5, 172, 3, 172]
abbrev dktX0_read_0 : List UInt8 := dkwX0_read_0 ++ []
theorem dksX0_read_0 : cX0_read.data.toList.drop 0 = dktX0_read_0 := by decide +kernel
theorem dX0_read_0 : decode cX0_read 0 = .ok (.aload_n 3, 1) := dk_45 (dk_at dksX0_read_0 0 rfl rfl)
theorem dX0_read_1 : decode cX0_read 1 = .ok (.iconst 0, 1) := dk_3 (dk_at dksX0_read_0 1 rfl rfl)
theorem dX0_read_2 : decode cX0_read 2 = .ok (.aload_n 0, 1) := dk_42 (dk_at dksX0_read_0 2 rfl rfl)
theorem dX0_read_3 : decode cX0_read 3 = .ok (.iload_n 1, 1) := dk_27 (dk_at dksX0_read_0 3 rfl rfl)
theorem dX0_read_4 : decode cX0_read 4 = .ok (.iload_n 2, 1) := dk_28 (dk_at dksX0_read_0 4 rfl rfl)
theorem dX0_read_5 : decode cX0_read 5 = .ok (.invokevirtual 58, 3) := dk_182 0 58 (dk_at dksX0_read_0 5 rfl rfl)
theorem dX0_read_8 : decode cX0_read 8 = .ok (.i2l, 1) := dk_133 (dk_at dksX0_read_0 8 rfl rfl)
theorem dX0_read_9 : decode cX0_read 9 = .ok (.lastore, 1) := dk_80 (dk_at dksX0_read_0 9 rfl rfl)
theorem dX0_read_10 : decode cX0_read 10 = .ok (.goto 11, 3) := dk_167 0 11 (dk_at dksX0_read_0 10 rfl rfl)
theorem dX0_read_13 : decode cX0_read 13 = .ok (.astore 4, 2) := dk_58 4 (dk_at dksX0_read_0 13 rfl rfl)
theorem dX0_read_15 : decode cX0_read 15 = .ok (.iconst 1, 1) := dk_4 (dk_at dksX0_read_0 15 rfl rfl)
theorem dX0_read_16 : decode cX0_read 16 = .ok (.ireturn, 1) := dk_172 (dk_at dksX0_read_0 16 rfl rfl)
theorem dX0_read_17 : decode cX0_read 17 = .ok (.astore 4, 2) := dk_58 4 (dk_at dksX0_read_0 17 rfl rfl)
theorem dX0_read_19 : decode cX0_read 19 = .ok (.iconst 2, 1) := dk_5 (dk_at dksX0_read_0 19 rfl rfl)
theorem dX0_read_20 : decode cX0_read 20 = .ok (.ireturn, 1) := dk_172 (dk_at dksX0_read_0 20 rfl rfl)
theorem dX0_read_21 : decode cX0_read 21 = .ok (.iconst 0, 1) := dk_3 (dk_at dksX0_read_0 21 rfl rfl)
theorem dX0_read_22 : decode cX0_read 22 = .ok (.ireturn, 1) := dk_172 (dk_at dksX0_read_0 22 rfl rfl)
abbrev cX0_stored : ByteArray := method_17_code
def yX0_stored : MethodName := ⟨RX0, "stored", "(LLeaderLeases;I[J)I"⟩
def dkwX0_stored_0 : List UInt8 := [44, 3, 42, 27, 182, 0, 61, 133, 80, 167, 0, 6, 78, 4, 172, 3, 172]
abbrev dktX0_stored_0 : List UInt8 := dkwX0_stored_0 ++ []
theorem dksX0_stored_0 : cX0_stored.data.toList.drop 0 = dktX0_stored_0 := by decide +kernel
theorem dX0_stored_0 : decode cX0_stored 0 = .ok (.aload_n 2, 1) := dk_44 (dk_at dksX0_stored_0 0 rfl rfl)
theorem dX0_stored_1 : decode cX0_stored 1 = .ok (.iconst 0, 1) := dk_3 (dk_at dksX0_stored_0 1 rfl rfl)
theorem dX0_stored_2 : decode cX0_stored 2 = .ok (.aload_n 0, 1) := dk_42 (dk_at dksX0_stored_0 2 rfl rfl)
theorem dX0_stored_3 : decode cX0_stored 3 = .ok (.iload_n 1, 1) := dk_27 (dk_at dksX0_stored_0 3 rfl rfl)
theorem dX0_stored_4 : decode cX0_stored 4 = .ok (.invokevirtual 61, 3) := dk_182 0 61 (dk_at dksX0_stored_0 4 rfl rfl)
theorem dX0_stored_7 : decode cX0_stored 7 = .ok (.i2l, 1) := dk_133 (dk_at dksX0_stored_0 7 rfl rfl)
theorem dX0_stored_8 : decode cX0_stored 8 = .ok (.lastore, 1) := dk_80 (dk_at dksX0_stored_0 8 rfl rfl)
theorem dX0_stored_9 : decode cX0_stored 9 = .ok (.goto 6, 3) := dk_167 0 6 (dk_at dksX0_stored_0 9 rfl rfl)
theorem dX0_stored_12 : decode cX0_stored 12 = .ok (.astore_n 3, 1) := dk_78 (dk_at dksX0_stored_0 12 rfl rfl)
theorem dX0_stored_13 : decode cX0_stored 13 = .ok (.iconst 1, 1) := dk_4 (dk_at dksX0_stored_0 13 rfl rfl)
theorem dX0_stored_14 : decode cX0_stored 14 = .ok (.ireturn, 1) := dk_172 (dk_at dksX0_stored_0 14 rfl rfl)
theorem dX0_stored_15 : decode cX0_stored 15 = .ok (.iconst 0, 1) := dk_3 (dk_at dksX0_stored_0 15 rfl rfl)
theorem dX0_stored_16 : decode cX0_stored 16 = .ok (.ireturn, 1) := dk_172 (dk_at dksX0_stored_0 16 rfl rfl)
abbrev cX0_version : ByteArray := method_18_code
def yX0_version : MethodName := ⟨RX0, "version", "(LLeaderLeases;I[J)I"⟩
def dkwX0_version_0 : List UInt8 := [44, 3, 42, 27, 182, 0, 64, 133, 80, 167, 0, 6, 78, 4, 172, 3, 172]
abbrev dktX0_version_0 : List UInt8 := dkwX0_version_0 ++ []
theorem dksX0_version_0 : cX0_version.data.toList.drop 0 = dktX0_version_0 := by decide +kernel
theorem dX0_version_0 : decode cX0_version 0 = .ok (.aload_n 2, 1) := dk_44 (dk_at dksX0_version_0 0 rfl rfl)
theorem dX0_version_1 : decode cX0_version 1 = .ok (.iconst 0, 1) := dk_3 (dk_at dksX0_version_0 1 rfl rfl)
theorem dX0_version_2 : decode cX0_version 2 = .ok (.aload_n 0, 1) := dk_42 (dk_at dksX0_version_0 2 rfl rfl)
theorem dX0_version_3 : decode cX0_version 3 = .ok (.iload_n 1, 1) := dk_27 (dk_at dksX0_version_0 3 rfl rfl)
theorem dX0_version_4 : decode cX0_version 4 = .ok (.invokevirtual 64, 3) := dk_182 0 64 (dk_at dksX0_version_0 4 rfl rfl)
theorem dX0_version_7 : decode cX0_version 7 = .ok (.i2l, 1) := dk_133 (dk_at dksX0_version_0 7 rfl rfl)
theorem dX0_version_8 : decode cX0_version 8 = .ok (.lastore, 1) := dk_80 (dk_at dksX0_version_0 8 rfl rfl)
theorem dX0_version_9 : decode cX0_version 9 = .ok (.goto 6, 3) := dk_167 0 6 (dk_at dksX0_version_0 9 rfl rfl)
theorem dX0_version_12 : decode cX0_version 12 = .ok (.astore_n 3, 1) := dk_78 (dk_at dksX0_version_0 12 rfl rfl)
theorem dX0_version_13 : decode cX0_version 13 = .ok (.iconst 1, 1) := dk_4 (dk_at dksX0_version_0 13 rfl rfl)
theorem dX0_version_14 : decode cX0_version 14 = .ok (.ireturn, 1) := dk_172 (dk_at dksX0_version_0 14 rfl rfl)
theorem dX0_version_15 : decode cX0_version 15 = .ok (.iconst 0, 1) := dk_3 (dk_at dksX0_version_0 15 rfl rfl)
theorem dX0_version_16 : decode cX0_version 16 = .ok (.ireturn, 1) := dk_172 (dk_at dksX0_version_0 16 rfl rfl)
abbrev cX0_isLeading : ByteArray := method_19_code
def yX0_isLeading : MethodName := ⟨RX0, "isLeading", "(LLeaderLeases;I[J)I"⟩
def dkwX0_isLeading_0 : List UInt8 := [44, 3, 42, 27, 182, 0, 67, 153, 0, 7, 10, 167, 0, 4, 9, 80, 167, 0, 6, 78, 4, 172, 3, 172]
abbrev dktX0_isLeading_0 : List UInt8 := dkwX0_isLeading_0 ++ []
theorem dksX0_isLeading_0 : cX0_isLeading.data.toList.drop 0 = dktX0_isLeading_0 := by decide +kernel
theorem dX0_isLeading_0 : decode cX0_isLeading 0 = .ok (.aload_n 2, 1) := dk_44 (dk_at dksX0_isLeading_0 0 rfl rfl)
theorem dX0_isLeading_1 : decode cX0_isLeading 1 = .ok (.iconst 0, 1) := dk_3 (dk_at dksX0_isLeading_0 1 rfl rfl)
theorem dX0_isLeading_2 : decode cX0_isLeading 2 = .ok (.aload_n 0, 1) := dk_42 (dk_at dksX0_isLeading_0 2 rfl rfl)
theorem dX0_isLeading_3 : decode cX0_isLeading 3 = .ok (.iload_n 1, 1) := dk_27 (dk_at dksX0_isLeading_0 3 rfl rfl)
theorem dX0_isLeading_4 : decode cX0_isLeading 4 = .ok (.invokevirtual 67, 3) := dk_182 0 67 (dk_at dksX0_isLeading_0 4 rfl rfl)
theorem dX0_isLeading_7 : decode cX0_isLeading 7 = .ok (.ifCond .eq 7, 3) := dk_153 0 7 (dk_at dksX0_isLeading_0 7 rfl rfl)
theorem dX0_isLeading_10 : decode cX0_isLeading 10 = .ok (.lconst 1, 1) := dk_10 (dk_at dksX0_isLeading_0 10 rfl rfl)
theorem dX0_isLeading_11 : decode cX0_isLeading 11 = .ok (.goto 4, 3) := dk_167 0 4 (dk_at dksX0_isLeading_0 11 rfl rfl)
theorem dX0_isLeading_14 : decode cX0_isLeading 14 = .ok (.lconst 0, 1) := dk_9 (dk_at dksX0_isLeading_0 14 rfl rfl)
theorem dX0_isLeading_15 : decode cX0_isLeading 15 = .ok (.lastore, 1) := dk_80 (dk_at dksX0_isLeading_0 15 rfl rfl)
theorem dX0_isLeading_16 : decode cX0_isLeading 16 = .ok (.goto 6, 3) := dk_167 0 6 (dk_at dksX0_isLeading_0 16 rfl rfl)
theorem dX0_isLeading_19 : decode cX0_isLeading 19 = .ok (.astore_n 3, 1) := dk_78 (dk_at dksX0_isLeading_0 19 rfl rfl)
theorem dX0_isLeading_20 : decode cX0_isLeading 20 = .ok (.iconst 1, 1) := dk_4 (dk_at dksX0_isLeading_0 20 rfl rfl)
theorem dX0_isLeading_21 : decode cX0_isLeading 21 = .ok (.ireturn, 1) := dk_172 (dk_at dksX0_isLeading_0 21 rfl rfl)
theorem dX0_isLeading_22 : decode cX0_isLeading 22 = .ok (.iconst 0, 1) := dk_3 (dk_at dksX0_isLeading_0 22 rfl rfl)
theorem dX0_isLeading_23 : decode cX0_isLeading 23 = .ok (.ireturn, 1) := dk_172 (dk_at dksX0_isLeading_0 23 rfl rfl)
abbrev cX0_token : ByteArray := method_20_code
def yX0_token : MethodName := ⟨RX0, "token", "(LLeaderLeases;I[J)I"⟩
def dkwX0_token_0 : List UInt8 := [44, 3, 42, 27, 182, 0, 70, 133, 80, 167, 0, 6, 78, 4, 172, 3, 172]
abbrev dktX0_token_0 : List UInt8 := dkwX0_token_0 ++ []
theorem dksX0_token_0 : cX0_token.data.toList.drop 0 = dktX0_token_0 := by decide +kernel
theorem dX0_token_0 : decode cX0_token 0 = .ok (.aload_n 2, 1) := dk_44 (dk_at dksX0_token_0 0 rfl rfl)
theorem dX0_token_1 : decode cX0_token 1 = .ok (.iconst 0, 1) := dk_3 (dk_at dksX0_token_0 1 rfl rfl)
theorem dX0_token_2 : decode cX0_token 2 = .ok (.aload_n 0, 1) := dk_42 (dk_at dksX0_token_0 2 rfl rfl)
theorem dX0_token_3 : decode cX0_token 3 = .ok (.iload_n 1, 1) := dk_27 (dk_at dksX0_token_0 3 rfl rfl)
theorem dX0_token_4 : decode cX0_token 4 = .ok (.invokevirtual 70, 3) := dk_182 0 70 (dk_at dksX0_token_0 4 rfl rfl)
theorem dX0_token_7 : decode cX0_token 7 = .ok (.i2l, 1) := dk_133 (dk_at dksX0_token_0 7 rfl rfl)
theorem dX0_token_8 : decode cX0_token 8 = .ok (.lastore, 1) := dk_80 (dk_at dksX0_token_0 8 rfl rfl)
theorem dX0_token_9 : decode cX0_token 9 = .ok (.goto 6, 3) := dk_167 0 6 (dk_at dksX0_token_0 9 rfl rfl)
theorem dX0_token_12 : decode cX0_token 12 = .ok (.astore_n 3, 1) := dk_78 (dk_at dksX0_token_0 12 rfl rfl)
theorem dX0_token_13 : decode cX0_token 13 = .ok (.iconst 1, 1) := dk_4 (dk_at dksX0_token_0 13 rfl rfl)
theorem dX0_token_14 : decode cX0_token 14 = .ok (.ireturn, 1) := dk_172 (dk_at dksX0_token_0 14 rfl rfl)
theorem dX0_token_15 : decode cX0_token 15 = .ok (.iconst 0, 1) := dk_3 (dk_at dksX0_token_0 15 rfl rfl)
theorem dX0_token_16 : decode cX0_token 16 = .ok (.ireturn, 1) := dk_172 (dk_at dksX0_token_0 16 rfl rfl)
abbrev cX0_nodeExpiryTime : ByteArray := method_21_code
def yX0_nodeExpiryTime : MethodName := ⟨RX0, "nodeExpiryTime", "(LLeaderLeases;I[J)I"⟩
def dkwX0_nodeExpiryTime_0 : List UInt8 := [44, 3, 42, 27, 182, 0, 73, 133, 80, 167, 0, 6, 78, 4, 172, 3, 172]
abbrev dktX0_nodeExpiryTime_0 : List UInt8 := dkwX0_nodeExpiryTime_0 ++ []
theorem dksX0_nodeExpiryTime_0 : cX0_nodeExpiryTime.data.toList.drop 0 = dktX0_nodeExpiryTime_0 := by decide +kernel
theorem dX0_nodeExpiryTime_0 : decode cX0_nodeExpiryTime 0 = .ok (.aload_n 2, 1) := dk_44 (dk_at dksX0_nodeExpiryTime_0 0 rfl rfl)
theorem dX0_nodeExpiryTime_1 : decode cX0_nodeExpiryTime 1 = .ok (.iconst 0, 1) := dk_3 (dk_at dksX0_nodeExpiryTime_0 1 rfl rfl)
theorem dX0_nodeExpiryTime_2 : decode cX0_nodeExpiryTime 2 = .ok (.aload_n 0, 1) := dk_42 (dk_at dksX0_nodeExpiryTime_0 2 rfl rfl)
theorem dX0_nodeExpiryTime_3 : decode cX0_nodeExpiryTime 3 = .ok (.iload_n 1, 1) := dk_27 (dk_at dksX0_nodeExpiryTime_0 3 rfl rfl)
theorem dX0_nodeExpiryTime_4 : decode cX0_nodeExpiryTime 4 = .ok (.invokevirtual 73, 3) := dk_182 0 73 (dk_at dksX0_nodeExpiryTime_0 4 rfl rfl)
theorem dX0_nodeExpiryTime_7 : decode cX0_nodeExpiryTime 7 = .ok (.i2l, 1) := dk_133 (dk_at dksX0_nodeExpiryTime_0 7 rfl rfl)
theorem dX0_nodeExpiryTime_8 : decode cX0_nodeExpiryTime 8 = .ok (.lastore, 1) := dk_80 (dk_at dksX0_nodeExpiryTime_0 8 rfl rfl)
theorem dX0_nodeExpiryTime_9 : decode cX0_nodeExpiryTime 9 = .ok (.goto 6, 3) := dk_167 0 6 (dk_at dksX0_nodeExpiryTime_0 9 rfl rfl)
theorem dX0_nodeExpiryTime_12 : decode cX0_nodeExpiryTime 12 = .ok (.astore_n 3, 1) := dk_78 (dk_at dksX0_nodeExpiryTime_0 12 rfl rfl)
theorem dX0_nodeExpiryTime_13 : decode cX0_nodeExpiryTime 13 = .ok (.iconst 1, 1) := dk_4 (dk_at dksX0_nodeExpiryTime_0 13 rfl rfl)
theorem dX0_nodeExpiryTime_14 : decode cX0_nodeExpiryTime 14 = .ok (.ireturn, 1) := dk_172 (dk_at dksX0_nodeExpiryTime_0 14 rfl rfl)
theorem dX0_nodeExpiryTime_15 : decode cX0_nodeExpiryTime 15 = .ok (.iconst 0, 1) := dk_3 (dk_at dksX0_nodeExpiryTime_0 15 rfl rfl)
theorem dX0_nodeExpiryTime_16 : decode cX0_nodeExpiryTime 16 = .ok (.ireturn, 1) := dk_172 (dk_at dksX0_nodeExpiryTime_0 16 rfl rfl)
abbrev cX0_margin : ByteArray := method_22_code
def yX0_margin : MethodName := ⟨RX0, "margin", "(LLeaderLeases;I[J)I"⟩
def dkwX0_margin_0 : List UInt8 := [44, 3, 42, 27, 182, 0, 76, 133, 80, 167, 0, 6, 78, 4, 172, 3, 172]
abbrev dktX0_margin_0 : List UInt8 := dkwX0_margin_0 ++ []
theorem dksX0_margin_0 : cX0_margin.data.toList.drop 0 = dktX0_margin_0 := by decide +kernel
theorem dX0_margin_0 : decode cX0_margin 0 = .ok (.aload_n 2, 1) := dk_44 (dk_at dksX0_margin_0 0 rfl rfl)
theorem dX0_margin_1 : decode cX0_margin 1 = .ok (.iconst 0, 1) := dk_3 (dk_at dksX0_margin_0 1 rfl rfl)
theorem dX0_margin_2 : decode cX0_margin 2 = .ok (.aload_n 0, 1) := dk_42 (dk_at dksX0_margin_0 2 rfl rfl)
theorem dX0_margin_3 : decode cX0_margin 3 = .ok (.iload_n 1, 1) := dk_27 (dk_at dksX0_margin_0 3 rfl rfl)
theorem dX0_margin_4 : decode cX0_margin 4 = .ok (.invokevirtual 76, 3) := dk_182 0 76 (dk_at dksX0_margin_0 4 rfl rfl)
theorem dX0_margin_7 : decode cX0_margin 7 = .ok (.i2l, 1) := dk_133 (dk_at dksX0_margin_0 7 rfl rfl)
theorem dX0_margin_8 : decode cX0_margin 8 = .ok (.lastore, 1) := dk_80 (dk_at dksX0_margin_0 8 rfl rfl)
theorem dX0_margin_9 : decode cX0_margin 9 = .ok (.goto 6, 3) := dk_167 0 6 (dk_at dksX0_margin_0 9 rfl rfl)
theorem dX0_margin_12 : decode cX0_margin 12 = .ok (.astore_n 3, 1) := dk_78 (dk_at dksX0_margin_0 12 rfl rfl)
theorem dX0_margin_13 : decode cX0_margin 13 = .ok (.iconst 1, 1) := dk_4 (dk_at dksX0_margin_0 13 rfl rfl)
theorem dX0_margin_14 : decode cX0_margin 14 = .ok (.ireturn, 1) := dk_172 (dk_at dksX0_margin_0 14 rfl rfl)
theorem dX0_margin_15 : decode cX0_margin 15 = .ok (.iconst 0, 1) := dk_3 (dk_at dksX0_margin_0 15 rfl rfl)
theorem dX0_margin_16 : decode cX0_margin 16 = .ok (.ireturn, 1) := dk_172 (dk_at dksX0_margin_0 16 rfl rfl)
abbrev cX0_timerTime : ByteArray := method_23_code
def yX0_timerTime : MethodName := ⟨RX0, "timerTime", "(LLeaderLeases;I[J)I"⟩
def dkwX0_timerTime_0 : List UInt8 := [44, 3, 42, 27, 182, 0, 79, 133, 80, 167, 0, 6, 78, 4, 172, 3, 172]
abbrev dktX0_timerTime_0 : List UInt8 := dkwX0_timerTime_0 ++ []
theorem dksX0_timerTime_0 : cX0_timerTime.data.toList.drop 0 = dktX0_timerTime_0 := by decide +kernel
theorem dX0_timerTime_0 : decode cX0_timerTime 0 = .ok (.aload_n 2, 1) := dk_44 (dk_at dksX0_timerTime_0 0 rfl rfl)
theorem dX0_timerTime_1 : decode cX0_timerTime 1 = .ok (.iconst 0, 1) := dk_3 (dk_at dksX0_timerTime_0 1 rfl rfl)
theorem dX0_timerTime_2 : decode cX0_timerTime 2 = .ok (.aload_n 0, 1) := dk_42 (dk_at dksX0_timerTime_0 2 rfl rfl)
theorem dX0_timerTime_3 : decode cX0_timerTime 3 = .ok (.iload_n 1, 1) := dk_27 (dk_at dksX0_timerTime_0 3 rfl rfl)
theorem dX0_timerTime_4 : decode cX0_timerTime 4 = .ok (.invokevirtual 79, 3) := dk_182 0 79 (dk_at dksX0_timerTime_0 4 rfl rfl)
theorem dX0_timerTime_7 : decode cX0_timerTime 7 = .ok (.i2l, 1) := dk_133 (dk_at dksX0_timerTime_0 7 rfl rfl)
theorem dX0_timerTime_8 : decode cX0_timerTime 8 = .ok (.lastore, 1) := dk_80 (dk_at dksX0_timerTime_0 8 rfl rfl)
theorem dX0_timerTime_9 : decode cX0_timerTime 9 = .ok (.goto 6, 3) := dk_167 0 6 (dk_at dksX0_timerTime_0 9 rfl rfl)
theorem dX0_timerTime_12 : decode cX0_timerTime 12 = .ok (.astore_n 3, 1) := dk_78 (dk_at dksX0_timerTime_0 12 rfl rfl)
theorem dX0_timerTime_13 : decode cX0_timerTime 13 = .ok (.iconst 1, 1) := dk_4 (dk_at dksX0_timerTime_0 13 rfl rfl)
theorem dX0_timerTime_14 : decode cX0_timerTime 14 = .ok (.ireturn, 1) := dk_172 (dk_at dksX0_timerTime_0 14 rfl rfl)
theorem dX0_timerTime_15 : decode cX0_timerTime 15 = .ok (.iconst 0, 1) := dk_3 (dk_at dksX0_timerTime_0 15 rfl rfl)
theorem dX0_timerTime_16 : decode cX0_timerTime 16 = .ok (.ireturn, 1) := dk_172 (dk_at dksX0_timerTime_0 16 rfl rfl)
abbrev cX0_nodeState : ByteArray := method_24_code
def yX0_nodeState : MethodName := ⟨RX0, "nodeState", "(LLeaderLeases;I[J)I"⟩
def dkwX0_nodeState_0 : List UInt8 := [44, 3, 42, 27, 182, 0, 82, 133, 80, 167, 0, 6, 78, 4, 172, 3, 172]
abbrev dktX0_nodeState_0 : List UInt8 := dkwX0_nodeState_0 ++ []
theorem dksX0_nodeState_0 : cX0_nodeState.data.toList.drop 0 = dktX0_nodeState_0 := by decide +kernel
theorem dX0_nodeState_0 : decode cX0_nodeState 0 = .ok (.aload_n 2, 1) := dk_44 (dk_at dksX0_nodeState_0 0 rfl rfl)
theorem dX0_nodeState_1 : decode cX0_nodeState 1 = .ok (.iconst 0, 1) := dk_3 (dk_at dksX0_nodeState_0 1 rfl rfl)
theorem dX0_nodeState_2 : decode cX0_nodeState 2 = .ok (.aload_n 0, 1) := dk_42 (dk_at dksX0_nodeState_0 2 rfl rfl)
theorem dX0_nodeState_3 : decode cX0_nodeState 3 = .ok (.iload_n 1, 1) := dk_27 (dk_at dksX0_nodeState_0 3 rfl rfl)
theorem dX0_nodeState_4 : decode cX0_nodeState 4 = .ok (.invokevirtual 82, 3) := dk_182 0 82 (dk_at dksX0_nodeState_0 4 rfl rfl)
theorem dX0_nodeState_7 : decode cX0_nodeState 7 = .ok (.i2l, 1) := dk_133 (dk_at dksX0_nodeState_0 7 rfl rfl)
theorem dX0_nodeState_8 : decode cX0_nodeState 8 = .ok (.lastore, 1) := dk_80 (dk_at dksX0_nodeState_0 8 rfl rfl)
theorem dX0_nodeState_9 : decode cX0_nodeState 9 = .ok (.goto 6, 3) := dk_167 0 6 (dk_at dksX0_nodeState_0 9 rfl rfl)
theorem dX0_nodeState_12 : decode cX0_nodeState 12 = .ok (.astore_n 3, 1) := dk_78 (dk_at dksX0_nodeState_0 12 rfl rfl)
theorem dX0_nodeState_13 : decode cX0_nodeState 13 = .ok (.iconst 1, 1) := dk_4 (dk_at dksX0_nodeState_0 13 rfl rfl)
theorem dX0_nodeState_14 : decode cX0_nodeState 14 = .ok (.ireturn, 1) := dk_172 (dk_at dksX0_nodeState_0 14 rfl rfl)
theorem dX0_nodeState_15 : decode cX0_nodeState 15 = .ok (.iconst 0, 1) := dk_3 (dk_at dksX0_nodeState_0 15 rfl rfl)
theorem dX0_nodeState_16 : decode cX0_nodeState 16 = .ok (.ireturn, 1) := dk_172 (dk_at dksX0_nodeState_0 16 rfl rfl)
abbrev cX0_cached : ByteArray := method_25_code
def yX0_cached : MethodName := ⟨RX0, "cached", "(LLeaderLeases;I[J)I"⟩
def dkwX0_cached_0 : List UInt8 := [44, 3, 42, 27, 182, 0, 85, 133, 80, 167, 0, 6, 78, 4, 172, 3, 172]
abbrev dktX0_cached_0 : List UInt8 := dkwX0_cached_0 ++ []
theorem dksX0_cached_0 : cX0_cached.data.toList.drop 0 = dktX0_cached_0 := by decide +kernel
theorem dX0_cached_0 : decode cX0_cached 0 = .ok (.aload_n 2, 1) := dk_44 (dk_at dksX0_cached_0 0 rfl rfl)
theorem dX0_cached_1 : decode cX0_cached 1 = .ok (.iconst 0, 1) := dk_3 (dk_at dksX0_cached_0 1 rfl rfl)
theorem dX0_cached_2 : decode cX0_cached 2 = .ok (.aload_n 0, 1) := dk_42 (dk_at dksX0_cached_0 2 rfl rfl)
theorem dX0_cached_3 : decode cX0_cached 3 = .ok (.iload_n 1, 1) := dk_27 (dk_at dksX0_cached_0 3 rfl rfl)
theorem dX0_cached_4 : decode cX0_cached 4 = .ok (.invokevirtual 85, 3) := dk_182 0 85 (dk_at dksX0_cached_0 4 rfl rfl)
theorem dX0_cached_7 : decode cX0_cached 7 = .ok (.i2l, 1) := dk_133 (dk_at dksX0_cached_0 7 rfl rfl)
theorem dX0_cached_8 : decode cX0_cached 8 = .ok (.lastore, 1) := dk_80 (dk_at dksX0_cached_0 8 rfl rfl)
theorem dX0_cached_9 : decode cX0_cached 9 = .ok (.goto 6, 3) := dk_167 0 6 (dk_at dksX0_cached_0 9 rfl rfl)
theorem dX0_cached_12 : decode cX0_cached 12 = .ok (.astore_n 3, 1) := dk_78 (dk_at dksX0_cached_0 12 rfl rfl)
theorem dX0_cached_13 : decode cX0_cached 13 = .ok (.iconst 1, 1) := dk_4 (dk_at dksX0_cached_0 13 rfl rfl)
theorem dX0_cached_14 : decode cX0_cached 14 = .ok (.ireturn, 1) := dk_172 (dk_at dksX0_cached_0 14 rfl rfl)
theorem dX0_cached_15 : decode cX0_cached 15 = .ok (.iconst 0, 1) := dk_3 (dk_at dksX0_cached_0 15 rfl rfl)
theorem dX0_cached_16 : decode cX0_cached 16 = .ok (.ireturn, 1) := dk_172 (dk_at dksX0_cached_0 16 rfl rfl)
abbrev cX0_logTime : ByteArray := method_26_code
def yX0_logTime : MethodName := ⟨RX0, "logTime", "(LLeaderLeases;I[J)I"⟩
def dkwX0_logTime_0 : List UInt8 := [44, 3, 42, 27, 182, 0, 88, 133, 80, 167, 0, 6, 78, 4, 172, 3, 172]
abbrev dktX0_logTime_0 : List UInt8 := dkwX0_logTime_0 ++ []
theorem dksX0_logTime_0 : cX0_logTime.data.toList.drop 0 = dktX0_logTime_0 := by decide +kernel
theorem dX0_logTime_0 : decode cX0_logTime 0 = .ok (.aload_n 2, 1) := dk_44 (dk_at dksX0_logTime_0 0 rfl rfl)
theorem dX0_logTime_1 : decode cX0_logTime 1 = .ok (.iconst 0, 1) := dk_3 (dk_at dksX0_logTime_0 1 rfl rfl)
theorem dX0_logTime_2 : decode cX0_logTime 2 = .ok (.aload_n 0, 1) := dk_42 (dk_at dksX0_logTime_0 2 rfl rfl)
theorem dX0_logTime_3 : decode cX0_logTime 3 = .ok (.iload_n 1, 1) := dk_27 (dk_at dksX0_logTime_0 3 rfl rfl)
theorem dX0_logTime_4 : decode cX0_logTime 4 = .ok (.invokevirtual 88, 3) := dk_182 0 88 (dk_at dksX0_logTime_0 4 rfl rfl)
theorem dX0_logTime_7 : decode cX0_logTime 7 = .ok (.i2l, 1) := dk_133 (dk_at dksX0_logTime_0 7 rfl rfl)
theorem dX0_logTime_8 : decode cX0_logTime 8 = .ok (.lastore, 1) := dk_80 (dk_at dksX0_logTime_0 8 rfl rfl)
theorem dX0_logTime_9 : decode cX0_logTime 9 = .ok (.goto 6, 3) := dk_167 0 6 (dk_at dksX0_logTime_0 9 rfl rfl)
theorem dX0_logTime_12 : decode cX0_logTime 12 = .ok (.astore_n 3, 1) := dk_78 (dk_at dksX0_logTime_0 12 rfl rfl)
theorem dX0_logTime_13 : decode cX0_logTime 13 = .ok (.iconst 1, 1) := dk_4 (dk_at dksX0_logTime_0 13 rfl rfl)
theorem dX0_logTime_14 : decode cX0_logTime 14 = .ok (.ireturn, 1) := dk_172 (dk_at dksX0_logTime_0 14 rfl rfl)
theorem dX0_logTime_15 : decode cX0_logTime 15 = .ok (.iconst 0, 1) := dk_3 (dk_at dksX0_logTime_0 15 rfl rfl)
theorem dX0_logTime_16 : decode cX0_logTime 16 = .ok (.ireturn, 1) := dk_172 (dk_at dksX0_logTime_0 16 rfl rfl)
abbrev cX0_logKind : ByteArray := method_27_code
def yX0_logKind : MethodName := ⟨RX0, "logKind", "(LLeaderLeases;I[J)I"⟩
def dkwX0_logKind_0 : List UInt8 := [44, 3, 42, 27, 182, 0, 91, 133, 80, 167, 0, 6, 78, 4, 172, 3, 172]
abbrev dktX0_logKind_0 : List UInt8 := dkwX0_logKind_0 ++ []
theorem dksX0_logKind_0 : cX0_logKind.data.toList.drop 0 = dktX0_logKind_0 := by decide +kernel
theorem dX0_logKind_0 : decode cX0_logKind 0 = .ok (.aload_n 2, 1) := dk_44 (dk_at dksX0_logKind_0 0 rfl rfl)
theorem dX0_logKind_1 : decode cX0_logKind 1 = .ok (.iconst 0, 1) := dk_3 (dk_at dksX0_logKind_0 1 rfl rfl)
theorem dX0_logKind_2 : decode cX0_logKind 2 = .ok (.aload_n 0, 1) := dk_42 (dk_at dksX0_logKind_0 2 rfl rfl)
theorem dX0_logKind_3 : decode cX0_logKind 3 = .ok (.iload_n 1, 1) := dk_27 (dk_at dksX0_logKind_0 3 rfl rfl)
theorem dX0_logKind_4 : decode cX0_logKind 4 = .ok (.invokevirtual 91, 3) := dk_182 0 91 (dk_at dksX0_logKind_0 4 rfl rfl)
theorem dX0_logKind_7 : decode cX0_logKind 7 = .ok (.i2l, 1) := dk_133 (dk_at dksX0_logKind_0 7 rfl rfl)
theorem dX0_logKind_8 : decode cX0_logKind 8 = .ok (.lastore, 1) := dk_80 (dk_at dksX0_logKind_0 8 rfl rfl)
theorem dX0_logKind_9 : decode cX0_logKind 9 = .ok (.goto 6, 3) := dk_167 0 6 (dk_at dksX0_logKind_0 9 rfl rfl)
theorem dX0_logKind_12 : decode cX0_logKind 12 = .ok (.astore_n 3, 1) := dk_78 (dk_at dksX0_logKind_0 12 rfl rfl)
theorem dX0_logKind_13 : decode cX0_logKind 13 = .ok (.iconst 1, 1) := dk_4 (dk_at dksX0_logKind_0 13 rfl rfl)
theorem dX0_logKind_14 : decode cX0_logKind 14 = .ok (.ireturn, 1) := dk_172 (dk_at dksX0_logKind_0 14 rfl rfl)
theorem dX0_logKind_15 : decode cX0_logKind 15 = .ok (.iconst 0, 1) := dk_3 (dk_at dksX0_logKind_0 15 rfl rfl)
theorem dX0_logKind_16 : decode cX0_logKind 16 = .ok (.ireturn, 1) := dk_172 (dk_at dksX0_logKind_0 16 rfl rfl)
abbrev cX0_logNode : ByteArray := method_28_code
def yX0_logNode : MethodName := ⟨RX0, "logNode", "(LLeaderLeases;I[J)I"⟩
def dkwX0_logNode_0 : List UInt8 := [44, 3, 42, 27, 182, 0, 94, 133, 80, 167, 0, 6, 78, 4, 172, 3, 172]
abbrev dktX0_logNode_0 : List UInt8 := dkwX0_logNode_0 ++ []
theorem dksX0_logNode_0 : cX0_logNode.data.toList.drop 0 = dktX0_logNode_0 := by decide +kernel
theorem dX0_logNode_0 : decode cX0_logNode 0 = .ok (.aload_n 2, 1) := dk_44 (dk_at dksX0_logNode_0 0 rfl rfl)
theorem dX0_logNode_1 : decode cX0_logNode 1 = .ok (.iconst 0, 1) := dk_3 (dk_at dksX0_logNode_0 1 rfl rfl)
theorem dX0_logNode_2 : decode cX0_logNode 2 = .ok (.aload_n 0, 1) := dk_42 (dk_at dksX0_logNode_0 2 rfl rfl)
theorem dX0_logNode_3 : decode cX0_logNode 3 = .ok (.iload_n 1, 1) := dk_27 (dk_at dksX0_logNode_0 3 rfl rfl)
theorem dX0_logNode_4 : decode cX0_logNode 4 = .ok (.invokevirtual 94, 3) := dk_182 0 94 (dk_at dksX0_logNode_0 4 rfl rfl)
theorem dX0_logNode_7 : decode cX0_logNode 7 = .ok (.i2l, 1) := dk_133 (dk_at dksX0_logNode_0 7 rfl rfl)
theorem dX0_logNode_8 : decode cX0_logNode 8 = .ok (.lastore, 1) := dk_80 (dk_at dksX0_logNode_0 8 rfl rfl)
theorem dX0_logNode_9 : decode cX0_logNode 9 = .ok (.goto 6, 3) := dk_167 0 6 (dk_at dksX0_logNode_0 9 rfl rfl)
theorem dX0_logNode_12 : decode cX0_logNode 12 = .ok (.astore_n 3, 1) := dk_78 (dk_at dksX0_logNode_0 12 rfl rfl)
theorem dX0_logNode_13 : decode cX0_logNode 13 = .ok (.iconst 1, 1) := dk_4 (dk_at dksX0_logNode_0 13 rfl rfl)
theorem dX0_logNode_14 : decode cX0_logNode 14 = .ok (.ireturn, 1) := dk_172 (dk_at dksX0_logNode_0 14 rfl rfl)
theorem dX0_logNode_15 : decode cX0_logNode 15 = .ok (.iconst 0, 1) := dk_3 (dk_at dksX0_logNode_0 15 rfl rfl)
theorem dX0_logNode_16 : decode cX0_logNode 16 = .ok (.ireturn, 1) := dk_172 (dk_at dksX0_logNode_0 16 rfl rfl)
abbrev cX0_logToken : ByteArray := method_29_code
def yX0_logToken : MethodName := ⟨RX0, "logToken", "(LLeaderLeases;I[J)I"⟩
def dkwX0_logToken_0 : List UInt8 := [44, 3, 42, 27, 182, 0, 97, 133, 80, 167, 0, 6, 78, 4, 172, 3, 172]
abbrev dktX0_logToken_0 : List UInt8 := dkwX0_logToken_0 ++ []
theorem dksX0_logToken_0 : cX0_logToken.data.toList.drop 0 = dktX0_logToken_0 := by decide +kernel
theorem dX0_logToken_0 : decode cX0_logToken 0 = .ok (.aload_n 2, 1) := dk_44 (dk_at dksX0_logToken_0 0 rfl rfl)
theorem dX0_logToken_1 : decode cX0_logToken 1 = .ok (.iconst 0, 1) := dk_3 (dk_at dksX0_logToken_0 1 rfl rfl)
theorem dX0_logToken_2 : decode cX0_logToken 2 = .ok (.aload_n 0, 1) := dk_42 (dk_at dksX0_logToken_0 2 rfl rfl)
theorem dX0_logToken_3 : decode cX0_logToken 3 = .ok (.iload_n 1, 1) := dk_27 (dk_at dksX0_logToken_0 3 rfl rfl)
theorem dX0_logToken_4 : decode cX0_logToken 4 = .ok (.invokevirtual 97, 3) := dk_182 0 97 (dk_at dksX0_logToken_0 4 rfl rfl)
theorem dX0_logToken_7 : decode cX0_logToken 7 = .ok (.i2l, 1) := dk_133 (dk_at dksX0_logToken_0 7 rfl rfl)
theorem dX0_logToken_8 : decode cX0_logToken 8 = .ok (.lastore, 1) := dk_80 (dk_at dksX0_logToken_0 8 rfl rfl)
theorem dX0_logToken_9 : decode cX0_logToken 9 = .ok (.goto 6, 3) := dk_167 0 6 (dk_at dksX0_logToken_0 9 rfl rfl)
theorem dX0_logToken_12 : decode cX0_logToken 12 = .ok (.astore_n 3, 1) := dk_78 (dk_at dksX0_logToken_0 12 rfl rfl)
theorem dX0_logToken_13 : decode cX0_logToken 13 = .ok (.iconst 1, 1) := dk_4 (dk_at dksX0_logToken_0 13 rfl rfl)
theorem dX0_logToken_14 : decode cX0_logToken 14 = .ok (.ireturn, 1) := dk_172 (dk_at dksX0_logToken_0 14 rfl rfl)
theorem dX0_logToken_15 : decode cX0_logToken 15 = .ok (.iconst 0, 1) := dk_3 (dk_at dksX0_logToken_0 15 rfl rfl)
theorem dX0_logToken_16 : decode cX0_logToken 16 = .ok (.ireturn, 1) := dk_172 (dk_at dksX0_logToken_0 16 rfl rfl)
abbrev cX0_eventCount : ByteArray := method_30_code
def yX0_eventCount : MethodName := ⟨RX0, "eventCount", "(LLeaderLeases;I[J)I"⟩
def dkwX0_eventCount_0 : List UInt8 := [44, 3, 42, 27, 182, 0, 100, 133, 80, 167, 0, 6, 78, 4, 172, 3, 172]
abbrev dktX0_eventCount_0 : List UInt8 := dkwX0_eventCount_0 ++ []
theorem dksX0_eventCount_0 : cX0_eventCount.data.toList.drop 0 = dktX0_eventCount_0 := by decide +kernel
theorem dX0_eventCount_0 : decode cX0_eventCount 0 = .ok (.aload_n 2, 1) := dk_44 (dk_at dksX0_eventCount_0 0 rfl rfl)
theorem dX0_eventCount_1 : decode cX0_eventCount 1 = .ok (.iconst 0, 1) := dk_3 (dk_at dksX0_eventCount_0 1 rfl rfl)
theorem dX0_eventCount_2 : decode cX0_eventCount 2 = .ok (.aload_n 0, 1) := dk_42 (dk_at dksX0_eventCount_0 2 rfl rfl)
theorem dX0_eventCount_3 : decode cX0_eventCount 3 = .ok (.iload_n 1, 1) := dk_27 (dk_at dksX0_eventCount_0 3 rfl rfl)
theorem dX0_eventCount_4 : decode cX0_eventCount 4 = .ok (.invokevirtual 100, 3) := dk_182 0 100 (dk_at dksX0_eventCount_0 4 rfl rfl)
theorem dX0_eventCount_7 : decode cX0_eventCount 7 = .ok (.i2l, 1) := dk_133 (dk_at dksX0_eventCount_0 7 rfl rfl)
theorem dX0_eventCount_8 : decode cX0_eventCount 8 = .ok (.lastore, 1) := dk_80 (dk_at dksX0_eventCount_0 8 rfl rfl)
theorem dX0_eventCount_9 : decode cX0_eventCount 9 = .ok (.goto 6, 3) := dk_167 0 6 (dk_at dksX0_eventCount_0 9 rfl rfl)
theorem dX0_eventCount_12 : decode cX0_eventCount 12 = .ok (.astore_n 3, 1) := dk_78 (dk_at dksX0_eventCount_0 12 rfl rfl)
theorem dX0_eventCount_13 : decode cX0_eventCount 13 = .ok (.iconst 1, 1) := dk_4 (dk_at dksX0_eventCount_0 13 rfl rfl)
theorem dX0_eventCount_14 : decode cX0_eventCount 14 = .ok (.ireturn, 1) := dk_172 (dk_at dksX0_eventCount_0 14 rfl rfl)
theorem dX0_eventCount_15 : decode cX0_eventCount 15 = .ok (.iconst 0, 1) := dk_3 (dk_at dksX0_eventCount_0 15 rfl rfl)
theorem dX0_eventCount_16 : decode cX0_eventCount 16 = .ok (.ireturn, 1) := dk_172 (dk_at dksX0_eventCount_0 16 rfl rfl)
abbrev cX0_ledTime : ByteArray := method_31_code
def yX0_ledTime : MethodName := ⟨RX0, "ledTime", "(LLeaderLeases;I[J)I"⟩
def dkwX0_ledTime_0 : List UInt8 := [44, 3, 42, 27, 182, 0, 103, 133, 80, 167, 0, 6, 78, 4, 172, 3, 172]
abbrev dktX0_ledTime_0 : List UInt8 := dkwX0_ledTime_0 ++ []
theorem dksX0_ledTime_0 : cX0_ledTime.data.toList.drop 0 = dktX0_ledTime_0 := by decide +kernel
theorem dX0_ledTime_0 : decode cX0_ledTime 0 = .ok (.aload_n 2, 1) := dk_44 (dk_at dksX0_ledTime_0 0 rfl rfl)
theorem dX0_ledTime_1 : decode cX0_ledTime 1 = .ok (.iconst 0, 1) := dk_3 (dk_at dksX0_ledTime_0 1 rfl rfl)
theorem dX0_ledTime_2 : decode cX0_ledTime 2 = .ok (.aload_n 0, 1) := dk_42 (dk_at dksX0_ledTime_0 2 rfl rfl)
theorem dX0_ledTime_3 : decode cX0_ledTime 3 = .ok (.iload_n 1, 1) := dk_27 (dk_at dksX0_ledTime_0 3 rfl rfl)
theorem dX0_ledTime_4 : decode cX0_ledTime 4 = .ok (.invokevirtual 103, 3) := dk_182 0 103 (dk_at dksX0_ledTime_0 4 rfl rfl)
theorem dX0_ledTime_7 : decode cX0_ledTime 7 = .ok (.i2l, 1) := dk_133 (dk_at dksX0_ledTime_0 7 rfl rfl)
theorem dX0_ledTime_8 : decode cX0_ledTime 8 = .ok (.lastore, 1) := dk_80 (dk_at dksX0_ledTime_0 8 rfl rfl)
theorem dX0_ledTime_9 : decode cX0_ledTime 9 = .ok (.goto 6, 3) := dk_167 0 6 (dk_at dksX0_ledTime_0 9 rfl rfl)
theorem dX0_ledTime_12 : decode cX0_ledTime 12 = .ok (.astore_n 3, 1) := dk_78 (dk_at dksX0_ledTime_0 12 rfl rfl)
theorem dX0_ledTime_13 : decode cX0_ledTime 13 = .ok (.iconst 1, 1) := dk_4 (dk_at dksX0_ledTime_0 13 rfl rfl)
theorem dX0_ledTime_14 : decode cX0_ledTime 14 = .ok (.ireturn, 1) := dk_172 (dk_at dksX0_ledTime_0 14 rfl rfl)
theorem dX0_ledTime_15 : decode cX0_ledTime 15 = .ok (.iconst 0, 1) := dk_3 (dk_at dksX0_ledTime_0 15 rfl rfl)
theorem dX0_ledTime_16 : decode cX0_ledTime 16 = .ok (.ireturn, 1) := dk_172 (dk_at dksX0_ledTime_0 16 rfl rfl)
abbrev cX0_nextLeader : ByteArray := method_32_code
def yX0_nextLeader : MethodName := ⟨RX0, "nextLeader", "(LLeaderLeases;I[J)I"⟩
def dkwX0_nextLeader_0 : List UInt8 := [44, 3, 42, 27, 182, 0, 106, 133, 80, 167, 0, 6, 78, 4, 172, 3, 172]
abbrev dktX0_nextLeader_0 : List UInt8 := dkwX0_nextLeader_0 ++ []
theorem dksX0_nextLeader_0 : cX0_nextLeader.data.toList.drop 0 = dktX0_nextLeader_0 := by decide +kernel
theorem dX0_nextLeader_0 : decode cX0_nextLeader 0 = .ok (.aload_n 2, 1) := dk_44 (dk_at dksX0_nextLeader_0 0 rfl rfl)
theorem dX0_nextLeader_1 : decode cX0_nextLeader 1 = .ok (.iconst 0, 1) := dk_3 (dk_at dksX0_nextLeader_0 1 rfl rfl)
theorem dX0_nextLeader_2 : decode cX0_nextLeader 2 = .ok (.aload_n 0, 1) := dk_42 (dk_at dksX0_nextLeader_0 2 rfl rfl)
theorem dX0_nextLeader_3 : decode cX0_nextLeader 3 = .ok (.iload_n 1, 1) := dk_27 (dk_at dksX0_nextLeader_0 3 rfl rfl)
theorem dX0_nextLeader_4 : decode cX0_nextLeader 4 = .ok (.invokevirtual 106, 3) := dk_182 0 106 (dk_at dksX0_nextLeader_0 4 rfl rfl)
theorem dX0_nextLeader_7 : decode cX0_nextLeader 7 = .ok (.i2l, 1) := dk_133 (dk_at dksX0_nextLeader_0 7 rfl rfl)
theorem dX0_nextLeader_8 : decode cX0_nextLeader 8 = .ok (.lastore, 1) := dk_80 (dk_at dksX0_nextLeader_0 8 rfl rfl)
theorem dX0_nextLeader_9 : decode cX0_nextLeader 9 = .ok (.goto 6, 3) := dk_167 0 6 (dk_at dksX0_nextLeader_0 9 rfl rfl)
theorem dX0_nextLeader_12 : decode cX0_nextLeader 12 = .ok (.astore_n 3, 1) := dk_78 (dk_at dksX0_nextLeader_0 12 rfl rfl)
theorem dX0_nextLeader_13 : decode cX0_nextLeader 13 = .ok (.iconst 1, 1) := dk_4 (dk_at dksX0_nextLeader_0 13 rfl rfl)
theorem dX0_nextLeader_14 : decode cX0_nextLeader 14 = .ok (.ireturn, 1) := dk_172 (dk_at dksX0_nextLeader_0 14 rfl rfl)
theorem dX0_nextLeader_15 : decode cX0_nextLeader 15 = .ok (.iconst 0, 1) := dk_3 (dk_at dksX0_nextLeader_0 15 rfl rfl)
theorem dX0_nextLeader_16 : decode cX0_nextLeader 16 = .ok (.ireturn, 1) := dk_172 (dk_at dksX0_nextLeader_0 16 rfl rfl)
abbrev cX0_leaderlessTime : ByteArray := method_33_code
def yX0_leaderlessTime : MethodName := ⟨RX0, "leaderlessTime", "(LLeaderLeases;I[J)I"⟩
def dkwX0_leaderlessTime_0 : List UInt8 := [44, 3, 42, 27, 182, 0, 109, 133, 80, 167, 0, 6, 78, 4, 172, 3, 172]
abbrev dktX0_leaderlessTime_0 : List UInt8 := dkwX0_leaderlessTime_0 ++ []
theorem dksX0_leaderlessTime_0 : cX0_leaderlessTime.data.toList.drop 0 = dktX0_leaderlessTime_0 := by decide +kernel
theorem dX0_leaderlessTime_0 : decode cX0_leaderlessTime 0 = .ok (.aload_n 2, 1) := dk_44 (dk_at dksX0_leaderlessTime_0 0 rfl rfl)
theorem dX0_leaderlessTime_1 : decode cX0_leaderlessTime 1 = .ok (.iconst 0, 1) := dk_3 (dk_at dksX0_leaderlessTime_0 1 rfl rfl)
theorem dX0_leaderlessTime_2 : decode cX0_leaderlessTime 2 = .ok (.aload_n 0, 1) := dk_42 (dk_at dksX0_leaderlessTime_0 2 rfl rfl)
theorem dX0_leaderlessTime_3 : decode cX0_leaderlessTime 3 = .ok (.iload_n 1, 1) := dk_27 (dk_at dksX0_leaderlessTime_0 3 rfl rfl)
theorem dX0_leaderlessTime_4 : decode cX0_leaderlessTime 4 = .ok (.invokevirtual 109, 3) := dk_182 0 109 (dk_at dksX0_leaderlessTime_0 4 rfl rfl)
theorem dX0_leaderlessTime_7 : decode cX0_leaderlessTime 7 = .ok (.i2l, 1) := dk_133 (dk_at dksX0_leaderlessTime_0 7 rfl rfl)
theorem dX0_leaderlessTime_8 : decode cX0_leaderlessTime 8 = .ok (.lastore, 1) := dk_80 (dk_at dksX0_leaderlessTime_0 8 rfl rfl)
theorem dX0_leaderlessTime_9 : decode cX0_leaderlessTime 9 = .ok (.goto 6, 3) := dk_167 0 6 (dk_at dksX0_leaderlessTime_0 9 rfl rfl)
theorem dX0_leaderlessTime_12 : decode cX0_leaderlessTime 12 = .ok (.astore_n 3, 1) := dk_78 (dk_at dksX0_leaderlessTime_0 12 rfl rfl)
theorem dX0_leaderlessTime_13 : decode cX0_leaderlessTime 13 = .ok (.iconst 1, 1) := dk_4 (dk_at dksX0_leaderlessTime_0 13 rfl rfl)
theorem dX0_leaderlessTime_14 : decode cX0_leaderlessTime 14 = .ok (.ireturn, 1) := dk_172 (dk_at dksX0_leaderlessTime_0 14 rfl rfl)
theorem dX0_leaderlessTime_15 : decode cX0_leaderlessTime 15 = .ok (.iconst 0, 1) := dk_3 (dk_at dksX0_leaderlessTime_0 15 rfl rfl)
theorem dX0_leaderlessTime_16 : decode cX0_leaderlessTime 16 = .ok (.ireturn, 1) := dk_172 (dk_at dksX0_leaderlessTime_0 16 rfl rfl)
abbrev cX0_leaseLeft : ByteArray := method_34_code
def yX0_leaseLeft : MethodName := ⟨RX0, "leaseLeft", "(LLeaderLeases;I[J)I"⟩
def dkwX0_leaseLeft_0 : List UInt8 := [44, 3, 42, 27, 182, 0, 112, 133, 80, 167, 0, 6, 78, 4, 172, 3, 172]
abbrev dktX0_leaseLeft_0 : List UInt8 := dkwX0_leaseLeft_0 ++ []
theorem dksX0_leaseLeft_0 : cX0_leaseLeft.data.toList.drop 0 = dktX0_leaseLeft_0 := by decide +kernel
theorem dX0_leaseLeft_0 : decode cX0_leaseLeft 0 = .ok (.aload_n 2, 1) := dk_44 (dk_at dksX0_leaseLeft_0 0 rfl rfl)
theorem dX0_leaseLeft_1 : decode cX0_leaseLeft 1 = .ok (.iconst 0, 1) := dk_3 (dk_at dksX0_leaseLeft_0 1 rfl rfl)
theorem dX0_leaseLeft_2 : decode cX0_leaseLeft 2 = .ok (.aload_n 0, 1) := dk_42 (dk_at dksX0_leaseLeft_0 2 rfl rfl)
theorem dX0_leaseLeft_3 : decode cX0_leaseLeft 3 = .ok (.iload_n 1, 1) := dk_27 (dk_at dksX0_leaseLeft_0 3 rfl rfl)
theorem dX0_leaseLeft_4 : decode cX0_leaseLeft 4 = .ok (.invokevirtual 112, 3) := dk_182 0 112 (dk_at dksX0_leaseLeft_0 4 rfl rfl)
theorem dX0_leaseLeft_7 : decode cX0_leaseLeft 7 = .ok (.i2l, 1) := dk_133 (dk_at dksX0_leaseLeft_0 7 rfl rfl)
theorem dX0_leaseLeft_8 : decode cX0_leaseLeft 8 = .ok (.lastore, 1) := dk_80 (dk_at dksX0_leaseLeft_0 8 rfl rfl)
theorem dX0_leaseLeft_9 : decode cX0_leaseLeft 9 = .ok (.goto 6, 3) := dk_167 0 6 (dk_at dksX0_leaseLeft_0 9 rfl rfl)
theorem dX0_leaseLeft_12 : decode cX0_leaseLeft 12 = .ok (.astore_n 3, 1) := dk_78 (dk_at dksX0_leaseLeft_0 12 rfl rfl)
theorem dX0_leaseLeft_13 : decode cX0_leaseLeft 13 = .ok (.iconst 1, 1) := dk_4 (dk_at dksX0_leaseLeft_0 13 rfl rfl)
theorem dX0_leaseLeft_14 : decode cX0_leaseLeft 14 = .ok (.ireturn, 1) := dk_172 (dk_at dksX0_leaseLeft_0 14 rfl rfl)
theorem dX0_leaseLeft_15 : decode cX0_leaseLeft 15 = .ok (.iconst 0, 1) := dk_3 (dk_at dksX0_leaseLeft_0 15 rfl rfl)
theorem dX0_leaseLeft_16 : decode cX0_leaseLeft 16 = .ok (.ireturn, 1) := dk_172 (dk_at dksX0_leaseLeft_0 16 rfl rfl)
abbrev cX0_countInLog : ByteArray := method_35_code
def yX0_countInLog : MethodName := ⟨RX0, "countInLog", "(LLeaderLeases;II[J)I"⟩
def dkwX0_countInLog_0 : List UInt8 := [45, 3, 42, 27, 28, 182, 0, 115, 133, 80, 167, 0, 11, 58, 4, 4, 172, 58, 4, 5, 172, 3, 172]
abbrev dktX0_countInLog_0 : List UInt8 := dkwX0_countInLog_0 ++ []
theorem dksX0_countInLog_0 : cX0_countInLog.data.toList.drop 0 = dktX0_countInLog_0 := by decide +kernel
theorem dX0_countInLog_0 : decode cX0_countInLog 0 = .ok (.aload_n 3, 1) := dk_45 (dk_at dksX0_countInLog_0 0 rfl rfl)
theorem dX0_countInLog_1 : decode cX0_countInLog 1 = .ok (.iconst 0, 1) := dk_3 (dk_at dksX0_countInLog_0 1 rfl rfl)
theorem dX0_countInLog_2 : decode cX0_countInLog 2 = .ok (.aload_n 0, 1) := dk_42 (dk_at dksX0_countInLog_0 2 rfl rfl)
theorem dX0_countInLog_3 : decode cX0_countInLog 3 = .ok (.iload_n 1, 1) := dk_27 (dk_at dksX0_countInLog_0 3 rfl rfl)
theorem dX0_countInLog_4 : decode cX0_countInLog 4 = .ok (.iload_n 2, 1) := dk_28 (dk_at dksX0_countInLog_0 4 rfl rfl)
theorem dX0_countInLog_5 : decode cX0_countInLog 5 = .ok (.invokevirtual 115, 3) := dk_182 0 115 (dk_at dksX0_countInLog_0 5 rfl rfl)
theorem dX0_countInLog_8 : decode cX0_countInLog 8 = .ok (.i2l, 1) := dk_133 (dk_at dksX0_countInLog_0 8 rfl rfl)
theorem dX0_countInLog_9 : decode cX0_countInLog 9 = .ok (.lastore, 1) := dk_80 (dk_at dksX0_countInLog_0 9 rfl rfl)
theorem dX0_countInLog_10 : decode cX0_countInLog 10 = .ok (.goto 11, 3) := dk_167 0 11 (dk_at dksX0_countInLog_0 10 rfl rfl)
theorem dX0_countInLog_13 : decode cX0_countInLog 13 = .ok (.astore 4, 2) := dk_58 4 (dk_at dksX0_countInLog_0 13 rfl rfl)
theorem dX0_countInLog_15 : decode cX0_countInLog 15 = .ok (.iconst 1, 1) := dk_4 (dk_at dksX0_countInLog_0 15 rfl rfl)
theorem dX0_countInLog_16 : decode cX0_countInLog 16 = .ok (.ireturn, 1) := dk_172 (dk_at dksX0_countInLog_0 16 rfl rfl)
theorem dX0_countInLog_17 : decode cX0_countInLog 17 = .ok (.astore 4, 2) := dk_58 4 (dk_at dksX0_countInLog_0 17 rfl rfl)
theorem dX0_countInLog_19 : decode cX0_countInLog 19 = .ok (.iconst 2, 1) := dk_5 (dk_at dksX0_countInLog_0 19 rfl rfl)
theorem dX0_countInLog_20 : decode cX0_countInLog 20 = .ok (.ireturn, 1) := dk_172 (dk_at dksX0_countInLog_0 20 rfl rfl)
theorem dX0_countInLog_21 : decode cX0_countInLog 21 = .ok (.iconst 0, 1) := dk_3 (dk_at dksX0_countInLog_0 21 rfl rfl)
theorem dX0_countInLog_22 : decode cX0_countInLog 22 = .ok (.ireturn, 1) := dk_172 (dk_at dksX0_countInLog_0 22 rfl rfl)
abbrev cX0_lastEventTime : ByteArray := method_36_code
def yX0_lastEventTime : MethodName := ⟨RX0, "lastEventTime", "(LLeaderLeases;I[J)I"⟩
def dkwX0_lastEventTime_0 : List UInt8 := [44, 3, 42, 27, 182, 0, 118, 133, 80, 167, 0, 6, 78, 4, 172, 3, 172]
abbrev dktX0_lastEventTime_0 : List UInt8 := dkwX0_lastEventTime_0 ++ []
theorem dksX0_lastEventTime_0 : cX0_lastEventTime.data.toList.drop 0 = dktX0_lastEventTime_0 := by decide +kernel
theorem dX0_lastEventTime_0 : decode cX0_lastEventTime 0 = .ok (.aload_n 2, 1) := dk_44 (dk_at dksX0_lastEventTime_0 0 rfl rfl)
theorem dX0_lastEventTime_1 : decode cX0_lastEventTime 1 = .ok (.iconst 0, 1) := dk_3 (dk_at dksX0_lastEventTime_0 1 rfl rfl)
theorem dX0_lastEventTime_2 : decode cX0_lastEventTime 2 = .ok (.aload_n 0, 1) := dk_42 (dk_at dksX0_lastEventTime_0 2 rfl rfl)
theorem dX0_lastEventTime_3 : decode cX0_lastEventTime 3 = .ok (.iload_n 1, 1) := dk_27 (dk_at dksX0_lastEventTime_0 3 rfl rfl)
theorem dX0_lastEventTime_4 : decode cX0_lastEventTime 4 = .ok (.invokevirtual 118, 3) := dk_182 0 118 (dk_at dksX0_lastEventTime_0 4 rfl rfl)
theorem dX0_lastEventTime_7 : decode cX0_lastEventTime 7 = .ok (.i2l, 1) := dk_133 (dk_at dksX0_lastEventTime_0 7 rfl rfl)
theorem dX0_lastEventTime_8 : decode cX0_lastEventTime 8 = .ok (.lastore, 1) := dk_80 (dk_at dksX0_lastEventTime_0 8 rfl rfl)
theorem dX0_lastEventTime_9 : decode cX0_lastEventTime 9 = .ok (.goto 6, 3) := dk_167 0 6 (dk_at dksX0_lastEventTime_0 9 rfl rfl)
theorem dX0_lastEventTime_12 : decode cX0_lastEventTime 12 = .ok (.astore_n 3, 1) := dk_78 (dk_at dksX0_lastEventTime_0 12 rfl rfl)
theorem dX0_lastEventTime_13 : decode cX0_lastEventTime 13 = .ok (.iconst 1, 1) := dk_4 (dk_at dksX0_lastEventTime_0 13 rfl rfl)
theorem dX0_lastEventTime_14 : decode cX0_lastEventTime 14 = .ok (.ireturn, 1) := dk_172 (dk_at dksX0_lastEventTime_0 14 rfl rfl)
theorem dX0_lastEventTime_15 : decode cX0_lastEventTime 15 = .ok (.iconst 0, 1) := dk_3 (dk_at dksX0_lastEventTime_0 15 rfl rfl)
theorem dX0_lastEventTime_16 : decode cX0_lastEventTime 16 = .ok (.ireturn, 1) := dk_172 (dk_at dksX0_lastEventTime_0 16 rfl rfl)
abbrev cX0_timeUntilLeader : ByteArray := method_37_code
def yX0_timeUntilLeader : MethodName := ⟨RX0, "timeUntilLeader", "(LLeaderLeases;II[J)I"⟩
def dkwX0_timeUntilLeader_0 : List UInt8 := [45, 3, 42, 27, 28, 182, 0, 121, 133, 80, 167, 0, 11, 58, 4, 4, 172, 58, 4, 5, 172, 3, 172]
abbrev dktX0_timeUntilLeader_0 : List UInt8 := dkwX0_timeUntilLeader_0 ++ []
theorem dksX0_timeUntilLeader_0 : cX0_timeUntilLeader.data.toList.drop 0 = dktX0_timeUntilLeader_0 := by decide +kernel
theorem dX0_timeUntilLeader_0 : decode cX0_timeUntilLeader 0 = .ok (.aload_n 3, 1) := dk_45 (dk_at dksX0_timeUntilLeader_0 0 rfl rfl)
theorem dX0_timeUntilLeader_1 : decode cX0_timeUntilLeader 1 = .ok (.iconst 0, 1) := dk_3 (dk_at dksX0_timeUntilLeader_0 1 rfl rfl)
theorem dX0_timeUntilLeader_2 : decode cX0_timeUntilLeader 2 = .ok (.aload_n 0, 1) := dk_42 (dk_at dksX0_timeUntilLeader_0 2 rfl rfl)
theorem dX0_timeUntilLeader_3 : decode cX0_timeUntilLeader 3 = .ok (.iload_n 1, 1) := dk_27 (dk_at dksX0_timeUntilLeader_0 3 rfl rfl)
theorem dX0_timeUntilLeader_4 : decode cX0_timeUntilLeader 4 = .ok (.iload_n 2, 1) := dk_28 (dk_at dksX0_timeUntilLeader_0 4 rfl rfl)
theorem dX0_timeUntilLeader_5 : decode cX0_timeUntilLeader 5 = .ok (.invokevirtual 121, 3) := dk_182 0 121 (dk_at dksX0_timeUntilLeader_0 5 rfl rfl)
theorem dX0_timeUntilLeader_8 : decode cX0_timeUntilLeader 8 = .ok (.i2l, 1) := dk_133 (dk_at dksX0_timeUntilLeader_0 8 rfl rfl)
theorem dX0_timeUntilLeader_9 : decode cX0_timeUntilLeader 9 = .ok (.lastore, 1) := dk_80 (dk_at dksX0_timeUntilLeader_0 9 rfl rfl)
theorem dX0_timeUntilLeader_10 : decode cX0_timeUntilLeader 10 = .ok (.goto 11, 3) := dk_167 0 11 (dk_at dksX0_timeUntilLeader_0 10 rfl rfl)
theorem dX0_timeUntilLeader_13 : decode cX0_timeUntilLeader 13 = .ok (.astore 4, 2) := dk_58 4 (dk_at dksX0_timeUntilLeader_0 13 rfl rfl)
theorem dX0_timeUntilLeader_15 : decode cX0_timeUntilLeader 15 = .ok (.iconst 1, 1) := dk_4 (dk_at dksX0_timeUntilLeader_0 15 rfl rfl)
theorem dX0_timeUntilLeader_16 : decode cX0_timeUntilLeader 16 = .ok (.ireturn, 1) := dk_172 (dk_at dksX0_timeUntilLeader_0 16 rfl rfl)
theorem dX0_timeUntilLeader_17 : decode cX0_timeUntilLeader 17 = .ok (.astore 4, 2) := dk_58 4 (dk_at dksX0_timeUntilLeader_0 17 rfl rfl)
theorem dX0_timeUntilLeader_19 : decode cX0_timeUntilLeader 19 = .ok (.iconst 2, 1) := dk_5 (dk_at dksX0_timeUntilLeader_0 19 rfl rfl)
theorem dX0_timeUntilLeader_20 : decode cX0_timeUntilLeader 20 = .ok (.ireturn, 1) := dk_172 (dk_at dksX0_timeUntilLeader_0 20 rfl rfl)
theorem dX0_timeUntilLeader_21 : decode cX0_timeUntilLeader 21 = .ok (.iconst 0, 1) := dk_3 (dk_at dksX0_timeUntilLeader_0 21 rfl rfl)
theorem dX0_timeUntilLeader_22 : decode cX0_timeUntilLeader 22 = .ok (.ireturn, 1) := dk_172 (dk_at dksX0_timeUntilLeader_0 22 rfl rfl)
abbrev cX0_longestLeaderless : ByteArray := method_38_code
def yX0_longestLeaderless : MethodName := ⟨RX0, "longestLeaderless", "(LLeaderLeases;I[J)I"⟩
def dkwX0_longestLeaderless_0 : List UInt8 := [44, 3, 42, 27, 182, 0, 124, 133, 80, 167, 0, 6, 78, 4, 172, 3, 172]
abbrev dktX0_longestLeaderless_0 : List UInt8 := dkwX0_longestLeaderless_0 ++ []
theorem dksX0_longestLeaderless_0 : cX0_longestLeaderless.data.toList.drop 0 = dktX0_longestLeaderless_0 := by decide +kernel
theorem dX0_longestLeaderless_0 : decode cX0_longestLeaderless 0 = .ok (.aload_n 2, 1) := dk_44 (dk_at dksX0_longestLeaderless_0 0 rfl rfl)
theorem dX0_longestLeaderless_1 : decode cX0_longestLeaderless 1 = .ok (.iconst 0, 1) := dk_3 (dk_at dksX0_longestLeaderless_0 1 rfl rfl)
theorem dX0_longestLeaderless_2 : decode cX0_longestLeaderless 2 = .ok (.aload_n 0, 1) := dk_42 (dk_at dksX0_longestLeaderless_0 2 rfl rfl)
theorem dX0_longestLeaderless_3 : decode cX0_longestLeaderless 3 = .ok (.iload_n 1, 1) := dk_27 (dk_at dksX0_longestLeaderless_0 3 rfl rfl)
theorem dX0_longestLeaderless_4 : decode cX0_longestLeaderless 4 = .ok (.invokevirtual 124, 3) := dk_182 0 124 (dk_at dksX0_longestLeaderless_0 4 rfl rfl)
theorem dX0_longestLeaderless_7 : decode cX0_longestLeaderless 7 = .ok (.i2l, 1) := dk_133 (dk_at dksX0_longestLeaderless_0 7 rfl rfl)
theorem dX0_longestLeaderless_8 : decode cX0_longestLeaderless 8 = .ok (.lastore, 1) := dk_80 (dk_at dksX0_longestLeaderless_0 8 rfl rfl)
theorem dX0_longestLeaderless_9 : decode cX0_longestLeaderless 9 = .ok (.goto 6, 3) := dk_167 0 6 (dk_at dksX0_longestLeaderless_0 9 rfl rfl)
theorem dX0_longestLeaderless_12 : decode cX0_longestLeaderless 12 = .ok (.astore_n 3, 1) := dk_78 (dk_at dksX0_longestLeaderless_0 12 rfl rfl)
theorem dX0_longestLeaderless_13 : decode cX0_longestLeaderless 13 = .ok (.iconst 1, 1) := dk_4 (dk_at dksX0_longestLeaderless_0 13 rfl rfl)
theorem dX0_longestLeaderless_14 : decode cX0_longestLeaderless 14 = .ok (.ireturn, 1) := dk_172 (dk_at dksX0_longestLeaderless_0 14 rfl rfl)
theorem dX0_longestLeaderless_15 : decode cX0_longestLeaderless 15 = .ok (.iconst 0, 1) := dk_3 (dk_at dksX0_longestLeaderless_0 15 rfl rfl)
theorem dX0_longestLeaderless_16 : decode cX0_longestLeaderless 16 = .ok (.ireturn, 1) := dk_172 (dk_at dksX0_longestLeaderless_0 16 rfl rfl)
abbrev cX0_tryWrite : ByteArray := method_39_code
def yX0_tryWrite : MethodName := ⟨RX0, "tryWrite", "(LLeaderLeases;II[J)I"⟩
def dkwX0_tryWrite_0 : List UInt8 := [45, 3, 42, 27, 28, 182, 0, 127, 133, 80, 167, 0, 11, 58, 4, 4, 172, 58, 4, 5, 172, 3, 172]
abbrev dktX0_tryWrite_0 : List UInt8 := dkwX0_tryWrite_0 ++ []
theorem dksX0_tryWrite_0 : cX0_tryWrite.data.toList.drop 0 = dktX0_tryWrite_0 := by decide +kernel
theorem dX0_tryWrite_0 : decode cX0_tryWrite 0 = .ok (.aload_n 3, 1) := dk_45 (dk_at dksX0_tryWrite_0 0 rfl rfl)
theorem dX0_tryWrite_1 : decode cX0_tryWrite 1 = .ok (.iconst 0, 1) := dk_3 (dk_at dksX0_tryWrite_0 1 rfl rfl)
theorem dX0_tryWrite_2 : decode cX0_tryWrite 2 = .ok (.aload_n 0, 1) := dk_42 (dk_at dksX0_tryWrite_0 2 rfl rfl)
theorem dX0_tryWrite_3 : decode cX0_tryWrite 3 = .ok (.iload_n 1, 1) := dk_27 (dk_at dksX0_tryWrite_0 3 rfl rfl)
theorem dX0_tryWrite_4 : decode cX0_tryWrite 4 = .ok (.iload_n 2, 1) := dk_28 (dk_at dksX0_tryWrite_0 4 rfl rfl)
theorem dX0_tryWrite_5 : decode cX0_tryWrite 5 = .ok (.invokevirtual 127, 3) := dk_182 0 127 (dk_at dksX0_tryWrite_0 5 rfl rfl)
theorem dX0_tryWrite_8 : decode cX0_tryWrite 8 = .ok (.i2l, 1) := dk_133 (dk_at dksX0_tryWrite_0 8 rfl rfl)
theorem dX0_tryWrite_9 : decode cX0_tryWrite 9 = .ok (.lastore, 1) := dk_80 (dk_at dksX0_tryWrite_0 9 rfl rfl)
theorem dX0_tryWrite_10 : decode cX0_tryWrite 10 = .ok (.goto 11, 3) := dk_167 0 11 (dk_at dksX0_tryWrite_0 10 rfl rfl)
theorem dX0_tryWrite_13 : decode cX0_tryWrite 13 = .ok (.astore 4, 2) := dk_58 4 (dk_at dksX0_tryWrite_0 13 rfl rfl)
theorem dX0_tryWrite_15 : decode cX0_tryWrite 15 = .ok (.iconst 1, 1) := dk_4 (dk_at dksX0_tryWrite_0 15 rfl rfl)
theorem dX0_tryWrite_16 : decode cX0_tryWrite 16 = .ok (.ireturn, 1) := dk_172 (dk_at dksX0_tryWrite_0 16 rfl rfl)
theorem dX0_tryWrite_17 : decode cX0_tryWrite 17 = .ok (.astore 4, 2) := dk_58 4 (dk_at dksX0_tryWrite_0 17 rfl rfl)
theorem dX0_tryWrite_19 : decode cX0_tryWrite 19 = .ok (.iconst 2, 1) := dk_5 (dk_at dksX0_tryWrite_0 19 rfl rfl)
theorem dX0_tryWrite_20 : decode cX0_tryWrite 20 = .ok (.ireturn, 1) := dk_172 (dk_at dksX0_tryWrite_0 20 rfl rfl)
theorem dX0_tryWrite_21 : decode cX0_tryWrite 21 = .ok (.iconst 0, 1) := dk_3 (dk_at dksX0_tryWrite_0 21 rfl rfl)
theorem dX0_tryWrite_22 : decode cX0_tryWrite 22 = .ok (.ireturn, 1) := dk_172 (dk_at dksX0_tryWrite_0 22 rfl rfl)
abbrev cX0_predictRead : ByteArray := method_40_code
def yX0_predictRead : MethodName := ⟨RX0, "predictRead", "(LLeaderLeases;III[J)I"⟩
def dkwX0_predictRead_1 : List UInt8 := [172]
abbrev dktX0_predictRead_1 : List UInt8 := dkwX0_predictRead_1 ++ []
def dkwX0_predictRead_0 : List UInt8 := [25, 4, 3, 42, 27, 28, 29, 182, 0, 130, 133, 80, 167, 0, 11, 58, 5, 4, 172, 58, 5, 5, 172, 3]
abbrev dktX0_predictRead_0 : List UInt8 := dkwX0_predictRead_0 ++ dktX0_predictRead_1
theorem dksX0_predictRead_0 : cX0_predictRead.data.toList.drop 0 = dktX0_predictRead_0 := by decide +kernel
theorem dksX0_predictRead_1 : cX0_predictRead.data.toList.drop 24 = dktX0_predictRead_1 := dk_seg dksX0_predictRead_0 24 rfl rfl
theorem dX0_predictRead_0 : decode cX0_predictRead 0 = .ok (.aload 4, 2) := dk_25 4 (dk_at dksX0_predictRead_0 0 rfl rfl)
theorem dX0_predictRead_2 : decode cX0_predictRead 2 = .ok (.iconst 0, 1) := dk_3 (dk_at dksX0_predictRead_0 2 rfl rfl)
theorem dX0_predictRead_3 : decode cX0_predictRead 3 = .ok (.aload_n 0, 1) := dk_42 (dk_at dksX0_predictRead_0 3 rfl rfl)
theorem dX0_predictRead_4 : decode cX0_predictRead 4 = .ok (.iload_n 1, 1) := dk_27 (dk_at dksX0_predictRead_0 4 rfl rfl)
theorem dX0_predictRead_5 : decode cX0_predictRead 5 = .ok (.iload_n 2, 1) := dk_28 (dk_at dksX0_predictRead_0 5 rfl rfl)
theorem dX0_predictRead_6 : decode cX0_predictRead 6 = .ok (.iload_n 3, 1) := dk_29 (dk_at dksX0_predictRead_0 6 rfl rfl)
theorem dX0_predictRead_7 : decode cX0_predictRead 7 = .ok (.invokevirtual 130, 3) := dk_182 0 130 (dk_at dksX0_predictRead_0 7 rfl rfl)
theorem dX0_predictRead_10 : decode cX0_predictRead 10 = .ok (.i2l, 1) := dk_133 (dk_at dksX0_predictRead_0 10 rfl rfl)
theorem dX0_predictRead_11 : decode cX0_predictRead 11 = .ok (.lastore, 1) := dk_80 (dk_at dksX0_predictRead_0 11 rfl rfl)
theorem dX0_predictRead_12 : decode cX0_predictRead 12 = .ok (.goto 11, 3) := dk_167 0 11 (dk_at dksX0_predictRead_0 12 rfl rfl)
theorem dX0_predictRead_15 : decode cX0_predictRead 15 = .ok (.astore 5, 2) := dk_58 5 (dk_at dksX0_predictRead_0 15 rfl rfl)
theorem dX0_predictRead_17 : decode cX0_predictRead 17 = .ok (.iconst 1, 1) := dk_4 (dk_at dksX0_predictRead_0 17 rfl rfl)
theorem dX0_predictRead_18 : decode cX0_predictRead 18 = .ok (.ireturn, 1) := dk_172 (dk_at dksX0_predictRead_0 18 rfl rfl)
theorem dX0_predictRead_19 : decode cX0_predictRead 19 = .ok (.astore 5, 2) := dk_58 5 (dk_at dksX0_predictRead_0 19 rfl rfl)
theorem dX0_predictRead_21 : decode cX0_predictRead 21 = .ok (.iconst 2, 1) := dk_5 (dk_at dksX0_predictRead_0 21 rfl rfl)
theorem dX0_predictRead_22 : decode cX0_predictRead 22 = .ok (.ireturn, 1) := dk_172 (dk_at dksX0_predictRead_0 22 rfl rfl)
theorem dX0_predictRead_23 : decode cX0_predictRead 23 = .ok (.iconst 0, 1) := dk_3 (dk_at dksX0_predictRead_0 23 rfl rfl)
theorem dX0_predictRead_24 : decode cX0_predictRead 24 = .ok (.ireturn, 1) := dk_172 (dk_at dksX0_predictRead_1 0 rfl rfl)
abbrev cX0_acquiresUntil : ByteArray := method_41_code
def yX0_acquiresUntil : MethodName := ⟨RX0, "acquiresUntil", "(LLeaderLeases;II[J)I"⟩
def dkwX0_acquiresUntil_0 : List UInt8 := [45, 3, 42, 27, 28, 182, 0, 133, 133, 80, 167, 0, 11, 58, 4, 4, 172, 58, 4, 5, 172, 3, 172]
abbrev dktX0_acquiresUntil_0 : List UInt8 := dkwX0_acquiresUntil_0 ++ []
theorem dksX0_acquiresUntil_0 : cX0_acquiresUntil.data.toList.drop 0 = dktX0_acquiresUntil_0 := by decide +kernel
theorem dX0_acquiresUntil_0 : decode cX0_acquiresUntil 0 = .ok (.aload_n 3, 1) := dk_45 (dk_at dksX0_acquiresUntil_0 0 rfl rfl)
theorem dX0_acquiresUntil_1 : decode cX0_acquiresUntil 1 = .ok (.iconst 0, 1) := dk_3 (dk_at dksX0_acquiresUntil_0 1 rfl rfl)
theorem dX0_acquiresUntil_2 : decode cX0_acquiresUntil 2 = .ok (.aload_n 0, 1) := dk_42 (dk_at dksX0_acquiresUntil_0 2 rfl rfl)
theorem dX0_acquiresUntil_3 : decode cX0_acquiresUntil 3 = .ok (.iload_n 1, 1) := dk_27 (dk_at dksX0_acquiresUntil_0 3 rfl rfl)
theorem dX0_acquiresUntil_4 : decode cX0_acquiresUntil 4 = .ok (.iload_n 2, 1) := dk_28 (dk_at dksX0_acquiresUntil_0 4 rfl rfl)
theorem dX0_acquiresUntil_5 : decode cX0_acquiresUntil 5 = .ok (.invokevirtual 133, 3) := dk_182 0 133 (dk_at dksX0_acquiresUntil_0 5 rfl rfl)
theorem dX0_acquiresUntil_8 : decode cX0_acquiresUntil 8 = .ok (.i2l, 1) := dk_133 (dk_at dksX0_acquiresUntil_0 8 rfl rfl)
theorem dX0_acquiresUntil_9 : decode cX0_acquiresUntil 9 = .ok (.lastore, 1) := dk_80 (dk_at dksX0_acquiresUntil_0 9 rfl rfl)
theorem dX0_acquiresUntil_10 : decode cX0_acquiresUntil 10 = .ok (.goto 11, 3) := dk_167 0 11 (dk_at dksX0_acquiresUntil_0 10 rfl rfl)
theorem dX0_acquiresUntil_13 : decode cX0_acquiresUntil 13 = .ok (.astore 4, 2) := dk_58 4 (dk_at dksX0_acquiresUntil_0 13 rfl rfl)
theorem dX0_acquiresUntil_15 : decode cX0_acquiresUntil 15 = .ok (.iconst 1, 1) := dk_4 (dk_at dksX0_acquiresUntil_0 15 rfl rfl)
theorem dX0_acquiresUntil_16 : decode cX0_acquiresUntil 16 = .ok (.ireturn, 1) := dk_172 (dk_at dksX0_acquiresUntil_0 16 rfl rfl)
theorem dX0_acquiresUntil_17 : decode cX0_acquiresUntil 17 = .ok (.astore 4, 2) := dk_58 4 (dk_at dksX0_acquiresUntil_0 17 rfl rfl)
theorem dX0_acquiresUntil_19 : decode cX0_acquiresUntil 19 = .ok (.iconst 2, 1) := dk_5 (dk_at dksX0_acquiresUntil_0 19 rfl rfl)
theorem dX0_acquiresUntil_20 : decode cX0_acquiresUntil 20 = .ok (.ireturn, 1) := dk_172 (dk_at dksX0_acquiresUntil_0 20 rfl rfl)
theorem dX0_acquiresUntil_21 : decode cX0_acquiresUntil 21 = .ok (.iconst 0, 1) := dk_3 (dk_at dksX0_acquiresUntil_0 21 rfl rfl)
theorem dX0_acquiresUntil_22 : decode cX0_acquiresUntil 22 = .ok (.ireturn, 1) := dk_172 (dk_at dksX0_acquiresUntil_0 22 rfl rfl)
abbrev cX0_saveSnapshot : ByteArray := method_42_code
def yX0_saveSnapshot : MethodName := ⟨RX0, "saveSnapshot", "(LLeaderLeases;I[J)I"⟩
def dkwX0_saveSnapshot_0 : List UInt8 := [44, 3, 42, 27, 182, 0, 136, 133, 80, 167, 0, 6, 78, 4, 172, 3, 172]
abbrev dktX0_saveSnapshot_0 : List UInt8 := dkwX0_saveSnapshot_0 ++ []
theorem dksX0_saveSnapshot_0 : cX0_saveSnapshot.data.toList.drop 0 = dktX0_saveSnapshot_0 := by decide +kernel
theorem dX0_saveSnapshot_0 : decode cX0_saveSnapshot 0 = .ok (.aload_n 2, 1) := dk_44 (dk_at dksX0_saveSnapshot_0 0 rfl rfl)
theorem dX0_saveSnapshot_1 : decode cX0_saveSnapshot 1 = .ok (.iconst 0, 1) := dk_3 (dk_at dksX0_saveSnapshot_0 1 rfl rfl)
theorem dX0_saveSnapshot_2 : decode cX0_saveSnapshot 2 = .ok (.aload_n 0, 1) := dk_42 (dk_at dksX0_saveSnapshot_0 2 rfl rfl)
theorem dX0_saveSnapshot_3 : decode cX0_saveSnapshot 3 = .ok (.iload_n 1, 1) := dk_27 (dk_at dksX0_saveSnapshot_0 3 rfl rfl)
theorem dX0_saveSnapshot_4 : decode cX0_saveSnapshot 4 = .ok (.invokevirtual 136, 3) := dk_182 0 136 (dk_at dksX0_saveSnapshot_0 4 rfl rfl)
theorem dX0_saveSnapshot_7 : decode cX0_saveSnapshot 7 = .ok (.i2l, 1) := dk_133 (dk_at dksX0_saveSnapshot_0 7 rfl rfl)
theorem dX0_saveSnapshot_8 : decode cX0_saveSnapshot 8 = .ok (.lastore, 1) := dk_80 (dk_at dksX0_saveSnapshot_0 8 rfl rfl)
theorem dX0_saveSnapshot_9 : decode cX0_saveSnapshot 9 = .ok (.goto 6, 3) := dk_167 0 6 (dk_at dksX0_saveSnapshot_0 9 rfl rfl)
theorem dX0_saveSnapshot_12 : decode cX0_saveSnapshot 12 = .ok (.astore_n 3, 1) := dk_78 (dk_at dksX0_saveSnapshot_0 12 rfl rfl)
theorem dX0_saveSnapshot_13 : decode cX0_saveSnapshot 13 = .ok (.iconst 1, 1) := dk_4 (dk_at dksX0_saveSnapshot_0 13 rfl rfl)
theorem dX0_saveSnapshot_14 : decode cX0_saveSnapshot 14 = .ok (.ireturn, 1) := dk_172 (dk_at dksX0_saveSnapshot_0 14 rfl rfl)
theorem dX0_saveSnapshot_15 : decode cX0_saveSnapshot 15 = .ok (.iconst 0, 1) := dk_3 (dk_at dksX0_saveSnapshot_0 15 rfl rfl)
theorem dX0_saveSnapshot_16 : decode cX0_saveSnapshot 16 = .ok (.ireturn, 1) := dk_172 (dk_at dksX0_saveSnapshot_0 16 rfl rfl)
abbrev cX0_restoreSnapshot : ByteArray := method_43_code
def yX0_restoreSnapshot : MethodName := ⟨RX0, "restoreSnapshot", "(LLeaderLeases;I[J)I"⟩
def dkwX0_restoreSnapshot_0 : List UInt8 := [44, 3, 42, 27, 182, 0, 139, 133, 80, 167, 0, 6, 78, 4, 172, 3, 172]
abbrev dktX0_restoreSnapshot_0 : List UInt8 := dkwX0_restoreSnapshot_0 ++ []
theorem dksX0_restoreSnapshot_0 : cX0_restoreSnapshot.data.toList.drop 0 = dktX0_restoreSnapshot_0 := by decide +kernel
theorem dX0_restoreSnapshot_0 : decode cX0_restoreSnapshot 0 = .ok (.aload_n 2, 1) := dk_44 (dk_at dksX0_restoreSnapshot_0 0 rfl rfl)
theorem dX0_restoreSnapshot_1 : decode cX0_restoreSnapshot 1 = .ok (.iconst 0, 1) := dk_3 (dk_at dksX0_restoreSnapshot_0 1 rfl rfl)
theorem dX0_restoreSnapshot_2 : decode cX0_restoreSnapshot 2 = .ok (.aload_n 0, 1) := dk_42 (dk_at dksX0_restoreSnapshot_0 2 rfl rfl)
theorem dX0_restoreSnapshot_3 : decode cX0_restoreSnapshot 3 = .ok (.iload_n 1, 1) := dk_27 (dk_at dksX0_restoreSnapshot_0 3 rfl rfl)
theorem dX0_restoreSnapshot_4 : decode cX0_restoreSnapshot 4 = .ok (.invokevirtual 139, 3) := dk_182 0 139 (dk_at dksX0_restoreSnapshot_0 4 rfl rfl)
theorem dX0_restoreSnapshot_7 : decode cX0_restoreSnapshot 7 = .ok (.i2l, 1) := dk_133 (dk_at dksX0_restoreSnapshot_0 7 rfl rfl)
theorem dX0_restoreSnapshot_8 : decode cX0_restoreSnapshot 8 = .ok (.lastore, 1) := dk_80 (dk_at dksX0_restoreSnapshot_0 8 rfl rfl)
theorem dX0_restoreSnapshot_9 : decode cX0_restoreSnapshot 9 = .ok (.goto 6, 3) := dk_167 0 6 (dk_at dksX0_restoreSnapshot_0 9 rfl rfl)
theorem dX0_restoreSnapshot_12 : decode cX0_restoreSnapshot 12 = .ok (.astore_n 3, 1) := dk_78 (dk_at dksX0_restoreSnapshot_0 12 rfl rfl)
theorem dX0_restoreSnapshot_13 : decode cX0_restoreSnapshot 13 = .ok (.iconst 1, 1) := dk_4 (dk_at dksX0_restoreSnapshot_0 13 rfl rfl)
theorem dX0_restoreSnapshot_14 : decode cX0_restoreSnapshot 14 = .ok (.ireturn, 1) := dk_172 (dk_at dksX0_restoreSnapshot_0 14 rfl rfl)
theorem dX0_restoreSnapshot_15 : decode cX0_restoreSnapshot 15 = .ok (.iconst 0, 1) := dk_3 (dk_at dksX0_restoreSnapshot_0 15 rfl rfl)
theorem dX0_restoreSnapshot_16 : decode cX0_restoreSnapshot 16 = .ok (.ireturn, 1) := dk_172 (dk_at dksX0_restoreSnapshot_0 16 rfl rfl)
theorem q89 : (Jvm.Cond.initialized "LeaderLeasesLaw") ∈ lw_all := lw_g (lw_at lw_m1 0 rfl) rfl
theorem q135 : (Jvm.Cond.classLink "LeaderLeasesLaw" (8 : Nat) "LeaderLeases") ∈ lw_all := lw_g (lw_at lw_m1 46 rfl) rfl
theorem q137 : (Jvm.Cond.methodLink "LeaderLeasesLaw" (142 : Nat) ({ cls := "LeaderLeases", name := "<init>", desc := "()V" } : Jvm.MethodName)) ∈ lw_all := lw_g (lw_at lw_m1 48 rfl) rfl
theorem q890 : (Jvm.Cond.methodLink "LeaderLeasesLaw" (156 : Nat) ({ cls := "LeaderLeases", name := "load", desc := "()I" } : Jvm.MethodName)) ∈ lw_all := lw_g (lw_at lw_m4 81 rfl) rfl
theorem q1250 : (Jvm.Cond.methodLink "LeaderLeasesLaw" (160 : Nat) ({ cls := "LeaderLeases", name := "loadError", desc := "()I" } : Jvm.MethodName)) ∈ lw_all := lw_g (lw_at lw_m5 201 rfl) rfl
theorem q1254 : (Jvm.Cond.methodLink "LeaderLeasesLaw" (167 : Nat) ({ cls := "LeaderLeases", name := "advanceToNextEvent", desc := "()I" } : Jvm.MethodName)) ∈ lw_all := lw_g (lw_at lw_m5 205 rfl) rfl
theorem q1573 : (Jvm.Cond.methodLink "LeaderLeasesLaw" (171 : Nat) ({ cls := "LeaderLeases", name := "now", desc := "()I" } : Jvm.MethodName)) ∈ lw_all := lw_g (lw_at lw_m7 44 rfl) rfl
theorem q1577 : (Jvm.Cond.methodLink "LeaderLeasesLaw" (175 : Nat) ({ cls := "LeaderLeases", name := "nodeCount", desc := "()I" } : Jvm.MethodName)) ∈ lw_all := lw_g (lw_at lw_m7 48 rfl) rfl
theorem q1581 : (Jvm.Cond.methodLink "LeaderLeasesLaw" (182 : Nat) ({ cls := "LeaderLeases", name := "serverClock", desc := "()I" } : Jvm.MethodName)) ∈ lw_all := lw_g (lw_at lw_m7 52 rfl) rfl
theorem q1586 : (Jvm.Cond.methodLink "LeaderLeasesLaw" (210 : Nat) ({ cls := "LeaderLeases", name := "restartServer", desc := "()I" } : Jvm.MethodName)) ∈ lw_all := lw_g (lw_at lw_m7 57 rfl) rfl
theorem q1594 : (Jvm.Cond.methodLink "LeaderLeasesLaw" (233 : Nat) ({ cls := "LeaderLeases", name := "storageToken", desc := "()I" } : Jvm.MethodName)) ∈ lw_all := lw_g (lw_at lw_m7 65 rfl) rfl
theorem q1598 : (Jvm.Cond.methodLink "LeaderLeasesLaw" (237 : Nat) ({ cls := "LeaderLeases", name := "holder", desc := "()I" } : Jvm.MethodName)) ∈ lw_all := lw_g (lw_at lw_m7 69 rfl) rfl
theorem q1602 : (Jvm.Cond.methodLink "LeaderLeasesLaw" (241 : Nat) ({ cls := "LeaderLeases", name := "greatestToken", desc := "()I" } : Jvm.MethodName)) ∈ lw_all := lw_g (lw_at lw_m7 73 rfl) rfl
theorem q1606 : (Jvm.Cond.methodLink "LeaderLeasesLaw" (245 : Nat) ({ cls := "LeaderLeases", name := "serverExpiryTime", desc := "()I" } : Jvm.MethodName)) ∈ lw_all := lw_g (lw_at lw_m7 77 rfl) rfl
theorem q1611 : (Jvm.Cond.methodLink "LeaderLeasesLaw" (249 : Nat) ({ cls := "LeaderLeases", name := "graceLeft", desc := "()I" } : Jvm.MethodName)) ∈ lw_all := lw_g (lw_at lw_m7 82 rfl) rfl
theorem q1616 : (Jvm.Cond.methodLink "LeaderLeasesLaw" (256 : Nat) ({ cls := "LeaderLeases", name := "leaders", desc := "()I" } : Jvm.MethodName)) ∈ lw_all := lw_g (lw_at lw_m7 87 rfl) rfl
theorem q1629 : (Jvm.Cond.methodLink "LeaderLeasesLaw" (278 : Nat) ({ cls := "LeaderLeases", name := "messagesOnWay", desc := "()I" } : Jvm.MethodName)) ∈ lw_all := lw_g (lw_at lw_m7 100 rfl) rfl
theorem q1635 : (Jvm.Cond.methodLink "LeaderLeasesLaw" (282 : Nat) ({ cls := "LeaderLeases", name := "delayedWrites", desc := "()I" } : Jvm.MethodName)) ∈ lw_all := lw_g (lw_at lw_m7 106 rfl) rfl
theorem q1639 : (Jvm.Cond.methodLink "LeaderLeasesLaw" (286 : Nat) ({ cls := "LeaderLeases", name := "messagesLost", desc := "()I" } : Jvm.MethodName)) ∈ lw_all := lw_g (lw_at lw_m7 110 rfl) rfl
theorem q1643 : (Jvm.Cond.methodLink "LeaderLeasesLaw" (290 : Nat) ({ cls := "LeaderLeases", name := "logSize", desc := "()I" } : Jvm.MethodName)) ∈ lw_all := lw_g (lw_at lw_m7 114 rfl) rfl
theorem q1647 : (Jvm.Cond.methodLink "LeaderLeasesLaw" (309 : Nat) ({ cls := "LeaderLeases", name := "splitTime", desc := "()I" } : Jvm.MethodName)) ∈ lw_all := lw_g (lw_at lw_m7 118 rfl) rfl
theorem q1651 : (Jvm.Cond.methodLink "LeaderLeasesLaw" (313 : Nat) ({ cls := "LeaderLeases", name := "reads", desc := "()I" } : Jvm.MethodName)) ∈ lw_all := lw_g (lw_at lw_m7 122 rfl) rfl
theorem q1655 : (Jvm.Cond.methodLink "LeaderLeasesLaw" (317 : Nat) ({ cls := "LeaderLeases", name := "staleReads", desc := "()I" } : Jvm.MethodName)) ∈ lw_all := lw_g (lw_at lw_m7 126 rfl) rfl
theorem q1659 : (Jvm.Cond.methodLink "LeaderLeasesLaw" (333 : Nat) ({ cls := "LeaderLeases", name := "smallestBound", desc := "()I" } : Jvm.MethodName)) ∈ lw_all := lw_g (lw_at lw_m7 130 rfl) rfl
theorem q1666 : (Jvm.Cond.methodLink "LeaderLeasesLaw" (337 : Nat) ({ cls := "LeaderLeases", name := "overtakingPairs", desc := "()I" } : Jvm.MethodName)) ∈ lw_all := lw_g (lw_at lw_m7 137 rfl) rfl
theorem q1678 : (Jvm.Cond.methodLink "LeaderLeasesLaw" (341 : Nat) ({ cls := "LeaderLeases", name := "staleCaches", desc := "()I" } : Jvm.MethodName)) ∈ lw_all := lw_g (lw_at lw_m7 149 rfl) rfl
theorem q1686 : (Jvm.Cond.methodLink "LeaderLeasesLaw" (146 : Nat) ({ cls := "LeaderLeasesLaw", name := "appendByte", desc := "(LLeaderLeases;I[J)I" } : Jvm.MethodName)) ∈ lw_all := lw_g (lw_at lw_m7 157 rfl) rfl
theorem q1687 : (Jvm.Cond.static ({ cls := "LeaderLeasesLaw", name := "appendByte", desc := "(LLeaderLeases;I[J)I" } : Jvm.MethodName)) ∈ lw_all := lw_g (lw_at lw_m7 158 rfl) rfl
theorem q1688 : (Jvm.Cond.codeWith ({ cls := "LeaderLeasesLaw", name := "appendByte", desc := "(LLeaderLeases;I[J)I" } : Jvm.MethodName) method_3_code (4 : Nat) (Option.some Jvm.ClassFile.FieldType.int) [((0 : Nat), (9 : Nat), (12 : Nat), (13 : Nat))]) ∈ lw_all := lw_g (lw_at lw_m7 159 rfl) rfl
theorem q1689 : (Jvm.Cond.classLink "LeaderLeasesLaw" (13 : Nat) "java/lang/IllegalArgumentException") ∈ lw_all := lw_g (lw_at lw_m7 160 rfl) rfl
theorem q1690 : (Jvm.Cond.methodLink "LeaderLeasesLaw" (7 : Nat) ({ cls := "LeaderLeases", name := "appendByte", desc := "(I)I" } : Jvm.MethodName)) ∈ lw_all := lw_g (lw_at lw_m7 161 rfl) rfl
theorem q1710 : (Jvm.Cond.methodLink "LeaderLeasesLaw" (164 : Nat) ({ cls := "LeaderLeasesLaw", name := "advance", desc := "(LLeaderLeases;I[J)I" } : Jvm.MethodName)) ∈ lw_all := lw_g (lw_at lw_m7 181 rfl) rfl
theorem q1711 : (Jvm.Cond.static ({ cls := "LeaderLeasesLaw", name := "advance", desc := "(LLeaderLeases;I[J)I" } : Jvm.MethodName)) ∈ lw_all := lw_g (lw_at lw_m7 182 rfl) rfl
theorem q1712 : (Jvm.Cond.codeWith ({ cls := "LeaderLeasesLaw", name := "advance", desc := "(LLeaderLeases;I[J)I" } : Jvm.MethodName) method_4_code (4 : Nat) (Option.some Jvm.ClassFile.FieldType.int) [((0 : Nat), (9 : Nat), (12 : Nat), (13 : Nat))]) ∈ lw_all := lw_g (lw_at lw_m7 183 rfl) rfl
theorem q1713 : (Jvm.Cond.methodLink "LeaderLeasesLaw" (15 : Nat) ({ cls := "LeaderLeases", name := "advance", desc := "(I)I" } : Jvm.MethodName)) ∈ lw_all := lw_g (lw_at lw_m7 184 rfl) rfl
theorem q1718 : (Jvm.Cond.methodLink "LeaderLeasesLaw" (179 : Nat) ({ cls := "LeaderLeasesLaw", name := "nodeClock", desc := "(LLeaderLeases;I[J)I" } : Jvm.MethodName)) ∈ lw_all := lw_g (lw_at lw_m7 189 rfl) rfl
theorem q1719 : (Jvm.Cond.static ({ cls := "LeaderLeasesLaw", name := "nodeClock", desc := "(LLeaderLeases;I[J)I" } : Jvm.MethodName)) ∈ lw_all := lw_g (lw_at lw_m7 190 rfl) rfl
theorem q1720 : (Jvm.Cond.codeWith ({ cls := "LeaderLeasesLaw", name := "nodeClock", desc := "(LLeaderLeases;I[J)I" } : Jvm.MethodName) method_5_code (4 : Nat) (Option.some Jvm.ClassFile.FieldType.int) [((0 : Nat), (9 : Nat), (12 : Nat), (21 : Nat))]) ∈ lw_all := lw_g (lw_at lw_m7 191 rfl) rfl
theorem q1721 : (Jvm.Cond.classLink "LeaderLeasesLaw" (21 : Nat) "java/lang/IndexOutOfBoundsException") ∈ lw_all := lw_g (lw_at lw_m7 192 rfl) rfl
theorem q1740 : (Jvm.Cond.methodLink "LeaderLeasesLaw" (18 : Nat) ({ cls := "LeaderLeases", name := "nodeClock", desc := "(I)I" } : Jvm.MethodName)) ∈ lw_all := lw_g (lw_at lw_m7 211 rfl) rfl
theorem q1764 : (Jvm.Cond.methodLink "LeaderLeasesLaw" (186 : Nat) ({ cls := "LeaderLeasesLaw", name := "campaign", desc := "(LLeaderLeases;I[J)I" } : Jvm.MethodName)) ∈ lw_all := lw_g (lw_at lw_m7 235 rfl) rfl
theorem q1765 : (Jvm.Cond.static ({ cls := "LeaderLeasesLaw", name := "campaign", desc := "(LLeaderLeases;I[J)I" } : Jvm.MethodName)) ∈ lw_all := lw_g (lw_at lw_m7 236 rfl) rfl
theorem q1766 : (Jvm.Cond.codeWith ({ cls := "LeaderLeasesLaw", name := "campaign", desc := "(LLeaderLeases;I[J)I" } : Jvm.MethodName) method_6_code (4 : Nat) (Option.some Jvm.ClassFile.FieldType.int) [((0 : Nat), (9 : Nat), (12 : Nat), (21 : Nat))]) ∈ lw_all := lw_g (lw_at lw_m7 237 rfl) rfl
theorem q1767 : (Jvm.Cond.methodLink "LeaderLeasesLaw" (23 : Nat) ({ cls := "LeaderLeases", name := "campaign", desc := "(I)I" } : Jvm.MethodName)) ∈ lw_all := lw_g (lw_at lw_m7 238 rfl) rfl
theorem q1777 : (Jvm.Cond.methodLink "LeaderLeasesLaw" (189 : Nat) ({ cls := "LeaderLeasesLaw", name := "withdraw", desc := "(LLeaderLeases;I[J)I" } : Jvm.MethodName)) ∈ lw_all := lw_g (lw_at lw_m8 8 rfl) rfl
theorem q1778 : (Jvm.Cond.static ({ cls := "LeaderLeasesLaw", name := "withdraw", desc := "(LLeaderLeases;I[J)I" } : Jvm.MethodName)) ∈ lw_all := lw_g (lw_at lw_m8 9 rfl) rfl
theorem q1779 : (Jvm.Cond.codeWith ({ cls := "LeaderLeasesLaw", name := "withdraw", desc := "(LLeaderLeases;I[J)I" } : Jvm.MethodName) method_7_code (4 : Nat) (Option.some Jvm.ClassFile.FieldType.int) [((0 : Nat), (9 : Nat), (12 : Nat), (21 : Nat))]) ∈ lw_all := lw_g (lw_at lw_m8 10 rfl) rfl
theorem q1780 : (Jvm.Cond.methodLink "LeaderLeasesLaw" (26 : Nat) ({ cls := "LeaderLeases", name := "withdraw", desc := "(I)I" } : Jvm.MethodName)) ∈ lw_all := lw_g (lw_at lw_m8 11 rfl) rfl
theorem q1787 : (Jvm.Cond.methodLink "LeaderLeasesLaw" (192 : Nat) ({ cls := "LeaderLeasesLaw", name := "crash", desc := "(LLeaderLeases;I[J)I" } : Jvm.MethodName)) ∈ lw_all := lw_g (lw_at lw_m8 18 rfl) rfl
theorem q1788 : (Jvm.Cond.static ({ cls := "LeaderLeasesLaw", name := "crash", desc := "(LLeaderLeases;I[J)I" } : Jvm.MethodName)) ∈ lw_all := lw_g (lw_at lw_m8 19 rfl) rfl
theorem q1789 : (Jvm.Cond.codeWith ({ cls := "LeaderLeasesLaw", name := "crash", desc := "(LLeaderLeases;I[J)I" } : Jvm.MethodName) method_8_code (4 : Nat) (Option.some Jvm.ClassFile.FieldType.int) [((0 : Nat), (9 : Nat), (12 : Nat), (21 : Nat))]) ∈ lw_all := lw_g (lw_at lw_m8 20 rfl) rfl
theorem q1790 : (Jvm.Cond.methodLink "LeaderLeasesLaw" (29 : Nat) ({ cls := "LeaderLeases", name := "crash", desc := "(I)I" } : Jvm.MethodName)) ∈ lw_all := lw_g (lw_at lw_m8 21 rfl) rfl
theorem q1795 : (Jvm.Cond.methodLink "LeaderLeasesLaw" (195 : Nat) ({ cls := "LeaderLeasesLaw", name := "restart", desc := "(LLeaderLeases;I[J)I" } : Jvm.MethodName)) ∈ lw_all := lw_g (lw_at lw_m8 26 rfl) rfl
theorem q1796 : (Jvm.Cond.static ({ cls := "LeaderLeasesLaw", name := "restart", desc := "(LLeaderLeases;I[J)I" } : Jvm.MethodName)) ∈ lw_all := lw_g (lw_at lw_m8 27 rfl) rfl
theorem q1797 : (Jvm.Cond.codeWith ({ cls := "LeaderLeasesLaw", name := "restart", desc := "(LLeaderLeases;I[J)I" } : Jvm.MethodName) method_9_code (4 : Nat) (Option.some Jvm.ClassFile.FieldType.int) [((0 : Nat), (16 : Nat), (19 : Nat), (21 : Nat))]) ∈ lw_all := lw_g (lw_at lw_m8 28 rfl) rfl
theorem q1798 : (Jvm.Cond.methodLink "LeaderLeasesLaw" (32 : Nat) ({ cls := "LeaderLeases", name := "restart", desc := "(I)Z" } : Jvm.MethodName)) ∈ lw_all := lw_g (lw_at lw_m8 29 rfl) rfl
theorem q1802 : (Jvm.Cond.methodLink "LeaderLeasesLaw" (198 : Nat) ({ cls := "LeaderLeasesLaw", name := "pause", desc := "(LLeaderLeases;II[J)I" } : Jvm.MethodName)) ∈ lw_all := lw_g (lw_at lw_m8 33 rfl) rfl
theorem q1803 : (Jvm.Cond.static ({ cls := "LeaderLeasesLaw", name := "pause", desc := "(LLeaderLeases;II[J)I" } : Jvm.MethodName)) ∈ lw_all := lw_g (lw_at lw_m8 34 rfl) rfl
theorem q1804 : (Jvm.Cond.codeWith ({ cls := "LeaderLeasesLaw", name := "pause", desc := "(LLeaderLeases;II[J)I" } : Jvm.MethodName) method_10_code (5 : Nat) (Option.some Jvm.ClassFile.FieldType.int) [((0 : Nat), (10 : Nat), (13 : Nat), (21 : Nat)), ((0 : Nat), (10 : Nat), (17 : Nat), (13 : Nat))]) ∈ lw_all := lw_g (lw_at lw_m8 35 rfl) rfl
theorem q1805 : (Jvm.Cond.methodLink "LeaderLeasesLaw" (36 : Nat) ({ cls := "LeaderLeases", name := "pause", desc := "(II)I" } : Jvm.MethodName)) ∈ lw_all := lw_g (lw_at lw_m8 36 rfl) rfl
theorem q1810 : (Jvm.Cond.methodLink "LeaderLeasesLaw" (202 : Nat) ({ cls := "LeaderLeasesLaw", name := "setCut", desc := "(LLeaderLeases;IZ[J)I" } : Jvm.MethodName)) ∈ lw_all := lw_g (lw_at lw_m8 41 rfl) rfl
theorem q1811 : (Jvm.Cond.static ({ cls := "LeaderLeasesLaw", name := "setCut", desc := "(LLeaderLeases;IZ[J)I" } : Jvm.MethodName)) ∈ lw_all := lw_g (lw_at lw_m8 42 rfl) rfl
theorem q1812 : (Jvm.Cond.codeWith ({ cls := "LeaderLeasesLaw", name := "setCut", desc := "(LLeaderLeases;IZ[J)I" } : Jvm.MethodName) method_11_code (5 : Nat) (Option.some Jvm.ClassFile.FieldType.int) [((0 : Nat), (17 : Nat), (20 : Nat), (21 : Nat))]) ∈ lw_all := lw_g (lw_at lw_m8 43 rfl) rfl
theorem q1813 : (Jvm.Cond.methodLink "LeaderLeasesLaw" (40 : Nat) ({ cls := "LeaderLeases", name := "setCut", desc := "(IZ)Z" } : Jvm.MethodName)) ∈ lw_all := lw_g (lw_at lw_m8 44 rfl) rfl
theorem q1817 : (Jvm.Cond.methodLink "LeaderLeasesLaw" (206 : Nat) ({ cls := "LeaderLeasesLaw", name := "planOutage", desc := "(LLeaderLeases;III[J)I" } : Jvm.MethodName)) ∈ lw_all := lw_g (lw_at lw_m8 48 rfl) rfl
theorem q1818 : (Jvm.Cond.static ({ cls := "LeaderLeasesLaw", name := "planOutage", desc := "(LLeaderLeases;III[J)I" } : Jvm.MethodName)) ∈ lw_all := lw_g (lw_at lw_m8 49 rfl) rfl
theorem q1819 : (Jvm.Cond.codeWith ({ cls := "LeaderLeasesLaw", name := "planOutage", desc := "(LLeaderLeases;III[J)I" } : Jvm.MethodName) method_12_code (6 : Nat) (Option.some Jvm.ClassFile.FieldType.int) [((0 : Nat), (12 : Nat), (15 : Nat), (21 : Nat)), ((0 : Nat), (12 : Nat), (19 : Nat), (13 : Nat))]) ∈ lw_all := lw_g (lw_at lw_m8 50 rfl) rfl
theorem q1820 : (Jvm.Cond.methodLink "LeaderLeasesLaw" (44 : Nat) ({ cls := "LeaderLeases", name := "planOutage", desc := "(III)I" } : Jvm.MethodName)) ∈ lw_all := lw_g (lw_at lw_m8 51 rfl) rfl
theorem q1843 : (Jvm.Cond.methodLink "LeaderLeasesLaw" (214 : Nat) ({ cls := "LeaderLeasesLaw", name := "write", desc := "(LLeaderLeases;III[J)I" } : Jvm.MethodName)) ∈ lw_all := lw_g (lw_at lw_m8 74 rfl) rfl
theorem q1844 : (Jvm.Cond.static ({ cls := "LeaderLeasesLaw", name := "write", desc := "(LLeaderLeases;III[J)I" } : Jvm.MethodName)) ∈ lw_all := lw_g (lw_at lw_m8 75 rfl) rfl
theorem q1845 : (Jvm.Cond.codeWith ({ cls := "LeaderLeasesLaw", name := "write", desc := "(LLeaderLeases;III[J)I" } : Jvm.MethodName) method_13_code (6 : Nat) (Option.some Jvm.ClassFile.FieldType.int) [((0 : Nat), (12 : Nat), (15 : Nat), (21 : Nat)), ((0 : Nat), (12 : Nat), (19 : Nat), (13 : Nat))]) ∈ lw_all := lw_g (lw_at lw_m8 76 rfl) rfl
theorem q1846 : (Jvm.Cond.methodLink "LeaderLeasesLaw" (48 : Nat) ({ cls := "LeaderLeases", name := "write", desc := "(III)I" } : Jvm.MethodName)) ∈ lw_all := lw_g (lw_at lw_m8 77 rfl) rfl
theorem q1861 : (Jvm.Cond.methodLink "LeaderLeasesLaw" (217 : Nat) ({ cls := "LeaderLeasesLaw", name := "writeLater", desc := "(LLeaderLeases;IIII[J)I" } : Jvm.MethodName)) ∈ lw_all := lw_g (lw_at lw_m8 92 rfl) rfl
theorem q1862 : (Jvm.Cond.static ({ cls := "LeaderLeasesLaw", name := "writeLater", desc := "(LLeaderLeases;IIII[J)I" } : Jvm.MethodName)) ∈ lw_all := lw_g (lw_at lw_m8 93 rfl) rfl
theorem q1863 : (Jvm.Cond.codeWith ({ cls := "LeaderLeasesLaw", name := "writeLater", desc := "(LLeaderLeases;IIII[J)I" } : Jvm.MethodName) method_14_code (7 : Nat) (Option.some Jvm.ClassFile.FieldType.int) [((0 : Nat), (14 : Nat), (17 : Nat), (21 : Nat)), ((0 : Nat), (14 : Nat), (21 : Nat), (13 : Nat))]) ∈ lw_all := lw_g (lw_at lw_m8 94 rfl) rfl
theorem q1864 : (Jvm.Cond.methodLink "LeaderLeasesLaw" (51 : Nat) ({ cls := "LeaderLeases", name := "writeLater", desc := "(IIII)I" } : Jvm.MethodName)) ∈ lw_all := lw_g (lw_at lw_m8 95 rfl) rfl
theorem q1895 : (Jvm.Cond.methodLink "LeaderLeasesLaw" (221 : Nat) ({ cls := "LeaderLeasesLaw", name := "fetch", desc := "(LLeaderLeases;II[J)I" } : Jvm.MethodName)) ∈ lw_all := lw_g (lw_at lw_m8 126 rfl) rfl
theorem q1896 : (Jvm.Cond.static ({ cls := "LeaderLeasesLaw", name := "fetch", desc := "(LLeaderLeases;II[J)I" } : Jvm.MethodName)) ∈ lw_all := lw_g (lw_at lw_m8 127 rfl) rfl
theorem q1897 : (Jvm.Cond.codeWith ({ cls := "LeaderLeasesLaw", name := "fetch", desc := "(LLeaderLeases;II[J)I" } : Jvm.MethodName) method_15_code (5 : Nat) (Option.some Jvm.ClassFile.FieldType.int) [((0 : Nat), (10 : Nat), (13 : Nat), (21 : Nat)), ((0 : Nat), (10 : Nat), (17 : Nat), (13 : Nat))]) ∈ lw_all := lw_g (lw_at lw_m8 128 rfl) rfl
theorem q1898 : (Jvm.Cond.methodLink "LeaderLeasesLaw" (55 : Nat) ({ cls := "LeaderLeases", name := "fetch", desc := "(II)I" } : Jvm.MethodName)) ∈ lw_all := lw_g (lw_at lw_m8 129 rfl) rfl
theorem q1903 : (Jvm.Cond.methodLink "LeaderLeasesLaw" (224 : Nat) ({ cls := "LeaderLeasesLaw", name := "read", desc := "(LLeaderLeases;II[J)I" } : Jvm.MethodName)) ∈ lw_all := lw_g (lw_at lw_m8 134 rfl) rfl
theorem q1904 : (Jvm.Cond.static ({ cls := "LeaderLeasesLaw", name := "read", desc := "(LLeaderLeases;II[J)I" } : Jvm.MethodName)) ∈ lw_all := lw_g (lw_at lw_m8 135 rfl) rfl
theorem q1905 : (Jvm.Cond.codeWith ({ cls := "LeaderLeasesLaw", name := "read", desc := "(LLeaderLeases;II[J)I" } : Jvm.MethodName) method_16_code (5 : Nat) (Option.some Jvm.ClassFile.FieldType.int) [((0 : Nat), (10 : Nat), (13 : Nat), (21 : Nat)), ((0 : Nat), (10 : Nat), (17 : Nat), (13 : Nat))]) ∈ lw_all := lw_g (lw_at lw_m8 136 rfl) rfl
theorem q1906 : (Jvm.Cond.methodLink "LeaderLeasesLaw" (58 : Nat) ({ cls := "LeaderLeases", name := "read", desc := "(II)I" } : Jvm.MethodName)) ∈ lw_all := lw_g (lw_at lw_m8 137 rfl) rfl
theorem q1910 : (Jvm.Cond.methodLink "LeaderLeasesLaw" (227 : Nat) ({ cls := "LeaderLeasesLaw", name := "stored", desc := "(LLeaderLeases;I[J)I" } : Jvm.MethodName)) ∈ lw_all := lw_g (lw_at lw_m8 141 rfl) rfl
theorem q1911 : (Jvm.Cond.static ({ cls := "LeaderLeasesLaw", name := "stored", desc := "(LLeaderLeases;I[J)I" } : Jvm.MethodName)) ∈ lw_all := lw_g (lw_at lw_m8 142 rfl) rfl
theorem q1912 : (Jvm.Cond.codeWith ({ cls := "LeaderLeasesLaw", name := "stored", desc := "(LLeaderLeases;I[J)I" } : Jvm.MethodName) method_17_code (4 : Nat) (Option.some Jvm.ClassFile.FieldType.int) [((0 : Nat), (9 : Nat), (12 : Nat), (13 : Nat))]) ∈ lw_all := lw_g (lw_at lw_m8 143 rfl) rfl
theorem q1913 : (Jvm.Cond.methodLink "LeaderLeasesLaw" (61 : Nat) ({ cls := "LeaderLeases", name := "stored", desc := "(I)I" } : Jvm.MethodName)) ∈ lw_all := lw_g (lw_at lw_m8 144 rfl) rfl
theorem q1917 : (Jvm.Cond.methodLink "LeaderLeasesLaw" (230 : Nat) ({ cls := "LeaderLeasesLaw", name := "version", desc := "(LLeaderLeases;I[J)I" } : Jvm.MethodName)) ∈ lw_all := lw_g (lw_at lw_m8 148 rfl) rfl
theorem q1918 : (Jvm.Cond.static ({ cls := "LeaderLeasesLaw", name := "version", desc := "(LLeaderLeases;I[J)I" } : Jvm.MethodName)) ∈ lw_all := lw_g (lw_at lw_m8 149 rfl) rfl
theorem q1919 : (Jvm.Cond.codeWith ({ cls := "LeaderLeasesLaw", name := "version", desc := "(LLeaderLeases;I[J)I" } : Jvm.MethodName) method_18_code (4 : Nat) (Option.some Jvm.ClassFile.FieldType.int) [((0 : Nat), (9 : Nat), (12 : Nat), (13 : Nat))]) ∈ lw_all := lw_g (lw_at lw_m8 150 rfl) rfl
theorem q1920 : (Jvm.Cond.methodLink "LeaderLeasesLaw" (64 : Nat) ({ cls := "LeaderLeases", name := "version", desc := "(I)I" } : Jvm.MethodName)) ∈ lw_all := lw_g (lw_at lw_m8 151 rfl) rfl
theorem q1924 : (Jvm.Cond.methodLink "LeaderLeasesLaw" (253 : Nat) ({ cls := "LeaderLeasesLaw", name := "isLeading", desc := "(LLeaderLeases;I[J)I" } : Jvm.MethodName)) ∈ lw_all := lw_g (lw_at lw_m8 155 rfl) rfl
theorem q1925 : (Jvm.Cond.static ({ cls := "LeaderLeasesLaw", name := "isLeading", desc := "(LLeaderLeases;I[J)I" } : Jvm.MethodName)) ∈ lw_all := lw_g (lw_at lw_m8 156 rfl) rfl
theorem q1926 : (Jvm.Cond.codeWith ({ cls := "LeaderLeasesLaw", name := "isLeading", desc := "(LLeaderLeases;I[J)I" } : Jvm.MethodName) method_19_code (4 : Nat) (Option.some Jvm.ClassFile.FieldType.int) [((0 : Nat), (16 : Nat), (19 : Nat), (21 : Nat))]) ∈ lw_all := lw_g (lw_at lw_m8 157 rfl) rfl
theorem q1927 : (Jvm.Cond.methodLink "LeaderLeasesLaw" (67 : Nat) ({ cls := "LeaderLeases", name := "isLeading", desc := "(I)Z" } : Jvm.MethodName)) ∈ lw_all := lw_g (lw_at lw_m8 158 rfl) rfl
theorem q1931 : (Jvm.Cond.methodLink "LeaderLeasesLaw" (260 : Nat) ({ cls := "LeaderLeasesLaw", name := "token", desc := "(LLeaderLeases;I[J)I" } : Jvm.MethodName)) ∈ lw_all := lw_g (lw_at lw_m8 162 rfl) rfl
theorem q1932 : (Jvm.Cond.static ({ cls := "LeaderLeasesLaw", name := "token", desc := "(LLeaderLeases;I[J)I" } : Jvm.MethodName)) ∈ lw_all := lw_g (lw_at lw_m8 163 rfl) rfl
theorem q1933 : (Jvm.Cond.codeWith ({ cls := "LeaderLeasesLaw", name := "token", desc := "(LLeaderLeases;I[J)I" } : Jvm.MethodName) method_20_code (4 : Nat) (Option.some Jvm.ClassFile.FieldType.int) [((0 : Nat), (9 : Nat), (12 : Nat), (21 : Nat))]) ∈ lw_all := lw_g (lw_at lw_m8 164 rfl) rfl
theorem q1934 : (Jvm.Cond.methodLink "LeaderLeasesLaw" (70 : Nat) ({ cls := "LeaderLeases", name := "token", desc := "(I)I" } : Jvm.MethodName)) ∈ lw_all := lw_g (lw_at lw_m8 165 rfl) rfl
theorem q1938 : (Jvm.Cond.methodLink "LeaderLeasesLaw" (263 : Nat) ({ cls := "LeaderLeasesLaw", name := "nodeExpiryTime", desc := "(LLeaderLeases;I[J)I" } : Jvm.MethodName)) ∈ lw_all := lw_g (lw_at lw_m8 169 rfl) rfl
theorem q1939 : (Jvm.Cond.static ({ cls := "LeaderLeasesLaw", name := "nodeExpiryTime", desc := "(LLeaderLeases;I[J)I" } : Jvm.MethodName)) ∈ lw_all := lw_g (lw_at lw_m8 170 rfl) rfl
theorem q1940 : (Jvm.Cond.codeWith ({ cls := "LeaderLeasesLaw", name := "nodeExpiryTime", desc := "(LLeaderLeases;I[J)I" } : Jvm.MethodName) method_21_code (4 : Nat) (Option.some Jvm.ClassFile.FieldType.int) [((0 : Nat), (9 : Nat), (12 : Nat), (21 : Nat))]) ∈ lw_all := lw_g (lw_at lw_m8 171 rfl) rfl
theorem q1941 : (Jvm.Cond.methodLink "LeaderLeasesLaw" (73 : Nat) ({ cls := "LeaderLeases", name := "nodeExpiryTime", desc := "(I)I" } : Jvm.MethodName)) ∈ lw_all := lw_g (lw_at lw_m8 172 rfl) rfl
theorem q1945 : (Jvm.Cond.methodLink "LeaderLeasesLaw" (266 : Nat) ({ cls := "LeaderLeasesLaw", name := "margin", desc := "(LLeaderLeases;I[J)I" } : Jvm.MethodName)) ∈ lw_all := lw_g (lw_at lw_m8 176 rfl) rfl
theorem q1946 : (Jvm.Cond.static ({ cls := "LeaderLeasesLaw", name := "margin", desc := "(LLeaderLeases;I[J)I" } : Jvm.MethodName)) ∈ lw_all := lw_g (lw_at lw_m8 177 rfl) rfl
theorem q1947 : (Jvm.Cond.codeWith ({ cls := "LeaderLeasesLaw", name := "margin", desc := "(LLeaderLeases;I[J)I" } : Jvm.MethodName) method_22_code (4 : Nat) (Option.some Jvm.ClassFile.FieldType.int) [((0 : Nat), (9 : Nat), (12 : Nat), (21 : Nat))]) ∈ lw_all := lw_g (lw_at lw_m8 178 rfl) rfl
theorem q1948 : (Jvm.Cond.methodLink "LeaderLeasesLaw" (76 : Nat) ({ cls := "LeaderLeases", name := "margin", desc := "(I)I" } : Jvm.MethodName)) ∈ lw_all := lw_g (lw_at lw_m8 179 rfl) rfl
theorem q1954 : (Jvm.Cond.methodLink "LeaderLeasesLaw" (269 : Nat) ({ cls := "LeaderLeasesLaw", name := "timerTime", desc := "(LLeaderLeases;I[J)I" } : Jvm.MethodName)) ∈ lw_all := lw_g (lw_at lw_m8 185 rfl) rfl
theorem q1955 : (Jvm.Cond.static ({ cls := "LeaderLeasesLaw", name := "timerTime", desc := "(LLeaderLeases;I[J)I" } : Jvm.MethodName)) ∈ lw_all := lw_g (lw_at lw_m8 186 rfl) rfl
theorem q1956 : (Jvm.Cond.codeWith ({ cls := "LeaderLeasesLaw", name := "timerTime", desc := "(LLeaderLeases;I[J)I" } : Jvm.MethodName) method_23_code (4 : Nat) (Option.some Jvm.ClassFile.FieldType.int) [((0 : Nat), (9 : Nat), (12 : Nat), (21 : Nat))]) ∈ lw_all := lw_g (lw_at lw_m8 187 rfl) rfl
theorem q1957 : (Jvm.Cond.methodLink "LeaderLeasesLaw" (79 : Nat) ({ cls := "LeaderLeases", name := "timerTime", desc := "(I)I" } : Jvm.MethodName)) ∈ lw_all := lw_g (lw_at lw_m8 188 rfl) rfl
theorem q1961 : (Jvm.Cond.methodLink "LeaderLeasesLaw" (272 : Nat) ({ cls := "LeaderLeasesLaw", name := "nodeState", desc := "(LLeaderLeases;I[J)I" } : Jvm.MethodName)) ∈ lw_all := lw_g (lw_at lw_m8 192 rfl) rfl
theorem q1962 : (Jvm.Cond.static ({ cls := "LeaderLeasesLaw", name := "nodeState", desc := "(LLeaderLeases;I[J)I" } : Jvm.MethodName)) ∈ lw_all := lw_g (lw_at lw_m8 193 rfl) rfl
theorem q1963 : (Jvm.Cond.codeWith ({ cls := "LeaderLeasesLaw", name := "nodeState", desc := "(LLeaderLeases;I[J)I" } : Jvm.MethodName) method_24_code (4 : Nat) (Option.some Jvm.ClassFile.FieldType.int) [((0 : Nat), (9 : Nat), (12 : Nat), (21 : Nat))]) ∈ lw_all := lw_g (lw_at lw_m8 194 rfl) rfl
theorem q1964 : (Jvm.Cond.methodLink "LeaderLeasesLaw" (82 : Nat) ({ cls := "LeaderLeases", name := "nodeState", desc := "(I)I" } : Jvm.MethodName)) ∈ lw_all := lw_g (lw_at lw_m8 195 rfl) rfl
theorem q1968 : (Jvm.Cond.methodLink "LeaderLeasesLaw" (275 : Nat) ({ cls := "LeaderLeasesLaw", name := "cached", desc := "(LLeaderLeases;I[J)I" } : Jvm.MethodName)) ∈ lw_all := lw_g (lw_at lw_m8 199 rfl) rfl
theorem q1969 : (Jvm.Cond.static ({ cls := "LeaderLeasesLaw", name := "cached", desc := "(LLeaderLeases;I[J)I" } : Jvm.MethodName)) ∈ lw_all := lw_g (lw_at lw_m8 200 rfl) rfl
theorem q1970 : (Jvm.Cond.codeWith ({ cls := "LeaderLeasesLaw", name := "cached", desc := "(LLeaderLeases;I[J)I" } : Jvm.MethodName) method_25_code (4 : Nat) (Option.some Jvm.ClassFile.FieldType.int) [((0 : Nat), (9 : Nat), (12 : Nat), (21 : Nat))]) ∈ lw_all := lw_g (lw_at lw_m8 201 rfl) rfl
theorem q1971 : (Jvm.Cond.methodLink "LeaderLeasesLaw" (85 : Nat) ({ cls := "LeaderLeases", name := "cached", desc := "(I)I" } : Jvm.MethodName)) ∈ lw_all := lw_g (lw_at lw_m8 202 rfl) rfl
theorem q1975 : (Jvm.Cond.methodLink "LeaderLeasesLaw" (294 : Nat) ({ cls := "LeaderLeasesLaw", name := "logTime", desc := "(LLeaderLeases;I[J)I" } : Jvm.MethodName)) ∈ lw_all := lw_g (lw_at lw_m8 206 rfl) rfl
theorem q1976 : (Jvm.Cond.static ({ cls := "LeaderLeasesLaw", name := "logTime", desc := "(LLeaderLeases;I[J)I" } : Jvm.MethodName)) ∈ lw_all := lw_g (lw_at lw_m8 207 rfl) rfl
theorem q1977 : (Jvm.Cond.codeWith ({ cls := "LeaderLeasesLaw", name := "logTime", desc := "(LLeaderLeases;I[J)I" } : Jvm.MethodName) method_26_code (4 : Nat) (Option.some Jvm.ClassFile.FieldType.int) [((0 : Nat), (9 : Nat), (12 : Nat), (21 : Nat))]) ∈ lw_all := lw_g (lw_at lw_m8 208 rfl) rfl
theorem q1978 : (Jvm.Cond.methodLink "LeaderLeasesLaw" (88 : Nat) ({ cls := "LeaderLeases", name := "logTime", desc := "(I)I" } : Jvm.MethodName)) ∈ lw_all := lw_g (lw_at lw_m8 209 rfl) rfl
theorem q1989 : (Jvm.Cond.methodLink "LeaderLeasesLaw" (297 : Nat) ({ cls := "LeaderLeasesLaw", name := "logKind", desc := "(LLeaderLeases;I[J)I" } : Jvm.MethodName)) ∈ lw_all := lw_g (lw_at lw_m8 220 rfl) rfl
theorem q1990 : (Jvm.Cond.static ({ cls := "LeaderLeasesLaw", name := "logKind", desc := "(LLeaderLeases;I[J)I" } : Jvm.MethodName)) ∈ lw_all := lw_g (lw_at lw_m8 221 rfl) rfl
theorem q1991 : (Jvm.Cond.codeWith ({ cls := "LeaderLeasesLaw", name := "logKind", desc := "(LLeaderLeases;I[J)I" } : Jvm.MethodName) method_27_code (4 : Nat) (Option.some Jvm.ClassFile.FieldType.int) [((0 : Nat), (9 : Nat), (12 : Nat), (21 : Nat))]) ∈ lw_all := lw_g (lw_at lw_m8 222 rfl) rfl
theorem q1992 : (Jvm.Cond.methodLink "LeaderLeasesLaw" (91 : Nat) ({ cls := "LeaderLeases", name := "logKind", desc := "(I)I" } : Jvm.MethodName)) ∈ lw_all := lw_g (lw_at lw_m8 223 rfl) rfl
theorem q1996 : (Jvm.Cond.methodLink "LeaderLeasesLaw" (300 : Nat) ({ cls := "LeaderLeasesLaw", name := "logNode", desc := "(LLeaderLeases;I[J)I" } : Jvm.MethodName)) ∈ lw_all := lw_g (lw_at lw_m8 227 rfl) rfl
theorem q1997 : (Jvm.Cond.static ({ cls := "LeaderLeasesLaw", name := "logNode", desc := "(LLeaderLeases;I[J)I" } : Jvm.MethodName)) ∈ lw_all := lw_g (lw_at lw_m8 228 rfl) rfl
theorem q1998 : (Jvm.Cond.codeWith ({ cls := "LeaderLeasesLaw", name := "logNode", desc := "(LLeaderLeases;I[J)I" } : Jvm.MethodName) method_28_code (4 : Nat) (Option.some Jvm.ClassFile.FieldType.int) [((0 : Nat), (9 : Nat), (12 : Nat), (21 : Nat))]) ∈ lw_all := lw_g (lw_at lw_m8 229 rfl) rfl
theorem q1999 : (Jvm.Cond.methodLink "LeaderLeasesLaw" (94 : Nat) ({ cls := "LeaderLeases", name := "logNode", desc := "(I)I" } : Jvm.MethodName)) ∈ lw_all := lw_g (lw_at lw_m8 230 rfl) rfl
theorem q2003 : (Jvm.Cond.methodLink "LeaderLeasesLaw" (303 : Nat) ({ cls := "LeaderLeasesLaw", name := "logToken", desc := "(LLeaderLeases;I[J)I" } : Jvm.MethodName)) ∈ lw_all := lw_g (lw_at lw_m8 234 rfl) rfl
theorem q2004 : (Jvm.Cond.static ({ cls := "LeaderLeasesLaw", name := "logToken", desc := "(LLeaderLeases;I[J)I" } : Jvm.MethodName)) ∈ lw_all := lw_g (lw_at lw_m8 235 rfl) rfl
theorem q2005 : (Jvm.Cond.codeWith ({ cls := "LeaderLeasesLaw", name := "logToken", desc := "(LLeaderLeases;I[J)I" } : Jvm.MethodName) method_29_code (4 : Nat) (Option.some Jvm.ClassFile.FieldType.int) [((0 : Nat), (9 : Nat), (12 : Nat), (21 : Nat))]) ∈ lw_all := lw_g (lw_at lw_m8 236 rfl) rfl
theorem q2006 : (Jvm.Cond.methodLink "LeaderLeasesLaw" (97 : Nat) ({ cls := "LeaderLeases", name := "logToken", desc := "(I)I" } : Jvm.MethodName)) ∈ lw_all := lw_g (lw_at lw_m8 237 rfl) rfl
theorem q2010 : (Jvm.Cond.methodLink "LeaderLeasesLaw" (306 : Nat) ({ cls := "LeaderLeasesLaw", name := "eventCount", desc := "(LLeaderLeases;I[J)I" } : Jvm.MethodName)) ∈ lw_all := lw_g (lw_at lw_m9 1 rfl) rfl
theorem q2011 : (Jvm.Cond.static ({ cls := "LeaderLeasesLaw", name := "eventCount", desc := "(LLeaderLeases;I[J)I" } : Jvm.MethodName)) ∈ lw_all := lw_g (lw_at lw_m9 2 rfl) rfl
theorem q2012 : (Jvm.Cond.codeWith ({ cls := "LeaderLeasesLaw", name := "eventCount", desc := "(LLeaderLeases;I[J)I" } : Jvm.MethodName) method_30_code (4 : Nat) (Option.some Jvm.ClassFile.FieldType.int) [((0 : Nat), (9 : Nat), (12 : Nat), (13 : Nat))]) ∈ lw_all := lw_g (lw_at lw_m9 3 rfl) rfl
theorem q2013 : (Jvm.Cond.methodLink "LeaderLeasesLaw" (100 : Nat) ({ cls := "LeaderLeases", name := "eventCount", desc := "(I)I" } : Jvm.MethodName)) ∈ lw_all := lw_g (lw_at lw_m9 4 rfl) rfl
theorem q2018 : (Jvm.Cond.methodLink "LeaderLeasesLaw" (321 : Nat) ({ cls := "LeaderLeasesLaw", name := "ledTime", desc := "(LLeaderLeases;I[J)I" } : Jvm.MethodName)) ∈ lw_all := lw_g (lw_at lw_m9 9 rfl) rfl
theorem q2019 : (Jvm.Cond.static ({ cls := "LeaderLeasesLaw", name := "ledTime", desc := "(LLeaderLeases;I[J)I" } : Jvm.MethodName)) ∈ lw_all := lw_g (lw_at lw_m9 10 rfl) rfl
theorem q2020 : (Jvm.Cond.codeWith ({ cls := "LeaderLeasesLaw", name := "ledTime", desc := "(LLeaderLeases;I[J)I" } : Jvm.MethodName) method_31_code (4 : Nat) (Option.some Jvm.ClassFile.FieldType.int) [((0 : Nat), (9 : Nat), (12 : Nat), (21 : Nat))]) ∈ lw_all := lw_g (lw_at lw_m9 11 rfl) rfl
theorem q2021 : (Jvm.Cond.methodLink "LeaderLeasesLaw" (103 : Nat) ({ cls := "LeaderLeases", name := "ledTime", desc := "(I)I" } : Jvm.MethodName)) ∈ lw_all := lw_g (lw_at lw_m9 12 rfl) rfl
theorem q2025 : (Jvm.Cond.methodLink "LeaderLeasesLaw" (324 : Nat) ({ cls := "LeaderLeasesLaw", name := "nextLeader", desc := "(LLeaderLeases;I[J)I" } : Jvm.MethodName)) ∈ lw_all := lw_g (lw_at lw_m9 16 rfl) rfl
theorem q2026 : (Jvm.Cond.static ({ cls := "LeaderLeasesLaw", name := "nextLeader", desc := "(LLeaderLeases;I[J)I" } : Jvm.MethodName)) ∈ lw_all := lw_g (lw_at lw_m9 17 rfl) rfl
theorem q2027 : (Jvm.Cond.codeWith ({ cls := "LeaderLeasesLaw", name := "nextLeader", desc := "(LLeaderLeases;I[J)I" } : Jvm.MethodName) method_32_code (4 : Nat) (Option.some Jvm.ClassFile.FieldType.int) [((0 : Nat), (9 : Nat), (12 : Nat), (13 : Nat))]) ∈ lw_all := lw_g (lw_at lw_m9 18 rfl) rfl
theorem q2028 : (Jvm.Cond.methodLink "LeaderLeasesLaw" (106 : Nat) ({ cls := "LeaderLeases", name := "nextLeader", desc := "(I)I" } : Jvm.MethodName)) ∈ lw_all := lw_g (lw_at lw_m9 19 rfl) rfl
theorem q2074 : (Jvm.Cond.methodLink "LeaderLeasesLaw" (327 : Nat) ({ cls := "LeaderLeasesLaw", name := "leaderlessTime", desc := "(LLeaderLeases;I[J)I" } : Jvm.MethodName)) ∈ lw_all := lw_g (lw_at lw_m9 65 rfl) rfl
theorem q2075 : (Jvm.Cond.static ({ cls := "LeaderLeasesLaw", name := "leaderlessTime", desc := "(LLeaderLeases;I[J)I" } : Jvm.MethodName)) ∈ lw_all := lw_g (lw_at lw_m9 66 rfl) rfl
theorem q2076 : (Jvm.Cond.codeWith ({ cls := "LeaderLeasesLaw", name := "leaderlessTime", desc := "(LLeaderLeases;I[J)I" } : Jvm.MethodName) method_33_code (4 : Nat) (Option.some Jvm.ClassFile.FieldType.int) [((0 : Nat), (9 : Nat), (12 : Nat), (13 : Nat))]) ∈ lw_all := lw_g (lw_at lw_m9 67 rfl) rfl
theorem q2077 : (Jvm.Cond.methodLink "LeaderLeasesLaw" (109 : Nat) ({ cls := "LeaderLeases", name := "leaderlessTime", desc := "(I)I" } : Jvm.MethodName)) ∈ lw_all := lw_g (lw_at lw_m9 68 rfl) rfl
theorem q2081 : (Jvm.Cond.methodLink "LeaderLeasesLaw" (330 : Nat) ({ cls := "LeaderLeasesLaw", name := "leaseLeft", desc := "(LLeaderLeases;I[J)I" } : Jvm.MethodName)) ∈ lw_all := lw_g (lw_at lw_m9 72 rfl) rfl
theorem q2082 : (Jvm.Cond.static ({ cls := "LeaderLeasesLaw", name := "leaseLeft", desc := "(LLeaderLeases;I[J)I" } : Jvm.MethodName)) ∈ lw_all := lw_g (lw_at lw_m9 73 rfl) rfl
theorem q2083 : (Jvm.Cond.codeWith ({ cls := "LeaderLeasesLaw", name := "leaseLeft", desc := "(LLeaderLeases;I[J)I" } : Jvm.MethodName) method_34_code (4 : Nat) (Option.some Jvm.ClassFile.FieldType.int) [((0 : Nat), (9 : Nat), (12 : Nat), (21 : Nat))]) ∈ lw_all := lw_g (lw_at lw_m9 74 rfl) rfl
theorem q2084 : (Jvm.Cond.methodLink "LeaderLeasesLaw" (112 : Nat) ({ cls := "LeaderLeases", name := "leaseLeft", desc := "(I)I" } : Jvm.MethodName)) ∈ lw_all := lw_g (lw_at lw_m9 75 rfl) rfl
theorem q2088 : (Jvm.Cond.methodLink "LeaderLeasesLaw" (345 : Nat) ({ cls := "LeaderLeasesLaw", name := "countInLog", desc := "(LLeaderLeases;II[J)I" } : Jvm.MethodName)) ∈ lw_all := lw_g (lw_at lw_m9 79 rfl) rfl
theorem q2089 : (Jvm.Cond.static ({ cls := "LeaderLeasesLaw", name := "countInLog", desc := "(LLeaderLeases;II[J)I" } : Jvm.MethodName)) ∈ lw_all := lw_g (lw_at lw_m9 80 rfl) rfl
theorem q2090 : (Jvm.Cond.codeWith ({ cls := "LeaderLeasesLaw", name := "countInLog", desc := "(LLeaderLeases;II[J)I" } : Jvm.MethodName) method_35_code (5 : Nat) (Option.some Jvm.ClassFile.FieldType.int) [((0 : Nat), (10 : Nat), (13 : Nat), (21 : Nat)), ((0 : Nat), (10 : Nat), (17 : Nat), (13 : Nat))]) ∈ lw_all := lw_g (lw_at lw_m9 81 rfl) rfl
theorem q2091 : (Jvm.Cond.methodLink "LeaderLeasesLaw" (115 : Nat) ({ cls := "LeaderLeases", name := "countInLog", desc := "(II)I" } : Jvm.MethodName)) ∈ lw_all := lw_g (lw_at lw_m9 82 rfl) rfl
theorem q2095 : (Jvm.Cond.methodLink "LeaderLeasesLaw" (348 : Nat) ({ cls := "LeaderLeasesLaw", name := "lastEventTime", desc := "(LLeaderLeases;I[J)I" } : Jvm.MethodName)) ∈ lw_all := lw_g (lw_at lw_m9 86 rfl) rfl
theorem q2096 : (Jvm.Cond.static ({ cls := "LeaderLeasesLaw", name := "lastEventTime", desc := "(LLeaderLeases;I[J)I" } : Jvm.MethodName)) ∈ lw_all := lw_g (lw_at lw_m9 87 rfl) rfl
theorem q2097 : (Jvm.Cond.codeWith ({ cls := "LeaderLeasesLaw", name := "lastEventTime", desc := "(LLeaderLeases;I[J)I" } : Jvm.MethodName) method_36_code (4 : Nat) (Option.some Jvm.ClassFile.FieldType.int) [((0 : Nat), (9 : Nat), (12 : Nat), (13 : Nat))]) ∈ lw_all := lw_g (lw_at lw_m9 88 rfl) rfl
theorem q2098 : (Jvm.Cond.methodLink "LeaderLeasesLaw" (118 : Nat) ({ cls := "LeaderLeases", name := "lastEventTime", desc := "(I)I" } : Jvm.MethodName)) ∈ lw_all := lw_g (lw_at lw_m9 89 rfl) rfl
theorem q2102 : (Jvm.Cond.methodLink "LeaderLeasesLaw" (351 : Nat) ({ cls := "LeaderLeasesLaw", name := "timeUntilLeader", desc := "(LLeaderLeases;II[J)I" } : Jvm.MethodName)) ∈ lw_all := lw_g (lw_at lw_m9 93 rfl) rfl
theorem q2103 : (Jvm.Cond.static ({ cls := "LeaderLeasesLaw", name := "timeUntilLeader", desc := "(LLeaderLeases;II[J)I" } : Jvm.MethodName)) ∈ lw_all := lw_g (lw_at lw_m9 94 rfl) rfl
theorem q2104 : (Jvm.Cond.codeWith ({ cls := "LeaderLeasesLaw", name := "timeUntilLeader", desc := "(LLeaderLeases;II[J)I" } : Jvm.MethodName) method_37_code (5 : Nat) (Option.some Jvm.ClassFile.FieldType.int) [((0 : Nat), (10 : Nat), (13 : Nat), (21 : Nat)), ((0 : Nat), (10 : Nat), (17 : Nat), (13 : Nat))]) ∈ lw_all := lw_g (lw_at lw_m9 95 rfl) rfl
theorem q2105 : (Jvm.Cond.methodLink "LeaderLeasesLaw" (121 : Nat) ({ cls := "LeaderLeases", name := "timeUntilLeader", desc := "(II)I" } : Jvm.MethodName)) ∈ lw_all := lw_g (lw_at lw_m9 96 rfl) rfl
theorem q2117 : (Jvm.Cond.methodLink "LeaderLeasesLaw" (354 : Nat) ({ cls := "LeaderLeasesLaw", name := "longestLeaderless", desc := "(LLeaderLeases;I[J)I" } : Jvm.MethodName)) ∈ lw_all := lw_g (lw_at lw_m9 108 rfl) rfl
theorem q2118 : (Jvm.Cond.static ({ cls := "LeaderLeasesLaw", name := "longestLeaderless", desc := "(LLeaderLeases;I[J)I" } : Jvm.MethodName)) ∈ lw_all := lw_g (lw_at lw_m9 109 rfl) rfl
theorem q2119 : (Jvm.Cond.codeWith ({ cls := "LeaderLeasesLaw", name := "longestLeaderless", desc := "(LLeaderLeases;I[J)I" } : Jvm.MethodName) method_38_code (4 : Nat) (Option.some Jvm.ClassFile.FieldType.int) [((0 : Nat), (9 : Nat), (12 : Nat), (13 : Nat))]) ∈ lw_all := lw_g (lw_at lw_m9 110 rfl) rfl
theorem q2120 : (Jvm.Cond.methodLink "LeaderLeasesLaw" (124 : Nat) ({ cls := "LeaderLeases", name := "longestLeaderless", desc := "(I)I" } : Jvm.MethodName)) ∈ lw_all := lw_g (lw_at lw_m9 111 rfl) rfl
theorem q2132 : (Jvm.Cond.methodLink "LeaderLeasesLaw" (357 : Nat) ({ cls := "LeaderLeasesLaw", name := "tryWrite", desc := "(LLeaderLeases;II[J)I" } : Jvm.MethodName)) ∈ lw_all := lw_g (lw_at lw_m9 123 rfl) rfl
theorem q2133 : (Jvm.Cond.static ({ cls := "LeaderLeasesLaw", name := "tryWrite", desc := "(LLeaderLeases;II[J)I" } : Jvm.MethodName)) ∈ lw_all := lw_g (lw_at lw_m9 124 rfl) rfl
theorem q2134 : (Jvm.Cond.codeWith ({ cls := "LeaderLeasesLaw", name := "tryWrite", desc := "(LLeaderLeases;II[J)I" } : Jvm.MethodName) method_39_code (5 : Nat) (Option.some Jvm.ClassFile.FieldType.int) [((0 : Nat), (10 : Nat), (13 : Nat), (21 : Nat)), ((0 : Nat), (10 : Nat), (17 : Nat), (13 : Nat))]) ∈ lw_all := lw_g (lw_at lw_m9 125 rfl) rfl
theorem q2135 : (Jvm.Cond.methodLink "LeaderLeasesLaw" (127 : Nat) ({ cls := "LeaderLeases", name := "tryWrite", desc := "(II)I" } : Jvm.MethodName)) ∈ lw_all := lw_g (lw_at lw_m9 126 rfl) rfl
theorem q2145 : (Jvm.Cond.methodLink "LeaderLeasesLaw" (360 : Nat) ({ cls := "LeaderLeasesLaw", name := "predictRead", desc := "(LLeaderLeases;III[J)I" } : Jvm.MethodName)) ∈ lw_all := lw_g (lw_at lw_m9 136 rfl) rfl
theorem q2146 : (Jvm.Cond.static ({ cls := "LeaderLeasesLaw", name := "predictRead", desc := "(LLeaderLeases;III[J)I" } : Jvm.MethodName)) ∈ lw_all := lw_g (lw_at lw_m9 137 rfl) rfl
theorem q2147 : (Jvm.Cond.codeWith ({ cls := "LeaderLeasesLaw", name := "predictRead", desc := "(LLeaderLeases;III[J)I" } : Jvm.MethodName) method_40_code (6 : Nat) (Option.some Jvm.ClassFile.FieldType.int) [((0 : Nat), (12 : Nat), (15 : Nat), (21 : Nat)), ((0 : Nat), (12 : Nat), (19 : Nat), (13 : Nat))]) ∈ lw_all := lw_g (lw_at lw_m9 138 rfl) rfl
theorem q2148 : (Jvm.Cond.methodLink "LeaderLeasesLaw" (130 : Nat) ({ cls := "LeaderLeases", name := "predictRead", desc := "(III)I" } : Jvm.MethodName)) ∈ lw_all := lw_g (lw_at lw_m9 139 rfl) rfl
theorem q2152 : (Jvm.Cond.methodLink "LeaderLeasesLaw" (363 : Nat) ({ cls := "LeaderLeasesLaw", name := "acquiresUntil", desc := "(LLeaderLeases;II[J)I" } : Jvm.MethodName)) ∈ lw_all := lw_g (lw_at lw_m9 143 rfl) rfl
theorem q2153 : (Jvm.Cond.static ({ cls := "LeaderLeasesLaw", name := "acquiresUntil", desc := "(LLeaderLeases;II[J)I" } : Jvm.MethodName)) ∈ lw_all := lw_g (lw_at lw_m9 144 rfl) rfl
theorem q2154 : (Jvm.Cond.codeWith ({ cls := "LeaderLeasesLaw", name := "acquiresUntil", desc := "(LLeaderLeases;II[J)I" } : Jvm.MethodName) method_41_code (5 : Nat) (Option.some Jvm.ClassFile.FieldType.int) [((0 : Nat), (10 : Nat), (13 : Nat), (21 : Nat)), ((0 : Nat), (10 : Nat), (17 : Nat), (13 : Nat))]) ∈ lw_all := lw_g (lw_at lw_m9 145 rfl) rfl
theorem q2155 : (Jvm.Cond.methodLink "LeaderLeasesLaw" (133 : Nat) ({ cls := "LeaderLeases", name := "acquiresUntil", desc := "(II)I" } : Jvm.MethodName)) ∈ lw_all := lw_g (lw_at lw_m9 146 rfl) rfl
theorem q2159 : (Jvm.Cond.methodLink "LeaderLeasesLaw" (366 : Nat) ({ cls := "LeaderLeasesLaw", name := "saveSnapshot", desc := "(LLeaderLeases;I[J)I" } : Jvm.MethodName)) ∈ lw_all := lw_g (lw_at lw_m9 150 rfl) rfl
theorem q2160 : (Jvm.Cond.static ({ cls := "LeaderLeasesLaw", name := "saveSnapshot", desc := "(LLeaderLeases;I[J)I" } : Jvm.MethodName)) ∈ lw_all := lw_g (lw_at lw_m9 151 rfl) rfl
theorem q2161 : (Jvm.Cond.codeWith ({ cls := "LeaderLeasesLaw", name := "saveSnapshot", desc := "(LLeaderLeases;I[J)I" } : Jvm.MethodName) method_42_code (4 : Nat) (Option.some Jvm.ClassFile.FieldType.int) [((0 : Nat), (9 : Nat), (12 : Nat), (13 : Nat))]) ∈ lw_all := lw_g (lw_at lw_m9 152 rfl) rfl
theorem q2162 : (Jvm.Cond.methodLink "LeaderLeasesLaw" (136 : Nat) ({ cls := "LeaderLeases", name := "saveSnapshot", desc := "(I)I" } : Jvm.MethodName)) ∈ lw_all := lw_g (lw_at lw_m9 153 rfl) rfl
theorem q2166 : (Jvm.Cond.methodLink "LeaderLeasesLaw" (369 : Nat) ({ cls := "LeaderLeasesLaw", name := "restoreSnapshot", desc := "(LLeaderLeases;I[J)I" } : Jvm.MethodName)) ∈ lw_all := lw_g (lw_at lw_m9 157 rfl) rfl
theorem q2167 : (Jvm.Cond.static ({ cls := "LeaderLeasesLaw", name := "restoreSnapshot", desc := "(LLeaderLeases;I[J)I" } : Jvm.MethodName)) ∈ lw_all := lw_g (lw_at lw_m9 158 rfl) rfl
theorem q2168 : (Jvm.Cond.codeWith ({ cls := "LeaderLeasesLaw", name := "restoreSnapshot", desc := "(LLeaderLeases;I[J)I" } : Jvm.MethodName) method_43_code (4 : Nat) (Option.some Jvm.ClassFile.FieldType.int) [((0 : Nat), (9 : Nat), (12 : Nat), (13 : Nat))]) ∈ lw_all := lw_g (lw_at lw_m9 159 rfl) rfl
theorem q2169 : (Jvm.Cond.methodLink "LeaderLeasesLaw" (139 : Nat) ({ cls := "LeaderLeases", name := "restoreSnapshot", desc := "(I)I" } : Jvm.MethodName)) ∈ lw_all := lw_g (lw_at lw_m9 160 rfl) rfl
theorem q2173 : (Jvm.Cond.classLink "LeaderLeasesLaw" (143 : Nat) "LeaderLeasesModel") ∈ lw_all := lw_g (lw_at lw_m9 164 rfl) rfl
theorem q2175 : (Jvm.Cond.methodLink "LeaderLeasesLaw" (145 : Nat) ({ cls := "LeaderLeasesModel", name := "<init>", desc := "()V" } : Jvm.MethodName)) ∈ lw_all := lw_g (lw_at lw_m9 166 rfl) rfl
theorem q2258 : (Jvm.Cond.methodLink "LeaderLeasesLaw" (152 : Nat) ({ cls := "LeaderLeasesModel", name := "thrown", desc := "()I" } : Jvm.MethodName)) ∈ lw_all := lw_g (lw_at lw_m10 9 rfl) rfl
theorem q2262 : (Jvm.Cond.methodLink "LeaderLeasesLaw" (151 : Nat) ({ cls := "LeaderLeasesModel", name := "appendByte", desc := "(I)I" } : Jvm.MethodName)) ∈ lw_all := lw_g (lw_at lw_m10 13 rfl) rfl
theorem q2274 : (Jvm.Cond.methodLink "LeaderLeasesLaw" (159 : Nat) ({ cls := "LeaderLeasesModel", name := "load", desc := "()I" } : Jvm.MethodName)) ∈ lw_all := lw_g (lw_at lw_m10 25 rfl) rfl
theorem q2328 : (Jvm.Cond.methodLink "LeaderLeasesLaw" (163 : Nat) ({ cls := "LeaderLeasesModel", name := "loadError", desc := "()I" } : Jvm.MethodName)) ∈ lw_all := lw_g (lw_at lw_m10 79 rfl) rfl
theorem q2332 : (Jvm.Cond.methodLink "LeaderLeasesLaw" (174 : Nat) ({ cls := "LeaderLeasesModel", name := "now", desc := "()I" } : Jvm.MethodName)) ∈ lw_all := lw_g (lw_at lw_m10 83 rfl) rfl
theorem q2336 : (Jvm.Cond.methodLink "LeaderLeasesLaw" (178 : Nat) ({ cls := "LeaderLeasesModel", name := "nodeCount", desc := "()I" } : Jvm.MethodName)) ∈ lw_all := lw_g (lw_at lw_m10 87 rfl) rfl
theorem q2340 : (Jvm.Cond.methodLink "LeaderLeasesLaw" (181 : Nat) ({ cls := "LeaderLeasesModel", name := "nodeClock", desc := "(I)I" } : Jvm.MethodName)) ∈ lw_all := lw_g (lw_at lw_m10 91 rfl) rfl
theorem q2360 : (Jvm.Cond.methodLink "LeaderLeasesLaw" (185 : Nat) ({ cls := "LeaderLeasesModel", name := "serverClock", desc := "()I" } : Jvm.MethodName)) ∈ lw_all := lw_g (lw_at lw_m10 111 rfl) rfl
theorem q2368 : (Jvm.Cond.methodLink "LeaderLeasesLaw" (166 : Nat) ({ cls := "LeaderLeasesModel", name := "advance", desc := "(I)I" } : Jvm.MethodName)) ∈ lw_all := lw_g (lw_at lw_m10 119 rfl) rfl
theorem q2496 : (Jvm.Cond.methodLink "LeaderLeasesLaw" (170 : Nat) ({ cls := "LeaderLeasesModel", name := "advanceToNextEvent", desc := "()I" } : Jvm.MethodName)) ∈ lw_all := lw_g (lw_at lw_m11 7 rfl) rfl
theorem q2500 : (Jvm.Cond.methodLink "LeaderLeasesLaw" (188 : Nat) ({ cls := "LeaderLeasesModel", name := "campaign", desc := "(I)I" } : Jvm.MethodName)) ∈ lw_all := lw_g (lw_at lw_m11 11 rfl) rfl
theorem q2508 : (Jvm.Cond.methodLink "LeaderLeasesLaw" (191 : Nat) ({ cls := "LeaderLeasesModel", name := "withdraw", desc := "(I)I" } : Jvm.MethodName)) ∈ lw_all := lw_g (lw_at lw_m11 19 rfl) rfl
theorem q2512 : (Jvm.Cond.methodLink "LeaderLeasesLaw" (194 : Nat) ({ cls := "LeaderLeasesModel", name := "crash", desc := "(I)I" } : Jvm.MethodName)) ∈ lw_all := lw_g (lw_at lw_m11 23 rfl) rfl
theorem q2516 : (Jvm.Cond.methodLink "LeaderLeasesLaw" (197 : Nat) ({ cls := "LeaderLeasesModel", name := "restart", desc := "(I)Z" } : Jvm.MethodName)) ∈ lw_all := lw_g (lw_at lw_m11 27 rfl) rfl
theorem q2520 : (Jvm.Cond.methodLink "LeaderLeasesLaw" (201 : Nat) ({ cls := "LeaderLeasesModel", name := "pause", desc := "(II)I" } : Jvm.MethodName)) ∈ lw_all := lw_g (lw_at lw_m11 31 rfl) rfl
theorem q2525 : (Jvm.Cond.methodLink "LeaderLeasesLaw" (205 : Nat) ({ cls := "LeaderLeasesModel", name := "setCut", desc := "(IZ)Z" } : Jvm.MethodName)) ∈ lw_all := lw_g (lw_at lw_m11 36 rfl) rfl
theorem q2529 : (Jvm.Cond.methodLink "LeaderLeasesLaw" (209 : Nat) ({ cls := "LeaderLeasesModel", name := "planOutage", desc := "(III)I" } : Jvm.MethodName)) ∈ lw_all := lw_g (lw_at lw_m11 40 rfl) rfl
theorem q2533 : (Jvm.Cond.methodLink "LeaderLeasesLaw" (213 : Nat) ({ cls := "LeaderLeasesModel", name := "restartServer", desc := "()I" } : Jvm.MethodName)) ∈ lw_all := lw_g (lw_at lw_m11 44 rfl) rfl
theorem q2537 : (Jvm.Cond.methodLink "LeaderLeasesLaw" (216 : Nat) ({ cls := "LeaderLeasesModel", name := "write", desc := "(III)I" } : Jvm.MethodName)) ∈ lw_all := lw_g (lw_at lw_m11 48 rfl) rfl
theorem q2553 : (Jvm.Cond.methodLink "LeaderLeasesLaw" (220 : Nat) ({ cls := "LeaderLeasesModel", name := "writeLater", desc := "(IIII)I" } : Jvm.MethodName)) ∈ lw_all := lw_g (lw_at lw_m11 64 rfl) rfl
theorem q2557 : (Jvm.Cond.methodLink "LeaderLeasesLaw" (223 : Nat) ({ cls := "LeaderLeasesModel", name := "fetch", desc := "(II)I" } : Jvm.MethodName)) ∈ lw_all := lw_g (lw_at lw_m11 68 rfl) rfl
theorem q2561 : (Jvm.Cond.methodLink "LeaderLeasesLaw" (226 : Nat) ({ cls := "LeaderLeasesModel", name := "read", desc := "(II)I" } : Jvm.MethodName)) ∈ lw_all := lw_g (lw_at lw_m11 72 rfl) rfl
theorem q2565 : (Jvm.Cond.methodLink "LeaderLeasesLaw" (229 : Nat) ({ cls := "LeaderLeasesModel", name := "stored", desc := "(I)I" } : Jvm.MethodName)) ∈ lw_all := lw_g (lw_at lw_m11 76 rfl) rfl
theorem q2573 : (Jvm.Cond.methodLink "LeaderLeasesLaw" (232 : Nat) ({ cls := "LeaderLeasesModel", name := "version", desc := "(I)I" } : Jvm.MethodName)) ∈ lw_all := lw_g (lw_at lw_m11 84 rfl) rfl
theorem q2577 : (Jvm.Cond.methodLink "LeaderLeasesLaw" (236 : Nat) ({ cls := "LeaderLeasesModel", name := "storageToken", desc := "()I" } : Jvm.MethodName)) ∈ lw_all := lw_g (lw_at lw_m11 88 rfl) rfl
theorem q2585 : (Jvm.Cond.methodLink "LeaderLeasesLaw" (240 : Nat) ({ cls := "LeaderLeasesModel", name := "holder", desc := "()I" } : Jvm.MethodName)) ∈ lw_all := lw_g (lw_at lw_m11 96 rfl) rfl
theorem q2589 : (Jvm.Cond.methodLink "LeaderLeasesLaw" (244 : Nat) ({ cls := "LeaderLeasesModel", name := "greatestToken", desc := "()I" } : Jvm.MethodName)) ∈ lw_all := lw_g (lw_at lw_m11 100 rfl) rfl
theorem q2593 : (Jvm.Cond.methodLink "LeaderLeasesLaw" (248 : Nat) ({ cls := "LeaderLeasesModel", name := "serverExpiryTime", desc := "()I" } : Jvm.MethodName)) ∈ lw_all := lw_g (lw_at lw_m11 104 rfl) rfl
theorem q2601 : (Jvm.Cond.methodLink "LeaderLeasesLaw" (252 : Nat) ({ cls := "LeaderLeasesModel", name := "graceLeft", desc := "()I" } : Jvm.MethodName)) ∈ lw_all := lw_g (lw_at lw_m11 112 rfl) rfl
theorem q2605 : (Jvm.Cond.methodLink "LeaderLeasesLaw" (255 : Nat) ({ cls := "LeaderLeasesModel", name := "isLeading", desc := "(I)Z" } : Jvm.MethodName)) ∈ lw_all := lw_g (lw_at lw_m11 116 rfl) rfl
theorem q2609 : (Jvm.Cond.methodLink "LeaderLeasesLaw" (259 : Nat) ({ cls := "LeaderLeasesModel", name := "leaders", desc := "()I" } : Jvm.MethodName)) ∈ lw_all := lw_g (lw_at lw_m11 120 rfl) rfl
theorem q2617 : (Jvm.Cond.methodLink "LeaderLeasesLaw" (262 : Nat) ({ cls := "LeaderLeasesModel", name := "token", desc := "(I)I" } : Jvm.MethodName)) ∈ lw_all := lw_g (lw_at lw_m11 128 rfl) rfl
theorem q2625 : (Jvm.Cond.methodLink "LeaderLeasesLaw" (265 : Nat) ({ cls := "LeaderLeasesModel", name := "nodeExpiryTime", desc := "(I)I" } : Jvm.MethodName)) ∈ lw_all := lw_g (lw_at lw_m11 136 rfl) rfl
theorem q2629 : (Jvm.Cond.methodLink "LeaderLeasesLaw" (268 : Nat) ({ cls := "LeaderLeasesModel", name := "margin", desc := "(I)I" } : Jvm.MethodName)) ∈ lw_all := lw_g (lw_at lw_m11 140 rfl) rfl
theorem q2633 : (Jvm.Cond.methodLink "LeaderLeasesLaw" (271 : Nat) ({ cls := "LeaderLeasesModel", name := "timerTime", desc := "(I)I" } : Jvm.MethodName)) ∈ lw_all := lw_g (lw_at lw_m11 144 rfl) rfl
theorem q2637 : (Jvm.Cond.methodLink "LeaderLeasesLaw" (274 : Nat) ({ cls := "LeaderLeasesModel", name := "nodeState", desc := "(I)I" } : Jvm.MethodName)) ∈ lw_all := lw_g (lw_at lw_m11 148 rfl) rfl
theorem q2641 : (Jvm.Cond.methodLink "LeaderLeasesLaw" (277 : Nat) ({ cls := "LeaderLeasesModel", name := "cached", desc := "(I)I" } : Jvm.MethodName)) ∈ lw_all := lw_g (lw_at lw_m11 152 rfl) rfl
theorem q2645 : (Jvm.Cond.methodLink "LeaderLeasesLaw" (332 : Nat) ({ cls := "LeaderLeasesModel", name := "leaseLeft", desc := "(I)I" } : Jvm.MethodName)) ∈ lw_all := lw_g (lw_at lw_m11 156 rfl) rfl
theorem q2649 : (Jvm.Cond.methodLink "LeaderLeasesLaw" (336 : Nat) ({ cls := "LeaderLeasesModel", name := "smallestBound", desc := "()I" } : Jvm.MethodName)) ∈ lw_all := lw_g (lw_at lw_m11 160 rfl) rfl
theorem q2654 : (Jvm.Cond.methodLink "LeaderLeasesLaw" (340 : Nat) ({ cls := "LeaderLeasesModel", name := "overtakingPairs", desc := "()I" } : Jvm.MethodName)) ∈ lw_all := lw_g (lw_at lw_m11 165 rfl) rfl
theorem q2662 : (Jvm.Cond.methodLink "LeaderLeasesLaw" (344 : Nat) ({ cls := "LeaderLeasesModel", name := "staleCaches", desc := "()I" } : Jvm.MethodName)) ∈ lw_all := lw_g (lw_at lw_m11 173 rfl) rfl
theorem q2670 : (Jvm.Cond.methodLink "LeaderLeasesLaw" (281 : Nat) ({ cls := "LeaderLeasesModel", name := "messagesOnWay", desc := "()I" } : Jvm.MethodName)) ∈ lw_all := lw_g (lw_at lw_m11 181 rfl) rfl
theorem q2674 : (Jvm.Cond.methodLink "LeaderLeasesLaw" (285 : Nat) ({ cls := "LeaderLeasesModel", name := "delayedWrites", desc := "()I" } : Jvm.MethodName)) ∈ lw_all := lw_g (lw_at lw_m11 185 rfl) rfl
theorem q2678 : (Jvm.Cond.methodLink "LeaderLeasesLaw" (289 : Nat) ({ cls := "LeaderLeasesModel", name := "messagesLost", desc := "()I" } : Jvm.MethodName)) ∈ lw_all := lw_g (lw_at lw_m11 189 rfl) rfl
theorem q2682 : (Jvm.Cond.methodLink "LeaderLeasesLaw" (293 : Nat) ({ cls := "LeaderLeasesModel", name := "logSize", desc := "()I" } : Jvm.MethodName)) ∈ lw_all := lw_g (lw_at lw_m11 193 rfl) rfl
theorem q2686 : (Jvm.Cond.methodLink "LeaderLeasesLaw" (296 : Nat) ({ cls := "LeaderLeasesModel", name := "logTime", desc := "(I)I" } : Jvm.MethodName)) ∈ lw_all := lw_g (lw_at lw_m11 197 rfl) rfl
theorem q2694 : (Jvm.Cond.methodLink "LeaderLeasesLaw" (299 : Nat) ({ cls := "LeaderLeasesModel", name := "logKind", desc := "(I)I" } : Jvm.MethodName)) ∈ lw_all := lw_g (lw_at lw_m11 205 rfl) rfl
theorem q2698 : (Jvm.Cond.methodLink "LeaderLeasesLaw" (302 : Nat) ({ cls := "LeaderLeasesModel", name := "logNode", desc := "(I)I" } : Jvm.MethodName)) ∈ lw_all := lw_g (lw_at lw_m11 209 rfl) rfl
theorem q2702 : (Jvm.Cond.methodLink "LeaderLeasesLaw" (305 : Nat) ({ cls := "LeaderLeasesModel", name := "logToken", desc := "(I)I" } : Jvm.MethodName)) ∈ lw_all := lw_g (lw_at lw_m11 213 rfl) rfl
theorem q2706 : (Jvm.Cond.methodLink "LeaderLeasesLaw" (308 : Nat) ({ cls := "LeaderLeasesModel", name := "eventCount", desc := "(I)I" } : Jvm.MethodName)) ∈ lw_all := lw_g (lw_at lw_m11 217 rfl) rfl
theorem q2711 : (Jvm.Cond.methodLink "LeaderLeasesLaw" (347 : Nat) ({ cls := "LeaderLeasesModel", name := "countInLog", desc := "(II)I" } : Jvm.MethodName)) ∈ lw_all := lw_g (lw_at lw_m11 222 rfl) rfl
theorem q2716 : (Jvm.Cond.methodLink "LeaderLeasesLaw" (350 : Nat) ({ cls := "LeaderLeasesModel", name := "lastEventTime", desc := "(I)I" } : Jvm.MethodName)) ∈ lw_all := lw_g (lw_at lw_m11 227 rfl) rfl
theorem q2720 : (Jvm.Cond.methodLink "LeaderLeasesLaw" (312 : Nat) ({ cls := "LeaderLeasesModel", name := "splitTime", desc := "()I" } : Jvm.MethodName)) ∈ lw_all := lw_g (lw_at lw_m11 231 rfl) rfl
theorem q2724 : (Jvm.Cond.methodLink "LeaderLeasesLaw" (316 : Nat) ({ cls := "LeaderLeasesModel", name := "reads", desc := "()I" } : Jvm.MethodName)) ∈ lw_all := lw_g (lw_at lw_m11 235 rfl) rfl
theorem q2728 : (Jvm.Cond.methodLink "LeaderLeasesLaw" (320 : Nat) ({ cls := "LeaderLeasesModel", name := "staleReads", desc := "()I" } : Jvm.MethodName)) ∈ lw_all := lw_g (lw_at lw_m11 239 rfl) rfl
theorem q2732 : (Jvm.Cond.methodLink "LeaderLeasesLaw" (323 : Nat) ({ cls := "LeaderLeasesModel", name := "ledTime", desc := "(I)I" } : Jvm.MethodName)) ∈ lw_all := lw_g (lw_at lw_m12 3 rfl) rfl
theorem q2736 : (Jvm.Cond.methodLink "LeaderLeasesLaw" (326 : Nat) ({ cls := "LeaderLeasesModel", name := "nextLeader", desc := "(I)I" } : Jvm.MethodName)) ∈ lw_all := lw_g (lw_at lw_m12 7 rfl) rfl
theorem q2748 : (Jvm.Cond.methodLink "LeaderLeasesLaw" (329 : Nat) ({ cls := "LeaderLeasesModel", name := "leaderlessTime", desc := "(I)I" } : Jvm.MethodName)) ∈ lw_all := lw_g (lw_at lw_m12 19 rfl) rfl
theorem q2752 : (Jvm.Cond.methodLink "LeaderLeasesLaw" (353 : Nat) ({ cls := "LeaderLeasesModel", name := "timeUntilLeader", desc := "(II)I" } : Jvm.MethodName)) ∈ lw_all := lw_g (lw_at lw_m12 23 rfl) rfl
theorem q2756 : (Jvm.Cond.methodLink "LeaderLeasesLaw" (356 : Nat) ({ cls := "LeaderLeasesModel", name := "longestLeaderless", desc := "(I)I" } : Jvm.MethodName)) ∈ lw_all := lw_g (lw_at lw_m12 27 rfl) rfl
theorem q2760 : (Jvm.Cond.methodLink "LeaderLeasesLaw" (365 : Nat) ({ cls := "LeaderLeasesModel", name := "acquiresUntil", desc := "(II)I" } : Jvm.MethodName)) ∈ lw_all := lw_g (lw_at lw_m12 31 rfl) rfl
theorem q2764 : (Jvm.Cond.methodLink "LeaderLeasesLaw" (359 : Nat) ({ cls := "LeaderLeasesModel", name := "tryWrite", desc := "(II)I" } : Jvm.MethodName)) ∈ lw_all := lw_g (lw_at lw_m12 35 rfl) rfl
theorem q2768 : (Jvm.Cond.methodLink "LeaderLeasesLaw" (362 : Nat) ({ cls := "LeaderLeasesModel", name := "predictRead", desc := "(III)I" } : Jvm.MethodName)) ∈ lw_all := lw_g (lw_at lw_m12 39 rfl) rfl
theorem q2772 : (Jvm.Cond.methodLink "LeaderLeasesLaw" (368 : Nat) ({ cls := "LeaderLeasesModel", name := "saveSnapshot", desc := "(I)I" } : Jvm.MethodName)) ∈ lw_all := lw_g (lw_at lw_m12 43 rfl) rfl
theorem q2776 : (Jvm.Cond.methodLink "LeaderLeasesLaw" (371 : Nat) ({ cls := "LeaderLeasesModel", name := "restoreSnapshot", desc := "(I)I" } : Jvm.MethodName)) ∈ lw_all := lw_g (lw_at lw_m12 47 rfl) rfl

