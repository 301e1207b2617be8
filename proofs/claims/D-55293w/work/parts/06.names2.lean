/-! TokenRingLaw -/
set_option maxRecDepth 100000
def RX0 : String := "TokenRingLaw"
abbrev cX0_join : ByteArray := method_3_code
def yX0_join : MethodName := ⟨RX0, "join", "(LTokenRing;I[J)I"⟩
def dkwX0_join_0 : List UInt8 := [44, 3, 42, 27, 182, 0, 7, 133, 80, 167, 0, 6, 78, 4, 172, 3, 172]
abbrev dktX0_join_0 : List UInt8 := dkwX0_join_0 ++ []
theorem dksX0_join_0 : cX0_join.data.toList.drop 0 = dktX0_join_0 := by decide +kernel
theorem dX0_join_0 : decode cX0_join 0 = .ok (.aload_n 2, 1) := dk_44 (dk_at dksX0_join_0 0 rfl rfl)
theorem dX0_join_1 : decode cX0_join 1 = .ok (.iconst 0, 1) := dk_3 (dk_at dksX0_join_0 1 rfl rfl)
theorem dX0_join_2 : decode cX0_join 2 = .ok (.aload_n 0, 1) := dk_42 (dk_at dksX0_join_0 2 rfl rfl)
theorem dX0_join_3 : decode cX0_join 3 = .ok (.iload_n 1, 1) := dk_27 (dk_at dksX0_join_0 3 rfl rfl)
theorem dX0_join_4 : decode cX0_join 4 = .ok (.invokevirtual 7, 3) := dk_182 0 7 (dk_at dksX0_join_0 4 rfl rfl)
theorem dX0_join_7 : decode cX0_join 7 = .ok (.i2l, 1) := dk_133 (dk_at dksX0_join_0 7 rfl rfl)
theorem dX0_join_8 : decode cX0_join 8 = .ok (.lastore, 1) := dk_80 (dk_at dksX0_join_0 8 rfl rfl)
theorem dX0_join_9 : decode cX0_join 9 = .ok (.goto 6, 3) := dk_167 0 6 (dk_at dksX0_join_0 9 rfl rfl)
theorem dX0_join_12 : decode cX0_join 12 = .ok (.astore_n 3, 1) := dk_78 (dk_at dksX0_join_0 12 rfl rfl)
theorem dX0_join_13 : decode cX0_join 13 = .ok (.iconst 1, 1) := dk_4 (dk_at dksX0_join_0 13 rfl rfl)
theorem dX0_join_14 : decode cX0_join 14 = .ok (.ireturn, 1) := dk_172 (dk_at dksX0_join_0 14 rfl rfl)
theorem dX0_join_15 : decode cX0_join 15 = .ok (.iconst 0, 1) := dk_3 (dk_at dksX0_join_0 15 rfl rfl)
theorem dX0_join_16 : decode cX0_join 16 = .ok (.ireturn, 1) := dk_172 (dk_at dksX0_join_0 16 rfl rfl)
abbrev cX0_leave : ByteArray := method_4_code
def yX0_leave : MethodName := ⟨RX0, "leave", "(LTokenRing;I[J)I"⟩
def dkwX0_leave_0 : List UInt8 := [44, 3, 42, 27, 182, 0, 15, 133, 80, 167, 0, 6, 78, 4, 172, 3, 172]
abbrev dktX0_leave_0 : List UInt8 := dkwX0_leave_0 ++ []
theorem dksX0_leave_0 : cX0_leave.data.toList.drop 0 = dktX0_leave_0 := by decide +kernel
theorem dX0_leave_0 : decode cX0_leave 0 = .ok (.aload_n 2, 1) := dk_44 (dk_at dksX0_leave_0 0 rfl rfl)
theorem dX0_leave_1 : decode cX0_leave 1 = .ok (.iconst 0, 1) := dk_3 (dk_at dksX0_leave_0 1 rfl rfl)
theorem dX0_leave_2 : decode cX0_leave 2 = .ok (.aload_n 0, 1) := dk_42 (dk_at dksX0_leave_0 2 rfl rfl)
theorem dX0_leave_3 : decode cX0_leave 3 = .ok (.iload_n 1, 1) := dk_27 (dk_at dksX0_leave_0 3 rfl rfl)
theorem dX0_leave_4 : decode cX0_leave 4 = .ok (.invokevirtual 15, 3) := dk_182 0 15 (dk_at dksX0_leave_0 4 rfl rfl)
theorem dX0_leave_7 : decode cX0_leave 7 = .ok (.i2l, 1) := dk_133 (dk_at dksX0_leave_0 7 rfl rfl)
theorem dX0_leave_8 : decode cX0_leave 8 = .ok (.lastore, 1) := dk_80 (dk_at dksX0_leave_0 8 rfl rfl)
theorem dX0_leave_9 : decode cX0_leave 9 = .ok (.goto 6, 3) := dk_167 0 6 (dk_at dksX0_leave_0 9 rfl rfl)
theorem dX0_leave_12 : decode cX0_leave 12 = .ok (.astore_n 3, 1) := dk_78 (dk_at dksX0_leave_0 12 rfl rfl)
theorem dX0_leave_13 : decode cX0_leave 13 = .ok (.iconst 1, 1) := dk_4 (dk_at dksX0_leave_0 13 rfl rfl)
theorem dX0_leave_14 : decode cX0_leave 14 = .ok (.ireturn, 1) := dk_172 (dk_at dksX0_leave_0 14 rfl rfl)
theorem dX0_leave_15 : decode cX0_leave 15 = .ok (.iconst 0, 1) := dk_3 (dk_at dksX0_leave_0 15 rfl rfl)
theorem dX0_leave_16 : decode cX0_leave 16 = .ok (.ireturn, 1) := dk_172 (dk_at dksX0_leave_0 16 rfl rfl)
abbrev cX0_queue : ByteArray := method_5_code
def yX0_queue : MethodName := ⟨RX0, "queue", "(LTokenRing;IIII[J)I"⟩
def dkwX0_queue_0 : List UInt8 := [25, 5, 3, 42, 27, 28, 29, 21, 4, 182, 0, 18, 133, 80, 167, 0, 7, 58, 6, 4, 172, 3, 172]
abbrev dktX0_queue_0 : List UInt8 := dkwX0_queue_0 ++ []
theorem dksX0_queue_0 : cX0_queue.data.toList.drop 0 = dktX0_queue_0 := by decide +kernel
theorem dX0_queue_0 : decode cX0_queue 0 = .ok (.aload 5, 2) := dk_25 5 (dk_at dksX0_queue_0 0 rfl rfl)
theorem dX0_queue_2 : decode cX0_queue 2 = .ok (.iconst 0, 1) := dk_3 (dk_at dksX0_queue_0 2 rfl rfl)
theorem dX0_queue_3 : decode cX0_queue 3 = .ok (.aload_n 0, 1) := dk_42 (dk_at dksX0_queue_0 3 rfl rfl)
theorem dX0_queue_4 : decode cX0_queue 4 = .ok (.iload_n 1, 1) := dk_27 (dk_at dksX0_queue_0 4 rfl rfl)
theorem dX0_queue_5 : decode cX0_queue 5 = .ok (.iload_n 2, 1) := dk_28 (dk_at dksX0_queue_0 5 rfl rfl)
theorem dX0_queue_6 : decode cX0_queue 6 = .ok (.iload_n 3, 1) := dk_29 (dk_at dksX0_queue_0 6 rfl rfl)
theorem dX0_queue_7 : decode cX0_queue 7 = .ok (.iload 4, 2) := dk_21 4 (dk_at dksX0_queue_0 7 rfl rfl)
theorem dX0_queue_9 : decode cX0_queue 9 = .ok (.invokevirtual 18, 3) := dk_182 0 18 (dk_at dksX0_queue_0 9 rfl rfl)
theorem dX0_queue_12 : decode cX0_queue 12 = .ok (.i2l, 1) := dk_133 (dk_at dksX0_queue_0 12 rfl rfl)
theorem dX0_queue_13 : decode cX0_queue 13 = .ok (.lastore, 1) := dk_80 (dk_at dksX0_queue_0 13 rfl rfl)
theorem dX0_queue_14 : decode cX0_queue 14 = .ok (.goto 7, 3) := dk_167 0 7 (dk_at dksX0_queue_0 14 rfl rfl)
theorem dX0_queue_17 : decode cX0_queue 17 = .ok (.astore 6, 2) := dk_58 6 (dk_at dksX0_queue_0 17 rfl rfl)
theorem dX0_queue_19 : decode cX0_queue 19 = .ok (.iconst 1, 1) := dk_4 (dk_at dksX0_queue_0 19 rfl rfl)
theorem dX0_queue_20 : decode cX0_queue 20 = .ok (.ireturn, 1) := dk_172 (dk_at dksX0_queue_0 20 rfl rfl)
theorem dX0_queue_21 : decode cX0_queue 21 = .ok (.iconst 0, 1) := dk_3 (dk_at dksX0_queue_0 21 rfl rfl)
theorem dX0_queue_22 : decode cX0_queue 22 = .ok (.ireturn, 1) := dk_172 (dk_at dksX0_queue_0 22 rfl rfl)
abbrev cX0_drop : ByteArray := method_6_code
def yX0_drop : MethodName := ⟨RX0, "drop", "(LTokenRing;I[J)I"⟩
def dkwX0_drop_0 : List UInt8 := [44, 3, 42, 27, 182, 0, 22, 133, 80, 167, 0, 6, 78, 4, 172, 3, 172]
abbrev dktX0_drop_0 : List UInt8 := dkwX0_drop_0 ++ []
theorem dksX0_drop_0 : cX0_drop.data.toList.drop 0 = dktX0_drop_0 := by decide +kernel
theorem dX0_drop_0 : decode cX0_drop 0 = .ok (.aload_n 2, 1) := dk_44 (dk_at dksX0_drop_0 0 rfl rfl)
theorem dX0_drop_1 : decode cX0_drop 1 = .ok (.iconst 0, 1) := dk_3 (dk_at dksX0_drop_0 1 rfl rfl)
theorem dX0_drop_2 : decode cX0_drop 2 = .ok (.aload_n 0, 1) := dk_42 (dk_at dksX0_drop_0 2 rfl rfl)
theorem dX0_drop_3 : decode cX0_drop 3 = .ok (.iload_n 1, 1) := dk_27 (dk_at dksX0_drop_0 3 rfl rfl)
theorem dX0_drop_4 : decode cX0_drop 4 = .ok (.invokevirtual 22, 3) := dk_182 0 22 (dk_at dksX0_drop_0 4 rfl rfl)
theorem dX0_drop_7 : decode cX0_drop 7 = .ok (.i2l, 1) := dk_133 (dk_at dksX0_drop_0 7 rfl rfl)
theorem dX0_drop_8 : decode cX0_drop 8 = .ok (.lastore, 1) := dk_80 (dk_at dksX0_drop_0 8 rfl rfl)
theorem dX0_drop_9 : decode cX0_drop 9 = .ok (.goto 6, 3) := dk_167 0 6 (dk_at dksX0_drop_0 9 rfl rfl)
theorem dX0_drop_12 : decode cX0_drop 12 = .ok (.astore_n 3, 1) := dk_78 (dk_at dksX0_drop_0 12 rfl rfl)
theorem dX0_drop_13 : decode cX0_drop 13 = .ok (.iconst 1, 1) := dk_4 (dk_at dksX0_drop_0 13 rfl rfl)
theorem dX0_drop_14 : decode cX0_drop 14 = .ok (.ireturn, 1) := dk_172 (dk_at dksX0_drop_0 14 rfl rfl)
theorem dX0_drop_15 : decode cX0_drop 15 = .ok (.iconst 0, 1) := dk_3 (dk_at dksX0_drop_0 15 rfl rfl)
theorem dX0_drop_16 : decode cX0_drop 16 = .ok (.ireturn, 1) := dk_172 (dk_at dksX0_drop_0 16 rfl rfl)
abbrev cX0_monitor : ByteArray := method_7_code
def yX0_monitor : MethodName := ⟨RX0, "monitor", "(LTokenRing;I[J)I"⟩
def dkwX0_monitor_0 : List UInt8 := [44, 3, 42, 27, 182, 0, 25, 133, 80, 167, 0, 6, 78, 4, 172, 3, 172]
abbrev dktX0_monitor_0 : List UInt8 := dkwX0_monitor_0 ++ []
theorem dksX0_monitor_0 : cX0_monitor.data.toList.drop 0 = dktX0_monitor_0 := by decide +kernel
theorem dX0_monitor_0 : decode cX0_monitor 0 = .ok (.aload_n 2, 1) := dk_44 (dk_at dksX0_monitor_0 0 rfl rfl)
theorem dX0_monitor_1 : decode cX0_monitor 1 = .ok (.iconst 0, 1) := dk_3 (dk_at dksX0_monitor_0 1 rfl rfl)
theorem dX0_monitor_2 : decode cX0_monitor 2 = .ok (.aload_n 0, 1) := dk_42 (dk_at dksX0_monitor_0 2 rfl rfl)
theorem dX0_monitor_3 : decode cX0_monitor 3 = .ok (.iload_n 1, 1) := dk_27 (dk_at dksX0_monitor_0 3 rfl rfl)
theorem dX0_monitor_4 : decode cX0_monitor 4 = .ok (.invokevirtual 25, 3) := dk_182 0 25 (dk_at dksX0_monitor_0 4 rfl rfl)
theorem dX0_monitor_7 : decode cX0_monitor 7 = .ok (.i2l, 1) := dk_133 (dk_at dksX0_monitor_0 7 rfl rfl)
theorem dX0_monitor_8 : decode cX0_monitor 8 = .ok (.lastore, 1) := dk_80 (dk_at dksX0_monitor_0 8 rfl rfl)
theorem dX0_monitor_9 : decode cX0_monitor 9 = .ok (.goto 6, 3) := dk_167 0 6 (dk_at dksX0_monitor_0 9 rfl rfl)
theorem dX0_monitor_12 : decode cX0_monitor 12 = .ok (.astore_n 3, 1) := dk_78 (dk_at dksX0_monitor_0 12 rfl rfl)
theorem dX0_monitor_13 : decode cX0_monitor 13 = .ok (.iconst 1, 1) := dk_4 (dk_at dksX0_monitor_0 13 rfl rfl)
theorem dX0_monitor_14 : decode cX0_monitor 14 = .ok (.ireturn, 1) := dk_172 (dk_at dksX0_monitor_0 14 rfl rfl)
theorem dX0_monitor_15 : decode cX0_monitor 15 = .ok (.iconst 0, 1) := dk_3 (dk_at dksX0_monitor_0 15 rfl rfl)
theorem dX0_monitor_16 : decode cX0_monitor 16 = .ok (.ireturn, 1) := dk_172 (dk_at dksX0_monitor_0 16 rfl rfl)
abbrev cX0_token : ByteArray := method_8_code
def yX0_token : MethodName := ⟨RX0, "token", "(LTokenRing;I[J)I"⟩
def dkwX0_token_0 : List UInt8 := [44, 3, 42, 27, 182, 0, 28, 133, 80, 167, 0, 6, 78, 4, 172, 3, 172]
abbrev dktX0_token_0 : List UInt8 := dkwX0_token_0 ++ []
theorem dksX0_token_0 : cX0_token.data.toList.drop 0 = dktX0_token_0 := by decide +kernel
theorem dX0_token_0 : decode cX0_token 0 = .ok (.aload_n 2, 1) := dk_44 (dk_at dksX0_token_0 0 rfl rfl)
theorem dX0_token_1 : decode cX0_token 1 = .ok (.iconst 0, 1) := dk_3 (dk_at dksX0_token_0 1 rfl rfl)
theorem dX0_token_2 : decode cX0_token 2 = .ok (.aload_n 0, 1) := dk_42 (dk_at dksX0_token_0 2 rfl rfl)
theorem dX0_token_3 : decode cX0_token 3 = .ok (.iload_n 1, 1) := dk_27 (dk_at dksX0_token_0 3 rfl rfl)
theorem dX0_token_4 : decode cX0_token 4 = .ok (.invokevirtual 28, 3) := dk_182 0 28 (dk_at dksX0_token_0 4 rfl rfl)
theorem dX0_token_7 : decode cX0_token 7 = .ok (.i2l, 1) := dk_133 (dk_at dksX0_token_0 7 rfl rfl)
theorem dX0_token_8 : decode cX0_token 8 = .ok (.lastore, 1) := dk_80 (dk_at dksX0_token_0 8 rfl rfl)
theorem dX0_token_9 : decode cX0_token 9 = .ok (.goto 6, 3) := dk_167 0 6 (dk_at dksX0_token_0 9 rfl rfl)
theorem dX0_token_12 : decode cX0_token 12 = .ok (.astore_n 3, 1) := dk_78 (dk_at dksX0_token_0 12 rfl rfl)
theorem dX0_token_13 : decode cX0_token 13 = .ok (.iconst 1, 1) := dk_4 (dk_at dksX0_token_0 13 rfl rfl)
theorem dX0_token_14 : decode cX0_token 14 = .ok (.ireturn, 1) := dk_172 (dk_at dksX0_token_0 14 rfl rfl)
theorem dX0_token_15 : decode cX0_token 15 = .ok (.iconst 0, 1) := dk_3 (dk_at dksX0_token_0 15 rfl rfl)
theorem dX0_token_16 : decode cX0_token 16 = .ok (.ireturn, 1) := dk_172 (dk_at dksX0_token_0 16 rfl rfl)
abbrev cX0_lose : ByteArray := method_9_code
def yX0_lose : MethodName := ⟨RX0, "lose", "(LTokenRing;[J)I"⟩
def dkwX0_lose_0 : List UInt8 := [43, 3, 42, 182, 0, 31, 133, 80, 167, 0, 6, 77, 4, 172, 3, 172]
abbrev dktX0_lose_0 : List UInt8 := dkwX0_lose_0 ++ []
theorem dksX0_lose_0 : cX0_lose.data.toList.drop 0 = dktX0_lose_0 := by decide +kernel
theorem dX0_lose_0 : decode cX0_lose 0 = .ok (.aload_n 1, 1) := dk_43 (dk_at dksX0_lose_0 0 rfl rfl)
theorem dX0_lose_1 : decode cX0_lose 1 = .ok (.iconst 0, 1) := dk_3 (dk_at dksX0_lose_0 1 rfl rfl)
theorem dX0_lose_2 : decode cX0_lose 2 = .ok (.aload_n 0, 1) := dk_42 (dk_at dksX0_lose_0 2 rfl rfl)
theorem dX0_lose_3 : decode cX0_lose 3 = .ok (.invokevirtual 31, 3) := dk_182 0 31 (dk_at dksX0_lose_0 3 rfl rfl)
theorem dX0_lose_6 : decode cX0_lose 6 = .ok (.i2l, 1) := dk_133 (dk_at dksX0_lose_0 6 rfl rfl)
theorem dX0_lose_7 : decode cX0_lose 7 = .ok (.lastore, 1) := dk_80 (dk_at dksX0_lose_0 7 rfl rfl)
theorem dX0_lose_8 : decode cX0_lose 8 = .ok (.goto 6, 3) := dk_167 0 6 (dk_at dksX0_lose_0 8 rfl rfl)
theorem dX0_lose_11 : decode cX0_lose 11 = .ok (.astore_n 2, 1) := dk_77 (dk_at dksX0_lose_0 11 rfl rfl)
theorem dX0_lose_12 : decode cX0_lose 12 = .ok (.iconst 1, 1) := dk_4 (dk_at dksX0_lose_0 12 rfl rfl)
theorem dX0_lose_13 : decode cX0_lose 13 = .ok (.ireturn, 1) := dk_172 (dk_at dksX0_lose_0 13 rfl rfl)
theorem dX0_lose_14 : decode cX0_lose 14 = .ok (.iconst 0, 1) := dk_3 (dk_at dksX0_lose_0 14 rfl rfl)
theorem dX0_lose_15 : decode cX0_lose 15 = .ok (.ireturn, 1) := dk_172 (dk_at dksX0_lose_0 15 rfl rfl)
abbrev cX0_tick : ByteArray := method_10_code
def yX0_tick : MethodName := ⟨RX0, "tick", "(LTokenRing;I[J)I"⟩
def dkwX0_tick_0 : List UInt8 := [44, 3, 42, 27, 182, 0, 35, 133, 80, 167, 0, 6, 78, 4, 172, 3, 172]
abbrev dktX0_tick_0 : List UInt8 := dkwX0_tick_0 ++ []
theorem dksX0_tick_0 : cX0_tick.data.toList.drop 0 = dktX0_tick_0 := by decide +kernel
theorem dX0_tick_0 : decode cX0_tick 0 = .ok (.aload_n 2, 1) := dk_44 (dk_at dksX0_tick_0 0 rfl rfl)
theorem dX0_tick_1 : decode cX0_tick 1 = .ok (.iconst 0, 1) := dk_3 (dk_at dksX0_tick_0 1 rfl rfl)
theorem dX0_tick_2 : decode cX0_tick 2 = .ok (.aload_n 0, 1) := dk_42 (dk_at dksX0_tick_0 2 rfl rfl)
theorem dX0_tick_3 : decode cX0_tick 3 = .ok (.iload_n 1, 1) := dk_27 (dk_at dksX0_tick_0 3 rfl rfl)
theorem dX0_tick_4 : decode cX0_tick 4 = .ok (.invokevirtual 35, 3) := dk_182 0 35 (dk_at dksX0_tick_0 4 rfl rfl)
theorem dX0_tick_7 : decode cX0_tick 7 = .ok (.i2l, 1) := dk_133 (dk_at dksX0_tick_0 7 rfl rfl)
theorem dX0_tick_8 : decode cX0_tick 8 = .ok (.lastore, 1) := dk_80 (dk_at dksX0_tick_0 8 rfl rfl)
theorem dX0_tick_9 : decode cX0_tick 9 = .ok (.goto 6, 3) := dk_167 0 6 (dk_at dksX0_tick_0 9 rfl rfl)
theorem dX0_tick_12 : decode cX0_tick 12 = .ok (.astore_n 3, 1) := dk_78 (dk_at dksX0_tick_0 12 rfl rfl)
theorem dX0_tick_13 : decode cX0_tick 13 = .ok (.iconst 1, 1) := dk_4 (dk_at dksX0_tick_0 13 rfl rfl)
theorem dX0_tick_14 : decode cX0_tick 14 = .ok (.ireturn, 1) := dk_172 (dk_at dksX0_tick_0 14 rfl rfl)
theorem dX0_tick_15 : decode cX0_tick 15 = .ok (.iconst 0, 1) := dk_3 (dk_at dksX0_tick_0 15 rfl rfl)
theorem dX0_tick_16 : decode cX0_tick 16 = .ok (.ireturn, 1) := dk_172 (dk_at dksX0_tick_0 16 rfl rfl)
abbrev cX0_onRing : ByteArray := method_11_code
def yX0_onRing : MethodName := ⟨RX0, "onRing", "(LTokenRing;I[J)I"⟩
def dkwX0_onRing_0 : List UInt8 := [44, 3, 42, 27, 182, 0, 38, 133, 80, 167, 0, 6, 78, 4, 172, 3, 172]
abbrev dktX0_onRing_0 : List UInt8 := dkwX0_onRing_0 ++ []
theorem dksX0_onRing_0 : cX0_onRing.data.toList.drop 0 = dktX0_onRing_0 := by decide +kernel
theorem dX0_onRing_0 : decode cX0_onRing 0 = .ok (.aload_n 2, 1) := dk_44 (dk_at dksX0_onRing_0 0 rfl rfl)
theorem dX0_onRing_1 : decode cX0_onRing 1 = .ok (.iconst 0, 1) := dk_3 (dk_at dksX0_onRing_0 1 rfl rfl)
theorem dX0_onRing_2 : decode cX0_onRing 2 = .ok (.aload_n 0, 1) := dk_42 (dk_at dksX0_onRing_0 2 rfl rfl)
theorem dX0_onRing_3 : decode cX0_onRing 3 = .ok (.iload_n 1, 1) := dk_27 (dk_at dksX0_onRing_0 3 rfl rfl)
theorem dX0_onRing_4 : decode cX0_onRing 4 = .ok (.invokevirtual 38, 3) := dk_182 0 38 (dk_at dksX0_onRing_0 4 rfl rfl)
theorem dX0_onRing_7 : decode cX0_onRing 7 = .ok (.i2l, 1) := dk_133 (dk_at dksX0_onRing_0 7 rfl rfl)
theorem dX0_onRing_8 : decode cX0_onRing 8 = .ok (.lastore, 1) := dk_80 (dk_at dksX0_onRing_0 8 rfl rfl)
theorem dX0_onRing_9 : decode cX0_onRing 9 = .ok (.goto 6, 3) := dk_167 0 6 (dk_at dksX0_onRing_0 9 rfl rfl)
theorem dX0_onRing_12 : decode cX0_onRing 12 = .ok (.astore_n 3, 1) := dk_78 (dk_at dksX0_onRing_0 12 rfl rfl)
theorem dX0_onRing_13 : decode cX0_onRing 13 = .ok (.iconst 1, 1) := dk_4 (dk_at dksX0_onRing_0 13 rfl rfl)
theorem dX0_onRing_14 : decode cX0_onRing 14 = .ok (.ireturn, 1) := dk_172 (dk_at dksX0_onRing_0 14 rfl rfl)
theorem dX0_onRing_15 : decode cX0_onRing 15 = .ok (.iconst 0, 1) := dk_3 (dk_at dksX0_onRing_0 15 rfl rfl)
theorem dX0_onRing_16 : decode cX0_onRing 16 = .ok (.ireturn, 1) := dk_172 (dk_at dksX0_onRing_0 16 rfl rfl)
abbrev cX0_stationAt : ByteArray := method_12_code
def yX0_stationAt : MethodName := ⟨RX0, "stationAt", "(LTokenRing;I[J)I"⟩
def dkwX0_stationAt_0 : List UInt8 := [44, 3, 42, 27, 182, 0, 43, 133, 80, 167, 0, 6, 78, 4, 172, 3, 172]
abbrev dktX0_stationAt_0 : List UInt8 := dkwX0_stationAt_0 ++ []
theorem dksX0_stationAt_0 : cX0_stationAt.data.toList.drop 0 = dktX0_stationAt_0 := by decide +kernel
theorem dX0_stationAt_0 : decode cX0_stationAt 0 = .ok (.aload_n 2, 1) := dk_44 (dk_at dksX0_stationAt_0 0 rfl rfl)
theorem dX0_stationAt_1 : decode cX0_stationAt 1 = .ok (.iconst 0, 1) := dk_3 (dk_at dksX0_stationAt_0 1 rfl rfl)
theorem dX0_stationAt_2 : decode cX0_stationAt 2 = .ok (.aload_n 0, 1) := dk_42 (dk_at dksX0_stationAt_0 2 rfl rfl)
theorem dX0_stationAt_3 : decode cX0_stationAt 3 = .ok (.iload_n 1, 1) := dk_27 (dk_at dksX0_stationAt_0 3 rfl rfl)
theorem dX0_stationAt_4 : decode cX0_stationAt 4 = .ok (.invokevirtual 43, 3) := dk_182 0 43 (dk_at dksX0_stationAt_0 4 rfl rfl)
theorem dX0_stationAt_7 : decode cX0_stationAt 7 = .ok (.i2l, 1) := dk_133 (dk_at dksX0_stationAt_0 7 rfl rfl)
theorem dX0_stationAt_8 : decode cX0_stationAt 8 = .ok (.lastore, 1) := dk_80 (dk_at dksX0_stationAt_0 8 rfl rfl)
theorem dX0_stationAt_9 : decode cX0_stationAt 9 = .ok (.goto 6, 3) := dk_167 0 6 (dk_at dksX0_stationAt_0 9 rfl rfl)
theorem dX0_stationAt_12 : decode cX0_stationAt 12 = .ok (.astore_n 3, 1) := dk_78 (dk_at dksX0_stationAt_0 12 rfl rfl)
theorem dX0_stationAt_13 : decode cX0_stationAt 13 = .ok (.iconst 1, 1) := dk_4 (dk_at dksX0_stationAt_0 13 rfl rfl)
theorem dX0_stationAt_14 : decode cX0_stationAt 14 = .ok (.ireturn, 1) := dk_172 (dk_at dksX0_stationAt_0 14 rfl rfl)
theorem dX0_stationAt_15 : decode cX0_stationAt 15 = .ok (.iconst 0, 1) := dk_3 (dk_at dksX0_stationAt_0 15 rfl rfl)
theorem dX0_stationAt_16 : decode cX0_stationAt 16 = .ok (.ireturn, 1) := dk_172 (dk_at dksX0_stationAt_0 16 rfl rfl)
abbrev cX0_waits : ByteArray := method_13_code
def yX0_waits : MethodName := ⟨RX0, "waits", "(LTokenRing;II[J)I"⟩
def dkwX0_waits_0 : List UInt8 := [45, 3, 42, 27, 28, 182, 0, 48, 133, 80, 167, 0, 11, 58, 4, 4, 172, 58, 4, 5, 172, 3, 172]
abbrev dktX0_waits_0 : List UInt8 := dkwX0_waits_0 ++ []
theorem dksX0_waits_0 : cX0_waits.data.toList.drop 0 = dktX0_waits_0 := by decide +kernel
theorem dX0_waits_0 : decode cX0_waits 0 = .ok (.aload_n 3, 1) := dk_45 (dk_at dksX0_waits_0 0 rfl rfl)
theorem dX0_waits_1 : decode cX0_waits 1 = .ok (.iconst 0, 1) := dk_3 (dk_at dksX0_waits_0 1 rfl rfl)
theorem dX0_waits_2 : decode cX0_waits 2 = .ok (.aload_n 0, 1) := dk_42 (dk_at dksX0_waits_0 2 rfl rfl)
theorem dX0_waits_3 : decode cX0_waits 3 = .ok (.iload_n 1, 1) := dk_27 (dk_at dksX0_waits_0 3 rfl rfl)
theorem dX0_waits_4 : decode cX0_waits 4 = .ok (.iload_n 2, 1) := dk_28 (dk_at dksX0_waits_0 4 rfl rfl)
theorem dX0_waits_5 : decode cX0_waits 5 = .ok (.invokevirtual 48, 3) := dk_182 0 48 (dk_at dksX0_waits_0 5 rfl rfl)
theorem dX0_waits_8 : decode cX0_waits 8 = .ok (.i2l, 1) := dk_133 (dk_at dksX0_waits_0 8 rfl rfl)
theorem dX0_waits_9 : decode cX0_waits 9 = .ok (.lastore, 1) := dk_80 (dk_at dksX0_waits_0 9 rfl rfl)
theorem dX0_waits_10 : decode cX0_waits 10 = .ok (.goto 11, 3) := dk_167 0 11 (dk_at dksX0_waits_0 10 rfl rfl)
theorem dX0_waits_13 : decode cX0_waits 13 = .ok (.astore 4, 2) := dk_58 4 (dk_at dksX0_waits_0 13 rfl rfl)
theorem dX0_waits_15 : decode cX0_waits 15 = .ok (.iconst 1, 1) := dk_4 (dk_at dksX0_waits_0 15 rfl rfl)
theorem dX0_waits_16 : decode cX0_waits 16 = .ok (.ireturn, 1) := dk_172 (dk_at dksX0_waits_0 16 rfl rfl)
theorem dX0_waits_17 : decode cX0_waits 17 = .ok (.astore 4, 2) := dk_58 4 (dk_at dksX0_waits_0 17 rfl rfl)
theorem dX0_waits_19 : decode cX0_waits 19 = .ok (.iconst 2, 1) := dk_5 (dk_at dksX0_waits_0 19 rfl rfl)
theorem dX0_waits_20 : decode cX0_waits 20 = .ok (.ireturn, 1) := dk_172 (dk_at dksX0_waits_0 20 rfl rfl)
theorem dX0_waits_21 : decode cX0_waits 21 = .ok (.iconst 0, 1) := dk_3 (dk_at dksX0_waits_0 21 rfl rfl)
theorem dX0_waits_22 : decode cX0_waits 22 = .ok (.ireturn, 1) := dk_172 (dk_at dksX0_waits_0 22 rfl rfl)
abbrev cX0_rankOf : ByteArray := method_14_code
def yX0_rankOf : MethodName := ⟨RX0, "rankOf", "(LTokenRing;I[J)I"⟩
def dkwX0_rankOf_0 : List UInt8 := [44, 3, 42, 27, 182, 0, 54, 133, 80, 167, 0, 6, 78, 4, 172, 3, 172]
abbrev dktX0_rankOf_0 : List UInt8 := dkwX0_rankOf_0 ++ []
theorem dksX0_rankOf_0 : cX0_rankOf.data.toList.drop 0 = dktX0_rankOf_0 := by decide +kernel
theorem dX0_rankOf_0 : decode cX0_rankOf 0 = .ok (.aload_n 2, 1) := dk_44 (dk_at dksX0_rankOf_0 0 rfl rfl)
theorem dX0_rankOf_1 : decode cX0_rankOf 1 = .ok (.iconst 0, 1) := dk_3 (dk_at dksX0_rankOf_0 1 rfl rfl)
theorem dX0_rankOf_2 : decode cX0_rankOf 2 = .ok (.aload_n 0, 1) := dk_42 (dk_at dksX0_rankOf_0 2 rfl rfl)
theorem dX0_rankOf_3 : decode cX0_rankOf 3 = .ok (.iload_n 1, 1) := dk_27 (dk_at dksX0_rankOf_0 3 rfl rfl)
theorem dX0_rankOf_4 : decode cX0_rankOf 4 = .ok (.invokevirtual 54, 3) := dk_182 0 54 (dk_at dksX0_rankOf_0 4 rfl rfl)
theorem dX0_rankOf_7 : decode cX0_rankOf 7 = .ok (.i2l, 1) := dk_133 (dk_at dksX0_rankOf_0 7 rfl rfl)
theorem dX0_rankOf_8 : decode cX0_rankOf 8 = .ok (.lastore, 1) := dk_80 (dk_at dksX0_rankOf_0 8 rfl rfl)
theorem dX0_rankOf_9 : decode cX0_rankOf 9 = .ok (.goto 6, 3) := dk_167 0 6 (dk_at dksX0_rankOf_0 9 rfl rfl)
theorem dX0_rankOf_12 : decode cX0_rankOf 12 = .ok (.astore_n 3, 1) := dk_78 (dk_at dksX0_rankOf_0 12 rfl rfl)
theorem dX0_rankOf_13 : decode cX0_rankOf 13 = .ok (.iconst 1, 1) := dk_4 (dk_at dksX0_rankOf_0 13 rfl rfl)
theorem dX0_rankOf_14 : decode cX0_rankOf 14 = .ok (.ireturn, 1) := dk_172 (dk_at dksX0_rankOf_0 14 rfl rfl)
theorem dX0_rankOf_15 : decode cX0_rankOf 15 = .ok (.iconst 0, 1) := dk_3 (dk_at dksX0_rankOf_0 15 rfl rfl)
theorem dX0_rankOf_16 : decode cX0_rankOf 16 = .ok (.ireturn, 1) := dk_172 (dk_at dksX0_rankOf_0 16 rfl rfl)
abbrev cX0_whereIs : ByteArray := method_15_code
def yX0_whereIs : MethodName := ⟨RX0, "whereIs", "(LTokenRing;I[J)I"⟩
def dkwX0_whereIs_0 : List UInt8 := [44, 3, 42, 27, 182, 0, 57, 133, 80, 167, 0, 6, 78, 4, 172, 3, 172]
abbrev dktX0_whereIs_0 : List UInt8 := dkwX0_whereIs_0 ++ []
theorem dksX0_whereIs_0 : cX0_whereIs.data.toList.drop 0 = dktX0_whereIs_0 := by decide +kernel
theorem dX0_whereIs_0 : decode cX0_whereIs 0 = .ok (.aload_n 2, 1) := dk_44 (dk_at dksX0_whereIs_0 0 rfl rfl)
theorem dX0_whereIs_1 : decode cX0_whereIs 1 = .ok (.iconst 0, 1) := dk_3 (dk_at dksX0_whereIs_0 1 rfl rfl)
theorem dX0_whereIs_2 : decode cX0_whereIs 2 = .ok (.aload_n 0, 1) := dk_42 (dk_at dksX0_whereIs_0 2 rfl rfl)
theorem dX0_whereIs_3 : decode cX0_whereIs 3 = .ok (.iload_n 1, 1) := dk_27 (dk_at dksX0_whereIs_0 3 rfl rfl)
theorem dX0_whereIs_4 : decode cX0_whereIs 4 = .ok (.invokevirtual 57, 3) := dk_182 0 57 (dk_at dksX0_whereIs_0 4 rfl rfl)
theorem dX0_whereIs_7 : decode cX0_whereIs 7 = .ok (.i2l, 1) := dk_133 (dk_at dksX0_whereIs_0 7 rfl rfl)
theorem dX0_whereIs_8 : decode cX0_whereIs 8 = .ok (.lastore, 1) := dk_80 (dk_at dksX0_whereIs_0 8 rfl rfl)
theorem dX0_whereIs_9 : decode cX0_whereIs 9 = .ok (.goto 6, 3) := dk_167 0 6 (dk_at dksX0_whereIs_0 9 rfl rfl)
theorem dX0_whereIs_12 : decode cX0_whereIs 12 = .ok (.astore_n 3, 1) := dk_78 (dk_at dksX0_whereIs_0 12 rfl rfl)
theorem dX0_whereIs_13 : decode cX0_whereIs 13 = .ok (.iconst 1, 1) := dk_4 (dk_at dksX0_whereIs_0 13 rfl rfl)
theorem dX0_whereIs_14 : decode cX0_whereIs 14 = .ok (.ireturn, 1) := dk_172 (dk_at dksX0_whereIs_0 14 rfl rfl)
theorem dX0_whereIs_15 : decode cX0_whereIs 15 = .ok (.iconst 0, 1) := dk_3 (dk_at dksX0_whereIs_0 15 rfl rfl)
theorem dX0_whereIs_16 : decode cX0_whereIs 16 = .ok (.ireturn, 1) := dk_172 (dk_at dksX0_whereIs_0 16 rfl rfl)
abbrev cX0_queueOf : ByteArray := method_16_code
def yX0_queueOf : MethodName := ⟨RX0, "queueOf", "(LTokenRing;II[J)I"⟩
def dkwX0_queueOf_0 : List UInt8 := [45, 3, 42, 27, 28, 182, 0, 60, 133, 80, 167, 0, 11, 58, 4, 4, 172, 58, 4, 5, 172, 3, 172]
abbrev dktX0_queueOf_0 : List UInt8 := dkwX0_queueOf_0 ++ []
theorem dksX0_queueOf_0 : cX0_queueOf.data.toList.drop 0 = dktX0_queueOf_0 := by decide +kernel
theorem dX0_queueOf_0 : decode cX0_queueOf 0 = .ok (.aload_n 3, 1) := dk_45 (dk_at dksX0_queueOf_0 0 rfl rfl)
theorem dX0_queueOf_1 : decode cX0_queueOf 1 = .ok (.iconst 0, 1) := dk_3 (dk_at dksX0_queueOf_0 1 rfl rfl)
theorem dX0_queueOf_2 : decode cX0_queueOf 2 = .ok (.aload_n 0, 1) := dk_42 (dk_at dksX0_queueOf_0 2 rfl rfl)
theorem dX0_queueOf_3 : decode cX0_queueOf 3 = .ok (.iload_n 1, 1) := dk_27 (dk_at dksX0_queueOf_0 3 rfl rfl)
theorem dX0_queueOf_4 : decode cX0_queueOf 4 = .ok (.iload_n 2, 1) := dk_28 (dk_at dksX0_queueOf_0 4 rfl rfl)
theorem dX0_queueOf_5 : decode cX0_queueOf 5 = .ok (.invokevirtual 60, 3) := dk_182 0 60 (dk_at dksX0_queueOf_0 5 rfl rfl)
theorem dX0_queueOf_8 : decode cX0_queueOf 8 = .ok (.i2l, 1) := dk_133 (dk_at dksX0_queueOf_0 8 rfl rfl)
theorem dX0_queueOf_9 : decode cX0_queueOf 9 = .ok (.lastore, 1) := dk_80 (dk_at dksX0_queueOf_0 9 rfl rfl)
theorem dX0_queueOf_10 : decode cX0_queueOf 10 = .ok (.goto 11, 3) := dk_167 0 11 (dk_at dksX0_queueOf_0 10 rfl rfl)
theorem dX0_queueOf_13 : decode cX0_queueOf 13 = .ok (.astore 4, 2) := dk_58 4 (dk_at dksX0_queueOf_0 13 rfl rfl)
theorem dX0_queueOf_15 : decode cX0_queueOf 15 = .ok (.iconst 1, 1) := dk_4 (dk_at dksX0_queueOf_0 15 rfl rfl)
theorem dX0_queueOf_16 : decode cX0_queueOf 16 = .ok (.ireturn, 1) := dk_172 (dk_at dksX0_queueOf_0 16 rfl rfl)
theorem dX0_queueOf_17 : decode cX0_queueOf 17 = .ok (.astore 4, 2) := dk_58 4 (dk_at dksX0_queueOf_0 17 rfl rfl)
theorem dX0_queueOf_19 : decode cX0_queueOf 19 = .ok (.iconst 2, 1) := dk_5 (dk_at dksX0_queueOf_0 19 rfl rfl)
theorem dX0_queueOf_20 : decode cX0_queueOf 20 = .ok (.ireturn, 1) := dk_172 (dk_at dksX0_queueOf_0 20 rfl rfl)
theorem dX0_queueOf_21 : decode cX0_queueOf 21 = .ok (.iconst 0, 1) := dk_3 (dk_at dksX0_queueOf_0 21 rfl rfl)
theorem dX0_queueOf_22 : decode cX0_queueOf 22 = .ok (.ireturn, 1) := dk_172 (dk_at dksX0_queueOf_0 22 rfl rfl)
abbrev cX0_next : ByteArray := method_17_code
def yX0_next : MethodName := ⟨RX0, "next", "(LTokenRing;I[J)I"⟩
def dkwX0_next_0 : List UInt8 := [44, 3, 42, 27, 182, 0, 63, 133, 80, 167, 0, 6, 78, 4, 172, 3, 172]
abbrev dktX0_next_0 : List UInt8 := dkwX0_next_0 ++ []
theorem dksX0_next_0 : cX0_next.data.toList.drop 0 = dktX0_next_0 := by decide +kernel
theorem dX0_next_0 : decode cX0_next 0 = .ok (.aload_n 2, 1) := dk_44 (dk_at dksX0_next_0 0 rfl rfl)
theorem dX0_next_1 : decode cX0_next 1 = .ok (.iconst 0, 1) := dk_3 (dk_at dksX0_next_0 1 rfl rfl)
theorem dX0_next_2 : decode cX0_next 2 = .ok (.aload_n 0, 1) := dk_42 (dk_at dksX0_next_0 2 rfl rfl)
theorem dX0_next_3 : decode cX0_next 3 = .ok (.iload_n 1, 1) := dk_27 (dk_at dksX0_next_0 3 rfl rfl)
theorem dX0_next_4 : decode cX0_next 4 = .ok (.invokevirtual 63, 3) := dk_182 0 63 (dk_at dksX0_next_0 4 rfl rfl)
theorem dX0_next_7 : decode cX0_next 7 = .ok (.i2l, 1) := dk_133 (dk_at dksX0_next_0 7 rfl rfl)
theorem dX0_next_8 : decode cX0_next 8 = .ok (.lastore, 1) := dk_80 (dk_at dksX0_next_0 8 rfl rfl)
theorem dX0_next_9 : decode cX0_next 9 = .ok (.goto 6, 3) := dk_167 0 6 (dk_at dksX0_next_0 9 rfl rfl)
theorem dX0_next_12 : decode cX0_next 12 = .ok (.astore_n 3, 1) := dk_78 (dk_at dksX0_next_0 12 rfl rfl)
theorem dX0_next_13 : decode cX0_next 13 = .ok (.iconst 1, 1) := dk_4 (dk_at dksX0_next_0 13 rfl rfl)
theorem dX0_next_14 : decode cX0_next 14 = .ok (.ireturn, 1) := dk_172 (dk_at dksX0_next_0 14 rfl rfl)
theorem dX0_next_15 : decode cX0_next 15 = .ok (.iconst 0, 1) := dk_3 (dk_at dksX0_next_0 15 rfl rfl)
theorem dX0_next_16 : decode cX0_next 16 = .ok (.ireturn, 1) := dk_172 (dk_at dksX0_next_0 16 rfl rfl)
abbrev cX0_steps : ByteArray := method_18_code
def yX0_steps : MethodName := ⟨RX0, "steps", "(LTokenRing;II[J)I"⟩
def dkwX0_steps_0 : List UInt8 := [45, 3, 42, 27, 28, 182, 0, 66, 133, 80, 167, 0, 7, 58, 4, 4, 172, 3, 172]
abbrev dktX0_steps_0 : List UInt8 := dkwX0_steps_0 ++ []
theorem dksX0_steps_0 : cX0_steps.data.toList.drop 0 = dktX0_steps_0 := by decide +kernel
theorem dX0_steps_0 : decode cX0_steps 0 = .ok (.aload_n 3, 1) := dk_45 (dk_at dksX0_steps_0 0 rfl rfl)
theorem dX0_steps_1 : decode cX0_steps 1 = .ok (.iconst 0, 1) := dk_3 (dk_at dksX0_steps_0 1 rfl rfl)
theorem dX0_steps_2 : decode cX0_steps 2 = .ok (.aload_n 0, 1) := dk_42 (dk_at dksX0_steps_0 2 rfl rfl)
theorem dX0_steps_3 : decode cX0_steps 3 = .ok (.iload_n 1, 1) := dk_27 (dk_at dksX0_steps_0 3 rfl rfl)
theorem dX0_steps_4 : decode cX0_steps 4 = .ok (.iload_n 2, 1) := dk_28 (dk_at dksX0_steps_0 4 rfl rfl)
theorem dX0_steps_5 : decode cX0_steps 5 = .ok (.invokevirtual 66, 3) := dk_182 0 66 (dk_at dksX0_steps_0 5 rfl rfl)
theorem dX0_steps_8 : decode cX0_steps 8 = .ok (.i2l, 1) := dk_133 (dk_at dksX0_steps_0 8 rfl rfl)
theorem dX0_steps_9 : decode cX0_steps 9 = .ok (.lastore, 1) := dk_80 (dk_at dksX0_steps_0 9 rfl rfl)
theorem dX0_steps_10 : decode cX0_steps 10 = .ok (.goto 7, 3) := dk_167 0 7 (dk_at dksX0_steps_0 10 rfl rfl)
theorem dX0_steps_13 : decode cX0_steps 13 = .ok (.astore 4, 2) := dk_58 4 (dk_at dksX0_steps_0 13 rfl rfl)
theorem dX0_steps_15 : decode cX0_steps 15 = .ok (.iconst 1, 1) := dk_4 (dk_at dksX0_steps_0 15 rfl rfl)
theorem dX0_steps_16 : decode cX0_steps 16 = .ok (.ireturn, 1) := dk_172 (dk_at dksX0_steps_0 16 rfl rfl)
theorem dX0_steps_17 : decode cX0_steps 17 = .ok (.iconst 0, 1) := dk_3 (dk_at dksX0_steps_0 17 rfl rfl)
theorem dX0_steps_18 : decode cX0_steps 18 = .ok (.ireturn, 1) := dk_172 (dk_at dksX0_steps_0 18 rfl rfl)
abbrev cX0_stepsAgain : ByteArray := method_19_code
def yX0_stepsAgain : MethodName := ⟨RX0, "stepsAgain", "(LTokenRing;II[J)I"⟩
def dkwX0_stepsAgain_0 : List UInt8 := [45, 3, 42, 27, 28, 182, 0, 69, 133, 80, 167, 0, 7, 58, 4, 4, 172, 3, 172]
abbrev dktX0_stepsAgain_0 : List UInt8 := dkwX0_stepsAgain_0 ++ []
theorem dksX0_stepsAgain_0 : cX0_stepsAgain.data.toList.drop 0 = dktX0_stepsAgain_0 := by decide +kernel
theorem dX0_stepsAgain_0 : decode cX0_stepsAgain 0 = .ok (.aload_n 3, 1) := dk_45 (dk_at dksX0_stepsAgain_0 0 rfl rfl)
theorem dX0_stepsAgain_1 : decode cX0_stepsAgain 1 = .ok (.iconst 0, 1) := dk_3 (dk_at dksX0_stepsAgain_0 1 rfl rfl)
theorem dX0_stepsAgain_2 : decode cX0_stepsAgain 2 = .ok (.aload_n 0, 1) := dk_42 (dk_at dksX0_stepsAgain_0 2 rfl rfl)
theorem dX0_stepsAgain_3 : decode cX0_stepsAgain 3 = .ok (.iload_n 1, 1) := dk_27 (dk_at dksX0_stepsAgain_0 3 rfl rfl)
theorem dX0_stepsAgain_4 : decode cX0_stepsAgain 4 = .ok (.iload_n 2, 1) := dk_28 (dk_at dksX0_stepsAgain_0 4 rfl rfl)
theorem dX0_stepsAgain_5 : decode cX0_stepsAgain 5 = .ok (.invokevirtual 69, 3) := dk_182 0 69 (dk_at dksX0_stepsAgain_0 5 rfl rfl)
theorem dX0_stepsAgain_8 : decode cX0_stepsAgain 8 = .ok (.i2l, 1) := dk_133 (dk_at dksX0_stepsAgain_0 8 rfl rfl)
theorem dX0_stepsAgain_9 : decode cX0_stepsAgain 9 = .ok (.lastore, 1) := dk_80 (dk_at dksX0_stepsAgain_0 9 rfl rfl)
theorem dX0_stepsAgain_10 : decode cX0_stepsAgain 10 = .ok (.goto 7, 3) := dk_167 0 7 (dk_at dksX0_stepsAgain_0 10 rfl rfl)
theorem dX0_stepsAgain_13 : decode cX0_stepsAgain 13 = .ok (.astore 4, 2) := dk_58 4 (dk_at dksX0_stepsAgain_0 13 rfl rfl)
theorem dX0_stepsAgain_15 : decode cX0_stepsAgain 15 = .ok (.iconst 1, 1) := dk_4 (dk_at dksX0_stepsAgain_0 15 rfl rfl)
theorem dX0_stepsAgain_16 : decode cX0_stepsAgain 16 = .ok (.ireturn, 1) := dk_172 (dk_at dksX0_stepsAgain_0 16 rfl rfl)
theorem dX0_stepsAgain_17 : decode cX0_stepsAgain 17 = .ok (.iconst 0, 1) := dk_3 (dk_at dksX0_stepsAgain_0 17 rfl rfl)
theorem dX0_stepsAgain_18 : decode cX0_stepsAgain 18 = .ok (.ireturn, 1) := dk_172 (dk_at dksX0_stepsAgain_0 18 rfl rfl)
abbrev cX0_isInRing : ByteArray := method_20_code
def yX0_isInRing : MethodName := ⟨RX0, "isInRing", "(LTokenRing;I[J)I"⟩
def dkwX0_isInRing_0 : List UInt8 := [44, 3, 42, 27, 182, 0, 72, 153, 0, 7, 10, 167, 0, 4, 9, 80, 167, 0, 6, 78, 4, 172, 3, 172]
abbrev dktX0_isInRing_0 : List UInt8 := dkwX0_isInRing_0 ++ []
theorem dksX0_isInRing_0 : cX0_isInRing.data.toList.drop 0 = dktX0_isInRing_0 := by decide +kernel
theorem dX0_isInRing_0 : decode cX0_isInRing 0 = .ok (.aload_n 2, 1) := dk_44 (dk_at dksX0_isInRing_0 0 rfl rfl)
theorem dX0_isInRing_1 : decode cX0_isInRing 1 = .ok (.iconst 0, 1) := dk_3 (dk_at dksX0_isInRing_0 1 rfl rfl)
theorem dX0_isInRing_2 : decode cX0_isInRing 2 = .ok (.aload_n 0, 1) := dk_42 (dk_at dksX0_isInRing_0 2 rfl rfl)
theorem dX0_isInRing_3 : decode cX0_isInRing 3 = .ok (.iload_n 1, 1) := dk_27 (dk_at dksX0_isInRing_0 3 rfl rfl)
theorem dX0_isInRing_4 : decode cX0_isInRing 4 = .ok (.invokevirtual 72, 3) := dk_182 0 72 (dk_at dksX0_isInRing_0 4 rfl rfl)
theorem dX0_isInRing_7 : decode cX0_isInRing 7 = .ok (.ifCond .eq 7, 3) := dk_153 0 7 (dk_at dksX0_isInRing_0 7 rfl rfl)
theorem dX0_isInRing_10 : decode cX0_isInRing 10 = .ok (.lconst 1, 1) := dk_10 (dk_at dksX0_isInRing_0 10 rfl rfl)
theorem dX0_isInRing_11 : decode cX0_isInRing 11 = .ok (.goto 4, 3) := dk_167 0 4 (dk_at dksX0_isInRing_0 11 rfl rfl)
theorem dX0_isInRing_14 : decode cX0_isInRing 14 = .ok (.lconst 0, 1) := dk_9 (dk_at dksX0_isInRing_0 14 rfl rfl)
theorem dX0_isInRing_15 : decode cX0_isInRing 15 = .ok (.lastore, 1) := dk_80 (dk_at dksX0_isInRing_0 15 rfl rfl)
theorem dX0_isInRing_16 : decode cX0_isInRing 16 = .ok (.goto 6, 3) := dk_167 0 6 (dk_at dksX0_isInRing_0 16 rfl rfl)
theorem dX0_isInRing_19 : decode cX0_isInRing 19 = .ok (.astore_n 3, 1) := dk_78 (dk_at dksX0_isInRing_0 19 rfl rfl)
theorem dX0_isInRing_20 : decode cX0_isInRing 20 = .ok (.iconst 1, 1) := dk_4 (dk_at dksX0_isInRing_0 20 rfl rfl)
theorem dX0_isInRing_21 : decode cX0_isInRing 21 = .ok (.ireturn, 1) := dk_172 (dk_at dksX0_isInRing_0 21 rfl rfl)
theorem dX0_isInRing_22 : decode cX0_isInRing 22 = .ok (.iconst 0, 1) := dk_3 (dk_at dksX0_isInRing_0 22 rfl rfl)
theorem dX0_isInRing_23 : decode cX0_isInRing 23 = .ok (.ireturn, 1) := dk_172 (dk_at dksX0_isInRing_0 23 rfl rfl)
abbrev cX0_canTake : ByteArray := method_21_code
def yX0_canTake : MethodName := ⟨RX0, "canTake", "(LTokenRing;I[J)I"⟩
def dkwX0_canTake_0 : List UInt8 := [44, 3, 42, 27, 182, 0, 76, 153, 0, 7, 10, 167, 0, 4, 9, 80, 167, 0, 6, 78, 4, 172, 3, 172]
abbrev dktX0_canTake_0 : List UInt8 := dkwX0_canTake_0 ++ []
theorem dksX0_canTake_0 : cX0_canTake.data.toList.drop 0 = dktX0_canTake_0 := by decide +kernel
theorem dX0_canTake_0 : decode cX0_canTake 0 = .ok (.aload_n 2, 1) := dk_44 (dk_at dksX0_canTake_0 0 rfl rfl)
theorem dX0_canTake_1 : decode cX0_canTake 1 = .ok (.iconst 0, 1) := dk_3 (dk_at dksX0_canTake_0 1 rfl rfl)
theorem dX0_canTake_2 : decode cX0_canTake 2 = .ok (.aload_n 0, 1) := dk_42 (dk_at dksX0_canTake_0 2 rfl rfl)
theorem dX0_canTake_3 : decode cX0_canTake 3 = .ok (.iload_n 1, 1) := dk_27 (dk_at dksX0_canTake_0 3 rfl rfl)
theorem dX0_canTake_4 : decode cX0_canTake 4 = .ok (.invokevirtual 76, 3) := dk_182 0 76 (dk_at dksX0_canTake_0 4 rfl rfl)
theorem dX0_canTake_7 : decode cX0_canTake 7 = .ok (.ifCond .eq 7, 3) := dk_153 0 7 (dk_at dksX0_canTake_0 7 rfl rfl)
theorem dX0_canTake_10 : decode cX0_canTake 10 = .ok (.lconst 1, 1) := dk_10 (dk_at dksX0_canTake_0 10 rfl rfl)
theorem dX0_canTake_11 : decode cX0_canTake 11 = .ok (.goto 4, 3) := dk_167 0 4 (dk_at dksX0_canTake_0 11 rfl rfl)
theorem dX0_canTake_14 : decode cX0_canTake 14 = .ok (.lconst 0, 1) := dk_9 (dk_at dksX0_canTake_0 14 rfl rfl)
theorem dX0_canTake_15 : decode cX0_canTake 15 = .ok (.lastore, 1) := dk_80 (dk_at dksX0_canTake_0 15 rfl rfl)
theorem dX0_canTake_16 : decode cX0_canTake 16 = .ok (.goto 6, 3) := dk_167 0 6 (dk_at dksX0_canTake_0 16 rfl rfl)
theorem dX0_canTake_19 : decode cX0_canTake 19 = .ok (.astore_n 3, 1) := dk_78 (dk_at dksX0_canTake_0 19 rfl rfl)
theorem dX0_canTake_20 : decode cX0_canTake 20 = .ok (.iconst 1, 1) := dk_4 (dk_at dksX0_canTake_0 20 rfl rfl)
theorem dX0_canTake_21 : decode cX0_canTake 21 = .ok (.ireturn, 1) := dk_172 (dk_at dksX0_canTake_0 21 rfl rfl)
theorem dX0_canTake_22 : decode cX0_canTake 22 = .ok (.iconst 0, 1) := dk_3 (dk_at dksX0_canTake_0 22 rfl rfl)
theorem dX0_canTake_23 : decode cX0_canTake 23 = .ok (.ireturn, 1) := dk_172 (dk_at dksX0_canTake_0 23 rfl rfl)
abbrev cX0_whoTakes : ByteArray := method_22_code
def yX0_whoTakes : MethodName := ⟨RX0, "whoTakes", "(LTokenRing;[J)I"⟩
def dkwX0_whoTakes_0 : List UInt8 := [43, 3, 42, 182, 0, 79, 133, 80, 167, 0, 6, 77, 4, 172, 3, 172]
abbrev dktX0_whoTakes_0 : List UInt8 := dkwX0_whoTakes_0 ++ []
theorem dksX0_whoTakes_0 : cX0_whoTakes.data.toList.drop 0 = dktX0_whoTakes_0 := by decide +kernel
theorem dX0_whoTakes_0 : decode cX0_whoTakes 0 = .ok (.aload_n 1, 1) := dk_43 (dk_at dksX0_whoTakes_0 0 rfl rfl)
theorem dX0_whoTakes_1 : decode cX0_whoTakes 1 = .ok (.iconst 0, 1) := dk_3 (dk_at dksX0_whoTakes_0 1 rfl rfl)
theorem dX0_whoTakes_2 : decode cX0_whoTakes 2 = .ok (.aload_n 0, 1) := dk_42 (dk_at dksX0_whoTakes_0 2 rfl rfl)
theorem dX0_whoTakes_3 : decode cX0_whoTakes 3 = .ok (.invokevirtual 79, 3) := dk_182 0 79 (dk_at dksX0_whoTakes_0 3 rfl rfl)
theorem dX0_whoTakes_6 : decode cX0_whoTakes 6 = .ok (.i2l, 1) := dk_133 (dk_at dksX0_whoTakes_0 6 rfl rfl)
theorem dX0_whoTakes_7 : decode cX0_whoTakes 7 = .ok (.lastore, 1) := dk_80 (dk_at dksX0_whoTakes_0 7 rfl rfl)
theorem dX0_whoTakes_8 : decode cX0_whoTakes 8 = .ok (.goto 6, 3) := dk_167 0 6 (dk_at dksX0_whoTakes_0 8 rfl rfl)
theorem dX0_whoTakes_11 : decode cX0_whoTakes 11 = .ok (.astore_n 2, 1) := dk_77 (dk_at dksX0_whoTakes_0 11 rfl rfl)
theorem dX0_whoTakes_12 : decode cX0_whoTakes 12 = .ok (.iconst 1, 1) := dk_4 (dk_at dksX0_whoTakes_0 12 rfl rfl)
theorem dX0_whoTakes_13 : decode cX0_whoTakes 13 = .ok (.ireturn, 1) := dk_172 (dk_at dksX0_whoTakes_0 13 rfl rfl)
theorem dX0_whoTakes_14 : decode cX0_whoTakes 14 = .ok (.iconst 0, 1) := dk_3 (dk_at dksX0_whoTakes_0 14 rfl rfl)
theorem dX0_whoTakes_15 : decode cX0_whoTakes 15 = .ok (.ireturn, 1) := dk_172 (dk_at dksX0_whoTakes_0 15 rfl rfl)
abbrev cX0_receivedIn : ByteArray := method_23_code
def yX0_receivedIn : MethodName := ⟨RX0, "receivedIn", "(LTokenRing;I[J)I"⟩
def dkwX0_receivedIn_0 : List UInt8 := [44, 3, 42, 27, 182, 0, 82, 133, 80, 167, 0, 6, 78, 4, 172, 3, 172]
abbrev dktX0_receivedIn_0 : List UInt8 := dkwX0_receivedIn_0 ++ []
theorem dksX0_receivedIn_0 : cX0_receivedIn.data.toList.drop 0 = dktX0_receivedIn_0 := by decide +kernel
theorem dX0_receivedIn_0 : decode cX0_receivedIn 0 = .ok (.aload_n 2, 1) := dk_44 (dk_at dksX0_receivedIn_0 0 rfl rfl)
theorem dX0_receivedIn_1 : decode cX0_receivedIn 1 = .ok (.iconst 0, 1) := dk_3 (dk_at dksX0_receivedIn_0 1 rfl rfl)
theorem dX0_receivedIn_2 : decode cX0_receivedIn 2 = .ok (.aload_n 0, 1) := dk_42 (dk_at dksX0_receivedIn_0 2 rfl rfl)
theorem dX0_receivedIn_3 : decode cX0_receivedIn 3 = .ok (.iload_n 1, 1) := dk_27 (dk_at dksX0_receivedIn_0 3 rfl rfl)
theorem dX0_receivedIn_4 : decode cX0_receivedIn 4 = .ok (.invokevirtual 82, 3) := dk_182 0 82 (dk_at dksX0_receivedIn_0 4 rfl rfl)
theorem dX0_receivedIn_7 : decode cX0_receivedIn 7 = .ok (.i2l, 1) := dk_133 (dk_at dksX0_receivedIn_0 7 rfl rfl)
theorem dX0_receivedIn_8 : decode cX0_receivedIn 8 = .ok (.lastore, 1) := dk_80 (dk_at dksX0_receivedIn_0 8 rfl rfl)
theorem dX0_receivedIn_9 : decode cX0_receivedIn 9 = .ok (.goto 6, 3) := dk_167 0 6 (dk_at dksX0_receivedIn_0 9 rfl rfl)
theorem dX0_receivedIn_12 : decode cX0_receivedIn 12 = .ok (.astore_n 3, 1) := dk_78 (dk_at dksX0_receivedIn_0 12 rfl rfl)
theorem dX0_receivedIn_13 : decode cX0_receivedIn 13 = .ok (.iconst 1, 1) := dk_4 (dk_at dksX0_receivedIn_0 13 rfl rfl)
theorem dX0_receivedIn_14 : decode cX0_receivedIn 14 = .ok (.ireturn, 1) := dk_172 (dk_at dksX0_receivedIn_0 14 rfl rfl)
theorem dX0_receivedIn_15 : decode cX0_receivedIn 15 = .ok (.iconst 0, 1) := dk_3 (dk_at dksX0_receivedIn_0 15 rfl rfl)
theorem dX0_receivedIn_16 : decode cX0_receivedIn 16 = .ok (.ireturn, 1) := dk_172 (dk_at dksX0_receivedIn_0 16 rfl rfl)
abbrev cX0_tokenIn : ByteArray := method_24_code
def yX0_tokenIn : MethodName := ⟨RX0, "tokenIn", "(LTokenRing;I[J)I"⟩
def dkwX0_tokenIn_0 : List UInt8 := [44, 3, 42, 27, 182, 0, 85, 133, 80, 167, 0, 9, 78, 4, 172, 78, 5, 172, 3, 172]
abbrev dktX0_tokenIn_0 : List UInt8 := dkwX0_tokenIn_0 ++ []
theorem dksX0_tokenIn_0 : cX0_tokenIn.data.toList.drop 0 = dktX0_tokenIn_0 := by decide +kernel
theorem dX0_tokenIn_0 : decode cX0_tokenIn 0 = .ok (.aload_n 2, 1) := dk_44 (dk_at dksX0_tokenIn_0 0 rfl rfl)
theorem dX0_tokenIn_1 : decode cX0_tokenIn 1 = .ok (.iconst 0, 1) := dk_3 (dk_at dksX0_tokenIn_0 1 rfl rfl)
theorem dX0_tokenIn_2 : decode cX0_tokenIn 2 = .ok (.aload_n 0, 1) := dk_42 (dk_at dksX0_tokenIn_0 2 rfl rfl)
theorem dX0_tokenIn_3 : decode cX0_tokenIn 3 = .ok (.iload_n 1, 1) := dk_27 (dk_at dksX0_tokenIn_0 3 rfl rfl)
theorem dX0_tokenIn_4 : decode cX0_tokenIn 4 = .ok (.invokevirtual 85, 3) := dk_182 0 85 (dk_at dksX0_tokenIn_0 4 rfl rfl)
theorem dX0_tokenIn_7 : decode cX0_tokenIn 7 = .ok (.i2l, 1) := dk_133 (dk_at dksX0_tokenIn_0 7 rfl rfl)
theorem dX0_tokenIn_8 : decode cX0_tokenIn 8 = .ok (.lastore, 1) := dk_80 (dk_at dksX0_tokenIn_0 8 rfl rfl)
theorem dX0_tokenIn_9 : decode cX0_tokenIn 9 = .ok (.goto 9, 3) := dk_167 0 9 (dk_at dksX0_tokenIn_0 9 rfl rfl)
theorem dX0_tokenIn_12 : decode cX0_tokenIn 12 = .ok (.astore_n 3, 1) := dk_78 (dk_at dksX0_tokenIn_0 12 rfl rfl)
theorem dX0_tokenIn_13 : decode cX0_tokenIn 13 = .ok (.iconst 1, 1) := dk_4 (dk_at dksX0_tokenIn_0 13 rfl rfl)
theorem dX0_tokenIn_14 : decode cX0_tokenIn 14 = .ok (.ireturn, 1) := dk_172 (dk_at dksX0_tokenIn_0 14 rfl rfl)
theorem dX0_tokenIn_15 : decode cX0_tokenIn 15 = .ok (.astore_n 3, 1) := dk_78 (dk_at dksX0_tokenIn_0 15 rfl rfl)
theorem dX0_tokenIn_16 : decode cX0_tokenIn 16 = .ok (.iconst 2, 1) := dk_5 (dk_at dksX0_tokenIn_0 16 rfl rfl)
theorem dX0_tokenIn_17 : decode cX0_tokenIn 17 = .ok (.ireturn, 1) := dk_172 (dk_at dksX0_tokenIn_0 17 rfl rfl)
theorem dX0_tokenIn_18 : decode cX0_tokenIn 18 = .ok (.iconst 0, 1) := dk_3 (dk_at dksX0_tokenIn_0 18 rfl rfl)
theorem dX0_tokenIn_19 : decode cX0_tokenIn 19 = .ok (.ireturn, 1) := dk_172 (dk_at dksX0_tokenIn_0 19 rfl rfl)
abbrev cX0_ahead : ByteArray := method_25_code
def yX0_ahead : MethodName := ⟨RX0, "ahead", "(LTokenRing;II[J)I"⟩
def dkwX0_ahead_0 : List UInt8 := [45, 3, 42, 27, 28, 182, 0, 88, 133, 80, 167, 0, 7, 58, 4, 4, 172, 3, 172]
abbrev dktX0_ahead_0 : List UInt8 := dkwX0_ahead_0 ++ []
theorem dksX0_ahead_0 : cX0_ahead.data.toList.drop 0 = dktX0_ahead_0 := by decide +kernel
theorem dX0_ahead_0 : decode cX0_ahead 0 = .ok (.aload_n 3, 1) := dk_45 (dk_at dksX0_ahead_0 0 rfl rfl)
theorem dX0_ahead_1 : decode cX0_ahead 1 = .ok (.iconst 0, 1) := dk_3 (dk_at dksX0_ahead_0 1 rfl rfl)
theorem dX0_ahead_2 : decode cX0_ahead 2 = .ok (.aload_n 0, 1) := dk_42 (dk_at dksX0_ahead_0 2 rfl rfl)
theorem dX0_ahead_3 : decode cX0_ahead 3 = .ok (.iload_n 1, 1) := dk_27 (dk_at dksX0_ahead_0 3 rfl rfl)
theorem dX0_ahead_4 : decode cX0_ahead 4 = .ok (.iload_n 2, 1) := dk_28 (dk_at dksX0_ahead_0 4 rfl rfl)
theorem dX0_ahead_5 : decode cX0_ahead 5 = .ok (.invokevirtual 88, 3) := dk_182 0 88 (dk_at dksX0_ahead_0 5 rfl rfl)
theorem dX0_ahead_8 : decode cX0_ahead 8 = .ok (.i2l, 1) := dk_133 (dk_at dksX0_ahead_0 8 rfl rfl)
theorem dX0_ahead_9 : decode cX0_ahead 9 = .ok (.lastore, 1) := dk_80 (dk_at dksX0_ahead_0 9 rfl rfl)
theorem dX0_ahead_10 : decode cX0_ahead 10 = .ok (.goto 7, 3) := dk_167 0 7 (dk_at dksX0_ahead_0 10 rfl rfl)
theorem dX0_ahead_13 : decode cX0_ahead 13 = .ok (.astore 4, 2) := dk_58 4 (dk_at dksX0_ahead_0 13 rfl rfl)
theorem dX0_ahead_15 : decode cX0_ahead 15 = .ok (.iconst 1, 1) := dk_4 (dk_at dksX0_ahead_0 15 rfl rfl)
theorem dX0_ahead_16 : decode cX0_ahead 16 = .ok (.ireturn, 1) := dk_172 (dk_at dksX0_ahead_0 16 rfl rfl)
theorem dX0_ahead_17 : decode cX0_ahead 17 = .ok (.iconst 0, 1) := dk_3 (dk_at dksX0_ahead_0 17 rfl rfl)
theorem dX0_ahead_18 : decode cX0_ahead 18 = .ok (.ireturn, 1) := dk_172 (dk_at dksX0_ahead_0 18 rfl rfl)
abbrev cX0_ranked : ByteArray := method_26_code
def yX0_ranked : MethodName := ⟨RX0, "ranked", "(LTokenRing;I[J)I"⟩
def dkwX0_ranked_0 : List UInt8 := [44, 3, 42, 27, 182, 0, 91, 133, 80, 167, 0, 6, 78, 4, 172, 3, 172]
abbrev dktX0_ranked_0 : List UInt8 := dkwX0_ranked_0 ++ []
theorem dksX0_ranked_0 : cX0_ranked.data.toList.drop 0 = dktX0_ranked_0 := by decide +kernel
theorem dX0_ranked_0 : decode cX0_ranked 0 = .ok (.aload_n 2, 1) := dk_44 (dk_at dksX0_ranked_0 0 rfl rfl)
theorem dX0_ranked_1 : decode cX0_ranked 1 = .ok (.iconst 0, 1) := dk_3 (dk_at dksX0_ranked_0 1 rfl rfl)
theorem dX0_ranked_2 : decode cX0_ranked 2 = .ok (.aload_n 0, 1) := dk_42 (dk_at dksX0_ranked_0 2 rfl rfl)
theorem dX0_ranked_3 : decode cX0_ranked 3 = .ok (.iload_n 1, 1) := dk_27 (dk_at dksX0_ranked_0 3 rfl rfl)
theorem dX0_ranked_4 : decode cX0_ranked 4 = .ok (.invokevirtual 91, 3) := dk_182 0 91 (dk_at dksX0_ranked_0 4 rfl rfl)
theorem dX0_ranked_7 : decode cX0_ranked 7 = .ok (.i2l, 1) := dk_133 (dk_at dksX0_ranked_0 7 rfl rfl)
theorem dX0_ranked_8 : decode cX0_ranked 8 = .ok (.lastore, 1) := dk_80 (dk_at dksX0_ranked_0 8 rfl rfl)
theorem dX0_ranked_9 : decode cX0_ranked 9 = .ok (.goto 6, 3) := dk_167 0 6 (dk_at dksX0_ranked_0 9 rfl rfl)
theorem dX0_ranked_12 : decode cX0_ranked 12 = .ok (.astore_n 3, 1) := dk_78 (dk_at dksX0_ranked_0 12 rfl rfl)
theorem dX0_ranked_13 : decode cX0_ranked 13 = .ok (.iconst 1, 1) := dk_4 (dk_at dksX0_ranked_0 13 rfl rfl)
theorem dX0_ranked_14 : decode cX0_ranked 14 = .ok (.ireturn, 1) := dk_172 (dk_at dksX0_ranked_0 14 rfl rfl)
theorem dX0_ranked_15 : decode cX0_ranked 15 = .ok (.iconst 0, 1) := dk_3 (dk_at dksX0_ranked_0 15 rfl rfl)
theorem dX0_ranked_16 : decode cX0_ranked 16 = .ok (.ireturn, 1) := dk_172 (dk_at dksX0_ranked_0 16 rfl rfl)
abbrev cX0_longestWait : ByteArray := method_27_code
def yX0_longestWait : MethodName := ⟨RX0, "longestWait", "(LTokenRing;[J)I"⟩
def dkwX0_longestWait_0 : List UInt8 := [43, 3, 42, 182, 0, 94, 133, 80, 167, 0, 6, 77, 4, 172, 3, 172]
abbrev dktX0_longestWait_0 : List UInt8 := dkwX0_longestWait_0 ++ []
theorem dksX0_longestWait_0 : cX0_longestWait.data.toList.drop 0 = dktX0_longestWait_0 := by decide +kernel
theorem dX0_longestWait_0 : decode cX0_longestWait 0 = .ok (.aload_n 1, 1) := dk_43 (dk_at dksX0_longestWait_0 0 rfl rfl)
theorem dX0_longestWait_1 : decode cX0_longestWait 1 = .ok (.iconst 0, 1) := dk_3 (dk_at dksX0_longestWait_0 1 rfl rfl)
theorem dX0_longestWait_2 : decode cX0_longestWait 2 = .ok (.aload_n 0, 1) := dk_42 (dk_at dksX0_longestWait_0 2 rfl rfl)
theorem dX0_longestWait_3 : decode cX0_longestWait 3 = .ok (.invokevirtual 94, 3) := dk_182 0 94 (dk_at dksX0_longestWait_0 3 rfl rfl)
theorem dX0_longestWait_6 : decode cX0_longestWait 6 = .ok (.i2l, 1) := dk_133 (dk_at dksX0_longestWait_0 6 rfl rfl)
theorem dX0_longestWait_7 : decode cX0_longestWait 7 = .ok (.lastore, 1) := dk_80 (dk_at dksX0_longestWait_0 7 rfl rfl)
theorem dX0_longestWait_8 : decode cX0_longestWait 8 = .ok (.goto 6, 3) := dk_167 0 6 (dk_at dksX0_longestWait_0 8 rfl rfl)
theorem dX0_longestWait_11 : decode cX0_longestWait 11 = .ok (.astore_n 2, 1) := dk_77 (dk_at dksX0_longestWait_0 11 rfl rfl)
theorem dX0_longestWait_12 : decode cX0_longestWait 12 = .ok (.iconst 1, 1) := dk_4 (dk_at dksX0_longestWait_0 12 rfl rfl)
theorem dX0_longestWait_13 : decode cX0_longestWait 13 = .ok (.ireturn, 1) := dk_172 (dk_at dksX0_longestWait_0 13 rfl rfl)
theorem dX0_longestWait_14 : decode cX0_longestWait 14 = .ok (.iconst 0, 1) := dk_3 (dk_at dksX0_longestWait_0 14 rfl rfl)
theorem dX0_longestWait_15 : decode cX0_longestWait 15 = .ok (.ireturn, 1) := dk_172 (dk_at dksX0_longestWait_0 15 rfl rfl)
abbrev cX0_greatest : ByteArray := method_28_code
def yX0_greatest : MethodName := ⟨RX0, "greatest", "(LTokenRing;[J)I"⟩
def dkwX0_greatest_0 : List UInt8 := [43, 3, 42, 182, 0, 97, 133, 80, 167, 0, 6, 77, 4, 172, 3, 172]
abbrev dktX0_greatest_0 : List UInt8 := dkwX0_greatest_0 ++ []
theorem dksX0_greatest_0 : cX0_greatest.data.toList.drop 0 = dktX0_greatest_0 := by decide +kernel
theorem dX0_greatest_0 : decode cX0_greatest 0 = .ok (.aload_n 1, 1) := dk_43 (dk_at dksX0_greatest_0 0 rfl rfl)
theorem dX0_greatest_1 : decode cX0_greatest 1 = .ok (.iconst 0, 1) := dk_3 (dk_at dksX0_greatest_0 1 rfl rfl)
theorem dX0_greatest_2 : decode cX0_greatest 2 = .ok (.aload_n 0, 1) := dk_42 (dk_at dksX0_greatest_0 2 rfl rfl)
theorem dX0_greatest_3 : decode cX0_greatest 3 = .ok (.invokevirtual 97, 3) := dk_182 0 97 (dk_at dksX0_greatest_0 3 rfl rfl)
theorem dX0_greatest_6 : decode cX0_greatest 6 = .ok (.i2l, 1) := dk_133 (dk_at dksX0_greatest_0 6 rfl rfl)
theorem dX0_greatest_7 : decode cX0_greatest 7 = .ok (.lastore, 1) := dk_80 (dk_at dksX0_greatest_0 7 rfl rfl)
theorem dX0_greatest_8 : decode cX0_greatest 8 = .ok (.goto 6, 3) := dk_167 0 6 (dk_at dksX0_greatest_0 8 rfl rfl)
theorem dX0_greatest_11 : decode cX0_greatest 11 = .ok (.astore_n 2, 1) := dk_77 (dk_at dksX0_greatest_0 11 rfl rfl)
theorem dX0_greatest_12 : decode cX0_greatest 12 = .ok (.iconst 1, 1) := dk_4 (dk_at dksX0_greatest_0 12 rfl rfl)
theorem dX0_greatest_13 : decode cX0_greatest 13 = .ok (.ireturn, 1) := dk_172 (dk_at dksX0_greatest_0 13 rfl rfl)
theorem dX0_greatest_14 : decode cX0_greatest 14 = .ok (.iconst 0, 1) := dk_3 (dk_at dksX0_greatest_0 14 rfl rfl)
theorem dX0_greatest_15 : decode cX0_greatest 15 = .ok (.ireturn, 1) := dk_172 (dk_at dksX0_greatest_0 15 rfl rfl)
abbrev cX0_append : ByteArray := method_29_code
def yX0_append : MethodName := ⟨RX0, "append", "(LTokenRing;C[J)I"⟩
def dkwX0_append_0 : List UInt8 := [44, 3, 42, 27, 182, 0, 100, 133, 80, 167, 0, 9, 78, 4, 172, 78, 5, 172, 3, 172]
abbrev dktX0_append_0 : List UInt8 := dkwX0_append_0 ++ []
theorem dksX0_append_0 : cX0_append.data.toList.drop 0 = dktX0_append_0 := by decide +kernel
theorem dX0_append_0 : decode cX0_append 0 = .ok (.aload_n 2, 1) := dk_44 (dk_at dksX0_append_0 0 rfl rfl)
theorem dX0_append_1 : decode cX0_append 1 = .ok (.iconst 0, 1) := dk_3 (dk_at dksX0_append_0 1 rfl rfl)
theorem dX0_append_2 : decode cX0_append 2 = .ok (.aload_n 0, 1) := dk_42 (dk_at dksX0_append_0 2 rfl rfl)
theorem dX0_append_3 : decode cX0_append 3 = .ok (.iload_n 1, 1) := dk_27 (dk_at dksX0_append_0 3 rfl rfl)
theorem dX0_append_4 : decode cX0_append 4 = .ok (.invokevirtual 100, 3) := dk_182 0 100 (dk_at dksX0_append_0 4 rfl rfl)
theorem dX0_append_7 : decode cX0_append 7 = .ok (.i2l, 1) := dk_133 (dk_at dksX0_append_0 7 rfl rfl)
theorem dX0_append_8 : decode cX0_append 8 = .ok (.lastore, 1) := dk_80 (dk_at dksX0_append_0 8 rfl rfl)
theorem dX0_append_9 : decode cX0_append 9 = .ok (.goto 9, 3) := dk_167 0 9 (dk_at dksX0_append_0 9 rfl rfl)
theorem dX0_append_12 : decode cX0_append 12 = .ok (.astore_n 3, 1) := dk_78 (dk_at dksX0_append_0 12 rfl rfl)
theorem dX0_append_13 : decode cX0_append 13 = .ok (.iconst 1, 1) := dk_4 (dk_at dksX0_append_0 13 rfl rfl)
theorem dX0_append_14 : decode cX0_append 14 = .ok (.ireturn, 1) := dk_172 (dk_at dksX0_append_0 14 rfl rfl)
theorem dX0_append_15 : decode cX0_append 15 = .ok (.astore_n 3, 1) := dk_78 (dk_at dksX0_append_0 15 rfl rfl)
theorem dX0_append_16 : decode cX0_append 16 = .ok (.iconst 2, 1) := dk_5 (dk_at dksX0_append_0 16 rfl rfl)
theorem dX0_append_17 : decode cX0_append 17 = .ok (.ireturn, 1) := dk_172 (dk_at dksX0_append_0 17 rfl rfl)
theorem dX0_append_18 : decode cX0_append 18 = .ok (.iconst 0, 1) := dk_3 (dk_at dksX0_append_0 18 rfl rfl)
theorem dX0_append_19 : decode cX0_append 19 = .ok (.ireturn, 1) := dk_172 (dk_at dksX0_append_0 19 rfl rfl)
abbrev cX0_run : ByteArray := method_30_code
def yX0_run : MethodName := ⟨RX0, "run", "(LTokenRing;[J)I"⟩
def dkwX0_run_0 : List UInt8 := [43, 3, 42, 182, 0, 106, 133, 80, 167, 0, 9, 77, 4, 172, 77, 5, 172, 3, 172]
abbrev dktX0_run_0 : List UInt8 := dkwX0_run_0 ++ []
theorem dksX0_run_0 : cX0_run.data.toList.drop 0 = dktX0_run_0 := by decide +kernel
theorem dX0_run_0 : decode cX0_run 0 = .ok (.aload_n 1, 1) := dk_43 (dk_at dksX0_run_0 0 rfl rfl)
theorem dX0_run_1 : decode cX0_run 1 = .ok (.iconst 0, 1) := dk_3 (dk_at dksX0_run_0 1 rfl rfl)
theorem dX0_run_2 : decode cX0_run 2 = .ok (.aload_n 0, 1) := dk_42 (dk_at dksX0_run_0 2 rfl rfl)
theorem dX0_run_3 : decode cX0_run 3 = .ok (.invokevirtual 106, 3) := dk_182 0 106 (dk_at dksX0_run_0 3 rfl rfl)
theorem dX0_run_6 : decode cX0_run 6 = .ok (.i2l, 1) := dk_133 (dk_at dksX0_run_0 6 rfl rfl)
theorem dX0_run_7 : decode cX0_run 7 = .ok (.lastore, 1) := dk_80 (dk_at dksX0_run_0 7 rfl rfl)
theorem dX0_run_8 : decode cX0_run 8 = .ok (.goto 9, 3) := dk_167 0 9 (dk_at dksX0_run_0 8 rfl rfl)
theorem dX0_run_11 : decode cX0_run 11 = .ok (.astore_n 2, 1) := dk_77 (dk_at dksX0_run_0 11 rfl rfl)
theorem dX0_run_12 : decode cX0_run 12 = .ok (.iconst 1, 1) := dk_4 (dk_at dksX0_run_0 12 rfl rfl)
theorem dX0_run_13 : decode cX0_run 13 = .ok (.ireturn, 1) := dk_172 (dk_at dksX0_run_0 13 rfl rfl)
theorem dX0_run_14 : decode cX0_run 14 = .ok (.astore_n 2, 1) := dk_77 (dk_at dksX0_run_0 14 rfl rfl)
theorem dX0_run_15 : decode cX0_run 15 = .ok (.iconst 2, 1) := dk_5 (dk_at dksX0_run_0 15 rfl rfl)
theorem dX0_run_16 : decode cX0_run 16 = .ok (.ireturn, 1) := dk_172 (dk_at dksX0_run_0 16 rfl rfl)
theorem dX0_run_17 : decode cX0_run 17 = .ok (.iconst 0, 1) := dk_3 (dk_at dksX0_run_0 17 rfl rfl)
theorem dX0_run_18 : decode cX0_run 18 = .ok (.ireturn, 1) := dk_172 (dk_at dksX0_run_0 18 rfl rfl)
abbrev cX0_reason : ByteArray := method_31_code
def yX0_reason : MethodName := ⟨RX0, "reason", "(LTokenRing;IZ[J)I"⟩
def dkwX0_reason_0 : List UInt8 := [45, 3, 42, 27, 28, 182, 0, 109, 133, 80, 167, 0, 11, 58, 4, 4, 172, 58, 4, 5, 172, 3, 172]
abbrev dktX0_reason_0 : List UInt8 := dkwX0_reason_0 ++ []
theorem dksX0_reason_0 : cX0_reason.data.toList.drop 0 = dktX0_reason_0 := by decide +kernel
theorem dX0_reason_0 : decode cX0_reason 0 = .ok (.aload_n 3, 1) := dk_45 (dk_at dksX0_reason_0 0 rfl rfl)
theorem dX0_reason_1 : decode cX0_reason 1 = .ok (.iconst 0, 1) := dk_3 (dk_at dksX0_reason_0 1 rfl rfl)
theorem dX0_reason_2 : decode cX0_reason 2 = .ok (.aload_n 0, 1) := dk_42 (dk_at dksX0_reason_0 2 rfl rfl)
theorem dX0_reason_3 : decode cX0_reason 3 = .ok (.iload_n 1, 1) := dk_27 (dk_at dksX0_reason_0 3 rfl rfl)
theorem dX0_reason_4 : decode cX0_reason 4 = .ok (.iload_n 2, 1) := dk_28 (dk_at dksX0_reason_0 4 rfl rfl)
theorem dX0_reason_5 : decode cX0_reason 5 = .ok (.invokevirtual 109, 3) := dk_182 0 109 (dk_at dksX0_reason_0 5 rfl rfl)
theorem dX0_reason_8 : decode cX0_reason 8 = .ok (.i2l, 1) := dk_133 (dk_at dksX0_reason_0 8 rfl rfl)
theorem dX0_reason_9 : decode cX0_reason 9 = .ok (.lastore, 1) := dk_80 (dk_at dksX0_reason_0 9 rfl rfl)
theorem dX0_reason_10 : decode cX0_reason 10 = .ok (.goto 11, 3) := dk_167 0 11 (dk_at dksX0_reason_0 10 rfl rfl)
theorem dX0_reason_13 : decode cX0_reason 13 = .ok (.astore 4, 2) := dk_58 4 (dk_at dksX0_reason_0 13 rfl rfl)
theorem dX0_reason_15 : decode cX0_reason 15 = .ok (.iconst 1, 1) := dk_4 (dk_at dksX0_reason_0 15 rfl rfl)
theorem dX0_reason_16 : decode cX0_reason 16 = .ok (.ireturn, 1) := dk_172 (dk_at dksX0_reason_0 16 rfl rfl)
theorem dX0_reason_17 : decode cX0_reason 17 = .ok (.astore 4, 2) := dk_58 4 (dk_at dksX0_reason_0 17 rfl rfl)
theorem dX0_reason_19 : decode cX0_reason 19 = .ok (.iconst 2, 1) := dk_5 (dk_at dksX0_reason_0 19 rfl rfl)
theorem dX0_reason_20 : decode cX0_reason 20 = .ok (.ireturn, 1) := dk_172 (dk_at dksX0_reason_0 20 rfl rfl)
theorem dX0_reason_21 : decode cX0_reason 21 = .ok (.iconst 0, 1) := dk_3 (dk_at dksX0_reason_0 21 rfl rfl)
theorem dX0_reason_22 : decode cX0_reason 22 = .ok (.ireturn, 1) := dk_172 (dk_at dksX0_reason_0 22 rfl rfl)
abbrev cX0_tellQueue : ByteArray := method_32_code
def yX0_tellQueue : MethodName := ⟨RX0, "tellQueue", "(LTokenRing;I[J)I"⟩
def dkwX0_tellQueue_0 : List UInt8 := [44, 3, 42, 27, 182, 0, 113, 133, 80, 167, 0, 6, 78, 4, 172, 3, 172]
abbrev dktX0_tellQueue_0 : List UInt8 := dkwX0_tellQueue_0 ++ []
theorem dksX0_tellQueue_0 : cX0_tellQueue.data.toList.drop 0 = dktX0_tellQueue_0 := by decide +kernel
theorem dX0_tellQueue_0 : decode cX0_tellQueue 0 = .ok (.aload_n 2, 1) := dk_44 (dk_at dksX0_tellQueue_0 0 rfl rfl)
theorem dX0_tellQueue_1 : decode cX0_tellQueue 1 = .ok (.iconst 0, 1) := dk_3 (dk_at dksX0_tellQueue_0 1 rfl rfl)
theorem dX0_tellQueue_2 : decode cX0_tellQueue 2 = .ok (.aload_n 0, 1) := dk_42 (dk_at dksX0_tellQueue_0 2 rfl rfl)
theorem dX0_tellQueue_3 : decode cX0_tellQueue 3 = .ok (.iload_n 1, 1) := dk_27 (dk_at dksX0_tellQueue_0 3 rfl rfl)
theorem dX0_tellQueue_4 : decode cX0_tellQueue 4 = .ok (.invokevirtual 113, 3) := dk_182 0 113 (dk_at dksX0_tellQueue_0 4 rfl rfl)
theorem dX0_tellQueue_7 : decode cX0_tellQueue 7 = .ok (.i2l, 1) := dk_133 (dk_at dksX0_tellQueue_0 7 rfl rfl)
theorem dX0_tellQueue_8 : decode cX0_tellQueue 8 = .ok (.lastore, 1) := dk_80 (dk_at dksX0_tellQueue_0 8 rfl rfl)
theorem dX0_tellQueue_9 : decode cX0_tellQueue 9 = .ok (.goto 6, 3) := dk_167 0 6 (dk_at dksX0_tellQueue_0 9 rfl rfl)
theorem dX0_tellQueue_12 : decode cX0_tellQueue 12 = .ok (.astore_n 3, 1) := dk_78 (dk_at dksX0_tellQueue_0 12 rfl rfl)
theorem dX0_tellQueue_13 : decode cX0_tellQueue 13 = .ok (.iconst 1, 1) := dk_4 (dk_at dksX0_tellQueue_0 13 rfl rfl)
theorem dX0_tellQueue_14 : decode cX0_tellQueue 14 = .ok (.ireturn, 1) := dk_172 (dk_at dksX0_tellQueue_0 14 rfl rfl)
theorem dX0_tellQueue_15 : decode cX0_tellQueue 15 = .ok (.iconst 0, 1) := dk_3 (dk_at dksX0_tellQueue_0 15 rfl rfl)
theorem dX0_tellQueue_16 : decode cX0_tellQueue 16 = .ok (.ireturn, 1) := dk_172 (dk_at dksX0_tellQueue_0 16 rfl rfl)
abbrev cX0_character : ByteArray := method_33_code
def yX0_character : MethodName := ⟨RX0, "character", "(LTokenRing;I[J)I"⟩
def dkwX0_character_0 : List UInt8 := [44, 3, 42, 27, 182, 0, 116, 133, 80, 167, 0, 6, 78, 4, 172, 3, 172]
abbrev dktX0_character_0 : List UInt8 := dkwX0_character_0 ++ []
theorem dksX0_character_0 : cX0_character.data.toList.drop 0 = dktX0_character_0 := by decide +kernel
theorem dX0_character_0 : decode cX0_character 0 = .ok (.aload_n 2, 1) := dk_44 (dk_at dksX0_character_0 0 rfl rfl)
theorem dX0_character_1 : decode cX0_character 1 = .ok (.iconst 0, 1) := dk_3 (dk_at dksX0_character_0 1 rfl rfl)
theorem dX0_character_2 : decode cX0_character 2 = .ok (.aload_n 0, 1) := dk_42 (dk_at dksX0_character_0 2 rfl rfl)
theorem dX0_character_3 : decode cX0_character 3 = .ok (.iload_n 1, 1) := dk_27 (dk_at dksX0_character_0 3 rfl rfl)
theorem dX0_character_4 : decode cX0_character 4 = .ok (.invokevirtual 116, 3) := dk_182 0 116 (dk_at dksX0_character_0 4 rfl rfl)
theorem dX0_character_7 : decode cX0_character 7 = .ok (.i2l, 1) := dk_133 (dk_at dksX0_character_0 7 rfl rfl)
theorem dX0_character_8 : decode cX0_character 8 = .ok (.lastore, 1) := dk_80 (dk_at dksX0_character_0 8 rfl rfl)
theorem dX0_character_9 : decode cX0_character 9 = .ok (.goto 6, 3) := dk_167 0 6 (dk_at dksX0_character_0 9 rfl rfl)
theorem dX0_character_12 : decode cX0_character 12 = .ok (.astore_n 3, 1) := dk_78 (dk_at dksX0_character_0 12 rfl rfl)
theorem dX0_character_13 : decode cX0_character 13 = .ok (.iconst 1, 1) := dk_4 (dk_at dksX0_character_0 13 rfl rfl)
theorem dX0_character_14 : decode cX0_character 14 = .ok (.ireturn, 1) := dk_172 (dk_at dksX0_character_0 14 rfl rfl)
theorem dX0_character_15 : decode cX0_character 15 = .ok (.iconst 0, 1) := dk_3 (dk_at dksX0_character_0 15 rfl rfl)
theorem dX0_character_16 : decode cX0_character 16 = .ok (.ireturn, 1) := dk_172 (dk_at dksX0_character_0 16 rfl rfl)
abbrev cX0_account : ByteArray := method_34_code
def yX0_account : MethodName := ⟨RX0, "account", "(LTokenRing;I[J)I"⟩
def dkwX0_account_0 : List UInt8 := [44, 3, 42, 27, 182, 0, 120, 133, 80, 167, 0, 6, 78, 4, 172, 3, 172]
abbrev dktX0_account_0 : List UInt8 := dkwX0_account_0 ++ []
theorem dksX0_account_0 : cX0_account.data.toList.drop 0 = dktX0_account_0 := by decide +kernel
theorem dX0_account_0 : decode cX0_account 0 = .ok (.aload_n 2, 1) := dk_44 (dk_at dksX0_account_0 0 rfl rfl)
theorem dX0_account_1 : decode cX0_account 1 = .ok (.iconst 0, 1) := dk_3 (dk_at dksX0_account_0 1 rfl rfl)
theorem dX0_account_2 : decode cX0_account 2 = .ok (.aload_n 0, 1) := dk_42 (dk_at dksX0_account_0 2 rfl rfl)
theorem dX0_account_3 : decode cX0_account 3 = .ok (.iload_n 1, 1) := dk_27 (dk_at dksX0_account_0 3 rfl rfl)
theorem dX0_account_4 : decode cX0_account 4 = .ok (.invokevirtual 120, 3) := dk_182 0 120 (dk_at dksX0_account_0 4 rfl rfl)
theorem dX0_account_7 : decode cX0_account 7 = .ok (.i2l, 1) := dk_133 (dk_at dksX0_account_0 7 rfl rfl)
theorem dX0_account_8 : decode cX0_account 8 = .ok (.lastore, 1) := dk_80 (dk_at dksX0_account_0 8 rfl rfl)
theorem dX0_account_9 : decode cX0_account 9 = .ok (.goto 6, 3) := dk_167 0 6 (dk_at dksX0_account_0 9 rfl rfl)
theorem dX0_account_12 : decode cX0_account 12 = .ok (.astore_n 3, 1) := dk_78 (dk_at dksX0_account_0 12 rfl rfl)
theorem dX0_account_13 : decode cX0_account 13 = .ok (.iconst 1, 1) := dk_4 (dk_at dksX0_account_0 13 rfl rfl)
theorem dX0_account_14 : decode cX0_account 14 = .ok (.ireturn, 1) := dk_172 (dk_at dksX0_account_0 14 rfl rfl)
theorem dX0_account_15 : decode cX0_account 15 = .ok (.iconst 0, 1) := dk_3 (dk_at dksX0_account_0 15 rfl rfl)
theorem dX0_account_16 : decode cX0_account 16 = .ok (.ireturn, 1) := dk_172 (dk_at dksX0_account_0 16 rfl rfl)
abbrev cX0_meanDelay : ByteArray := method_35_code
def yX0_meanDelay : MethodName := ⟨RX0, "meanDelay", "(LTokenRing;[D)I"⟩
def dkwX0_meanDelay_0 : List UInt8 := [43, 3, 42, 182, 0, 123, 82, 167, 0, 6, 77, 4, 172, 3, 172]
abbrev dktX0_meanDelay_0 : List UInt8 := dkwX0_meanDelay_0 ++ []
theorem dksX0_meanDelay_0 : cX0_meanDelay.data.toList.drop 0 = dktX0_meanDelay_0 := by decide +kernel
theorem dX0_meanDelay_0 : decode cX0_meanDelay 0 = .ok (.aload_n 1, 1) := dk_43 (dk_at dksX0_meanDelay_0 0 rfl rfl)
theorem dX0_meanDelay_1 : decode cX0_meanDelay 1 = .ok (.iconst 0, 1) := dk_3 (dk_at dksX0_meanDelay_0 1 rfl rfl)
theorem dX0_meanDelay_2 : decode cX0_meanDelay 2 = .ok (.aload_n 0, 1) := dk_42 (dk_at dksX0_meanDelay_0 2 rfl rfl)
theorem dX0_meanDelay_3 : decode cX0_meanDelay 3 = .ok (.invokevirtual 123, 3) := dk_182 0 123 (dk_at dksX0_meanDelay_0 3 rfl rfl)
theorem dX0_meanDelay_6 : decode cX0_meanDelay 6 = .ok (.dastore, 1) := dk_82 (dk_at dksX0_meanDelay_0 6 rfl rfl)
theorem dX0_meanDelay_7 : decode cX0_meanDelay 7 = .ok (.goto 6, 3) := dk_167 0 6 (dk_at dksX0_meanDelay_0 7 rfl rfl)
theorem dX0_meanDelay_10 : decode cX0_meanDelay 10 = .ok (.astore_n 2, 1) := dk_77 (dk_at dksX0_meanDelay_0 10 rfl rfl)
theorem dX0_meanDelay_11 : decode cX0_meanDelay 11 = .ok (.iconst 1, 1) := dk_4 (dk_at dksX0_meanDelay_0 11 rfl rfl)
theorem dX0_meanDelay_12 : decode cX0_meanDelay 12 = .ok (.ireturn, 1) := dk_172 (dk_at dksX0_meanDelay_0 12 rfl rfl)
theorem dX0_meanDelay_13 : decode cX0_meanDelay 13 = .ok (.iconst 0, 1) := dk_3 (dk_at dksX0_meanDelay_0 13 rfl rfl)
theorem dX0_meanDelay_14 : decode cX0_meanDelay 14 = .ok (.ireturn, 1) := dk_172 (dk_at dksX0_meanDelay_0 14 rfl rfl)
abbrev cX0_receivedShare : ByteArray := method_36_code
def yX0_receivedShare : MethodName := ⟨RX0, "receivedShare", "(LTokenRing;[D)I"⟩
def dkwX0_receivedShare_0 : List UInt8 := [43, 3, 42, 182, 0, 129, 141, 82, 167, 0, 6, 77, 4, 172, 3, 172]
abbrev dktX0_receivedShare_0 : List UInt8 := dkwX0_receivedShare_0 ++ []
theorem dksX0_receivedShare_0 : cX0_receivedShare.data.toList.drop 0 = dktX0_receivedShare_0 := by decide +kernel
theorem dX0_receivedShare_0 : decode cX0_receivedShare 0 = .ok (.aload_n 1, 1) := dk_43 (dk_at dksX0_receivedShare_0 0 rfl rfl)
theorem dX0_receivedShare_1 : decode cX0_receivedShare 1 = .ok (.iconst 0, 1) := dk_3 (dk_at dksX0_receivedShare_0 1 rfl rfl)
theorem dX0_receivedShare_2 : decode cX0_receivedShare 2 = .ok (.aload_n 0, 1) := dk_42 (dk_at dksX0_receivedShare_0 2 rfl rfl)
theorem dX0_receivedShare_3 : decode cX0_receivedShare 3 = .ok (.invokevirtual 129, 3) := dk_182 0 129 (dk_at dksX0_receivedShare_0 3 rfl rfl)
theorem dX0_receivedShare_6 : decode cX0_receivedShare 6 = .ok (.f2d, 1) := dk_141 (dk_at dksX0_receivedShare_0 6 rfl rfl)
theorem dX0_receivedShare_7 : decode cX0_receivedShare 7 = .ok (.dastore, 1) := dk_82 (dk_at dksX0_receivedShare_0 7 rfl rfl)
theorem dX0_receivedShare_8 : decode cX0_receivedShare 8 = .ok (.goto 6, 3) := dk_167 0 6 (dk_at dksX0_receivedShare_0 8 rfl rfl)
theorem dX0_receivedShare_11 : decode cX0_receivedShare 11 = .ok (.astore_n 2, 1) := dk_77 (dk_at dksX0_receivedShare_0 11 rfl rfl)
theorem dX0_receivedShare_12 : decode cX0_receivedShare 12 = .ok (.iconst 1, 1) := dk_4 (dk_at dksX0_receivedShare_0 12 rfl rfl)
theorem dX0_receivedShare_13 : decode cX0_receivedShare 13 = .ok (.ireturn, 1) := dk_172 (dk_at dksX0_receivedShare_0 13 rfl rfl)
theorem dX0_receivedShare_14 : decode cX0_receivedShare 14 = .ok (.iconst 0, 1) := dk_3 (dk_at dksX0_receivedShare_0 14 rfl rfl)
theorem dX0_receivedShare_15 : decode cX0_receivedShare 15 = .ok (.ireturn, 1) := dk_172 (dk_at dksX0_receivedShare_0 15 rfl rfl)
abbrev cX0_undo : ByteArray := method_37_code
def yX0_undo : MethodName := ⟨RX0, "undo", "(LTokenRing;[J)I"⟩
def dkwX0_undo_0 : List UInt8 := [43, 3, 42, 182, 0, 133, 133, 80, 167, 0, 6, 77, 4, 172, 3, 172]
abbrev dktX0_undo_0 : List UInt8 := dkwX0_undo_0 ++ []
theorem dksX0_undo_0 : cX0_undo.data.toList.drop 0 = dktX0_undo_0 := by decide +kernel
theorem dX0_undo_0 : decode cX0_undo 0 = .ok (.aload_n 1, 1) := dk_43 (dk_at dksX0_undo_0 0 rfl rfl)
theorem dX0_undo_1 : decode cX0_undo 1 = .ok (.iconst 0, 1) := dk_3 (dk_at dksX0_undo_0 1 rfl rfl)
theorem dX0_undo_2 : decode cX0_undo 2 = .ok (.aload_n 0, 1) := dk_42 (dk_at dksX0_undo_0 2 rfl rfl)
theorem dX0_undo_3 : decode cX0_undo 3 = .ok (.invokevirtual 133, 3) := dk_182 0 133 (dk_at dksX0_undo_0 3 rfl rfl)
theorem dX0_undo_6 : decode cX0_undo 6 = .ok (.i2l, 1) := dk_133 (dk_at dksX0_undo_0 6 rfl rfl)
theorem dX0_undo_7 : decode cX0_undo 7 = .ok (.lastore, 1) := dk_80 (dk_at dksX0_undo_0 7 rfl rfl)
theorem dX0_undo_8 : decode cX0_undo 8 = .ok (.goto 6, 3) := dk_167 0 6 (dk_at dksX0_undo_0 8 rfl rfl)
theorem dX0_undo_11 : decode cX0_undo 11 = .ok (.astore_n 2, 1) := dk_77 (dk_at dksX0_undo_0 11 rfl rfl)
theorem dX0_undo_12 : decode cX0_undo 12 = .ok (.iconst 1, 1) := dk_4 (dk_at dksX0_undo_0 12 rfl rfl)
theorem dX0_undo_13 : decode cX0_undo 13 = .ok (.ireturn, 1) := dk_172 (dk_at dksX0_undo_0 13 rfl rfl)
theorem dX0_undo_14 : decode cX0_undo 14 = .ok (.iconst 0, 1) := dk_3 (dk_at dksX0_undo_0 14 rfl rfl)
theorem dX0_undo_15 : decode cX0_undo 15 = .ok (.ireturn, 1) := dk_172 (dk_at dksX0_undo_0 15 rfl rfl)
abbrev cX0_restore : ByteArray := method_38_code
def yX0_restore : MethodName := ⟨RX0, "restore", "(LTokenRing;[J)I"⟩
def dkwX0_restore_0 : List UInt8 := [43, 3, 42, 182, 0, 136, 133, 80, 167, 0, 6, 77, 4, 172, 3, 172]
abbrev dktX0_restore_0 : List UInt8 := dkwX0_restore_0 ++ []
theorem dksX0_restore_0 : cX0_restore.data.toList.drop 0 = dktX0_restore_0 := by decide +kernel
theorem dX0_restore_0 : decode cX0_restore 0 = .ok (.aload_n 1, 1) := dk_43 (dk_at dksX0_restore_0 0 rfl rfl)
theorem dX0_restore_1 : decode cX0_restore 1 = .ok (.iconst 0, 1) := dk_3 (dk_at dksX0_restore_0 1 rfl rfl)
theorem dX0_restore_2 : decode cX0_restore 2 = .ok (.aload_n 0, 1) := dk_42 (dk_at dksX0_restore_0 2 rfl rfl)
theorem dX0_restore_3 : decode cX0_restore 3 = .ok (.invokevirtual 136, 3) := dk_182 0 136 (dk_at dksX0_restore_0 3 rfl rfl)
theorem dX0_restore_6 : decode cX0_restore 6 = .ok (.i2l, 1) := dk_133 (dk_at dksX0_restore_0 6 rfl rfl)
theorem dX0_restore_7 : decode cX0_restore 7 = .ok (.lastore, 1) := dk_80 (dk_at dksX0_restore_0 7 rfl rfl)
theorem dX0_restore_8 : decode cX0_restore 8 = .ok (.goto 6, 3) := dk_167 0 6 (dk_at dksX0_restore_0 8 rfl rfl)
theorem dX0_restore_11 : decode cX0_restore 11 = .ok (.astore_n 2, 1) := dk_77 (dk_at dksX0_restore_0 11 rfl rfl)
theorem dX0_restore_12 : decode cX0_restore 12 = .ok (.iconst 1, 1) := dk_4 (dk_at dksX0_restore_0 12 rfl rfl)
theorem dX0_restore_13 : decode cX0_restore 13 = .ok (.ireturn, 1) := dk_172 (dk_at dksX0_restore_0 13 rfl rfl)
theorem dX0_restore_14 : decode cX0_restore 14 = .ok (.iconst 0, 1) := dk_3 (dk_at dksX0_restore_0 14 rfl rfl)
theorem dX0_restore_15 : decode cX0_restore 15 = .ok (.ireturn, 1) := dk_172 (dk_at dksX0_restore_0 15 rfl rfl)
theorem q94 : (Jvm.Cond.initialized "TokenRingLaw") ∈ lw_all := lw_g (lw_at lw_m1 0 rfl) rfl
theorem q163 : (Jvm.Cond.classLink "TokenRingLaw" (8 : Nat) "TokenRing") ∈ lw_all := lw_g (lw_at lw_m1 69 rfl) rfl
theorem q165 : (Jvm.Cond.methodLink "TokenRingLaw" (139 : Nat) ({ cls := "TokenRing", name := "<init>", desc := "()V" } : Jvm.MethodName)) ∈ lw_all := lw_g (lw_at lw_m1 71 rfl) rfl
theorem q416 : (Jvm.Cond.methodLink "TokenRingLaw" (230 : Nat) ({ cls := "TokenRing", name := "waiting", desc := "()I" } : Jvm.MethodName)) ∈ lw_all := lw_g (lw_at lw_m2 82 rfl) rfl
theorem q1103 : (Jvm.Cond.methodLink "TokenRingLaw" (234 : Nat) ({ cls := "TokenRing", name := "waitingAgain", desc := "()I" } : Jvm.MethodName)) ∈ lw_all := lw_g (lw_at lw_m5 49 rfl) rfl
theorem q1107 : (Jvm.Cond.methodLink "TokenRingLaw" (245 : Nat) ({ cls := "TokenRing", name := "faultPosition", desc := "()I" } : Jvm.MethodName)) ∈ lw_all := lw_g (lw_at lw_m5 53 rfl) rfl
theorem q1111 : (Jvm.Cond.methodLink "TokenRingLaw" (253 : Nat) ({ cls := "TokenRing", name := "tellRing", desc := "()I" } : Jvm.MethodName)) ∈ lw_all := lw_g (lw_at lw_m5 57 rfl) rfl
theorem q1500 : (Jvm.Cond.methodLink "TokenRingLaw" (276 : Nat) ({ cls := "TokenRing", name := "save", desc := "()I" } : Jvm.MethodName)) ∈ lw_all := lw_g (lw_at lw_m6 206 rfl) rfl
theorem q1762 : (Jvm.Cond.methodLink "TokenRingLaw" (143 : Nat) ({ cls := "TokenRingLaw", name := "join", desc := "(LTokenRing;I[J)I" } : Jvm.MethodName)) ∈ lw_all := lw_g (lw_at lw_m7 228 rfl) rfl
theorem q1763 : (Jvm.Cond.static ({ cls := "TokenRingLaw", name := "join", desc := "(LTokenRing;I[J)I" } : Jvm.MethodName)) ∈ lw_all := lw_g (lw_at lw_m7 229 rfl) rfl
theorem q1764 : (Jvm.Cond.codeWith ({ cls := "TokenRingLaw", name := "join", desc := "(LTokenRing;I[J)I" } : Jvm.MethodName) method_3_code (4 : Nat) (Option.some Jvm.ClassFile.FieldType.int) [((0 : Nat), (9 : Nat), (12 : Nat), (13 : Nat))]) ∈ lw_all := lw_g (lw_at lw_m7 230 rfl) rfl
theorem q1765 : (Jvm.Cond.classLink "TokenRingLaw" (13 : Nat) "java/lang/UnsupportedOperationException") ∈ lw_all := lw_g (lw_at lw_m7 231 rfl) rfl
theorem q1766 : (Jvm.Cond.methodLink "TokenRingLaw" (7 : Nat) ({ cls := "TokenRing", name := "join", desc := "(I)I" } : Jvm.MethodName)) ∈ lw_all := lw_g (lw_at lw_m7 232 rfl) rfl
theorem q1882 : (Jvm.Cond.methodLink "TokenRingLaw" (152 : Nat) ({ cls := "TokenRingLaw", name := "leave", desc := "(LTokenRing;I[J)I" } : Jvm.MethodName)) ∈ lw_all := lw_g (lw_at lw_m8 108 rfl) rfl
theorem q1883 : (Jvm.Cond.static ({ cls := "TokenRingLaw", name := "leave", desc := "(LTokenRing;I[J)I" } : Jvm.MethodName)) ∈ lw_all := lw_g (lw_at lw_m8 109 rfl) rfl
theorem q1884 : (Jvm.Cond.codeWith ({ cls := "TokenRingLaw", name := "leave", desc := "(LTokenRing;I[J)I" } : Jvm.MethodName) method_4_code (4 : Nat) (Option.some Jvm.ClassFile.FieldType.int) [((0 : Nat), (9 : Nat), (12 : Nat), (13 : Nat))]) ∈ lw_all := lw_g (lw_at lw_m8 110 rfl) rfl
theorem q1885 : (Jvm.Cond.methodLink "TokenRingLaw" (15 : Nat) ({ cls := "TokenRing", name := "leave", desc := "(I)I" } : Jvm.MethodName)) ∈ lw_all := lw_g (lw_at lw_m8 111 rfl) rfl
theorem q1917 : (Jvm.Cond.methodLink "TokenRingLaw" (155 : Nat) ({ cls := "TokenRingLaw", name := "queue", desc := "(LTokenRing;IIII[J)I" } : Jvm.MethodName)) ∈ lw_all := lw_g (lw_at lw_m8 143 rfl) rfl
theorem q1918 : (Jvm.Cond.static ({ cls := "TokenRingLaw", name := "queue", desc := "(LTokenRing;IIII[J)I" } : Jvm.MethodName)) ∈ lw_all := lw_g (lw_at lw_m8 144 rfl) rfl
theorem q1919 : (Jvm.Cond.codeWith ({ cls := "TokenRingLaw", name := "queue", desc := "(LTokenRing;IIII[J)I" } : Jvm.MethodName) method_5_code (7 : Nat) (Option.some Jvm.ClassFile.FieldType.int) [((0 : Nat), (14 : Nat), (17 : Nat), (13 : Nat))]) ∈ lw_all := lw_g (lw_at lw_m8 145 rfl) rfl
theorem q1920 : (Jvm.Cond.methodLink "TokenRingLaw" (18 : Nat) ({ cls := "TokenRing", name := "queue", desc := "(IIII)I" } : Jvm.MethodName)) ∈ lw_all := lw_g (lw_at lw_m8 146 rfl) rfl
theorem q2009 : (Jvm.Cond.methodLink "TokenRingLaw" (159 : Nat) ({ cls := "TokenRingLaw", name := "drop", desc := "(LTokenRing;I[J)I" } : Jvm.MethodName)) ∈ lw_all := lw_g (lw_at lw_m8 235 rfl) rfl
theorem q2010 : (Jvm.Cond.static ({ cls := "TokenRingLaw", name := "drop", desc := "(LTokenRing;I[J)I" } : Jvm.MethodName)) ∈ lw_all := lw_g (lw_at lw_m8 236 rfl) rfl
theorem q2011 : (Jvm.Cond.codeWith ({ cls := "TokenRingLaw", name := "drop", desc := "(LTokenRing;I[J)I" } : Jvm.MethodName) method_6_code (4 : Nat) (Option.some Jvm.ClassFile.FieldType.int) [((0 : Nat), (9 : Nat), (12 : Nat), (13 : Nat))]) ∈ lw_all := lw_g (lw_at lw_m8 237 rfl) rfl
theorem q2012 : (Jvm.Cond.methodLink "TokenRingLaw" (22 : Nat) ({ cls := "TokenRing", name := "drop", desc := "(I)I" } : Jvm.MethodName)) ∈ lw_all := lw_g (lw_at lw_m8 238 rfl) rfl
theorem q2028 : (Jvm.Cond.methodLink "TokenRingLaw" (162 : Nat) ({ cls := "TokenRingLaw", name := "monitor", desc := "(LTokenRing;I[J)I" } : Jvm.MethodName)) ∈ lw_all := lw_g (lw_at lw_m9 14 rfl) rfl
theorem q2029 : (Jvm.Cond.static ({ cls := "TokenRingLaw", name := "monitor", desc := "(LTokenRing;I[J)I" } : Jvm.MethodName)) ∈ lw_all := lw_g (lw_at lw_m9 15 rfl) rfl
theorem q2030 : (Jvm.Cond.codeWith ({ cls := "TokenRingLaw", name := "monitor", desc := "(LTokenRing;I[J)I" } : Jvm.MethodName) method_7_code (4 : Nat) (Option.some Jvm.ClassFile.FieldType.int) [((0 : Nat), (9 : Nat), (12 : Nat), (13 : Nat))]) ∈ lw_all := lw_g (lw_at lw_m9 16 rfl) rfl
theorem q2031 : (Jvm.Cond.methodLink "TokenRingLaw" (25 : Nat) ({ cls := "TokenRing", name := "monitor", desc := "(I)I" } : Jvm.MethodName)) ∈ lw_all := lw_g (lw_at lw_m9 17 rfl) rfl
theorem q2035 : (Jvm.Cond.methodLink "TokenRingLaw" (165 : Nat) ({ cls := "TokenRingLaw", name := "token", desc := "(LTokenRing;I[J)I" } : Jvm.MethodName)) ∈ lw_all := lw_g (lw_at lw_m9 21 rfl) rfl
theorem q2036 : (Jvm.Cond.static ({ cls := "TokenRingLaw", name := "token", desc := "(LTokenRing;I[J)I" } : Jvm.MethodName)) ∈ lw_all := lw_g (lw_at lw_m9 22 rfl) rfl
theorem q2037 : (Jvm.Cond.codeWith ({ cls := "TokenRingLaw", name := "token", desc := "(LTokenRing;I[J)I" } : Jvm.MethodName) method_8_code (4 : Nat) (Option.some Jvm.ClassFile.FieldType.int) [((0 : Nat), (9 : Nat), (12 : Nat), (13 : Nat))]) ∈ lw_all := lw_g (lw_at lw_m9 23 rfl) rfl
theorem q2038 : (Jvm.Cond.methodLink "TokenRingLaw" (28 : Nat) ({ cls := "TokenRing", name := "token", desc := "(I)I" } : Jvm.MethodName)) ∈ lw_all := lw_g (lw_at lw_m9 24 rfl) rfl
theorem q2046 : (Jvm.Cond.methodLink "TokenRingLaw" (168 : Nat) ({ cls := "TokenRingLaw", name := "lose", desc := "(LTokenRing;[J)I" } : Jvm.MethodName)) ∈ lw_all := lw_g (lw_at lw_m9 32 rfl) rfl
theorem q2047 : (Jvm.Cond.static ({ cls := "TokenRingLaw", name := "lose", desc := "(LTokenRing;[J)I" } : Jvm.MethodName)) ∈ lw_all := lw_g (lw_at lw_m9 33 rfl) rfl
theorem q2048 : (Jvm.Cond.codeWith ({ cls := "TokenRingLaw", name := "lose", desc := "(LTokenRing;[J)I" } : Jvm.MethodName) method_9_code (3 : Nat) (Option.some Jvm.ClassFile.FieldType.int) [((0 : Nat), (8 : Nat), (11 : Nat), (13 : Nat))]) ∈ lw_all := lw_g (lw_at lw_m9 34 rfl) rfl
theorem q2049 : (Jvm.Cond.methodLink "TokenRingLaw" (31 : Nat) ({ cls := "TokenRing", name := "lose", desc := "()I" } : Jvm.MethodName)) ∈ lw_all := lw_g (lw_at lw_m9 35 rfl) rfl
theorem q2054 : (Jvm.Cond.methodLink "TokenRingLaw" (172 : Nat) ({ cls := "TokenRingLaw", name := "tick", desc := "(LTokenRing;I[J)I" } : Jvm.MethodName)) ∈ lw_all := lw_g (lw_at lw_m9 40 rfl) rfl
theorem q2055 : (Jvm.Cond.static ({ cls := "TokenRingLaw", name := "tick", desc := "(LTokenRing;I[J)I" } : Jvm.MethodName)) ∈ lw_all := lw_g (lw_at lw_m9 41 rfl) rfl
theorem q2056 : (Jvm.Cond.codeWith ({ cls := "TokenRingLaw", name := "tick", desc := "(LTokenRing;I[J)I" } : Jvm.MethodName) method_10_code (4 : Nat) (Option.some Jvm.ClassFile.FieldType.int) [((0 : Nat), (9 : Nat), (12 : Nat), (13 : Nat))]) ∈ lw_all := lw_g (lw_at lw_m9 42 rfl) rfl
theorem q2057 : (Jvm.Cond.methodLink "TokenRingLaw" (35 : Nat) ({ cls := "TokenRing", name := "tick", desc := "(I)I" } : Jvm.MethodName)) ∈ lw_all := lw_g (lw_at lw_m9 43 rfl) rfl
theorem q2130 : (Jvm.Cond.methodLink "TokenRingLaw" (175 : Nat) ({ cls := "TokenRingLaw", name := "onRing", desc := "(LTokenRing;I[J)I" } : Jvm.MethodName)) ∈ lw_all := lw_g (lw_at lw_m9 116 rfl) rfl
theorem q2131 : (Jvm.Cond.static ({ cls := "TokenRingLaw", name := "onRing", desc := "(LTokenRing;I[J)I" } : Jvm.MethodName)) ∈ lw_all := lw_g (lw_at lw_m9 117 rfl) rfl
theorem q2132 : (Jvm.Cond.codeWith ({ cls := "TokenRingLaw", name := "onRing", desc := "(LTokenRing;I[J)I" } : Jvm.MethodName) method_11_code (4 : Nat) (Option.some Jvm.ClassFile.FieldType.int) [((0 : Nat), (9 : Nat), (12 : Nat), (41 : Nat))]) ∈ lw_all := lw_g (lw_at lw_m9 118 rfl) rfl
theorem q2133 : (Jvm.Cond.classLink "TokenRingLaw" (41 : Nat) "java/lang/IllegalArgumentException") ∈ lw_all := lw_g (lw_at lw_m9 119 rfl) rfl
theorem q2134 : (Jvm.Cond.methodLink "TokenRingLaw" (38 : Nat) ({ cls := "TokenRing", name := "onRing", desc := "(I)I" } : Jvm.MethodName)) ∈ lw_all := lw_g (lw_at lw_m9 120 rfl) rfl
theorem q2146 : (Jvm.Cond.methodLink "TokenRingLaw" (178 : Nat) ({ cls := "TokenRingLaw", name := "stationAt", desc := "(LTokenRing;I[J)I" } : Jvm.MethodName)) ∈ lw_all := lw_g (lw_at lw_m9 132 rfl) rfl
theorem q2147 : (Jvm.Cond.static ({ cls := "TokenRingLaw", name := "stationAt", desc := "(LTokenRing;I[J)I" } : Jvm.MethodName)) ∈ lw_all := lw_g (lw_at lw_m9 133 rfl) rfl
theorem q2148 : (Jvm.Cond.codeWith ({ cls := "TokenRingLaw", name := "stationAt", desc := "(LTokenRing;I[J)I" } : Jvm.MethodName) method_12_code (4 : Nat) (Option.some Jvm.ClassFile.FieldType.int) [((0 : Nat), (9 : Nat), (12 : Nat), (46 : Nat))]) ∈ lw_all := lw_g (lw_at lw_m9 134 rfl) rfl
theorem q2149 : (Jvm.Cond.classLink "TokenRingLaw" (46 : Nat) "java/util/NoSuchElementException") ∈ lw_all := lw_g (lw_at lw_m9 135 rfl) rfl
theorem q2150 : (Jvm.Cond.methodLink "TokenRingLaw" (43 : Nat) ({ cls := "TokenRing", name := "stationAt", desc := "(I)I" } : Jvm.MethodName)) ∈ lw_all := lw_g (lw_at lw_m9 136 rfl) rfl
theorem q2159 : (Jvm.Cond.methodLink "TokenRingLaw" (181 : Nat) ({ cls := "TokenRingLaw", name := "waits", desc := "(LTokenRing;II[J)I" } : Jvm.MethodName)) ∈ lw_all := lw_g (lw_at lw_m9 145 rfl) rfl
theorem q2160 : (Jvm.Cond.static ({ cls := "TokenRingLaw", name := "waits", desc := "(LTokenRing;II[J)I" } : Jvm.MethodName)) ∈ lw_all := lw_g (lw_at lw_m9 146 rfl) rfl
theorem q2161 : (Jvm.Cond.codeWith ({ cls := "TokenRingLaw", name := "waits", desc := "(LTokenRing;II[J)I" } : Jvm.MethodName) method_13_code (5 : Nat) (Option.some Jvm.ClassFile.FieldType.int) [((0 : Nat), (10 : Nat), (13 : Nat), (52 : Nat)), ((0 : Nat), (10 : Nat), (17 : Nat), (46 : Nat))]) ∈ lw_all := lw_g (lw_at lw_m9 147 rfl) rfl
theorem q2162 : (Jvm.Cond.classLink "TokenRingLaw" (52 : Nat) "java/lang/IndexOutOfBoundsException") ∈ lw_all := lw_g (lw_at lw_m9 148 rfl) rfl
theorem q2165 : (Jvm.Cond.methodLink "TokenRingLaw" (48 : Nat) ({ cls := "TokenRing", name := "waits", desc := "(II)I" } : Jvm.MethodName)) ∈ lw_all := lw_g (lw_at lw_m9 151 rfl) rfl
theorem q2182 : (Jvm.Cond.methodLink "TokenRingLaw" (185 : Nat) ({ cls := "TokenRingLaw", name := "rankOf", desc := "(LTokenRing;I[J)I" } : Jvm.MethodName)) ∈ lw_all := lw_g (lw_at lw_m9 168 rfl) rfl
theorem q2183 : (Jvm.Cond.static ({ cls := "TokenRingLaw", name := "rankOf", desc := "(LTokenRing;I[J)I" } : Jvm.MethodName)) ∈ lw_all := lw_g (lw_at lw_m9 169 rfl) rfl
theorem q2184 : (Jvm.Cond.codeWith ({ cls := "TokenRingLaw", name := "rankOf", desc := "(LTokenRing;I[J)I" } : Jvm.MethodName) method_14_code (4 : Nat) (Option.some Jvm.ClassFile.FieldType.int) [((0 : Nat), (9 : Nat), (12 : Nat), (46 : Nat))]) ∈ lw_all := lw_g (lw_at lw_m9 170 rfl) rfl
theorem q2185 : (Jvm.Cond.methodLink "TokenRingLaw" (54 : Nat) ({ cls := "TokenRing", name := "rankOf", desc := "(I)I" } : Jvm.MethodName)) ∈ lw_all := lw_g (lw_at lw_m9 171 rfl) rfl
theorem q2200 : (Jvm.Cond.methodLink "TokenRingLaw" (188 : Nat) ({ cls := "TokenRingLaw", name := "whereIs", desc := "(LTokenRing;I[J)I" } : Jvm.MethodName)) ∈ lw_all := lw_g (lw_at lw_m9 186 rfl) rfl
theorem q2201 : (Jvm.Cond.static ({ cls := "TokenRingLaw", name := "whereIs", desc := "(LTokenRing;I[J)I" } : Jvm.MethodName)) ∈ lw_all := lw_g (lw_at lw_m9 187 rfl) rfl
theorem q2202 : (Jvm.Cond.codeWith ({ cls := "TokenRingLaw", name := "whereIs", desc := "(LTokenRing;I[J)I" } : Jvm.MethodName) method_15_code (4 : Nat) (Option.some Jvm.ClassFile.FieldType.int) [((0 : Nat), (9 : Nat), (12 : Nat), (46 : Nat))]) ∈ lw_all := lw_g (lw_at lw_m9 188 rfl) rfl
theorem q2203 : (Jvm.Cond.methodLink "TokenRingLaw" (57 : Nat) ({ cls := "TokenRing", name := "whereIs", desc := "(I)I" } : Jvm.MethodName)) ∈ lw_all := lw_g (lw_at lw_m9 189 rfl) rfl
theorem q2207 : (Jvm.Cond.methodLink "TokenRingLaw" (191 : Nat) ({ cls := "TokenRingLaw", name := "queueOf", desc := "(LTokenRing;II[J)I" } : Jvm.MethodName)) ∈ lw_all := lw_g (lw_at lw_m9 193 rfl) rfl
theorem q2208 : (Jvm.Cond.static ({ cls := "TokenRingLaw", name := "queueOf", desc := "(LTokenRing;II[J)I" } : Jvm.MethodName)) ∈ lw_all := lw_g (lw_at lw_m9 194 rfl) rfl
theorem q2209 : (Jvm.Cond.codeWith ({ cls := "TokenRingLaw", name := "queueOf", desc := "(LTokenRing;II[J)I" } : Jvm.MethodName) method_16_code (5 : Nat) (Option.some Jvm.ClassFile.FieldType.int) [((0 : Nat), (10 : Nat), (13 : Nat), (52 : Nat)), ((0 : Nat), (10 : Nat), (17 : Nat), (41 : Nat))]) ∈ lw_all := lw_g (lw_at lw_m9 195 rfl) rfl
theorem q2210 : (Jvm.Cond.methodLink "TokenRingLaw" (60 : Nat) ({ cls := "TokenRing", name := "queueOf", desc := "(II)I" } : Jvm.MethodName)) ∈ lw_all := lw_g (lw_at lw_m9 196 rfl) rfl
theorem q2219 : (Jvm.Cond.methodLink "TokenRingLaw" (194 : Nat) ({ cls := "TokenRingLaw", name := "next", desc := "(LTokenRing;I[J)I" } : Jvm.MethodName)) ∈ lw_all := lw_g (lw_at lw_m9 205 rfl) rfl
theorem q2220 : (Jvm.Cond.static ({ cls := "TokenRingLaw", name := "next", desc := "(LTokenRing;I[J)I" } : Jvm.MethodName)) ∈ lw_all := lw_g (lw_at lw_m9 206 rfl) rfl
theorem q2221 : (Jvm.Cond.codeWith ({ cls := "TokenRingLaw", name := "next", desc := "(LTokenRing;I[J)I" } : Jvm.MethodName) method_17_code (4 : Nat) (Option.some Jvm.ClassFile.FieldType.int) [((0 : Nat), (9 : Nat), (12 : Nat), (52 : Nat))]) ∈ lw_all := lw_g (lw_at lw_m9 207 rfl) rfl
theorem q2222 : (Jvm.Cond.methodLink "TokenRingLaw" (63 : Nat) ({ cls := "TokenRing", name := "next", desc := "(I)I" } : Jvm.MethodName)) ∈ lw_all := lw_g (lw_at lw_m9 208 rfl) rfl
theorem q2227 : (Jvm.Cond.methodLink "TokenRingLaw" (197 : Nat) ({ cls := "TokenRingLaw", name := "steps", desc := "(LTokenRing;II[J)I" } : Jvm.MethodName)) ∈ lw_all := lw_g (lw_at lw_m9 213 rfl) rfl
theorem q2228 : (Jvm.Cond.static ({ cls := "TokenRingLaw", name := "steps", desc := "(LTokenRing;II[J)I" } : Jvm.MethodName)) ∈ lw_all := lw_g (lw_at lw_m9 214 rfl) rfl
theorem q2229 : (Jvm.Cond.codeWith ({ cls := "TokenRingLaw", name := "steps", desc := "(LTokenRing;II[J)I" } : Jvm.MethodName) method_18_code (5 : Nat) (Option.some Jvm.ClassFile.FieldType.int) [((0 : Nat), (10 : Nat), (13 : Nat), (52 : Nat))]) ∈ lw_all := lw_g (lw_at lw_m9 215 rfl) rfl
theorem q2230 : (Jvm.Cond.methodLink "TokenRingLaw" (66 : Nat) ({ cls := "TokenRing", name := "steps", desc := "(II)I" } : Jvm.MethodName)) ∈ lw_all := lw_g (lw_at lw_m9 216 rfl) rfl
theorem q2273 : (Jvm.Cond.methodLink "TokenRingLaw" (200 : Nat) ({ cls := "TokenRingLaw", name := "stepsAgain", desc := "(LTokenRing;II[J)I" } : Jvm.MethodName)) ∈ lw_all := lw_g (lw_at lw_m10 19 rfl) rfl
theorem q2274 : (Jvm.Cond.static ({ cls := "TokenRingLaw", name := "stepsAgain", desc := "(LTokenRing;II[J)I" } : Jvm.MethodName)) ∈ lw_all := lw_g (lw_at lw_m10 20 rfl) rfl
theorem q2275 : (Jvm.Cond.codeWith ({ cls := "TokenRingLaw", name := "stepsAgain", desc := "(LTokenRing;II[J)I" } : Jvm.MethodName) method_19_code (5 : Nat) (Option.some Jvm.ClassFile.FieldType.int) [((0 : Nat), (10 : Nat), (13 : Nat), (52 : Nat))]) ∈ lw_all := lw_g (lw_at lw_m10 21 rfl) rfl
theorem q2276 : (Jvm.Cond.methodLink "TokenRingLaw" (69 : Nat) ({ cls := "TokenRing", name := "stepsAgain", desc := "(II)I" } : Jvm.MethodName)) ∈ lw_all := lw_g (lw_at lw_m10 22 rfl) rfl
theorem q2351 : (Jvm.Cond.methodLink "TokenRingLaw" (203 : Nat) ({ cls := "TokenRingLaw", name := "isInRing", desc := "(LTokenRing;I[J)I" } : Jvm.MethodName)) ∈ lw_all := lw_g (lw_at lw_m10 97 rfl) rfl
theorem q2352 : (Jvm.Cond.static ({ cls := "TokenRingLaw", name := "isInRing", desc := "(LTokenRing;I[J)I" } : Jvm.MethodName)) ∈ lw_all := lw_g (lw_at lw_m10 98 rfl) rfl
theorem q2353 : (Jvm.Cond.codeWith ({ cls := "TokenRingLaw", name := "isInRing", desc := "(LTokenRing;I[J)I" } : Jvm.MethodName) method_20_code (4 : Nat) (Option.some Jvm.ClassFile.FieldType.int) [((0 : Nat), (16 : Nat), (19 : Nat), (41 : Nat))]) ∈ lw_all := lw_g (lw_at lw_m10 99 rfl) rfl
theorem q2354 : (Jvm.Cond.methodLink "TokenRingLaw" (72 : Nat) ({ cls := "TokenRing", name := "isInRing", desc := "(I)Z" } : Jvm.MethodName)) ∈ lw_all := lw_g (lw_at lw_m10 100 rfl) rfl
theorem q2361 : (Jvm.Cond.methodLink "TokenRingLaw" (206 : Nat) ({ cls := "TokenRingLaw", name := "canTake", desc := "(LTokenRing;I[J)I" } : Jvm.MethodName)) ∈ lw_all := lw_g (lw_at lw_m10 107 rfl) rfl
theorem q2362 : (Jvm.Cond.static ({ cls := "TokenRingLaw", name := "canTake", desc := "(LTokenRing;I[J)I" } : Jvm.MethodName)) ∈ lw_all := lw_g (lw_at lw_m10 108 rfl) rfl
theorem q2363 : (Jvm.Cond.codeWith ({ cls := "TokenRingLaw", name := "canTake", desc := "(LTokenRing;I[J)I" } : Jvm.MethodName) method_21_code (4 : Nat) (Option.some Jvm.ClassFile.FieldType.int) [((0 : Nat), (16 : Nat), (19 : Nat), (52 : Nat))]) ∈ lw_all := lw_g (lw_at lw_m10 109 rfl) rfl
theorem q2364 : (Jvm.Cond.methodLink "TokenRingLaw" (76 : Nat) ({ cls := "TokenRing", name := "canTake", desc := "(I)Z" } : Jvm.MethodName)) ∈ lw_all := lw_g (lw_at lw_m10 110 rfl) rfl
theorem q2373 : (Jvm.Cond.methodLink "TokenRingLaw" (209 : Nat) ({ cls := "TokenRingLaw", name := "whoTakes", desc := "(LTokenRing;[J)I" } : Jvm.MethodName)) ∈ lw_all := lw_g (lw_at lw_m10 119 rfl) rfl
theorem q2374 : (Jvm.Cond.static ({ cls := "TokenRingLaw", name := "whoTakes", desc := "(LTokenRing;[J)I" } : Jvm.MethodName)) ∈ lw_all := lw_g (lw_at lw_m10 120 rfl) rfl
theorem q2375 : (Jvm.Cond.codeWith ({ cls := "TokenRingLaw", name := "whoTakes", desc := "(LTokenRing;[J)I" } : Jvm.MethodName) method_22_code (3 : Nat) (Option.some Jvm.ClassFile.FieldType.int) [((0 : Nat), (8 : Nat), (11 : Nat), (46 : Nat))]) ∈ lw_all := lw_g (lw_at lw_m10 121 rfl) rfl
theorem q2376 : (Jvm.Cond.methodLink "TokenRingLaw" (79 : Nat) ({ cls := "TokenRing", name := "whoTakes", desc := "()I" } : Jvm.MethodName)) ∈ lw_all := lw_g (lw_at lw_m10 122 rfl) rfl
theorem q2380 : (Jvm.Cond.methodLink "TokenRingLaw" (212 : Nat) ({ cls := "TokenRingLaw", name := "receivedIn", desc := "(LTokenRing;I[J)I" } : Jvm.MethodName)) ∈ lw_all := lw_g (lw_at lw_m10 126 rfl) rfl
theorem q2381 : (Jvm.Cond.static ({ cls := "TokenRingLaw", name := "receivedIn", desc := "(LTokenRing;I[J)I" } : Jvm.MethodName)) ∈ lw_all := lw_g (lw_at lw_m10 127 rfl) rfl
theorem q2382 : (Jvm.Cond.codeWith ({ cls := "TokenRingLaw", name := "receivedIn", desc := "(LTokenRing;I[J)I" } : Jvm.MethodName) method_23_code (4 : Nat) (Option.some Jvm.ClassFile.FieldType.int) [((0 : Nat), (9 : Nat), (12 : Nat), (46 : Nat))]) ∈ lw_all := lw_g (lw_at lw_m10 128 rfl) rfl
theorem q2383 : (Jvm.Cond.methodLink "TokenRingLaw" (82 : Nat) ({ cls := "TokenRing", name := "receivedIn", desc := "(I)I" } : Jvm.MethodName)) ∈ lw_all := lw_g (lw_at lw_m10 129 rfl) rfl
theorem q2387 : (Jvm.Cond.methodLink "TokenRingLaw" (215 : Nat) ({ cls := "TokenRingLaw", name := "tokenIn", desc := "(LTokenRing;I[J)I" } : Jvm.MethodName)) ∈ lw_all := lw_g (lw_at lw_m10 133 rfl) rfl
theorem q2388 : (Jvm.Cond.static ({ cls := "TokenRingLaw", name := "tokenIn", desc := "(LTokenRing;I[J)I" } : Jvm.MethodName)) ∈ lw_all := lw_g (lw_at lw_m10 134 rfl) rfl
theorem q2389 : (Jvm.Cond.codeWith ({ cls := "TokenRingLaw", name := "tokenIn", desc := "(LTokenRing;I[J)I" } : Jvm.MethodName) method_24_code (4 : Nat) (Option.some Jvm.ClassFile.FieldType.int) [((0 : Nat), (9 : Nat), (12 : Nat), (52 : Nat)), ((0 : Nat), (9 : Nat), (15 : Nat), (46 : Nat))]) ∈ lw_all := lw_g (lw_at lw_m10 135 rfl) rfl
theorem q2390 : (Jvm.Cond.methodLink "TokenRingLaw" (85 : Nat) ({ cls := "TokenRing", name := "tokenIn", desc := "(I)I" } : Jvm.MethodName)) ∈ lw_all := lw_g (lw_at lw_m10 136 rfl) rfl
theorem q2394 : (Jvm.Cond.methodLink "TokenRingLaw" (218 : Nat) ({ cls := "TokenRingLaw", name := "ahead", desc := "(LTokenRing;II[J)I" } : Jvm.MethodName)) ∈ lw_all := lw_g (lw_at lw_m10 140 rfl) rfl
theorem q2395 : (Jvm.Cond.static ({ cls := "TokenRingLaw", name := "ahead", desc := "(LTokenRing;II[J)I" } : Jvm.MethodName)) ∈ lw_all := lw_g (lw_at lw_m10 141 rfl) rfl
theorem q2396 : (Jvm.Cond.codeWith ({ cls := "TokenRingLaw", name := "ahead", desc := "(LTokenRing;II[J)I" } : Jvm.MethodName) method_25_code (5 : Nat) (Option.some Jvm.ClassFile.FieldType.int) [((0 : Nat), (10 : Nat), (13 : Nat), (41 : Nat))]) ∈ lw_all := lw_g (lw_at lw_m10 142 rfl) rfl
theorem q2397 : (Jvm.Cond.methodLink "TokenRingLaw" (88 : Nat) ({ cls := "TokenRing", name := "ahead", desc := "(II)I" } : Jvm.MethodName)) ∈ lw_all := lw_g (lw_at lw_m10 143 rfl) rfl
theorem q2401 : (Jvm.Cond.methodLink "TokenRingLaw" (221 : Nat) ({ cls := "TokenRingLaw", name := "ranked", desc := "(LTokenRing;I[J)I" } : Jvm.MethodName)) ∈ lw_all := lw_g (lw_at lw_m10 147 rfl) rfl
theorem q2402 : (Jvm.Cond.static ({ cls := "TokenRingLaw", name := "ranked", desc := "(LTokenRing;I[J)I" } : Jvm.MethodName)) ∈ lw_all := lw_g (lw_at lw_m10 148 rfl) rfl
theorem q2403 : (Jvm.Cond.codeWith ({ cls := "TokenRingLaw", name := "ranked", desc := "(LTokenRing;I[J)I" } : Jvm.MethodName) method_26_code (4 : Nat) (Option.some Jvm.ClassFile.FieldType.int) [((0 : Nat), (9 : Nat), (12 : Nat), (46 : Nat))]) ∈ lw_all := lw_g (lw_at lw_m10 149 rfl) rfl
theorem q2404 : (Jvm.Cond.methodLink "TokenRingLaw" (91 : Nat) ({ cls := "TokenRing", name := "ranked", desc := "(I)I" } : Jvm.MethodName)) ∈ lw_all := lw_g (lw_at lw_m10 150 rfl) rfl
theorem q2424 : (Jvm.Cond.methodLink "TokenRingLaw" (224 : Nat) ({ cls := "TokenRingLaw", name := "longestWait", desc := "(LTokenRing;[J)I" } : Jvm.MethodName)) ∈ lw_all := lw_g (lw_at lw_m10 170 rfl) rfl
theorem q2425 : (Jvm.Cond.static ({ cls := "TokenRingLaw", name := "longestWait", desc := "(LTokenRing;[J)I" } : Jvm.MethodName)) ∈ lw_all := lw_g (lw_at lw_m10 171 rfl) rfl
theorem q2426 : (Jvm.Cond.codeWith ({ cls := "TokenRingLaw", name := "longestWait", desc := "(LTokenRing;[J)I" } : Jvm.MethodName) method_27_code (3 : Nat) (Option.some Jvm.ClassFile.FieldType.int) [((0 : Nat), (8 : Nat), (11 : Nat), (46 : Nat))]) ∈ lw_all := lw_g (lw_at lw_m10 172 rfl) rfl
theorem q2427 : (Jvm.Cond.methodLink "TokenRingLaw" (94 : Nat) ({ cls := "TokenRing", name := "longestWait", desc := "()I" } : Jvm.MethodName)) ∈ lw_all := lw_g (lw_at lw_m10 173 rfl) rfl
theorem q2431 : (Jvm.Cond.methodLink "TokenRingLaw" (227 : Nat) ({ cls := "TokenRingLaw", name := "greatest", desc := "(LTokenRing;[J)I" } : Jvm.MethodName)) ∈ lw_all := lw_g (lw_at lw_m10 177 rfl) rfl
theorem q2432 : (Jvm.Cond.static ({ cls := "TokenRingLaw", name := "greatest", desc := "(LTokenRing;[J)I" } : Jvm.MethodName)) ∈ lw_all := lw_g (lw_at lw_m10 178 rfl) rfl
theorem q2433 : (Jvm.Cond.codeWith ({ cls := "TokenRingLaw", name := "greatest", desc := "(LTokenRing;[J)I" } : Jvm.MethodName) method_28_code (3 : Nat) (Option.some Jvm.ClassFile.FieldType.int) [((0 : Nat), (8 : Nat), (11 : Nat), (46 : Nat))]) ∈ lw_all := lw_g (lw_at lw_m10 179 rfl) rfl
theorem q2434 : (Jvm.Cond.methodLink "TokenRingLaw" (97 : Nat) ({ cls := "TokenRing", name := "greatest", desc := "()I" } : Jvm.MethodName)) ∈ lw_all := lw_g (lw_at lw_m10 180 rfl) rfl
theorem q2439 : (Jvm.Cond.methodLink "TokenRingLaw" (238 : Nat) ({ cls := "TokenRingLaw", name := "append", desc := "(LTokenRing;C[J)I" } : Jvm.MethodName)) ∈ lw_all := lw_g (lw_at lw_m10 185 rfl) rfl
theorem q2440 : (Jvm.Cond.static ({ cls := "TokenRingLaw", name := "append", desc := "(LTokenRing;C[J)I" } : Jvm.MethodName)) ∈ lw_all := lw_g (lw_at lw_m10 186 rfl) rfl
theorem q2441 : (Jvm.Cond.codeWith ({ cls := "TokenRingLaw", name := "append", desc := "(LTokenRing;C[J)I" } : Jvm.MethodName) method_29_code (4 : Nat) (Option.some Jvm.ClassFile.FieldType.int) [((0 : Nat), (9 : Nat), (12 : Nat), (41 : Nat)), ((0 : Nat), (9 : Nat), (15 : Nat), (104 : Nat))]) ∈ lw_all := lw_g (lw_at lw_m10 187 rfl) rfl
theorem q2442 : (Jvm.Cond.classLink "TokenRingLaw" (104 : Nat) "java/lang/IllegalStateException") ∈ lw_all := lw_g (lw_at lw_m10 188 rfl) rfl
theorem q2443 : (Jvm.Cond.methodLink "TokenRingLaw" (100 : Nat) ({ cls := "TokenRing", name := "append", desc := "(C)I" } : Jvm.MethodName)) ∈ lw_all := lw_g (lw_at lw_m10 189 rfl) rfl
theorem q2455 : (Jvm.Cond.methodLink "TokenRingLaw" (242 : Nat) ({ cls := "TokenRingLaw", name := "run", desc := "(LTokenRing;[J)I" } : Jvm.MethodName)) ∈ lw_all := lw_g (lw_at lw_m10 201 rfl) rfl
theorem q2456 : (Jvm.Cond.static ({ cls := "TokenRingLaw", name := "run", desc := "(LTokenRing;[J)I" } : Jvm.MethodName)) ∈ lw_all := lw_g (lw_at lw_m10 202 rfl) rfl
theorem q2457 : (Jvm.Cond.codeWith ({ cls := "TokenRingLaw", name := "run", desc := "(LTokenRing;[J)I" } : Jvm.MethodName) method_30_code (3 : Nat) (Option.some Jvm.ClassFile.FieldType.int) [((0 : Nat), (8 : Nat), (11 : Nat), (41 : Nat)), ((0 : Nat), (8 : Nat), (14 : Nat), (13 : Nat))]) ∈ lw_all := lw_g (lw_at lw_m10 203 rfl) rfl
theorem q2458 : (Jvm.Cond.methodLink "TokenRingLaw" (106 : Nat) ({ cls := "TokenRing", name := "run", desc := "()I" } : Jvm.MethodName)) ∈ lw_all := lw_g (lw_at lw_m10 204 rfl) rfl
theorem q2720 : (Jvm.Cond.methodLink "TokenRingLaw" (249 : Nat) ({ cls := "TokenRingLaw", name := "reason", desc := "(LTokenRing;IZ[J)I" } : Jvm.MethodName)) ∈ lw_all := lw_g (lw_at lw_m11 226 rfl) rfl
theorem q2721 : (Jvm.Cond.static ({ cls := "TokenRingLaw", name := "reason", desc := "(LTokenRing;IZ[J)I" } : Jvm.MethodName)) ∈ lw_all := lw_g (lw_at lw_m11 227 rfl) rfl
theorem q2722 : (Jvm.Cond.codeWith ({ cls := "TokenRingLaw", name := "reason", desc := "(LTokenRing;IZ[J)I" } : Jvm.MethodName) method_31_code (5 : Nat) (Option.some Jvm.ClassFile.FieldType.int) [((0 : Nat), (10 : Nat), (13 : Nat), (41 : Nat)), ((0 : Nat), (10 : Nat), (17 : Nat), (46 : Nat))]) ∈ lw_all := lw_g (lw_at lw_m11 228 rfl) rfl
theorem q2723 : (Jvm.Cond.methodLink "TokenRingLaw" (109 : Nat) ({ cls := "TokenRing", name := "reason", desc := "(IZ)I" } : Jvm.MethodName)) ∈ lw_all := lw_g (lw_at lw_m11 229 rfl) rfl
theorem q2727 : (Jvm.Cond.methodLink "TokenRingLaw" (257 : Nat) ({ cls := "TokenRingLaw", name := "tellQueue", desc := "(LTokenRing;I[J)I" } : Jvm.MethodName)) ∈ lw_all := lw_g (lw_at lw_m11 233 rfl) rfl
theorem q2728 : (Jvm.Cond.static ({ cls := "TokenRingLaw", name := "tellQueue", desc := "(LTokenRing;I[J)I" } : Jvm.MethodName)) ∈ lw_all := lw_g (lw_at lw_m11 234 rfl) rfl
theorem q2729 : (Jvm.Cond.codeWith ({ cls := "TokenRingLaw", name := "tellQueue", desc := "(LTokenRing;I[J)I" } : Jvm.MethodName) method_32_code (4 : Nat) (Option.some Jvm.ClassFile.FieldType.int) [((0 : Nat), (9 : Nat), (12 : Nat), (52 : Nat))]) ∈ lw_all := lw_g (lw_at lw_m11 235 rfl) rfl
theorem q2730 : (Jvm.Cond.methodLink "TokenRingLaw" (113 : Nat) ({ cls := "TokenRing", name := "tellQueue", desc := "(I)I" } : Jvm.MethodName)) ∈ lw_all := lw_g (lw_at lw_m11 236 rfl) rfl
theorem q2735 : (Jvm.Cond.methodLink "TokenRingLaw" (260 : Nat) ({ cls := "TokenRingLaw", name := "character", desc := "(LTokenRing;I[J)I" } : Jvm.MethodName)) ∈ lw_all := lw_g (lw_at lw_m12 1 rfl) rfl
theorem q2736 : (Jvm.Cond.static ({ cls := "TokenRingLaw", name := "character", desc := "(LTokenRing;I[J)I" } : Jvm.MethodName)) ∈ lw_all := lw_g (lw_at lw_m12 2 rfl) rfl
theorem q2737 : (Jvm.Cond.codeWith ({ cls := "TokenRingLaw", name := "character", desc := "(LTokenRing;I[J)I" } : Jvm.MethodName) method_33_code (4 : Nat) (Option.some Jvm.ClassFile.FieldType.int) [((0 : Nat), (9 : Nat), (12 : Nat), (52 : Nat))]) ∈ lw_all := lw_g (lw_at lw_m12 3 rfl) rfl
theorem q2738 : (Jvm.Cond.methodLink "TokenRingLaw" (116 : Nat) ({ cls := "TokenRing", name := "character", desc := "(I)C" } : Jvm.MethodName)) ∈ lw_all := lw_g (lw_at lw_m12 4 rfl) rfl
theorem q2743 : (Jvm.Cond.methodLink "TokenRingLaw" (263 : Nat) ({ cls := "TokenRingLaw", name := "account", desc := "(LTokenRing;I[J)I" } : Jvm.MethodName)) ∈ lw_all := lw_g (lw_at lw_m12 9 rfl) rfl
theorem q2744 : (Jvm.Cond.static ({ cls := "TokenRingLaw", name := "account", desc := "(LTokenRing;I[J)I" } : Jvm.MethodName)) ∈ lw_all := lw_g (lw_at lw_m12 10 rfl) rfl
theorem q2745 : (Jvm.Cond.codeWith ({ cls := "TokenRingLaw", name := "account", desc := "(LTokenRing;I[J)I" } : Jvm.MethodName) method_34_code (4 : Nat) (Option.some Jvm.ClassFile.FieldType.int) [((0 : Nat), (9 : Nat), (12 : Nat), (41 : Nat))]) ∈ lw_all := lw_g (lw_at lw_m12 11 rfl) rfl
theorem q2746 : (Jvm.Cond.methodLink "TokenRingLaw" (120 : Nat) ({ cls := "TokenRing", name := "account", desc := "(I)I" } : Jvm.MethodName)) ∈ lw_all := lw_g (lw_at lw_m12 12 rfl) rfl
theorem q2750 : (Jvm.Cond.methodLink "TokenRingLaw" (266 : Nat) ({ cls := "TokenRingLaw", name := "meanDelay", desc := "(LTokenRing;[D)I" } : Jvm.MethodName)) ∈ lw_all := lw_g (lw_at lw_m12 16 rfl) rfl
theorem q2751 : (Jvm.Cond.static ({ cls := "TokenRingLaw", name := "meanDelay", desc := "(LTokenRing;[D)I" } : Jvm.MethodName)) ∈ lw_all := lw_g (lw_at lw_m12 17 rfl) rfl
theorem q2752 : (Jvm.Cond.codeWith ({ cls := "TokenRingLaw", name := "meanDelay", desc := "(LTokenRing;[D)I" } : Jvm.MethodName) method_35_code (3 : Nat) (Option.some Jvm.ClassFile.FieldType.int) [((0 : Nat), (7 : Nat), (10 : Nat), (127 : Nat))]) ∈ lw_all := lw_g (lw_at lw_m12 18 rfl) rfl
theorem q2753 : (Jvm.Cond.classLink "TokenRingLaw" (127 : Nat) "java/lang/ArithmeticException") ∈ lw_all := lw_g (lw_at lw_m12 19 rfl) rfl
theorem q2767 : (Jvm.Cond.methodLink "TokenRingLaw" (123 : Nat) ({ cls := "TokenRing", name := "meanDelay", desc := "()D" } : Jvm.MethodName)) ∈ lw_all := lw_g (lw_at lw_m12 33 rfl) rfl
theorem q2780 : (Jvm.Cond.methodLink "TokenRingLaw" (270 : Nat) ({ cls := "TokenRingLaw", name := "receivedShare", desc := "(LTokenRing;[D)I" } : Jvm.MethodName)) ∈ lw_all := lw_g (lw_at lw_m12 46 rfl) rfl
theorem q2781 : (Jvm.Cond.static ({ cls := "TokenRingLaw", name := "receivedShare", desc := "(LTokenRing;[D)I" } : Jvm.MethodName)) ∈ lw_all := lw_g (lw_at lw_m12 47 rfl) rfl
theorem q2782 : (Jvm.Cond.codeWith ({ cls := "TokenRingLaw", name := "receivedShare", desc := "(LTokenRing;[D)I" } : Jvm.MethodName) method_36_code (3 : Nat) (Option.some Jvm.ClassFile.FieldType.int) [((0 : Nat), (8 : Nat), (11 : Nat), (127 : Nat))]) ∈ lw_all := lw_g (lw_at lw_m12 48 rfl) rfl
theorem q2783 : (Jvm.Cond.methodLink "TokenRingLaw" (129 : Nat) ({ cls := "TokenRing", name := "receivedShare", desc := "()F" } : Jvm.MethodName)) ∈ lw_all := lw_g (lw_at lw_m12 49 rfl) rfl
theorem q2787 : (Jvm.Cond.methodLink "TokenRingLaw" (273 : Nat) ({ cls := "TokenRingLaw", name := "undo", desc := "(LTokenRing;[J)I" } : Jvm.MethodName)) ∈ lw_all := lw_g (lw_at lw_m12 53 rfl) rfl
theorem q2788 : (Jvm.Cond.static ({ cls := "TokenRingLaw", name := "undo", desc := "(LTokenRing;[J)I" } : Jvm.MethodName)) ∈ lw_all := lw_g (lw_at lw_m12 54 rfl) rfl
theorem q2789 : (Jvm.Cond.codeWith ({ cls := "TokenRingLaw", name := "undo", desc := "(LTokenRing;[J)I" } : Jvm.MethodName) method_37_code (3 : Nat) (Option.some Jvm.ClassFile.FieldType.int) [((0 : Nat), (8 : Nat), (11 : Nat), (104 : Nat))]) ∈ lw_all := lw_g (lw_at lw_m12 55 rfl) rfl
theorem q2790 : (Jvm.Cond.methodLink "TokenRingLaw" (133 : Nat) ({ cls := "TokenRing", name := "undo", desc := "()I" } : Jvm.MethodName)) ∈ lw_all := lw_g (lw_at lw_m12 56 rfl) rfl
theorem q2809 : (Jvm.Cond.methodLink "TokenRingLaw" (280 : Nat) ({ cls := "TokenRingLaw", name := "restore", desc := "(LTokenRing;[J)I" } : Jvm.MethodName)) ∈ lw_all := lw_g (lw_at lw_m12 75 rfl) rfl
theorem q2810 : (Jvm.Cond.static ({ cls := "TokenRingLaw", name := "restore", desc := "(LTokenRing;[J)I" } : Jvm.MethodName)) ∈ lw_all := lw_g (lw_at lw_m12 76 rfl) rfl
theorem q2811 : (Jvm.Cond.codeWith ({ cls := "TokenRingLaw", name := "restore", desc := "(LTokenRing;[J)I" } : Jvm.MethodName) method_38_code (3 : Nat) (Option.some Jvm.ClassFile.FieldType.int) [((0 : Nat), (8 : Nat), (11 : Nat), (104 : Nat))]) ∈ lw_all := lw_g (lw_at lw_m12 77 rfl) rfl
theorem q2812 : (Jvm.Cond.methodLink "TokenRingLaw" (136 : Nat) ({ cls := "TokenRing", name := "restore", desc := "()I" } : Jvm.MethodName)) ∈ lw_all := lw_g (lw_at lw_m12 78 rfl) rfl
theorem q2823 : (Jvm.Cond.classLink "TokenRingLaw" (140 : Nat) "TokenRingModel") ∈ lw_all := lw_g (lw_at lw_m12 89 rfl) rfl
theorem q2825 : (Jvm.Cond.methodLink "TokenRingLaw" (142 : Nat) ({ cls := "TokenRingModel", name := "<init>", desc := "()V" } : Jvm.MethodName)) ∈ lw_all := lw_g (lw_at lw_m12 91 rfl) rfl
theorem q2909 : (Jvm.Cond.methodLink "TokenRingLaw" (149 : Nat) ({ cls := "TokenRingModel", name := "thrown", desc := "()I" } : Jvm.MethodName)) ∈ lw_all := lw_g (lw_at lw_m12 175 rfl) rfl
theorem q2913 : (Jvm.Cond.methodLink "TokenRingLaw" (148 : Nat) ({ cls := "TokenRingModel", name := "join", desc := "(I)I" } : Jvm.MethodName)) ∈ lw_all := lw_g (lw_at lw_m12 179 rfl) rfl
theorem q2966 : (Jvm.Cond.methodLink "TokenRingLaw" (154 : Nat) ({ cls := "TokenRingModel", name := "leave", desc := "(I)I" } : Jvm.MethodName)) ∈ lw_all := lw_g (lw_at lw_m12 232 rfl) rfl
theorem q2986 : (Jvm.Cond.methodLink "TokenRingLaw" (158 : Nat) ({ cls := "TokenRingModel", name := "queue", desc := "(IIII)I" } : Jvm.MethodName)) ∈ lw_all := lw_g (lw_at lw_m13 12 rfl) rfl
theorem q3002 : (Jvm.Cond.methodLink "TokenRingLaw" (161 : Nat) ({ cls := "TokenRingModel", name := "drop", desc := "(I)I" } : Jvm.MethodName)) ∈ lw_all := lw_g (lw_at lw_m13 28 rfl) rfl
theorem q3006 : (Jvm.Cond.methodLink "TokenRingLaw" (164 : Nat) ({ cls := "TokenRingModel", name := "monitor", desc := "(I)I" } : Jvm.MethodName)) ∈ lw_all := lw_g (lw_at lw_m13 32 rfl) rfl
theorem q3018 : (Jvm.Cond.methodLink "TokenRingLaw" (167 : Nat) ({ cls := "TokenRingModel", name := "token", desc := "(I)I" } : Jvm.MethodName)) ∈ lw_all := lw_g (lw_at lw_m13 44 rfl) rfl
theorem q3030 : (Jvm.Cond.methodLink "TokenRingLaw" (171 : Nat) ({ cls := "TokenRingModel", name := "lose", desc := "()I" } : Jvm.MethodName)) ∈ lw_all := lw_g (lw_at lw_m13 56 rfl) rfl
theorem q3038 : (Jvm.Cond.methodLink "TokenRingLaw" (174 : Nat) ({ cls := "TokenRingModel", name := "tick", desc := "(I)I" } : Jvm.MethodName)) ∈ lw_all := lw_g (lw_at lw_m13 64 rfl) rfl
theorem q3080 : (Jvm.Cond.methodLink "TokenRingLaw" (177 : Nat) ({ cls := "TokenRingModel", name := "onRing", desc := "(I)I" } : Jvm.MethodName)) ∈ lw_all := lw_g (lw_at lw_m13 106 rfl) rfl
theorem q3084 : (Jvm.Cond.methodLink "TokenRingLaw" (180 : Nat) ({ cls := "TokenRingModel", name := "stationAt", desc := "(I)I" } : Jvm.MethodName)) ∈ lw_all := lw_g (lw_at lw_m13 110 rfl) rfl
theorem q3088 : (Jvm.Cond.methodLink "TokenRingLaw" (184 : Nat) ({ cls := "TokenRingModel", name := "waits", desc := "(II)I" } : Jvm.MethodName)) ∈ lw_all := lw_g (lw_at lw_m13 114 rfl) rfl
theorem q3092 : (Jvm.Cond.methodLink "TokenRingLaw" (187 : Nat) ({ cls := "TokenRingModel", name := "rankOf", desc := "(I)I" } : Jvm.MethodName)) ∈ lw_all := lw_g (lw_at lw_m13 118 rfl) rfl
theorem q3104 : (Jvm.Cond.methodLink "TokenRingLaw" (190 : Nat) ({ cls := "TokenRingModel", name := "whereIs", desc := "(I)I" } : Jvm.MethodName)) ∈ lw_all := lw_g (lw_at lw_m13 130 rfl) rfl
theorem q3108 : (Jvm.Cond.methodLink "TokenRingLaw" (193 : Nat) ({ cls := "TokenRingModel", name := "queueOf", desc := "(II)I" } : Jvm.MethodName)) ∈ lw_all := lw_g (lw_at lw_m13 134 rfl) rfl
theorem q3120 : (Jvm.Cond.methodLink "TokenRingLaw" (196 : Nat) ({ cls := "TokenRingModel", name := "next", desc := "(I)I" } : Jvm.MethodName)) ∈ lw_all := lw_g (lw_at lw_m13 146 rfl) rfl
theorem q3124 : (Jvm.Cond.methodLink "TokenRingLaw" (199 : Nat) ({ cls := "TokenRingModel", name := "steps", desc := "(II)I" } : Jvm.MethodName)) ∈ lw_all := lw_g (lw_at lw_m13 150 rfl) rfl
theorem q3132 : (Jvm.Cond.methodLink "TokenRingLaw" (202 : Nat) ({ cls := "TokenRingModel", name := "stepsAgain", desc := "(II)I" } : Jvm.MethodName)) ∈ lw_all := lw_g (lw_at lw_m13 158 rfl) rfl
theorem q3136 : (Jvm.Cond.methodLink "TokenRingLaw" (205 : Nat) ({ cls := "TokenRingModel", name := "isInRing", desc := "(I)Z" } : Jvm.MethodName)) ∈ lw_all := lw_g (lw_at lw_m13 162 rfl) rfl
theorem q3140 : (Jvm.Cond.methodLink "TokenRingLaw" (208 : Nat) ({ cls := "TokenRingModel", name := "canTake", desc := "(I)Z" } : Jvm.MethodName)) ∈ lw_all := lw_g (lw_at lw_m13 166 rfl) rfl
theorem q3144 : (Jvm.Cond.methodLink "TokenRingLaw" (211 : Nat) ({ cls := "TokenRingModel", name := "whoTakes", desc := "()I" } : Jvm.MethodName)) ∈ lw_all := lw_g (lw_at lw_m13 170 rfl) rfl
theorem q3148 : (Jvm.Cond.methodLink "TokenRingLaw" (214 : Nat) ({ cls := "TokenRingModel", name := "receivedIn", desc := "(I)I" } : Jvm.MethodName)) ∈ lw_all := lw_g (lw_at lw_m13 174 rfl) rfl
theorem q3156 : (Jvm.Cond.methodLink "TokenRingLaw" (217 : Nat) ({ cls := "TokenRingModel", name := "tokenIn", desc := "(I)I" } : Jvm.MethodName)) ∈ lw_all := lw_g (lw_at lw_m13 182 rfl) rfl
theorem q3164 : (Jvm.Cond.methodLink "TokenRingLaw" (220 : Nat) ({ cls := "TokenRingModel", name := "ahead", desc := "(II)I" } : Jvm.MethodName)) ∈ lw_all := lw_g (lw_at lw_m13 190 rfl) rfl
theorem q3168 : (Jvm.Cond.methodLink "TokenRingLaw" (223 : Nat) ({ cls := "TokenRingModel", name := "ranked", desc := "(I)I" } : Jvm.MethodName)) ∈ lw_all := lw_g (lw_at lw_m13 194 rfl) rfl
theorem q3176 : (Jvm.Cond.methodLink "TokenRingLaw" (226 : Nat) ({ cls := "TokenRingModel", name := "longestWait", desc := "()I" } : Jvm.MethodName)) ∈ lw_all := lw_g (lw_at lw_m13 202 rfl) rfl
theorem q3180 : (Jvm.Cond.methodLink "TokenRingLaw" (229 : Nat) ({ cls := "TokenRingModel", name := "greatest", desc := "()I" } : Jvm.MethodName)) ∈ lw_all := lw_g (lw_at lw_m13 206 rfl) rfl
theorem q3184 : (Jvm.Cond.methodLink "TokenRingLaw" (233 : Nat) ({ cls := "TokenRingModel", name := "waiting", desc := "()I" } : Jvm.MethodName)) ∈ lw_all := lw_g (lw_at lw_m13 210 rfl) rfl
theorem q3188 : (Jvm.Cond.methodLink "TokenRingLaw" (237 : Nat) ({ cls := "TokenRingModel", name := "waitingAgain", desc := "()I" } : Jvm.MethodName)) ∈ lw_all := lw_g (lw_at lw_m13 214 rfl) rfl
theorem q3192 : (Jvm.Cond.methodLink "TokenRingLaw" (241 : Nat) ({ cls := "TokenRingModel", name := "append", desc := "(C)I" } : Jvm.MethodName)) ∈ lw_all := lw_g (lw_at lw_m13 218 rfl) rfl
theorem q3196 : (Jvm.Cond.methodLink "TokenRingLaw" (244 : Nat) ({ cls := "TokenRingModel", name := "run", desc := "()I" } : Jvm.MethodName)) ∈ lw_all := lw_g (lw_at lw_m13 222 rfl) rfl
theorem q3228 : (Jvm.Cond.methodLink "TokenRingLaw" (248 : Nat) ({ cls := "TokenRingModel", name := "faultPosition", desc := "()I" } : Jvm.MethodName)) ∈ lw_all := lw_g (lw_at lw_m14 14 rfl) rfl
theorem q3232 : (Jvm.Cond.methodLink "TokenRingLaw" (252 : Nat) ({ cls := "TokenRingModel", name := "reason", desc := "(IZ)I" } : Jvm.MethodName)) ∈ lw_all := lw_g (lw_at lw_m14 18 rfl) rfl
theorem q3236 : (Jvm.Cond.methodLink "TokenRingLaw" (256 : Nat) ({ cls := "TokenRingModel", name := "tellRing", desc := "()I" } : Jvm.MethodName)) ∈ lw_all := lw_g (lw_at lw_m14 22 rfl) rfl
theorem q3252 : (Jvm.Cond.methodLink "TokenRingLaw" (259 : Nat) ({ cls := "TokenRingModel", name := "tellQueue", desc := "(I)I" } : Jvm.MethodName)) ∈ lw_all := lw_g (lw_at lw_m14 38 rfl) rfl
theorem q3256 : (Jvm.Cond.methodLink "TokenRingLaw" (262 : Nat) ({ cls := "TokenRingModel", name := "character", desc := "(I)C" } : Jvm.MethodName)) ∈ lw_all := lw_g (lw_at lw_m14 42 rfl) rfl
theorem q3260 : (Jvm.Cond.methodLink "TokenRingLaw" (265 : Nat) ({ cls := "TokenRingModel", name := "account", desc := "(I)I" } : Jvm.MethodName)) ∈ lw_all := lw_g (lw_at lw_m14 46 rfl) rfl
theorem q3264 : (Jvm.Cond.methodLink "TokenRingLaw" (269 : Nat) ({ cls := "TokenRingModel", name := "meanDelay", desc := "()D" } : Jvm.MethodName)) ∈ lw_all := lw_g (lw_at lw_m14 50 rfl) rfl
theorem q3268 : (Jvm.Cond.methodLink "TokenRingLaw" (272 : Nat) ({ cls := "TokenRingModel", name := "receivedShare", desc := "()F" } : Jvm.MethodName)) ∈ lw_all := lw_g (lw_at lw_m14 54 rfl) rfl
theorem q3272 : (Jvm.Cond.methodLink "TokenRingLaw" (275 : Nat) ({ cls := "TokenRingModel", name := "undo", desc := "()I" } : Jvm.MethodName)) ∈ lw_all := lw_g (lw_at lw_m14 58 rfl) rfl
theorem q3276 : (Jvm.Cond.methodLink "TokenRingLaw" (279 : Nat) ({ cls := "TokenRingModel", name := "save", desc := "()I" } : Jvm.MethodName)) ∈ lw_all := lw_g (lw_at lw_m14 62 rfl) rfl
theorem q3280 : (Jvm.Cond.methodLink "TokenRingLaw" (282 : Nat) ({ cls := "TokenRingModel", name := "restore", desc := "()I" } : Jvm.MethodName)) ∈ lw_all := lw_g (lw_at lw_m14 66 rfl) rfl
/-! TokenRing -/
set_option maxRecDepth 100000
def RX1 : String := "TokenRing"
def TX1 : u_T := fun k => match k with
  | 0 => ("TokenRing", "state", "LTokenRing$State;", false)
  | 1 => ("TokenRing", "saved", "LTokenRing$State;", false)
  | 2 => ("TokenRing", "history", "Ljava/util/ArrayDeque;", true)
  | 3 => ("TokenRing", "input", "Ljava/lang/StringBuilder;", true)
  | 4 => ("TokenRing", "line", "Ljava/lang/StringBuilder;", true)
  | 5 => ("TokenRing", "isWithinText", "Z", false)
  | 6 => ("TokenRing", "faultPosition", "I", false)
  | _ => ("TokenRing", "reason", "LTokenRing$Reason;", false)
def tyX1 : Nat → FieldType := fun k => match k with
  | 0 => .object "TokenRing$State"
  | 1 => .object "TokenRing$State"
  | 2 => .object "java/util/ArrayDeque"
  | 3 => .object "java/lang/StringBuilder"
  | 4 => .object "java/lang/StringBuilder"
  | 5 => .boolean
  | 6 => .int
  | _ => .object "TokenRing$Reason"
abbrev wsX10 : List Cond := u_ws RX1 TX1 8
theorem nmX1 : ∀ a, a < 8 → ∀ b, b < 8 → a ≠ b → (TX1 a).2.1 ≠ (TX1 b).2.1 := by decide +kernel
theorem tyX1_ok : ∀ k, k < 8 → parseFieldDescriptor (TX1 k).2.2.1 = some (tyX1 k) := by decide +kernel
abbrev cX1_init : ByteArray := prog_1_method_1_code
def yX1_init : MethodName := ⟨RX1, "<init>", "()V"⟩
def dkwX1_init_2 : List UInt8 := [181, 0, 30, 42, 2, 181, 0, 33, 177]
abbrev dktX1_init_2 : List UInt8 := dkwX1_init_2 ++ []
def dkwX1_init_1 : List UInt8 := [181, 0, 19, 42, 187, 0, 23, 89, 183, 0, 25, 181, 0, 26, 42, 187, 0, 23, 89, 183, 0, 25]
abbrev dktX1_init_1 : List UInt8 := dkwX1_init_1 ++ dktX1_init_2
def dkwX1_init_0 : List UInt8 := [42, 183, 0, 1, 42, 187, 0, 7, 89, 183, 0, 9, 181, 0, 10, 42, 187, 0, 16, 89, 183, 0, 18]
abbrev dktX1_init_0 : List UInt8 := dkwX1_init_0 ++ dktX1_init_1
theorem dksX1_init_0 : cX1_init.data.toList.drop 0 = dktX1_init_0 := by decide +kernel
theorem dksX1_init_1 : cX1_init.data.toList.drop 23 = dktX1_init_1 := dk_seg dksX1_init_0 23 rfl rfl
theorem dksX1_init_2 : cX1_init.data.toList.drop 45 = dktX1_init_2 := dk_seg dksX1_init_1 22 rfl rfl
theorem dX1_init_0 : decode cX1_init 0 = .ok (.aload_n 0, 1) := dk_42 (dk_at dksX1_init_0 0 rfl rfl)
theorem dX1_init_1 : decode cX1_init 1 = .ok (.invokespecial 1, 3) := dk_183 0 1 (dk_at dksX1_init_0 1 rfl rfl)
theorem dX1_init_4 : decode cX1_init 4 = .ok (.aload_n 0, 1) := dk_42 (dk_at dksX1_init_0 4 rfl rfl)
theorem dX1_init_5 : decode cX1_init 5 = .ok (.new 7, 3) := dk_187 0 7 (dk_at dksX1_init_0 5 rfl rfl)
theorem dX1_init_8 : decode cX1_init 8 = .ok (.dup, 1) := dk_89 (dk_at dksX1_init_0 8 rfl rfl)
theorem dX1_init_9 : decode cX1_init 9 = .ok (.invokespecial 9, 3) := dk_183 0 9 (dk_at dksX1_init_0 9 rfl rfl)
theorem dX1_init_12 : decode cX1_init 12 = .ok (.putfield 10, 3) := dk_181 0 10 (dk_at dksX1_init_0 12 rfl rfl)
theorem dX1_init_15 : decode cX1_init 15 = .ok (.aload_n 0, 1) := dk_42 (dk_at dksX1_init_0 15 rfl rfl)
theorem dX1_init_16 : decode cX1_init 16 = .ok (.new 16, 3) := dk_187 0 16 (dk_at dksX1_init_0 16 rfl rfl)
theorem dX1_init_19 : decode cX1_init 19 = .ok (.dup, 1) := dk_89 (dk_at dksX1_init_0 19 rfl rfl)
theorem dX1_init_20 : decode cX1_init 20 = .ok (.invokespecial 18, 3) := dk_183 0 18 (dk_at dksX1_init_0 20 rfl rfl)
theorem dX1_init_23 : decode cX1_init 23 = .ok (.putfield 19, 3) := dk_181 0 19 (dk_at dksX1_init_1 0 rfl rfl)
theorem dX1_init_26 : decode cX1_init 26 = .ok (.aload_n 0, 1) := dk_42 (dk_at dksX1_init_1 3 rfl rfl)
theorem dX1_init_27 : decode cX1_init 27 = .ok (.new 23, 3) := dk_187 0 23 (dk_at dksX1_init_1 4 rfl rfl)
theorem dX1_init_30 : decode cX1_init 30 = .ok (.dup, 1) := dk_89 (dk_at dksX1_init_1 7 rfl rfl)
theorem dX1_init_31 : decode cX1_init 31 = .ok (.invokespecial 25, 3) := dk_183 0 25 (dk_at dksX1_init_1 8 rfl rfl)
theorem dX1_init_34 : decode cX1_init 34 = .ok (.putfield 26, 3) := dk_181 0 26 (dk_at dksX1_init_1 11 rfl rfl)
theorem dX1_init_37 : decode cX1_init 37 = .ok (.aload_n 0, 1) := dk_42 (dk_at dksX1_init_1 14 rfl rfl)
theorem dX1_init_38 : decode cX1_init 38 = .ok (.new 23, 3) := dk_187 0 23 (dk_at dksX1_init_1 15 rfl rfl)
theorem dX1_init_41 : decode cX1_init 41 = .ok (.dup, 1) := dk_89 (dk_at dksX1_init_1 18 rfl rfl)
theorem dX1_init_42 : decode cX1_init 42 = .ok (.invokespecial 25, 3) := dk_183 0 25 (dk_at dksX1_init_1 19 rfl rfl)
theorem dX1_init_45 : decode cX1_init 45 = .ok (.putfield 30, 3) := dk_181 0 30 (dk_at dksX1_init_2 0 rfl rfl)
theorem dX1_init_48 : decode cX1_init 48 = .ok (.aload_n 0, 1) := dk_42 (dk_at dksX1_init_2 3 rfl rfl)
theorem dX1_init_49 : decode cX1_init 49 = .ok (.iconst (-1), 1) := dk_2 (dk_at dksX1_init_2 4 rfl rfl)
theorem dX1_init_50 : decode cX1_init 50 = .ok (.putfield 33, 3) := dk_181 0 33 (dk_at dksX1_init_2 5 rfl rfl)
theorem dX1_init_53 : decode cX1_init 53 = .ok (.return_, 1) := dk_177 (dk_at dksX1_init_2 8 rfl rfl)
abbrev cX1_waiting : ByteArray := prog_1_method_45_code
def yX1_waiting : MethodName := ⟨RX1, "waiting", "()I"⟩
def dkwX1_waiting_0 : List UInt8 := [42, 180, 0, 10, 182, 0, 194, 172]
abbrev dktX1_waiting_0 : List UInt8 := dkwX1_waiting_0 ++ []
theorem dksX1_waiting_0 : cX1_waiting.data.toList.drop 0 = dktX1_waiting_0 := by decide +kernel
theorem dX1_waiting_0 : decode cX1_waiting 0 = .ok (.aload_n 0, 1) := dk_42 (dk_at dksX1_waiting_0 0 rfl rfl)
theorem dX1_waiting_1 : decode cX1_waiting 1 = .ok (.getfield 10, 3) := dk_180 0 10 (dk_at dksX1_waiting_0 1 rfl rfl)
theorem dX1_waiting_4 : decode cX1_waiting 4 = .ok (.invokevirtual 194, 3) := dk_182 0 194 (dk_at dksX1_waiting_0 4 rfl rfl)
theorem dX1_waiting_7 : decode cX1_waiting 7 = .ok (.ireturn, 1) := dk_172 (dk_at dksX1_waiting_0 7 rfl rfl)
abbrev cX1_waitingAgain : ByteArray := prog_1_method_46_code
def yX1_waitingAgain : MethodName := ⟨RX1, "waitingAgain", "()I"⟩
def dkwX1_waitingAgain_1 : List UInt8 := [180, 0, 10, 180, 1, 90, 100, 172]
abbrev dktX1_waitingAgain_1 : List UInt8 := dkwX1_waitingAgain_1 ++ []
def dkwX1_waitingAgain_0 : List UInt8 := [42, 180, 0, 10, 180, 0, 156, 42, 180, 0, 10, 180, 1, 88, 100, 42, 180, 0, 10, 180, 0, 179, 100, 42]
abbrev dktX1_waitingAgain_0 : List UInt8 := dkwX1_waitingAgain_0 ++ dktX1_waitingAgain_1
theorem dksX1_waitingAgain_0 : cX1_waitingAgain.data.toList.drop 0 = dktX1_waitingAgain_0 := by decide +kernel
theorem dksX1_waitingAgain_1 : cX1_waitingAgain.data.toList.drop 24 = dktX1_waitingAgain_1 := dk_seg dksX1_waitingAgain_0 24 rfl rfl
theorem dX1_waitingAgain_0 : decode cX1_waitingAgain 0 = .ok (.aload_n 0, 1) := dk_42 (dk_at dksX1_waitingAgain_0 0 rfl rfl)
theorem dX1_waitingAgain_1 : decode cX1_waitingAgain 1 = .ok (.getfield 10, 3) := dk_180 0 10 (dk_at dksX1_waitingAgain_0 1 rfl rfl)
theorem dX1_waitingAgain_4 : decode cX1_waitingAgain 4 = .ok (.getfield 156, 3) := dk_180 0 156 (dk_at dksX1_waitingAgain_0 4 rfl rfl)
theorem dX1_waitingAgain_7 : decode cX1_waitingAgain 7 = .ok (.aload_n 0, 1) := dk_42 (dk_at dksX1_waitingAgain_0 7 rfl rfl)
theorem dX1_waitingAgain_8 : decode cX1_waitingAgain 8 = .ok (.getfield 10, 3) := dk_180 0 10 (dk_at dksX1_waitingAgain_0 8 rfl rfl)
theorem dX1_waitingAgain_11 : decode cX1_waitingAgain 11 = .ok (.getfield 344, 3) := dk_180 1 88 (dk_at dksX1_waitingAgain_0 11 rfl rfl)
theorem dX1_waitingAgain_14 : decode cX1_waitingAgain 14 = .ok (.isub, 1) := dk_100 (dk_at dksX1_waitingAgain_0 14 rfl rfl)
theorem dX1_waitingAgain_15 : decode cX1_waitingAgain 15 = .ok (.aload_n 0, 1) := dk_42 (dk_at dksX1_waitingAgain_0 15 rfl rfl)
theorem dX1_waitingAgain_16 : decode cX1_waitingAgain 16 = .ok (.getfield 10, 3) := dk_180 0 10 (dk_at dksX1_waitingAgain_0 16 rfl rfl)
theorem dX1_waitingAgain_19 : decode cX1_waitingAgain 19 = .ok (.getfield 179, 3) := dk_180 0 179 (dk_at dksX1_waitingAgain_0 19 rfl rfl)
theorem dX1_waitingAgain_22 : decode cX1_waitingAgain 22 = .ok (.isub, 1) := dk_100 (dk_at dksX1_waitingAgain_0 22 rfl rfl)
theorem dX1_waitingAgain_23 : decode cX1_waitingAgain 23 = .ok (.aload_n 0, 1) := dk_42 (dk_at dksX1_waitingAgain_0 23 rfl rfl)
theorem dX1_waitingAgain_24 : decode cX1_waitingAgain 24 = .ok (.getfield 10, 3) := dk_180 0 10 (dk_at dksX1_waitingAgain_1 0 rfl rfl)
theorem dX1_waitingAgain_27 : decode cX1_waitingAgain 27 = .ok (.getfield 346, 3) := dk_180 1 90 (dk_at dksX1_waitingAgain_1 3 rfl rfl)
theorem dX1_waitingAgain_30 : decode cX1_waitingAgain 30 = .ok (.isub, 1) := dk_100 (dk_at dksX1_waitingAgain_1 6 rfl rfl)
theorem dX1_waitingAgain_31 : decode cX1_waitingAgain 31 = .ok (.ireturn, 1) := dk_172 (dk_at dksX1_waitingAgain_1 7 rfl rfl)
abbrev cX1_faultPosition : ByteArray := prog_1_method_50_code
def yX1_faultPosition : MethodName := ⟨RX1, "faultPosition", "()I"⟩
theorem dX1_faultPosition_0 : decode cX1_faultPosition 0 = .ok (.aload_n 0, 1) := by decide +kernel
theorem dX1_faultPosition_1 : decode cX1_faultPosition 1 = .ok (.getfield 33, 3) := by decide +kernel
theorem dX1_faultPosition_4 : decode cX1_faultPosition 4 = .ok (.ireturn, 1) := by decide +kernel
abbrev cX1_tellRing : ByteArray := prog_1_method_52_code
def yX1_tellRing : MethodName := ⟨RX1, "tellRing", "()I"⟩
def dkwX1_tellRing_9 : List UInt8 := [182, 1, 98, 172]
abbrev dktX1_tellRing_9 : List UInt8 := dkwX1_tellRing_9 ++ []
def dkwX1_tellRing_8 : List UInt8 := [182, 1, 153, 153, 0, 9, 19, 1, 154, 167, 0, 6, 19, 1, 143, 182, 1, 145, 87, 42, 180, 0, 30]
abbrev dktX1_tellRing_8 : List UInt8 := dkwX1_tellRing_8 ++ dktX1_tellRing_9
def dkwX1_tellRing_7 : List UInt8 := [5, 184, 0, 241, 182, 1, 148, 87, 167, 255, 111, 42, 180, 0, 30, 42, 180, 0, 10, 180, 0, 89]
abbrev dktX1_tellRing_7 : List UInt8 := dkwX1_tellRing_7 ++ dktX1_tellRing_8
def dkwX1_tellRing_6 : List UInt8 := [180, 0, 10, 180, 0, 185, 4, 160, 0, 8, 16, 84, 167, 0, 5, 16, 70, 182, 1, 104, 42, 180, 0, 10]
abbrev dktX1_tellRing_6 : List UInt8 := dkwX1_tellRing_6 ++ dktX1_tellRing_7
def dkwX1_tellRing_5 : List UInt8 := [153, 0, 54, 42, 180, 0, 10, 180, 0, 206, 44, 180, 1, 10, 160, 0, 40, 42, 180, 0, 30, 42]
abbrev dktX1_tellRing_5 : List UInt8 := dkwX1_tellRing_5 ++ dktX1_tellRing_6
def dkwX1_tellRing_4 : List UInt8 := [160, 0, 9, 19, 1, 151, 167, 0, 6, 19, 1, 143, 182, 1, 145, 87, 42, 180, 0, 10, 180, 0, 185]
abbrev dktX1_tellRing_4 : List UInt8 := dkwX1_tellRing_4 ++ dktX1_tellRing_5
def dkwX1_tellRing_3 : List UInt8 := [180, 1, 10, 182, 1, 148, 87, 42, 180, 0, 30, 44, 180, 1, 10, 42, 180, 0, 10, 180, 0, 146]
abbrev dktX1_tellRing_3 : List UInt8 := dkwX1_tellRing_3 ++ dktX1_tellRing_4
def dkwX1_tellRing_2 : List UInt8 := [180, 0, 30, 182, 1, 98, 158, 0, 9, 19, 1, 141, 167, 0, 6, 19, 1, 143, 182, 1, 145, 44]
abbrev dktX1_tellRing_2 : List UInt8 := dkwX1_tellRing_2 ++ dktX1_tellRing_3
def dkwX1_tellRing_1 : List UInt8 := [43, 185, 1, 2, 1, 0, 153, 0, 142, 43, 185, 1, 7, 1, 0, 192, 0, 113, 77, 42, 180, 0, 30, 42]
abbrev dktX1_tellRing_1 : List UInt8 := dkwX1_tellRing_1 ++ dktX1_tellRing_2
def dkwX1_tellRing_0 : List UInt8 := [42, 180, 0, 30, 3, 182, 1, 117, 42, 180, 0, 10, 180, 0, 89, 182, 0, 248, 185, 0, 252, 1, 0, 76]
abbrev dktX1_tellRing_0 : List UInt8 := dkwX1_tellRing_0 ++ dktX1_tellRing_1
theorem dksX1_tellRing_0 : cX1_tellRing.data.toList.drop 0 = dktX1_tellRing_0 := by decide +kernel
theorem dksX1_tellRing_1 : cX1_tellRing.data.toList.drop 24 = dktX1_tellRing_1 := dk_seg dksX1_tellRing_0 24 rfl rfl
theorem dksX1_tellRing_2 : cX1_tellRing.data.toList.drop 48 = dktX1_tellRing_2 := dk_seg dksX1_tellRing_1 24 rfl rfl
theorem dksX1_tellRing_3 : cX1_tellRing.data.toList.drop 70 = dktX1_tellRing_3 := dk_seg dksX1_tellRing_2 22 rfl rfl
theorem dksX1_tellRing_4 : cX1_tellRing.data.toList.drop 92 = dktX1_tellRing_4 := dk_seg dksX1_tellRing_3 22 rfl rfl
theorem dksX1_tellRing_5 : cX1_tellRing.data.toList.drop 115 = dktX1_tellRing_5 := dk_seg dksX1_tellRing_4 23 rfl rfl
theorem dksX1_tellRing_6 : cX1_tellRing.data.toList.drop 137 = dktX1_tellRing_6 := dk_seg dksX1_tellRing_5 22 rfl rfl
theorem dksX1_tellRing_7 : cX1_tellRing.data.toList.drop 161 = dktX1_tellRing_7 := dk_seg dksX1_tellRing_6 24 rfl rfl
theorem dksX1_tellRing_8 : cX1_tellRing.data.toList.drop 183 = dktX1_tellRing_8 := dk_seg dksX1_tellRing_7 22 rfl rfl
theorem dksX1_tellRing_9 : cX1_tellRing.data.toList.drop 206 = dktX1_tellRing_9 := dk_seg dksX1_tellRing_8 23 rfl rfl
theorem dX1_tellRing_0 : decode cX1_tellRing 0 = .ok (.aload_n 0, 1) := dk_42 (dk_at dksX1_tellRing_0 0 rfl rfl)
theorem dX1_tellRing_1 : decode cX1_tellRing 1 = .ok (.getfield 30, 3) := dk_180 0 30 (dk_at dksX1_tellRing_0 1 rfl rfl)
theorem dX1_tellRing_4 : decode cX1_tellRing 4 = .ok (.iconst 0, 1) := dk_3 (dk_at dksX1_tellRing_0 4 rfl rfl)
theorem dX1_tellRing_5 : decode cX1_tellRing 5 = .ok (.invokevirtual 373, 3) := dk_182 1 117 (dk_at dksX1_tellRing_0 5 rfl rfl)
theorem dX1_tellRing_8 : decode cX1_tellRing 8 = .ok (.aload_n 0, 1) := dk_42 (dk_at dksX1_tellRing_0 8 rfl rfl)
theorem dX1_tellRing_9 : decode cX1_tellRing 9 = .ok (.getfield 10, 3) := dk_180 0 10 (dk_at dksX1_tellRing_0 9 rfl rfl)
theorem dX1_tellRing_12 : decode cX1_tellRing 12 = .ok (.getfield 89, 3) := dk_180 0 89 (dk_at dksX1_tellRing_0 12 rfl rfl)
theorem dX1_tellRing_15 : decode cX1_tellRing 15 = .ok (.invokevirtual 248, 3) := dk_182 0 248 (dk_at dksX1_tellRing_0 15 rfl rfl)
theorem dX1_tellRing_18 : decode cX1_tellRing 18 = .ok (.invokeinterface 252 1, 5) := by decide +kernel
theorem dX1_tellRing_23 : decode cX1_tellRing 23 = .ok (.astore_n 1, 1) := dk_76 (dk_at dksX1_tellRing_0 23 rfl rfl)
theorem dX1_tellRing_24 : decode cX1_tellRing 24 = .ok (.aload_n 1, 1) := dk_43 (dk_at dksX1_tellRing_1 0 rfl rfl)
theorem dX1_tellRing_25 : decode cX1_tellRing 25 = .ok (.invokeinterface 258 1, 5) := by decide +kernel
theorem dX1_tellRing_30 : decode cX1_tellRing 30 = .ok (.ifCond .eq 142, 3) := dk_153 0 142 (dk_at dksX1_tellRing_1 6 rfl rfl)
theorem dX1_tellRing_33 : decode cX1_tellRing 33 = .ok (.aload_n 1, 1) := dk_43 (dk_at dksX1_tellRing_1 9 rfl rfl)
theorem dX1_tellRing_34 : decode cX1_tellRing 34 = .ok (.invokeinterface 263 1, 5) := by decide +kernel
theorem dX1_tellRing_39 : decode cX1_tellRing 39 = .ok (.checkcast 113, 3) := dk_192 0 113 (dk_at dksX1_tellRing_1 15 rfl rfl)
theorem dX1_tellRing_42 : decode cX1_tellRing 42 = .ok (.astore_n 2, 1) := dk_77 (dk_at dksX1_tellRing_1 18 rfl rfl)
theorem dX1_tellRing_43 : decode cX1_tellRing 43 = .ok (.aload_n 0, 1) := dk_42 (dk_at dksX1_tellRing_1 19 rfl rfl)
theorem dX1_tellRing_44 : decode cX1_tellRing 44 = .ok (.getfield 30, 3) := dk_180 0 30 (dk_at dksX1_tellRing_1 20 rfl rfl)
theorem dX1_tellRing_47 : decode cX1_tellRing 47 = .ok (.aload_n 0, 1) := dk_42 (dk_at dksX1_tellRing_1 23 rfl rfl)
theorem dX1_tellRing_48 : decode cX1_tellRing 48 = .ok (.getfield 30, 3) := dk_180 0 30 (dk_at dksX1_tellRing_2 0 rfl rfl)
theorem dX1_tellRing_51 : decode cX1_tellRing 51 = .ok (.invokevirtual 354, 3) := dk_182 1 98 (dk_at dksX1_tellRing_2 3 rfl rfl)
theorem dX1_tellRing_54 : decode cX1_tellRing 54 = .ok (.ifCond .le 9, 3) := dk_158 0 9 (dk_at dksX1_tellRing_2 6 rfl rfl)
theorem dX1_tellRing_57 : decode cX1_tellRing 57 = .ok (.ldc_w 397, 3) := dk_19 1 141 (dk_at dksX1_tellRing_2 9 rfl rfl)
theorem dX1_tellRing_60 : decode cX1_tellRing 60 = .ok (.goto 6, 3) := dk_167 0 6 (dk_at dksX1_tellRing_2 12 rfl rfl)
theorem dX1_tellRing_63 : decode cX1_tellRing 63 = .ok (.ldc_w 399, 3) := dk_19 1 143 (dk_at dksX1_tellRing_2 15 rfl rfl)
theorem dX1_tellRing_66 : decode cX1_tellRing 66 = .ok (.invokevirtual 401, 3) := dk_182 1 145 (dk_at dksX1_tellRing_2 18 rfl rfl)
theorem dX1_tellRing_69 : decode cX1_tellRing 69 = .ok (.aload_n 2, 1) := dk_44 (dk_at dksX1_tellRing_2 21 rfl rfl)
theorem dX1_tellRing_70 : decode cX1_tellRing 70 = .ok (.getfield 266, 3) := dk_180 1 10 (dk_at dksX1_tellRing_3 0 rfl rfl)
theorem dX1_tellRing_73 : decode cX1_tellRing 73 = .ok (.invokevirtual 404, 3) := dk_182 1 148 (dk_at dksX1_tellRing_3 3 rfl rfl)
theorem dX1_tellRing_76 : decode cX1_tellRing 76 = .ok (.pop, 1) := dk_87 (dk_at dksX1_tellRing_3 6 rfl rfl)
theorem dX1_tellRing_77 : decode cX1_tellRing 77 = .ok (.aload_n 0, 1) := dk_42 (dk_at dksX1_tellRing_3 7 rfl rfl)
theorem dX1_tellRing_78 : decode cX1_tellRing 78 = .ok (.getfield 30, 3) := dk_180 0 30 (dk_at dksX1_tellRing_3 8 rfl rfl)
theorem dX1_tellRing_81 : decode cX1_tellRing 81 = .ok (.aload_n 2, 1) := dk_44 (dk_at dksX1_tellRing_3 11 rfl rfl)
theorem dX1_tellRing_82 : decode cX1_tellRing 82 = .ok (.getfield 266, 3) := dk_180 1 10 (dk_at dksX1_tellRing_3 12 rfl rfl)
theorem dX1_tellRing_85 : decode cX1_tellRing 85 = .ok (.aload_n 0, 1) := dk_42 (dk_at dksX1_tellRing_3 15 rfl rfl)
theorem dX1_tellRing_86 : decode cX1_tellRing 86 = .ok (.getfield 10, 3) := dk_180 0 10 (dk_at dksX1_tellRing_3 16 rfl rfl)
theorem dX1_tellRing_89 : decode cX1_tellRing 89 = .ok (.getfield 146, 3) := dk_180 0 146 (dk_at dksX1_tellRing_3 19 rfl rfl)
theorem dX1_tellRing_92 : decode cX1_tellRing 92 = .ok (.if_icmp .ne 9, 3) := dk_160 0 9 (dk_at dksX1_tellRing_4 0 rfl rfl)
theorem dX1_tellRing_95 : decode cX1_tellRing 95 = .ok (.ldc_w 407, 3) := dk_19 1 151 (dk_at dksX1_tellRing_4 3 rfl rfl)
theorem dX1_tellRing_98 : decode cX1_tellRing 98 = .ok (.goto 6, 3) := dk_167 0 6 (dk_at dksX1_tellRing_4 6 rfl rfl)
theorem dX1_tellRing_101 : decode cX1_tellRing 101 = .ok (.ldc_w 399, 3) := dk_19 1 143 (dk_at dksX1_tellRing_4 9 rfl rfl)
theorem dX1_tellRing_104 : decode cX1_tellRing 104 = .ok (.invokevirtual 401, 3) := dk_182 1 145 (dk_at dksX1_tellRing_4 12 rfl rfl)
theorem dX1_tellRing_107 : decode cX1_tellRing 107 = .ok (.pop, 1) := dk_87 (dk_at dksX1_tellRing_4 15 rfl rfl)
theorem dX1_tellRing_108 : decode cX1_tellRing 108 = .ok (.aload_n 0, 1) := dk_42 (dk_at dksX1_tellRing_4 16 rfl rfl)
theorem dX1_tellRing_109 : decode cX1_tellRing 109 = .ok (.getfield 10, 3) := dk_180 0 10 (dk_at dksX1_tellRing_4 17 rfl rfl)
theorem dX1_tellRing_112 : decode cX1_tellRing 112 = .ok (.getfield 185, 3) := dk_180 0 185 (dk_at dksX1_tellRing_4 20 rfl rfl)
theorem dX1_tellRing_115 : decode cX1_tellRing 115 = .ok (.ifCond .eq 54, 3) := dk_153 0 54 (dk_at dksX1_tellRing_5 0 rfl rfl)
theorem dX1_tellRing_118 : decode cX1_tellRing 118 = .ok (.aload_n 0, 1) := dk_42 (dk_at dksX1_tellRing_5 3 rfl rfl)
theorem dX1_tellRing_119 : decode cX1_tellRing 119 = .ok (.getfield 10, 3) := dk_180 0 10 (dk_at dksX1_tellRing_5 4 rfl rfl)
theorem dX1_tellRing_122 : decode cX1_tellRing 122 = .ok (.getfield 206, 3) := dk_180 0 206 (dk_at dksX1_tellRing_5 7 rfl rfl)
theorem dX1_tellRing_125 : decode cX1_tellRing 125 = .ok (.aload_n 2, 1) := dk_44 (dk_at dksX1_tellRing_5 10 rfl rfl)
theorem dX1_tellRing_126 : decode cX1_tellRing 126 = .ok (.getfield 266, 3) := dk_180 1 10 (dk_at dksX1_tellRing_5 11 rfl rfl)
theorem dX1_tellRing_129 : decode cX1_tellRing 129 = .ok (.if_icmp .ne 40, 3) := dk_160 0 40 (dk_at dksX1_tellRing_5 14 rfl rfl)
theorem dX1_tellRing_132 : decode cX1_tellRing 132 = .ok (.aload_n 0, 1) := dk_42 (dk_at dksX1_tellRing_5 17 rfl rfl)
theorem dX1_tellRing_133 : decode cX1_tellRing 133 = .ok (.getfield 30, 3) := dk_180 0 30 (dk_at dksX1_tellRing_5 18 rfl rfl)
theorem dX1_tellRing_136 : decode cX1_tellRing 136 = .ok (.aload_n 0, 1) := dk_42 (dk_at dksX1_tellRing_5 21 rfl rfl)
theorem dX1_tellRing_137 : decode cX1_tellRing 137 = .ok (.getfield 10, 3) := dk_180 0 10 (dk_at dksX1_tellRing_6 0 rfl rfl)
theorem dX1_tellRing_140 : decode cX1_tellRing 140 = .ok (.getfield 185, 3) := dk_180 0 185 (dk_at dksX1_tellRing_6 3 rfl rfl)
theorem dX1_tellRing_143 : decode cX1_tellRing 143 = .ok (.iconst 1, 1) := dk_4 (dk_at dksX1_tellRing_6 6 rfl rfl)
theorem dX1_tellRing_144 : decode cX1_tellRing 144 = .ok (.if_icmp .ne 8, 3) := dk_160 0 8 (dk_at dksX1_tellRing_6 7 rfl rfl)
theorem dX1_tellRing_147 : decode cX1_tellRing 147 = .ok (.bipush 84, 2) := dk_16 84 (dk_at dksX1_tellRing_6 10 rfl rfl)
theorem dX1_tellRing_149 : decode cX1_tellRing 149 = .ok (.goto 5, 3) := dk_167 0 5 (dk_at dksX1_tellRing_6 12 rfl rfl)
theorem dX1_tellRing_152 : decode cX1_tellRing 152 = .ok (.bipush 70, 2) := dk_16 70 (dk_at dksX1_tellRing_6 15 rfl rfl)
theorem dX1_tellRing_154 : decode cX1_tellRing 154 = .ok (.invokevirtual 360, 3) := dk_182 1 104 (dk_at dksX1_tellRing_6 17 rfl rfl)
theorem dX1_tellRing_157 : decode cX1_tellRing 157 = .ok (.aload_n 0, 1) := dk_42 (dk_at dksX1_tellRing_6 20 rfl rfl)
theorem dX1_tellRing_158 : decode cX1_tellRing 158 = .ok (.getfield 10, 3) := dk_180 0 10 (dk_at dksX1_tellRing_6 21 rfl rfl)
theorem dX1_tellRing_161 : decode cX1_tellRing 161 = .ok (.iconst 2, 1) := dk_5 (dk_at dksX1_tellRing_7 0 rfl rfl)
theorem dX1_tellRing_162 : decode cX1_tellRing 162 = .ok (.invokestatic 241, 3) := dk_184 0 241 (dk_at dksX1_tellRing_7 1 rfl rfl)
theorem dX1_tellRing_165 : decode cX1_tellRing 165 = .ok (.invokevirtual 404, 3) := dk_182 1 148 (dk_at dksX1_tellRing_7 4 rfl rfl)
theorem dX1_tellRing_168 : decode cX1_tellRing 168 = .ok (.pop, 1) := dk_87 (dk_at dksX1_tellRing_7 7 rfl rfl)
theorem dX1_tellRing_169 : decode cX1_tellRing 169 = .ok (.goto (-145), 3) := dk_167 255 111 (dk_at dksX1_tellRing_7 8 rfl rfl)
theorem dX1_tellRing_172 : decode cX1_tellRing 172 = .ok (.aload_n 0, 1) := dk_42 (dk_at dksX1_tellRing_7 11 rfl rfl)
theorem dX1_tellRing_173 : decode cX1_tellRing 173 = .ok (.getfield 30, 3) := dk_180 0 30 (dk_at dksX1_tellRing_7 12 rfl rfl)
theorem dX1_tellRing_176 : decode cX1_tellRing 176 = .ok (.aload_n 0, 1) := dk_42 (dk_at dksX1_tellRing_7 15 rfl rfl)
theorem dX1_tellRing_177 : decode cX1_tellRing 177 = .ok (.getfield 10, 3) := dk_180 0 10 (dk_at dksX1_tellRing_7 16 rfl rfl)
theorem dX1_tellRing_180 : decode cX1_tellRing 180 = .ok (.getfield 89, 3) := dk_180 0 89 (dk_at dksX1_tellRing_7 19 rfl rfl)
theorem dX1_tellRing_183 : decode cX1_tellRing 183 = .ok (.invokevirtual 409, 3) := dk_182 1 153 (dk_at dksX1_tellRing_8 0 rfl rfl)
theorem dX1_tellRing_186 : decode cX1_tellRing 186 = .ok (.ifCond .eq 9, 3) := dk_153 0 9 (dk_at dksX1_tellRing_8 3 rfl rfl)
theorem dX1_tellRing_189 : decode cX1_tellRing 189 = .ok (.ldc_w 410, 3) := dk_19 1 154 (dk_at dksX1_tellRing_8 6 rfl rfl)
theorem dX1_tellRing_192 : decode cX1_tellRing 192 = .ok (.goto 6, 3) := dk_167 0 6 (dk_at dksX1_tellRing_8 9 rfl rfl)
theorem dX1_tellRing_195 : decode cX1_tellRing 195 = .ok (.ldc_w 399, 3) := dk_19 1 143 (dk_at dksX1_tellRing_8 12 rfl rfl)
theorem dX1_tellRing_198 : decode cX1_tellRing 198 = .ok (.invokevirtual 401, 3) := dk_182 1 145 (dk_at dksX1_tellRing_8 15 rfl rfl)
theorem dX1_tellRing_201 : decode cX1_tellRing 201 = .ok (.pop, 1) := dk_87 (dk_at dksX1_tellRing_8 18 rfl rfl)
theorem dX1_tellRing_202 : decode cX1_tellRing 202 = .ok (.aload_n 0, 1) := dk_42 (dk_at dksX1_tellRing_8 19 rfl rfl)
theorem dX1_tellRing_203 : decode cX1_tellRing 203 = .ok (.getfield 30, 3) := dk_180 0 30 (dk_at dksX1_tellRing_8 20 rfl rfl)
theorem dX1_tellRing_206 : decode cX1_tellRing 206 = .ok (.invokevirtual 354, 3) := dk_182 1 98 (dk_at dksX1_tellRing_9 0 rfl rfl)
theorem dX1_tellRing_209 : decode cX1_tellRing 209 = .ok (.ireturn, 1) := dk_172 (dk_at dksX1_tellRing_9 3 rfl rfl)
abbrev cX1_onRingOf : ByteArray := prog_1_method_24_code
def yX1_onRingOf : MethodName := ⟨RX1, "onRingOf", "(LTokenRing$State;I)I"⟩
def dkwX1_onRingOf_6 : List UInt8 := [180, 0, 182, 172]
abbrev dktX1_onRingOf_6 : List UInt8 := dkwX1_onRingOf_6 ++ []
def dkwX1_onRingOf_5 : List UInt8 := [180, 0, 228, 172, 42, 180, 0, 212, 180, 0, 231, 184, 0, 234, 172, 42, 180, 0, 212, 180, 0, 216]
abbrev dktX1_onRingOf_5 : List UInt8 := dkwX1_onRingOf_5 ++ dktX1_onRingOf_6
def dkwX1_onRingOf_4 : List UInt8 := [42, 180, 0, 212, 180, 0, 216, 180, 0, 222, 172, 42, 180, 0, 212, 180, 0, 225, 172, 42, 180, 0, 212]
abbrev dktX1_onRingOf_4 : List UInt8 := dkwX1_onRingOf_4 ++ dktX1_onRingOf_5
def dkwX1_onRingOf_3 : List UInt8 := [170, 0, 0, 0, 67, 0, 0, 0, 2, 0, 0, 0, 5, 0, 0, 0, 29, 0, 0, 0, 40, 0, 0, 0, 48, 0, 0, 0, 56]
abbrev dktX1_onRingOf_3 : List UInt8 := dkwX1_onRingOf_3 ++ dktX1_onRingOf_4
def dkwX1_onRingOf_2 : List UInt8 := [2, 172, 27]
abbrev dktX1_onRingOf_2 : List UInt8 := dkwX1_onRingOf_2 ++ dktX1_onRingOf_3
def dkwX1_onRingOf_1 : List UInt8 := [160, 0, 17, 27, 5, 160, 0, 10, 42, 180, 0, 209, 167, 0, 4, 2, 172, 42, 180, 0, 185, 154, 0, 5]
abbrev dktX1_onRingOf_1 : List UInt8 := dkwX1_onRingOf_1 ++ dktX1_onRingOf_2
def dkwX1_onRingOf_0 : List UInt8 := [27, 154, 0, 8, 42, 180, 0, 185, 172, 27, 4, 160, 0, 8, 42, 180, 0, 206, 172, 42, 180, 0, 185, 4]
abbrev dktX1_onRingOf_0 : List UInt8 := dkwX1_onRingOf_0 ++ dktX1_onRingOf_1
theorem dksX1_onRingOf_0 : cX1_onRingOf.data.toList.drop 0 = dktX1_onRingOf_0 := by decide +kernel
theorem dksX1_onRingOf_1 : cX1_onRingOf.data.toList.drop 24 = dktX1_onRingOf_1 := dk_seg dksX1_onRingOf_0 24 rfl rfl
theorem dksX1_onRingOf_2 : cX1_onRingOf.data.toList.drop 48 = dktX1_onRingOf_2 := dk_seg dksX1_onRingOf_1 24 rfl rfl
theorem dksX1_onRingOf_3 : cX1_onRingOf.data.toList.drop 51 = dktX1_onRingOf_3 := dk_seg dksX1_onRingOf_2 3 rfl rfl
theorem dksX1_onRingOf_4 : cX1_onRingOf.data.toList.drop 80 = dktX1_onRingOf_4 := dk_seg dksX1_onRingOf_3 29 rfl rfl
theorem dksX1_onRingOf_5 : cX1_onRingOf.data.toList.drop 103 = dktX1_onRingOf_5 := dk_seg dksX1_onRingOf_4 23 rfl rfl
theorem dksX1_onRingOf_6 : cX1_onRingOf.data.toList.drop 125 = dktX1_onRingOf_6 := dk_seg dksX1_onRingOf_5 22 rfl rfl
theorem dX1_onRingOf_0 : decode cX1_onRingOf 0 = .ok (.iload_n 1, 1) := dk_27 (dk_at dksX1_onRingOf_0 0 rfl rfl)
theorem dX1_onRingOf_1 : decode cX1_onRingOf 1 = .ok (.ifCond .ne 8, 3) := dk_154 0 8 (dk_at dksX1_onRingOf_0 1 rfl rfl)
theorem dX1_onRingOf_4 : decode cX1_onRingOf 4 = .ok (.aload_n 0, 1) := dk_42 (dk_at dksX1_onRingOf_0 4 rfl rfl)
theorem dX1_onRingOf_5 : decode cX1_onRingOf 5 = .ok (.getfield 185, 3) := dk_180 0 185 (dk_at dksX1_onRingOf_0 5 rfl rfl)
theorem dX1_onRingOf_8 : decode cX1_onRingOf 8 = .ok (.ireturn, 1) := dk_172 (dk_at dksX1_onRingOf_0 8 rfl rfl)
theorem dX1_onRingOf_9 : decode cX1_onRingOf 9 = .ok (.iload_n 1, 1) := dk_27 (dk_at dksX1_onRingOf_0 9 rfl rfl)
theorem dX1_onRingOf_10 : decode cX1_onRingOf 10 = .ok (.iconst 1, 1) := dk_4 (dk_at dksX1_onRingOf_0 10 rfl rfl)
theorem dX1_onRingOf_11 : decode cX1_onRingOf 11 = .ok (.if_icmp .ne 8, 3) := dk_160 0 8 (dk_at dksX1_onRingOf_0 11 rfl rfl)
theorem dX1_onRingOf_14 : decode cX1_onRingOf 14 = .ok (.aload_n 0, 1) := dk_42 (dk_at dksX1_onRingOf_0 14 rfl rfl)
theorem dX1_onRingOf_15 : decode cX1_onRingOf 15 = .ok (.getfield 206, 3) := dk_180 0 206 (dk_at dksX1_onRingOf_0 15 rfl rfl)
theorem dX1_onRingOf_18 : decode cX1_onRingOf 18 = .ok (.ireturn, 1) := dk_172 (dk_at dksX1_onRingOf_0 18 rfl rfl)
theorem dX1_onRingOf_19 : decode cX1_onRingOf 19 = .ok (.aload_n 0, 1) := dk_42 (dk_at dksX1_onRingOf_0 19 rfl rfl)
theorem dX1_onRingOf_20 : decode cX1_onRingOf 20 = .ok (.getfield 185, 3) := dk_180 0 185 (dk_at dksX1_onRingOf_0 20 rfl rfl)
theorem dX1_onRingOf_23 : decode cX1_onRingOf 23 = .ok (.iconst 1, 1) := dk_4 (dk_at dksX1_onRingOf_0 23 rfl rfl)
theorem dX1_onRingOf_24 : decode cX1_onRingOf 24 = .ok (.if_icmp .ne 17, 3) := dk_160 0 17 (dk_at dksX1_onRingOf_1 0 rfl rfl)
theorem dX1_onRingOf_27 : decode cX1_onRingOf 27 = .ok (.iload_n 1, 1) := dk_27 (dk_at dksX1_onRingOf_1 3 rfl rfl)
theorem dX1_onRingOf_28 : decode cX1_onRingOf 28 = .ok (.iconst 2, 1) := dk_5 (dk_at dksX1_onRingOf_1 4 rfl rfl)
theorem dX1_onRingOf_29 : decode cX1_onRingOf 29 = .ok (.if_icmp .ne 10, 3) := dk_160 0 10 (dk_at dksX1_onRingOf_1 5 rfl rfl)
theorem dX1_onRingOf_32 : decode cX1_onRingOf 32 = .ok (.aload_n 0, 1) := dk_42 (dk_at dksX1_onRingOf_1 8 rfl rfl)
theorem dX1_onRingOf_33 : decode cX1_onRingOf 33 = .ok (.getfield 209, 3) := dk_180 0 209 (dk_at dksX1_onRingOf_1 9 rfl rfl)
theorem dX1_onRingOf_36 : decode cX1_onRingOf 36 = .ok (.goto 4, 3) := dk_167 0 4 (dk_at dksX1_onRingOf_1 12 rfl rfl)
theorem dX1_onRingOf_39 : decode cX1_onRingOf 39 = .ok (.iconst (-1), 1) := dk_2 (dk_at dksX1_onRingOf_1 15 rfl rfl)
theorem dX1_onRingOf_40 : decode cX1_onRingOf 40 = .ok (.ireturn, 1) := dk_172 (dk_at dksX1_onRingOf_1 16 rfl rfl)
theorem dX1_onRingOf_41 : decode cX1_onRingOf 41 = .ok (.aload_n 0, 1) := dk_42 (dk_at dksX1_onRingOf_1 17 rfl rfl)
theorem dX1_onRingOf_42 : decode cX1_onRingOf 42 = .ok (.getfield 185, 3) := dk_180 0 185 (dk_at dksX1_onRingOf_1 18 rfl rfl)
theorem dX1_onRingOf_45 : decode cX1_onRingOf 45 = .ok (.ifCond .ne 5, 3) := dk_154 0 5 (dk_at dksX1_onRingOf_1 21 rfl rfl)
theorem dX1_onRingOf_48 : decode cX1_onRingOf 48 = .ok (.iconst (-1), 1) := dk_2 (dk_at dksX1_onRingOf_2 0 rfl rfl)
theorem dX1_onRingOf_49 : decode cX1_onRingOf 49 = .ok (.ireturn, 1) := dk_172 (dk_at dksX1_onRingOf_2 1 rfl rfl)
theorem dX1_onRingOf_50 : decode cX1_onRingOf 50 = .ok (.iload_n 1, 1) := dk_27 (dk_at dksX1_onRingOf_2 2 rfl rfl)
theorem dX1_onRingOf_51 : decode cX1_onRingOf 51 = .ok (.tableswitch 67 2 5 #[29, 40, 48, 56], 29) := by decide +kernel
theorem dX1_onRingOf_80 : decode cX1_onRingOf 80 = .ok (.aload_n 0, 1) := dk_42 (dk_at dksX1_onRingOf_4 0 rfl rfl)
theorem dX1_onRingOf_81 : decode cX1_onRingOf 81 = .ok (.getfield 212, 3) := dk_180 0 212 (dk_at dksX1_onRingOf_4 1 rfl rfl)
theorem dX1_onRingOf_84 : decode cX1_onRingOf 84 = .ok (.getfield 216, 3) := dk_180 0 216 (dk_at dksX1_onRingOf_4 4 rfl rfl)
theorem dX1_onRingOf_87 : decode cX1_onRingOf 87 = .ok (.getfield 222, 3) := dk_180 0 222 (dk_at dksX1_onRingOf_4 7 rfl rfl)
theorem dX1_onRingOf_90 : decode cX1_onRingOf 90 = .ok (.ireturn, 1) := dk_172 (dk_at dksX1_onRingOf_4 10 rfl rfl)
theorem dX1_onRingOf_91 : decode cX1_onRingOf 91 = .ok (.aload_n 0, 1) := dk_42 (dk_at dksX1_onRingOf_4 11 rfl rfl)
theorem dX1_onRingOf_92 : decode cX1_onRingOf 92 = .ok (.getfield 212, 3) := dk_180 0 212 (dk_at dksX1_onRingOf_4 12 rfl rfl)
theorem dX1_onRingOf_95 : decode cX1_onRingOf 95 = .ok (.getfield 225, 3) := dk_180 0 225 (dk_at dksX1_onRingOf_4 15 rfl rfl)
theorem dX1_onRingOf_98 : decode cX1_onRingOf 98 = .ok (.ireturn, 1) := dk_172 (dk_at dksX1_onRingOf_4 18 rfl rfl)
theorem dX1_onRingOf_99 : decode cX1_onRingOf 99 = .ok (.aload_n 0, 1) := dk_42 (dk_at dksX1_onRingOf_4 19 rfl rfl)
theorem dX1_onRingOf_100 : decode cX1_onRingOf 100 = .ok (.getfield 212, 3) := dk_180 0 212 (dk_at dksX1_onRingOf_4 20 rfl rfl)
theorem dX1_onRingOf_103 : decode cX1_onRingOf 103 = .ok (.getfield 228, 3) := dk_180 0 228 (dk_at dksX1_onRingOf_5 0 rfl rfl)
theorem dX1_onRingOf_106 : decode cX1_onRingOf 106 = .ok (.ireturn, 1) := dk_172 (dk_at dksX1_onRingOf_5 3 rfl rfl)
theorem dX1_onRingOf_107 : decode cX1_onRingOf 107 = .ok (.aload_n 0, 1) := dk_42 (dk_at dksX1_onRingOf_5 4 rfl rfl)
theorem dX1_onRingOf_108 : decode cX1_onRingOf 108 = .ok (.getfield 212, 3) := dk_180 0 212 (dk_at dksX1_onRingOf_5 5 rfl rfl)
theorem dX1_onRingOf_111 : decode cX1_onRingOf 111 = .ok (.getfield 231, 3) := dk_180 0 231 (dk_at dksX1_onRingOf_5 8 rfl rfl)
theorem dX1_onRingOf_114 : decode cX1_onRingOf 114 = .ok (.invokestatic 234, 3) := dk_184 0 234 (dk_at dksX1_onRingOf_5 11 rfl rfl)
theorem dX1_onRingOf_117 : decode cX1_onRingOf 117 = .ok (.ireturn, 1) := dk_172 (dk_at dksX1_onRingOf_5 14 rfl rfl)
theorem dX1_onRingOf_118 : decode cX1_onRingOf 118 = .ok (.aload_n 0, 1) := dk_42 (dk_at dksX1_onRingOf_5 15 rfl rfl)
theorem dX1_onRingOf_119 : decode cX1_onRingOf 119 = .ok (.getfield 212, 3) := dk_180 0 212 (dk_at dksX1_onRingOf_5 16 rfl rfl)
theorem dX1_onRingOf_122 : decode cX1_onRingOf 122 = .ok (.getfield 216, 3) := dk_180 0 216 (dk_at dksX1_onRingOf_5 19 rfl rfl)
theorem dX1_onRingOf_125 : decode cX1_onRingOf 125 = .ok (.getfield 182, 3) := dk_180 0 182 (dk_at dksX1_onRingOf_6 0 rfl rfl)
theorem dX1_onRingOf_128 : decode cX1_onRingOf 128 = .ok (.ireturn, 1) := dk_172 (dk_at dksX1_onRingOf_6 3 rfl rfl)
abbrev cX1_of : ByteArray := prog_1_method_23_code
def yX1_of : MethodName := ⟨RX1, "of", "(Z)I"⟩
def dkwX1_of_0 : List UInt8 := [26, 153, 0, 7, 4, 167, 0, 4, 3, 172]
abbrev dktX1_of_0 : List UInt8 := dkwX1_of_0 ++ []
theorem dksX1_of_0 : cX1_of.data.toList.drop 0 = dktX1_of_0 := by decide +kernel
theorem dX1_of_0 : decode cX1_of 0 = .ok (.iload_n 0, 1) := dk_26 (dk_at dksX1_of_0 0 rfl rfl)
theorem dX1_of_1 : decode cX1_of 1 = .ok (.ifCond .eq 7, 3) := dk_153 0 7 (dk_at dksX1_of_0 1 rfl rfl)
theorem dX1_of_4 : decode cX1_of 4 = .ok (.iconst 1, 1) := dk_4 (dk_at dksX1_of_0 4 rfl rfl)
theorem dX1_of_5 : decode cX1_of 5 = .ok (.goto 4, 3) := dk_167 0 4 (dk_at dksX1_of_0 5 rfl rfl)
theorem dX1_of_8 : decode cX1_of 8 = .ok (.iconst 0, 1) := dk_3 (dk_at dksX1_of_0 8 rfl rfl)
theorem dX1_of_9 : decode cX1_of 9 = .ok (.ireturn, 1) := dk_172 (dk_at dksX1_of_0 9 rfl rfl)
abbrev cX1_save : ByteArray := prog_1_method_60_code
def yX1_save : MethodName := ⟨RX1, "save", "()I"⟩
def dkwX1_save_0 : List UInt8 := [42, 42, 180, 0, 10, 182, 0, 73, 181, 1, 195, 42, 180, 0, 10, 180, 0, 161, 172]
abbrev dktX1_save_0 : List UInt8 := dkwX1_save_0 ++ []
theorem dksX1_save_0 : cX1_save.data.toList.drop 0 = dktX1_save_0 := by decide +kernel
theorem dX1_save_0 : decode cX1_save 0 = .ok (.aload_n 0, 1) := dk_42 (dk_at dksX1_save_0 0 rfl rfl)
theorem dX1_save_1 : decode cX1_save 1 = .ok (.aload_n 0, 1) := dk_42 (dk_at dksX1_save_0 1 rfl rfl)
theorem dX1_save_2 : decode cX1_save 2 = .ok (.getfield 10, 3) := dk_180 0 10 (dk_at dksX1_save_0 2 rfl rfl)
theorem dX1_save_5 : decode cX1_save 5 = .ok (.invokevirtual 73, 3) := dk_182 0 73 (dk_at dksX1_save_0 5 rfl rfl)
theorem dX1_save_8 : decode cX1_save 8 = .ok (.putfield 451, 3) := dk_181 1 195 (dk_at dksX1_save_0 8 rfl rfl)
theorem dX1_save_11 : decode cX1_save 11 = .ok (.aload_n 0, 1) := dk_42 (dk_at dksX1_save_0 11 rfl rfl)
theorem dX1_save_12 : decode cX1_save 12 = .ok (.getfield 10, 3) := dk_180 0 10 (dk_at dksX1_save_0 12 rfl rfl)
theorem dX1_save_15 : decode cX1_save 15 = .ok (.getfield 161, 3) := dk_180 0 161 (dk_at dksX1_save_0 15 rfl rfl)
theorem dX1_save_18 : decode cX1_save 18 = .ok (.ireturn, 1) := dk_172 (dk_at dksX1_save_0 18 rfl rfl)
abbrev cX1_join : ByteArray := prog_1_method_15_code
def yX1_join : MethodName := ⟨RX1, "join", "(I)I"⟩
def dkwX1_join_3 : List UInt8 := [182, 0, 123, 172]
abbrev dktX1_join_3 : List UInt8 := dkwX1_join_3 ++ []
def dkwX1_join_2 : List UInt8 := [184, 0, 93, 187, 0, 113, 89, 27, 183, 0, 131, 182, 0, 134, 87, 42, 180, 0, 10, 180, 0, 89]
abbrev dktX1_join_2 : List UInt8 := dkwX1_join_2 ++ dktX1_join_3
def dkwX1_join_1 : List UInt8 := [180, 0, 89, 182, 0, 123, 16, 10, 182, 0, 124, 42, 182, 0, 128, 42, 180, 0, 10, 180, 0, 89, 27]
abbrev dktX1_join_1 : List UInt8 := dkwX1_join_1 ++ dktX1_join_2
def dkwX1_join_0 : List UInt8 := [42, 27, 3, 16, 99, 182, 0, 119, 42, 42, 27, 182, 0, 105, 5, 27, 182, 0, 53, 42, 42, 180, 0, 10]
abbrev dktX1_join_0 : List UInt8 := dkwX1_join_0 ++ dktX1_join_1
theorem dksX1_join_0 : cX1_join.data.toList.drop 0 = dktX1_join_0 := by decide +kernel
theorem dksX1_join_1 : cX1_join.data.toList.drop 24 = dktX1_join_1 := dk_seg dksX1_join_0 24 rfl rfl
theorem dksX1_join_2 : cX1_join.data.toList.drop 47 = dktX1_join_2 := dk_seg dksX1_join_1 23 rfl rfl
theorem dksX1_join_3 : cX1_join.data.toList.drop 69 = dktX1_join_3 := dk_seg dksX1_join_2 22 rfl rfl
theorem dX1_join_0 : decode cX1_join 0 = .ok (.aload_n 0, 1) := dk_42 (dk_at dksX1_join_0 0 rfl rfl)
theorem dX1_join_1 : decode cX1_join 1 = .ok (.iload_n 1, 1) := dk_27 (dk_at dksX1_join_0 1 rfl rfl)
theorem dX1_join_2 : decode cX1_join 2 = .ok (.iconst 0, 1) := dk_3 (dk_at dksX1_join_0 2 rfl rfl)
theorem dX1_join_3 : decode cX1_join 3 = .ok (.bipush 99, 2) := dk_16 99 (dk_at dksX1_join_0 3 rfl rfl)
theorem dX1_join_5 : decode cX1_join 5 = .ok (.invokevirtual 119, 3) := dk_182 0 119 (dk_at dksX1_join_0 5 rfl rfl)
theorem dX1_join_8 : decode cX1_join 8 = .ok (.aload_n 0, 1) := dk_42 (dk_at dksX1_join_0 8 rfl rfl)
theorem dX1_join_9 : decode cX1_join 9 = .ok (.aload_n 0, 1) := dk_42 (dk_at dksX1_join_0 9 rfl rfl)
theorem dX1_join_10 : decode cX1_join 10 = .ok (.iload_n 1, 1) := dk_27 (dk_at dksX1_join_0 10 rfl rfl)
theorem dX1_join_11 : decode cX1_join 11 = .ok (.invokevirtual 105, 3) := dk_182 0 105 (dk_at dksX1_join_0 11 rfl rfl)
theorem dX1_join_14 : decode cX1_join 14 = .ok (.iconst 2, 1) := dk_5 (dk_at dksX1_join_0 14 rfl rfl)
theorem dX1_join_15 : decode cX1_join 15 = .ok (.iload_n 1, 1) := dk_27 (dk_at dksX1_join_0 15 rfl rfl)
theorem dX1_join_16 : decode cX1_join 16 = .ok (.invokevirtual 53, 3) := dk_182 0 53 (dk_at dksX1_join_0 16 rfl rfl)
theorem dX1_join_19 : decode cX1_join 19 = .ok (.aload_n 0, 1) := dk_42 (dk_at dksX1_join_0 19 rfl rfl)
theorem dX1_join_20 : decode cX1_join 20 = .ok (.aload_n 0, 1) := dk_42 (dk_at dksX1_join_0 20 rfl rfl)
theorem dX1_join_21 : decode cX1_join 21 = .ok (.getfield 10, 3) := dk_180 0 10 (dk_at dksX1_join_0 21 rfl rfl)
theorem dX1_join_24 : decode cX1_join 24 = .ok (.getfield 89, 3) := dk_180 0 89 (dk_at dksX1_join_1 0 rfl rfl)
theorem dX1_join_27 : decode cX1_join 27 = .ok (.invokevirtual 123, 3) := dk_182 0 123 (dk_at dksX1_join_1 3 rfl rfl)
theorem dX1_join_30 : decode cX1_join 30 = .ok (.bipush 10, 2) := dk_16 10 (dk_at dksX1_join_1 6 rfl rfl)
theorem dX1_join_32 : decode cX1_join 32 = .ok (.invokevirtual 124, 3) := dk_182 0 124 (dk_at dksX1_join_1 8 rfl rfl)
theorem dX1_join_35 : decode cX1_join 35 = .ok (.aload_n 0, 1) := dk_42 (dk_at dksX1_join_1 11 rfl rfl)
theorem dX1_join_36 : decode cX1_join 36 = .ok (.invokevirtual 128, 3) := dk_182 0 128 (dk_at dksX1_join_1 12 rfl rfl)
theorem dX1_join_39 : decode cX1_join 39 = .ok (.aload_n 0, 1) := dk_42 (dk_at dksX1_join_1 15 rfl rfl)
theorem dX1_join_40 : decode cX1_join 40 = .ok (.getfield 10, 3) := dk_180 0 10 (dk_at dksX1_join_1 16 rfl rfl)
theorem dX1_join_43 : decode cX1_join 43 = .ok (.getfield 89, 3) := dk_180 0 89 (dk_at dksX1_join_1 19 rfl rfl)
theorem dX1_join_46 : decode cX1_join 46 = .ok (.iload_n 1, 1) := dk_27 (dk_at dksX1_join_1 22 rfl rfl)
theorem dX1_join_47 : decode cX1_join 47 = .ok (.invokestatic 93, 3) := dk_184 0 93 (dk_at dksX1_join_2 0 rfl rfl)
theorem dX1_join_50 : decode cX1_join 50 = .ok (.new 113, 3) := dk_187 0 113 (dk_at dksX1_join_2 3 rfl rfl)
theorem dX1_join_53 : decode cX1_join 53 = .ok (.dup, 1) := dk_89 (dk_at dksX1_join_2 6 rfl rfl)
theorem dX1_join_54 : decode cX1_join 54 = .ok (.iload_n 1, 1) := dk_27 (dk_at dksX1_join_2 7 rfl rfl)
theorem dX1_join_55 : decode cX1_join 55 = .ok (.invokespecial 131, 3) := dk_183 0 131 (dk_at dksX1_join_2 8 rfl rfl)
theorem dX1_join_58 : decode cX1_join 58 = .ok (.invokevirtual 134, 3) := dk_182 0 134 (dk_at dksX1_join_2 11 rfl rfl)
theorem dX1_join_61 : decode cX1_join 61 = .ok (.pop, 1) := dk_87 (dk_at dksX1_join_2 14 rfl rfl)
theorem dX1_join_62 : decode cX1_join 62 = .ok (.aload_n 0, 1) := dk_42 (dk_at dksX1_join_2 15 rfl rfl)
theorem dX1_join_63 : decode cX1_join 63 = .ok (.getfield 10, 3) := dk_180 0 10 (dk_at dksX1_join_2 16 rfl rfl)
theorem dX1_join_66 : decode cX1_join 66 = .ok (.getfield 89, 3) := dk_180 0 89 (dk_at dksX1_join_2 19 rfl rfl)
theorem dX1_join_69 : decode cX1_join 69 = .ok (.invokevirtual 123, 3) := dk_182 0 123 (dk_at dksX1_join_3 0 rfl rfl)
theorem dX1_join_72 : decode cX1_join 72 = .ok (.ireturn, 1) := dk_172 (dk_at dksX1_join_3 3 rfl rfl)
abbrev cX1_inRange : ByteArray := prog_1_method_4_code
def yX1_inRange : MethodName := ⟨RX1, "inRange", "(III)V"⟩
def dkwX1_inRange_0 : List UInt8 := [42, 27, 28, 29, 184, 0, 49, 154, 0, 7, 4, 167, 0, 4, 3, 4, 27, 182, 0, 53, 177]
abbrev dktX1_inRange_0 : List UInt8 := dkwX1_inRange_0 ++ []
theorem dksX1_inRange_0 : cX1_inRange.data.toList.drop 0 = dktX1_inRange_0 := by decide +kernel
theorem dX1_inRange_0 : decode cX1_inRange 0 = .ok (.aload_n 0, 1) := dk_42 (dk_at dksX1_inRange_0 0 rfl rfl)
theorem dX1_inRange_1 : decode cX1_inRange 1 = .ok (.iload_n 1, 1) := dk_27 (dk_at dksX1_inRange_0 1 rfl rfl)
theorem dX1_inRange_2 : decode cX1_inRange 2 = .ok (.iload_n 2, 1) := dk_28 (dk_at dksX1_inRange_0 2 rfl rfl)
theorem dX1_inRange_3 : decode cX1_inRange 3 = .ok (.iload_n 3, 1) := dk_29 (dk_at dksX1_inRange_0 3 rfl rfl)
theorem dX1_inRange_4 : decode cX1_inRange 4 = .ok (.invokestatic 49, 3) := dk_184 0 49 (dk_at dksX1_inRange_0 4 rfl rfl)
theorem dX1_inRange_7 : decode cX1_inRange 7 = .ok (.ifCond .ne 7, 3) := dk_154 0 7 (dk_at dksX1_inRange_0 7 rfl rfl)
theorem dX1_inRange_10 : decode cX1_inRange 10 = .ok (.iconst 1, 1) := dk_4 (dk_at dksX1_inRange_0 10 rfl rfl)
theorem dX1_inRange_11 : decode cX1_inRange 11 = .ok (.goto 4, 3) := dk_167 0 4 (dk_at dksX1_inRange_0 11 rfl rfl)
theorem dX1_inRange_14 : decode cX1_inRange 14 = .ok (.iconst 0, 1) := dk_3 (dk_at dksX1_inRange_0 14 rfl rfl)
theorem dX1_inRange_15 : decode cX1_inRange 15 = .ok (.iconst 1, 1) := dk_4 (dk_at dksX1_inRange_0 15 rfl rfl)
theorem dX1_inRange_16 : decode cX1_inRange 16 = .ok (.iload_n 1, 1) := dk_27 (dk_at dksX1_inRange_0 16 rfl rfl)
theorem dX1_inRange_17 : decode cX1_inRange 17 = .ok (.invokevirtual 53, 3) := dk_182 0 53 (dk_at dksX1_inRange_0 17 rfl rfl)
theorem dX1_inRange_20 : decode cX1_inRange 20 = .ok (.return_, 1) := dk_177 (dk_at dksX1_inRange_0 20 rfl rfl)
abbrev cX1_isBetween : ByteArray := prog_1_method_2_code
def yX1_isBetween : MethodName := ⟨RX1, "isBetween", "(III)Z"⟩
def dkwX1_isBetween_0 : List UInt8 := [26, 27, 161, 0, 12, 26, 28, 163, 0, 7, 4, 167, 0, 4, 3, 172]
abbrev dktX1_isBetween_0 : List UInt8 := dkwX1_isBetween_0 ++ []
theorem dksX1_isBetween_0 : cX1_isBetween.data.toList.drop 0 = dktX1_isBetween_0 := by decide +kernel
theorem dX1_isBetween_0 : decode cX1_isBetween 0 = .ok (.iload_n 0, 1) := dk_26 (dk_at dksX1_isBetween_0 0 rfl rfl)
theorem dX1_isBetween_1 : decode cX1_isBetween 1 = .ok (.iload_n 1, 1) := dk_27 (dk_at dksX1_isBetween_0 1 rfl rfl)
theorem dX1_isBetween_2 : decode cX1_isBetween 2 = .ok (.if_icmp .lt 12, 3) := dk_161 0 12 (dk_at dksX1_isBetween_0 2 rfl rfl)
theorem dX1_isBetween_5 : decode cX1_isBetween 5 = .ok (.iload_n 0, 1) := dk_26 (dk_at dksX1_isBetween_0 5 rfl rfl)
theorem dX1_isBetween_6 : decode cX1_isBetween 6 = .ok (.iload_n 2, 1) := dk_28 (dk_at dksX1_isBetween_0 6 rfl rfl)
theorem dX1_isBetween_7 : decode cX1_isBetween 7 = .ok (.if_icmp .gt 7, 3) := dk_163 0 7 (dk_at dksX1_isBetween_0 7 rfl rfl)
theorem dX1_isBetween_10 : decode cX1_isBetween 10 = .ok (.iconst 1, 1) := dk_4 (dk_at dksX1_isBetween_0 10 rfl rfl)
theorem dX1_isBetween_11 : decode cX1_isBetween 11 = .ok (.goto 4, 3) := dk_167 0 4 (dk_at dksX1_isBetween_0 11 rfl rfl)
theorem dX1_isBetween_14 : decode cX1_isBetween 14 = .ok (.iconst 0, 1) := dk_3 (dk_at dksX1_isBetween_0 14 rfl rfl)
theorem dX1_isBetween_15 : decode cX1_isBetween 15 = .ok (.ireturn, 1) := dk_172 (dk_at dksX1_isBetween_0 15 rfl rfl)
abbrev cX1_refuse : ByteArray := prog_1_method_3_code
def yX1_refuse : MethodName := ⟨RX1, "refuse", "(ZII)V"⟩
def dkwX1_refuse_1 : List UInt8 := [183, 0, 48, 191, 177]
abbrev dktX1_refuse_1 : List UInt8 := dkwX1_refuse_1 ++ []
def dkwX1_refuse_0 : List UInt8 := [27, 153, 0, 25, 42, 187, 0, 37, 89, 28, 29, 1, 183, 0, 39, 181, 0, 42, 187, 0, 46, 89]
abbrev dktX1_refuse_0 : List UInt8 := dkwX1_refuse_0 ++ dktX1_refuse_1
theorem dksX1_refuse_0 : cX1_refuse.data.toList.drop 0 = dktX1_refuse_0 := by decide +kernel
theorem dksX1_refuse_1 : cX1_refuse.data.toList.drop 22 = dktX1_refuse_1 := dk_seg dksX1_refuse_0 22 rfl rfl
theorem dX1_refuse_0 : decode cX1_refuse 0 = .ok (.iload_n 1, 1) := dk_27 (dk_at dksX1_refuse_0 0 rfl rfl)
theorem dX1_refuse_1 : decode cX1_refuse 1 = .ok (.ifCond .eq 25, 3) := dk_153 0 25 (dk_at dksX1_refuse_0 1 rfl rfl)
theorem dX1_refuse_4 : decode cX1_refuse 4 = .ok (.aload_n 0, 1) := dk_42 (dk_at dksX1_refuse_0 4 rfl rfl)
theorem dX1_refuse_5 : decode cX1_refuse 5 = .ok (.new 37, 3) := dk_187 0 37 (dk_at dksX1_refuse_0 5 rfl rfl)
theorem dX1_refuse_8 : decode cX1_refuse 8 = .ok (.dup, 1) := dk_89 (dk_at dksX1_refuse_0 8 rfl rfl)
theorem dX1_refuse_9 : decode cX1_refuse 9 = .ok (.iload_n 2, 1) := dk_28 (dk_at dksX1_refuse_0 9 rfl rfl)
theorem dX1_refuse_10 : decode cX1_refuse 10 = .ok (.iload_n 3, 1) := dk_29 (dk_at dksX1_refuse_0 10 rfl rfl)
theorem dX1_refuse_11 : decode cX1_refuse 11 = .ok (.aconst_null, 1) := dk_1 (dk_at dksX1_refuse_0 11 rfl rfl)
theorem dX1_refuse_12 : decode cX1_refuse 12 = .ok (.invokespecial 39, 3) := dk_183 0 39 (dk_at dksX1_refuse_0 12 rfl rfl)
theorem dX1_refuse_15 : decode cX1_refuse 15 = .ok (.putfield 42, 3) := dk_181 0 42 (dk_at dksX1_refuse_0 15 rfl rfl)
theorem dX1_refuse_18 : decode cX1_refuse 18 = .ok (.new 46, 3) := dk_187 0 46 (dk_at dksX1_refuse_0 18 rfl rfl)
theorem dX1_refuse_21 : decode cX1_refuse 21 = .ok (.dup, 1) := dk_89 (dk_at dksX1_refuse_0 21 rfl rfl)
theorem dX1_refuse_22 : decode cX1_refuse 22 = .ok (.invokespecial 48, 3) := dk_183 0 48 (dk_at dksX1_refuse_1 0 rfl rfl)
theorem dX1_refuse_25 : decode cX1_refuse 25 = .ok (.athrow, 1) := dk_191 (dk_at dksX1_refuse_1 3 rfl rfl)
theorem dX1_refuse_26 : decode cX1_refuse 26 = .ok (.return_, 1) := dk_177 (dk_at dksX1_refuse_1 4 rfl rfl)
abbrev cX1_isStation : ByteArray := prog_1_method_12_code
def yX1_isStation : MethodName := ⟨RX1, "isStation", "(I)Z"⟩
def dkwX1_isStation_0 : List UInt8 := [42, 180, 0, 10, 180, 0, 89, 27, 184, 0, 93, 182, 0, 99, 172]
abbrev dktX1_isStation_0 : List UInt8 := dkwX1_isStation_0 ++ []
theorem dksX1_isStation_0 : cX1_isStation.data.toList.drop 0 = dktX1_isStation_0 := by decide +kernel
theorem dX1_isStation_0 : decode cX1_isStation 0 = .ok (.aload_n 0, 1) := dk_42 (dk_at dksX1_isStation_0 0 rfl rfl)
theorem dX1_isStation_1 : decode cX1_isStation 1 = .ok (.getfield 10, 3) := dk_180 0 10 (dk_at dksX1_isStation_0 1 rfl rfl)
theorem dX1_isStation_4 : decode cX1_isStation 4 = .ok (.getfield 89, 3) := dk_180 0 89 (dk_at dksX1_isStation_0 4 rfl rfl)
theorem dX1_isStation_7 : decode cX1_isStation 7 = .ok (.iload_n 1, 1) := dk_27 (dk_at dksX1_isStation_0 7 rfl rfl)
theorem dX1_isStation_8 : decode cX1_isStation 8 = .ok (.invokestatic 93, 3) := dk_184 0 93 (dk_at dksX1_isStation_0 8 rfl rfl)
theorem dX1_isStation_11 : decode cX1_isStation 11 = .ok (.invokevirtual 99, 3) := dk_182 0 99 (dk_at dksX1_isStation_0 11 rfl rfl)
theorem dX1_isStation_14 : decode cX1_isStation 14 = .ok (.ireturn, 1) := dk_172 (dk_at dksX1_isStation_0 14 rfl rfl)
abbrev cX1_hasPlace : ByteArray := prog_1_method_5_code
def yX1_hasPlace : MethodName := ⟨RX1, "hasPlace", "(II)V"⟩
def dkwX1_hasPlace_0 : List UInt8 := [42, 27, 28, 160, 0, 7, 4, 167, 0, 4, 3, 7, 28, 182, 0, 53, 177]
abbrev dktX1_hasPlace_0 : List UInt8 := dkwX1_hasPlace_0 ++ []
theorem dksX1_hasPlace_0 : cX1_hasPlace.data.toList.drop 0 = dktX1_hasPlace_0 := by decide +kernel
theorem dX1_hasPlace_0 : decode cX1_hasPlace 0 = .ok (.aload_n 0, 1) := dk_42 (dk_at dksX1_hasPlace_0 0 rfl rfl)
theorem dX1_hasPlace_1 : decode cX1_hasPlace 1 = .ok (.iload_n 1, 1) := dk_27 (dk_at dksX1_hasPlace_0 1 rfl rfl)
theorem dX1_hasPlace_2 : decode cX1_hasPlace 2 = .ok (.iload_n 2, 1) := dk_28 (dk_at dksX1_hasPlace_0 2 rfl rfl)
theorem dX1_hasPlace_3 : decode cX1_hasPlace 3 = .ok (.if_icmp .ne 7, 3) := dk_160 0 7 (dk_at dksX1_hasPlace_0 3 rfl rfl)
theorem dX1_hasPlace_6 : decode cX1_hasPlace 6 = .ok (.iconst 1, 1) := dk_4 (dk_at dksX1_hasPlace_0 6 rfl rfl)
theorem dX1_hasPlace_7 : decode cX1_hasPlace 7 = .ok (.goto 4, 3) := dk_167 0 4 (dk_at dksX1_hasPlace_0 7 rfl rfl)
theorem dX1_hasPlace_10 : decode cX1_hasPlace 10 = .ok (.iconst 0, 1) := dk_3 (dk_at dksX1_hasPlace_0 10 rfl rfl)
theorem dX1_hasPlace_11 : decode cX1_hasPlace 11 = .ok (.iconst 4, 1) := dk_7 (dk_at dksX1_hasPlace_0 11 rfl rfl)
theorem dX1_hasPlace_12 : decode cX1_hasPlace 12 = .ok (.iload_n 2, 1) := dk_28 (dk_at dksX1_hasPlace_0 12 rfl rfl)
theorem dX1_hasPlace_13 : decode cX1_hasPlace 13 = .ok (.invokevirtual 53, 3) := dk_182 0 53 (dk_at dksX1_hasPlace_0 13 rfl rfl)
theorem dX1_hasPlace_16 : decode cX1_hasPlace 16 = .ok (.return_, 1) := dk_177 (dk_at dksX1_hasPlace_0 16 rfl rfl)
abbrev cX1_change : ByteArray := prog_1_method_10_code
def yX1_change : MethodName := ⟨RX1, "change", "()V"⟩
def dkwX1_change_1 : List UInt8 := [180, 0, 19, 182, 0, 81, 16, 8, 164, 0, 11, 42, 180, 0, 19, 182, 0, 85, 87, 177]
abbrev dktX1_change_1 : List UInt8 := dkwX1_change_1 ++ []
def dkwX1_change_0 : List UInt8 := [42, 180, 0, 69, 153, 0, 4, 177, 42, 180, 0, 19, 42, 180, 0, 10, 182, 0, 73, 182, 0, 77, 42]
abbrev dktX1_change_0 : List UInt8 := dkwX1_change_0 ++ dktX1_change_1
theorem dksX1_change_0 : cX1_change.data.toList.drop 0 = dktX1_change_0 := by decide +kernel
theorem dksX1_change_1 : cX1_change.data.toList.drop 23 = dktX1_change_1 := dk_seg dksX1_change_0 23 rfl rfl
theorem dX1_change_0 : decode cX1_change 0 = .ok (.aload_n 0, 1) := dk_42 (dk_at dksX1_change_0 0 rfl rfl)
theorem dX1_change_1 : decode cX1_change 1 = .ok (.getfield 69, 3) := dk_180 0 69 (dk_at dksX1_change_0 1 rfl rfl)
theorem dX1_change_4 : decode cX1_change 4 = .ok (.ifCond .eq 4, 3) := dk_153 0 4 (dk_at dksX1_change_0 4 rfl rfl)
theorem dX1_change_7 : decode cX1_change 7 = .ok (.return_, 1) := dk_177 (dk_at dksX1_change_0 7 rfl rfl)
theorem dX1_change_8 : decode cX1_change 8 = .ok (.aload_n 0, 1) := dk_42 (dk_at dksX1_change_0 8 rfl rfl)
theorem dX1_change_9 : decode cX1_change 9 = .ok (.getfield 19, 3) := dk_180 0 19 (dk_at dksX1_change_0 9 rfl rfl)
theorem dX1_change_12 : decode cX1_change 12 = .ok (.aload_n 0, 1) := dk_42 (dk_at dksX1_change_0 12 rfl rfl)
theorem dX1_change_13 : decode cX1_change 13 = .ok (.getfield 10, 3) := dk_180 0 10 (dk_at dksX1_change_0 13 rfl rfl)
theorem dX1_change_16 : decode cX1_change 16 = .ok (.invokevirtual 73, 3) := dk_182 0 73 (dk_at dksX1_change_0 16 rfl rfl)
theorem dX1_change_19 : decode cX1_change 19 = .ok (.invokevirtual 77, 3) := dk_182 0 77 (dk_at dksX1_change_0 19 rfl rfl)
theorem dX1_change_22 : decode cX1_change 22 = .ok (.aload_n 0, 1) := dk_42 (dk_at dksX1_change_0 22 rfl rfl)
theorem dX1_change_23 : decode cX1_change 23 = .ok (.getfield 19, 3) := dk_180 0 19 (dk_at dksX1_change_1 0 rfl rfl)
theorem dX1_change_26 : decode cX1_change 26 = .ok (.invokevirtual 81, 3) := dk_182 0 81 (dk_at dksX1_change_1 3 rfl rfl)
theorem dX1_change_29 : decode cX1_change 29 = .ok (.bipush 8, 2) := dk_16 8 (dk_at dksX1_change_1 6 rfl rfl)
theorem dX1_change_31 : decode cX1_change 31 = .ok (.if_icmp .le 11, 3) := dk_164 0 11 (dk_at dksX1_change_1 8 rfl rfl)
theorem dX1_change_34 : decode cX1_change 34 = .ok (.aload_n 0, 1) := dk_42 (dk_at dksX1_change_1 11 rfl rfl)
theorem dX1_change_35 : decode cX1_change 35 = .ok (.getfield 19, 3) := dk_180 0 19 (dk_at dksX1_change_1 12 rfl rfl)
theorem dX1_change_38 : decode cX1_change 38 = .ok (.invokevirtual 85, 3) := dk_182 0 85 (dk_at dksX1_change_1 15 rfl rfl)
theorem dX1_change_41 : decode cX1_change 41 = .ok (.pop, 1) := dk_87 (dk_at dksX1_change_1 18 rfl rfl)
theorem dX1_change_42 : decode cX1_change 42 = .ok (.return_, 1) := dk_177 (dk_at dksX1_change_1 19 rfl rfl)
abbrev cX1_leave : ByteArray := prog_1_method_16_code
def yX1_leave : MethodName := ⟨RX1, "leave", "(I)I"⟩
def dkwX1_leave_0 : List UInt8 := [42, 27, 182, 0, 138, 87, 42, 182, 0, 128, 42, 180, 0, 10, 27, 182, 0, 142, 172]
abbrev dktX1_leave_0 : List UInt8 := dkwX1_leave_0 ++ []
theorem dksX1_leave_0 : cX1_leave.data.toList.drop 0 = dktX1_leave_0 := by decide +kernel
theorem dX1_leave_0 : decode cX1_leave 0 = .ok (.aload_n 0, 1) := dk_42 (dk_at dksX1_leave_0 0 rfl rfl)
theorem dX1_leave_1 : decode cX1_leave 1 = .ok (.iload_n 1, 1) := dk_27 (dk_at dksX1_leave_0 1 rfl rfl)
theorem dX1_leave_2 : decode cX1_leave 2 = .ok (.invokevirtual 138, 3) := dk_182 0 138 (dk_at dksX1_leave_0 2 rfl rfl)
theorem dX1_leave_5 : decode cX1_leave 5 = .ok (.pop, 1) := dk_87 (dk_at dksX1_leave_0 5 rfl rfl)
theorem dX1_leave_6 : decode cX1_leave 6 = .ok (.aload_n 0, 1) := dk_42 (dk_at dksX1_leave_0 6 rfl rfl)
theorem dX1_leave_7 : decode cX1_leave 7 = .ok (.invokevirtual 128, 3) := dk_182 0 128 (dk_at dksX1_leave_0 7 rfl rfl)
theorem dX1_leave_10 : decode cX1_leave 10 = .ok (.aload_n 0, 1) := dk_42 (dk_at dksX1_leave_0 10 rfl rfl)
theorem dX1_leave_11 : decode cX1_leave 11 = .ok (.getfield 10, 3) := dk_180 0 10 (dk_at dksX1_leave_0 11 rfl rfl)
theorem dX1_leave_14 : decode cX1_leave 14 = .ok (.iload_n 1, 1) := dk_27 (dk_at dksX1_leave_0 14 rfl rfl)
theorem dX1_leave_15 : decode cX1_leave 15 = .ok (.invokevirtual 142, 3) := dk_182 0 142 (dk_at dksX1_leave_0 15 rfl rfl)
theorem dX1_leave_18 : decode cX1_leave 18 = .ok (.ireturn, 1) := dk_172 (dk_at dksX1_leave_0 18 rfl rfl)
abbrev cX1_stationFor : ByteArray := prog_1_method_13_code
def yX1_stationFor : MethodName := ⟨RX1, "stationFor", "(I)LTokenRing$Station;"⟩
def dkwX1_stationFor_1 : List UInt8 := [180, 0, 89, 27, 184, 0, 93, 182, 0, 109, 192, 0, 113, 176]
abbrev dktX1_stationFor_1 : List UInt8 := dkwX1_stationFor_1 ++ []
def dkwX1_stationFor_0 : List UInt8 := [42, 42, 27, 182, 0, 105, 154, 0, 7, 4, 167, 0, 4, 3, 6, 27, 182, 0, 53, 42, 180, 0, 10]
abbrev dktX1_stationFor_0 : List UInt8 := dkwX1_stationFor_0 ++ dktX1_stationFor_1
theorem dksX1_stationFor_0 : cX1_stationFor.data.toList.drop 0 = dktX1_stationFor_0 := by decide +kernel
theorem dksX1_stationFor_1 : cX1_stationFor.data.toList.drop 23 = dktX1_stationFor_1 := dk_seg dksX1_stationFor_0 23 rfl rfl
theorem dX1_stationFor_0 : decode cX1_stationFor 0 = .ok (.aload_n 0, 1) := dk_42 (dk_at dksX1_stationFor_0 0 rfl rfl)
theorem dX1_stationFor_1 : decode cX1_stationFor 1 = .ok (.aload_n 0, 1) := dk_42 (dk_at dksX1_stationFor_0 1 rfl rfl)
theorem dX1_stationFor_2 : decode cX1_stationFor 2 = .ok (.iload_n 1, 1) := dk_27 (dk_at dksX1_stationFor_0 2 rfl rfl)
theorem dX1_stationFor_3 : decode cX1_stationFor 3 = .ok (.invokevirtual 105, 3) := dk_182 0 105 (dk_at dksX1_stationFor_0 3 rfl rfl)
theorem dX1_stationFor_6 : decode cX1_stationFor 6 = .ok (.ifCond .ne 7, 3) := dk_154 0 7 (dk_at dksX1_stationFor_0 6 rfl rfl)
theorem dX1_stationFor_9 : decode cX1_stationFor 9 = .ok (.iconst 1, 1) := dk_4 (dk_at dksX1_stationFor_0 9 rfl rfl)
theorem dX1_stationFor_10 : decode cX1_stationFor 10 = .ok (.goto 4, 3) := dk_167 0 4 (dk_at dksX1_stationFor_0 10 rfl rfl)
theorem dX1_stationFor_13 : decode cX1_stationFor 13 = .ok (.iconst 0, 1) := dk_3 (dk_at dksX1_stationFor_0 13 rfl rfl)
theorem dX1_stationFor_14 : decode cX1_stationFor 14 = .ok (.iconst 3, 1) := dk_6 (dk_at dksX1_stationFor_0 14 rfl rfl)
theorem dX1_stationFor_15 : decode cX1_stationFor 15 = .ok (.iload_n 1, 1) := dk_27 (dk_at dksX1_stationFor_0 15 rfl rfl)
theorem dX1_stationFor_16 : decode cX1_stationFor 16 = .ok (.invokevirtual 53, 3) := dk_182 0 53 (dk_at dksX1_stationFor_0 16 rfl rfl)
theorem dX1_stationFor_19 : decode cX1_stationFor 19 = .ok (.aload_n 0, 1) := dk_42 (dk_at dksX1_stationFor_0 19 rfl rfl)
theorem dX1_stationFor_20 : decode cX1_stationFor 20 = .ok (.getfield 10, 3) := dk_180 0 10 (dk_at dksX1_stationFor_0 20 rfl rfl)
theorem dX1_stationFor_23 : decode cX1_stationFor 23 = .ok (.getfield 89, 3) := dk_180 0 89 (dk_at dksX1_stationFor_1 0 rfl rfl)
theorem dX1_stationFor_26 : decode cX1_stationFor 26 = .ok (.iload_n 1, 1) := dk_27 (dk_at dksX1_stationFor_1 3 rfl rfl)
theorem dX1_stationFor_27 : decode cX1_stationFor 27 = .ok (.invokestatic 93, 3) := dk_184 0 93 (dk_at dksX1_stationFor_1 4 rfl rfl)
theorem dX1_stationFor_30 : decode cX1_stationFor 30 = .ok (.invokevirtual 109, 3) := dk_182 0 109 (dk_at dksX1_stationFor_1 7 rfl rfl)
theorem dX1_stationFor_33 : decode cX1_stationFor 33 = .ok (.checkcast 113, 3) := dk_192 0 113 (dk_at dksX1_stationFor_1 10 rfl rfl)
theorem dX1_stationFor_36 : decode cX1_stationFor 36 = .ok (.areturn, 1) := dk_176 (dk_at dksX1_stationFor_1 13 rfl rfl)
abbrev cX1_queue : ByteArray := prog_1_method_18_code
def yX1_queue : MethodName := ⟨RX1, "queue", "(IIII)I"⟩
def dkwX1_queue_5 : List UInt8 := [42, 180, 0, 10, 89, 180, 0, 156, 4, 96, 181, 0, 156, 21, 6, 172]
abbrev dktX1_queue_5 : List UInt8 := dkwX1_queue_5 ++ []
def dkwX1_queue_4 : List UInt8 := [187, 0, 159, 89, 21, 6, 27, 28, 29, 21, 4, 42, 180, 0, 10, 180, 0, 161, 183, 0, 164, 182, 0, 167]
abbrev dktX1_queue_4 : List UInt8 := dkwX1_queue_4 ++ dktX1_queue_5
def dkwX1_queue_3 : List UInt8 := [180, 0, 156, 54, 6, 42, 180, 0, 10, 180, 0, 89, 27, 184, 0, 93, 182, 0, 109, 192, 0, 113]
abbrev dktX1_queue_3 : List UInt8 := dkwX1_queue_3 ++ dktX1_queue_4
def dkwX1_queue_2 : List UInt8 := [42, 25, 5, 180, 0, 149, 182, 0, 153, 16, 12, 182, 0, 124, 42, 182, 0, 128, 42, 180, 0, 10]
abbrev dktX1_queue_2 : List UInt8 := dkwX1_queue_2 ++ dktX1_queue_3
def dkwX1_queue_1 : List UInt8 := [21, 4, 4, 16, 9, 182, 0, 119, 42, 27, 28, 160, 0, 7, 4, 167, 0, 4, 3, 8, 27, 182, 0, 53]
abbrev dktX1_queue_1 : List UInt8 := dkwX1_queue_1 ++ dktX1_queue_2
def dkwX1_queue_0 : List UInt8 := [42, 27, 182, 0, 138, 58, 5, 42, 28, 3, 16, 99, 182, 0, 119, 42, 29, 3, 6, 182, 0, 119, 42]
abbrev dktX1_queue_0 : List UInt8 := dkwX1_queue_0 ++ dktX1_queue_1
theorem dksX1_queue_0 : cX1_queue.data.toList.drop 0 = dktX1_queue_0 := by decide +kernel
theorem dksX1_queue_1 : cX1_queue.data.toList.drop 23 = dktX1_queue_1 := dk_seg dksX1_queue_0 23 rfl rfl
theorem dksX1_queue_2 : cX1_queue.data.toList.drop 47 = dktX1_queue_2 := dk_seg dksX1_queue_1 24 rfl rfl
theorem dksX1_queue_3 : cX1_queue.data.toList.drop 69 = dktX1_queue_3 := dk_seg dksX1_queue_2 22 rfl rfl
theorem dksX1_queue_4 : cX1_queue.data.toList.drop 91 = dktX1_queue_4 := dk_seg dksX1_queue_3 22 rfl rfl
theorem dksX1_queue_5 : cX1_queue.data.toList.drop 115 = dktX1_queue_5 := dk_seg dksX1_queue_4 24 rfl rfl
theorem dX1_queue_0 : decode cX1_queue 0 = .ok (.aload_n 0, 1) := dk_42 (dk_at dksX1_queue_0 0 rfl rfl)
theorem dX1_queue_1 : decode cX1_queue 1 = .ok (.iload_n 1, 1) := dk_27 (dk_at dksX1_queue_0 1 rfl rfl)
theorem dX1_queue_2 : decode cX1_queue 2 = .ok (.invokevirtual 138, 3) := dk_182 0 138 (dk_at dksX1_queue_0 2 rfl rfl)
theorem dX1_queue_5 : decode cX1_queue 5 = .ok (.astore 5, 2) := dk_58 5 (dk_at dksX1_queue_0 5 rfl rfl)
theorem dX1_queue_7 : decode cX1_queue 7 = .ok (.aload_n 0, 1) := dk_42 (dk_at dksX1_queue_0 7 rfl rfl)
theorem dX1_queue_8 : decode cX1_queue 8 = .ok (.iload_n 2, 1) := dk_28 (dk_at dksX1_queue_0 8 rfl rfl)
theorem dX1_queue_9 : decode cX1_queue 9 = .ok (.iconst 0, 1) := dk_3 (dk_at dksX1_queue_0 9 rfl rfl)
theorem dX1_queue_10 : decode cX1_queue 10 = .ok (.bipush 99, 2) := dk_16 99 (dk_at dksX1_queue_0 10 rfl rfl)
theorem dX1_queue_12 : decode cX1_queue 12 = .ok (.invokevirtual 119, 3) := dk_182 0 119 (dk_at dksX1_queue_0 12 rfl rfl)
theorem dX1_queue_15 : decode cX1_queue 15 = .ok (.aload_n 0, 1) := dk_42 (dk_at dksX1_queue_0 15 rfl rfl)
theorem dX1_queue_16 : decode cX1_queue 16 = .ok (.iload_n 3, 1) := dk_29 (dk_at dksX1_queue_0 16 rfl rfl)
theorem dX1_queue_17 : decode cX1_queue 17 = .ok (.iconst 0, 1) := dk_3 (dk_at dksX1_queue_0 17 rfl rfl)
theorem dX1_queue_18 : decode cX1_queue 18 = .ok (.iconst 3, 1) := dk_6 (dk_at dksX1_queue_0 18 rfl rfl)
theorem dX1_queue_19 : decode cX1_queue 19 = .ok (.invokevirtual 119, 3) := dk_182 0 119 (dk_at dksX1_queue_0 19 rfl rfl)
theorem dX1_queue_22 : decode cX1_queue 22 = .ok (.aload_n 0, 1) := dk_42 (dk_at dksX1_queue_0 22 rfl rfl)
theorem dX1_queue_23 : decode cX1_queue 23 = .ok (.iload 4, 2) := dk_21 4 (dk_at dksX1_queue_1 0 rfl rfl)
theorem dX1_queue_25 : decode cX1_queue 25 = .ok (.iconst 1, 1) := dk_4 (dk_at dksX1_queue_1 2 rfl rfl)
theorem dX1_queue_26 : decode cX1_queue 26 = .ok (.bipush 9, 2) := dk_16 9 (dk_at dksX1_queue_1 3 rfl rfl)
theorem dX1_queue_28 : decode cX1_queue 28 = .ok (.invokevirtual 119, 3) := dk_182 0 119 (dk_at dksX1_queue_1 5 rfl rfl)
theorem dX1_queue_31 : decode cX1_queue 31 = .ok (.aload_n 0, 1) := dk_42 (dk_at dksX1_queue_1 8 rfl rfl)
theorem dX1_queue_32 : decode cX1_queue 32 = .ok (.iload_n 1, 1) := dk_27 (dk_at dksX1_queue_1 9 rfl rfl)
theorem dX1_queue_33 : decode cX1_queue 33 = .ok (.iload_n 2, 1) := dk_28 (dk_at dksX1_queue_1 10 rfl rfl)
theorem dX1_queue_34 : decode cX1_queue 34 = .ok (.if_icmp .ne 7, 3) := dk_160 0 7 (dk_at dksX1_queue_1 11 rfl rfl)
theorem dX1_queue_37 : decode cX1_queue 37 = .ok (.iconst 1, 1) := dk_4 (dk_at dksX1_queue_1 14 rfl rfl)
theorem dX1_queue_38 : decode cX1_queue 38 = .ok (.goto 4, 3) := dk_167 0 4 (dk_at dksX1_queue_1 15 rfl rfl)
theorem dX1_queue_41 : decode cX1_queue 41 = .ok (.iconst 0, 1) := dk_3 (dk_at dksX1_queue_1 18 rfl rfl)
theorem dX1_queue_42 : decode cX1_queue 42 = .ok (.iconst 5, 1) := dk_8 (dk_at dksX1_queue_1 19 rfl rfl)
theorem dX1_queue_43 : decode cX1_queue 43 = .ok (.iload_n 1, 1) := dk_27 (dk_at dksX1_queue_1 20 rfl rfl)
theorem dX1_queue_44 : decode cX1_queue 44 = .ok (.invokevirtual 53, 3) := dk_182 0 53 (dk_at dksX1_queue_1 21 rfl rfl)
theorem dX1_queue_47 : decode cX1_queue 47 = .ok (.aload_n 0, 1) := dk_42 (dk_at dksX1_queue_2 0 rfl rfl)
theorem dX1_queue_48 : decode cX1_queue 48 = .ok (.aload 5, 2) := dk_25 5 (dk_at dksX1_queue_2 1 rfl rfl)
theorem dX1_queue_50 : decode cX1_queue 50 = .ok (.getfield 149, 3) := dk_180 0 149 (dk_at dksX1_queue_2 3 rfl rfl)
theorem dX1_queue_53 : decode cX1_queue 53 = .ok (.invokevirtual 153, 3) := dk_182 0 153 (dk_at dksX1_queue_2 6 rfl rfl)
theorem dX1_queue_56 : decode cX1_queue 56 = .ok (.bipush 12, 2) := dk_16 12 (dk_at dksX1_queue_2 9 rfl rfl)
theorem dX1_queue_58 : decode cX1_queue 58 = .ok (.invokevirtual 124, 3) := dk_182 0 124 (dk_at dksX1_queue_2 11 rfl rfl)
theorem dX1_queue_61 : decode cX1_queue 61 = .ok (.aload_n 0, 1) := dk_42 (dk_at dksX1_queue_2 14 rfl rfl)
theorem dX1_queue_62 : decode cX1_queue 62 = .ok (.invokevirtual 128, 3) := dk_182 0 128 (dk_at dksX1_queue_2 15 rfl rfl)
theorem dX1_queue_65 : decode cX1_queue 65 = .ok (.aload_n 0, 1) := dk_42 (dk_at dksX1_queue_2 18 rfl rfl)
theorem dX1_queue_66 : decode cX1_queue 66 = .ok (.getfield 10, 3) := dk_180 0 10 (dk_at dksX1_queue_2 19 rfl rfl)
theorem dX1_queue_69 : decode cX1_queue 69 = .ok (.getfield 156, 3) := dk_180 0 156 (dk_at dksX1_queue_3 0 rfl rfl)
theorem dX1_queue_72 : decode cX1_queue 72 = .ok (.istore 6, 2) := dk_54 6 (dk_at dksX1_queue_3 3 rfl rfl)
theorem dX1_queue_74 : decode cX1_queue 74 = .ok (.aload_n 0, 1) := dk_42 (dk_at dksX1_queue_3 5 rfl rfl)
theorem dX1_queue_75 : decode cX1_queue 75 = .ok (.getfield 10, 3) := dk_180 0 10 (dk_at dksX1_queue_3 6 rfl rfl)
theorem dX1_queue_78 : decode cX1_queue 78 = .ok (.getfield 89, 3) := dk_180 0 89 (dk_at dksX1_queue_3 9 rfl rfl)
theorem dX1_queue_81 : decode cX1_queue 81 = .ok (.iload_n 1, 1) := dk_27 (dk_at dksX1_queue_3 12 rfl rfl)
theorem dX1_queue_82 : decode cX1_queue 82 = .ok (.invokestatic 93, 3) := dk_184 0 93 (dk_at dksX1_queue_3 13 rfl rfl)
theorem dX1_queue_85 : decode cX1_queue 85 = .ok (.invokevirtual 109, 3) := dk_182 0 109 (dk_at dksX1_queue_3 16 rfl rfl)
theorem dX1_queue_88 : decode cX1_queue 88 = .ok (.checkcast 113, 3) := dk_192 0 113 (dk_at dksX1_queue_3 19 rfl rfl)
theorem dX1_queue_91 : decode cX1_queue 91 = .ok (.new 159, 3) := dk_187 0 159 (dk_at dksX1_queue_4 0 rfl rfl)
theorem dX1_queue_94 : decode cX1_queue 94 = .ok (.dup, 1) := dk_89 (dk_at dksX1_queue_4 3 rfl rfl)
theorem dX1_queue_95 : decode cX1_queue 95 = .ok (.iload 6, 2) := dk_21 6 (dk_at dksX1_queue_4 4 rfl rfl)
theorem dX1_queue_97 : decode cX1_queue 97 = .ok (.iload_n 1, 1) := dk_27 (dk_at dksX1_queue_4 6 rfl rfl)
theorem dX1_queue_98 : decode cX1_queue 98 = .ok (.iload_n 2, 1) := dk_28 (dk_at dksX1_queue_4 7 rfl rfl)
theorem dX1_queue_99 : decode cX1_queue 99 = .ok (.iload_n 3, 1) := dk_29 (dk_at dksX1_queue_4 8 rfl rfl)
theorem dX1_queue_100 : decode cX1_queue 100 = .ok (.iload 4, 2) := dk_21 4 (dk_at dksX1_queue_4 9 rfl rfl)
theorem dX1_queue_102 : decode cX1_queue 102 = .ok (.aload_n 0, 1) := dk_42 (dk_at dksX1_queue_4 11 rfl rfl)
theorem dX1_queue_103 : decode cX1_queue 103 = .ok (.getfield 10, 3) := dk_180 0 10 (dk_at dksX1_queue_4 12 rfl rfl)
theorem dX1_queue_106 : decode cX1_queue 106 = .ok (.getfield 161, 3) := dk_180 0 161 (dk_at dksX1_queue_4 15 rfl rfl)
theorem dX1_queue_109 : decode cX1_queue 109 = .ok (.invokespecial 164, 3) := dk_183 0 164 (dk_at dksX1_queue_4 18 rfl rfl)
theorem dX1_queue_112 : decode cX1_queue 112 = .ok (.invokevirtual 167, 3) := dk_182 0 167 (dk_at dksX1_queue_4 21 rfl rfl)
theorem dX1_queue_115 : decode cX1_queue 115 = .ok (.aload_n 0, 1) := dk_42 (dk_at dksX1_queue_5 0 rfl rfl)
theorem dX1_queue_116 : decode cX1_queue 116 = .ok (.getfield 10, 3) := dk_180 0 10 (dk_at dksX1_queue_5 1 rfl rfl)
theorem dX1_queue_119 : decode cX1_queue 119 = .ok (.dup, 1) := dk_89 (dk_at dksX1_queue_5 4 rfl rfl)
theorem dX1_queue_120 : decode cX1_queue 120 = .ok (.getfield 156, 3) := dk_180 0 156 (dk_at dksX1_queue_5 5 rfl rfl)
theorem dX1_queue_123 : decode cX1_queue 123 = .ok (.iconst 1, 1) := dk_4 (dk_at dksX1_queue_5 8 rfl rfl)
theorem dX1_queue_124 : decode cX1_queue 124 = .ok (.iadd, 1) := dk_96 (dk_at dksX1_queue_5 9 rfl rfl)
theorem dX1_queue_125 : decode cX1_queue 125 = .ok (.putfield 156, 3) := dk_181 0 156 (dk_at dksX1_queue_5 10 rfl rfl)
theorem dX1_queue_128 : decode cX1_queue 128 = .ok (.iload 6, 2) := dk_21 6 (dk_at dksX1_queue_5 13 rfl rfl)
theorem dX1_queue_130 : decode cX1_queue 130 = .ok (.ireturn, 1) := dk_172 (dk_at dksX1_queue_5 15 rfl rfl)
abbrev cX1_drop : ByteArray := prog_1_method_19_code
def yX1_drop : MethodName := ⟨RX1, "drop", "(I)I"⟩
def dkwX1_drop_3 : List UInt8 := [181, 0, 179, 45, 180, 0, 182, 172]
abbrev dktX1_drop_3 : List UInt8 := dkwX1_drop_3 ++ []
def dkwX1_drop_2 : List UInt8 := [182, 0, 153, 4, 100, 182, 0, 175, 192, 0, 159, 78, 42, 180, 0, 10, 89, 180, 0, 179, 4, 96]
abbrev dktX1_drop_2 : List UInt8 := dkwX1_drop_2 ++ dktX1_drop_3
def dkwX1_drop_1 : List UInt8 := [180, 0, 10, 180, 0, 89, 27, 184, 0, 93, 182, 0, 109, 192, 0, 113, 180, 0, 149, 77, 44, 44]
abbrev dktX1_drop_1 : List UInt8 := dkwX1_drop_1 ++ dktX1_drop_2
def dkwX1_drop_0 : List UInt8 := [42, 42, 27, 182, 0, 138, 180, 0, 149, 182, 0, 171, 16, 9, 27, 182, 0, 53, 42, 182, 0, 128, 42]
abbrev dktX1_drop_0 : List UInt8 := dkwX1_drop_0 ++ dktX1_drop_1
theorem dksX1_drop_0 : cX1_drop.data.toList.drop 0 = dktX1_drop_0 := by decide +kernel
theorem dksX1_drop_1 : cX1_drop.data.toList.drop 23 = dktX1_drop_1 := dk_seg dksX1_drop_0 23 rfl rfl
theorem dksX1_drop_2 : cX1_drop.data.toList.drop 45 = dktX1_drop_2 := dk_seg dksX1_drop_1 22 rfl rfl
theorem dksX1_drop_3 : cX1_drop.data.toList.drop 67 = dktX1_drop_3 := dk_seg dksX1_drop_2 22 rfl rfl
theorem dX1_drop_0 : decode cX1_drop 0 = .ok (.aload_n 0, 1) := dk_42 (dk_at dksX1_drop_0 0 rfl rfl)
theorem dX1_drop_1 : decode cX1_drop 1 = .ok (.aload_n 0, 1) := dk_42 (dk_at dksX1_drop_0 1 rfl rfl)
theorem dX1_drop_2 : decode cX1_drop 2 = .ok (.iload_n 1, 1) := dk_27 (dk_at dksX1_drop_0 2 rfl rfl)
theorem dX1_drop_3 : decode cX1_drop 3 = .ok (.invokevirtual 138, 3) := dk_182 0 138 (dk_at dksX1_drop_0 3 rfl rfl)
theorem dX1_drop_6 : decode cX1_drop 6 = .ok (.getfield 149, 3) := dk_180 0 149 (dk_at dksX1_drop_0 6 rfl rfl)
theorem dX1_drop_9 : decode cX1_drop 9 = .ok (.invokevirtual 171, 3) := dk_182 0 171 (dk_at dksX1_drop_0 9 rfl rfl)
theorem dX1_drop_12 : decode cX1_drop 12 = .ok (.bipush 9, 2) := dk_16 9 (dk_at dksX1_drop_0 12 rfl rfl)
theorem dX1_drop_14 : decode cX1_drop 14 = .ok (.iload_n 1, 1) := dk_27 (dk_at dksX1_drop_0 14 rfl rfl)
theorem dX1_drop_15 : decode cX1_drop 15 = .ok (.invokevirtual 53, 3) := dk_182 0 53 (dk_at dksX1_drop_0 15 rfl rfl)
theorem dX1_drop_18 : decode cX1_drop 18 = .ok (.aload_n 0, 1) := dk_42 (dk_at dksX1_drop_0 18 rfl rfl)
theorem dX1_drop_19 : decode cX1_drop 19 = .ok (.invokevirtual 128, 3) := dk_182 0 128 (dk_at dksX1_drop_0 19 rfl rfl)
theorem dX1_drop_22 : decode cX1_drop 22 = .ok (.aload_n 0, 1) := dk_42 (dk_at dksX1_drop_0 22 rfl rfl)
theorem dX1_drop_23 : decode cX1_drop 23 = .ok (.getfield 10, 3) := dk_180 0 10 (dk_at dksX1_drop_1 0 rfl rfl)
theorem dX1_drop_26 : decode cX1_drop 26 = .ok (.getfield 89, 3) := dk_180 0 89 (dk_at dksX1_drop_1 3 rfl rfl)
theorem dX1_drop_29 : decode cX1_drop 29 = .ok (.iload_n 1, 1) := dk_27 (dk_at dksX1_drop_1 6 rfl rfl)
theorem dX1_drop_30 : decode cX1_drop 30 = .ok (.invokestatic 93, 3) := dk_184 0 93 (dk_at dksX1_drop_1 7 rfl rfl)
theorem dX1_drop_33 : decode cX1_drop 33 = .ok (.invokevirtual 109, 3) := dk_182 0 109 (dk_at dksX1_drop_1 10 rfl rfl)
theorem dX1_drop_36 : decode cX1_drop 36 = .ok (.checkcast 113, 3) := dk_192 0 113 (dk_at dksX1_drop_1 13 rfl rfl)
theorem dX1_drop_39 : decode cX1_drop 39 = .ok (.getfield 149, 3) := dk_180 0 149 (dk_at dksX1_drop_1 16 rfl rfl)
theorem dX1_drop_42 : decode cX1_drop 42 = .ok (.astore_n 2, 1) := dk_77 (dk_at dksX1_drop_1 19 rfl rfl)
theorem dX1_drop_43 : decode cX1_drop 43 = .ok (.aload_n 2, 1) := dk_44 (dk_at dksX1_drop_1 20 rfl rfl)
theorem dX1_drop_44 : decode cX1_drop 44 = .ok (.aload_n 2, 1) := dk_44 (dk_at dksX1_drop_1 21 rfl rfl)
theorem dX1_drop_45 : decode cX1_drop 45 = .ok (.invokevirtual 153, 3) := dk_182 0 153 (dk_at dksX1_drop_2 0 rfl rfl)
theorem dX1_drop_48 : decode cX1_drop 48 = .ok (.iconst 1, 1) := dk_4 (dk_at dksX1_drop_2 3 rfl rfl)
theorem dX1_drop_49 : decode cX1_drop 49 = .ok (.isub, 1) := dk_100 (dk_at dksX1_drop_2 4 rfl rfl)
theorem dX1_drop_50 : decode cX1_drop 50 = .ok (.invokevirtual 175, 3) := dk_182 0 175 (dk_at dksX1_drop_2 5 rfl rfl)
theorem dX1_drop_53 : decode cX1_drop 53 = .ok (.checkcast 159, 3) := dk_192 0 159 (dk_at dksX1_drop_2 8 rfl rfl)
theorem dX1_drop_56 : decode cX1_drop 56 = .ok (.astore_n 3, 1) := dk_78 (dk_at dksX1_drop_2 11 rfl rfl)
theorem dX1_drop_57 : decode cX1_drop 57 = .ok (.aload_n 0, 1) := dk_42 (dk_at dksX1_drop_2 12 rfl rfl)
theorem dX1_drop_58 : decode cX1_drop 58 = .ok (.getfield 10, 3) := dk_180 0 10 (dk_at dksX1_drop_2 13 rfl rfl)
theorem dX1_drop_61 : decode cX1_drop 61 = .ok (.dup, 1) := dk_89 (dk_at dksX1_drop_2 16 rfl rfl)
theorem dX1_drop_62 : decode cX1_drop 62 = .ok (.getfield 179, 3) := dk_180 0 179 (dk_at dksX1_drop_2 17 rfl rfl)
theorem dX1_drop_65 : decode cX1_drop 65 = .ok (.iconst 1, 1) := dk_4 (dk_at dksX1_drop_2 20 rfl rfl)
theorem dX1_drop_66 : decode cX1_drop 66 = .ok (.iadd, 1) := dk_96 (dk_at dksX1_drop_2 21 rfl rfl)
theorem dX1_drop_67 : decode cX1_drop 67 = .ok (.putfield 179, 3) := dk_181 0 179 (dk_at dksX1_drop_3 0 rfl rfl)
theorem dX1_drop_70 : decode cX1_drop 70 = .ok (.aload_n 3, 1) := dk_45 (dk_at dksX1_drop_3 3 rfl rfl)
theorem dX1_drop_71 : decode cX1_drop 71 = .ok (.getfield 182, 3) := dk_180 0 182 (dk_at dksX1_drop_3 4 rfl rfl)
theorem dX1_drop_74 : decode cX1_drop 74 = .ok (.ireturn, 1) := dk_172 (dk_at dksX1_drop_3 7 rfl rfl)
abbrev cX1_monitor : ByteArray := prog_1_method_17_code
def yX1_monitor : MethodName := ⟨RX1, "monitor", "(I)I"⟩
def dkwX1_monitor_2 : List UInt8 := [181, 0, 146, 28, 172]
abbrev dktX1_monitor_2 : List UInt8 := dkwX1_monitor_2 ++ []
def dkwX1_monitor_1 : List UInt8 := [16, 8, 27, 182, 0, 53, 42, 182, 0, 128, 42, 180, 0, 10, 180, 0, 146, 61, 42, 180, 0, 10, 27]
abbrev dktX1_monitor_1 : List UInt8 := dkwX1_monitor_1 ++ dktX1_monitor_2
def dkwX1_monitor_0 : List UInt8 := [42, 27, 182, 0, 138, 87, 42, 42, 180, 0, 10, 180, 0, 146, 27, 160, 0, 7, 4, 167, 0, 4, 3]
abbrev dktX1_monitor_0 : List UInt8 := dkwX1_monitor_0 ++ dktX1_monitor_1
theorem dksX1_monitor_0 : cX1_monitor.data.toList.drop 0 = dktX1_monitor_0 := by decide +kernel
theorem dksX1_monitor_1 : cX1_monitor.data.toList.drop 23 = dktX1_monitor_1 := dk_seg dksX1_monitor_0 23 rfl rfl
theorem dksX1_monitor_2 : cX1_monitor.data.toList.drop 46 = dktX1_monitor_2 := dk_seg dksX1_monitor_1 23 rfl rfl
theorem dX1_monitor_0 : decode cX1_monitor 0 = .ok (.aload_n 0, 1) := dk_42 (dk_at dksX1_monitor_0 0 rfl rfl)
theorem dX1_monitor_1 : decode cX1_monitor 1 = .ok (.iload_n 1, 1) := dk_27 (dk_at dksX1_monitor_0 1 rfl rfl)
theorem dX1_monitor_2 : decode cX1_monitor 2 = .ok (.invokevirtual 138, 3) := dk_182 0 138 (dk_at dksX1_monitor_0 2 rfl rfl)
theorem dX1_monitor_5 : decode cX1_monitor 5 = .ok (.pop, 1) := dk_87 (dk_at dksX1_monitor_0 5 rfl rfl)
theorem dX1_monitor_6 : decode cX1_monitor 6 = .ok (.aload_n 0, 1) := dk_42 (dk_at dksX1_monitor_0 6 rfl rfl)
theorem dX1_monitor_7 : decode cX1_monitor 7 = .ok (.aload_n 0, 1) := dk_42 (dk_at dksX1_monitor_0 7 rfl rfl)
theorem dX1_monitor_8 : decode cX1_monitor 8 = .ok (.getfield 10, 3) := dk_180 0 10 (dk_at dksX1_monitor_0 8 rfl rfl)
theorem dX1_monitor_11 : decode cX1_monitor 11 = .ok (.getfield 146, 3) := dk_180 0 146 (dk_at dksX1_monitor_0 11 rfl rfl)
theorem dX1_monitor_14 : decode cX1_monitor 14 = .ok (.iload_n 1, 1) := dk_27 (dk_at dksX1_monitor_0 14 rfl rfl)
theorem dX1_monitor_15 : decode cX1_monitor 15 = .ok (.if_icmp .ne 7, 3) := dk_160 0 7 (dk_at dksX1_monitor_0 15 rfl rfl)
theorem dX1_monitor_18 : decode cX1_monitor 18 = .ok (.iconst 1, 1) := dk_4 (dk_at dksX1_monitor_0 18 rfl rfl)
theorem dX1_monitor_19 : decode cX1_monitor 19 = .ok (.goto 4, 3) := dk_167 0 4 (dk_at dksX1_monitor_0 19 rfl rfl)
theorem dX1_monitor_22 : decode cX1_monitor 22 = .ok (.iconst 0, 1) := dk_3 (dk_at dksX1_monitor_0 22 rfl rfl)
theorem dX1_monitor_23 : decode cX1_monitor 23 = .ok (.bipush 8, 2) := dk_16 8 (dk_at dksX1_monitor_1 0 rfl rfl)
theorem dX1_monitor_25 : decode cX1_monitor 25 = .ok (.iload_n 1, 1) := dk_27 (dk_at dksX1_monitor_1 2 rfl rfl)
theorem dX1_monitor_26 : decode cX1_monitor 26 = .ok (.invokevirtual 53, 3) := dk_182 0 53 (dk_at dksX1_monitor_1 3 rfl rfl)
theorem dX1_monitor_29 : decode cX1_monitor 29 = .ok (.aload_n 0, 1) := dk_42 (dk_at dksX1_monitor_1 6 rfl rfl)
theorem dX1_monitor_30 : decode cX1_monitor 30 = .ok (.invokevirtual 128, 3) := dk_182 0 128 (dk_at dksX1_monitor_1 7 rfl rfl)
theorem dX1_monitor_33 : decode cX1_monitor 33 = .ok (.aload_n 0, 1) := dk_42 (dk_at dksX1_monitor_1 10 rfl rfl)
theorem dX1_monitor_34 : decode cX1_monitor 34 = .ok (.getfield 10, 3) := dk_180 0 10 (dk_at dksX1_monitor_1 11 rfl rfl)
theorem dX1_monitor_37 : decode cX1_monitor 37 = .ok (.getfield 146, 3) := dk_180 0 146 (dk_at dksX1_monitor_1 14 rfl rfl)
theorem dX1_monitor_40 : decode cX1_monitor 40 = .ok (.istore_n 2, 1) := dk_61 (dk_at dksX1_monitor_1 17 rfl rfl)
theorem dX1_monitor_41 : decode cX1_monitor 41 = .ok (.aload_n 0, 1) := dk_42 (dk_at dksX1_monitor_1 18 rfl rfl)
theorem dX1_monitor_42 : decode cX1_monitor 42 = .ok (.getfield 10, 3) := dk_180 0 10 (dk_at dksX1_monitor_1 19 rfl rfl)
theorem dX1_monitor_45 : decode cX1_monitor 45 = .ok (.iload_n 1, 1) := dk_27 (dk_at dksX1_monitor_1 22 rfl rfl)
theorem dX1_monitor_46 : decode cX1_monitor 46 = .ok (.putfield 146, 3) := dk_181 0 146 (dk_at dksX1_monitor_2 0 rfl rfl)
theorem dX1_monitor_49 : decode cX1_monitor 49 = .ok (.iload_n 2, 1) := dk_28 (dk_at dksX1_monitor_2 3 rfl rfl)
theorem dX1_monitor_50 : decode cX1_monitor 50 = .ok (.ireturn, 1) := dk_172 (dk_at dksX1_monitor_2 4 rfl rfl)
abbrev cX1_token : ByteArray := prog_1_method_20_code
def yX1_token : MethodName := ⟨RX1, "token", "(I)I"⟩
def dkwX1_token_2 : List UInt8 := [180, 0, 10, 3, 181, 0, 191, 42, 180, 0, 10, 182, 0, 194, 172]
abbrev dktX1_token_2 : List UInt8 := dkwX1_token_2 ++ []
def dkwX1_token_1 : List UInt8 := [42, 180, 0, 10, 180, 0, 185, 182, 0, 53, 42, 182, 0, 128, 42, 180, 0, 10, 27, 3, 182, 0, 188, 42]
abbrev dktX1_token_1 : List UInt8 := dkwX1_token_1 ++ dktX1_token_2
def dkwX1_token_0 : List UInt8 := [42, 27, 182, 0, 138, 87, 42, 42, 180, 0, 10, 180, 0, 185, 153, 0, 7, 4, 167, 0, 4, 3, 16, 6]
abbrev dktX1_token_0 : List UInt8 := dkwX1_token_0 ++ dktX1_token_1
theorem dksX1_token_0 : cX1_token.data.toList.drop 0 = dktX1_token_0 := by decide +kernel
theorem dksX1_token_1 : cX1_token.data.toList.drop 24 = dktX1_token_1 := dk_seg dksX1_token_0 24 rfl rfl
theorem dksX1_token_2 : cX1_token.data.toList.drop 48 = dktX1_token_2 := dk_seg dksX1_token_1 24 rfl rfl
theorem dX1_token_0 : decode cX1_token 0 = .ok (.aload_n 0, 1) := dk_42 (dk_at dksX1_token_0 0 rfl rfl)
theorem dX1_token_1 : decode cX1_token 1 = .ok (.iload_n 1, 1) := dk_27 (dk_at dksX1_token_0 1 rfl rfl)
theorem dX1_token_2 : decode cX1_token 2 = .ok (.invokevirtual 138, 3) := dk_182 0 138 (dk_at dksX1_token_0 2 rfl rfl)
theorem dX1_token_5 : decode cX1_token 5 = .ok (.pop, 1) := dk_87 (dk_at dksX1_token_0 5 rfl rfl)
theorem dX1_token_6 : decode cX1_token 6 = .ok (.aload_n 0, 1) := dk_42 (dk_at dksX1_token_0 6 rfl rfl)
theorem dX1_token_7 : decode cX1_token 7 = .ok (.aload_n 0, 1) := dk_42 (dk_at dksX1_token_0 7 rfl rfl)
theorem dX1_token_8 : decode cX1_token 8 = .ok (.getfield 10, 3) := dk_180 0 10 (dk_at dksX1_token_0 8 rfl rfl)
theorem dX1_token_11 : decode cX1_token 11 = .ok (.getfield 185, 3) := dk_180 0 185 (dk_at dksX1_token_0 11 rfl rfl)
theorem dX1_token_14 : decode cX1_token 14 = .ok (.ifCond .eq 7, 3) := dk_153 0 7 (dk_at dksX1_token_0 14 rfl rfl)
theorem dX1_token_17 : decode cX1_token 17 = .ok (.iconst 1, 1) := dk_4 (dk_at dksX1_token_0 17 rfl rfl)
theorem dX1_token_18 : decode cX1_token 18 = .ok (.goto 4, 3) := dk_167 0 4 (dk_at dksX1_token_0 18 rfl rfl)
theorem dX1_token_21 : decode cX1_token 21 = .ok (.iconst 0, 1) := dk_3 (dk_at dksX1_token_0 21 rfl rfl)
theorem dX1_token_22 : decode cX1_token 22 = .ok (.bipush 6, 2) := dk_16 6 (dk_at dksX1_token_0 22 rfl rfl)
theorem dX1_token_24 : decode cX1_token 24 = .ok (.aload_n 0, 1) := dk_42 (dk_at dksX1_token_1 0 rfl rfl)
theorem dX1_token_25 : decode cX1_token 25 = .ok (.getfield 10, 3) := dk_180 0 10 (dk_at dksX1_token_1 1 rfl rfl)
theorem dX1_token_28 : decode cX1_token 28 = .ok (.getfield 185, 3) := dk_180 0 185 (dk_at dksX1_token_1 4 rfl rfl)
theorem dX1_token_31 : decode cX1_token 31 = .ok (.invokevirtual 53, 3) := dk_182 0 53 (dk_at dksX1_token_1 7 rfl rfl)
theorem dX1_token_34 : decode cX1_token 34 = .ok (.aload_n 0, 1) := dk_42 (dk_at dksX1_token_1 10 rfl rfl)
theorem dX1_token_35 : decode cX1_token 35 = .ok (.invokevirtual 128, 3) := dk_182 0 128 (dk_at dksX1_token_1 11 rfl rfl)
theorem dX1_token_38 : decode cX1_token 38 = .ok (.aload_n 0, 1) := dk_42 (dk_at dksX1_token_1 14 rfl rfl)
theorem dX1_token_39 : decode cX1_token 39 = .ok (.getfield 10, 3) := dk_180 0 10 (dk_at dksX1_token_1 15 rfl rfl)
theorem dX1_token_42 : decode cX1_token 42 = .ok (.iload_n 1, 1) := dk_27 (dk_at dksX1_token_1 18 rfl rfl)
theorem dX1_token_43 : decode cX1_token 43 = .ok (.iconst 0, 1) := dk_3 (dk_at dksX1_token_1 19 rfl rfl)
theorem dX1_token_44 : decode cX1_token 44 = .ok (.invokevirtual 188, 3) := dk_182 0 188 (dk_at dksX1_token_1 20 rfl rfl)
theorem dX1_token_47 : decode cX1_token 47 = .ok (.aload_n 0, 1) := dk_42 (dk_at dksX1_token_1 23 rfl rfl)
theorem dX1_token_48 : decode cX1_token 48 = .ok (.getfield 10, 3) := dk_180 0 10 (dk_at dksX1_token_2 0 rfl rfl)
theorem dX1_token_51 : decode cX1_token 51 = .ok (.iconst 0, 1) := dk_3 (dk_at dksX1_token_2 3 rfl rfl)
theorem dX1_token_52 : decode cX1_token 52 = .ok (.putfield 191, 3) := dk_181 0 191 (dk_at dksX1_token_2 4 rfl rfl)
theorem dX1_token_55 : decode cX1_token 55 = .ok (.aload_n 0, 1) := dk_42 (dk_at dksX1_token_2 7 rfl rfl)
theorem dX1_token_56 : decode cX1_token 56 = .ok (.getfield 10, 3) := dk_180 0 10 (dk_at dksX1_token_2 8 rfl rfl)
theorem dX1_token_59 : decode cX1_token 59 = .ok (.invokevirtual 194, 3) := dk_182 0 194 (dk_at dksX1_token_2 11 rfl rfl)
theorem dX1_token_62 : decode cX1_token 62 = .ok (.ireturn, 1) := dk_172 (dk_at dksX1_token_2 14 rfl rfl)
abbrev cX1_lose : ByteArray := prog_1_method_21_code
def yX1_lose : MethodName := ⟨RX1, "lose", "()I"⟩
def dkwX1_lose_1 : List UInt8 := [182, 0, 128, 42, 180, 0, 10, 182, 0, 197, 172]
abbrev dktX1_lose_1 : List UInt8 := dkwX1_lose_1 ++ []
def dkwX1_lose_0 : List UInt8 := [42, 42, 180, 0, 10, 180, 0, 185, 154, 0, 7, 4, 167, 0, 4, 3, 16, 7, 3, 182, 0, 53, 42]
abbrev dktX1_lose_0 : List UInt8 := dkwX1_lose_0 ++ dktX1_lose_1
theorem dksX1_lose_0 : cX1_lose.data.toList.drop 0 = dktX1_lose_0 := by decide +kernel
theorem dksX1_lose_1 : cX1_lose.data.toList.drop 23 = dktX1_lose_1 := dk_seg dksX1_lose_0 23 rfl rfl
theorem dX1_lose_0 : decode cX1_lose 0 = .ok (.aload_n 0, 1) := dk_42 (dk_at dksX1_lose_0 0 rfl rfl)
theorem dX1_lose_1 : decode cX1_lose 1 = .ok (.aload_n 0, 1) := dk_42 (dk_at dksX1_lose_0 1 rfl rfl)
theorem dX1_lose_2 : decode cX1_lose 2 = .ok (.getfield 10, 3) := dk_180 0 10 (dk_at dksX1_lose_0 2 rfl rfl)
theorem dX1_lose_5 : decode cX1_lose 5 = .ok (.getfield 185, 3) := dk_180 0 185 (dk_at dksX1_lose_0 5 rfl rfl)
theorem dX1_lose_8 : decode cX1_lose 8 = .ok (.ifCond .ne 7, 3) := dk_154 0 7 (dk_at dksX1_lose_0 8 rfl rfl)
theorem dX1_lose_11 : decode cX1_lose 11 = .ok (.iconst 1, 1) := dk_4 (dk_at dksX1_lose_0 11 rfl rfl)
theorem dX1_lose_12 : decode cX1_lose 12 = .ok (.goto 4, 3) := dk_167 0 4 (dk_at dksX1_lose_0 12 rfl rfl)
theorem dX1_lose_15 : decode cX1_lose 15 = .ok (.iconst 0, 1) := dk_3 (dk_at dksX1_lose_0 15 rfl rfl)
theorem dX1_lose_16 : decode cX1_lose 16 = .ok (.bipush 7, 2) := dk_16 7 (dk_at dksX1_lose_0 16 rfl rfl)
theorem dX1_lose_18 : decode cX1_lose 18 = .ok (.iconst 0, 1) := dk_3 (dk_at dksX1_lose_0 18 rfl rfl)
theorem dX1_lose_19 : decode cX1_lose 19 = .ok (.invokevirtual 53, 3) := dk_182 0 53 (dk_at dksX1_lose_0 19 rfl rfl)
theorem dX1_lose_22 : decode cX1_lose 22 = .ok (.aload_n 0, 1) := dk_42 (dk_at dksX1_lose_0 22 rfl rfl)
theorem dX1_lose_23 : decode cX1_lose 23 = .ok (.invokevirtual 128, 3) := dk_182 0 128 (dk_at dksX1_lose_1 0 rfl rfl)
theorem dX1_lose_26 : decode cX1_lose 26 = .ok (.aload_n 0, 1) := dk_42 (dk_at dksX1_lose_1 3 rfl rfl)
theorem dX1_lose_27 : decode cX1_lose 27 = .ok (.getfield 10, 3) := dk_180 0 10 (dk_at dksX1_lose_1 4 rfl rfl)
theorem dX1_lose_30 : decode cX1_lose 30 = .ok (.invokevirtual 197, 3) := dk_182 0 197 (dk_at dksX1_lose_1 7 rfl rfl)
theorem dX1_lose_33 : decode cX1_lose 33 = .ok (.ireturn, 1) := dk_172 (dk_at dksX1_lose_1 10 rfl rfl)
abbrev cX1_tick : ByteArray := prog_1_method_22_code
def yX1_tick : MethodName := ⟨RX1, "tick", "(I)I"⟩
def dkwX1_tick_2 : List UInt8 := [100, 172]
abbrev dktX1_tick_2 : List UInt8 := dkwX1_tick_2 ++ []
def dkwX1_tick_1 : List UInt8 := [162, 0, 16, 42, 180, 0, 10, 182, 0, 203, 132, 3, 1, 167, 255, 241, 42, 180, 0, 10, 180, 0, 200, 28]
abbrev dktX1_tick_1 : List UInt8 := dkwX1_tick_1 ++ dktX1_tick_2
def dkwX1_tick_0 : List UInt8 := [42, 27, 4, 16, 40, 182, 0, 119, 42, 182, 0, 128, 42, 180, 0, 10, 180, 0, 200, 61, 3, 62, 29, 27]
abbrev dktX1_tick_0 : List UInt8 := dkwX1_tick_0 ++ dktX1_tick_1
theorem dksX1_tick_0 : cX1_tick.data.toList.drop 0 = dktX1_tick_0 := by decide +kernel
theorem dksX1_tick_1 : cX1_tick.data.toList.drop 24 = dktX1_tick_1 := dk_seg dksX1_tick_0 24 rfl rfl
theorem dksX1_tick_2 : cX1_tick.data.toList.drop 48 = dktX1_tick_2 := dk_seg dksX1_tick_1 24 rfl rfl
theorem dX1_tick_0 : decode cX1_tick 0 = .ok (.aload_n 0, 1) := dk_42 (dk_at dksX1_tick_0 0 rfl rfl)
theorem dX1_tick_1 : decode cX1_tick 1 = .ok (.iload_n 1, 1) := dk_27 (dk_at dksX1_tick_0 1 rfl rfl)
theorem dX1_tick_2 : decode cX1_tick 2 = .ok (.iconst 1, 1) := dk_4 (dk_at dksX1_tick_0 2 rfl rfl)
theorem dX1_tick_3 : decode cX1_tick 3 = .ok (.bipush 40, 2) := dk_16 40 (dk_at dksX1_tick_0 3 rfl rfl)
theorem dX1_tick_5 : decode cX1_tick 5 = .ok (.invokevirtual 119, 3) := dk_182 0 119 (dk_at dksX1_tick_0 5 rfl rfl)
theorem dX1_tick_8 : decode cX1_tick 8 = .ok (.aload_n 0, 1) := dk_42 (dk_at dksX1_tick_0 8 rfl rfl)
theorem dX1_tick_9 : decode cX1_tick 9 = .ok (.invokevirtual 128, 3) := dk_182 0 128 (dk_at dksX1_tick_0 9 rfl rfl)
theorem dX1_tick_12 : decode cX1_tick 12 = .ok (.aload_n 0, 1) := dk_42 (dk_at dksX1_tick_0 12 rfl rfl)
theorem dX1_tick_13 : decode cX1_tick 13 = .ok (.getfield 10, 3) := dk_180 0 10 (dk_at dksX1_tick_0 13 rfl rfl)
theorem dX1_tick_16 : decode cX1_tick 16 = .ok (.getfield 200, 3) := dk_180 0 200 (dk_at dksX1_tick_0 16 rfl rfl)
theorem dX1_tick_19 : decode cX1_tick 19 = .ok (.istore_n 2, 1) := dk_61 (dk_at dksX1_tick_0 19 rfl rfl)
theorem dX1_tick_20 : decode cX1_tick 20 = .ok (.iconst 0, 1) := dk_3 (dk_at dksX1_tick_0 20 rfl rfl)
theorem dX1_tick_21 : decode cX1_tick 21 = .ok (.istore_n 3, 1) := dk_62 (dk_at dksX1_tick_0 21 rfl rfl)
theorem dX1_tick_22 : decode cX1_tick 22 = .ok (.iload_n 3, 1) := dk_29 (dk_at dksX1_tick_0 22 rfl rfl)
theorem dX1_tick_23 : decode cX1_tick 23 = .ok (.iload_n 1, 1) := dk_27 (dk_at dksX1_tick_0 23 rfl rfl)
theorem dX1_tick_24 : decode cX1_tick 24 = .ok (.if_icmp .ge 16, 3) := dk_162 0 16 (dk_at dksX1_tick_1 0 rfl rfl)
theorem dX1_tick_27 : decode cX1_tick 27 = .ok (.aload_n 0, 1) := dk_42 (dk_at dksX1_tick_1 3 rfl rfl)
theorem dX1_tick_28 : decode cX1_tick 28 = .ok (.getfield 10, 3) := dk_180 0 10 (dk_at dksX1_tick_1 4 rfl rfl)
theorem dX1_tick_31 : decode cX1_tick 31 = .ok (.invokevirtual 203, 3) := dk_182 0 203 (dk_at dksX1_tick_1 7 rfl rfl)
theorem dX1_tick_34 : decode cX1_tick 34 = .ok (.iinc 3 1, 3) := dk_132 3 1 (dk_at dksX1_tick_1 10 rfl rfl)
theorem dX1_tick_37 : decode cX1_tick 37 = .ok (.goto (-15), 3) := dk_167 255 241 (dk_at dksX1_tick_1 13 rfl rfl)
theorem dX1_tick_40 : decode cX1_tick 40 = .ok (.aload_n 0, 1) := dk_42 (dk_at dksX1_tick_1 16 rfl rfl)
theorem dX1_tick_41 : decode cX1_tick 41 = .ok (.getfield 10, 3) := dk_180 0 10 (dk_at dksX1_tick_1 17 rfl rfl)
theorem dX1_tick_44 : decode cX1_tick 44 = .ok (.getfield 200, 3) := dk_180 0 200 (dk_at dksX1_tick_1 20 rfl rfl)
theorem dX1_tick_47 : decode cX1_tick 47 = .ok (.iload_n 2, 1) := dk_28 (dk_at dksX1_tick_1 23 rfl rfl)
theorem dX1_tick_48 : decode cX1_tick 48 = .ok (.isub, 1) := dk_100 (dk_at dksX1_tick_2 0 rfl rfl)
theorem dX1_tick_49 : decode cX1_tick 49 = .ok (.ireturn, 1) := dk_172 (dk_at dksX1_tick_2 1 rfl rfl)
abbrev cX1_onRing : ByteArray := prog_1_method_25_code
def yX1_onRing : MethodName := ⟨RX1, "onRing", "(I)I"⟩
def dkwX1_onRing_0 : List UInt8 := [27, 3, 16, 6, 184, 0, 49, 184, 0, 238, 42, 180, 0, 10, 27, 184, 0, 241, 172]
abbrev dktX1_onRing_0 : List UInt8 := dkwX1_onRing_0 ++ []
theorem dksX1_onRing_0 : cX1_onRing.data.toList.drop 0 = dktX1_onRing_0 := by decide +kernel
theorem dX1_onRing_0 : decode cX1_onRing 0 = .ok (.iload_n 1, 1) := dk_27 (dk_at dksX1_onRing_0 0 rfl rfl)
theorem dX1_onRing_1 : decode cX1_onRing 1 = .ok (.iconst 0, 1) := dk_3 (dk_at dksX1_onRing_0 1 rfl rfl)
theorem dX1_onRing_2 : decode cX1_onRing 2 = .ok (.bipush 6, 2) := dk_16 6 (dk_at dksX1_onRing_0 2 rfl rfl)
theorem dX1_onRing_4 : decode cX1_onRing 4 = .ok (.invokestatic 49, 3) := dk_184 0 49 (dk_at dksX1_onRing_0 4 rfl rfl)
theorem dX1_onRing_7 : decode cX1_onRing 7 = .ok (.invokestatic 238, 3) := dk_184 0 238 (dk_at dksX1_onRing_0 7 rfl rfl)
theorem dX1_onRing_10 : decode cX1_onRing 10 = .ok (.aload_n 0, 1) := dk_42 (dk_at dksX1_onRing_0 10 rfl rfl)
theorem dX1_onRing_11 : decode cX1_onRing 11 = .ok (.getfield 10, 3) := dk_180 0 10 (dk_at dksX1_onRing_0 11 rfl rfl)
theorem dX1_onRing_14 : decode cX1_onRing 14 = .ok (.iload_n 1, 1) := dk_27 (dk_at dksX1_onRing_0 14 rfl rfl)
theorem dX1_onRing_15 : decode cX1_onRing 15 = .ok (.invokestatic 241, 3) := dk_184 0 241 (dk_at dksX1_onRing_0 15 rfl rfl)
theorem dX1_onRing_18 : decode cX1_onRing 18 = .ok (.ireturn, 1) := dk_172 (dk_at dksX1_onRing_0 18 rfl rfl)
abbrev cX1_check : ByteArray := prog_1_method_6_code
def yX1_check : MethodName := ⟨RX1, "check", "(Z)V"⟩
def dkwX1_check_0 : List UInt8 := [26, 154, 0, 11, 187, 0, 57, 89, 183, 0, 59, 191, 177]
abbrev dktX1_check_0 : List UInt8 := dkwX1_check_0 ++ []
theorem dksX1_check_0 : cX1_check.data.toList.drop 0 = dktX1_check_0 := by decide +kernel
theorem dX1_check_0 : decode cX1_check 0 = .ok (.iload_n 0, 1) := dk_26 (dk_at dksX1_check_0 0 rfl rfl)
theorem dX1_check_1 : decode cX1_check 1 = .ok (.ifCond .ne 11, 3) := dk_154 0 11 (dk_at dksX1_check_0 1 rfl rfl)
theorem dX1_check_4 : decode cX1_check 4 = .ok (.new 57, 3) := dk_187 0 57 (dk_at dksX1_check_0 4 rfl rfl)
theorem dX1_check_7 : decode cX1_check 7 = .ok (.dup, 1) := dk_89 (dk_at dksX1_check_0 7 rfl rfl)
theorem dX1_check_8 : decode cX1_check 8 = .ok (.invokespecial 59, 3) := dk_183 0 59 (dk_at dksX1_check_0 8 rfl rfl)
theorem dX1_check_11 : decode cX1_check 11 = .ok (.athrow, 1) := dk_191 (dk_at dksX1_check_0 11 rfl rfl)
theorem dX1_check_12 : decode cX1_check 12 = .ok (.return_, 1) := dk_177 (dk_at dksX1_check_0 12 rfl rfl)
abbrev cX1_stationAt : ByteArray := prog_1_method_26_code
def yX1_stationAt : MethodName := ⟨RX1, "stationAt", "(I)I"⟩
def dkwX1_stationAt_3 : List UInt8 := [180, 1, 10, 167, 0, 4, 29, 62, 132, 2, 1, 167, 255, 216, 29, 172]
abbrev dktX1_stationAt_3 : List UInt8 := dkwX1_stationAt_3 ++ []
def dkwX1_stationAt_2 : List UInt8 := [153, 0, 36, 25, 4, 185, 1, 7, 1, 0, 192, 0, 113, 58, 5, 28, 27, 160, 0, 11, 25, 5]
abbrev dktX1_stationAt_2 : List UInt8 := dkwX1_stationAt_2 ++ dktX1_stationAt_3
def dkwX1_stationAt_1 : List UInt8 := [42, 180, 0, 10, 180, 0, 89, 182, 0, 248, 185, 0, 252, 1, 0, 58, 4, 25, 4, 185, 1, 2, 1, 0]
abbrev dktX1_stationAt_1 : List UInt8 := dkwX1_stationAt_1 ++ dktX1_stationAt_2
def dkwX1_stationAt_0 : List UInt8 := [27, 3, 42, 180, 0, 10, 180, 0, 89, 182, 0, 123, 4, 100, 184, 0, 49, 184, 0, 245, 3, 61, 2, 62]
abbrev dktX1_stationAt_0 : List UInt8 := dkwX1_stationAt_0 ++ dktX1_stationAt_1
theorem dksX1_stationAt_0 : cX1_stationAt.data.toList.drop 0 = dktX1_stationAt_0 := by decide +kernel
theorem dksX1_stationAt_1 : cX1_stationAt.data.toList.drop 24 = dktX1_stationAt_1 := dk_seg dksX1_stationAt_0 24 rfl rfl
theorem dksX1_stationAt_2 : cX1_stationAt.data.toList.drop 48 = dktX1_stationAt_2 := dk_seg dksX1_stationAt_1 24 rfl rfl
theorem dksX1_stationAt_3 : cX1_stationAt.data.toList.drop 70 = dktX1_stationAt_3 := dk_seg dksX1_stationAt_2 22 rfl rfl
theorem dX1_stationAt_0 : decode cX1_stationAt 0 = .ok (.iload_n 1, 1) := dk_27 (dk_at dksX1_stationAt_0 0 rfl rfl)
theorem dX1_stationAt_1 : decode cX1_stationAt 1 = .ok (.iconst 0, 1) := dk_3 (dk_at dksX1_stationAt_0 1 rfl rfl)
theorem dX1_stationAt_2 : decode cX1_stationAt 2 = .ok (.aload_n 0, 1) := dk_42 (dk_at dksX1_stationAt_0 2 rfl rfl)
theorem dX1_stationAt_3 : decode cX1_stationAt 3 = .ok (.getfield 10, 3) := dk_180 0 10 (dk_at dksX1_stationAt_0 3 rfl rfl)
theorem dX1_stationAt_6 : decode cX1_stationAt 6 = .ok (.getfield 89, 3) := dk_180 0 89 (dk_at dksX1_stationAt_0 6 rfl rfl)
theorem dX1_stationAt_9 : decode cX1_stationAt 9 = .ok (.invokevirtual 123, 3) := dk_182 0 123 (dk_at dksX1_stationAt_0 9 rfl rfl)
theorem dX1_stationAt_12 : decode cX1_stationAt 12 = .ok (.iconst 1, 1) := dk_4 (dk_at dksX1_stationAt_0 12 rfl rfl)
theorem dX1_stationAt_13 : decode cX1_stationAt 13 = .ok (.isub, 1) := dk_100 (dk_at dksX1_stationAt_0 13 rfl rfl)
theorem dX1_stationAt_14 : decode cX1_stationAt 14 = .ok (.invokestatic 49, 3) := dk_184 0 49 (dk_at dksX1_stationAt_0 14 rfl rfl)
theorem dX1_stationAt_17 : decode cX1_stationAt 17 = .ok (.invokestatic 245, 3) := dk_184 0 245 (dk_at dksX1_stationAt_0 17 rfl rfl)
theorem dX1_stationAt_20 : decode cX1_stationAt 20 = .ok (.iconst 0, 1) := dk_3 (dk_at dksX1_stationAt_0 20 rfl rfl)
theorem dX1_stationAt_21 : decode cX1_stationAt 21 = .ok (.istore_n 2, 1) := dk_61 (dk_at dksX1_stationAt_0 21 rfl rfl)
theorem dX1_stationAt_22 : decode cX1_stationAt 22 = .ok (.iconst (-1), 1) := dk_2 (dk_at dksX1_stationAt_0 22 rfl rfl)
theorem dX1_stationAt_23 : decode cX1_stationAt 23 = .ok (.istore_n 3, 1) := dk_62 (dk_at dksX1_stationAt_0 23 rfl rfl)
theorem dX1_stationAt_24 : decode cX1_stationAt 24 = .ok (.aload_n 0, 1) := dk_42 (dk_at dksX1_stationAt_1 0 rfl rfl)
theorem dX1_stationAt_25 : decode cX1_stationAt 25 = .ok (.getfield 10, 3) := dk_180 0 10 (dk_at dksX1_stationAt_1 1 rfl rfl)
theorem dX1_stationAt_28 : decode cX1_stationAt 28 = .ok (.getfield 89, 3) := dk_180 0 89 (dk_at dksX1_stationAt_1 4 rfl rfl)
theorem dX1_stationAt_31 : decode cX1_stationAt 31 = .ok (.invokevirtual 248, 3) := dk_182 0 248 (dk_at dksX1_stationAt_1 7 rfl rfl)
theorem dX1_stationAt_34 : decode cX1_stationAt 34 = .ok (.invokeinterface 252 1, 5) := by decide +kernel
theorem dX1_stationAt_39 : decode cX1_stationAt 39 = .ok (.astore 4, 2) := dk_58 4 (dk_at dksX1_stationAt_1 15 rfl rfl)
theorem dX1_stationAt_41 : decode cX1_stationAt 41 = .ok (.aload 4, 2) := dk_25 4 (dk_at dksX1_stationAt_1 17 rfl rfl)
theorem dX1_stationAt_43 : decode cX1_stationAt 43 = .ok (.invokeinterface 258 1, 5) := by decide +kernel
theorem dX1_stationAt_48 : decode cX1_stationAt 48 = .ok (.ifCond .eq 36, 3) := dk_153 0 36 (dk_at dksX1_stationAt_2 0 rfl rfl)
theorem dX1_stationAt_51 : decode cX1_stationAt 51 = .ok (.aload 4, 2) := dk_25 4 (dk_at dksX1_stationAt_2 3 rfl rfl)
theorem dX1_stationAt_53 : decode cX1_stationAt 53 = .ok (.invokeinterface 263 1, 5) := by decide +kernel
theorem dX1_stationAt_58 : decode cX1_stationAt 58 = .ok (.checkcast 113, 3) := dk_192 0 113 (dk_at dksX1_stationAt_2 10 rfl rfl)
theorem dX1_stationAt_61 : decode cX1_stationAt 61 = .ok (.astore 5, 2) := dk_58 5 (dk_at dksX1_stationAt_2 13 rfl rfl)
theorem dX1_stationAt_63 : decode cX1_stationAt 63 = .ok (.iload_n 2, 1) := dk_28 (dk_at dksX1_stationAt_2 15 rfl rfl)
theorem dX1_stationAt_64 : decode cX1_stationAt 64 = .ok (.iload_n 1, 1) := dk_27 (dk_at dksX1_stationAt_2 16 rfl rfl)
theorem dX1_stationAt_65 : decode cX1_stationAt 65 = .ok (.if_icmp .ne 11, 3) := dk_160 0 11 (dk_at dksX1_stationAt_2 17 rfl rfl)
theorem dX1_stationAt_68 : decode cX1_stationAt 68 = .ok (.aload 5, 2) := dk_25 5 (dk_at dksX1_stationAt_2 20 rfl rfl)
theorem dX1_stationAt_70 : decode cX1_stationAt 70 = .ok (.getfield 266, 3) := dk_180 1 10 (dk_at dksX1_stationAt_3 0 rfl rfl)
theorem dX1_stationAt_73 : decode cX1_stationAt 73 = .ok (.goto 4, 3) := dk_167 0 4 (dk_at dksX1_stationAt_3 3 rfl rfl)
theorem dX1_stationAt_76 : decode cX1_stationAt 76 = .ok (.iload_n 3, 1) := dk_29 (dk_at dksX1_stationAt_3 6 rfl rfl)
theorem dX1_stationAt_77 : decode cX1_stationAt 77 = .ok (.istore_n 3, 1) := dk_62 (dk_at dksX1_stationAt_3 7 rfl rfl)
theorem dX1_stationAt_78 : decode cX1_stationAt 78 = .ok (.iinc 2 1, 3) := dk_132 2 1 (dk_at dksX1_stationAt_3 8 rfl rfl)
theorem dX1_stationAt_81 : decode cX1_stationAt 81 = .ok (.goto (-40), 3) := dk_167 255 216 (dk_at dksX1_stationAt_3 11 rfl rfl)
theorem dX1_stationAt_84 : decode cX1_stationAt 84 = .ok (.iload_n 3, 1) := dk_29 (dk_at dksX1_stationAt_3 14 rfl rfl)
theorem dX1_stationAt_85 : decode cX1_stationAt 85 = .ok (.ireturn, 1) := dk_172 (dk_at dksX1_stationAt_3 15 rfl rfl)
abbrev cX1_checkElement : ByteArray := prog_1_method_8_code
def yX1_checkElement : MethodName := ⟨RX1, "checkElement", "(Z)V"⟩
def dkwX1_checkElement_0 : List UInt8 := [26, 154, 0, 11, 187, 0, 63, 89, 183, 0, 65, 191, 177]
abbrev dktX1_checkElement_0 : List UInt8 := dkwX1_checkElement_0 ++ []
theorem dksX1_checkElement_0 : cX1_checkElement.data.toList.drop 0 = dktX1_checkElement_0 := by decide +kernel
theorem dX1_checkElement_0 : decode cX1_checkElement 0 = .ok (.iload_n 0, 1) := dk_26 (dk_at dksX1_checkElement_0 0 rfl rfl)
theorem dX1_checkElement_1 : decode cX1_checkElement 1 = .ok (.ifCond .ne 11, 3) := dk_154 0 11 (dk_at dksX1_checkElement_0 1 rfl rfl)
theorem dX1_checkElement_4 : decode cX1_checkElement 4 = .ok (.new 63, 3) := dk_187 0 63 (dk_at dksX1_checkElement_0 4 rfl rfl)
theorem dX1_checkElement_7 : decode cX1_checkElement 7 = .ok (.dup, 1) := dk_89 (dk_at dksX1_checkElement_0 7 rfl rfl)
theorem dX1_checkElement_8 : decode cX1_checkElement 8 = .ok (.invokespecial 65, 3) := dk_183 0 65 (dk_at dksX1_checkElement_0 8 rfl rfl)
theorem dX1_checkElement_11 : decode cX1_checkElement 11 = .ok (.athrow, 1) := dk_191 (dk_at dksX1_checkElement_0 11 rfl rfl)
theorem dX1_checkElement_12 : decode cX1_checkElement 12 = .ok (.return_, 1) := dk_177 (dk_at dksX1_checkElement_0 12 rfl rfl)
abbrev cX1_waits : ByteArray := prog_1_method_27_code
def yX1_waits : MethodName := ⟨RX1, "waits", "(II)I"⟩
def dkwX1_waits_1 : List UInt8 := [28, 182, 1, 16, 192, 0, 159, 180, 0, 182, 172]
abbrev dktX1_waits_1 : List UInt8 := dkwX1_waits_1 ++ []
def dkwX1_waits_0 : List UInt8 := [42, 27, 182, 1, 13, 180, 0, 149, 78, 28, 3, 45, 182, 0, 153, 4, 100, 184, 0, 49, 184, 0, 245, 45]
abbrev dktX1_waits_0 : List UInt8 := dkwX1_waits_0 ++ dktX1_waits_1
theorem dksX1_waits_0 : cX1_waits.data.toList.drop 0 = dktX1_waits_0 := by decide +kernel
theorem dksX1_waits_1 : cX1_waits.data.toList.drop 24 = dktX1_waits_1 := dk_seg dksX1_waits_0 24 rfl rfl
theorem dX1_waits_0 : decode cX1_waits 0 = .ok (.aload_n 0, 1) := dk_42 (dk_at dksX1_waits_0 0 rfl rfl)
theorem dX1_waits_1 : decode cX1_waits 1 = .ok (.iload_n 1, 1) := dk_27 (dk_at dksX1_waits_0 1 rfl rfl)
theorem dX1_waits_2 : decode cX1_waits 2 = .ok (.invokevirtual 269, 3) := dk_182 1 13 (dk_at dksX1_waits_0 2 rfl rfl)
theorem dX1_waits_5 : decode cX1_waits 5 = .ok (.getfield 149, 3) := dk_180 0 149 (dk_at dksX1_waits_0 5 rfl rfl)
theorem dX1_waits_8 : decode cX1_waits 8 = .ok (.astore_n 3, 1) := dk_78 (dk_at dksX1_waits_0 8 rfl rfl)
theorem dX1_waits_9 : decode cX1_waits 9 = .ok (.iload_n 2, 1) := dk_28 (dk_at dksX1_waits_0 9 rfl rfl)
theorem dX1_waits_10 : decode cX1_waits 10 = .ok (.iconst 0, 1) := dk_3 (dk_at dksX1_waits_0 10 rfl rfl)
theorem dX1_waits_11 : decode cX1_waits 11 = .ok (.aload_n 3, 1) := dk_45 (dk_at dksX1_waits_0 11 rfl rfl)
theorem dX1_waits_12 : decode cX1_waits 12 = .ok (.invokevirtual 153, 3) := dk_182 0 153 (dk_at dksX1_waits_0 12 rfl rfl)
theorem dX1_waits_15 : decode cX1_waits 15 = .ok (.iconst 1, 1) := dk_4 (dk_at dksX1_waits_0 15 rfl rfl)
theorem dX1_waits_16 : decode cX1_waits 16 = .ok (.isub, 1) := dk_100 (dk_at dksX1_waits_0 16 rfl rfl)
theorem dX1_waits_17 : decode cX1_waits 17 = .ok (.invokestatic 49, 3) := dk_184 0 49 (dk_at dksX1_waits_0 17 rfl rfl)
theorem dX1_waits_20 : decode cX1_waits 20 = .ok (.invokestatic 245, 3) := dk_184 0 245 (dk_at dksX1_waits_0 20 rfl rfl)
theorem dX1_waits_23 : decode cX1_waits 23 = .ok (.aload_n 3, 1) := dk_45 (dk_at dksX1_waits_0 23 rfl rfl)
theorem dX1_waits_24 : decode cX1_waits 24 = .ok (.iload_n 2, 1) := dk_28 (dk_at dksX1_waits_1 0 rfl rfl)
theorem dX1_waits_25 : decode cX1_waits 25 = .ok (.invokevirtual 272, 3) := dk_182 1 16 (dk_at dksX1_waits_1 1 rfl rfl)
theorem dX1_waits_28 : decode cX1_waits 28 = .ok (.checkcast 159, 3) := dk_192 0 159 (dk_at dksX1_waits_1 4 rfl rfl)
theorem dX1_waits_31 : decode cX1_waits 31 = .ok (.getfield 182, 3) := dk_180 0 182 (dk_at dksX1_waits_1 7 rfl rfl)
theorem dX1_waits_34 : decode cX1_waits 34 = .ok (.ireturn, 1) := dk_172 (dk_at dksX1_waits_1 10 rfl rfl)
abbrev cX1_station0 : ByteArray := prog_1_method_14_code
def yX1_station0 : MethodName := ⟨RX1, "station0", "(I)LTokenRing$Station;"⟩
def dkwX1_station0_1 : List UInt8 := [192, 0, 113, 176]
abbrev dktX1_station0_1 : List UInt8 := dkwX1_station0_1 ++ []
def dkwX1_station0_0 : List UInt8 := [42, 27, 182, 0, 105, 184, 0, 115, 42, 180, 0, 10, 180, 0, 89, 27, 184, 0, 93, 182, 0, 109]
abbrev dktX1_station0_0 : List UInt8 := dkwX1_station0_0 ++ dktX1_station0_1
theorem dksX1_station0_0 : cX1_station0.data.toList.drop 0 = dktX1_station0_0 := by decide +kernel
theorem dksX1_station0_1 : cX1_station0.data.toList.drop 22 = dktX1_station0_1 := dk_seg dksX1_station0_0 22 rfl rfl
theorem dX1_station0_0 : decode cX1_station0 0 = .ok (.aload_n 0, 1) := dk_42 (dk_at dksX1_station0_0 0 rfl rfl)
theorem dX1_station0_1 : decode cX1_station0 1 = .ok (.iload_n 1, 1) := dk_27 (dk_at dksX1_station0_0 1 rfl rfl)
theorem dX1_station0_2 : decode cX1_station0 2 = .ok (.invokevirtual 105, 3) := dk_182 0 105 (dk_at dksX1_station0_0 2 rfl rfl)
theorem dX1_station0_5 : decode cX1_station0 5 = .ok (.invokestatic 115, 3) := dk_184 0 115 (dk_at dksX1_station0_0 5 rfl rfl)
theorem dX1_station0_8 : decode cX1_station0 8 = .ok (.aload_n 0, 1) := dk_42 (dk_at dksX1_station0_0 8 rfl rfl)
theorem dX1_station0_9 : decode cX1_station0 9 = .ok (.getfield 10, 3) := dk_180 0 10 (dk_at dksX1_station0_0 9 rfl rfl)
theorem dX1_station0_12 : decode cX1_station0 12 = .ok (.getfield 89, 3) := dk_180 0 89 (dk_at dksX1_station0_0 12 rfl rfl)
theorem dX1_station0_15 : decode cX1_station0 15 = .ok (.iload_n 1, 1) := dk_27 (dk_at dksX1_station0_0 15 rfl rfl)
theorem dX1_station0_16 : decode cX1_station0 16 = .ok (.invokestatic 93, 3) := dk_184 0 93 (dk_at dksX1_station0_0 16 rfl rfl)
theorem dX1_station0_19 : decode cX1_station0 19 = .ok (.invokevirtual 109, 3) := dk_182 0 109 (dk_at dksX1_station0_0 19 rfl rfl)
theorem dX1_station0_22 : decode cX1_station0 22 = .ok (.checkcast 113, 3) := dk_192 0 113 (dk_at dksX1_station0_1 0 rfl rfl)
theorem dX1_station0_25 : decode cX1_station0 25 = .ok (.areturn, 1) := dk_176 (dk_at dksX1_station0_1 3 rfl rfl)
abbrev cX1_checkIndex : ByteArray := prog_1_method_7_code
def yX1_checkIndex : MethodName := ⟨RX1, "checkIndex", "(Z)V"⟩
def dkwX1_checkIndex_0 : List UInt8 := [26, 154, 0, 11, 187, 0, 60, 89, 183, 0, 62, 191, 177]
abbrev dktX1_checkIndex_0 : List UInt8 := dkwX1_checkIndex_0 ++ []
theorem dksX1_checkIndex_0 : cX1_checkIndex.data.toList.drop 0 = dktX1_checkIndex_0 := by decide +kernel
theorem dX1_checkIndex_0 : decode cX1_checkIndex 0 = .ok (.iload_n 0, 1) := dk_26 (dk_at dksX1_checkIndex_0 0 rfl rfl)
theorem dX1_checkIndex_1 : decode cX1_checkIndex 1 = .ok (.ifCond .ne 11, 3) := dk_154 0 11 (dk_at dksX1_checkIndex_0 1 rfl rfl)
theorem dX1_checkIndex_4 : decode cX1_checkIndex 4 = .ok (.new 60, 3) := dk_187 0 60 (dk_at dksX1_checkIndex_0 4 rfl rfl)
theorem dX1_checkIndex_7 : decode cX1_checkIndex 7 = .ok (.dup, 1) := dk_89 (dk_at dksX1_checkIndex_0 7 rfl rfl)
theorem dX1_checkIndex_8 : decode cX1_checkIndex 8 = .ok (.invokespecial 62, 3) := dk_183 0 62 (dk_at dksX1_checkIndex_0 8 rfl rfl)
theorem dX1_checkIndex_11 : decode cX1_checkIndex 11 = .ok (.athrow, 1) := dk_191 (dk_at dksX1_checkIndex_0 11 rfl rfl)
theorem dX1_checkIndex_12 : decode cX1_checkIndex 12 = .ok (.return_, 1) := dk_177 (dk_at dksX1_checkIndex_0 12 rfl rfl)
abbrev cX1_rankOf : ByteArray := prog_1_method_29_code
def yX1_rankOf : MethodName := ⟨RX1, "rankOf", "(I)I"⟩
def dkwX1_rankOf_1 : List UInt8 := [167, 0, 7, 44, 180, 0, 222, 172]
abbrev dktX1_rankOf_1 : List UInt8 := dkwX1_rankOf_1 ++ []
def dkwX1_rankOf_0 : List UInt8 := [42, 27, 182, 1, 22, 77, 44, 198, 0, 7, 4, 167, 0, 4, 3, 184, 0, 245, 44, 199, 0, 7, 3]
abbrev dktX1_rankOf_0 : List UInt8 := dkwX1_rankOf_0 ++ dktX1_rankOf_1
theorem dksX1_rankOf_0 : cX1_rankOf.data.toList.drop 0 = dktX1_rankOf_0 := by decide +kernel
theorem dksX1_rankOf_1 : cX1_rankOf.data.toList.drop 23 = dktX1_rankOf_1 := dk_seg dksX1_rankOf_0 23 rfl rfl
theorem dX1_rankOf_0 : decode cX1_rankOf 0 = .ok (.aload_n 0, 1) := dk_42 (dk_at dksX1_rankOf_0 0 rfl rfl)
theorem dX1_rankOf_1 : decode cX1_rankOf 1 = .ok (.iload_n 1, 1) := dk_27 (dk_at dksX1_rankOf_0 1 rfl rfl)
theorem dX1_rankOf_2 : decode cX1_rankOf 2 = .ok (.invokevirtual 278, 3) := dk_182 1 22 (dk_at dksX1_rankOf_0 2 rfl rfl)
theorem dX1_rankOf_5 : decode cX1_rankOf 5 = .ok (.astore_n 2, 1) := dk_77 (dk_at dksX1_rankOf_0 5 rfl rfl)
theorem dX1_rankOf_6 : decode cX1_rankOf 6 = .ok (.aload_n 2, 1) := dk_44 (dk_at dksX1_rankOf_0 6 rfl rfl)
theorem dX1_rankOf_7 : decode cX1_rankOf 7 = .ok (.ifnull 7, 3) := dk_198 0 7 (dk_at dksX1_rankOf_0 7 rfl rfl)
theorem dX1_rankOf_10 : decode cX1_rankOf 10 = .ok (.iconst 1, 1) := dk_4 (dk_at dksX1_rankOf_0 10 rfl rfl)
theorem dX1_rankOf_11 : decode cX1_rankOf 11 = .ok (.goto 4, 3) := dk_167 0 4 (dk_at dksX1_rankOf_0 11 rfl rfl)
theorem dX1_rankOf_14 : decode cX1_rankOf 14 = .ok (.iconst 0, 1) := dk_3 (dk_at dksX1_rankOf_0 14 rfl rfl)
theorem dX1_rankOf_15 : decode cX1_rankOf 15 = .ok (.invokestatic 245, 3) := dk_184 0 245 (dk_at dksX1_rankOf_0 15 rfl rfl)
theorem dX1_rankOf_18 : decode cX1_rankOf 18 = .ok (.aload_n 2, 1) := dk_44 (dk_at dksX1_rankOf_0 18 rfl rfl)
theorem dX1_rankOf_19 : decode cX1_rankOf 19 = .ok (.ifnonnull 7, 3) := dk_199 0 7 (dk_at dksX1_rankOf_0 19 rfl rfl)
theorem dX1_rankOf_22 : decode cX1_rankOf 22 = .ok (.iconst 0, 1) := dk_3 (dk_at dksX1_rankOf_0 22 rfl rfl)
theorem dX1_rankOf_23 : decode cX1_rankOf 23 = .ok (.goto 7, 3) := dk_167 0 7 (dk_at dksX1_rankOf_1 0 rfl rfl)
theorem dX1_rankOf_26 : decode cX1_rankOf 26 = .ok (.aload_n 2, 1) := dk_44 (dk_at dksX1_rankOf_1 3 rfl rfl)
theorem dX1_rankOf_27 : decode cX1_rankOf 27 = .ok (.getfield 222, 3) := dk_180 0 222 (dk_at dksX1_rankOf_1 4 rfl rfl)
theorem dX1_rankOf_30 : decode cX1_rankOf 30 = .ok (.ireturn, 1) := dk_172 (dk_at dksX1_rankOf_1 7 rfl rfl)
abbrev cX1_find : ByteArray := prog_1_method_28_code
def yX1_find : MethodName := ⟨RX1, "find", "(I)LTokenRing$Frame;"⟩
def dkwX1_find_4 : List UInt8 := [180, 0, 182, 27, 160, 0, 6, 25, 5, 176, 167, 255, 222, 167, 255, 191, 1, 176]
abbrev dktX1_find_4 : List UInt8 := dkwX1_find_4 ++ []
def dkwX1_find_3 : List UInt8 := [185, 1, 2, 1, 0, 153, 0, 30, 25, 4, 185, 1, 7, 1, 0, 192, 0, 159, 58, 5, 25, 5]
abbrev dktX1_find_3 : List UInt8 := dkwX1_find_3 ++ dktX1_find_4
def dkwX1_find_2 : List UInt8 := [153, 0, 62, 44, 185, 1, 7, 1, 0, 192, 0, 113, 78, 45, 180, 0, 149, 182, 1, 21, 58, 4, 25, 4]
abbrev dktX1_find_2 : List UInt8 := dkwX1_find_2 ++ dktX1_find_3
def dkwX1_find_1 : List UInt8 := [42, 180, 0, 10, 180, 0, 89, 182, 0, 248, 185, 0, 252, 1, 0, 77, 44, 185, 1, 2, 1, 0]
abbrev dktX1_find_1 : List UInt8 := dkwX1_find_1 ++ dktX1_find_2
def dkwX1_find_0 : List UInt8 := [42, 180, 0, 10, 27, 182, 1, 18, 16, 100, 160, 0, 14, 42, 180, 0, 10, 180, 0, 212, 180, 0, 216, 176]
abbrev dktX1_find_0 : List UInt8 := dkwX1_find_0 ++ dktX1_find_1
theorem dksX1_find_0 : cX1_find.data.toList.drop 0 = dktX1_find_0 := by decide +kernel
theorem dksX1_find_1 : cX1_find.data.toList.drop 24 = dktX1_find_1 := dk_seg dksX1_find_0 24 rfl rfl
theorem dksX1_find_2 : cX1_find.data.toList.drop 46 = dktX1_find_2 := dk_seg dksX1_find_1 22 rfl rfl
theorem dksX1_find_3 : cX1_find.data.toList.drop 70 = dktX1_find_3 := dk_seg dksX1_find_2 24 rfl rfl
theorem dksX1_find_4 : cX1_find.data.toList.drop 92 = dktX1_find_4 := dk_seg dksX1_find_3 22 rfl rfl
theorem dX1_find_0 : decode cX1_find 0 = .ok (.aload_n 0, 1) := dk_42 (dk_at dksX1_find_0 0 rfl rfl)
theorem dX1_find_1 : decode cX1_find 1 = .ok (.getfield 10, 3) := dk_180 0 10 (dk_at dksX1_find_0 1 rfl rfl)
theorem dX1_find_4 : decode cX1_find 4 = .ok (.iload_n 1, 1) := dk_27 (dk_at dksX1_find_0 4 rfl rfl)
theorem dX1_find_5 : decode cX1_find 5 = .ok (.invokevirtual 274, 3) := dk_182 1 18 (dk_at dksX1_find_0 5 rfl rfl)
theorem dX1_find_8 : decode cX1_find 8 = .ok (.bipush 100, 2) := dk_16 100 (dk_at dksX1_find_0 8 rfl rfl)
theorem dX1_find_10 : decode cX1_find 10 = .ok (.if_icmp .ne 14, 3) := dk_160 0 14 (dk_at dksX1_find_0 10 rfl rfl)
theorem dX1_find_13 : decode cX1_find 13 = .ok (.aload_n 0, 1) := dk_42 (dk_at dksX1_find_0 13 rfl rfl)
theorem dX1_find_14 : decode cX1_find 14 = .ok (.getfield 10, 3) := dk_180 0 10 (dk_at dksX1_find_0 14 rfl rfl)
theorem dX1_find_17 : decode cX1_find 17 = .ok (.getfield 212, 3) := dk_180 0 212 (dk_at dksX1_find_0 17 rfl rfl)
theorem dX1_find_20 : decode cX1_find 20 = .ok (.getfield 216, 3) := dk_180 0 216 (dk_at dksX1_find_0 20 rfl rfl)
theorem dX1_find_23 : decode cX1_find 23 = .ok (.areturn, 1) := dk_176 (dk_at dksX1_find_0 23 rfl rfl)
theorem dX1_find_24 : decode cX1_find 24 = .ok (.aload_n 0, 1) := dk_42 (dk_at dksX1_find_1 0 rfl rfl)
theorem dX1_find_25 : decode cX1_find 25 = .ok (.getfield 10, 3) := dk_180 0 10 (dk_at dksX1_find_1 1 rfl rfl)
theorem dX1_find_28 : decode cX1_find 28 = .ok (.getfield 89, 3) := dk_180 0 89 (dk_at dksX1_find_1 4 rfl rfl)
theorem dX1_find_31 : decode cX1_find 31 = .ok (.invokevirtual 248, 3) := dk_182 0 248 (dk_at dksX1_find_1 7 rfl rfl)
theorem dX1_find_34 : decode cX1_find 34 = .ok (.invokeinterface 252 1, 5) := by decide +kernel
theorem dX1_find_39 : decode cX1_find 39 = .ok (.astore_n 2, 1) := dk_77 (dk_at dksX1_find_1 15 rfl rfl)
theorem dX1_find_40 : decode cX1_find 40 = .ok (.aload_n 2, 1) := dk_44 (dk_at dksX1_find_1 16 rfl rfl)
theorem dX1_find_41 : decode cX1_find 41 = .ok (.invokeinterface 258 1, 5) := by decide +kernel
theorem dX1_find_46 : decode cX1_find 46 = .ok (.ifCond .eq 62, 3) := dk_153 0 62 (dk_at dksX1_find_2 0 rfl rfl)
theorem dX1_find_49 : decode cX1_find 49 = .ok (.aload_n 2, 1) := dk_44 (dk_at dksX1_find_2 3 rfl rfl)
theorem dX1_find_50 : decode cX1_find 50 = .ok (.invokeinterface 263 1, 5) := by decide +kernel
theorem dX1_find_55 : decode cX1_find 55 = .ok (.checkcast 113, 3) := dk_192 0 113 (dk_at dksX1_find_2 9 rfl rfl)
theorem dX1_find_58 : decode cX1_find 58 = .ok (.astore_n 3, 1) := dk_78 (dk_at dksX1_find_2 12 rfl rfl)
theorem dX1_find_59 : decode cX1_find 59 = .ok (.aload_n 3, 1) := dk_45 (dk_at dksX1_find_2 13 rfl rfl)
theorem dX1_find_60 : decode cX1_find 60 = .ok (.getfield 149, 3) := dk_180 0 149 (dk_at dksX1_find_2 14 rfl rfl)
theorem dX1_find_63 : decode cX1_find 63 = .ok (.invokevirtual 277, 3) := dk_182 1 21 (dk_at dksX1_find_2 17 rfl rfl)
theorem dX1_find_66 : decode cX1_find 66 = .ok (.astore 4, 2) := dk_58 4 (dk_at dksX1_find_2 20 rfl rfl)
theorem dX1_find_68 : decode cX1_find 68 = .ok (.aload 4, 2) := dk_25 4 (dk_at dksX1_find_2 22 rfl rfl)
theorem dX1_find_70 : decode cX1_find 70 = .ok (.invokeinterface 258 1, 5) := by decide +kernel
theorem dX1_find_75 : decode cX1_find 75 = .ok (.ifCond .eq 30, 3) := dk_153 0 30 (dk_at dksX1_find_3 5 rfl rfl)
theorem dX1_find_78 : decode cX1_find 78 = .ok (.aload 4, 2) := dk_25 4 (dk_at dksX1_find_3 8 rfl rfl)
theorem dX1_find_80 : decode cX1_find 80 = .ok (.invokeinterface 263 1, 5) := by decide +kernel
theorem dX1_find_85 : decode cX1_find 85 = .ok (.checkcast 159, 3) := dk_192 0 159 (dk_at dksX1_find_3 15 rfl rfl)
theorem dX1_find_88 : decode cX1_find 88 = .ok (.astore 5, 2) := dk_58 5 (dk_at dksX1_find_3 18 rfl rfl)
theorem dX1_find_90 : decode cX1_find 90 = .ok (.aload 5, 2) := dk_25 5 (dk_at dksX1_find_3 20 rfl rfl)
theorem dX1_find_92 : decode cX1_find 92 = .ok (.getfield 182, 3) := dk_180 0 182 (dk_at dksX1_find_4 0 rfl rfl)
theorem dX1_find_95 : decode cX1_find 95 = .ok (.iload_n 1, 1) := dk_27 (dk_at dksX1_find_4 3 rfl rfl)
theorem dX1_find_96 : decode cX1_find 96 = .ok (.if_icmp .ne 6, 3) := dk_160 0 6 (dk_at dksX1_find_4 4 rfl rfl)
theorem dX1_find_99 : decode cX1_find 99 = .ok (.aload 5, 2) := dk_25 5 (dk_at dksX1_find_4 7 rfl rfl)
theorem dX1_find_101 : decode cX1_find 101 = .ok (.areturn, 1) := dk_176 (dk_at dksX1_find_4 9 rfl rfl)
theorem dX1_find_102 : decode cX1_find 102 = .ok (.goto (-34), 3) := dk_167 255 222 (dk_at dksX1_find_4 10 rfl rfl)
theorem dX1_find_105 : decode cX1_find 105 = .ok (.goto (-65), 3) := dk_167 255 191 (dk_at dksX1_find_4 13 rfl rfl)
theorem dX1_find_108 : decode cX1_find 108 = .ok (.aconst_null, 1) := dk_1 (dk_at dksX1_find_4 16 rfl rfl)
theorem dX1_find_109 : decode cX1_find 109 = .ok (.areturn, 1) := dk_176 (dk_at dksX1_find_4 17 rfl rfl)
abbrev cX1_whereIs : ByteArray := prog_1_method_30_code
def yX1_whereIs : MethodName := ⟨RX1, "whereIs", "(I)I"⟩
def dkwX1_whereIs_0 : List UInt8 := [42, 180, 0, 10, 27, 182, 1, 18, 61, 28, 2, 159, 0, 7, 4, 167, 0, 4, 3, 184, 0, 245, 28, 172]
abbrev dktX1_whereIs_0 : List UInt8 := dkwX1_whereIs_0 ++ []
theorem dksX1_whereIs_0 : cX1_whereIs.data.toList.drop 0 = dktX1_whereIs_0 := by decide +kernel
theorem dX1_whereIs_0 : decode cX1_whereIs 0 = .ok (.aload_n 0, 1) := dk_42 (dk_at dksX1_whereIs_0 0 rfl rfl)
theorem dX1_whereIs_1 : decode cX1_whereIs 1 = .ok (.getfield 10, 3) := dk_180 0 10 (dk_at dksX1_whereIs_0 1 rfl rfl)
theorem dX1_whereIs_4 : decode cX1_whereIs 4 = .ok (.iload_n 1, 1) := dk_27 (dk_at dksX1_whereIs_0 4 rfl rfl)
theorem dX1_whereIs_5 : decode cX1_whereIs 5 = .ok (.invokevirtual 274, 3) := dk_182 1 18 (dk_at dksX1_whereIs_0 5 rfl rfl)
theorem dX1_whereIs_8 : decode cX1_whereIs 8 = .ok (.istore_n 2, 1) := dk_61 (dk_at dksX1_whereIs_0 8 rfl rfl)
theorem dX1_whereIs_9 : decode cX1_whereIs 9 = .ok (.iload_n 2, 1) := dk_28 (dk_at dksX1_whereIs_0 9 rfl rfl)
theorem dX1_whereIs_10 : decode cX1_whereIs 10 = .ok (.iconst (-1), 1) := dk_2 (dk_at dksX1_whereIs_0 10 rfl rfl)
theorem dX1_whereIs_11 : decode cX1_whereIs 11 = .ok (.if_icmp .eq 7, 3) := dk_159 0 7 (dk_at dksX1_whereIs_0 11 rfl rfl)
theorem dX1_whereIs_14 : decode cX1_whereIs 14 = .ok (.iconst 1, 1) := dk_4 (dk_at dksX1_whereIs_0 14 rfl rfl)
theorem dX1_whereIs_15 : decode cX1_whereIs 15 = .ok (.goto 4, 3) := dk_167 0 4 (dk_at dksX1_whereIs_0 15 rfl rfl)
theorem dX1_whereIs_18 : decode cX1_whereIs 18 = .ok (.iconst 0, 1) := dk_3 (dk_at dksX1_whereIs_0 18 rfl rfl)
theorem dX1_whereIs_19 : decode cX1_whereIs 19 = .ok (.invokestatic 245, 3) := dk_184 0 245 (dk_at dksX1_whereIs_0 19 rfl rfl)
theorem dX1_whereIs_22 : decode cX1_whereIs 22 = .ok (.iload_n 2, 1) := dk_28 (dk_at dksX1_whereIs_0 22 rfl rfl)
theorem dX1_whereIs_23 : decode cX1_whereIs 23 = .ok (.ireturn, 1) := dk_172 (dk_at dksX1_whereIs_0 23 rfl rfl)
abbrev cX1_queueOf : ByteArray := prog_1_method_31_code
def yX1_queueOf : MethodName := ⟨RX1, "queueOf", "(II)I"⟩
def dkwX1_queueOf_3 : List UInt8 := [180, 1, 34, 172]
abbrev dktX1_queueOf_3 : List UInt8 := dkwX1_queueOf_3 ++ []
def dkwX1_queueOf_2 : List UInt8 := [45, 180, 0, 149, 182, 0, 153, 172, 45, 182, 1, 26, 172, 45, 182, 1, 28, 172, 45, 180, 1, 31, 172, 45]
abbrev dktX1_queueOf_2 : List UInt8 := dkwX1_queueOf_2 ++ dktX1_queueOf_3
def dkwX1_queueOf_1 : List UInt8 := [170, 0, 0, 0, 0, 0, 0, 55, 0, 0, 0, 0, 0, 0, 0, 3, 0, 0, 0, 32, 0, 0, 0, 40, 0, 0, 0, 45, 0, 0, 0, 50]
abbrev dktX1_queueOf_1 : List UInt8 := dkwX1_queueOf_1 ++ dktX1_queueOf_2
def dkwX1_queueOf_0 : List UInt8 := [42, 27, 182, 1, 13, 78, 28, 3, 7, 184, 0, 49, 184, 0, 238, 28]
abbrev dktX1_queueOf_0 : List UInt8 := dkwX1_queueOf_0 ++ dktX1_queueOf_1
theorem dksX1_queueOf_0 : cX1_queueOf.data.toList.drop 0 = dktX1_queueOf_0 := by decide +kernel
theorem dksX1_queueOf_1 : cX1_queueOf.data.toList.drop 16 = dktX1_queueOf_1 := dk_seg dksX1_queueOf_0 16 rfl rfl
theorem dksX1_queueOf_2 : cX1_queueOf.data.toList.drop 48 = dktX1_queueOf_2 := dk_seg dksX1_queueOf_1 32 rfl rfl
theorem dksX1_queueOf_3 : cX1_queueOf.data.toList.drop 72 = dktX1_queueOf_3 := dk_seg dksX1_queueOf_2 24 rfl rfl
theorem dX1_queueOf_0 : decode cX1_queueOf 0 = .ok (.aload_n 0, 1) := dk_42 (dk_at dksX1_queueOf_0 0 rfl rfl)
theorem dX1_queueOf_1 : decode cX1_queueOf 1 = .ok (.iload_n 1, 1) := dk_27 (dk_at dksX1_queueOf_0 1 rfl rfl)
theorem dX1_queueOf_2 : decode cX1_queueOf 2 = .ok (.invokevirtual 269, 3) := dk_182 1 13 (dk_at dksX1_queueOf_0 2 rfl rfl)
theorem dX1_queueOf_5 : decode cX1_queueOf 5 = .ok (.astore_n 3, 1) := dk_78 (dk_at dksX1_queueOf_0 5 rfl rfl)
theorem dX1_queueOf_6 : decode cX1_queueOf 6 = .ok (.iload_n 2, 1) := dk_28 (dk_at dksX1_queueOf_0 6 rfl rfl)
theorem dX1_queueOf_7 : decode cX1_queueOf 7 = .ok (.iconst 0, 1) := dk_3 (dk_at dksX1_queueOf_0 7 rfl rfl)
theorem dX1_queueOf_8 : decode cX1_queueOf 8 = .ok (.iconst 4, 1) := dk_7 (dk_at dksX1_queueOf_0 8 rfl rfl)
theorem dX1_queueOf_9 : decode cX1_queueOf 9 = .ok (.invokestatic 49, 3) := dk_184 0 49 (dk_at dksX1_queueOf_0 9 rfl rfl)
theorem dX1_queueOf_12 : decode cX1_queueOf 12 = .ok (.invokestatic 238, 3) := dk_184 0 238 (dk_at dksX1_queueOf_0 12 rfl rfl)
theorem dX1_queueOf_15 : decode cX1_queueOf 15 = .ok (.iload_n 2, 1) := dk_28 (dk_at dksX1_queueOf_0 15 rfl rfl)
theorem dX1_queueOf_16 : decode cX1_queueOf 16 = .ok (.tableswitch 55 0 3 #[32, 40, 45, 50], 32) := by decide +kernel
theorem dX1_queueOf_48 : decode cX1_queueOf 48 = .ok (.aload_n 3, 1) := dk_45 (dk_at dksX1_queueOf_2 0 rfl rfl)
theorem dX1_queueOf_49 : decode cX1_queueOf 49 = .ok (.getfield 149, 3) := dk_180 0 149 (dk_at dksX1_queueOf_2 1 rfl rfl)
theorem dX1_queueOf_52 : decode cX1_queueOf 52 = .ok (.invokevirtual 153, 3) := dk_182 0 153 (dk_at dksX1_queueOf_2 4 rfl rfl)
theorem dX1_queueOf_55 : decode cX1_queueOf 55 = .ok (.ireturn, 1) := dk_172 (dk_at dksX1_queueOf_2 7 rfl rfl)
theorem dX1_queueOf_56 : decode cX1_queueOf 56 = .ok (.aload_n 3, 1) := dk_45 (dk_at dksX1_queueOf_2 8 rfl rfl)
theorem dX1_queueOf_57 : decode cX1_queueOf 57 = .ok (.invokevirtual 282, 3) := dk_182 1 26 (dk_at dksX1_queueOf_2 9 rfl rfl)
theorem dX1_queueOf_60 : decode cX1_queueOf 60 = .ok (.ireturn, 1) := dk_172 (dk_at dksX1_queueOf_2 12 rfl rfl)
theorem dX1_queueOf_61 : decode cX1_queueOf 61 = .ok (.aload_n 3, 1) := dk_45 (dk_at dksX1_queueOf_2 13 rfl rfl)
theorem dX1_queueOf_62 : decode cX1_queueOf 62 = .ok (.invokevirtual 284, 3) := dk_182 1 28 (dk_at dksX1_queueOf_2 14 rfl rfl)
theorem dX1_queueOf_65 : decode cX1_queueOf 65 = .ok (.ireturn, 1) := dk_172 (dk_at dksX1_queueOf_2 17 rfl rfl)
theorem dX1_queueOf_66 : decode cX1_queueOf 66 = .ok (.aload_n 3, 1) := dk_45 (dk_at dksX1_queueOf_2 18 rfl rfl)
theorem dX1_queueOf_67 : decode cX1_queueOf 67 = .ok (.getfield 287, 3) := dk_180 1 31 (dk_at dksX1_queueOf_2 19 rfl rfl)
theorem dX1_queueOf_70 : decode cX1_queueOf 70 = .ok (.ireturn, 1) := dk_172 (dk_at dksX1_queueOf_2 22 rfl rfl)
theorem dX1_queueOf_71 : decode cX1_queueOf 71 = .ok (.aload_n 3, 1) := dk_45 (dk_at dksX1_queueOf_2 23 rfl rfl)
theorem dX1_queueOf_72 : decode cX1_queueOf 72 = .ok (.getfield 290, 3) := dk_180 1 34 (dk_at dksX1_queueOf_3 0 rfl rfl)
theorem dX1_queueOf_75 : decode cX1_queueOf 75 = .ok (.ireturn, 1) := dk_172 (dk_at dksX1_queueOf_3 3 rfl rfl)
abbrev cX1_next : ByteArray := prog_1_method_32_code
def yX1_next : MethodName := ⟨RX1, "next", "(I)I"⟩
def dkwX1_next_0 : List UInt8 := [42, 27, 182, 0, 105, 184, 0, 115, 42, 180, 0, 10, 27, 182, 1, 35, 172]
abbrev dktX1_next_0 : List UInt8 := dkwX1_next_0 ++ []
theorem dksX1_next_0 : cX1_next.data.toList.drop 0 = dktX1_next_0 := by decide +kernel
theorem dX1_next_0 : decode cX1_next 0 = .ok (.aload_n 0, 1) := dk_42 (dk_at dksX1_next_0 0 rfl rfl)
theorem dX1_next_1 : decode cX1_next 1 = .ok (.iload_n 1, 1) := dk_27 (dk_at dksX1_next_0 1 rfl rfl)
theorem dX1_next_2 : decode cX1_next 2 = .ok (.invokevirtual 105, 3) := dk_182 0 105 (dk_at dksX1_next_0 2 rfl rfl)
theorem dX1_next_5 : decode cX1_next 5 = .ok (.invokestatic 115, 3) := dk_184 0 115 (dk_at dksX1_next_0 5 rfl rfl)
theorem dX1_next_8 : decode cX1_next 8 = .ok (.aload_n 0, 1) := dk_42 (dk_at dksX1_next_0 8 rfl rfl)
theorem dX1_next_9 : decode cX1_next 9 = .ok (.getfield 10, 3) := dk_180 0 10 (dk_at dksX1_next_0 9 rfl rfl)
theorem dX1_next_12 : decode cX1_next 12 = .ok (.iload_n 1, 1) := dk_27 (dk_at dksX1_next_0 12 rfl rfl)
theorem dX1_next_13 : decode cX1_next 13 = .ok (.invokevirtual 291, 3) := dk_182 1 35 (dk_at dksX1_next_0 13 rfl rfl)
theorem dX1_next_16 : decode cX1_next 16 = .ok (.ireturn, 1) := dk_172 (dk_at dksX1_next_0 16 rfl rfl)
abbrev cX1_steps : ByteArray := prog_1_method_33_code
def yX1_steps : MethodName := ⟨RX1, "steps", "(II)I"⟩
def dkwX1_steps_3 : List UInt8 := [25, 5, 180, 1, 10, 28, 160, 0, 5, 29, 172, 167, 255, 220, 29, 172]
abbrev dktX1_steps_3 : List UInt8 := dkwX1_steps_3 ++ []
def dkwX1_steps_2 : List UInt8 := [185, 1, 2, 1, 0, 153, 0, 32, 25, 4, 185, 1, 7, 1, 0, 192, 0, 113, 58, 5, 132, 3, 1]
abbrev dktX1_steps_2 : List UInt8 := dkwX1_steps_2 ++ dktX1_steps_3
def dkwX1_steps_1 : List UInt8 := [3, 62, 27, 28, 160, 0, 5, 29, 172, 42, 180, 0, 10, 27, 182, 1, 37, 182, 1, 41, 58, 4, 25, 4]
abbrev dktX1_steps_1 : List UInt8 := dkwX1_steps_1 ++ dktX1_steps_2
def dkwX1_steps_0 : List UInt8 := [42, 27, 182, 0, 105, 153, 0, 15, 42, 28, 182, 0, 105, 153, 0, 7, 4, 167, 0, 4, 3, 184, 0, 115]
abbrev dktX1_steps_0 : List UInt8 := dkwX1_steps_0 ++ dktX1_steps_1
theorem dksX1_steps_0 : cX1_steps.data.toList.drop 0 = dktX1_steps_0 := by decide +kernel
theorem dksX1_steps_1 : cX1_steps.data.toList.drop 24 = dktX1_steps_1 := dk_seg dksX1_steps_0 24 rfl rfl
theorem dksX1_steps_2 : cX1_steps.data.toList.drop 48 = dktX1_steps_2 := dk_seg dksX1_steps_1 24 rfl rfl
theorem dksX1_steps_3 : cX1_steps.data.toList.drop 71 = dktX1_steps_3 := dk_seg dksX1_steps_2 23 rfl rfl
theorem dX1_steps_0 : decode cX1_steps 0 = .ok (.aload_n 0, 1) := dk_42 (dk_at dksX1_steps_0 0 rfl rfl)
theorem dX1_steps_1 : decode cX1_steps 1 = .ok (.iload_n 1, 1) := dk_27 (dk_at dksX1_steps_0 1 rfl rfl)
theorem dX1_steps_2 : decode cX1_steps 2 = .ok (.invokevirtual 105, 3) := dk_182 0 105 (dk_at dksX1_steps_0 2 rfl rfl)
theorem dX1_steps_5 : decode cX1_steps 5 = .ok (.ifCond .eq 15, 3) := dk_153 0 15 (dk_at dksX1_steps_0 5 rfl rfl)
theorem dX1_steps_8 : decode cX1_steps 8 = .ok (.aload_n 0, 1) := dk_42 (dk_at dksX1_steps_0 8 rfl rfl)
theorem dX1_steps_9 : decode cX1_steps 9 = .ok (.iload_n 2, 1) := dk_28 (dk_at dksX1_steps_0 9 rfl rfl)
theorem dX1_steps_10 : decode cX1_steps 10 = .ok (.invokevirtual 105, 3) := dk_182 0 105 (dk_at dksX1_steps_0 10 rfl rfl)
theorem dX1_steps_13 : decode cX1_steps 13 = .ok (.ifCond .eq 7, 3) := dk_153 0 7 (dk_at dksX1_steps_0 13 rfl rfl)
theorem dX1_steps_16 : decode cX1_steps 16 = .ok (.iconst 1, 1) := dk_4 (dk_at dksX1_steps_0 16 rfl rfl)
theorem dX1_steps_17 : decode cX1_steps 17 = .ok (.goto 4, 3) := dk_167 0 4 (dk_at dksX1_steps_0 17 rfl rfl)
theorem dX1_steps_20 : decode cX1_steps 20 = .ok (.iconst 0, 1) := dk_3 (dk_at dksX1_steps_0 20 rfl rfl)
theorem dX1_steps_21 : decode cX1_steps 21 = .ok (.invokestatic 115, 3) := dk_184 0 115 (dk_at dksX1_steps_0 21 rfl rfl)
theorem dX1_steps_24 : decode cX1_steps 24 = .ok (.iconst 0, 1) := dk_3 (dk_at dksX1_steps_1 0 rfl rfl)
theorem dX1_steps_25 : decode cX1_steps 25 = .ok (.istore_n 3, 1) := dk_62 (dk_at dksX1_steps_1 1 rfl rfl)
theorem dX1_steps_26 : decode cX1_steps 26 = .ok (.iload_n 1, 1) := dk_27 (dk_at dksX1_steps_1 2 rfl rfl)
theorem dX1_steps_27 : decode cX1_steps 27 = .ok (.iload_n 2, 1) := dk_28 (dk_at dksX1_steps_1 3 rfl rfl)
theorem dX1_steps_28 : decode cX1_steps 28 = .ok (.if_icmp .ne 5, 3) := dk_160 0 5 (dk_at dksX1_steps_1 4 rfl rfl)
theorem dX1_steps_31 : decode cX1_steps 31 = .ok (.iload_n 3, 1) := dk_29 (dk_at dksX1_steps_1 7 rfl rfl)
theorem dX1_steps_32 : decode cX1_steps 32 = .ok (.ireturn, 1) := dk_172 (dk_at dksX1_steps_1 8 rfl rfl)
theorem dX1_steps_33 : decode cX1_steps 33 = .ok (.aload_n 0, 1) := dk_42 (dk_at dksX1_steps_1 9 rfl rfl)
theorem dX1_steps_34 : decode cX1_steps 34 = .ok (.getfield 10, 3) := dk_180 0 10 (dk_at dksX1_steps_1 10 rfl rfl)
theorem dX1_steps_37 : decode cX1_steps 37 = .ok (.iload_n 1, 1) := dk_27 (dk_at dksX1_steps_1 13 rfl rfl)
theorem dX1_steps_38 : decode cX1_steps 38 = .ok (.invokevirtual 293, 3) := dk_182 1 37 (dk_at dksX1_steps_1 14 rfl rfl)
theorem dX1_steps_41 : decode cX1_steps 41 = .ok (.invokevirtual 297, 3) := dk_182 1 41 (dk_at dksX1_steps_1 17 rfl rfl)
theorem dX1_steps_44 : decode cX1_steps 44 = .ok (.astore 4, 2) := dk_58 4 (dk_at dksX1_steps_1 20 rfl rfl)
theorem dX1_steps_46 : decode cX1_steps 46 = .ok (.aload 4, 2) := dk_25 4 (dk_at dksX1_steps_1 22 rfl rfl)
theorem dX1_steps_48 : decode cX1_steps 48 = .ok (.invokeinterface 258 1, 5) := by decide +kernel
theorem dX1_steps_53 : decode cX1_steps 53 = .ok (.ifCond .eq 32, 3) := dk_153 0 32 (dk_at dksX1_steps_2 5 rfl rfl)
theorem dX1_steps_56 : decode cX1_steps 56 = .ok (.aload 4, 2) := dk_25 4 (dk_at dksX1_steps_2 8 rfl rfl)
theorem dX1_steps_58 : decode cX1_steps 58 = .ok (.invokeinterface 263 1, 5) := by decide +kernel
theorem dX1_steps_63 : decode cX1_steps 63 = .ok (.checkcast 113, 3) := dk_192 0 113 (dk_at dksX1_steps_2 15 rfl rfl)
theorem dX1_steps_66 : decode cX1_steps 66 = .ok (.astore 5, 2) := dk_58 5 (dk_at dksX1_steps_2 18 rfl rfl)
theorem dX1_steps_68 : decode cX1_steps 68 = .ok (.iinc 3 1, 3) := dk_132 3 1 (dk_at dksX1_steps_2 20 rfl rfl)
theorem dX1_steps_71 : decode cX1_steps 71 = .ok (.aload 5, 2) := dk_25 5 (dk_at dksX1_steps_3 0 rfl rfl)
theorem dX1_steps_73 : decode cX1_steps 73 = .ok (.getfield 266, 3) := dk_180 1 10 (dk_at dksX1_steps_3 2 rfl rfl)
theorem dX1_steps_76 : decode cX1_steps 76 = .ok (.iload_n 2, 1) := dk_28 (dk_at dksX1_steps_3 5 rfl rfl)
theorem dX1_steps_77 : decode cX1_steps 77 = .ok (.if_icmp .ne 5, 3) := dk_160 0 5 (dk_at dksX1_steps_3 6 rfl rfl)
theorem dX1_steps_80 : decode cX1_steps 80 = .ok (.iload_n 3, 1) := dk_29 (dk_at dksX1_steps_3 9 rfl rfl)
theorem dX1_steps_81 : decode cX1_steps 81 = .ok (.ireturn, 1) := dk_172 (dk_at dksX1_steps_3 10 rfl rfl)
theorem dX1_steps_82 : decode cX1_steps 82 = .ok (.goto (-36), 3) := dk_167 255 220 (dk_at dksX1_steps_3 11 rfl rfl)
theorem dX1_steps_85 : decode cX1_steps 85 = .ok (.iload_n 3, 1) := dk_29 (dk_at dksX1_steps_3 14 rfl rfl)
theorem dX1_steps_86 : decode cX1_steps 86 = .ok (.ireturn, 1) := dk_172 (dk_at dksX1_steps_3 15 rfl rfl)
abbrev cX1_stepsAgain : ByteArray := prog_1_method_35_code
def yX1_stepsAgain : MethodName := ⟨RX1, "stepsAgain", "(II)I"⟩
def dkwX1_stepsAgain_2 : List UInt8 := [182, 0, 123, 96, 167, 0, 4, 29, 172]
abbrev dktX1_stepsAgain_2 : List UInt8 := dkwX1_stepsAgain_2 ++ []
def dkwX1_stepsAgain_1 : List UInt8 := [42, 28, 182, 1, 51, 42, 27, 182, 1, 51, 100, 62, 29, 156, 0, 18, 29, 42, 180, 0, 10, 180, 0, 89]
abbrev dktX1_stepsAgain_1 : List UInt8 := dkwX1_stepsAgain_1 ++ dktX1_stepsAgain_2
def dkwX1_stepsAgain_0 : List UInt8 := [42, 27, 182, 0, 105, 153, 0, 15, 42, 28, 182, 0, 105, 153, 0, 7, 4, 167, 0, 4, 3, 184, 0, 115]
abbrev dktX1_stepsAgain_0 : List UInt8 := dkwX1_stepsAgain_0 ++ dktX1_stepsAgain_1
theorem dksX1_stepsAgain_0 : cX1_stepsAgain.data.toList.drop 0 = dktX1_stepsAgain_0 := by decide +kernel
theorem dksX1_stepsAgain_1 : cX1_stepsAgain.data.toList.drop 24 = dktX1_stepsAgain_1 := dk_seg dksX1_stepsAgain_0 24 rfl rfl
theorem dksX1_stepsAgain_2 : cX1_stepsAgain.data.toList.drop 48 = dktX1_stepsAgain_2 := dk_seg dksX1_stepsAgain_1 24 rfl rfl
theorem dX1_stepsAgain_0 : decode cX1_stepsAgain 0 = .ok (.aload_n 0, 1) := dk_42 (dk_at dksX1_stepsAgain_0 0 rfl rfl)
theorem dX1_stepsAgain_1 : decode cX1_stepsAgain 1 = .ok (.iload_n 1, 1) := dk_27 (dk_at dksX1_stepsAgain_0 1 rfl rfl)
theorem dX1_stepsAgain_2 : decode cX1_stepsAgain 2 = .ok (.invokevirtual 105, 3) := dk_182 0 105 (dk_at dksX1_stepsAgain_0 2 rfl rfl)
theorem dX1_stepsAgain_5 : decode cX1_stepsAgain 5 = .ok (.ifCond .eq 15, 3) := dk_153 0 15 (dk_at dksX1_stepsAgain_0 5 rfl rfl)
theorem dX1_stepsAgain_8 : decode cX1_stepsAgain 8 = .ok (.aload_n 0, 1) := dk_42 (dk_at dksX1_stepsAgain_0 8 rfl rfl)
theorem dX1_stepsAgain_9 : decode cX1_stepsAgain 9 = .ok (.iload_n 2, 1) := dk_28 (dk_at dksX1_stepsAgain_0 9 rfl rfl)
theorem dX1_stepsAgain_10 : decode cX1_stepsAgain 10 = .ok (.invokevirtual 105, 3) := dk_182 0 105 (dk_at dksX1_stepsAgain_0 10 rfl rfl)
theorem dX1_stepsAgain_13 : decode cX1_stepsAgain 13 = .ok (.ifCond .eq 7, 3) := dk_153 0 7 (dk_at dksX1_stepsAgain_0 13 rfl rfl)
theorem dX1_stepsAgain_16 : decode cX1_stepsAgain 16 = .ok (.iconst 1, 1) := dk_4 (dk_at dksX1_stepsAgain_0 16 rfl rfl)
theorem dX1_stepsAgain_17 : decode cX1_stepsAgain 17 = .ok (.goto 4, 3) := dk_167 0 4 (dk_at dksX1_stepsAgain_0 17 rfl rfl)
theorem dX1_stepsAgain_20 : decode cX1_stepsAgain 20 = .ok (.iconst 0, 1) := dk_3 (dk_at dksX1_stepsAgain_0 20 rfl rfl)
theorem dX1_stepsAgain_21 : decode cX1_stepsAgain 21 = .ok (.invokestatic 115, 3) := dk_184 0 115 (dk_at dksX1_stepsAgain_0 21 rfl rfl)
theorem dX1_stepsAgain_24 : decode cX1_stepsAgain 24 = .ok (.aload_n 0, 1) := dk_42 (dk_at dksX1_stepsAgain_1 0 rfl rfl)
theorem dX1_stepsAgain_25 : decode cX1_stepsAgain 25 = .ok (.iload_n 2, 1) := dk_28 (dk_at dksX1_stepsAgain_1 1 rfl rfl)
theorem dX1_stepsAgain_26 : decode cX1_stepsAgain 26 = .ok (.invokevirtual 307, 3) := dk_182 1 51 (dk_at dksX1_stepsAgain_1 2 rfl rfl)
theorem dX1_stepsAgain_29 : decode cX1_stepsAgain 29 = .ok (.aload_n 0, 1) := dk_42 (dk_at dksX1_stepsAgain_1 5 rfl rfl)
theorem dX1_stepsAgain_30 : decode cX1_stepsAgain 30 = .ok (.iload_n 1, 1) := dk_27 (dk_at dksX1_stepsAgain_1 6 rfl rfl)
theorem dX1_stepsAgain_31 : decode cX1_stepsAgain 31 = .ok (.invokevirtual 307, 3) := dk_182 1 51 (dk_at dksX1_stepsAgain_1 7 rfl rfl)
theorem dX1_stepsAgain_34 : decode cX1_stepsAgain 34 = .ok (.isub, 1) := dk_100 (dk_at dksX1_stepsAgain_1 10 rfl rfl)
theorem dX1_stepsAgain_35 : decode cX1_stepsAgain 35 = .ok (.istore_n 3, 1) := dk_62 (dk_at dksX1_stepsAgain_1 11 rfl rfl)
theorem dX1_stepsAgain_36 : decode cX1_stepsAgain 36 = .ok (.iload_n 3, 1) := dk_29 (dk_at dksX1_stepsAgain_1 12 rfl rfl)
theorem dX1_stepsAgain_37 : decode cX1_stepsAgain 37 = .ok (.ifCond .ge 18, 3) := dk_156 0 18 (dk_at dksX1_stepsAgain_1 13 rfl rfl)
theorem dX1_stepsAgain_40 : decode cX1_stepsAgain 40 = .ok (.iload_n 3, 1) := dk_29 (dk_at dksX1_stepsAgain_1 16 rfl rfl)
theorem dX1_stepsAgain_41 : decode cX1_stepsAgain 41 = .ok (.aload_n 0, 1) := dk_42 (dk_at dksX1_stepsAgain_1 17 rfl rfl)
theorem dX1_stepsAgain_42 : decode cX1_stepsAgain 42 = .ok (.getfield 10, 3) := dk_180 0 10 (dk_at dksX1_stepsAgain_1 18 rfl rfl)
theorem dX1_stepsAgain_45 : decode cX1_stepsAgain 45 = .ok (.getfield 89, 3) := dk_180 0 89 (dk_at dksX1_stepsAgain_1 21 rfl rfl)
theorem dX1_stepsAgain_48 : decode cX1_stepsAgain 48 = .ok (.invokevirtual 123, 3) := dk_182 0 123 (dk_at dksX1_stepsAgain_2 0 rfl rfl)
theorem dX1_stepsAgain_51 : decode cX1_stepsAgain 51 = .ok (.iadd, 1) := dk_96 (dk_at dksX1_stepsAgain_2 3 rfl rfl)
theorem dX1_stepsAgain_52 : decode cX1_stepsAgain 52 = .ok (.goto 4, 3) := dk_167 0 4 (dk_at dksX1_stepsAgain_2 4 rfl rfl)
theorem dX1_stepsAgain_55 : decode cX1_stepsAgain 55 = .ok (.iload_n 3, 1) := dk_29 (dk_at dksX1_stepsAgain_2 7 rfl rfl)
theorem dX1_stepsAgain_56 : decode cX1_stepsAgain 56 = .ok (.ireturn, 1) := dk_172 (dk_at dksX1_stepsAgain_2 8 rfl rfl)
abbrev cX1_placeOf : ByteArray := prog_1_method_34_code
def yX1_placeOf : MethodName := ⟨RX1, "placeOf", "(I)I"⟩
def dkwX1_placeOf_0 : List UInt8 := [42, 180, 0, 10, 180, 0, 89, 27, 184, 0, 93, 182, 1, 44, 185, 1, 48, 1, 0, 172]
abbrev dktX1_placeOf_0 : List UInt8 := dkwX1_placeOf_0 ++ []
theorem dksX1_placeOf_0 : cX1_placeOf.data.toList.drop 0 = dktX1_placeOf_0 := by decide +kernel
theorem dX1_placeOf_0 : decode cX1_placeOf 0 = .ok (.aload_n 0, 1) := dk_42 (dk_at dksX1_placeOf_0 0 rfl rfl)
theorem dX1_placeOf_1 : decode cX1_placeOf 1 = .ok (.getfield 10, 3) := dk_180 0 10 (dk_at dksX1_placeOf_0 1 rfl rfl)
theorem dX1_placeOf_4 : decode cX1_placeOf 4 = .ok (.getfield 89, 3) := dk_180 0 89 (dk_at dksX1_placeOf_0 4 rfl rfl)
theorem dX1_placeOf_7 : decode cX1_placeOf 7 = .ok (.iload_n 1, 1) := dk_27 (dk_at dksX1_placeOf_0 7 rfl rfl)
theorem dX1_placeOf_8 : decode cX1_placeOf 8 = .ok (.invokestatic 93, 3) := dk_184 0 93 (dk_at dksX1_placeOf_0 8 rfl rfl)
theorem dX1_placeOf_11 : decode cX1_placeOf 11 = .ok (.invokevirtual 300, 3) := dk_182 1 44 (dk_at dksX1_placeOf_0 11 rfl rfl)
theorem dX1_placeOf_14 : decode cX1_placeOf 14 = .ok (.invokeinterface 304 1, 5) := by decide +kernel
theorem dX1_placeOf_19 : decode cX1_placeOf 19 = .ok (.ireturn, 1) := dk_172 (dk_at dksX1_placeOf_0 19 rfl rfl)
abbrev cX1_isInRing : ByteArray := prog_1_method_36_code
def yX1_isInRing : MethodName := ⟨RX1, "isInRing", "(I)Z"⟩
def dkwX1_isInRing_0 : List UInt8 := [27, 184, 1, 54, 184, 0, 238, 42, 27, 182, 0, 105, 172]
abbrev dktX1_isInRing_0 : List UInt8 := dkwX1_isInRing_0 ++ []
theorem dksX1_isInRing_0 : cX1_isInRing.data.toList.drop 0 = dktX1_isInRing_0 := by decide +kernel
theorem dX1_isInRing_0 : decode cX1_isInRing 0 = .ok (.iload_n 1, 1) := dk_27 (dk_at dksX1_isInRing_0 0 rfl rfl)
theorem dX1_isInRing_1 : decode cX1_isInRing 1 = .ok (.invokestatic 310, 3) := dk_184 1 54 (dk_at dksX1_isInRing_0 1 rfl rfl)
theorem dX1_isInRing_4 : decode cX1_isInRing 4 = .ok (.invokestatic 238, 3) := dk_184 0 238 (dk_at dksX1_isInRing_0 4 rfl rfl)
theorem dX1_isInRing_7 : decode cX1_isInRing 7 = .ok (.aload_n 0, 1) := dk_42 (dk_at dksX1_isInRing_0 7 rfl rfl)
theorem dX1_isInRing_8 : decode cX1_isInRing 8 = .ok (.iload_n 1, 1) := dk_27 (dk_at dksX1_isInRing_0 8 rfl rfl)
theorem dX1_isInRing_9 : decode cX1_isInRing 9 = .ok (.invokevirtual 105, 3) := dk_182 0 105 (dk_at dksX1_isInRing_0 9 rfl rfl)
theorem dX1_isInRing_12 : decode cX1_isInRing 12 = .ok (.ireturn, 1) := dk_172 (dk_at dksX1_isInRing_0 12 rfl rfl)
abbrev cX1_isAddress : ByteArray := prog_1_method_11_code
def yX1_isAddress : MethodName := ⟨RX1, "isAddress", "(I)Z"⟩
def dkwX1_isAddress_0 : List UInt8 := [26, 3, 16, 99, 184, 0, 49, 172]
abbrev dktX1_isAddress_0 : List UInt8 := dkwX1_isAddress_0 ++ []
theorem dksX1_isAddress_0 : cX1_isAddress.data.toList.drop 0 = dktX1_isAddress_0 := by decide +kernel
theorem dX1_isAddress_0 : decode cX1_isAddress 0 = .ok (.iload_n 0, 1) := dk_26 (dk_at dksX1_isAddress_0 0 rfl rfl)
theorem dX1_isAddress_1 : decode cX1_isAddress 1 = .ok (.iconst 0, 1) := dk_3 (dk_at dksX1_isAddress_0 1 rfl rfl)
theorem dX1_isAddress_2 : decode cX1_isAddress 2 = .ok (.bipush 99, 2) := dk_16 99 (dk_at dksX1_isAddress_0 2 rfl rfl)
theorem dX1_isAddress_4 : decode cX1_isAddress 4 = .ok (.invokestatic 49, 3) := dk_184 0 49 (dk_at dksX1_isAddress_0 4 rfl rfl)
theorem dX1_isAddress_7 : decode cX1_isAddress 7 = .ok (.ireturn, 1) := dk_172 (dk_at dksX1_isAddress_0 7 rfl rfl)
abbrev cX1_canTake : ByteArray := prog_1_method_37_code
def yX1_canTake : MethodName := ⟨RX1, "canTake", "(I)Z"⟩
def dkwX1_canTake_0 : List UInt8 := [42, 180, 0, 10, 42, 27, 182, 1, 13, 182, 1, 57, 172]
abbrev dktX1_canTake_0 : List UInt8 := dkwX1_canTake_0 ++ []
theorem dksX1_canTake_0 : cX1_canTake.data.toList.drop 0 = dktX1_canTake_0 := by decide +kernel
theorem dX1_canTake_0 : decode cX1_canTake 0 = .ok (.aload_n 0, 1) := dk_42 (dk_at dksX1_canTake_0 0 rfl rfl)
theorem dX1_canTake_1 : decode cX1_canTake 1 = .ok (.getfield 10, 3) := dk_180 0 10 (dk_at dksX1_canTake_0 1 rfl rfl)
theorem dX1_canTake_4 : decode cX1_canTake 4 = .ok (.aload_n 0, 1) := dk_42 (dk_at dksX1_canTake_0 4 rfl rfl)
theorem dX1_canTake_5 : decode cX1_canTake 5 = .ok (.iload_n 1, 1) := dk_27 (dk_at dksX1_canTake_0 5 rfl rfl)
theorem dX1_canTake_6 : decode cX1_canTake 6 = .ok (.invokevirtual 269, 3) := dk_182 1 13 (dk_at dksX1_canTake_0 6 rfl rfl)
theorem dX1_canTake_9 : decode cX1_canTake 9 = .ok (.invokevirtual 313, 3) := dk_182 1 57 (dk_at dksX1_canTake_0 9 rfl rfl)
theorem dX1_canTake_12 : decode cX1_canTake 12 = .ok (.ireturn, 1) := dk_172 (dk_at dksX1_canTake_0 12 rfl rfl)
abbrev cX1_whoTakes : ByteArray := prog_1_method_38_code
def yX1_whoTakes : MethodName := ⟨RX1, "whoTakes", "()I"⟩
def dkwX1_whoTakes_3 : List UInt8 := [172, 167, 255, 221, 187, 0, 63, 89, 183, 0, 65, 191]
abbrev dktX1_whoTakes_3 : List UInt8 := dkwX1_whoTakes_3 ++ []
def dkwX1_whoTakes_2 : List UInt8 := [185, 1, 7, 1, 0, 192, 0, 113, 77, 42, 180, 0, 10, 44, 182, 1, 57, 153, 0, 8, 44, 180, 1, 10]
abbrev dktX1_whoTakes_2 : List UInt8 := dkwX1_whoTakes_2 ++ dktX1_whoTakes_3
def dkwX1_whoTakes_1 : List UInt8 := [180, 0, 10, 180, 0, 206, 182, 1, 37, 182, 1, 41, 76, 43, 185, 1, 2, 1, 0, 153, 0, 32, 43]
abbrev dktX1_whoTakes_1 : List UInt8 := dkwX1_whoTakes_1 ++ dktX1_whoTakes_2
def dkwX1_whoTakes_0 : List UInt8 := [42, 180, 0, 10, 180, 0, 185, 4, 160, 0, 7, 4, 167, 0, 4, 3, 184, 0, 245, 42, 180, 0, 10, 42]
abbrev dktX1_whoTakes_0 : List UInt8 := dkwX1_whoTakes_0 ++ dktX1_whoTakes_1
theorem dksX1_whoTakes_0 : cX1_whoTakes.data.toList.drop 0 = dktX1_whoTakes_0 := by decide +kernel
theorem dksX1_whoTakes_1 : cX1_whoTakes.data.toList.drop 24 = dktX1_whoTakes_1 := dk_seg dksX1_whoTakes_0 24 rfl rfl
theorem dksX1_whoTakes_2 : cX1_whoTakes.data.toList.drop 47 = dktX1_whoTakes_2 := dk_seg dksX1_whoTakes_1 23 rfl rfl
theorem dksX1_whoTakes_3 : cX1_whoTakes.data.toList.drop 71 = dktX1_whoTakes_3 := dk_seg dksX1_whoTakes_2 24 rfl rfl
theorem dX1_whoTakes_0 : decode cX1_whoTakes 0 = .ok (.aload_n 0, 1) := dk_42 (dk_at dksX1_whoTakes_0 0 rfl rfl)
theorem dX1_whoTakes_1 : decode cX1_whoTakes 1 = .ok (.getfield 10, 3) := dk_180 0 10 (dk_at dksX1_whoTakes_0 1 rfl rfl)
theorem dX1_whoTakes_4 : decode cX1_whoTakes 4 = .ok (.getfield 185, 3) := dk_180 0 185 (dk_at dksX1_whoTakes_0 4 rfl rfl)
theorem dX1_whoTakes_7 : decode cX1_whoTakes 7 = .ok (.iconst 1, 1) := dk_4 (dk_at dksX1_whoTakes_0 7 rfl rfl)
theorem dX1_whoTakes_8 : decode cX1_whoTakes 8 = .ok (.if_icmp .ne 7, 3) := dk_160 0 7 (dk_at dksX1_whoTakes_0 8 rfl rfl)
theorem dX1_whoTakes_11 : decode cX1_whoTakes 11 = .ok (.iconst 1, 1) := dk_4 (dk_at dksX1_whoTakes_0 11 rfl rfl)
theorem dX1_whoTakes_12 : decode cX1_whoTakes 12 = .ok (.goto 4, 3) := dk_167 0 4 (dk_at dksX1_whoTakes_0 12 rfl rfl)
theorem dX1_whoTakes_15 : decode cX1_whoTakes 15 = .ok (.iconst 0, 1) := dk_3 (dk_at dksX1_whoTakes_0 15 rfl rfl)
theorem dX1_whoTakes_16 : decode cX1_whoTakes 16 = .ok (.invokestatic 245, 3) := dk_184 0 245 (dk_at dksX1_whoTakes_0 16 rfl rfl)
theorem dX1_whoTakes_19 : decode cX1_whoTakes 19 = .ok (.aload_n 0, 1) := dk_42 (dk_at dksX1_whoTakes_0 19 rfl rfl)
theorem dX1_whoTakes_20 : decode cX1_whoTakes 20 = .ok (.getfield 10, 3) := dk_180 0 10 (dk_at dksX1_whoTakes_0 20 rfl rfl)
theorem dX1_whoTakes_23 : decode cX1_whoTakes 23 = .ok (.aload_n 0, 1) := dk_42 (dk_at dksX1_whoTakes_0 23 rfl rfl)
theorem dX1_whoTakes_24 : decode cX1_whoTakes 24 = .ok (.getfield 10, 3) := dk_180 0 10 (dk_at dksX1_whoTakes_1 0 rfl rfl)
theorem dX1_whoTakes_27 : decode cX1_whoTakes 27 = .ok (.getfield 206, 3) := dk_180 0 206 (dk_at dksX1_whoTakes_1 3 rfl rfl)
theorem dX1_whoTakes_30 : decode cX1_whoTakes 30 = .ok (.invokevirtual 293, 3) := dk_182 1 37 (dk_at dksX1_whoTakes_1 6 rfl rfl)
theorem dX1_whoTakes_33 : decode cX1_whoTakes 33 = .ok (.invokevirtual 297, 3) := dk_182 1 41 (dk_at dksX1_whoTakes_1 9 rfl rfl)
theorem dX1_whoTakes_36 : decode cX1_whoTakes 36 = .ok (.astore_n 1, 1) := dk_76 (dk_at dksX1_whoTakes_1 12 rfl rfl)
theorem dX1_whoTakes_37 : decode cX1_whoTakes 37 = .ok (.aload_n 1, 1) := dk_43 (dk_at dksX1_whoTakes_1 13 rfl rfl)
theorem dX1_whoTakes_38 : decode cX1_whoTakes 38 = .ok (.invokeinterface 258 1, 5) := by decide +kernel
theorem dX1_whoTakes_43 : decode cX1_whoTakes 43 = .ok (.ifCond .eq 32, 3) := dk_153 0 32 (dk_at dksX1_whoTakes_1 19 rfl rfl)
theorem dX1_whoTakes_46 : decode cX1_whoTakes 46 = .ok (.aload_n 1, 1) := dk_43 (dk_at dksX1_whoTakes_1 22 rfl rfl)
theorem dX1_whoTakes_47 : decode cX1_whoTakes 47 = .ok (.invokeinterface 263 1, 5) := by decide +kernel
theorem dX1_whoTakes_52 : decode cX1_whoTakes 52 = .ok (.checkcast 113, 3) := dk_192 0 113 (dk_at dksX1_whoTakes_2 5 rfl rfl)
theorem dX1_whoTakes_55 : decode cX1_whoTakes 55 = .ok (.astore_n 2, 1) := dk_77 (dk_at dksX1_whoTakes_2 8 rfl rfl)
theorem dX1_whoTakes_56 : decode cX1_whoTakes 56 = .ok (.aload_n 0, 1) := dk_42 (dk_at dksX1_whoTakes_2 9 rfl rfl)
theorem dX1_whoTakes_57 : decode cX1_whoTakes 57 = .ok (.getfield 10, 3) := dk_180 0 10 (dk_at dksX1_whoTakes_2 10 rfl rfl)
theorem dX1_whoTakes_60 : decode cX1_whoTakes 60 = .ok (.aload_n 2, 1) := dk_44 (dk_at dksX1_whoTakes_2 13 rfl rfl)
theorem dX1_whoTakes_61 : decode cX1_whoTakes 61 = .ok (.invokevirtual 313, 3) := dk_182 1 57 (dk_at dksX1_whoTakes_2 14 rfl rfl)
theorem dX1_whoTakes_64 : decode cX1_whoTakes 64 = .ok (.ifCond .eq 8, 3) := dk_153 0 8 (dk_at dksX1_whoTakes_2 17 rfl rfl)
theorem dX1_whoTakes_67 : decode cX1_whoTakes 67 = .ok (.aload_n 2, 1) := dk_44 (dk_at dksX1_whoTakes_2 20 rfl rfl)
theorem dX1_whoTakes_68 : decode cX1_whoTakes 68 = .ok (.getfield 266, 3) := dk_180 1 10 (dk_at dksX1_whoTakes_2 21 rfl rfl)
theorem dX1_whoTakes_71 : decode cX1_whoTakes 71 = .ok (.ireturn, 1) := dk_172 (dk_at dksX1_whoTakes_3 0 rfl rfl)
theorem dX1_whoTakes_72 : decode cX1_whoTakes 72 = .ok (.goto (-35), 3) := dk_167 255 221 (dk_at dksX1_whoTakes_3 1 rfl rfl)
theorem dX1_whoTakes_75 : decode cX1_whoTakes 75 = .ok (.new 63, 3) := dk_187 0 63 (dk_at dksX1_whoTakes_3 4 rfl rfl)
theorem dX1_whoTakes_78 : decode cX1_whoTakes 78 = .ok (.dup, 1) := dk_89 (dk_at dksX1_whoTakes_3 7 rfl rfl)
theorem dX1_whoTakes_79 : decode cX1_whoTakes 79 = .ok (.invokespecial 65, 3) := dk_183 0 65 (dk_at dksX1_whoTakes_3 8 rfl rfl)
theorem dX1_whoTakes_82 : decode cX1_whoTakes 82 = .ok (.athrow, 1) := dk_191 (dk_at dksX1_whoTakes_3 11 rfl rfl)
abbrev cX1_receivedIn : ByteArray := prog_1_method_39_code
def yX1_receivedIn : MethodName := ⟨RX1, "receivedIn", "(I)I"⟩
def dkwX1_receivedIn_3 : List UInt8 := [45, 182, 0, 203, 132, 4, 1, 167, 255, 234, 45, 180, 1, 67, 184, 0, 245, 21, 4, 172]
abbrev dktX1_receivedIn_3 : List UInt8 := dkwX1_receivedIn_3 ++ []
def dkwX1_receivedIn_2 : List UInt8 := [78, 45, 27, 181, 1, 64, 3, 54, 4, 21, 4, 17, 0, 200, 162, 0, 20, 45, 180, 1, 67, 154, 0, 13]
abbrev dktX1_receivedIn_2 : List UInt8 := dkwX1_receivedIn_2 ++ dktX1_receivedIn_3
def dkwX1_receivedIn_1 : List UInt8 := [180, 0, 212, 180, 1, 61, 154, 0, 7, 4, 167, 0, 4, 3, 184, 0, 245, 42, 180, 0, 10, 182, 0, 73]
abbrev dktX1_receivedIn_1 : List UInt8 := dkwX1_receivedIn_1 ++ dktX1_receivedIn_2
def dkwX1_receivedIn_0 : List UInt8 := [42, 180, 0, 10, 27, 182, 1, 18, 61, 28, 2, 159, 0, 26, 28, 16, 100, 160, 0, 16, 42, 180, 0, 10]
abbrev dktX1_receivedIn_0 : List UInt8 := dkwX1_receivedIn_0 ++ dktX1_receivedIn_1
theorem dksX1_receivedIn_0 : cX1_receivedIn.data.toList.drop 0 = dktX1_receivedIn_0 := by decide +kernel
theorem dksX1_receivedIn_1 : cX1_receivedIn.data.toList.drop 24 = dktX1_receivedIn_1 := dk_seg dksX1_receivedIn_0 24 rfl rfl
theorem dksX1_receivedIn_2 : cX1_receivedIn.data.toList.drop 48 = dktX1_receivedIn_2 := dk_seg dksX1_receivedIn_1 24 rfl rfl
theorem dksX1_receivedIn_3 : cX1_receivedIn.data.toList.drop 72 = dktX1_receivedIn_3 := dk_seg dksX1_receivedIn_2 24 rfl rfl
theorem dX1_receivedIn_0 : decode cX1_receivedIn 0 = .ok (.aload_n 0, 1) := dk_42 (dk_at dksX1_receivedIn_0 0 rfl rfl)
theorem dX1_receivedIn_1 : decode cX1_receivedIn 1 = .ok (.getfield 10, 3) := dk_180 0 10 (dk_at dksX1_receivedIn_0 1 rfl rfl)
theorem dX1_receivedIn_4 : decode cX1_receivedIn 4 = .ok (.iload_n 1, 1) := dk_27 (dk_at dksX1_receivedIn_0 4 rfl rfl)
theorem dX1_receivedIn_5 : decode cX1_receivedIn 5 = .ok (.invokevirtual 274, 3) := dk_182 1 18 (dk_at dksX1_receivedIn_0 5 rfl rfl)
theorem dX1_receivedIn_8 : decode cX1_receivedIn 8 = .ok (.istore_n 2, 1) := dk_61 (dk_at dksX1_receivedIn_0 8 rfl rfl)
theorem dX1_receivedIn_9 : decode cX1_receivedIn 9 = .ok (.iload_n 2, 1) := dk_28 (dk_at dksX1_receivedIn_0 9 rfl rfl)
theorem dX1_receivedIn_10 : decode cX1_receivedIn 10 = .ok (.iconst (-1), 1) := dk_2 (dk_at dksX1_receivedIn_0 10 rfl rfl)
theorem dX1_receivedIn_11 : decode cX1_receivedIn 11 = .ok (.if_icmp .eq 26, 3) := dk_159 0 26 (dk_at dksX1_receivedIn_0 11 rfl rfl)
theorem dX1_receivedIn_14 : decode cX1_receivedIn 14 = .ok (.iload_n 2, 1) := dk_28 (dk_at dksX1_receivedIn_0 14 rfl rfl)
theorem dX1_receivedIn_15 : decode cX1_receivedIn 15 = .ok (.bipush 100, 2) := dk_16 100 (dk_at dksX1_receivedIn_0 15 rfl rfl)
theorem dX1_receivedIn_17 : decode cX1_receivedIn 17 = .ok (.if_icmp .ne 16, 3) := dk_160 0 16 (dk_at dksX1_receivedIn_0 17 rfl rfl)
theorem dX1_receivedIn_20 : decode cX1_receivedIn 20 = .ok (.aload_n 0, 1) := dk_42 (dk_at dksX1_receivedIn_0 20 rfl rfl)
theorem dX1_receivedIn_21 : decode cX1_receivedIn 21 = .ok (.getfield 10, 3) := dk_180 0 10 (dk_at dksX1_receivedIn_0 21 rfl rfl)
theorem dX1_receivedIn_24 : decode cX1_receivedIn 24 = .ok (.getfield 212, 3) := dk_180 0 212 (dk_at dksX1_receivedIn_1 0 rfl rfl)
theorem dX1_receivedIn_27 : decode cX1_receivedIn 27 = .ok (.getfield 317, 3) := dk_180 1 61 (dk_at dksX1_receivedIn_1 3 rfl rfl)
theorem dX1_receivedIn_30 : decode cX1_receivedIn 30 = .ok (.ifCond .ne 7, 3) := dk_154 0 7 (dk_at dksX1_receivedIn_1 6 rfl rfl)
theorem dX1_receivedIn_33 : decode cX1_receivedIn 33 = .ok (.iconst 1, 1) := dk_4 (dk_at dksX1_receivedIn_1 9 rfl rfl)
theorem dX1_receivedIn_34 : decode cX1_receivedIn 34 = .ok (.goto 4, 3) := dk_167 0 4 (dk_at dksX1_receivedIn_1 10 rfl rfl)
theorem dX1_receivedIn_37 : decode cX1_receivedIn 37 = .ok (.iconst 0, 1) := dk_3 (dk_at dksX1_receivedIn_1 13 rfl rfl)
theorem dX1_receivedIn_38 : decode cX1_receivedIn 38 = .ok (.invokestatic 245, 3) := dk_184 0 245 (dk_at dksX1_receivedIn_1 14 rfl rfl)
theorem dX1_receivedIn_41 : decode cX1_receivedIn 41 = .ok (.aload_n 0, 1) := dk_42 (dk_at dksX1_receivedIn_1 17 rfl rfl)
theorem dX1_receivedIn_42 : decode cX1_receivedIn 42 = .ok (.getfield 10, 3) := dk_180 0 10 (dk_at dksX1_receivedIn_1 18 rfl rfl)
theorem dX1_receivedIn_45 : decode cX1_receivedIn 45 = .ok (.invokevirtual 73, 3) := dk_182 0 73 (dk_at dksX1_receivedIn_1 21 rfl rfl)
theorem dX1_receivedIn_48 : decode cX1_receivedIn 48 = .ok (.astore_n 3, 1) := dk_78 (dk_at dksX1_receivedIn_2 0 rfl rfl)
theorem dX1_receivedIn_49 : decode cX1_receivedIn 49 = .ok (.aload_n 3, 1) := dk_45 (dk_at dksX1_receivedIn_2 1 rfl rfl)
theorem dX1_receivedIn_50 : decode cX1_receivedIn 50 = .ok (.iload_n 1, 1) := dk_27 (dk_at dksX1_receivedIn_2 2 rfl rfl)
theorem dX1_receivedIn_51 : decode cX1_receivedIn 51 = .ok (.putfield 320, 3) := dk_181 1 64 (dk_at dksX1_receivedIn_2 3 rfl rfl)
theorem dX1_receivedIn_54 : decode cX1_receivedIn 54 = .ok (.iconst 0, 1) := dk_3 (dk_at dksX1_receivedIn_2 6 rfl rfl)
theorem dX1_receivedIn_55 : decode cX1_receivedIn 55 = .ok (.istore 4, 2) := dk_54 4 (dk_at dksX1_receivedIn_2 7 rfl rfl)
theorem dX1_receivedIn_57 : decode cX1_receivedIn 57 = .ok (.iload 4, 2) := dk_21 4 (dk_at dksX1_receivedIn_2 9 rfl rfl)
theorem dX1_receivedIn_59 : decode cX1_receivedIn 59 = .ok (.sipush 200, 3) := dk_17 0 200 (dk_at dksX1_receivedIn_2 11 rfl rfl)
theorem dX1_receivedIn_62 : decode cX1_receivedIn 62 = .ok (.if_icmp .ge 20, 3) := dk_162 0 20 (dk_at dksX1_receivedIn_2 14 rfl rfl)
theorem dX1_receivedIn_65 : decode cX1_receivedIn 65 = .ok (.aload_n 3, 1) := dk_45 (dk_at dksX1_receivedIn_2 17 rfl rfl)
theorem dX1_receivedIn_66 : decode cX1_receivedIn 66 = .ok (.getfield 323, 3) := dk_180 1 67 (dk_at dksX1_receivedIn_2 18 rfl rfl)
theorem dX1_receivedIn_69 : decode cX1_receivedIn 69 = .ok (.ifCond .ne 13, 3) := dk_154 0 13 (dk_at dksX1_receivedIn_2 21 rfl rfl)
theorem dX1_receivedIn_72 : decode cX1_receivedIn 72 = .ok (.aload_n 3, 1) := dk_45 (dk_at dksX1_receivedIn_3 0 rfl rfl)
theorem dX1_receivedIn_73 : decode cX1_receivedIn 73 = .ok (.invokevirtual 203, 3) := dk_182 0 203 (dk_at dksX1_receivedIn_3 1 rfl rfl)
theorem dX1_receivedIn_76 : decode cX1_receivedIn 76 = .ok (.iinc 4 1, 3) := dk_132 4 1 (dk_at dksX1_receivedIn_3 4 rfl rfl)
theorem dX1_receivedIn_79 : decode cX1_receivedIn 79 = .ok (.goto (-22), 3) := dk_167 255 234 (dk_at dksX1_receivedIn_3 7 rfl rfl)
theorem dX1_receivedIn_82 : decode cX1_receivedIn 82 = .ok (.aload_n 3, 1) := dk_45 (dk_at dksX1_receivedIn_3 10 rfl rfl)
theorem dX1_receivedIn_83 : decode cX1_receivedIn 83 = .ok (.getfield 323, 3) := dk_180 1 67 (dk_at dksX1_receivedIn_3 11 rfl rfl)
theorem dX1_receivedIn_86 : decode cX1_receivedIn 86 = .ok (.invokestatic 245, 3) := dk_184 0 245 (dk_at dksX1_receivedIn_3 14 rfl rfl)
theorem dX1_receivedIn_89 : decode cX1_receivedIn 89 = .ok (.iload 4, 2) := dk_21 4 (dk_at dksX1_receivedIn_3 17 rfl rfl)
theorem dX1_receivedIn_91 : decode cX1_receivedIn 91 = .ok (.ireturn, 1) := dk_172 (dk_at dksX1_receivedIn_3 19 rfl rfl)
abbrev cX1_tokenIn : ByteArray := prog_1_method_40_code
def yX1_tokenIn : MethodName := ⟨RX1, "tokenIn", "(I)I"⟩
def dkwX1_tokenIn_3 : List UInt8 := [184, 0, 245, 29, 172]
abbrev dktX1_tokenIn_3 : List UInt8 := dkwX1_tokenIn_3 ++ []
def dkwX1_tokenIn_2 : List UInt8 := [167, 255, 227, 44, 180, 0, 185, 4, 160, 0, 15, 44, 180, 0, 206, 27, 160, 0, 7, 4, 167, 0, 4, 3]
abbrev dktX1_tokenIn_2 : List UInt8 := dkwX1_tokenIn_2 ++ dktX1_tokenIn_3
def dkwX1_tokenIn_1 : List UInt8 := [44, 180, 0, 185, 4, 160, 0, 11, 44, 180, 0, 206, 27, 159, 0, 13, 44, 182, 0, 203, 132, 3, 1]
abbrev dktX1_tokenIn_1 : List UInt8 := dkwX1_tokenIn_1 ++ dktX1_tokenIn_2
def dkwX1_tokenIn_0 : List UInt8 := [42, 27, 182, 0, 105, 184, 0, 115, 42, 180, 0, 10, 182, 0, 73, 77, 3, 62, 29, 16, 100, 162, 0, 29]
abbrev dktX1_tokenIn_0 : List UInt8 := dkwX1_tokenIn_0 ++ dktX1_tokenIn_1
theorem dksX1_tokenIn_0 : cX1_tokenIn.data.toList.drop 0 = dktX1_tokenIn_0 := by decide +kernel
theorem dksX1_tokenIn_1 : cX1_tokenIn.data.toList.drop 24 = dktX1_tokenIn_1 := dk_seg dksX1_tokenIn_0 24 rfl rfl
theorem dksX1_tokenIn_2 : cX1_tokenIn.data.toList.drop 47 = dktX1_tokenIn_2 := dk_seg dksX1_tokenIn_1 23 rfl rfl
theorem dksX1_tokenIn_3 : cX1_tokenIn.data.toList.drop 71 = dktX1_tokenIn_3 := dk_seg dksX1_tokenIn_2 24 rfl rfl
theorem dX1_tokenIn_0 : decode cX1_tokenIn 0 = .ok (.aload_n 0, 1) := dk_42 (dk_at dksX1_tokenIn_0 0 rfl rfl)
theorem dX1_tokenIn_1 : decode cX1_tokenIn 1 = .ok (.iload_n 1, 1) := dk_27 (dk_at dksX1_tokenIn_0 1 rfl rfl)
theorem dX1_tokenIn_2 : decode cX1_tokenIn 2 = .ok (.invokevirtual 105, 3) := dk_182 0 105 (dk_at dksX1_tokenIn_0 2 rfl rfl)
theorem dX1_tokenIn_5 : decode cX1_tokenIn 5 = .ok (.invokestatic 115, 3) := dk_184 0 115 (dk_at dksX1_tokenIn_0 5 rfl rfl)
theorem dX1_tokenIn_8 : decode cX1_tokenIn 8 = .ok (.aload_n 0, 1) := dk_42 (dk_at dksX1_tokenIn_0 8 rfl rfl)
theorem dX1_tokenIn_9 : decode cX1_tokenIn 9 = .ok (.getfield 10, 3) := dk_180 0 10 (dk_at dksX1_tokenIn_0 9 rfl rfl)
theorem dX1_tokenIn_12 : decode cX1_tokenIn 12 = .ok (.invokevirtual 73, 3) := dk_182 0 73 (dk_at dksX1_tokenIn_0 12 rfl rfl)
theorem dX1_tokenIn_15 : decode cX1_tokenIn 15 = .ok (.astore_n 2, 1) := dk_77 (dk_at dksX1_tokenIn_0 15 rfl rfl)
theorem dX1_tokenIn_16 : decode cX1_tokenIn 16 = .ok (.iconst 0, 1) := dk_3 (dk_at dksX1_tokenIn_0 16 rfl rfl)
theorem dX1_tokenIn_17 : decode cX1_tokenIn 17 = .ok (.istore_n 3, 1) := dk_62 (dk_at dksX1_tokenIn_0 17 rfl rfl)
theorem dX1_tokenIn_18 : decode cX1_tokenIn 18 = .ok (.iload_n 3, 1) := dk_29 (dk_at dksX1_tokenIn_0 18 rfl rfl)
theorem dX1_tokenIn_19 : decode cX1_tokenIn 19 = .ok (.bipush 100, 2) := dk_16 100 (dk_at dksX1_tokenIn_0 19 rfl rfl)
theorem dX1_tokenIn_21 : decode cX1_tokenIn 21 = .ok (.if_icmp .ge 29, 3) := dk_162 0 29 (dk_at dksX1_tokenIn_0 21 rfl rfl)
theorem dX1_tokenIn_24 : decode cX1_tokenIn 24 = .ok (.aload_n 2, 1) := dk_44 (dk_at dksX1_tokenIn_1 0 rfl rfl)
theorem dX1_tokenIn_25 : decode cX1_tokenIn 25 = .ok (.getfield 185, 3) := dk_180 0 185 (dk_at dksX1_tokenIn_1 1 rfl rfl)
theorem dX1_tokenIn_28 : decode cX1_tokenIn 28 = .ok (.iconst 1, 1) := dk_4 (dk_at dksX1_tokenIn_1 4 rfl rfl)
theorem dX1_tokenIn_29 : decode cX1_tokenIn 29 = .ok (.if_icmp .ne 11, 3) := dk_160 0 11 (dk_at dksX1_tokenIn_1 5 rfl rfl)
theorem dX1_tokenIn_32 : decode cX1_tokenIn 32 = .ok (.aload_n 2, 1) := dk_44 (dk_at dksX1_tokenIn_1 8 rfl rfl)
theorem dX1_tokenIn_33 : decode cX1_tokenIn 33 = .ok (.getfield 206, 3) := dk_180 0 206 (dk_at dksX1_tokenIn_1 9 rfl rfl)
theorem dX1_tokenIn_36 : decode cX1_tokenIn 36 = .ok (.iload_n 1, 1) := dk_27 (dk_at dksX1_tokenIn_1 12 rfl rfl)
theorem dX1_tokenIn_37 : decode cX1_tokenIn 37 = .ok (.if_icmp .eq 13, 3) := dk_159 0 13 (dk_at dksX1_tokenIn_1 13 rfl rfl)
theorem dX1_tokenIn_40 : decode cX1_tokenIn 40 = .ok (.aload_n 2, 1) := dk_44 (dk_at dksX1_tokenIn_1 16 rfl rfl)
theorem dX1_tokenIn_41 : decode cX1_tokenIn 41 = .ok (.invokevirtual 203, 3) := dk_182 0 203 (dk_at dksX1_tokenIn_1 17 rfl rfl)
theorem dX1_tokenIn_44 : decode cX1_tokenIn 44 = .ok (.iinc 3 1, 3) := dk_132 3 1 (dk_at dksX1_tokenIn_1 20 rfl rfl)
theorem dX1_tokenIn_47 : decode cX1_tokenIn 47 = .ok (.goto (-29), 3) := dk_167 255 227 (dk_at dksX1_tokenIn_2 0 rfl rfl)
theorem dX1_tokenIn_50 : decode cX1_tokenIn 50 = .ok (.aload_n 2, 1) := dk_44 (dk_at dksX1_tokenIn_2 3 rfl rfl)
theorem dX1_tokenIn_51 : decode cX1_tokenIn 51 = .ok (.getfield 185, 3) := dk_180 0 185 (dk_at dksX1_tokenIn_2 4 rfl rfl)
theorem dX1_tokenIn_54 : decode cX1_tokenIn 54 = .ok (.iconst 1, 1) := dk_4 (dk_at dksX1_tokenIn_2 7 rfl rfl)
theorem dX1_tokenIn_55 : decode cX1_tokenIn 55 = .ok (.if_icmp .ne 15, 3) := dk_160 0 15 (dk_at dksX1_tokenIn_2 8 rfl rfl)
theorem dX1_tokenIn_58 : decode cX1_tokenIn 58 = .ok (.aload_n 2, 1) := dk_44 (dk_at dksX1_tokenIn_2 11 rfl rfl)
theorem dX1_tokenIn_59 : decode cX1_tokenIn 59 = .ok (.getfield 206, 3) := dk_180 0 206 (dk_at dksX1_tokenIn_2 12 rfl rfl)
theorem dX1_tokenIn_62 : decode cX1_tokenIn 62 = .ok (.iload_n 1, 1) := dk_27 (dk_at dksX1_tokenIn_2 15 rfl rfl)
theorem dX1_tokenIn_63 : decode cX1_tokenIn 63 = .ok (.if_icmp .ne 7, 3) := dk_160 0 7 (dk_at dksX1_tokenIn_2 16 rfl rfl)
theorem dX1_tokenIn_66 : decode cX1_tokenIn 66 = .ok (.iconst 1, 1) := dk_4 (dk_at dksX1_tokenIn_2 19 rfl rfl)
theorem dX1_tokenIn_67 : decode cX1_tokenIn 67 = .ok (.goto 4, 3) := dk_167 0 4 (dk_at dksX1_tokenIn_2 20 rfl rfl)
theorem dX1_tokenIn_70 : decode cX1_tokenIn 70 = .ok (.iconst 0, 1) := dk_3 (dk_at dksX1_tokenIn_2 23 rfl rfl)
theorem dX1_tokenIn_71 : decode cX1_tokenIn 71 = .ok (.invokestatic 245, 3) := dk_184 0 245 (dk_at dksX1_tokenIn_3 0 rfl rfl)
theorem dX1_tokenIn_74 : decode cX1_tokenIn 74 = .ok (.iload_n 3, 1) := dk_29 (dk_at dksX1_tokenIn_3 3 rfl rfl)
theorem dX1_tokenIn_75 : decode cX1_tokenIn 75 = .ok (.ireturn, 1) := dk_172 (dk_at dksX1_tokenIn_3 4 rfl rfl)
abbrev cX1_ahead : ByteArray := prog_1_method_41_code
def yX1_ahead : MethodName := ⟨RX1, "ahead", "(II)I"⟩
def dkwX1_ahead_5 : List UInt8 := [180, 0, 191, 172, 45, 180, 1, 70, 172]
abbrev dktX1_ahead_5 : List UInt8 := dkwX1_ahead_5 ++ []
def dkwX1_ahead_4 : List UInt8 := [45, 180, 0, 200, 172, 45, 182, 0, 194, 172, 45, 3, 184, 0, 241, 172, 45, 180, 0, 146, 172, 45]
abbrev dktX1_ahead_4 : List UInt8 := dkwX1_ahead_4 ++ dktX1_ahead_5
def dkwX1_ahead_3 : List UInt8 := [170, 0, 0, 0, 59, 0, 0, 0, 0, 0, 0, 0, 4, 0, 0, 0, 33, 0, 0, 0, 38, 0, 0, 0, 43, 0, 0, 0, 49, 0, 0, 0, 54]
abbrev dktX1_ahead_3 : List UInt8 := dkwX1_ahead_3 ++ dktX1_ahead_4
def dkwX1_ahead_2 : List UInt8 := [132, 4, 1, 167, 255, 243, 28]
abbrev dktX1_ahead_2 : List UInt8 := dkwX1_ahead_2 ++ dktX1_ahead_3
def dkwX1_ahead_1 : List UInt8 := [184, 0, 238, 42, 180, 0, 10, 182, 0, 73, 78, 3, 54, 4, 21, 4, 27, 162, 0, 13, 45, 182, 0, 203]
abbrev dktX1_ahead_1 : List UInt8 := dkwX1_ahead_1 ++ dktX1_ahead_2
def dkwX1_ahead_0 : List UInt8 := [27, 3, 16, 60, 184, 0, 49, 153, 0, 16, 28, 3, 8, 184, 0, 49, 153, 0, 7, 4, 167, 0, 4, 3]
abbrev dktX1_ahead_0 : List UInt8 := dkwX1_ahead_0 ++ dktX1_ahead_1
theorem dksX1_ahead_0 : cX1_ahead.data.toList.drop 0 = dktX1_ahead_0 := by decide +kernel
theorem dksX1_ahead_1 : cX1_ahead.data.toList.drop 24 = dktX1_ahead_1 := dk_seg dksX1_ahead_0 24 rfl rfl
theorem dksX1_ahead_2 : cX1_ahead.data.toList.drop 48 = dktX1_ahead_2 := dk_seg dksX1_ahead_1 24 rfl rfl
theorem dksX1_ahead_3 : cX1_ahead.data.toList.drop 55 = dktX1_ahead_3 := dk_seg dksX1_ahead_2 7 rfl rfl
theorem dksX1_ahead_4 : cX1_ahead.data.toList.drop 88 = dktX1_ahead_4 := dk_seg dksX1_ahead_3 33 rfl rfl
theorem dksX1_ahead_5 : cX1_ahead.data.toList.drop 110 = dktX1_ahead_5 := dk_seg dksX1_ahead_4 22 rfl rfl
theorem dX1_ahead_0 : decode cX1_ahead 0 = .ok (.iload_n 1, 1) := dk_27 (dk_at dksX1_ahead_0 0 rfl rfl)
theorem dX1_ahead_1 : decode cX1_ahead 1 = .ok (.iconst 0, 1) := dk_3 (dk_at dksX1_ahead_0 1 rfl rfl)
theorem dX1_ahead_2 : decode cX1_ahead 2 = .ok (.bipush 60, 2) := dk_16 60 (dk_at dksX1_ahead_0 2 rfl rfl)
theorem dX1_ahead_4 : decode cX1_ahead 4 = .ok (.invokestatic 49, 3) := dk_184 0 49 (dk_at dksX1_ahead_0 4 rfl rfl)
theorem dX1_ahead_7 : decode cX1_ahead 7 = .ok (.ifCond .eq 16, 3) := dk_153 0 16 (dk_at dksX1_ahead_0 7 rfl rfl)
theorem dX1_ahead_10 : decode cX1_ahead 10 = .ok (.iload_n 2, 1) := dk_28 (dk_at dksX1_ahead_0 10 rfl rfl)
theorem dX1_ahead_11 : decode cX1_ahead 11 = .ok (.iconst 0, 1) := dk_3 (dk_at dksX1_ahead_0 11 rfl rfl)
theorem dX1_ahead_12 : decode cX1_ahead 12 = .ok (.iconst 5, 1) := dk_8 (dk_at dksX1_ahead_0 12 rfl rfl)
theorem dX1_ahead_13 : decode cX1_ahead 13 = .ok (.invokestatic 49, 3) := dk_184 0 49 (dk_at dksX1_ahead_0 13 rfl rfl)
theorem dX1_ahead_16 : decode cX1_ahead 16 = .ok (.ifCond .eq 7, 3) := dk_153 0 7 (dk_at dksX1_ahead_0 16 rfl rfl)
theorem dX1_ahead_19 : decode cX1_ahead 19 = .ok (.iconst 1, 1) := dk_4 (dk_at dksX1_ahead_0 19 rfl rfl)
theorem dX1_ahead_20 : decode cX1_ahead 20 = .ok (.goto 4, 3) := dk_167 0 4 (dk_at dksX1_ahead_0 20 rfl rfl)
theorem dX1_ahead_23 : decode cX1_ahead 23 = .ok (.iconst 0, 1) := dk_3 (dk_at dksX1_ahead_0 23 rfl rfl)
theorem dX1_ahead_24 : decode cX1_ahead 24 = .ok (.invokestatic 238, 3) := dk_184 0 238 (dk_at dksX1_ahead_1 0 rfl rfl)
theorem dX1_ahead_27 : decode cX1_ahead 27 = .ok (.aload_n 0, 1) := dk_42 (dk_at dksX1_ahead_1 3 rfl rfl)
theorem dX1_ahead_28 : decode cX1_ahead 28 = .ok (.getfield 10, 3) := dk_180 0 10 (dk_at dksX1_ahead_1 4 rfl rfl)
theorem dX1_ahead_31 : decode cX1_ahead 31 = .ok (.invokevirtual 73, 3) := dk_182 0 73 (dk_at dksX1_ahead_1 7 rfl rfl)
theorem dX1_ahead_34 : decode cX1_ahead 34 = .ok (.astore_n 3, 1) := dk_78 (dk_at dksX1_ahead_1 10 rfl rfl)
theorem dX1_ahead_35 : decode cX1_ahead 35 = .ok (.iconst 0, 1) := dk_3 (dk_at dksX1_ahead_1 11 rfl rfl)
theorem dX1_ahead_36 : decode cX1_ahead 36 = .ok (.istore 4, 2) := dk_54 4 (dk_at dksX1_ahead_1 12 rfl rfl)
theorem dX1_ahead_38 : decode cX1_ahead 38 = .ok (.iload 4, 2) := dk_21 4 (dk_at dksX1_ahead_1 14 rfl rfl)
theorem dX1_ahead_40 : decode cX1_ahead 40 = .ok (.iload_n 1, 1) := dk_27 (dk_at dksX1_ahead_1 16 rfl rfl)
theorem dX1_ahead_41 : decode cX1_ahead 41 = .ok (.if_icmp .ge 13, 3) := dk_162 0 13 (dk_at dksX1_ahead_1 17 rfl rfl)
theorem dX1_ahead_44 : decode cX1_ahead 44 = .ok (.aload_n 3, 1) := dk_45 (dk_at dksX1_ahead_1 20 rfl rfl)
theorem dX1_ahead_45 : decode cX1_ahead 45 = .ok (.invokevirtual 203, 3) := dk_182 0 203 (dk_at dksX1_ahead_1 21 rfl rfl)
theorem dX1_ahead_48 : decode cX1_ahead 48 = .ok (.iinc 4 1, 3) := dk_132 4 1 (dk_at dksX1_ahead_2 0 rfl rfl)
theorem dX1_ahead_51 : decode cX1_ahead 51 = .ok (.goto (-13), 3) := dk_167 255 243 (dk_at dksX1_ahead_2 3 rfl rfl)
theorem dX1_ahead_54 : decode cX1_ahead 54 = .ok (.iload_n 2, 1) := dk_28 (dk_at dksX1_ahead_2 6 rfl rfl)
theorem dX1_ahead_55 : decode cX1_ahead 55 = .ok (.tableswitch 59 0 4 #[33, 38, 43, 49, 54], 33) := by decide +kernel
theorem dX1_ahead_88 : decode cX1_ahead 88 = .ok (.aload_n 3, 1) := dk_45 (dk_at dksX1_ahead_4 0 rfl rfl)
theorem dX1_ahead_89 : decode cX1_ahead 89 = .ok (.getfield 200, 3) := dk_180 0 200 (dk_at dksX1_ahead_4 1 rfl rfl)
theorem dX1_ahead_92 : decode cX1_ahead 92 = .ok (.ireturn, 1) := dk_172 (dk_at dksX1_ahead_4 4 rfl rfl)
theorem dX1_ahead_93 : decode cX1_ahead 93 = .ok (.aload_n 3, 1) := dk_45 (dk_at dksX1_ahead_4 5 rfl rfl)
theorem dX1_ahead_94 : decode cX1_ahead 94 = .ok (.invokevirtual 194, 3) := dk_182 0 194 (dk_at dksX1_ahead_4 6 rfl rfl)
theorem dX1_ahead_97 : decode cX1_ahead 97 = .ok (.ireturn, 1) := dk_172 (dk_at dksX1_ahead_4 9 rfl rfl)
theorem dX1_ahead_98 : decode cX1_ahead 98 = .ok (.aload_n 3, 1) := dk_45 (dk_at dksX1_ahead_4 10 rfl rfl)
theorem dX1_ahead_99 : decode cX1_ahead 99 = .ok (.iconst 0, 1) := dk_3 (dk_at dksX1_ahead_4 11 rfl rfl)
theorem dX1_ahead_100 : decode cX1_ahead 100 = .ok (.invokestatic 241, 3) := dk_184 0 241 (dk_at dksX1_ahead_4 12 rfl rfl)
theorem dX1_ahead_103 : decode cX1_ahead 103 = .ok (.ireturn, 1) := dk_172 (dk_at dksX1_ahead_4 15 rfl rfl)
theorem dX1_ahead_104 : decode cX1_ahead 104 = .ok (.aload_n 3, 1) := dk_45 (dk_at dksX1_ahead_4 16 rfl rfl)
theorem dX1_ahead_105 : decode cX1_ahead 105 = .ok (.getfield 146, 3) := dk_180 0 146 (dk_at dksX1_ahead_4 17 rfl rfl)
theorem dX1_ahead_108 : decode cX1_ahead 108 = .ok (.ireturn, 1) := dk_172 (dk_at dksX1_ahead_4 20 rfl rfl)
theorem dX1_ahead_109 : decode cX1_ahead 109 = .ok (.aload_n 3, 1) := dk_45 (dk_at dksX1_ahead_4 21 rfl rfl)
theorem dX1_ahead_110 : decode cX1_ahead 110 = .ok (.getfield 191, 3) := dk_180 0 191 (dk_at dksX1_ahead_5 0 rfl rfl)
theorem dX1_ahead_113 : decode cX1_ahead 113 = .ok (.ireturn, 1) := dk_172 (dk_at dksX1_ahead_5 3 rfl rfl)
theorem dX1_ahead_114 : decode cX1_ahead 114 = .ok (.aload_n 3, 1) := dk_45 (dk_at dksX1_ahead_5 4 rfl rfl)
theorem dX1_ahead_115 : decode cX1_ahead 115 = .ok (.getfield 326, 3) := dk_180 1 70 (dk_at dksX1_ahead_5 5 rfl rfl)
theorem dX1_ahead_118 : decode cX1_ahead 118 = .ok (.ireturn, 1) := dk_172 (dk_at dksX1_ahead_5 8 rfl rfl)
abbrev cX1_ranked : ByteArray := prog_1_method_42_code
def yX1_ranked : MethodName := ⟨RX1, "ranked", "(I)I"⟩
def dkwX1_ranked_6 : List UInt8 := [167, 255, 163, 187, 0, 63, 89, 183, 0, 65, 191]
abbrev dktX1_ranked_6 : List UInt8 := dkwX1_ranked_6 ++ []
def dkwX1_ranked_5 : List UInt8 := [182, 1, 78, 184, 0, 234, 96, 54, 5, 167, 255, 218, 21, 5, 27, 160, 0, 9, 25, 4, 180, 1, 10, 172]
abbrev dktX1_ranked_5 : List UInt8 := dkwX1_ranked_5 ++ dktX1_ranked_6
def dkwX1_ranked_4 : List UInt8 := [153, 0, 34, 25, 6, 185, 1, 7, 1, 0, 192, 0, 113, 58, 7, 21, 5, 44, 25, 7, 25, 4]
abbrev dktX1_ranked_4 : List UInt8 := dkwX1_ranked_4 ++ dktX1_ranked_5
def dkwX1_ranked_3 : List UInt8 := [180, 0, 10, 180, 0, 89, 182, 0, 248, 185, 0, 252, 1, 0, 58, 6, 25, 6, 185, 1, 2, 1, 0]
abbrev dktX1_ranked_3 : List UInt8 := dkwX1_ranked_3 ++ dktX1_ranked_4
def dkwX1_ranked_2 : List UInt8 := [185, 1, 2, 1, 0, 153, 0, 90, 45, 185, 1, 7, 1, 0, 192, 0, 113, 58, 4, 3, 54, 5, 42]
abbrev dktX1_ranked_2 : List UInt8 := dkwX1_ranked_2 ++ dktX1_ranked_3
def dkwX1_ranked_1 : List UInt8 := [42, 183, 1, 75, 77, 42, 180, 0, 10, 180, 0, 89, 182, 0, 248, 185, 0, 252, 1, 0, 78, 45]
abbrev dktX1_ranked_1 : List UInt8 := dkwX1_ranked_1 ++ dktX1_ranked_2
def dkwX1_ranked_0 : List UInt8 := [27, 3, 42, 180, 0, 10, 180, 0, 89, 182, 0, 123, 4, 100, 184, 0, 49, 184, 0, 245, 187, 1, 73, 89]
abbrev dktX1_ranked_0 : List UInt8 := dkwX1_ranked_0 ++ dktX1_ranked_1
theorem dksX1_ranked_0 : cX1_ranked.data.toList.drop 0 = dktX1_ranked_0 := by decide +kernel
theorem dksX1_ranked_1 : cX1_ranked.data.toList.drop 24 = dktX1_ranked_1 := dk_seg dksX1_ranked_0 24 rfl rfl
theorem dksX1_ranked_2 : cX1_ranked.data.toList.drop 46 = dktX1_ranked_2 := dk_seg dksX1_ranked_1 22 rfl rfl
theorem dksX1_ranked_3 : cX1_ranked.data.toList.drop 69 = dktX1_ranked_3 := dk_seg dksX1_ranked_2 23 rfl rfl
theorem dksX1_ranked_4 : cX1_ranked.data.toList.drop 92 = dktX1_ranked_4 := dk_seg dksX1_ranked_3 23 rfl rfl
theorem dksX1_ranked_5 : cX1_ranked.data.toList.drop 114 = dktX1_ranked_5 := dk_seg dksX1_ranked_4 22 rfl rfl
theorem dksX1_ranked_6 : cX1_ranked.data.toList.drop 138 = dktX1_ranked_6 := dk_seg dksX1_ranked_5 24 rfl rfl
theorem dX1_ranked_0 : decode cX1_ranked 0 = .ok (.iload_n 1, 1) := dk_27 (dk_at dksX1_ranked_0 0 rfl rfl)
theorem dX1_ranked_1 : decode cX1_ranked 1 = .ok (.iconst 0, 1) := dk_3 (dk_at dksX1_ranked_0 1 rfl rfl)
theorem dX1_ranked_2 : decode cX1_ranked 2 = .ok (.aload_n 0, 1) := dk_42 (dk_at dksX1_ranked_0 2 rfl rfl)
theorem dX1_ranked_3 : decode cX1_ranked 3 = .ok (.getfield 10, 3) := dk_180 0 10 (dk_at dksX1_ranked_0 3 rfl rfl)
theorem dX1_ranked_6 : decode cX1_ranked 6 = .ok (.getfield 89, 3) := dk_180 0 89 (dk_at dksX1_ranked_0 6 rfl rfl)
theorem dX1_ranked_9 : decode cX1_ranked 9 = .ok (.invokevirtual 123, 3) := dk_182 0 123 (dk_at dksX1_ranked_0 9 rfl rfl)
theorem dX1_ranked_12 : decode cX1_ranked 12 = .ok (.iconst 1, 1) := dk_4 (dk_at dksX1_ranked_0 12 rfl rfl)
theorem dX1_ranked_13 : decode cX1_ranked 13 = .ok (.isub, 1) := dk_100 (dk_at dksX1_ranked_0 13 rfl rfl)
theorem dX1_ranked_14 : decode cX1_ranked 14 = .ok (.invokestatic 49, 3) := dk_184 0 49 (dk_at dksX1_ranked_0 14 rfl rfl)
theorem dX1_ranked_17 : decode cX1_ranked 17 = .ok (.invokestatic 245, 3) := dk_184 0 245 (dk_at dksX1_ranked_0 17 rfl rfl)
theorem dX1_ranked_20 : decode cX1_ranked 20 = .ok (.new 329, 3) := dk_187 1 73 (dk_at dksX1_ranked_0 20 rfl rfl)
theorem dX1_ranked_23 : decode cX1_ranked 23 = .ok (.dup, 1) := dk_89 (dk_at dksX1_ranked_0 23 rfl rfl)
theorem dX1_ranked_24 : decode cX1_ranked 24 = .ok (.aload_n 0, 1) := dk_42 (dk_at dksX1_ranked_1 0 rfl rfl)
theorem dX1_ranked_25 : decode cX1_ranked 25 = .ok (.invokespecial 331, 3) := dk_183 1 75 (dk_at dksX1_ranked_1 1 rfl rfl)
theorem dX1_ranked_28 : decode cX1_ranked 28 = .ok (.astore_n 2, 1) := dk_77 (dk_at dksX1_ranked_1 4 rfl rfl)
theorem dX1_ranked_29 : decode cX1_ranked 29 = .ok (.aload_n 0, 1) := dk_42 (dk_at dksX1_ranked_1 5 rfl rfl)
theorem dX1_ranked_30 : decode cX1_ranked 30 = .ok (.getfield 10, 3) := dk_180 0 10 (dk_at dksX1_ranked_1 6 rfl rfl)
theorem dX1_ranked_33 : decode cX1_ranked 33 = .ok (.getfield 89, 3) := dk_180 0 89 (dk_at dksX1_ranked_1 9 rfl rfl)
theorem dX1_ranked_36 : decode cX1_ranked 36 = .ok (.invokevirtual 248, 3) := dk_182 0 248 (dk_at dksX1_ranked_1 12 rfl rfl)
theorem dX1_ranked_39 : decode cX1_ranked 39 = .ok (.invokeinterface 252 1, 5) := by decide +kernel
theorem dX1_ranked_44 : decode cX1_ranked 44 = .ok (.astore_n 3, 1) := dk_78 (dk_at dksX1_ranked_1 20 rfl rfl)
theorem dX1_ranked_45 : decode cX1_ranked 45 = .ok (.aload_n 3, 1) := dk_45 (dk_at dksX1_ranked_1 21 rfl rfl)
theorem dX1_ranked_46 : decode cX1_ranked 46 = .ok (.invokeinterface 258 1, 5) := by decide +kernel
theorem dX1_ranked_51 : decode cX1_ranked 51 = .ok (.ifCond .eq 90, 3) := dk_153 0 90 (dk_at dksX1_ranked_2 5 rfl rfl)
theorem dX1_ranked_54 : decode cX1_ranked 54 = .ok (.aload_n 3, 1) := dk_45 (dk_at dksX1_ranked_2 8 rfl rfl)
theorem dX1_ranked_55 : decode cX1_ranked 55 = .ok (.invokeinterface 263 1, 5) := by decide +kernel
theorem dX1_ranked_60 : decode cX1_ranked 60 = .ok (.checkcast 113, 3) := dk_192 0 113 (dk_at dksX1_ranked_2 14 rfl rfl)
theorem dX1_ranked_63 : decode cX1_ranked 63 = .ok (.astore 4, 2) := dk_58 4 (dk_at dksX1_ranked_2 17 rfl rfl)
theorem dX1_ranked_65 : decode cX1_ranked 65 = .ok (.iconst 0, 1) := dk_3 (dk_at dksX1_ranked_2 19 rfl rfl)
theorem dX1_ranked_66 : decode cX1_ranked 66 = .ok (.istore 5, 2) := dk_54 5 (dk_at dksX1_ranked_2 20 rfl rfl)
theorem dX1_ranked_68 : decode cX1_ranked 68 = .ok (.aload_n 0, 1) := dk_42 (dk_at dksX1_ranked_2 22 rfl rfl)
theorem dX1_ranked_69 : decode cX1_ranked 69 = .ok (.getfield 10, 3) := dk_180 0 10 (dk_at dksX1_ranked_3 0 rfl rfl)
theorem dX1_ranked_72 : decode cX1_ranked 72 = .ok (.getfield 89, 3) := dk_180 0 89 (dk_at dksX1_ranked_3 3 rfl rfl)
theorem dX1_ranked_75 : decode cX1_ranked 75 = .ok (.invokevirtual 248, 3) := dk_182 0 248 (dk_at dksX1_ranked_3 6 rfl rfl)
theorem dX1_ranked_78 : decode cX1_ranked 78 = .ok (.invokeinterface 252 1, 5) := by decide +kernel
theorem dX1_ranked_83 : decode cX1_ranked 83 = .ok (.astore 6, 2) := dk_58 6 (dk_at dksX1_ranked_3 14 rfl rfl)
theorem dX1_ranked_85 : decode cX1_ranked 85 = .ok (.aload 6, 2) := dk_25 6 (dk_at dksX1_ranked_3 16 rfl rfl)
theorem dX1_ranked_87 : decode cX1_ranked 87 = .ok (.invokeinterface 258 1, 5) := by decide +kernel
theorem dX1_ranked_92 : decode cX1_ranked 92 = .ok (.ifCond .eq 34, 3) := dk_153 0 34 (dk_at dksX1_ranked_4 0 rfl rfl)
theorem dX1_ranked_95 : decode cX1_ranked 95 = .ok (.aload 6, 2) := dk_25 6 (dk_at dksX1_ranked_4 3 rfl rfl)
theorem dX1_ranked_97 : decode cX1_ranked 97 = .ok (.invokeinterface 263 1, 5) := by decide +kernel
theorem dX1_ranked_102 : decode cX1_ranked 102 = .ok (.checkcast 113, 3) := dk_192 0 113 (dk_at dksX1_ranked_4 10 rfl rfl)
theorem dX1_ranked_105 : decode cX1_ranked 105 = .ok (.astore 7, 2) := dk_58 7 (dk_at dksX1_ranked_4 13 rfl rfl)
theorem dX1_ranked_107 : decode cX1_ranked 107 = .ok (.iload 5, 2) := dk_21 5 (dk_at dksX1_ranked_4 15 rfl rfl)
theorem dX1_ranked_109 : decode cX1_ranked 109 = .ok (.aload_n 2, 1) := dk_44 (dk_at dksX1_ranked_4 17 rfl rfl)
theorem dX1_ranked_110 : decode cX1_ranked 110 = .ok (.aload 7, 2) := dk_25 7 (dk_at dksX1_ranked_4 18 rfl rfl)
theorem dX1_ranked_112 : decode cX1_ranked 112 = .ok (.aload 4, 2) := dk_25 4 (dk_at dksX1_ranked_4 20 rfl rfl)
theorem dX1_ranked_114 : decode cX1_ranked 114 = .ok (.invokevirtual 334, 3) := dk_182 1 78 (dk_at dksX1_ranked_5 0 rfl rfl)
theorem dX1_ranked_117 : decode cX1_ranked 117 = .ok (.invokestatic 234, 3) := dk_184 0 234 (dk_at dksX1_ranked_5 3 rfl rfl)
theorem dX1_ranked_120 : decode cX1_ranked 120 = .ok (.iadd, 1) := dk_96 (dk_at dksX1_ranked_5 6 rfl rfl)
theorem dX1_ranked_121 : decode cX1_ranked 121 = .ok (.istore 5, 2) := dk_54 5 (dk_at dksX1_ranked_5 7 rfl rfl)
theorem dX1_ranked_123 : decode cX1_ranked 123 = .ok (.goto (-38), 3) := dk_167 255 218 (dk_at dksX1_ranked_5 9 rfl rfl)
theorem dX1_ranked_126 : decode cX1_ranked 126 = .ok (.iload 5, 2) := dk_21 5 (dk_at dksX1_ranked_5 12 rfl rfl)
theorem dX1_ranked_128 : decode cX1_ranked 128 = .ok (.iload_n 1, 1) := dk_27 (dk_at dksX1_ranked_5 14 rfl rfl)
theorem dX1_ranked_129 : decode cX1_ranked 129 = .ok (.if_icmp .ne 9, 3) := dk_160 0 9 (dk_at dksX1_ranked_5 15 rfl rfl)
theorem dX1_ranked_132 : decode cX1_ranked 132 = .ok (.aload 4, 2) := dk_25 4 (dk_at dksX1_ranked_5 18 rfl rfl)
theorem dX1_ranked_134 : decode cX1_ranked 134 = .ok (.getfield 266, 3) := dk_180 1 10 (dk_at dksX1_ranked_5 20 rfl rfl)
theorem dX1_ranked_137 : decode cX1_ranked 137 = .ok (.ireturn, 1) := dk_172 (dk_at dksX1_ranked_5 23 rfl rfl)
theorem dX1_ranked_138 : decode cX1_ranked 138 = .ok (.goto (-93), 3) := dk_167 255 163 (dk_at dksX1_ranked_6 0 rfl rfl)
theorem dX1_ranked_141 : decode cX1_ranked 141 = .ok (.new 63, 3) := dk_187 0 63 (dk_at dksX1_ranked_6 3 rfl rfl)
theorem dX1_ranked_144 : decode cX1_ranked 144 = .ok (.dup, 1) := dk_89 (dk_at dksX1_ranked_6 6 rfl rfl)
theorem dX1_ranked_145 : decode cX1_ranked 145 = .ok (.invokespecial 65, 3) := dk_183 0 65 (dk_at dksX1_ranked_6 7 rfl rfl)
theorem dX1_ranked_148 : decode cX1_ranked 148 = .ok (.athrow, 1) := dk_191 (dk_at dksX1_ranked_6 10 rfl rfl)
abbrev cX1_longestWait : ByteArray := prog_1_method_43_code
def yX1_longestWait : MethodName := ⟨RX1, "longestWait", "()I"⟩
def dkwX1_longestWait_5 : List UInt8 := [180, 0, 182, 172]
abbrev dktX1_longestWait_5 : List UInt8 := dkwX1_longestWait_5 ++ []
def dkwX1_longestWait_4 : List UInt8 := [167, 255, 180, 43, 198, 0, 7, 4, 167, 0, 4, 3, 184, 0, 245, 43, 199, 0, 7, 3, 167, 0, 7, 43]
abbrev dktX1_longestWait_4 : List UInt8 := dkwX1_longestWait_4 ++ dktX1_longestWait_5
def dkwX1_longestWait_3 : List UInt8 := [25, 5, 180, 0, 182, 43, 180, 0, 182, 162, 0, 8, 25, 5, 167, 0, 4, 43, 76, 167, 255, 211]
abbrev dktX1_longestWait_3 : List UInt8 := dkwX1_longestWait_3 ++ dktX1_longestWait_4
def dkwX1_longestWait_2 : List UInt8 := [185, 1, 2, 1, 0, 153, 0, 41, 25, 4, 185, 1, 7, 1, 0, 192, 0, 159, 58, 5, 43, 198, 0, 15]
abbrev dktX1_longestWait_2 : List UInt8 := dkwX1_longestWait_2 ++ dktX1_longestWait_3
def dkwX1_longestWait_1 : List UInt8 := [153, 0, 73, 44, 185, 1, 7, 1, 0, 192, 0, 113, 78, 45, 180, 0, 149, 182, 1, 21, 58, 4, 25, 4]
abbrev dktX1_longestWait_1 : List UInt8 := dkwX1_longestWait_1 ++ dktX1_longestWait_2
def dkwX1_longestWait_0 : List UInt8 := [1, 76, 42, 180, 0, 10, 180, 0, 89, 182, 0, 248, 185, 0, 252, 1, 0, 77, 44, 185, 1, 2, 1, 0]
abbrev dktX1_longestWait_0 : List UInt8 := dkwX1_longestWait_0 ++ dktX1_longestWait_1
theorem dksX1_longestWait_0 : cX1_longestWait.data.toList.drop 0 = dktX1_longestWait_0 := by decide +kernel
theorem dksX1_longestWait_1 : cX1_longestWait.data.toList.drop 24 = dktX1_longestWait_1 := dk_seg dksX1_longestWait_0 24 rfl rfl
theorem dksX1_longestWait_2 : cX1_longestWait.data.toList.drop 48 = dktX1_longestWait_2 := dk_seg dksX1_longestWait_1 24 rfl rfl
theorem dksX1_longestWait_3 : cX1_longestWait.data.toList.drop 72 = dktX1_longestWait_3 := dk_seg dksX1_longestWait_2 24 rfl rfl
theorem dksX1_longestWait_4 : cX1_longestWait.data.toList.drop 94 = dktX1_longestWait_4 := dk_seg dksX1_longestWait_3 22 rfl rfl
theorem dksX1_longestWait_5 : cX1_longestWait.data.toList.drop 118 = dktX1_longestWait_5 := dk_seg dksX1_longestWait_4 24 rfl rfl
theorem dX1_longestWait_0 : decode cX1_longestWait 0 = .ok (.aconst_null, 1) := dk_1 (dk_at dksX1_longestWait_0 0 rfl rfl)
theorem dX1_longestWait_1 : decode cX1_longestWait 1 = .ok (.astore_n 1, 1) := dk_76 (dk_at dksX1_longestWait_0 1 rfl rfl)
theorem dX1_longestWait_2 : decode cX1_longestWait 2 = .ok (.aload_n 0, 1) := dk_42 (dk_at dksX1_longestWait_0 2 rfl rfl)
theorem dX1_longestWait_3 : decode cX1_longestWait 3 = .ok (.getfield 10, 3) := dk_180 0 10 (dk_at dksX1_longestWait_0 3 rfl rfl)
theorem dX1_longestWait_6 : decode cX1_longestWait 6 = .ok (.getfield 89, 3) := dk_180 0 89 (dk_at dksX1_longestWait_0 6 rfl rfl)
theorem dX1_longestWait_9 : decode cX1_longestWait 9 = .ok (.invokevirtual 248, 3) := dk_182 0 248 (dk_at dksX1_longestWait_0 9 rfl rfl)
theorem dX1_longestWait_12 : decode cX1_longestWait 12 = .ok (.invokeinterface 252 1, 5) := by decide +kernel
theorem dX1_longestWait_17 : decode cX1_longestWait 17 = .ok (.astore_n 2, 1) := dk_77 (dk_at dksX1_longestWait_0 17 rfl rfl)
theorem dX1_longestWait_18 : decode cX1_longestWait 18 = .ok (.aload_n 2, 1) := dk_44 (dk_at dksX1_longestWait_0 18 rfl rfl)
theorem dX1_longestWait_19 : decode cX1_longestWait 19 = .ok (.invokeinterface 258 1, 5) := by decide +kernel
theorem dX1_longestWait_24 : decode cX1_longestWait 24 = .ok (.ifCond .eq 73, 3) := dk_153 0 73 (dk_at dksX1_longestWait_1 0 rfl rfl)
theorem dX1_longestWait_27 : decode cX1_longestWait 27 = .ok (.aload_n 2, 1) := dk_44 (dk_at dksX1_longestWait_1 3 rfl rfl)
theorem dX1_longestWait_28 : decode cX1_longestWait 28 = .ok (.invokeinterface 263 1, 5) := by decide +kernel
theorem dX1_longestWait_33 : decode cX1_longestWait 33 = .ok (.checkcast 113, 3) := dk_192 0 113 (dk_at dksX1_longestWait_1 9 rfl rfl)
theorem dX1_longestWait_36 : decode cX1_longestWait 36 = .ok (.astore_n 3, 1) := dk_78 (dk_at dksX1_longestWait_1 12 rfl rfl)
theorem dX1_longestWait_37 : decode cX1_longestWait 37 = .ok (.aload_n 3, 1) := dk_45 (dk_at dksX1_longestWait_1 13 rfl rfl)
theorem dX1_longestWait_38 : decode cX1_longestWait 38 = .ok (.getfield 149, 3) := dk_180 0 149 (dk_at dksX1_longestWait_1 14 rfl rfl)
theorem dX1_longestWait_41 : decode cX1_longestWait 41 = .ok (.invokevirtual 277, 3) := dk_182 1 21 (dk_at dksX1_longestWait_1 17 rfl rfl)
theorem dX1_longestWait_44 : decode cX1_longestWait 44 = .ok (.astore 4, 2) := dk_58 4 (dk_at dksX1_longestWait_1 20 rfl rfl)
theorem dX1_longestWait_46 : decode cX1_longestWait 46 = .ok (.aload 4, 2) := dk_25 4 (dk_at dksX1_longestWait_1 22 rfl rfl)
theorem dX1_longestWait_48 : decode cX1_longestWait 48 = .ok (.invokeinterface 258 1, 5) := by decide +kernel
theorem dX1_longestWait_53 : decode cX1_longestWait 53 = .ok (.ifCond .eq 41, 3) := dk_153 0 41 (dk_at dksX1_longestWait_2 5 rfl rfl)
theorem dX1_longestWait_56 : decode cX1_longestWait 56 = .ok (.aload 4, 2) := dk_25 4 (dk_at dksX1_longestWait_2 8 rfl rfl)
theorem dX1_longestWait_58 : decode cX1_longestWait 58 = .ok (.invokeinterface 263 1, 5) := by decide +kernel
theorem dX1_longestWait_63 : decode cX1_longestWait 63 = .ok (.checkcast 159, 3) := dk_192 0 159 (dk_at dksX1_longestWait_2 15 rfl rfl)
theorem dX1_longestWait_66 : decode cX1_longestWait 66 = .ok (.astore 5, 2) := dk_58 5 (dk_at dksX1_longestWait_2 18 rfl rfl)
theorem dX1_longestWait_68 : decode cX1_longestWait 68 = .ok (.aload_n 1, 1) := dk_43 (dk_at dksX1_longestWait_2 20 rfl rfl)
theorem dX1_longestWait_69 : decode cX1_longestWait 69 = .ok (.ifnull 15, 3) := dk_198 0 15 (dk_at dksX1_longestWait_2 21 rfl rfl)
theorem dX1_longestWait_72 : decode cX1_longestWait 72 = .ok (.aload 5, 2) := dk_25 5 (dk_at dksX1_longestWait_3 0 rfl rfl)
theorem dX1_longestWait_74 : decode cX1_longestWait 74 = .ok (.getfield 182, 3) := dk_180 0 182 (dk_at dksX1_longestWait_3 2 rfl rfl)
theorem dX1_longestWait_77 : decode cX1_longestWait 77 = .ok (.aload_n 1, 1) := dk_43 (dk_at dksX1_longestWait_3 5 rfl rfl)
theorem dX1_longestWait_78 : decode cX1_longestWait 78 = .ok (.getfield 182, 3) := dk_180 0 182 (dk_at dksX1_longestWait_3 6 rfl rfl)
theorem dX1_longestWait_81 : decode cX1_longestWait 81 = .ok (.if_icmp .ge 8, 3) := dk_162 0 8 (dk_at dksX1_longestWait_3 9 rfl rfl)
theorem dX1_longestWait_84 : decode cX1_longestWait 84 = .ok (.aload 5, 2) := dk_25 5 (dk_at dksX1_longestWait_3 12 rfl rfl)
theorem dX1_longestWait_86 : decode cX1_longestWait 86 = .ok (.goto 4, 3) := dk_167 0 4 (dk_at dksX1_longestWait_3 14 rfl rfl)
theorem dX1_longestWait_89 : decode cX1_longestWait 89 = .ok (.aload_n 1, 1) := dk_43 (dk_at dksX1_longestWait_3 17 rfl rfl)
theorem dX1_longestWait_90 : decode cX1_longestWait 90 = .ok (.astore_n 1, 1) := dk_76 (dk_at dksX1_longestWait_3 18 rfl rfl)
theorem dX1_longestWait_91 : decode cX1_longestWait 91 = .ok (.goto (-45), 3) := dk_167 255 211 (dk_at dksX1_longestWait_3 19 rfl rfl)
theorem dX1_longestWait_94 : decode cX1_longestWait 94 = .ok (.goto (-76), 3) := dk_167 255 180 (dk_at dksX1_longestWait_4 0 rfl rfl)
theorem dX1_longestWait_97 : decode cX1_longestWait 97 = .ok (.aload_n 1, 1) := dk_43 (dk_at dksX1_longestWait_4 3 rfl rfl)
theorem dX1_longestWait_98 : decode cX1_longestWait 98 = .ok (.ifnull 7, 3) := dk_198 0 7 (dk_at dksX1_longestWait_4 4 rfl rfl)
theorem dX1_longestWait_101 : decode cX1_longestWait 101 = .ok (.iconst 1, 1) := dk_4 (dk_at dksX1_longestWait_4 7 rfl rfl)
theorem dX1_longestWait_102 : decode cX1_longestWait 102 = .ok (.goto 4, 3) := dk_167 0 4 (dk_at dksX1_longestWait_4 8 rfl rfl)
theorem dX1_longestWait_105 : decode cX1_longestWait 105 = .ok (.iconst 0, 1) := dk_3 (dk_at dksX1_longestWait_4 11 rfl rfl)
theorem dX1_longestWait_106 : decode cX1_longestWait 106 = .ok (.invokestatic 245, 3) := dk_184 0 245 (dk_at dksX1_longestWait_4 12 rfl rfl)
theorem dX1_longestWait_109 : decode cX1_longestWait 109 = .ok (.aload_n 1, 1) := dk_43 (dk_at dksX1_longestWait_4 15 rfl rfl)
theorem dX1_longestWait_110 : decode cX1_longestWait 110 = .ok (.ifnonnull 7, 3) := dk_199 0 7 (dk_at dksX1_longestWait_4 16 rfl rfl)
theorem dX1_longestWait_113 : decode cX1_longestWait 113 = .ok (.iconst 0, 1) := dk_3 (dk_at dksX1_longestWait_4 19 rfl rfl)
theorem dX1_longestWait_114 : decode cX1_longestWait 114 = .ok (.goto 7, 3) := dk_167 0 7 (dk_at dksX1_longestWait_4 20 rfl rfl)
theorem dX1_longestWait_117 : decode cX1_longestWait 117 = .ok (.aload_n 1, 1) := dk_43 (dk_at dksX1_longestWait_4 23 rfl rfl)
theorem dX1_longestWait_118 : decode cX1_longestWait 118 = .ok (.getfield 182, 3) := dk_180 0 182 (dk_at dksX1_longestWait_5 0 rfl rfl)
theorem dX1_longestWait_121 : decode cX1_longestWait 121 = .ok (.ireturn, 1) := dk_172 (dk_at dksX1_longestWait_5 3 rfl rfl)
abbrev cX1_greatest : ByteArray := prog_1_method_44_code
def yX1_greatest : MethodName := ⟨RX1, "greatest", "()I"⟩
def dkwX1_greatest_3 : List UInt8 := [167, 255, 207, 27, 2, 159, 0, 7, 4, 167, 0, 4, 3, 184, 0, 245, 27, 172]
abbrev dktX1_greatest_3 : List UInt8 := dkwX1_greatest_3 ++ []
def dkwX1_greatest_2 : List UInt8 := [28, 164, 0, 11, 25, 4, 180, 1, 10, 167, 0, 4, 27, 60, 28, 25, 4, 182, 1, 26, 184, 1, 82, 61]
abbrev dktX1_greatest_2 : List UInt8 := dkwX1_greatest_2 ++ dktX1_greatest_3
def dkwX1_greatest_1 : List UInt8 := [185, 1, 2, 1, 0, 153, 0, 46, 45, 185, 1, 7, 1, 0, 192, 0, 113, 58, 4, 25, 4, 182, 1, 26]
abbrev dktX1_greatest_1 : List UInt8 := dkwX1_greatest_1 ++ dktX1_greatest_2
def dkwX1_greatest_0 : List UInt8 := [2, 60, 2, 61, 42, 180, 0, 10, 180, 0, 89, 182, 0, 248, 185, 0, 252, 1, 0, 78, 45]
abbrev dktX1_greatest_0 : List UInt8 := dkwX1_greatest_0 ++ dktX1_greatest_1
theorem dksX1_greatest_0 : cX1_greatest.data.toList.drop 0 = dktX1_greatest_0 := by decide +kernel
theorem dksX1_greatest_1 : cX1_greatest.data.toList.drop 21 = dktX1_greatest_1 := dk_seg dksX1_greatest_0 21 rfl rfl
theorem dksX1_greatest_2 : cX1_greatest.data.toList.drop 45 = dktX1_greatest_2 := dk_seg dksX1_greatest_1 24 rfl rfl
theorem dksX1_greatest_3 : cX1_greatest.data.toList.drop 69 = dktX1_greatest_3 := dk_seg dksX1_greatest_2 24 rfl rfl
theorem dX1_greatest_0 : decode cX1_greatest 0 = .ok (.iconst (-1), 1) := dk_2 (dk_at dksX1_greatest_0 0 rfl rfl)
theorem dX1_greatest_1 : decode cX1_greatest 1 = .ok (.istore_n 1, 1) := dk_60 (dk_at dksX1_greatest_0 1 rfl rfl)
theorem dX1_greatest_2 : decode cX1_greatest 2 = .ok (.iconst (-1), 1) := dk_2 (dk_at dksX1_greatest_0 2 rfl rfl)
theorem dX1_greatest_3 : decode cX1_greatest 3 = .ok (.istore_n 2, 1) := dk_61 (dk_at dksX1_greatest_0 3 rfl rfl)
theorem dX1_greatest_4 : decode cX1_greatest 4 = .ok (.aload_n 0, 1) := dk_42 (dk_at dksX1_greatest_0 4 rfl rfl)
theorem dX1_greatest_5 : decode cX1_greatest 5 = .ok (.getfield 10, 3) := dk_180 0 10 (dk_at dksX1_greatest_0 5 rfl rfl)
theorem dX1_greatest_8 : decode cX1_greatest 8 = .ok (.getfield 89, 3) := dk_180 0 89 (dk_at dksX1_greatest_0 8 rfl rfl)
theorem dX1_greatest_11 : decode cX1_greatest 11 = .ok (.invokevirtual 248, 3) := dk_182 0 248 (dk_at dksX1_greatest_0 11 rfl rfl)
theorem dX1_greatest_14 : decode cX1_greatest 14 = .ok (.invokeinterface 252 1, 5) := by decide +kernel
theorem dX1_greatest_19 : decode cX1_greatest 19 = .ok (.astore_n 3, 1) := dk_78 (dk_at dksX1_greatest_0 19 rfl rfl)
theorem dX1_greatest_20 : decode cX1_greatest 20 = .ok (.aload_n 3, 1) := dk_45 (dk_at dksX1_greatest_0 20 rfl rfl)
theorem dX1_greatest_21 : decode cX1_greatest 21 = .ok (.invokeinterface 258 1, 5) := by decide +kernel
theorem dX1_greatest_26 : decode cX1_greatest 26 = .ok (.ifCond .eq 46, 3) := dk_153 0 46 (dk_at dksX1_greatest_1 5 rfl rfl)
theorem dX1_greatest_29 : decode cX1_greatest 29 = .ok (.aload_n 3, 1) := dk_45 (dk_at dksX1_greatest_1 8 rfl rfl)
theorem dX1_greatest_30 : decode cX1_greatest 30 = .ok (.invokeinterface 263 1, 5) := by decide +kernel
theorem dX1_greatest_35 : decode cX1_greatest 35 = .ok (.checkcast 113, 3) := dk_192 0 113 (dk_at dksX1_greatest_1 14 rfl rfl)
theorem dX1_greatest_38 : decode cX1_greatest 38 = .ok (.astore 4, 2) := dk_58 4 (dk_at dksX1_greatest_1 17 rfl rfl)
theorem dX1_greatest_40 : decode cX1_greatest 40 = .ok (.aload 4, 2) := dk_25 4 (dk_at dksX1_greatest_1 19 rfl rfl)
theorem dX1_greatest_42 : decode cX1_greatest 42 = .ok (.invokevirtual 282, 3) := dk_182 1 26 (dk_at dksX1_greatest_1 21 rfl rfl)
theorem dX1_greatest_45 : decode cX1_greatest 45 = .ok (.iload_n 2, 1) := dk_28 (dk_at dksX1_greatest_2 0 rfl rfl)
theorem dX1_greatest_46 : decode cX1_greatest 46 = .ok (.if_icmp .le 11, 3) := dk_164 0 11 (dk_at dksX1_greatest_2 1 rfl rfl)
theorem dX1_greatest_49 : decode cX1_greatest 49 = .ok (.aload 4, 2) := dk_25 4 (dk_at dksX1_greatest_2 4 rfl rfl)
theorem dX1_greatest_51 : decode cX1_greatest 51 = .ok (.getfield 266, 3) := dk_180 1 10 (dk_at dksX1_greatest_2 6 rfl rfl)
theorem dX1_greatest_54 : decode cX1_greatest 54 = .ok (.goto 4, 3) := dk_167 0 4 (dk_at dksX1_greatest_2 9 rfl rfl)
theorem dX1_greatest_57 : decode cX1_greatest 57 = .ok (.iload_n 1, 1) := dk_27 (dk_at dksX1_greatest_2 12 rfl rfl)
theorem dX1_greatest_58 : decode cX1_greatest 58 = .ok (.istore_n 1, 1) := dk_60 (dk_at dksX1_greatest_2 13 rfl rfl)
theorem dX1_greatest_59 : decode cX1_greatest 59 = .ok (.iload_n 2, 1) := dk_28 (dk_at dksX1_greatest_2 14 rfl rfl)
theorem dX1_greatest_60 : decode cX1_greatest 60 = .ok (.aload 4, 2) := dk_25 4 (dk_at dksX1_greatest_2 15 rfl rfl)
theorem dX1_greatest_62 : decode cX1_greatest 62 = .ok (.invokevirtual 282, 3) := dk_182 1 26 (dk_at dksX1_greatest_2 17 rfl rfl)
theorem dX1_greatest_65 : decode cX1_greatest 65 = .ok (.invokestatic 338, 3) := dk_184 1 82 (dk_at dksX1_greatest_2 20 rfl rfl)
theorem dX1_greatest_68 : decode cX1_greatest 68 = .ok (.istore_n 2, 1) := dk_61 (dk_at dksX1_greatest_2 23 rfl rfl)
theorem dX1_greatest_69 : decode cX1_greatest 69 = .ok (.goto (-49), 3) := dk_167 255 207 (dk_at dksX1_greatest_3 0 rfl rfl)
theorem dX1_greatest_72 : decode cX1_greatest 72 = .ok (.iload_n 1, 1) := dk_27 (dk_at dksX1_greatest_3 3 rfl rfl)
theorem dX1_greatest_73 : decode cX1_greatest 73 = .ok (.iconst (-1), 1) := dk_2 (dk_at dksX1_greatest_3 4 rfl rfl)
theorem dX1_greatest_74 : decode cX1_greatest 74 = .ok (.if_icmp .eq 7, 3) := dk_159 0 7 (dk_at dksX1_greatest_3 5 rfl rfl)
theorem dX1_greatest_77 : decode cX1_greatest 77 = .ok (.iconst 1, 1) := dk_4 (dk_at dksX1_greatest_3 8 rfl rfl)
theorem dX1_greatest_78 : decode cX1_greatest 78 = .ok (.goto 4, 3) := dk_167 0 4 (dk_at dksX1_greatest_3 9 rfl rfl)
theorem dX1_greatest_81 : decode cX1_greatest 81 = .ok (.iconst 0, 1) := dk_3 (dk_at dksX1_greatest_3 12 rfl rfl)
theorem dX1_greatest_82 : decode cX1_greatest 82 = .ok (.invokestatic 245, 3) := dk_184 0 245 (dk_at dksX1_greatest_3 13 rfl rfl)
theorem dX1_greatest_85 : decode cX1_greatest 85 = .ok (.iload_n 1, 1) := dk_27 (dk_at dksX1_greatest_3 16 rfl rfl)
theorem dX1_greatest_86 : decode cX1_greatest 86 = .ok (.ireturn, 1) := dk_172 (dk_at dksX1_greatest_3 17 rfl rfl)
abbrev cX1_append : ByteArray := prog_1_method_48_code
def yX1_append : MethodName := ⟨RX1, "append", "(C)I"⟩
def dkwX1_append_1 : List UInt8 := [167, 0, 4, 3, 184, 1, 101, 42, 180, 0, 26, 27, 182, 1, 104, 87, 42, 180, 0, 26, 182, 1, 98, 172]
abbrev dktX1_append_1 : List UInt8 := dkwX1_append_1 ++ []
def dkwX1_append_0 : List UInt8 := [27, 16, 33, 16, 126, 184, 0, 49, 184, 0, 238, 42, 180, 0, 26, 182, 1, 98, 16, 60, 162, 0, 7, 4]
abbrev dktX1_append_0 : List UInt8 := dkwX1_append_0 ++ dktX1_append_1
theorem dksX1_append_0 : cX1_append.data.toList.drop 0 = dktX1_append_0 := by decide +kernel
theorem dksX1_append_1 : cX1_append.data.toList.drop 24 = dktX1_append_1 := dk_seg dksX1_append_0 24 rfl rfl
theorem dX1_append_0 : decode cX1_append 0 = .ok (.iload_n 1, 1) := dk_27 (dk_at dksX1_append_0 0 rfl rfl)
theorem dX1_append_1 : decode cX1_append 1 = .ok (.bipush 33, 2) := dk_16 33 (dk_at dksX1_append_0 1 rfl rfl)
theorem dX1_append_3 : decode cX1_append 3 = .ok (.bipush 126, 2) := dk_16 126 (dk_at dksX1_append_0 3 rfl rfl)
theorem dX1_append_5 : decode cX1_append 5 = .ok (.invokestatic 49, 3) := dk_184 0 49 (dk_at dksX1_append_0 5 rfl rfl)
theorem dX1_append_8 : decode cX1_append 8 = .ok (.invokestatic 238, 3) := dk_184 0 238 (dk_at dksX1_append_0 8 rfl rfl)
theorem dX1_append_11 : decode cX1_append 11 = .ok (.aload_n 0, 1) := dk_42 (dk_at dksX1_append_0 11 rfl rfl)
theorem dX1_append_12 : decode cX1_append 12 = .ok (.getfield 26, 3) := dk_180 0 26 (dk_at dksX1_append_0 12 rfl rfl)
theorem dX1_append_15 : decode cX1_append 15 = .ok (.invokevirtual 354, 3) := dk_182 1 98 (dk_at dksX1_append_0 15 rfl rfl)
theorem dX1_append_18 : decode cX1_append 18 = .ok (.bipush 60, 2) := dk_16 60 (dk_at dksX1_append_0 18 rfl rfl)
theorem dX1_append_20 : decode cX1_append 20 = .ok (.if_icmp .ge 7, 3) := dk_162 0 7 (dk_at dksX1_append_0 20 rfl rfl)
theorem dX1_append_23 : decode cX1_append 23 = .ok (.iconst 1, 1) := dk_4 (dk_at dksX1_append_0 23 rfl rfl)
theorem dX1_append_24 : decode cX1_append 24 = .ok (.goto 4, 3) := dk_167 0 4 (dk_at dksX1_append_1 0 rfl rfl)
theorem dX1_append_27 : decode cX1_append 27 = .ok (.iconst 0, 1) := dk_3 (dk_at dksX1_append_1 3 rfl rfl)
theorem dX1_append_28 : decode cX1_append 28 = .ok (.invokestatic 357, 3) := dk_184 1 101 (dk_at dksX1_append_1 4 rfl rfl)
theorem dX1_append_31 : decode cX1_append 31 = .ok (.aload_n 0, 1) := dk_42 (dk_at dksX1_append_1 7 rfl rfl)
theorem dX1_append_32 : decode cX1_append 32 = .ok (.getfield 26, 3) := dk_180 0 26 (dk_at dksX1_append_1 8 rfl rfl)
theorem dX1_append_35 : decode cX1_append 35 = .ok (.iload_n 1, 1) := dk_27 (dk_at dksX1_append_1 11 rfl rfl)
theorem dX1_append_36 : decode cX1_append 36 = .ok (.invokevirtual 360, 3) := dk_182 1 104 (dk_at dksX1_append_1 12 rfl rfl)
theorem dX1_append_39 : decode cX1_append 39 = .ok (.pop, 1) := dk_87 (dk_at dksX1_append_1 15 rfl rfl)
theorem dX1_append_40 : decode cX1_append 40 = .ok (.aload_n 0, 1) := dk_42 (dk_at dksX1_append_1 16 rfl rfl)
theorem dX1_append_41 : decode cX1_append 41 = .ok (.getfield 26, 3) := dk_180 0 26 (dk_at dksX1_append_1 17 rfl rfl)
theorem dX1_append_44 : decode cX1_append 44 = .ok (.invokevirtual 354, 3) := dk_182 1 98 (dk_at dksX1_append_1 20 rfl rfl)
theorem dX1_append_47 : decode cX1_append 47 = .ok (.ireturn, 1) := dk_172 (dk_at dksX1_append_1 23 rfl rfl)
abbrev cX1_checkState : ByteArray := prog_1_method_9_code
def yX1_checkState : MethodName := ⟨RX1, "checkState", "(Z)V"⟩
def dkwX1_checkState_0 : List UInt8 := [26, 154, 0, 11, 187, 0, 66, 89, 183, 0, 68, 191, 177]
abbrev dktX1_checkState_0 : List UInt8 := dkwX1_checkState_0 ++ []
theorem dksX1_checkState_0 : cX1_checkState.data.toList.drop 0 = dktX1_checkState_0 := by decide +kernel
theorem dX1_checkState_0 : decode cX1_checkState 0 = .ok (.iload_n 0, 1) := dk_26 (dk_at dksX1_checkState_0 0 rfl rfl)
theorem dX1_checkState_1 : decode cX1_checkState 1 = .ok (.ifCond .ne 11, 3) := dk_154 0 11 (dk_at dksX1_checkState_0 1 rfl rfl)
theorem dX1_checkState_4 : decode cX1_checkState 4 = .ok (.new 66, 3) := dk_187 0 66 (dk_at dksX1_checkState_0 4 rfl rfl)
theorem dX1_checkState_7 : decode cX1_checkState 7 = .ok (.dup, 1) := dk_89 (dk_at dksX1_checkState_0 7 rfl rfl)
theorem dX1_checkState_8 : decode cX1_checkState 8 = .ok (.invokespecial 68, 3) := dk_183 0 68 (dk_at dksX1_checkState_0 8 rfl rfl)
theorem dX1_checkState_11 : decode cX1_checkState 11 = .ok (.athrow, 1) := dk_191 (dk_at dksX1_checkState_0 11 rfl rfl)
theorem dX1_checkState_12 : decode cX1_checkState 12 = .ok (.return_, 1) := dk_177 (dk_at dksX1_checkState_0 12 rfl rfl)
abbrev cX1_run : ByteArray := prog_1_method_49_code
def yX1_run : MethodName := ⟨RX1, "run", "()I"⟩
def dkwX1_run_2 : List UInt8 := [180, 1, 123, 154, 0, 7, 4, 167, 0, 4, 3, 184, 0, 238, 42, 43, 180, 1, 127, 182, 1, 130, 172]
abbrev dktX1_run_2 : List UInt8 := dkwX1_run_2 ++ []
def dkwX1_run_1 : List UInt8 := [43, 182, 1, 120, 42, 43, 180, 1, 123, 153, 0, 10, 43, 180, 1, 126, 167, 0, 4, 2, 181, 0, 33, 43]
abbrev dktX1_run_1 : List UInt8 := dkwX1_run_1 ++ dktX1_run_2
def dkwX1_run_0 : List UInt8 := [187, 1, 108, 89, 42, 42, 180, 0, 26, 182, 1, 110, 183, 1, 114, 76, 42, 180, 0, 26, 3, 182, 1, 117]
abbrev dktX1_run_0 : List UInt8 := dkwX1_run_0 ++ dktX1_run_1
theorem dksX1_run_0 : cX1_run.data.toList.drop 0 = dktX1_run_0 := by decide +kernel
theorem dksX1_run_1 : cX1_run.data.toList.drop 24 = dktX1_run_1 := dk_seg dksX1_run_0 24 rfl rfl
theorem dksX1_run_2 : cX1_run.data.toList.drop 48 = dktX1_run_2 := dk_seg dksX1_run_1 24 rfl rfl
theorem dX1_run_0 : decode cX1_run 0 = .ok (.new 364, 3) := dk_187 1 108 (dk_at dksX1_run_0 0 rfl rfl)
theorem dX1_run_3 : decode cX1_run 3 = .ok (.dup, 1) := dk_89 (dk_at dksX1_run_0 3 rfl rfl)
theorem dX1_run_4 : decode cX1_run 4 = .ok (.aload_n 0, 1) := dk_42 (dk_at dksX1_run_0 4 rfl rfl)
theorem dX1_run_5 : decode cX1_run 5 = .ok (.aload_n 0, 1) := dk_42 (dk_at dksX1_run_0 5 rfl rfl)
theorem dX1_run_6 : decode cX1_run 6 = .ok (.getfield 26, 3) := dk_180 0 26 (dk_at dksX1_run_0 6 rfl rfl)
theorem dX1_run_9 : decode cX1_run 9 = .ok (.invokevirtual 366, 3) := dk_182 1 110 (dk_at dksX1_run_0 9 rfl rfl)
theorem dX1_run_12 : decode cX1_run 12 = .ok (.invokespecial 370, 3) := dk_183 1 114 (dk_at dksX1_run_0 12 rfl rfl)
theorem dX1_run_15 : decode cX1_run 15 = .ok (.astore_n 1, 1) := dk_76 (dk_at dksX1_run_0 15 rfl rfl)
theorem dX1_run_16 : decode cX1_run 16 = .ok (.aload_n 0, 1) := dk_42 (dk_at dksX1_run_0 16 rfl rfl)
theorem dX1_run_17 : decode cX1_run 17 = .ok (.getfield 26, 3) := dk_180 0 26 (dk_at dksX1_run_0 17 rfl rfl)
theorem dX1_run_20 : decode cX1_run 20 = .ok (.iconst 0, 1) := dk_3 (dk_at dksX1_run_0 20 rfl rfl)
theorem dX1_run_21 : decode cX1_run 21 = .ok (.invokevirtual 373, 3) := dk_182 1 117 (dk_at dksX1_run_0 21 rfl rfl)
theorem dX1_run_24 : decode cX1_run 24 = .ok (.aload_n 1, 1) := dk_43 (dk_at dksX1_run_1 0 rfl rfl)
theorem dX1_run_25 : decode cX1_run 25 = .ok (.invokevirtual 376, 3) := dk_182 1 120 (dk_at dksX1_run_1 1 rfl rfl)
theorem dX1_run_28 : decode cX1_run 28 = .ok (.aload_n 0, 1) := dk_42 (dk_at dksX1_run_1 4 rfl rfl)
theorem dX1_run_29 : decode cX1_run 29 = .ok (.aload_n 1, 1) := dk_43 (dk_at dksX1_run_1 5 rfl rfl)
theorem dX1_run_30 : decode cX1_run 30 = .ok (.getfield 379, 3) := dk_180 1 123 (dk_at dksX1_run_1 6 rfl rfl)
theorem dX1_run_33 : decode cX1_run 33 = .ok (.ifCond .eq 10, 3) := dk_153 0 10 (dk_at dksX1_run_1 9 rfl rfl)
theorem dX1_run_36 : decode cX1_run 36 = .ok (.aload_n 1, 1) := dk_43 (dk_at dksX1_run_1 12 rfl rfl)
theorem dX1_run_37 : decode cX1_run 37 = .ok (.getfield 382, 3) := dk_180 1 126 (dk_at dksX1_run_1 13 rfl rfl)
theorem dX1_run_40 : decode cX1_run 40 = .ok (.goto 4, 3) := dk_167 0 4 (dk_at dksX1_run_1 16 rfl rfl)
theorem dX1_run_43 : decode cX1_run 43 = .ok (.iconst (-1), 1) := dk_2 (dk_at dksX1_run_1 19 rfl rfl)
theorem dX1_run_44 : decode cX1_run 44 = .ok (.putfield 33, 3) := dk_181 0 33 (dk_at dksX1_run_1 20 rfl rfl)
theorem dX1_run_47 : decode cX1_run 47 = .ok (.aload_n 1, 1) := dk_43 (dk_at dksX1_run_1 23 rfl rfl)
theorem dX1_run_48 : decode cX1_run 48 = .ok (.getfield 379, 3) := dk_180 1 123 (dk_at dksX1_run_2 0 rfl rfl)
theorem dX1_run_51 : decode cX1_run 51 = .ok (.ifCond .ne 7, 3) := dk_154 0 7 (dk_at dksX1_run_2 3 rfl rfl)
theorem dX1_run_54 : decode cX1_run 54 = .ok (.iconst 1, 1) := dk_4 (dk_at dksX1_run_2 6 rfl rfl)
theorem dX1_run_55 : decode cX1_run 55 = .ok (.goto 4, 3) := dk_167 0 4 (dk_at dksX1_run_2 7 rfl rfl)
theorem dX1_run_58 : decode cX1_run 58 = .ok (.iconst 0, 1) := dk_3 (dk_at dksX1_run_2 10 rfl rfl)
theorem dX1_run_59 : decode cX1_run 59 = .ok (.invokestatic 238, 3) := dk_184 0 238 (dk_at dksX1_run_2 11 rfl rfl)
theorem dX1_run_62 : decode cX1_run 62 = .ok (.aload_n 0, 1) := dk_42 (dk_at dksX1_run_2 14 rfl rfl)
theorem dX1_run_63 : decode cX1_run 63 = .ok (.aload_n 1, 1) := dk_43 (dk_at dksX1_run_2 15 rfl rfl)
theorem dX1_run_64 : decode cX1_run 64 = .ok (.getfield 383, 3) := dk_180 1 127 (dk_at dksX1_run_2 16 rfl rfl)
theorem dX1_run_67 : decode cX1_run 67 = .ok (.invokevirtual 386, 3) := dk_182 1 130 (dk_at dksX1_run_2 19 rfl rfl)
theorem dX1_run_70 : decode cX1_run 70 = .ok (.ireturn, 1) := dk_172 (dk_at dksX1_run_2 22 rfl rfl)
abbrev cX1_doAll : ByteArray := prog_1_method_47_code
def yX1_doAll : MethodName := ⟨RX1, "doAll", "(Ljava/util/ArrayList;)I"⟩
def dkwX1_doAll_5 : List UInt8 := [182, 0, 128, 42, 25, 4, 181, 0, 10, 29, 172]
abbrev dktX1_doAll_5 : List UInt8 := dkwX1_doAll_5 ++ []
def dkwX1_doAll_4 : List UInt8 := [58, 6, 42, 3, 181, 0, 69, 25, 6, 191, 42, 180, 0, 10, 58, 4, 42, 44, 181, 0, 10, 42]
abbrev dktX1_doAll_4 : List UInt8 := dkwX1_doAll_4 ++ dktX1_doAll_5
def dkwX1_doAll_3 : List UInt8 := [181, 0, 10, 42, 187, 0, 37, 89, 16, 10, 29, 42, 180, 0, 42, 183, 0, 39, 181, 0, 42, 25, 4, 191]
abbrev dktX1_doAll_3 : List UInt8 := dkwX1_doAll_3 ++ dktX1_doAll_4
def dkwX1_doAll_2 : List UInt8 := [25, 5, 182, 1, 95, 132, 3, 1, 167, 255, 226, 42, 3, 181, 0, 69, 167, 0, 41, 58, 4, 42, 44]
abbrev dktX1_doAll_2 : List UInt8 := dkwX1_doAll_2 ++ dktX1_doAll_3
def dkwX1_doAll_1 : List UInt8 := [58, 4, 25, 4, 185, 1, 2, 1, 0, 153, 0, 26, 25, 4, 185, 1, 7, 1, 0, 192, 1, 93, 58, 5]
abbrev dktX1_doAll_1 : List UInt8 := dkwX1_doAll_1 ++ dktX1_doAll_2
def dkwX1_doAll_0 : List UInt8 := [42, 180, 0, 10, 77, 42, 44, 182, 0, 73, 181, 0, 10, 42, 4, 181, 0, 69, 3, 62, 43, 182, 1, 21]
abbrev dktX1_doAll_0 : List UInt8 := dkwX1_doAll_0 ++ dktX1_doAll_1
theorem dksX1_doAll_0 : cX1_doAll.data.toList.drop 0 = dktX1_doAll_0 := by decide +kernel
theorem dksX1_doAll_1 : cX1_doAll.data.toList.drop 24 = dktX1_doAll_1 := dk_seg dksX1_doAll_0 24 rfl rfl
theorem dksX1_doAll_2 : cX1_doAll.data.toList.drop 48 = dktX1_doAll_2 := dk_seg dksX1_doAll_1 24 rfl rfl
theorem dksX1_doAll_3 : cX1_doAll.data.toList.drop 71 = dktX1_doAll_3 := dk_seg dksX1_doAll_2 23 rfl rfl
theorem dksX1_doAll_4 : cX1_doAll.data.toList.drop 95 = dktX1_doAll_4 := dk_seg dksX1_doAll_3 24 rfl rfl
theorem dksX1_doAll_5 : cX1_doAll.data.toList.drop 117 = dktX1_doAll_5 := dk_seg dksX1_doAll_4 22 rfl rfl
theorem dX1_doAll_0 : decode cX1_doAll 0 = .ok (.aload_n 0, 1) := dk_42 (dk_at dksX1_doAll_0 0 rfl rfl)
theorem dX1_doAll_1 : decode cX1_doAll 1 = .ok (.getfield 10, 3) := dk_180 0 10 (dk_at dksX1_doAll_0 1 rfl rfl)
theorem dX1_doAll_4 : decode cX1_doAll 4 = .ok (.astore_n 2, 1) := dk_77 (dk_at dksX1_doAll_0 4 rfl rfl)
theorem dX1_doAll_5 : decode cX1_doAll 5 = .ok (.aload_n 0, 1) := dk_42 (dk_at dksX1_doAll_0 5 rfl rfl)
theorem dX1_doAll_6 : decode cX1_doAll 6 = .ok (.aload_n 2, 1) := dk_44 (dk_at dksX1_doAll_0 6 rfl rfl)
theorem dX1_doAll_7 : decode cX1_doAll 7 = .ok (.invokevirtual 73, 3) := dk_182 0 73 (dk_at dksX1_doAll_0 7 rfl rfl)
theorem dX1_doAll_10 : decode cX1_doAll 10 = .ok (.putfield 10, 3) := dk_181 0 10 (dk_at dksX1_doAll_0 10 rfl rfl)
theorem dX1_doAll_13 : decode cX1_doAll 13 = .ok (.aload_n 0, 1) := dk_42 (dk_at dksX1_doAll_0 13 rfl rfl)
theorem dX1_doAll_14 : decode cX1_doAll 14 = .ok (.iconst 1, 1) := dk_4 (dk_at dksX1_doAll_0 14 rfl rfl)
theorem dX1_doAll_15 : decode cX1_doAll 15 = .ok (.putfield 69, 3) := dk_181 0 69 (dk_at dksX1_doAll_0 15 rfl rfl)
theorem dX1_doAll_18 : decode cX1_doAll 18 = .ok (.iconst 0, 1) := dk_3 (dk_at dksX1_doAll_0 18 rfl rfl)
theorem dX1_doAll_19 : decode cX1_doAll 19 = .ok (.istore_n 3, 1) := dk_62 (dk_at dksX1_doAll_0 19 rfl rfl)
theorem dX1_doAll_20 : decode cX1_doAll 20 = .ok (.aload_n 1, 1) := dk_43 (dk_at dksX1_doAll_0 20 rfl rfl)
theorem dX1_doAll_21 : decode cX1_doAll 21 = .ok (.invokevirtual 277, 3) := dk_182 1 21 (dk_at dksX1_doAll_0 21 rfl rfl)
theorem dX1_doAll_24 : decode cX1_doAll 24 = .ok (.astore 4, 2) := dk_58 4 (dk_at dksX1_doAll_1 0 rfl rfl)
theorem dX1_doAll_26 : decode cX1_doAll 26 = .ok (.aload 4, 2) := dk_25 4 (dk_at dksX1_doAll_1 2 rfl rfl)
theorem dX1_doAll_28 : decode cX1_doAll 28 = .ok (.invokeinterface 258 1, 5) := by decide +kernel
theorem dX1_doAll_33 : decode cX1_doAll 33 = .ok (.ifCond .eq 26, 3) := dk_153 0 26 (dk_at dksX1_doAll_1 9 rfl rfl)
theorem dX1_doAll_36 : decode cX1_doAll 36 = .ok (.aload 4, 2) := dk_25 4 (dk_at dksX1_doAll_1 12 rfl rfl)
theorem dX1_doAll_38 : decode cX1_doAll 38 = .ok (.invokeinterface 263 1, 5) := by decide +kernel
theorem dX1_doAll_43 : decode cX1_doAll 43 = .ok (.checkcast 349, 3) := dk_192 1 93 (dk_at dksX1_doAll_1 19 rfl rfl)
theorem dX1_doAll_46 : decode cX1_doAll 46 = .ok (.astore 5, 2) := dk_58 5 (dk_at dksX1_doAll_1 22 rfl rfl)
theorem dX1_doAll_48 : decode cX1_doAll 48 = .ok (.aload 5, 2) := dk_25 5 (dk_at dksX1_doAll_2 0 rfl rfl)
theorem dX1_doAll_50 : decode cX1_doAll 50 = .ok (.invokevirtual 351, 3) := dk_182 1 95 (dk_at dksX1_doAll_2 2 rfl rfl)
theorem dX1_doAll_53 : decode cX1_doAll 53 = .ok (.iinc 3 1, 3) := dk_132 3 1 (dk_at dksX1_doAll_2 5 rfl rfl)
theorem dX1_doAll_56 : decode cX1_doAll 56 = .ok (.goto (-30), 3) := dk_167 255 226 (dk_at dksX1_doAll_2 8 rfl rfl)
theorem dX1_doAll_59 : decode cX1_doAll 59 = .ok (.aload_n 0, 1) := dk_42 (dk_at dksX1_doAll_2 11 rfl rfl)
theorem dX1_doAll_60 : decode cX1_doAll 60 = .ok (.iconst 0, 1) := dk_3 (dk_at dksX1_doAll_2 12 rfl rfl)
theorem dX1_doAll_61 : decode cX1_doAll 61 = .ok (.putfield 69, 3) := dk_181 0 69 (dk_at dksX1_doAll_2 13 rfl rfl)
theorem dX1_doAll_64 : decode cX1_doAll 64 = .ok (.goto 41, 3) := dk_167 0 41 (dk_at dksX1_doAll_2 16 rfl rfl)
theorem dX1_doAll_67 : decode cX1_doAll 67 = .ok (.astore 4, 2) := dk_58 4 (dk_at dksX1_doAll_2 19 rfl rfl)
theorem dX1_doAll_69 : decode cX1_doAll 69 = .ok (.aload_n 0, 1) := dk_42 (dk_at dksX1_doAll_2 21 rfl rfl)
theorem dX1_doAll_70 : decode cX1_doAll 70 = .ok (.aload_n 2, 1) := dk_44 (dk_at dksX1_doAll_2 22 rfl rfl)
theorem dX1_doAll_71 : decode cX1_doAll 71 = .ok (.putfield 10, 3) := dk_181 0 10 (dk_at dksX1_doAll_3 0 rfl rfl)
theorem dX1_doAll_74 : decode cX1_doAll 74 = .ok (.aload_n 0, 1) := dk_42 (dk_at dksX1_doAll_3 3 rfl rfl)
theorem dX1_doAll_75 : decode cX1_doAll 75 = .ok (.new 37, 3) := dk_187 0 37 (dk_at dksX1_doAll_3 4 rfl rfl)
theorem dX1_doAll_78 : decode cX1_doAll 78 = .ok (.dup, 1) := dk_89 (dk_at dksX1_doAll_3 7 rfl rfl)
theorem dX1_doAll_79 : decode cX1_doAll 79 = .ok (.bipush 10, 2) := dk_16 10 (dk_at dksX1_doAll_3 8 rfl rfl)
theorem dX1_doAll_81 : decode cX1_doAll 81 = .ok (.iload_n 3, 1) := dk_29 (dk_at dksX1_doAll_3 10 rfl rfl)
theorem dX1_doAll_82 : decode cX1_doAll 82 = .ok (.aload_n 0, 1) := dk_42 (dk_at dksX1_doAll_3 11 rfl rfl)
theorem dX1_doAll_83 : decode cX1_doAll 83 = .ok (.getfield 42, 3) := dk_180 0 42 (dk_at dksX1_doAll_3 12 rfl rfl)
theorem dX1_doAll_86 : decode cX1_doAll 86 = .ok (.invokespecial 39, 3) := dk_183 0 39 (dk_at dksX1_doAll_3 15 rfl rfl)
theorem dX1_doAll_89 : decode cX1_doAll 89 = .ok (.putfield 42, 3) := dk_181 0 42 (dk_at dksX1_doAll_3 18 rfl rfl)
theorem dX1_doAll_92 : decode cX1_doAll 92 = .ok (.aload 4, 2) := dk_25 4 (dk_at dksX1_doAll_3 21 rfl rfl)
theorem dX1_doAll_94 : decode cX1_doAll 94 = .ok (.athrow, 1) := dk_191 (dk_at dksX1_doAll_3 23 rfl rfl)
theorem dX1_doAll_95 : decode cX1_doAll 95 = .ok (.astore 6, 2) := dk_58 6 (dk_at dksX1_doAll_4 0 rfl rfl)
theorem dX1_doAll_97 : decode cX1_doAll 97 = .ok (.aload_n 0, 1) := dk_42 (dk_at dksX1_doAll_4 2 rfl rfl)
theorem dX1_doAll_98 : decode cX1_doAll 98 = .ok (.iconst 0, 1) := dk_3 (dk_at dksX1_doAll_4 3 rfl rfl)
theorem dX1_doAll_99 : decode cX1_doAll 99 = .ok (.putfield 69, 3) := dk_181 0 69 (dk_at dksX1_doAll_4 4 rfl rfl)
theorem dX1_doAll_102 : decode cX1_doAll 102 = .ok (.aload 6, 2) := dk_25 6 (dk_at dksX1_doAll_4 7 rfl rfl)
theorem dX1_doAll_104 : decode cX1_doAll 104 = .ok (.athrow, 1) := dk_191 (dk_at dksX1_doAll_4 9 rfl rfl)
theorem dX1_doAll_105 : decode cX1_doAll 105 = .ok (.aload_n 0, 1) := dk_42 (dk_at dksX1_doAll_4 10 rfl rfl)
theorem dX1_doAll_106 : decode cX1_doAll 106 = .ok (.getfield 10, 3) := dk_180 0 10 (dk_at dksX1_doAll_4 11 rfl rfl)
theorem dX1_doAll_109 : decode cX1_doAll 109 = .ok (.astore 4, 2) := dk_58 4 (dk_at dksX1_doAll_4 14 rfl rfl)
theorem dX1_doAll_111 : decode cX1_doAll 111 = .ok (.aload_n 0, 1) := dk_42 (dk_at dksX1_doAll_4 16 rfl rfl)
theorem dX1_doAll_112 : decode cX1_doAll 112 = .ok (.aload_n 2, 1) := dk_44 (dk_at dksX1_doAll_4 17 rfl rfl)
theorem dX1_doAll_113 : decode cX1_doAll 113 = .ok (.putfield 10, 3) := dk_181 0 10 (dk_at dksX1_doAll_4 18 rfl rfl)
theorem dX1_doAll_116 : decode cX1_doAll 116 = .ok (.aload_n 0, 1) := dk_42 (dk_at dksX1_doAll_4 21 rfl rfl)
theorem dX1_doAll_117 : decode cX1_doAll 117 = .ok (.invokevirtual 128, 3) := dk_182 0 128 (dk_at dksX1_doAll_5 0 rfl rfl)
theorem dX1_doAll_120 : decode cX1_doAll 120 = .ok (.aload_n 0, 1) := dk_42 (dk_at dksX1_doAll_5 3 rfl rfl)
theorem dX1_doAll_121 : decode cX1_doAll 121 = .ok (.aload 4, 2) := dk_25 4 (dk_at dksX1_doAll_5 4 rfl rfl)
theorem dX1_doAll_123 : decode cX1_doAll 123 = .ok (.putfield 10, 3) := dk_181 0 10 (dk_at dksX1_doAll_5 6 rfl rfl)
theorem dX1_doAll_126 : decode cX1_doAll 126 = .ok (.iload_n 3, 1) := dk_29 (dk_at dksX1_doAll_5 9 rfl rfl)
theorem dX1_doAll_127 : decode cX1_doAll 127 = .ok (.ireturn, 1) := dk_172 (dk_at dksX1_doAll_5 10 rfl rfl)
abbrev cX1_reason : ByteArray := prog_1_method_51_code
def yX1_reason : MethodName := ⟨RX1, "reason", "(IZ)I"⟩
def dkwX1_reason_2 : List UInt8 := [199, 0, 7, 3, 167, 0, 18, 28, 153, 0, 10, 45, 180, 1, 137, 167, 0, 7, 45, 180, 1, 140, 172]
abbrev dktX1_reason_2 : List UInt8 := dkwX1_reason_2 ++ []
def dkwX1_reason_1 : List UInt8 := [167, 0, 10, 42, 180, 0, 42, 180, 1, 134, 78, 45, 198, 0, 7, 4, 167, 0, 4, 3, 184, 0, 245, 45]
abbrev dktX1_reason_1 : List UInt8 := dkwX1_reason_1 ++ dktX1_reason_2
def dkwX1_reason_0 : List UInt8 := [27, 3, 4, 184, 0, 49, 184, 0, 238, 42, 180, 0, 42, 198, 0, 7, 27, 154, 0, 10, 42, 180, 0, 42]
abbrev dktX1_reason_0 : List UInt8 := dkwX1_reason_0 ++ dktX1_reason_1
theorem dksX1_reason_0 : cX1_reason.data.toList.drop 0 = dktX1_reason_0 := by decide +kernel
theorem dksX1_reason_1 : cX1_reason.data.toList.drop 24 = dktX1_reason_1 := dk_seg dksX1_reason_0 24 rfl rfl
theorem dksX1_reason_2 : cX1_reason.data.toList.drop 48 = dktX1_reason_2 := dk_seg dksX1_reason_1 24 rfl rfl
theorem dX1_reason_0 : decode cX1_reason 0 = .ok (.iload_n 1, 1) := dk_27 (dk_at dksX1_reason_0 0 rfl rfl)
theorem dX1_reason_1 : decode cX1_reason 1 = .ok (.iconst 0, 1) := dk_3 (dk_at dksX1_reason_0 1 rfl rfl)
theorem dX1_reason_2 : decode cX1_reason 2 = .ok (.iconst 1, 1) := dk_4 (dk_at dksX1_reason_0 2 rfl rfl)
theorem dX1_reason_3 : decode cX1_reason 3 = .ok (.invokestatic 49, 3) := dk_184 0 49 (dk_at dksX1_reason_0 3 rfl rfl)
theorem dX1_reason_6 : decode cX1_reason 6 = .ok (.invokestatic 238, 3) := dk_184 0 238 (dk_at dksX1_reason_0 6 rfl rfl)
theorem dX1_reason_9 : decode cX1_reason 9 = .ok (.aload_n 0, 1) := dk_42 (dk_at dksX1_reason_0 9 rfl rfl)
theorem dX1_reason_10 : decode cX1_reason 10 = .ok (.getfield 42, 3) := dk_180 0 42 (dk_at dksX1_reason_0 10 rfl rfl)
theorem dX1_reason_13 : decode cX1_reason 13 = .ok (.ifnull 7, 3) := dk_198 0 7 (dk_at dksX1_reason_0 13 rfl rfl)
theorem dX1_reason_16 : decode cX1_reason 16 = .ok (.iload_n 1, 1) := dk_27 (dk_at dksX1_reason_0 16 rfl rfl)
theorem dX1_reason_17 : decode cX1_reason 17 = .ok (.ifCond .ne 10, 3) := dk_154 0 10 (dk_at dksX1_reason_0 17 rfl rfl)
theorem dX1_reason_20 : decode cX1_reason 20 = .ok (.aload_n 0, 1) := dk_42 (dk_at dksX1_reason_0 20 rfl rfl)
theorem dX1_reason_21 : decode cX1_reason 21 = .ok (.getfield 42, 3) := dk_180 0 42 (dk_at dksX1_reason_0 21 rfl rfl)
theorem dX1_reason_24 : decode cX1_reason 24 = .ok (.goto 10, 3) := dk_167 0 10 (dk_at dksX1_reason_1 0 rfl rfl)
theorem dX1_reason_27 : decode cX1_reason 27 = .ok (.aload_n 0, 1) := dk_42 (dk_at dksX1_reason_1 3 rfl rfl)
theorem dX1_reason_28 : decode cX1_reason 28 = .ok (.getfield 42, 3) := dk_180 0 42 (dk_at dksX1_reason_1 4 rfl rfl)
theorem dX1_reason_31 : decode cX1_reason 31 = .ok (.getfield 390, 3) := dk_180 1 134 (dk_at dksX1_reason_1 7 rfl rfl)
theorem dX1_reason_34 : decode cX1_reason 34 = .ok (.astore_n 3, 1) := dk_78 (dk_at dksX1_reason_1 10 rfl rfl)
theorem dX1_reason_35 : decode cX1_reason 35 = .ok (.aload_n 3, 1) := dk_45 (dk_at dksX1_reason_1 11 rfl rfl)
theorem dX1_reason_36 : decode cX1_reason 36 = .ok (.ifnull 7, 3) := dk_198 0 7 (dk_at dksX1_reason_1 12 rfl rfl)
theorem dX1_reason_39 : decode cX1_reason 39 = .ok (.iconst 1, 1) := dk_4 (dk_at dksX1_reason_1 15 rfl rfl)
theorem dX1_reason_40 : decode cX1_reason 40 = .ok (.goto 4, 3) := dk_167 0 4 (dk_at dksX1_reason_1 16 rfl rfl)
theorem dX1_reason_43 : decode cX1_reason 43 = .ok (.iconst 0, 1) := dk_3 (dk_at dksX1_reason_1 19 rfl rfl)
theorem dX1_reason_44 : decode cX1_reason 44 = .ok (.invokestatic 245, 3) := dk_184 0 245 (dk_at dksX1_reason_1 20 rfl rfl)
theorem dX1_reason_47 : decode cX1_reason 47 = .ok (.aload_n 3, 1) := dk_45 (dk_at dksX1_reason_1 23 rfl rfl)
theorem dX1_reason_48 : decode cX1_reason 48 = .ok (.ifnonnull 7, 3) := dk_199 0 7 (dk_at dksX1_reason_2 0 rfl rfl)
theorem dX1_reason_51 : decode cX1_reason 51 = .ok (.iconst 0, 1) := dk_3 (dk_at dksX1_reason_2 3 rfl rfl)
theorem dX1_reason_52 : decode cX1_reason 52 = .ok (.goto 18, 3) := dk_167 0 18 (dk_at dksX1_reason_2 4 rfl rfl)
theorem dX1_reason_55 : decode cX1_reason 55 = .ok (.iload_n 2, 1) := dk_28 (dk_at dksX1_reason_2 7 rfl rfl)
theorem dX1_reason_56 : decode cX1_reason 56 = .ok (.ifCond .eq 10, 3) := dk_153 0 10 (dk_at dksX1_reason_2 8 rfl rfl)
theorem dX1_reason_59 : decode cX1_reason 59 = .ok (.aload_n 3, 1) := dk_45 (dk_at dksX1_reason_2 11 rfl rfl)
theorem dX1_reason_60 : decode cX1_reason 60 = .ok (.getfield 393, 3) := dk_180 1 137 (dk_at dksX1_reason_2 12 rfl rfl)
theorem dX1_reason_63 : decode cX1_reason 63 = .ok (.goto 7, 3) := dk_167 0 7 (dk_at dksX1_reason_2 15 rfl rfl)
theorem dX1_reason_66 : decode cX1_reason 66 = .ok (.aload_n 3, 1) := dk_45 (dk_at dksX1_reason_2 18 rfl rfl)
theorem dX1_reason_67 : decode cX1_reason 67 = .ok (.getfield 396, 3) := dk_180 1 140 (dk_at dksX1_reason_2 19 rfl rfl)
theorem dX1_reason_70 : decode cX1_reason 70 = .ok (.ireturn, 1) := dk_172 (dk_at dksX1_reason_2 22 rfl rfl)
abbrev cX1_tellQueue : ByteArray := prog_1_method_53_code
def yX1_tellQueue : MethodName := ⟨RX1, "tellQueue", "(I)I"⟩
def dkwX1_tellQueue_5 : List UInt8 := [19, 1, 143, 182, 1, 145, 87, 42, 180, 0, 30, 182, 1, 98, 172]
abbrev dktX1_tellQueue_5 : List UInt8 := dkwX1_tellQueue_5 ++ []
def dkwX1_tellQueue_4 : List UInt8 := [87, 167, 255, 183, 42, 180, 0, 30, 44, 180, 0, 149, 182, 0, 171, 153, 0, 9, 19, 1, 156, 167, 0, 6]
abbrev dktX1_tellQueue_4 : List UInt8 := dkwX1_tellQueue_4 ++ dktX1_tellQueue_5
def dkwX1_tellQueue_3 : List UInt8 := [182, 1, 104, 25, 4, 180, 0, 182, 182, 1, 148, 16, 47, 182, 1, 104, 25, 4, 180, 0, 222, 182, 1, 148]
abbrev dktX1_tellQueue_3 : List UInt8 := dkwX1_tellQueue_3 ++ dktX1_tellQueue_4
def dkwX1_tellQueue_2 : List UInt8 := [180, 0, 30, 182, 1, 98, 158, 0, 9, 19, 1, 141, 167, 0, 6, 19, 1, 143, 182, 1, 145, 16, 35]
abbrev dktX1_tellQueue_2 : List UInt8 := dkwX1_tellQueue_2 ++ dktX1_tellQueue_3
def dkwX1_tellQueue_1 : List UInt8 := [185, 1, 2, 1, 0, 153, 0, 70, 45, 185, 1, 7, 1, 0, 192, 0, 159, 58, 4, 42, 180, 0, 30, 42]
abbrev dktX1_tellQueue_1 : List UInt8 := dkwX1_tellQueue_1 ++ dktX1_tellQueue_2
def dkwX1_tellQueue_0 : List UInt8 := [42, 27, 182, 1, 13, 77, 42, 180, 0, 30, 3, 182, 1, 117, 44, 180, 0, 149, 182, 1, 21, 78, 45]
abbrev dktX1_tellQueue_0 : List UInt8 := dkwX1_tellQueue_0 ++ dktX1_tellQueue_1
theorem dksX1_tellQueue_0 : cX1_tellQueue.data.toList.drop 0 = dktX1_tellQueue_0 := by decide +kernel
theorem dksX1_tellQueue_1 : cX1_tellQueue.data.toList.drop 23 = dktX1_tellQueue_1 := dk_seg dksX1_tellQueue_0 23 rfl rfl
theorem dksX1_tellQueue_2 : cX1_tellQueue.data.toList.drop 47 = dktX1_tellQueue_2 := dk_seg dksX1_tellQueue_1 24 rfl rfl
theorem dksX1_tellQueue_3 : cX1_tellQueue.data.toList.drop 70 = dktX1_tellQueue_3 := dk_seg dksX1_tellQueue_2 23 rfl rfl
theorem dksX1_tellQueue_4 : cX1_tellQueue.data.toList.drop 94 = dktX1_tellQueue_4 := dk_seg dksX1_tellQueue_3 24 rfl rfl
theorem dksX1_tellQueue_5 : cX1_tellQueue.data.toList.drop 118 = dktX1_tellQueue_5 := dk_seg dksX1_tellQueue_4 24 rfl rfl
theorem dX1_tellQueue_0 : decode cX1_tellQueue 0 = .ok (.aload_n 0, 1) := dk_42 (dk_at dksX1_tellQueue_0 0 rfl rfl)
theorem dX1_tellQueue_1 : decode cX1_tellQueue 1 = .ok (.iload_n 1, 1) := dk_27 (dk_at dksX1_tellQueue_0 1 rfl rfl)
theorem dX1_tellQueue_2 : decode cX1_tellQueue 2 = .ok (.invokevirtual 269, 3) := dk_182 1 13 (dk_at dksX1_tellQueue_0 2 rfl rfl)
theorem dX1_tellQueue_5 : decode cX1_tellQueue 5 = .ok (.astore_n 2, 1) := dk_77 (dk_at dksX1_tellQueue_0 5 rfl rfl)
theorem dX1_tellQueue_6 : decode cX1_tellQueue 6 = .ok (.aload_n 0, 1) := dk_42 (dk_at dksX1_tellQueue_0 6 rfl rfl)
theorem dX1_tellQueue_7 : decode cX1_tellQueue 7 = .ok (.getfield 30, 3) := dk_180 0 30 (dk_at dksX1_tellQueue_0 7 rfl rfl)
theorem dX1_tellQueue_10 : decode cX1_tellQueue 10 = .ok (.iconst 0, 1) := dk_3 (dk_at dksX1_tellQueue_0 10 rfl rfl)
theorem dX1_tellQueue_11 : decode cX1_tellQueue 11 = .ok (.invokevirtual 373, 3) := dk_182 1 117 (dk_at dksX1_tellQueue_0 11 rfl rfl)
theorem dX1_tellQueue_14 : decode cX1_tellQueue 14 = .ok (.aload_n 2, 1) := dk_44 (dk_at dksX1_tellQueue_0 14 rfl rfl)
theorem dX1_tellQueue_15 : decode cX1_tellQueue 15 = .ok (.getfield 149, 3) := dk_180 0 149 (dk_at dksX1_tellQueue_0 15 rfl rfl)
theorem dX1_tellQueue_18 : decode cX1_tellQueue 18 = .ok (.invokevirtual 277, 3) := dk_182 1 21 (dk_at dksX1_tellQueue_0 18 rfl rfl)
theorem dX1_tellQueue_21 : decode cX1_tellQueue 21 = .ok (.astore_n 3, 1) := dk_78 (dk_at dksX1_tellQueue_0 21 rfl rfl)
theorem dX1_tellQueue_22 : decode cX1_tellQueue 22 = .ok (.aload_n 3, 1) := dk_45 (dk_at dksX1_tellQueue_0 22 rfl rfl)
theorem dX1_tellQueue_23 : decode cX1_tellQueue 23 = .ok (.invokeinterface 258 1, 5) := by decide +kernel
theorem dX1_tellQueue_28 : decode cX1_tellQueue 28 = .ok (.ifCond .eq 70, 3) := dk_153 0 70 (dk_at dksX1_tellQueue_1 5 rfl rfl)
theorem dX1_tellQueue_31 : decode cX1_tellQueue 31 = .ok (.aload_n 3, 1) := dk_45 (dk_at dksX1_tellQueue_1 8 rfl rfl)
theorem dX1_tellQueue_32 : decode cX1_tellQueue 32 = .ok (.invokeinterface 263 1, 5) := by decide +kernel
theorem dX1_tellQueue_37 : decode cX1_tellQueue 37 = .ok (.checkcast 159, 3) := dk_192 0 159 (dk_at dksX1_tellQueue_1 14 rfl rfl)
theorem dX1_tellQueue_40 : decode cX1_tellQueue 40 = .ok (.astore 4, 2) := dk_58 4 (dk_at dksX1_tellQueue_1 17 rfl rfl)
theorem dX1_tellQueue_42 : decode cX1_tellQueue 42 = .ok (.aload_n 0, 1) := dk_42 (dk_at dksX1_tellQueue_1 19 rfl rfl)
theorem dX1_tellQueue_43 : decode cX1_tellQueue 43 = .ok (.getfield 30, 3) := dk_180 0 30 (dk_at dksX1_tellQueue_1 20 rfl rfl)
theorem dX1_tellQueue_46 : decode cX1_tellQueue 46 = .ok (.aload_n 0, 1) := dk_42 (dk_at dksX1_tellQueue_1 23 rfl rfl)
theorem dX1_tellQueue_47 : decode cX1_tellQueue 47 = .ok (.getfield 30, 3) := dk_180 0 30 (dk_at dksX1_tellQueue_2 0 rfl rfl)
theorem dX1_tellQueue_50 : decode cX1_tellQueue 50 = .ok (.invokevirtual 354, 3) := dk_182 1 98 (dk_at dksX1_tellQueue_2 3 rfl rfl)
theorem dX1_tellQueue_53 : decode cX1_tellQueue 53 = .ok (.ifCond .le 9, 3) := dk_158 0 9 (dk_at dksX1_tellQueue_2 6 rfl rfl)
theorem dX1_tellQueue_56 : decode cX1_tellQueue 56 = .ok (.ldc_w 397, 3) := dk_19 1 141 (dk_at dksX1_tellQueue_2 9 rfl rfl)
theorem dX1_tellQueue_59 : decode cX1_tellQueue 59 = .ok (.goto 6, 3) := dk_167 0 6 (dk_at dksX1_tellQueue_2 12 rfl rfl)
theorem dX1_tellQueue_62 : decode cX1_tellQueue 62 = .ok (.ldc_w 399, 3) := dk_19 1 143 (dk_at dksX1_tellQueue_2 15 rfl rfl)
theorem dX1_tellQueue_65 : decode cX1_tellQueue 65 = .ok (.invokevirtual 401, 3) := dk_182 1 145 (dk_at dksX1_tellQueue_2 18 rfl rfl)
theorem dX1_tellQueue_68 : decode cX1_tellQueue 68 = .ok (.bipush 35, 2) := dk_16 35 (dk_at dksX1_tellQueue_2 21 rfl rfl)
theorem dX1_tellQueue_70 : decode cX1_tellQueue 70 = .ok (.invokevirtual 360, 3) := dk_182 1 104 (dk_at dksX1_tellQueue_3 0 rfl rfl)
theorem dX1_tellQueue_73 : decode cX1_tellQueue 73 = .ok (.aload 4, 2) := dk_25 4 (dk_at dksX1_tellQueue_3 3 rfl rfl)
theorem dX1_tellQueue_75 : decode cX1_tellQueue 75 = .ok (.getfield 182, 3) := dk_180 0 182 (dk_at dksX1_tellQueue_3 5 rfl rfl)
theorem dX1_tellQueue_78 : decode cX1_tellQueue 78 = .ok (.invokevirtual 404, 3) := dk_182 1 148 (dk_at dksX1_tellQueue_3 8 rfl rfl)
theorem dX1_tellQueue_81 : decode cX1_tellQueue 81 = .ok (.bipush 47, 2) := dk_16 47 (dk_at dksX1_tellQueue_3 11 rfl rfl)
theorem dX1_tellQueue_83 : decode cX1_tellQueue 83 = .ok (.invokevirtual 360, 3) := dk_182 1 104 (dk_at dksX1_tellQueue_3 13 rfl rfl)
theorem dX1_tellQueue_86 : decode cX1_tellQueue 86 = .ok (.aload 4, 2) := dk_25 4 (dk_at dksX1_tellQueue_3 16 rfl rfl)
theorem dX1_tellQueue_88 : decode cX1_tellQueue 88 = .ok (.getfield 222, 3) := dk_180 0 222 (dk_at dksX1_tellQueue_3 18 rfl rfl)
theorem dX1_tellQueue_91 : decode cX1_tellQueue 91 = .ok (.invokevirtual 404, 3) := dk_182 1 148 (dk_at dksX1_tellQueue_3 21 rfl rfl)
theorem dX1_tellQueue_94 : decode cX1_tellQueue 94 = .ok (.pop, 1) := dk_87 (dk_at dksX1_tellQueue_4 0 rfl rfl)
theorem dX1_tellQueue_95 : decode cX1_tellQueue 95 = .ok (.goto (-73), 3) := dk_167 255 183 (dk_at dksX1_tellQueue_4 1 rfl rfl)
theorem dX1_tellQueue_98 : decode cX1_tellQueue 98 = .ok (.aload_n 0, 1) := dk_42 (dk_at dksX1_tellQueue_4 4 rfl rfl)
theorem dX1_tellQueue_99 : decode cX1_tellQueue 99 = .ok (.getfield 30, 3) := dk_180 0 30 (dk_at dksX1_tellQueue_4 5 rfl rfl)
theorem dX1_tellQueue_102 : decode cX1_tellQueue 102 = .ok (.aload_n 2, 1) := dk_44 (dk_at dksX1_tellQueue_4 8 rfl rfl)
theorem dX1_tellQueue_103 : decode cX1_tellQueue 103 = .ok (.getfield 149, 3) := dk_180 0 149 (dk_at dksX1_tellQueue_4 9 rfl rfl)
theorem dX1_tellQueue_106 : decode cX1_tellQueue 106 = .ok (.invokevirtual 171, 3) := dk_182 0 171 (dk_at dksX1_tellQueue_4 12 rfl rfl)
theorem dX1_tellQueue_109 : decode cX1_tellQueue 109 = .ok (.ifCond .eq 9, 3) := dk_153 0 9 (dk_at dksX1_tellQueue_4 15 rfl rfl)
theorem dX1_tellQueue_112 : decode cX1_tellQueue 112 = .ok (.ldc_w 412, 3) := dk_19 1 156 (dk_at dksX1_tellQueue_4 18 rfl rfl)
theorem dX1_tellQueue_115 : decode cX1_tellQueue 115 = .ok (.goto 6, 3) := dk_167 0 6 (dk_at dksX1_tellQueue_4 21 rfl rfl)
theorem dX1_tellQueue_118 : decode cX1_tellQueue 118 = .ok (.ldc_w 399, 3) := dk_19 1 143 (dk_at dksX1_tellQueue_5 0 rfl rfl)
theorem dX1_tellQueue_121 : decode cX1_tellQueue 121 = .ok (.invokevirtual 401, 3) := dk_182 1 145 (dk_at dksX1_tellQueue_5 3 rfl rfl)
theorem dX1_tellQueue_124 : decode cX1_tellQueue 124 = .ok (.pop, 1) := dk_87 (dk_at dksX1_tellQueue_5 6 rfl rfl)
theorem dX1_tellQueue_125 : decode cX1_tellQueue 125 = .ok (.aload_n 0, 1) := dk_42 (dk_at dksX1_tellQueue_5 7 rfl rfl)
theorem dX1_tellQueue_126 : decode cX1_tellQueue 126 = .ok (.getfield 30, 3) := dk_180 0 30 (dk_at dksX1_tellQueue_5 8 rfl rfl)
theorem dX1_tellQueue_129 : decode cX1_tellQueue 129 = .ok (.invokevirtual 354, 3) := dk_182 1 98 (dk_at dksX1_tellQueue_5 11 rfl rfl)
theorem dX1_tellQueue_132 : decode cX1_tellQueue 132 = .ok (.ireturn, 1) := dk_172 (dk_at dksX1_tellQueue_5 14 rfl rfl)
abbrev cX1_character : ByteArray := prog_1_method_54_code
def yX1_character : MethodName := ⟨RX1, "character", "(I)C"⟩
def dkwX1_character_1 : List UInt8 := [182, 1, 158, 172]
abbrev dktX1_character_1 : List UInt8 := dkwX1_character_1 ++ []
def dkwX1_character_0 : List UInt8 := [27, 3, 42, 180, 0, 30, 182, 1, 98, 4, 100, 184, 0, 49, 184, 0, 115, 42, 180, 0, 30, 27]
abbrev dktX1_character_0 : List UInt8 := dkwX1_character_0 ++ dktX1_character_1
theorem dksX1_character_0 : cX1_character.data.toList.drop 0 = dktX1_character_0 := by decide +kernel
theorem dksX1_character_1 : cX1_character.data.toList.drop 22 = dktX1_character_1 := dk_seg dksX1_character_0 22 rfl rfl
theorem dX1_character_0 : decode cX1_character 0 = .ok (.iload_n 1, 1) := dk_27 (dk_at dksX1_character_0 0 rfl rfl)
theorem dX1_character_1 : decode cX1_character 1 = .ok (.iconst 0, 1) := dk_3 (dk_at dksX1_character_0 1 rfl rfl)
theorem dX1_character_2 : decode cX1_character 2 = .ok (.aload_n 0, 1) := dk_42 (dk_at dksX1_character_0 2 rfl rfl)
theorem dX1_character_3 : decode cX1_character 3 = .ok (.getfield 30, 3) := dk_180 0 30 (dk_at dksX1_character_0 3 rfl rfl)
theorem dX1_character_6 : decode cX1_character 6 = .ok (.invokevirtual 354, 3) := dk_182 1 98 (dk_at dksX1_character_0 6 rfl rfl)
theorem dX1_character_9 : decode cX1_character 9 = .ok (.iconst 1, 1) := dk_4 (dk_at dksX1_character_0 9 rfl rfl)
theorem dX1_character_10 : decode cX1_character 10 = .ok (.isub, 1) := dk_100 (dk_at dksX1_character_0 10 rfl rfl)
theorem dX1_character_11 : decode cX1_character 11 = .ok (.invokestatic 49, 3) := dk_184 0 49 (dk_at dksX1_character_0 11 rfl rfl)
theorem dX1_character_14 : decode cX1_character 14 = .ok (.invokestatic 115, 3) := dk_184 0 115 (dk_at dksX1_character_0 14 rfl rfl)
theorem dX1_character_17 : decode cX1_character 17 = .ok (.aload_n 0, 1) := dk_42 (dk_at dksX1_character_0 17 rfl rfl)
theorem dX1_character_18 : decode cX1_character 18 = .ok (.getfield 30, 3) := dk_180 0 30 (dk_at dksX1_character_0 18 rfl rfl)
theorem dX1_character_21 : decode cX1_character 21 = .ok (.iload_n 1, 1) := dk_27 (dk_at dksX1_character_0 21 rfl rfl)
theorem dX1_character_22 : decode cX1_character 22 = .ok (.invokevirtual 414, 3) := dk_182 1 158 (dk_at dksX1_character_1 0 rfl rfl)
theorem dX1_character_25 : decode cX1_character 25 = .ok (.ireturn, 1) := dk_172 (dk_at dksX1_character_1 3 rfl rfl)
abbrev cX1_account : ByteArray := prog_1_method_55_code
def yX1_account : MethodName := ⟨RX1, "account", "(I)I"⟩
def dkwX1_account_8 : List UInt8 := [180, 1, 182, 172, 42, 180, 0, 26, 182, 1, 98, 172, 42, 180, 0, 19, 182, 0, 81, 172]
abbrev dktX1_account_8 : List UInt8 := dkwX1_account_8 ++ []
def dkwX1_account_7 : List UInt8 := [180, 1, 173, 172, 42, 180, 0, 10, 180, 1, 176, 172, 42, 180, 0, 10, 180, 1, 179, 172, 42, 180, 0, 10]
abbrev dktX1_account_7 : List UInt8 := dkwX1_account_7 ++ dktX1_account_8
def dkwX1_account_6 : List UInt8 := [180, 0, 179, 172, 42, 180, 0, 10, 180, 1, 168, 172, 42, 180, 0, 10, 180, 1, 170, 172, 42, 180, 0, 10]
abbrev dktX1_account_6 : List UInt8 := dkwX1_account_6 ++ dktX1_account_7
def dkwX1_account_5 : List UInt8 := [180, 1, 70, 172, 42, 180, 0, 10, 180, 1, 165, 172, 42, 180, 0, 10, 180, 1, 90, 172, 42, 180, 0, 10]
abbrev dktX1_account_5 : List UInt8 := dkwX1_account_5 ++ dktX1_account_6
def dkwX1_account_4 : List UInt8 := [180, 1, 88, 172, 42, 180, 0, 10, 180, 0, 200, 172, 42, 180, 0, 10, 180, 1, 162, 172, 42, 180, 0, 10]
abbrev dktX1_account_4 : List UInt8 := dkwX1_account_4 ++ dktX1_account_5
def dkwX1_account_3 : List UInt8 := [180, 0, 146, 172, 42, 180, 0, 10, 180, 0, 191, 172, 42, 180, 0, 10, 180, 0, 156, 172, 42, 180, 0, 10]
abbrev dktX1_account_3 : List UInt8 := dkwX1_account_3 ++ dktX1_account_4
def dkwX1_account_2 : List UInt8 := [42, 180, 0, 10, 180, 0, 161, 172, 42, 180, 0, 10, 180, 0, 89, 182, 0, 123, 172, 42, 180, 0, 10]
abbrev dktX1_account_2 : List UInt8 := dkwX1_account_2 ++ dktX1_account_3
def dkwX1_account_1 : List UInt8 := [170, 0, 0, 0, 244, 0, 0, 0, 0, 0, 0, 0, 18, 0, 0, 0, 89, 0, 0, 0, 97, 0, 0, 0, 108, 0, 0, 0, 116, 0, 0, 0, 124, 0, 0, 0, 132, 0, 0, 0, 140, 0, 0, 0, 148, 0, 0, 0, 156, 0, 0, 0, 164, 0, 0, 0, 172, 0, 0, 0, 180, 0, 0, 0, 188, 0, 0, 0, 196, 0, 0, 0, 204, 0, 0, 0, 212, 0, 0, 0, 220, 0, 0, 0, 228, 0, 0, 0, 236]
abbrev dktX1_account_1 : List UInt8 := dkwX1_account_1 ++ dktX1_account_2
def dkwX1_account_0 : List UInt8 := [27, 3, 16, 19, 184, 0, 49, 184, 0, 238, 27]
abbrev dktX1_account_0 : List UInt8 := dkwX1_account_0 ++ dktX1_account_1
theorem dksX1_account_0 : cX1_account.data.toList.drop 0 = dktX1_account_0 := by decide +kernel
theorem dksX1_account_1 : cX1_account.data.toList.drop 11 = dktX1_account_1 := dk_seg dksX1_account_0 11 rfl rfl
theorem dksX1_account_2 : cX1_account.data.toList.drop 100 = dktX1_account_2 := dk_seg dksX1_account_1 89 rfl rfl
theorem dksX1_account_3 : cX1_account.data.toList.drop 123 = dktX1_account_3 := dk_seg dksX1_account_2 23 rfl rfl
theorem dksX1_account_4 : cX1_account.data.toList.drop 147 = dktX1_account_4 := dk_seg dksX1_account_3 24 rfl rfl
theorem dksX1_account_5 : cX1_account.data.toList.drop 171 = dktX1_account_5 := dk_seg dksX1_account_4 24 rfl rfl
theorem dksX1_account_6 : cX1_account.data.toList.drop 195 = dktX1_account_6 := dk_seg dksX1_account_5 24 rfl rfl
theorem dksX1_account_7 : cX1_account.data.toList.drop 219 = dktX1_account_7 := dk_seg dksX1_account_6 24 rfl rfl
theorem dksX1_account_8 : cX1_account.data.toList.drop 243 = dktX1_account_8 := dk_seg dksX1_account_7 24 rfl rfl
theorem dX1_account_0 : decode cX1_account 0 = .ok (.iload_n 1, 1) := dk_27 (dk_at dksX1_account_0 0 rfl rfl)
theorem dX1_account_1 : decode cX1_account 1 = .ok (.iconst 0, 1) := dk_3 (dk_at dksX1_account_0 1 rfl rfl)
theorem dX1_account_2 : decode cX1_account 2 = .ok (.bipush 19, 2) := dk_16 19 (dk_at dksX1_account_0 2 rfl rfl)
theorem dX1_account_4 : decode cX1_account 4 = .ok (.invokestatic 49, 3) := dk_184 0 49 (dk_at dksX1_account_0 4 rfl rfl)
theorem dX1_account_7 : decode cX1_account 7 = .ok (.invokestatic 238, 3) := dk_184 0 238 (dk_at dksX1_account_0 7 rfl rfl)
theorem dX1_account_10 : decode cX1_account 10 = .ok (.iload_n 1, 1) := dk_27 (dk_at dksX1_account_0 10 rfl rfl)
theorem dX1_account_11 : decode cX1_account 11 = .ok (.tableswitch 244 0 18 #[89, 97, 108, 116, 124, 132, 140, 148, 156, 164, 172, 180, 188, 196, 204, 212, 220, 228, 236], 89) := by decide +kernel
theorem dX1_account_100 : decode cX1_account 100 = .ok (.aload_n 0, 1) := dk_42 (dk_at dksX1_account_2 0 rfl rfl)
theorem dX1_account_101 : decode cX1_account 101 = .ok (.getfield 10, 3) := dk_180 0 10 (dk_at dksX1_account_2 1 rfl rfl)
theorem dX1_account_104 : decode cX1_account 104 = .ok (.getfield 161, 3) := dk_180 0 161 (dk_at dksX1_account_2 4 rfl rfl)
theorem dX1_account_107 : decode cX1_account 107 = .ok (.ireturn, 1) := dk_172 (dk_at dksX1_account_2 7 rfl rfl)
theorem dX1_account_108 : decode cX1_account 108 = .ok (.aload_n 0, 1) := dk_42 (dk_at dksX1_account_2 8 rfl rfl)
theorem dX1_account_109 : decode cX1_account 109 = .ok (.getfield 10, 3) := dk_180 0 10 (dk_at dksX1_account_2 9 rfl rfl)
theorem dX1_account_112 : decode cX1_account 112 = .ok (.getfield 89, 3) := dk_180 0 89 (dk_at dksX1_account_2 12 rfl rfl)
theorem dX1_account_115 : decode cX1_account 115 = .ok (.invokevirtual 123, 3) := dk_182 0 123 (dk_at dksX1_account_2 15 rfl rfl)
theorem dX1_account_118 : decode cX1_account 118 = .ok (.ireturn, 1) := dk_172 (dk_at dksX1_account_2 18 rfl rfl)
theorem dX1_account_119 : decode cX1_account 119 = .ok (.aload_n 0, 1) := dk_42 (dk_at dksX1_account_2 19 rfl rfl)
theorem dX1_account_120 : decode cX1_account 120 = .ok (.getfield 10, 3) := dk_180 0 10 (dk_at dksX1_account_2 20 rfl rfl)
theorem dX1_account_123 : decode cX1_account 123 = .ok (.getfield 146, 3) := dk_180 0 146 (dk_at dksX1_account_3 0 rfl rfl)
theorem dX1_account_126 : decode cX1_account 126 = .ok (.ireturn, 1) := dk_172 (dk_at dksX1_account_3 3 rfl rfl)
theorem dX1_account_127 : decode cX1_account 127 = .ok (.aload_n 0, 1) := dk_42 (dk_at dksX1_account_3 4 rfl rfl)
theorem dX1_account_128 : decode cX1_account 128 = .ok (.getfield 10, 3) := dk_180 0 10 (dk_at dksX1_account_3 5 rfl rfl)
theorem dX1_account_131 : decode cX1_account 131 = .ok (.getfield 191, 3) := dk_180 0 191 (dk_at dksX1_account_3 8 rfl rfl)
theorem dX1_account_134 : decode cX1_account 134 = .ok (.ireturn, 1) := dk_172 (dk_at dksX1_account_3 11 rfl rfl)
theorem dX1_account_135 : decode cX1_account 135 = .ok (.aload_n 0, 1) := dk_42 (dk_at dksX1_account_3 12 rfl rfl)
theorem dX1_account_136 : decode cX1_account 136 = .ok (.getfield 10, 3) := dk_180 0 10 (dk_at dksX1_account_3 13 rfl rfl)
theorem dX1_account_139 : decode cX1_account 139 = .ok (.getfield 156, 3) := dk_180 0 156 (dk_at dksX1_account_3 16 rfl rfl)
theorem dX1_account_142 : decode cX1_account 142 = .ok (.ireturn, 1) := dk_172 (dk_at dksX1_account_3 19 rfl rfl)
theorem dX1_account_143 : decode cX1_account 143 = .ok (.aload_n 0, 1) := dk_42 (dk_at dksX1_account_3 20 rfl rfl)
theorem dX1_account_144 : decode cX1_account 144 = .ok (.getfield 10, 3) := dk_180 0 10 (dk_at dksX1_account_3 21 rfl rfl)
theorem dX1_account_147 : decode cX1_account 147 = .ok (.getfield 344, 3) := dk_180 1 88 (dk_at dksX1_account_4 0 rfl rfl)
theorem dX1_account_150 : decode cX1_account 150 = .ok (.ireturn, 1) := dk_172 (dk_at dksX1_account_4 3 rfl rfl)
theorem dX1_account_151 : decode cX1_account 151 = .ok (.aload_n 0, 1) := dk_42 (dk_at dksX1_account_4 4 rfl rfl)
theorem dX1_account_152 : decode cX1_account 152 = .ok (.getfield 10, 3) := dk_180 0 10 (dk_at dksX1_account_4 5 rfl rfl)
theorem dX1_account_155 : decode cX1_account 155 = .ok (.getfield 200, 3) := dk_180 0 200 (dk_at dksX1_account_4 8 rfl rfl)
theorem dX1_account_158 : decode cX1_account 158 = .ok (.ireturn, 1) := dk_172 (dk_at dksX1_account_4 11 rfl rfl)
theorem dX1_account_159 : decode cX1_account 159 = .ok (.aload_n 0, 1) := dk_42 (dk_at dksX1_account_4 12 rfl rfl)
theorem dX1_account_160 : decode cX1_account 160 = .ok (.getfield 10, 3) := dk_180 0 10 (dk_at dksX1_account_4 13 rfl rfl)
theorem dX1_account_163 : decode cX1_account 163 = .ok (.getfield 418, 3) := dk_180 1 162 (dk_at dksX1_account_4 16 rfl rfl)
theorem dX1_account_166 : decode cX1_account 166 = .ok (.ireturn, 1) := dk_172 (dk_at dksX1_account_4 19 rfl rfl)
theorem dX1_account_167 : decode cX1_account 167 = .ok (.aload_n 0, 1) := dk_42 (dk_at dksX1_account_4 20 rfl rfl)
theorem dX1_account_168 : decode cX1_account 168 = .ok (.getfield 10, 3) := dk_180 0 10 (dk_at dksX1_account_4 21 rfl rfl)
theorem dX1_account_171 : decode cX1_account 171 = .ok (.getfield 326, 3) := dk_180 1 70 (dk_at dksX1_account_5 0 rfl rfl)
theorem dX1_account_174 : decode cX1_account 174 = .ok (.ireturn, 1) := dk_172 (dk_at dksX1_account_5 3 rfl rfl)
theorem dX1_account_175 : decode cX1_account 175 = .ok (.aload_n 0, 1) := dk_42 (dk_at dksX1_account_5 4 rfl rfl)
theorem dX1_account_176 : decode cX1_account 176 = .ok (.getfield 10, 3) := dk_180 0 10 (dk_at dksX1_account_5 5 rfl rfl)
theorem dX1_account_179 : decode cX1_account 179 = .ok (.getfield 421, 3) := dk_180 1 165 (dk_at dksX1_account_5 8 rfl rfl)
theorem dX1_account_182 : decode cX1_account 182 = .ok (.ireturn, 1) := dk_172 (dk_at dksX1_account_5 11 rfl rfl)
theorem dX1_account_183 : decode cX1_account 183 = .ok (.aload_n 0, 1) := dk_42 (dk_at dksX1_account_5 12 rfl rfl)
theorem dX1_account_184 : decode cX1_account 184 = .ok (.getfield 10, 3) := dk_180 0 10 (dk_at dksX1_account_5 13 rfl rfl)
theorem dX1_account_187 : decode cX1_account 187 = .ok (.getfield 346, 3) := dk_180 1 90 (dk_at dksX1_account_5 16 rfl rfl)
theorem dX1_account_190 : decode cX1_account 190 = .ok (.ireturn, 1) := dk_172 (dk_at dksX1_account_5 19 rfl rfl)
theorem dX1_account_191 : decode cX1_account 191 = .ok (.aload_n 0, 1) := dk_42 (dk_at dksX1_account_5 20 rfl rfl)
theorem dX1_account_192 : decode cX1_account 192 = .ok (.getfield 10, 3) := dk_180 0 10 (dk_at dksX1_account_5 21 rfl rfl)
theorem dX1_account_195 : decode cX1_account 195 = .ok (.getfield 179, 3) := dk_180 0 179 (dk_at dksX1_account_6 0 rfl rfl)
theorem dX1_account_198 : decode cX1_account 198 = .ok (.ireturn, 1) := dk_172 (dk_at dksX1_account_6 3 rfl rfl)
theorem dX1_account_199 : decode cX1_account 199 = .ok (.aload_n 0, 1) := dk_42 (dk_at dksX1_account_6 4 rfl rfl)
theorem dX1_account_200 : decode cX1_account 200 = .ok (.getfield 10, 3) := dk_180 0 10 (dk_at dksX1_account_6 5 rfl rfl)
theorem dX1_account_203 : decode cX1_account 203 = .ok (.getfield 424, 3) := dk_180 1 168 (dk_at dksX1_account_6 8 rfl rfl)
theorem dX1_account_206 : decode cX1_account 206 = .ok (.ireturn, 1) := dk_172 (dk_at dksX1_account_6 11 rfl rfl)
theorem dX1_account_207 : decode cX1_account 207 = .ok (.aload_n 0, 1) := dk_42 (dk_at dksX1_account_6 12 rfl rfl)
theorem dX1_account_208 : decode cX1_account 208 = .ok (.getfield 10, 3) := dk_180 0 10 (dk_at dksX1_account_6 13 rfl rfl)
theorem dX1_account_211 : decode cX1_account 211 = .ok (.getfield 426, 3) := dk_180 1 170 (dk_at dksX1_account_6 16 rfl rfl)
theorem dX1_account_214 : decode cX1_account 214 = .ok (.ireturn, 1) := dk_172 (dk_at dksX1_account_6 19 rfl rfl)
theorem dX1_account_215 : decode cX1_account 215 = .ok (.aload_n 0, 1) := dk_42 (dk_at dksX1_account_6 20 rfl rfl)
theorem dX1_account_216 : decode cX1_account 216 = .ok (.getfield 10, 3) := dk_180 0 10 (dk_at dksX1_account_6 21 rfl rfl)
theorem dX1_account_219 : decode cX1_account 219 = .ok (.getfield 429, 3) := dk_180 1 173 (dk_at dksX1_account_7 0 rfl rfl)
theorem dX1_account_222 : decode cX1_account 222 = .ok (.ireturn, 1) := dk_172 (dk_at dksX1_account_7 3 rfl rfl)
theorem dX1_account_223 : decode cX1_account 223 = .ok (.aload_n 0, 1) := dk_42 (dk_at dksX1_account_7 4 rfl rfl)
theorem dX1_account_224 : decode cX1_account 224 = .ok (.getfield 10, 3) := dk_180 0 10 (dk_at dksX1_account_7 5 rfl rfl)
theorem dX1_account_227 : decode cX1_account 227 = .ok (.getfield 432, 3) := dk_180 1 176 (dk_at dksX1_account_7 8 rfl rfl)
theorem dX1_account_230 : decode cX1_account 230 = .ok (.ireturn, 1) := dk_172 (dk_at dksX1_account_7 11 rfl rfl)
theorem dX1_account_231 : decode cX1_account 231 = .ok (.aload_n 0, 1) := dk_42 (dk_at dksX1_account_7 12 rfl rfl)
theorem dX1_account_232 : decode cX1_account 232 = .ok (.getfield 10, 3) := dk_180 0 10 (dk_at dksX1_account_7 13 rfl rfl)
theorem dX1_account_235 : decode cX1_account 235 = .ok (.getfield 435, 3) := dk_180 1 179 (dk_at dksX1_account_7 16 rfl rfl)
theorem dX1_account_238 : decode cX1_account 238 = .ok (.ireturn, 1) := dk_172 (dk_at dksX1_account_7 19 rfl rfl)
theorem dX1_account_239 : decode cX1_account 239 = .ok (.aload_n 0, 1) := dk_42 (dk_at dksX1_account_7 20 rfl rfl)
theorem dX1_account_240 : decode cX1_account 240 = .ok (.getfield 10, 3) := dk_180 0 10 (dk_at dksX1_account_7 21 rfl rfl)
theorem dX1_account_243 : decode cX1_account 243 = .ok (.getfield 438, 3) := dk_180 1 182 (dk_at dksX1_account_8 0 rfl rfl)
theorem dX1_account_246 : decode cX1_account 246 = .ok (.ireturn, 1) := dk_172 (dk_at dksX1_account_8 3 rfl rfl)
theorem dX1_account_247 : decode cX1_account 247 = .ok (.aload_n 0, 1) := dk_42 (dk_at dksX1_account_8 4 rfl rfl)
theorem dX1_account_248 : decode cX1_account 248 = .ok (.getfield 26, 3) := dk_180 0 26 (dk_at dksX1_account_8 5 rfl rfl)
theorem dX1_account_251 : decode cX1_account 251 = .ok (.invokevirtual 354, 3) := dk_182 1 98 (dk_at dksX1_account_8 8 rfl rfl)
theorem dX1_account_254 : decode cX1_account 254 = .ok (.ireturn, 1) := dk_172 (dk_at dksX1_account_8 11 rfl rfl)
theorem dX1_account_255 : decode cX1_account 255 = .ok (.aload_n 0, 1) := dk_42 (dk_at dksX1_account_8 12 rfl rfl)
theorem dX1_account_256 : decode cX1_account 256 = .ok (.getfield 19, 3) := dk_180 0 19 (dk_at dksX1_account_8 13 rfl rfl)
theorem dX1_account_259 : decode cX1_account 259 = .ok (.invokevirtual 81, 3) := dk_182 0 81 (dk_at dksX1_account_8 16 rfl rfl)
theorem dX1_account_262 : decode cX1_account 262 = .ok (.ireturn, 1) := dk_172 (dk_at dksX1_account_8 19 rfl rfl)
abbrev cX1_meanDelay : ByteArray := prog_1_method_57_code
def yX1_meanDelay : MethodName := ⟨RX1, "meanDelay", "()D"⟩
def dkwX1_meanDelay_0 : List UInt8 := [42, 182, 1, 188, 42, 180, 0, 10, 180, 1, 170, 135, 42, 180, 0, 10, 180, 1, 88, 135, 111, 175]
abbrev dktX1_meanDelay_0 : List UInt8 := dkwX1_meanDelay_0 ++ []
theorem dksX1_meanDelay_0 : cX1_meanDelay.data.toList.drop 0 = dktX1_meanDelay_0 := by decide +kernel
theorem dX1_meanDelay_0 : decode cX1_meanDelay 0 = .ok (.aload_n 0, 1) := dk_42 (dk_at dksX1_meanDelay_0 0 rfl rfl)
theorem dX1_meanDelay_1 : decode cX1_meanDelay 1 = .ok (.invokevirtual 444, 3) := dk_182 1 188 (dk_at dksX1_meanDelay_0 1 rfl rfl)
theorem dX1_meanDelay_4 : decode cX1_meanDelay 4 = .ok (.aload_n 0, 1) := dk_42 (dk_at dksX1_meanDelay_0 4 rfl rfl)
theorem dX1_meanDelay_5 : decode cX1_meanDelay 5 = .ok (.getfield 10, 3) := dk_180 0 10 (dk_at dksX1_meanDelay_0 5 rfl rfl)
theorem dX1_meanDelay_8 : decode cX1_meanDelay 8 = .ok (.getfield 426, 3) := dk_180 1 170 (dk_at dksX1_meanDelay_0 8 rfl rfl)
theorem dX1_meanDelay_11 : decode cX1_meanDelay 11 = .ok (.i2d, 1) := dk_135 (dk_at dksX1_meanDelay_0 11 rfl rfl)
theorem dX1_meanDelay_12 : decode cX1_meanDelay 12 = .ok (.aload_n 0, 1) := dk_42 (dk_at dksX1_meanDelay_0 12 rfl rfl)
theorem dX1_meanDelay_13 : decode cX1_meanDelay 13 = .ok (.getfield 10, 3) := dk_180 0 10 (dk_at dksX1_meanDelay_0 13 rfl rfl)
theorem dX1_meanDelay_16 : decode cX1_meanDelay 16 = .ok (.getfield 344, 3) := dk_180 1 88 (dk_at dksX1_meanDelay_0 16 rfl rfl)
theorem dX1_meanDelay_19 : decode cX1_meanDelay 19 = .ok (.i2d, 1) := dk_135 (dk_at dksX1_meanDelay_0 19 rfl rfl)
theorem dX1_meanDelay_20 : decode cX1_meanDelay 20 = .ok (.ddiv, 1) := dk_111 (dk_at dksX1_meanDelay_0 20 rfl rfl)
theorem dX1_meanDelay_21 : decode cX1_meanDelay 21 = .ok (.dreturn, 1) := dk_175 (dk_at dksX1_meanDelay_0 21 rfl rfl)
abbrev cX1_checkPut : ByteArray := prog_1_method_56_code
def yX1_checkPut : MethodName := ⟨RX1, "checkPut", "()V"⟩
def dkwX1_checkPut_0 : List UInt8 := [42, 180, 0, 10, 180, 1, 88, 154, 0, 11, 187, 1, 185, 89, 183, 1, 187, 191, 177]
abbrev dktX1_checkPut_0 : List UInt8 := dkwX1_checkPut_0 ++ []
theorem dksX1_checkPut_0 : cX1_checkPut.data.toList.drop 0 = dktX1_checkPut_0 := by decide +kernel
theorem dX1_checkPut_0 : decode cX1_checkPut 0 = .ok (.aload_n 0, 1) := dk_42 (dk_at dksX1_checkPut_0 0 rfl rfl)
theorem dX1_checkPut_1 : decode cX1_checkPut 1 = .ok (.getfield 10, 3) := dk_180 0 10 (dk_at dksX1_checkPut_0 1 rfl rfl)
theorem dX1_checkPut_4 : decode cX1_checkPut 4 = .ok (.getfield 344, 3) := dk_180 1 88 (dk_at dksX1_checkPut_0 4 rfl rfl)
theorem dX1_checkPut_7 : decode cX1_checkPut 7 = .ok (.ifCond .ne 11, 3) := dk_154 0 11 (dk_at dksX1_checkPut_0 7 rfl rfl)
theorem dX1_checkPut_10 : decode cX1_checkPut 10 = .ok (.new 441, 3) := dk_187 1 185 (dk_at dksX1_checkPut_0 10 rfl rfl)
theorem dX1_checkPut_13 : decode cX1_checkPut 13 = .ok (.dup, 1) := dk_89 (dk_at dksX1_checkPut_0 13 rfl rfl)
theorem dX1_checkPut_14 : decode cX1_checkPut 14 = .ok (.invokespecial 443, 3) := dk_183 1 187 (dk_at dksX1_checkPut_0 14 rfl rfl)
theorem dX1_checkPut_17 : decode cX1_checkPut 17 = .ok (.athrow, 1) := dk_191 (dk_at dksX1_checkPut_0 17 rfl rfl)
theorem dX1_checkPut_18 : decode cX1_checkPut 18 = .ok (.return_, 1) := dk_177 (dk_at dksX1_checkPut_0 18 rfl rfl)
abbrev cX1_receivedShare : ByteArray := prog_1_method_58_code
def yX1_receivedShare : MethodName := ⟨RX1, "receivedShare", "()F"⟩
def dkwX1_receivedShare_0 : List UInt8 := [42, 182, 1, 188, 42, 180, 0, 10, 180, 0, 200, 134, 42, 180, 0, 10, 180, 1, 88, 134, 110, 174]
abbrev dktX1_receivedShare_0 : List UInt8 := dkwX1_receivedShare_0 ++ []
theorem dksX1_receivedShare_0 : cX1_receivedShare.data.toList.drop 0 = dktX1_receivedShare_0 := by decide +kernel
theorem dX1_receivedShare_0 : decode cX1_receivedShare 0 = .ok (.aload_n 0, 1) := dk_42 (dk_at dksX1_receivedShare_0 0 rfl rfl)
theorem dX1_receivedShare_1 : decode cX1_receivedShare 1 = .ok (.invokevirtual 444, 3) := dk_182 1 188 (dk_at dksX1_receivedShare_0 1 rfl rfl)
theorem dX1_receivedShare_4 : decode cX1_receivedShare 4 = .ok (.aload_n 0, 1) := dk_42 (dk_at dksX1_receivedShare_0 4 rfl rfl)
theorem dX1_receivedShare_5 : decode cX1_receivedShare 5 = .ok (.getfield 10, 3) := dk_180 0 10 (dk_at dksX1_receivedShare_0 5 rfl rfl)
theorem dX1_receivedShare_8 : decode cX1_receivedShare 8 = .ok (.getfield 200, 3) := dk_180 0 200 (dk_at dksX1_receivedShare_0 8 rfl rfl)
theorem dX1_receivedShare_11 : decode cX1_receivedShare 11 = .ok (.i2f, 1) := dk_134 (dk_at dksX1_receivedShare_0 11 rfl rfl)
theorem dX1_receivedShare_12 : decode cX1_receivedShare 12 = .ok (.aload_n 0, 1) := dk_42 (dk_at dksX1_receivedShare_0 12 rfl rfl)
theorem dX1_receivedShare_13 : decode cX1_receivedShare 13 = .ok (.getfield 10, 3) := dk_180 0 10 (dk_at dksX1_receivedShare_0 13 rfl rfl)
theorem dX1_receivedShare_16 : decode cX1_receivedShare 16 = .ok (.getfield 344, 3) := dk_180 1 88 (dk_at dksX1_receivedShare_0 16 rfl rfl)
theorem dX1_receivedShare_19 : decode cX1_receivedShare 19 = .ok (.i2f, 1) := dk_134 (dk_at dksX1_receivedShare_0 19 rfl rfl)
theorem dX1_receivedShare_20 : decode cX1_receivedShare 20 = .ok (.fdiv, 1) := dk_110 (dk_at dksX1_receivedShare_0 20 rfl rfl)
theorem dX1_receivedShare_21 : decode cX1_receivedShare 21 = .ok (.freturn, 1) := dk_174 (dk_at dksX1_receivedShare_0 21 rfl rfl)
abbrev cX1_undo : ByteArray := prog_1_method_59_code
def yX1_undo : MethodName := ⟨RX1, "undo", "()I"⟩
def dkwX1_undo_1 : List UInt8 := [182, 1, 192, 192, 0, 7, 181, 0, 10, 42, 180, 0, 19, 182, 0, 81, 172]
abbrev dktX1_undo_1 : List UInt8 := dkwX1_undo_1 ++ []
def dkwX1_undo_0 : List UInt8 := [42, 180, 0, 19, 182, 1, 191, 154, 0, 7, 4, 167, 0, 4, 3, 184, 1, 101, 42, 42, 180, 0, 19]
abbrev dktX1_undo_0 : List UInt8 := dkwX1_undo_0 ++ dktX1_undo_1
theorem dksX1_undo_0 : cX1_undo.data.toList.drop 0 = dktX1_undo_0 := by decide +kernel
theorem dksX1_undo_1 : cX1_undo.data.toList.drop 23 = dktX1_undo_1 := dk_seg dksX1_undo_0 23 rfl rfl
theorem dX1_undo_0 : decode cX1_undo 0 = .ok (.aload_n 0, 1) := dk_42 (dk_at dksX1_undo_0 0 rfl rfl)
theorem dX1_undo_1 : decode cX1_undo 1 = .ok (.getfield 19, 3) := dk_180 0 19 (dk_at dksX1_undo_0 1 rfl rfl)
theorem dX1_undo_4 : decode cX1_undo 4 = .ok (.invokevirtual 447, 3) := dk_182 1 191 (dk_at dksX1_undo_0 4 rfl rfl)
theorem dX1_undo_7 : decode cX1_undo 7 = .ok (.ifCond .ne 7, 3) := dk_154 0 7 (dk_at dksX1_undo_0 7 rfl rfl)
theorem dX1_undo_10 : decode cX1_undo 10 = .ok (.iconst 1, 1) := dk_4 (dk_at dksX1_undo_0 10 rfl rfl)
theorem dX1_undo_11 : decode cX1_undo 11 = .ok (.goto 4, 3) := dk_167 0 4 (dk_at dksX1_undo_0 11 rfl rfl)
theorem dX1_undo_14 : decode cX1_undo 14 = .ok (.iconst 0, 1) := dk_3 (dk_at dksX1_undo_0 14 rfl rfl)
theorem dX1_undo_15 : decode cX1_undo 15 = .ok (.invokestatic 357, 3) := dk_184 1 101 (dk_at dksX1_undo_0 15 rfl rfl)
theorem dX1_undo_18 : decode cX1_undo 18 = .ok (.aload_n 0, 1) := dk_42 (dk_at dksX1_undo_0 18 rfl rfl)
theorem dX1_undo_19 : decode cX1_undo 19 = .ok (.aload_n 0, 1) := dk_42 (dk_at dksX1_undo_0 19 rfl rfl)
theorem dX1_undo_20 : decode cX1_undo 20 = .ok (.getfield 19, 3) := dk_180 0 19 (dk_at dksX1_undo_0 20 rfl rfl)
theorem dX1_undo_23 : decode cX1_undo 23 = .ok (.invokevirtual 448, 3) := dk_182 1 192 (dk_at dksX1_undo_1 0 rfl rfl)
theorem dX1_undo_26 : decode cX1_undo 26 = .ok (.checkcast 7, 3) := dk_192 0 7 (dk_at dksX1_undo_1 3 rfl rfl)
theorem dX1_undo_29 : decode cX1_undo 29 = .ok (.putfield 10, 3) := dk_181 0 10 (dk_at dksX1_undo_1 6 rfl rfl)
theorem dX1_undo_32 : decode cX1_undo 32 = .ok (.aload_n 0, 1) := dk_42 (dk_at dksX1_undo_1 9 rfl rfl)
theorem dX1_undo_33 : decode cX1_undo 33 = .ok (.getfield 19, 3) := dk_180 0 19 (dk_at dksX1_undo_1 10 rfl rfl)
theorem dX1_undo_36 : decode cX1_undo 36 = .ok (.invokevirtual 81, 3) := dk_182 0 81 (dk_at dksX1_undo_1 13 rfl rfl)
theorem dX1_undo_39 : decode cX1_undo 39 = .ok (.ireturn, 1) := dk_172 (dk_at dksX1_undo_1 16 rfl rfl)
abbrev cX1_restore : ByteArray := prog_1_method_61_code
def yX1_restore : MethodName := ⟨RX1, "restore", "()I"⟩
def dkwX1_restore_1 : List UInt8 := [181, 0, 10, 42, 180, 0, 19, 182, 1, 198, 42, 180, 0, 10, 180, 0, 161, 172]
abbrev dktX1_restore_1 : List UInt8 := dkwX1_restore_1 ++ []
def dkwX1_restore_0 : List UInt8 := [42, 180, 1, 195, 198, 0, 7, 4, 167, 0, 4, 3, 184, 1, 101, 42, 42, 180, 1, 195, 182, 0, 73]
abbrev dktX1_restore_0 : List UInt8 := dkwX1_restore_0 ++ dktX1_restore_1
theorem dksX1_restore_0 : cX1_restore.data.toList.drop 0 = dktX1_restore_0 := by decide +kernel
theorem dksX1_restore_1 : cX1_restore.data.toList.drop 23 = dktX1_restore_1 := dk_seg dksX1_restore_0 23 rfl rfl
theorem dX1_restore_0 : decode cX1_restore 0 = .ok (.aload_n 0, 1) := dk_42 (dk_at dksX1_restore_0 0 rfl rfl)
theorem dX1_restore_1 : decode cX1_restore 1 = .ok (.getfield 451, 3) := dk_180 1 195 (dk_at dksX1_restore_0 1 rfl rfl)
theorem dX1_restore_4 : decode cX1_restore 4 = .ok (.ifnull 7, 3) := dk_198 0 7 (dk_at dksX1_restore_0 4 rfl rfl)
theorem dX1_restore_7 : decode cX1_restore 7 = .ok (.iconst 1, 1) := dk_4 (dk_at dksX1_restore_0 7 rfl rfl)
theorem dX1_restore_8 : decode cX1_restore 8 = .ok (.goto 4, 3) := dk_167 0 4 (dk_at dksX1_restore_0 8 rfl rfl)
theorem dX1_restore_11 : decode cX1_restore 11 = .ok (.iconst 0, 1) := dk_3 (dk_at dksX1_restore_0 11 rfl rfl)
theorem dX1_restore_12 : decode cX1_restore 12 = .ok (.invokestatic 357, 3) := dk_184 1 101 (dk_at dksX1_restore_0 12 rfl rfl)
theorem dX1_restore_15 : decode cX1_restore 15 = .ok (.aload_n 0, 1) := dk_42 (dk_at dksX1_restore_0 15 rfl rfl)
theorem dX1_restore_16 : decode cX1_restore 16 = .ok (.aload_n 0, 1) := dk_42 (dk_at dksX1_restore_0 16 rfl rfl)
theorem dX1_restore_17 : decode cX1_restore 17 = .ok (.getfield 451, 3) := dk_180 1 195 (dk_at dksX1_restore_0 17 rfl rfl)
theorem dX1_restore_20 : decode cX1_restore 20 = .ok (.invokevirtual 73, 3) := dk_182 0 73 (dk_at dksX1_restore_0 20 rfl rfl)
theorem dX1_restore_23 : decode cX1_restore 23 = .ok (.putfield 10, 3) := dk_181 0 10 (dk_at dksX1_restore_1 0 rfl rfl)
theorem dX1_restore_26 : decode cX1_restore 26 = .ok (.aload_n 0, 1) := dk_42 (dk_at dksX1_restore_1 3 rfl rfl)
theorem dX1_restore_27 : decode cX1_restore 27 = .ok (.getfield 19, 3) := dk_180 0 19 (dk_at dksX1_restore_1 4 rfl rfl)
theorem dX1_restore_30 : decode cX1_restore 30 = .ok (.invokevirtual 454, 3) := dk_182 1 198 (dk_at dksX1_restore_1 7 rfl rfl)
theorem dX1_restore_33 : decode cX1_restore 33 = .ok (.aload_n 0, 1) := dk_42 (dk_at dksX1_restore_1 10 rfl rfl)
theorem dX1_restore_34 : decode cX1_restore 34 = .ok (.getfield 10, 3) := dk_180 0 10 (dk_at dksX1_restore_1 11 rfl rfl)
theorem dX1_restore_37 : decode cX1_restore 37 = .ok (.getfield 161, 3) := dk_180 0 161 (dk_at dksX1_restore_1 14 rfl rfl)
theorem dX1_restore_40 : decode cX1_restore 40 = .ok (.ireturn, 1) := dk_172 (dk_at dksX1_restore_1 17 rfl rfl)
theorem q95 : (Jvm.Cond.initialized "TokenRing") ∈ lw_all := lw_g (lw_at lw_m1 1 rfl) rfl
theorem q164 : (Jvm.Cond.instantiable "TokenRing" (8 : Nat)) ∈ lw_all := lw_g (lw_at lw_m1 70 rfl) rfl
theorem q166 : (Jvm.Cond.instanceMethod ({ cls := "TokenRing", name := "<init>", desc := "()V" } : Jvm.MethodName)) ∈ lw_all := lw_g (lw_at lw_m1 72 rfl) rfl
theorem q167 : (Jvm.Cond.code ({ cls := "TokenRing", name := "<init>", desc := "()V" } : Jvm.MethodName) prog_1_method_1_code (1 : Nat) (Option.none : Option Jvm.ClassFile.FieldType)) ∈ lw_all := lw_g (lw_at lw_m1 73 rfl) rfl
theorem q168 : (Jvm.Cond.methodLink "TokenRing" (1 : Nat) ({ cls := "java/lang/Object", name := "<init>", desc := "()V" } : Jvm.MethodName)) ∈ lw_all := lw_g (lw_at lw_m1 74 rfl) rfl
theorem q171 : (Jvm.Cond.classLink "TokenRing" (7 : Nat) "TokenRing$State") ∈ lw_all := lw_g (lw_at lw_m1 77 rfl) rfl
theorem q173 : (Jvm.Cond.methodLinkNest "TokenRing" (9 : Nat) ({ cls := "TokenRing$State", name := "<init>", desc := "()V" } : Jvm.MethodName) "TokenRing") ∈ lw_tbl := lw_at lw_m1 79 rfl
theorem q218 : (Jvm.Cond.fieldLinkNest "TokenRing" (89 : Nat) "TokenRing$State" "stations" "Ljava/util/TreeMap;" "TokenRing") ∈ lw_tbl := lw_at lw_m1 124 rfl
theorem q221 : (Jvm.Cond.fieldLinkNest "TokenRing" (185 : Nat) "TokenRing$State" "kind" "I" "TokenRing") ∈ lw_tbl := lw_at lw_m1 127 rfl
theorem q224 : (Jvm.Cond.fieldLinkNest "TokenRing" (206 : Nat) "TokenRing$State" "at" "I" "TokenRing") ∈ lw_tbl := lw_at lw_m1 130 rfl
theorem q227 : (Jvm.Cond.fieldLinkNest "TokenRing" (209 : Nat) "TokenRing$State" "tokenRank" "I" "TokenRing") ∈ lw_tbl := lw_at lw_m1 133 rfl
theorem q232 : (Jvm.Cond.fieldLinkNest "TokenRing" (212 : Nat) "TokenRing$State" "ride" "LTokenRing$Ride;" "TokenRing") ∈ lw_tbl := lw_at lw_m1 138 rfl
theorem q235 : (Jvm.Cond.fieldLinkNest "TokenRing" (146 : Nat) "TokenRing$State" "monitor" "I" "TokenRing") ∈ lw_tbl := lw_at lw_m1 141 rfl
theorem q238 : (Jvm.Cond.fieldLinkNest "TokenRing" (191 : Nat) "TokenRing$State" "silence" "I" "TokenRing") ∈ lw_tbl := lw_at lw_m1 144 rfl
theorem q241 : (Jvm.Cond.fieldLinkNest "TokenRing" (161 : Nat) "TokenRing$State" "ticks" "I" "TokenRing") ∈ lw_tbl := lw_at lw_m1 147 rfl
theorem q243 : (Jvm.Cond.fieldLinkNest "TokenRing" (156 : Nat) "TokenRing$State" "came" "I" "TokenRing") ∈ lw_tbl := lw_at lw_m1 149 rfl
theorem q246 : (Jvm.Cond.fieldLinkNest "TokenRing" (344 : Nat) "TokenRing$State" "put" "I" "TokenRing") ∈ lw_tbl := lw_at lw_m1 152 rfl
theorem q249 : (Jvm.Cond.fieldLinkNest "TokenRing" (200 : Nat) "TokenRing$State" "received" "I" "TokenRing") ∈ lw_tbl := lw_at lw_m1 155 rfl
theorem q252 : (Jvm.Cond.fieldLinkNest "TokenRing" (418 : Nat) "TokenRing$State" "returned" "I" "TokenRing") ∈ lw_tbl := lw_at lw_m1 158 rfl
theorem q255 : (Jvm.Cond.fieldLinkNest "TokenRing" (326 : Nat) "TokenRing$State" "orphans" "I" "TokenRing") ∈ lw_tbl := lw_at lw_m1 161 rfl
theorem q257 : (Jvm.Cond.fieldLinkNest "TokenRing" (421 : Nat) "TokenRing$State" "lostOnRing" "I" "TokenRing") ∈ lw_tbl := lw_at lw_m1 163 rfl
theorem q259 : (Jvm.Cond.fieldLinkNest "TokenRing" (346 : Nat) "TokenRing$State" "lostInQueues" "I" "TokenRing") ∈ lw_tbl := lw_at lw_m1 165 rfl
theorem q261 : (Jvm.Cond.fieldLinkNest "TokenRing" (179 : Nat) "TokenRing$State" "dropped" "I" "TokenRing") ∈ lw_tbl := lw_at lw_m1 167 rfl
theorem q264 : (Jvm.Cond.fieldLinkNest "TokenRing" (424 : Nat) "TokenRing$State" "lengths" "I" "TokenRing") ∈ lw_tbl := lw_at lw_m1 170 rfl
theorem q267 : (Jvm.Cond.fieldLinkNest "TokenRing" (426 : Nat) "TokenRing$State" "delays" "I" "TokenRing") ∈ lw_tbl := lw_at lw_m1 173 rfl
theorem q270 : (Jvm.Cond.fieldLinkNest "TokenRing" (429 : Nat) "TokenRing$State" "greatestDelay" "I" "TokenRing") ∈ lw_tbl := lw_at lw_m1 176 rfl
theorem q273 : (Jvm.Cond.fieldLinkNest "TokenRing" (432 : Nat) "TokenRing$State" "purges" "I" "TokenRing") ∈ lw_tbl := lw_at lw_m1 179 rfl
theorem q276 : (Jvm.Cond.fieldLinkNest "TokenRing" (435 : Nat) "TokenRing$State" "claims" "I" "TokenRing") ∈ lw_tbl := lw_at lw_m1 182 rfl
theorem q278 : (Jvm.Cond.fieldLinkNest "TokenRing" (438 : Nat) "TokenRing$State" "tokensLost" "I" "TokenRing") ∈ lw_tbl := lw_at lw_m1 184 rfl
theorem q281 : (Jvm.Cond.fieldLinkNest "TokenRing" (320 : Nat) "TokenRing$State" "watched" "I" "TokenRing") ∈ lw_tbl := lw_at lw_m1 187 rfl
theorem q283 : (Jvm.Cond.fieldLinkNest "TokenRing" (323 : Nat) "TokenRing$State" "isSeen" "Z" "TokenRing") ∈ lw_tbl := lw_at lw_m1 189 rfl
theorem q335 : (Jvm.Cond.classLink "TokenRing" (16 : Nat) "java/util/ArrayDeque") ∈ lw_all := lw_g (lw_at lw_m2 1 rfl) rfl
theorem q337 : (Jvm.Cond.methodLink "TokenRing" (18 : Nat) ({ cls := "java/util/ArrayDeque", name := "<init>", desc := "()V" } : Jvm.MethodName)) ∈ lw_all := lw_g (lw_at lw_m2 3 rfl) rfl
theorem q358 : (Jvm.Cond.classLink "TokenRing" (23 : Nat) "java/lang/StringBuilder") ∈ lw_all := lw_g (lw_at lw_m2 24 rfl) rfl
theorem q360 : (Jvm.Cond.methodLink "TokenRing" (25 : Nat) ({ cls := "java/lang/StringBuilder", name := "<init>", desc := "()V" } : Jvm.MethodName)) ∈ lw_all := lw_g (lw_at lw_m2 26 rfl) rfl
theorem q391 : (Jvm.Cond.fieldLink "TokenRing" (10 : Nat) "TokenRing" "state" "LTokenRing$State;") ∈ lw_all := lw_g (lw_at lw_m2 57 rfl) rfl
theorem q392 : (Jvm.Cond.fieldLink "TokenRing" (451 : Nat) "TokenRing" "saved" "LTokenRing$State;") ∈ lw_all := lw_g (lw_at lw_m2 58 rfl) rfl
theorem q393 : (Jvm.Cond.fieldLink "TokenRing" (19 : Nat) "TokenRing" "history" "Ljava/util/ArrayDeque;") ∈ lw_all := lw_g (lw_at lw_m2 59 rfl) rfl
theorem q394 : (Jvm.Cond.fieldLink "TokenRing" (26 : Nat) "TokenRing" "input" "Ljava/lang/StringBuilder;") ∈ lw_all := lw_g (lw_at lw_m2 60 rfl) rfl
theorem q395 : (Jvm.Cond.fieldLink "TokenRing" (30 : Nat) "TokenRing" "line" "Ljava/lang/StringBuilder;") ∈ lw_all := lw_g (lw_at lw_m2 61 rfl) rfl
theorem q396 : (Jvm.Cond.fieldLink "TokenRing" (69 : Nat) "TokenRing" "isWithinText" "Z") ∈ lw_all := lw_g (lw_at lw_m2 62 rfl) rfl
theorem q397 : (Jvm.Cond.fieldLink "TokenRing" (33 : Nat) "TokenRing" "faultPosition" "I") ∈ lw_all := lw_g (lw_at lw_m2 63 rfl) rfl
theorem q398 : (Jvm.Cond.fieldLink "TokenRing" (42 : Nat) "TokenRing" "reason" "LTokenRing$Reason;") ∈ lw_all := lw_g (lw_at lw_m2 64 rfl) rfl
theorem q399 : (Jvm.Cond.lays "TokenRing" "TokenRing" "state" "LTokenRing$State;") ∈ lw_all := lw_g (lw_at lw_m2 65 rfl) rfl
theorem q400 : (Jvm.Cond.soleField "TokenRing" "state") ∈ lw_all := lw_g (lw_at lw_m2 66 rfl) rfl
theorem q401 : (Jvm.Cond.lays "TokenRing" "TokenRing" "saved" "LTokenRing$State;") ∈ lw_all := lw_g (lw_at lw_m2 67 rfl) rfl
theorem q402 : (Jvm.Cond.soleField "TokenRing" "saved") ∈ lw_all := lw_g (lw_at lw_m2 68 rfl) rfl
theorem q403 : (Jvm.Cond.laysFinal "TokenRing" "TokenRing" "history" "Ljava/util/ArrayDeque;") ∈ lw_all := lw_g (lw_at lw_m2 69 rfl) rfl
theorem q404 : (Jvm.Cond.soleField "TokenRing" "history") ∈ lw_all := lw_g (lw_at lw_m2 70 rfl) rfl
theorem q405 : (Jvm.Cond.laysFinal "TokenRing" "TokenRing" "input" "Ljava/lang/StringBuilder;") ∈ lw_all := lw_g (lw_at lw_m2 71 rfl) rfl
theorem q406 : (Jvm.Cond.soleField "TokenRing" "input") ∈ lw_all := lw_g (lw_at lw_m2 72 rfl) rfl
theorem q407 : (Jvm.Cond.laysFinal "TokenRing" "TokenRing" "line" "Ljava/lang/StringBuilder;") ∈ lw_all := lw_g (lw_at lw_m2 73 rfl) rfl
theorem q408 : (Jvm.Cond.soleField "TokenRing" "line") ∈ lw_all := lw_g (lw_at lw_m2 74 rfl) rfl
theorem q409 : (Jvm.Cond.lays "TokenRing" "TokenRing" "isWithinText" "Z") ∈ lw_all := lw_g (lw_at lw_m2 75 rfl) rfl
theorem q410 : (Jvm.Cond.soleField "TokenRing" "isWithinText") ∈ lw_all := lw_g (lw_at lw_m2 76 rfl) rfl
theorem q411 : (Jvm.Cond.lays "TokenRing" "TokenRing" "faultPosition" "I") ∈ lw_all := lw_g (lw_at lw_m2 77 rfl) rfl
theorem q412 : (Jvm.Cond.soleField "TokenRing" "faultPosition") ∈ lw_all := lw_g (lw_at lw_m2 78 rfl) rfl
theorem q413 : (Jvm.Cond.lays "TokenRing" "TokenRing" "reason" "LTokenRing$Reason;") ∈ lw_all := lw_g (lw_at lw_m2 79 rfl) rfl
theorem q414 : (Jvm.Cond.soleField "TokenRing" "reason") ∈ lw_all := lw_g (lw_at lw_m2 80 rfl) rfl
theorem q415 : (Jvm.Cond.superclass "TokenRing" "java/lang/Object") ∈ lw_all := lw_g (lw_at lw_m2 81 rfl) rfl
theorem q417 : (Jvm.Cond.instanceMethod ({ cls := "TokenRing", name := "waiting", desc := "()I" } : Jvm.MethodName)) ∈ lw_all := lw_g (lw_at lw_m2 83 rfl) rfl
theorem q418 : (Jvm.Cond.selects "TokenRing" ({ cls := "TokenRing", name := "waiting", desc := "()I" } : Jvm.MethodName) ({ cls := "TokenRing", name := "waiting", desc := "()I" } : Jvm.MethodName)) ∈ lw_all := lw_g (lw_at lw_m2 84 rfl) rfl
theorem q419 : (Jvm.Cond.code ({ cls := "TokenRing", name := "waiting", desc := "()I" } : Jvm.MethodName) prog_1_method_45_code (1 : Nat) (Option.some Jvm.ClassFile.FieldType.int)) ∈ lw_all := lw_g (lw_at lw_m2 85 rfl) rfl
theorem q420 : (Jvm.Cond.methodLink "TokenRing" (194 : Nat) ({ cls := "TokenRing$State", name := "waiting", desc := "()I" } : Jvm.MethodName)) ∈ lw_all := lw_g (lw_at lw_m2 86 rfl) rfl
theorem q1104 : (Jvm.Cond.instanceMethod ({ cls := "TokenRing", name := "waitingAgain", desc := "()I" } : Jvm.MethodName)) ∈ lw_all := lw_g (lw_at lw_m5 50 rfl) rfl
theorem q1105 : (Jvm.Cond.selects "TokenRing" ({ cls := "TokenRing", name := "waitingAgain", desc := "()I" } : Jvm.MethodName) ({ cls := "TokenRing", name := "waitingAgain", desc := "()I" } : Jvm.MethodName)) ∈ lw_all := lw_g (lw_at lw_m5 51 rfl) rfl
theorem q1106 : (Jvm.Cond.code ({ cls := "TokenRing", name := "waitingAgain", desc := "()I" } : Jvm.MethodName) prog_1_method_46_code (1 : Nat) (Option.some Jvm.ClassFile.FieldType.int)) ∈ lw_all := lw_g (lw_at lw_m5 52 rfl) rfl
theorem q1108 : (Jvm.Cond.instanceMethod ({ cls := "TokenRing", name := "faultPosition", desc := "()I" } : Jvm.MethodName)) ∈ lw_all := lw_g (lw_at lw_m5 54 rfl) rfl
theorem q1109 : (Jvm.Cond.selects "TokenRing" ({ cls := "TokenRing", name := "faultPosition", desc := "()I" } : Jvm.MethodName) ({ cls := "TokenRing", name := "faultPosition", desc := "()I" } : Jvm.MethodName)) ∈ lw_all := lw_g (lw_at lw_m5 55 rfl) rfl
theorem q1110 : (Jvm.Cond.code ({ cls := "TokenRing", name := "faultPosition", desc := "()I" } : Jvm.MethodName) prog_1_method_50_code (1 : Nat) (Option.some Jvm.ClassFile.FieldType.int)) ∈ lw_all := lw_g (lw_at lw_m5 56 rfl) rfl
theorem q1112 : (Jvm.Cond.instanceMethod ({ cls := "TokenRing", name := "tellRing", desc := "()I" } : Jvm.MethodName)) ∈ lw_all := lw_g (lw_at lw_m5 58 rfl) rfl
theorem q1113 : (Jvm.Cond.selects "TokenRing" ({ cls := "TokenRing", name := "tellRing", desc := "()I" } : Jvm.MethodName) ({ cls := "TokenRing", name := "tellRing", desc := "()I" } : Jvm.MethodName)) ∈ lw_all := lw_g (lw_at lw_m5 59 rfl) rfl
theorem q1114 : (Jvm.Cond.code ({ cls := "TokenRing", name := "tellRing", desc := "()I" } : Jvm.MethodName) prog_1_method_52_code (3 : Nat) (Option.some Jvm.ClassFile.FieldType.int)) ∈ lw_all := lw_g (lw_at lw_m5 60 rfl) rfl
theorem q1115 : (Jvm.Cond.methodLink "TokenRing" (373 : Nat) ({ cls := "java/lang/StringBuilder", name := "setLength", desc := "(I)V" } : Jvm.MethodName)) ∈ lw_all := lw_g (lw_at lw_m5 61 rfl) rfl
theorem q1385 : (Jvm.Cond.methodLink "TokenRing" (248 : Nat) ({ cls := "java/util/TreeMap", name := "values", desc := "()Ljava/util/Collection;" } : Jvm.MethodName)) ∈ lw_all := lw_g (lw_at lw_m6 91 rfl) rfl
theorem q1386 : (Jvm.Cond.interfaceEntry "TokenRing" (252 : Nat)) ∈ lw_tbl := lw_at lw_m6 92 rfl
theorem q1387 : (Jvm.Cond.methodLink "TokenRing" (252 : Nat) ({ cls := "java/util/Collection", name := "iterator", desc := "()Ljava/util/Iterator;" } : Jvm.MethodName)) ∈ lw_all := lw_g (lw_at lw_m6 93 rfl) rfl
theorem q1388 : (Jvm.Cond.interfaceEntry "TokenRing" (258 : Nat)) ∈ lw_tbl := lw_at lw_m6 94 rfl
theorem q1389 : (Jvm.Cond.methodLink "TokenRing" (258 : Nat) ({ cls := "java/util/Iterator", name := "hasNext", desc := "()Z" } : Jvm.MethodName)) ∈ lw_all := lw_g (lw_at lw_m6 95 rfl) rfl
theorem q1390 : (Jvm.Cond.interfaceEntry "TokenRing" (263 : Nat)) ∈ lw_tbl := lw_at lw_m6 96 rfl
theorem q1391 : (Jvm.Cond.methodLink "TokenRing" (263 : Nat) ({ cls := "java/util/Iterator", name := "next", desc := "()Ljava/lang/Object;" } : Jvm.MethodName)) ∈ lw_all := lw_g (lw_at lw_m6 97 rfl) rfl
theorem q1392 : (Jvm.Cond.classLink "TokenRing" (113 : Nat) "TokenRing$Station") ∈ lw_all := lw_g (lw_at lw_m6 98 rfl) rfl
theorem q1393 : (Jvm.Cond.methodLink "TokenRing" (354 : Nat) ({ cls := "java/lang/StringBuilder", name := "length", desc := "()I" } : Jvm.MethodName)) ∈ lw_all := lw_g (lw_at lw_m6 99 rfl) rfl
theorem q1394 : (Jvm.Cond.stringRef "TokenRing" (397 : Nat) " ") ∈ lw_tbl := lw_at lw_m6 100 rfl
theorem q1395 : (Jvm.Cond.stringRef "TokenRing" (399 : Nat) "") ∈ lw_tbl := lw_at lw_m6 101 rfl
theorem q1396 : (Jvm.Cond.methodLink "TokenRing" (401 : Nat) ({ cls := "java/lang/StringBuilder", name := "append", desc := "(Ljava/lang/String;)Ljava/lang/StringBuilder;" } : Jvm.MethodName)) ∈ lw_all := lw_g (lw_at lw_m6 102 rfl) rfl
theorem q1397 : (Jvm.Cond.methodLink "TokenRing" (404 : Nat) ({ cls := "java/lang/StringBuilder", name := "append", desc := "(I)Ljava/lang/StringBuilder;" } : Jvm.MethodName)) ∈ lw_all := lw_g (lw_at lw_m6 103 rfl) rfl
theorem q1398 : (Jvm.Cond.stringRef "TokenRing" (407 : Nat) "*") ∈ lw_tbl := lw_at lw_m6 104 rfl
theorem q1399 : (Jvm.Cond.methodLink "TokenRing" (360 : Nat) ({ cls := "java/lang/StringBuilder", name := "append", desc := "(C)Ljava/lang/StringBuilder;" } : Jvm.MethodName)) ∈ lw_all := lw_g (lw_at lw_m6 105 rfl) rfl
theorem q1421 : (Jvm.Cond.methodLink "TokenRing" (241 : Nat) ({ cls := "TokenRing", name := "onRingOf", desc := "(LTokenRing$State;I)I" } : Jvm.MethodName)) ∈ lw_all := lw_g (lw_at lw_m6 127 rfl) rfl
theorem q1422 : (Jvm.Cond.static ({ cls := "TokenRing", name := "onRingOf", desc := "(LTokenRing$State;I)I" } : Jvm.MethodName)) ∈ lw_all := lw_g (lw_at lw_m6 128 rfl) rfl
theorem q1423 : (Jvm.Cond.code ({ cls := "TokenRing", name := "onRingOf", desc := "(LTokenRing$State;I)I" } : Jvm.MethodName) prog_1_method_24_code (2 : Nat) (Option.some Jvm.ClassFile.FieldType.int)) ∈ lw_all := lw_g (lw_at lw_m6 129 rfl) rfl
theorem q1424 : (Jvm.Cond.methodLink "TokenRing" (234 : Nat) ({ cls := "TokenRing", name := "of", desc := "(Z)I" } : Jvm.MethodName)) ∈ lw_all := lw_g (lw_at lw_m6 130 rfl) rfl
theorem q1425 : (Jvm.Cond.static ({ cls := "TokenRing", name := "of", desc := "(Z)I" } : Jvm.MethodName)) ∈ lw_all := lw_g (lw_at lw_m6 131 rfl) rfl
theorem q1426 : (Jvm.Cond.code ({ cls := "TokenRing", name := "of", desc := "(Z)I" } : Jvm.MethodName) prog_1_method_23_code (1 : Nat) (Option.some Jvm.ClassFile.FieldType.int)) ∈ lw_all := lw_g (lw_at lw_m6 132 rfl) rfl
theorem q1427 : (Jvm.Cond.methodLink "TokenRing" (409 : Nat) ({ cls := "java/util/TreeMap", name := "isEmpty", desc := "()Z" } : Jvm.MethodName)) ∈ lw_all := lw_g (lw_at lw_m6 133 rfl) rfl
theorem q1499 : (Jvm.Cond.stringRef "TokenRing" (410 : Nat) "nobody") ∈ lw_tbl := lw_at lw_m6 205 rfl
theorem q1501 : (Jvm.Cond.instanceMethod ({ cls := "TokenRing", name := "save", desc := "()I" } : Jvm.MethodName)) ∈ lw_all := lw_g (lw_at lw_m6 207 rfl) rfl
theorem q1502 : (Jvm.Cond.selects "TokenRing" ({ cls := "TokenRing", name := "save", desc := "()I" } : Jvm.MethodName) ({ cls := "TokenRing", name := "save", desc := "()I" } : Jvm.MethodName)) ∈ lw_all := lw_g (lw_at lw_m6 208 rfl) rfl
theorem q1503 : (Jvm.Cond.code ({ cls := "TokenRing", name := "save", desc := "()I" } : Jvm.MethodName) prog_1_method_60_code (1 : Nat) (Option.some Jvm.ClassFile.FieldType.int)) ∈ lw_all := lw_g (lw_at lw_m6 209 rfl) rfl
theorem q1504 : (Jvm.Cond.methodLink "TokenRing" (73 : Nat) ({ cls := "TokenRing$State", name := "copy", desc := "()LTokenRing$State;" } : Jvm.MethodName)) ∈ lw_all := lw_g (lw_at lw_m6 210 rfl) rfl
theorem q1550 : (Jvm.Cond.fieldLinkNest "TokenRing" (266 : Nat) "TokenRing$Station" "address" "I" "TokenRing") ∈ lw_tbl := lw_at lw_m7 16 rfl
theorem q1555 : (Jvm.Cond.fieldLinkNest "TokenRing" (149 : Nat) "TokenRing$Station" "queue" "Ljava/util/ArrayList;" "TokenRing") ∈ lw_tbl := lw_at lw_m7 21 rfl
theorem q1558 : (Jvm.Cond.fieldLinkNest "TokenRing" (287 : Nat) "TokenRing$Station" "sent" "I" "TokenRing") ∈ lw_tbl := lw_at lw_m7 24 rfl
theorem q1561 : (Jvm.Cond.fieldLinkNest "TokenRing" (290 : Nat) "TokenRing$Station" "received" "I" "TokenRing") ∈ lw_tbl := lw_at lw_m7 27 rfl
theorem q1600 : (Jvm.Cond.selects "TokenRing" ({ cls := "java/lang/Object", name := "getClass", desc := "()Ljava/lang/Class;" } : Jvm.MethodName) ({ cls := "java/lang/Object", name := "getClass", desc := "()Ljava/lang/Class;" } : Jvm.MethodName)) ∈ lw_all := lw_g (lw_at lw_m7 66 rfl) rfl
theorem q1739 : (Jvm.Cond.fieldLinkNest "TokenRing" (216 : Nat) "TokenRing$Ride" "frame" "LTokenRing$Frame;" "TokenRing") ∈ lw_tbl := lw_at lw_m7 205 rfl
theorem q1741 : (Jvm.Cond.fieldLinkNest "TokenRing" (228 : Nat) "TokenRing$Ride" "held" "I" "TokenRing") ∈ lw_tbl := lw_at lw_m7 207 rfl
theorem q1744 : (Jvm.Cond.fieldLinkNest "TokenRing" (225 : Nat) "TokenRing$Ride" "reserved" "I" "TokenRing") ∈ lw_tbl := lw_at lw_m7 210 rfl
theorem q1747 : (Jvm.Cond.fieldLinkNest "TokenRing" (317 : Nat) "TokenRing$Ride" "isReceived" "Z" "TokenRing") ∈ lw_tbl := lw_at lw_m7 213 rfl
theorem q1750 : (Jvm.Cond.fieldLinkNest "TokenRing" (231 : Nat) "TokenRing$Ride" "isMarked" "Z" "TokenRing") ∈ lw_tbl := lw_at lw_m7 216 rfl
theorem q1767 : (Jvm.Cond.instanceMethod ({ cls := "TokenRing", name := "join", desc := "(I)I" } : Jvm.MethodName)) ∈ lw_all := lw_g (lw_at lw_m7 233 rfl) rfl
theorem q1768 : (Jvm.Cond.selects "TokenRing" ({ cls := "TokenRing", name := "join", desc := "(I)I" } : Jvm.MethodName) ({ cls := "TokenRing", name := "join", desc := "(I)I" } : Jvm.MethodName)) ∈ lw_all := lw_g (lw_at lw_m7 234 rfl) rfl
theorem q1769 : (Jvm.Cond.code ({ cls := "TokenRing", name := "join", desc := "(I)I" } : Jvm.MethodName) prog_1_method_15_code (2 : Nat) (Option.some Jvm.ClassFile.FieldType.int)) ∈ lw_all := lw_g (lw_at lw_m7 235 rfl) rfl
theorem q1770 : (Jvm.Cond.methodLink "TokenRing" (119 : Nat) ({ cls := "TokenRing", name := "inRange", desc := "(III)V" } : Jvm.MethodName)) ∈ lw_all := lw_g (lw_at lw_m7 236 rfl) rfl
theorem q1771 : (Jvm.Cond.privateMethod ({ cls := "TokenRing", name := "inRange", desc := "(III)V" } : Jvm.MethodName)) ∈ lw_tbl := lw_at lw_m7 237 rfl
theorem q1772 : (Jvm.Cond.instanceMethod ({ cls := "TokenRing", name := "inRange", desc := "(III)V" } : Jvm.MethodName)) ∈ lw_all := lw_g (lw_at lw_m7 238 rfl) rfl
theorem q1773 : (Jvm.Cond.code ({ cls := "TokenRing", name := "inRange", desc := "(III)V" } : Jvm.MethodName) prog_1_method_4_code (4 : Nat) (Option.none : Option Jvm.ClassFile.FieldType)) ∈ lw_all := lw_g (lw_at lw_m7 239 rfl) rfl
theorem q1774 : (Jvm.Cond.methodLink "TokenRing" (49 : Nat) ({ cls := "TokenRing", name := "isBetween", desc := "(III)Z" } : Jvm.MethodName)) ∈ lw_all := lw_g (lw_at lw_m8 0 rfl) rfl
theorem q1775 : (Jvm.Cond.static ({ cls := "TokenRing", name := "isBetween", desc := "(III)Z" } : Jvm.MethodName)) ∈ lw_all := lw_g (lw_at lw_m8 1 rfl) rfl
theorem q1776 : (Jvm.Cond.code ({ cls := "TokenRing", name := "isBetween", desc := "(III)Z" } : Jvm.MethodName) prog_1_method_2_code (3 : Nat) (Option.some Jvm.ClassFile.FieldType.boolean)) ∈ lw_all := lw_g (lw_at lw_m8 2 rfl) rfl
theorem q1777 : (Jvm.Cond.methodLink "TokenRing" (53 : Nat) ({ cls := "TokenRing", name := "refuse", desc := "(ZII)V" } : Jvm.MethodName)) ∈ lw_all := lw_g (lw_at lw_m8 3 rfl) rfl
theorem q1778 : (Jvm.Cond.privateMethod ({ cls := "TokenRing", name := "refuse", desc := "(ZII)V" } : Jvm.MethodName)) ∈ lw_tbl := lw_at lw_m8 4 rfl
theorem q1779 : (Jvm.Cond.instanceMethod ({ cls := "TokenRing", name := "refuse", desc := "(ZII)V" } : Jvm.MethodName)) ∈ lw_all := lw_g (lw_at lw_m8 5 rfl) rfl
theorem q1780 : (Jvm.Cond.code ({ cls := "TokenRing", name := "refuse", desc := "(ZII)V" } : Jvm.MethodName) prog_1_method_3_code (4 : Nat) (Option.none : Option Jvm.ClassFile.FieldType)) ∈ lw_all := lw_g (lw_at lw_m8 6 rfl) rfl
theorem q1781 : (Jvm.Cond.classLink "TokenRing" (37 : Nat) "TokenRing$Reason") ∈ lw_all := lw_g (lw_at lw_m8 7 rfl) rfl
theorem q1783 : (Jvm.Cond.methodLink "TokenRing" (39 : Nat) ({ cls := "TokenRing$Reason", name := "<init>", desc := "(IILTokenRing$Reason;)V" } : Jvm.MethodName)) ∈ lw_all := lw_g (lw_at lw_m8 9 rfl) rfl
theorem q1788 : (Jvm.Cond.fieldLinkNest "TokenRing" (396 : Nat) "TokenRing$Reason" "number" "I" "TokenRing") ∈ lw_tbl := lw_at lw_m8 14 rfl
theorem q1790 : (Jvm.Cond.fieldLinkNest "TokenRing" (393 : Nat) "TokenRing$Reason" "detail" "I" "TokenRing") ∈ lw_tbl := lw_at lw_m8 16 rfl
theorem q1792 : (Jvm.Cond.fieldLinkNest "TokenRing" (390 : Nat) "TokenRing$Reason" "cause" "LTokenRing$Reason;" "TokenRing") ∈ lw_tbl := lw_at lw_m8 18 rfl
theorem q1800 : (Jvm.Cond.classLink "TokenRing" (46 : Nat) "java/lang/UnsupportedOperationException") ∈ lw_all := lw_g (lw_at lw_m8 26 rfl) rfl
theorem q1809 : (Jvm.Cond.methodLink "TokenRing" (48 : Nat) ({ cls := "java/lang/UnsupportedOperationException", name := "<init>", desc := "()V" } : Jvm.MethodName)) ∈ lw_all := lw_g (lw_at lw_m8 35 rfl) rfl
theorem q1815 : (Jvm.Cond.methodLink "TokenRing" (105 : Nat) ({ cls := "TokenRing", name := "isStation", desc := "(I)Z" } : Jvm.MethodName)) ∈ lw_all := lw_g (lw_at lw_m8 41 rfl) rfl
theorem q1816 : (Jvm.Cond.privateMethod ({ cls := "TokenRing", name := "isStation", desc := "(I)Z" } : Jvm.MethodName)) ∈ lw_tbl := lw_at lw_m8 42 rfl
theorem q1817 : (Jvm.Cond.instanceMethod ({ cls := "TokenRing", name := "isStation", desc := "(I)Z" } : Jvm.MethodName)) ∈ lw_all := lw_g (lw_at lw_m8 43 rfl) rfl
theorem q1818 : (Jvm.Cond.code ({ cls := "TokenRing", name := "isStation", desc := "(I)Z" } : Jvm.MethodName) prog_1_method_12_code (2 : Nat) (Option.some Jvm.ClassFile.FieldType.boolean)) ∈ lw_all := lw_g (lw_at lw_m8 44 rfl) rfl
theorem q1819 : (Jvm.Cond.methodLink "TokenRing" (93 : Nat) ({ cls := "java/lang/Integer", name := "valueOf", desc := "(I)Ljava/lang/Integer;" } : Jvm.MethodName)) ∈ lw_all := lw_g (lw_at lw_m8 45 rfl) rfl
theorem q1820 : (Jvm.Cond.methodLink "TokenRing" (99 : Nat) ({ cls := "java/util/TreeMap", name := "containsKey", desc := "(Ljava/lang/Object;)Z" } : Jvm.MethodName)) ∈ lw_all := lw_g (lw_at lw_m8 46 rfl) rfl
theorem q1824 : (Jvm.Cond.methodLink "TokenRing" (123 : Nat) ({ cls := "java/util/TreeMap", name := "size", desc := "()I" } : Jvm.MethodName)) ∈ lw_all := lw_g (lw_at lw_m8 50 rfl) rfl
theorem q1825 : (Jvm.Cond.methodLink "TokenRing" (124 : Nat) ({ cls := "TokenRing", name := "hasPlace", desc := "(II)V" } : Jvm.MethodName)) ∈ lw_all := lw_g (lw_at lw_m8 51 rfl) rfl
theorem q1826 : (Jvm.Cond.privateMethod ({ cls := "TokenRing", name := "hasPlace", desc := "(II)V" } : Jvm.MethodName)) ∈ lw_tbl := lw_at lw_m8 52 rfl
theorem q1827 : (Jvm.Cond.instanceMethod ({ cls := "TokenRing", name := "hasPlace", desc := "(II)V" } : Jvm.MethodName)) ∈ lw_all := lw_g (lw_at lw_m8 53 rfl) rfl
theorem q1828 : (Jvm.Cond.code ({ cls := "TokenRing", name := "hasPlace", desc := "(II)V" } : Jvm.MethodName) prog_1_method_5_code (3 : Nat) (Option.none : Option Jvm.ClassFile.FieldType)) ∈ lw_all := lw_g (lw_at lw_m8 54 rfl) rfl
theorem q1829 : (Jvm.Cond.methodLink "TokenRing" (128 : Nat) ({ cls := "TokenRing", name := "change", desc := "()V" } : Jvm.MethodName)) ∈ lw_all := lw_g (lw_at lw_m8 55 rfl) rfl
theorem q1830 : (Jvm.Cond.privateMethod ({ cls := "TokenRing", name := "change", desc := "()V" } : Jvm.MethodName)) ∈ lw_tbl := lw_at lw_m8 56 rfl
theorem q1831 : (Jvm.Cond.instanceMethod ({ cls := "TokenRing", name := "change", desc := "()V" } : Jvm.MethodName)) ∈ lw_all := lw_g (lw_at lw_m8 57 rfl) rfl
theorem q1832 : (Jvm.Cond.code ({ cls := "TokenRing", name := "change", desc := "()V" } : Jvm.MethodName) prog_1_method_10_code (1 : Nat) (Option.none : Option Jvm.ClassFile.FieldType)) ∈ lw_all := lw_g (lw_at lw_m8 58 rfl) rfl
theorem q1833 : (Jvm.Cond.methodLink "TokenRing" (77 : Nat) ({ cls := "java/util/ArrayDeque", name := "addLast", desc := "(Ljava/lang/Object;)V" } : Jvm.MethodName)) ∈ lw_all := lw_g (lw_at lw_m8 59 rfl) rfl
theorem q1866 : (Jvm.Cond.methodLink "TokenRing" (81 : Nat) ({ cls := "java/util/ArrayDeque", name := "size", desc := "()I" } : Jvm.MethodName)) ∈ lw_all := lw_g (lw_at lw_m8 92 rfl) rfl
theorem q1867 : (Jvm.Cond.methodLink "TokenRing" (85 : Nat) ({ cls := "java/util/ArrayDeque", name := "removeFirst", desc := "()Ljava/lang/Object;" } : Jvm.MethodName)) ∈ lw_all := lw_g (lw_at lw_m8 93 rfl) rfl
theorem q1880 : (Jvm.Cond.methodLink "TokenRing" (131 : Nat) ({ cls := "TokenRing$Station", name := "<init>", desc := "(I)V" } : Jvm.MethodName)) ∈ lw_all := lw_g (lw_at lw_m8 106 rfl) rfl
theorem q1881 : (Jvm.Cond.methodLink "TokenRing" (134 : Nat) ({ cls := "java/util/TreeMap", name := "put", desc := "(Ljava/lang/Object;Ljava/lang/Object;)Ljava/lang/Object;" } : Jvm.MethodName)) ∈ lw_all := lw_g (lw_at lw_m8 107 rfl) rfl
theorem q1886 : (Jvm.Cond.instanceMethod ({ cls := "TokenRing", name := "leave", desc := "(I)I" } : Jvm.MethodName)) ∈ lw_all := lw_g (lw_at lw_m8 112 rfl) rfl
theorem q1887 : (Jvm.Cond.selects "TokenRing" ({ cls := "TokenRing", name := "leave", desc := "(I)I" } : Jvm.MethodName) ({ cls := "TokenRing", name := "leave", desc := "(I)I" } : Jvm.MethodName)) ∈ lw_all := lw_g (lw_at lw_m8 113 rfl) rfl
theorem q1888 : (Jvm.Cond.code ({ cls := "TokenRing", name := "leave", desc := "(I)I" } : Jvm.MethodName) prog_1_method_16_code (2 : Nat) (Option.some Jvm.ClassFile.FieldType.int)) ∈ lw_all := lw_g (lw_at lw_m8 114 rfl) rfl
theorem q1889 : (Jvm.Cond.methodLink "TokenRing" (138 : Nat) ({ cls := "TokenRing", name := "stationFor", desc := "(I)LTokenRing$Station;" } : Jvm.MethodName)) ∈ lw_all := lw_g (lw_at lw_m8 115 rfl) rfl
theorem q1890 : (Jvm.Cond.privateMethod ({ cls := "TokenRing", name := "stationFor", desc := "(I)LTokenRing$Station;" } : Jvm.MethodName)) ∈ lw_tbl := lw_at lw_m8 116 rfl
theorem q1891 : (Jvm.Cond.instanceMethod ({ cls := "TokenRing", name := "stationFor", desc := "(I)LTokenRing$Station;" } : Jvm.MethodName)) ∈ lw_all := lw_g (lw_at lw_m8 117 rfl) rfl
theorem q1892 : (Jvm.Cond.code ({ cls := "TokenRing", name := "stationFor", desc := "(I)LTokenRing$Station;" } : Jvm.MethodName) prog_1_method_13_code (2 : Nat) (Option.some (Jvm.ClassFile.FieldType.object "TokenRing$Station"))) ∈ lw_all := lw_g (lw_at lw_m8 118 rfl) rfl
theorem q1893 : (Jvm.Cond.methodLink "TokenRing" (109 : Nat) ({ cls := "java/util/TreeMap", name := "get", desc := "(Ljava/lang/Object;)Ljava/lang/Object;" } : Jvm.MethodName)) ∈ lw_all := lw_g (lw_at lw_m8 119 rfl) rfl
theorem q1894 : (Jvm.Cond.methodLink "TokenRing" (142 : Nat) ({ cls := "TokenRing$State", name := "leaves", desc := "(I)I" } : Jvm.MethodName)) ∈ lw_all := lw_g (lw_at lw_m8 120 rfl) rfl
theorem q1921 : (Jvm.Cond.instanceMethod ({ cls := "TokenRing", name := "queue", desc := "(IIII)I" } : Jvm.MethodName)) ∈ lw_all := lw_g (lw_at lw_m8 147 rfl) rfl
theorem q1922 : (Jvm.Cond.selects "TokenRing" ({ cls := "TokenRing", name := "queue", desc := "(IIII)I" } : Jvm.MethodName) ({ cls := "TokenRing", name := "queue", desc := "(IIII)I" } : Jvm.MethodName)) ∈ lw_all := lw_g (lw_at lw_m8 148 rfl) rfl
theorem q1923 : (Jvm.Cond.code ({ cls := "TokenRing", name := "queue", desc := "(IIII)I" } : Jvm.MethodName) prog_1_method_18_code (7 : Nat) (Option.some Jvm.ClassFile.FieldType.int)) ∈ lw_all := lw_g (lw_at lw_m8 149 rfl) rfl
theorem q1924 : (Jvm.Cond.methodLink "TokenRing" (153 : Nat) ({ cls := "java/util/ArrayList", name := "size", desc := "()I" } : Jvm.MethodName)) ∈ lw_all := lw_g (lw_at lw_m8 150 rfl) rfl
theorem q1925 : (Jvm.Cond.classLink "TokenRing" (159 : Nat) "TokenRing$Frame") ∈ lw_all := lw_g (lw_at lw_m8 151 rfl) rfl
theorem q1927 : (Jvm.Cond.methodLink "TokenRing" (164 : Nat) ({ cls := "TokenRing$Frame", name := "<init>", desc := "(IIIIII)V" } : Jvm.MethodName)) ∈ lw_all := lw_g (lw_at lw_m8 153 rfl) rfl
theorem q1934 : (Jvm.Cond.fieldLinkNest "TokenRing" (182 : Nat) "TokenRing$Frame" "number" "I" "TokenRing") ∈ lw_tbl := lw_at lw_m8 160 rfl
theorem q1941 : (Jvm.Cond.fieldLinkNest "TokenRing" (222 : Nat) "TokenRing$Frame" "rank" "I" "TokenRing") ∈ lw_tbl := lw_at lw_m8 167 rfl
theorem q1960 : (Jvm.Cond.methodLink "TokenRing" (167 : Nat) ({ cls := "TokenRing$Station", name := "add", desc := "(LTokenRing$Frame;)V" } : Jvm.MethodName)) ∈ lw_all := lw_g (lw_at lw_m8 186 rfl) rfl
theorem q2013 : (Jvm.Cond.instanceMethod ({ cls := "TokenRing", name := "drop", desc := "(I)I" } : Jvm.MethodName)) ∈ lw_all := lw_g (lw_at lw_m8 239 rfl) rfl
theorem q2014 : (Jvm.Cond.selects "TokenRing" ({ cls := "TokenRing", name := "drop", desc := "(I)I" } : Jvm.MethodName) ({ cls := "TokenRing", name := "drop", desc := "(I)I" } : Jvm.MethodName)) ∈ lw_all := lw_g (lw_at lw_m9 0 rfl) rfl
theorem q2015 : (Jvm.Cond.code ({ cls := "TokenRing", name := "drop", desc := "(I)I" } : Jvm.MethodName) prog_1_method_19_code (4 : Nat) (Option.some Jvm.ClassFile.FieldType.int)) ∈ lw_all := lw_g (lw_at lw_m9 1 rfl) rfl
theorem q2016 : (Jvm.Cond.methodLink "TokenRing" (171 : Nat) ({ cls := "java/util/ArrayList", name := "isEmpty", desc := "()Z" } : Jvm.MethodName)) ∈ lw_all := lw_g (lw_at lw_m9 2 rfl) rfl
theorem q2020 : (Jvm.Cond.methodLink "TokenRing" (175 : Nat) ({ cls := "java/util/ArrayList", name := "remove", desc := "(I)Ljava/lang/Object;" } : Jvm.MethodName)) ∈ lw_all := lw_g (lw_at lw_m9 6 rfl) rfl
theorem q2032 : (Jvm.Cond.instanceMethod ({ cls := "TokenRing", name := "monitor", desc := "(I)I" } : Jvm.MethodName)) ∈ lw_all := lw_g (lw_at lw_m9 18 rfl) rfl
theorem q2033 : (Jvm.Cond.selects "TokenRing" ({ cls := "TokenRing", name := "monitor", desc := "(I)I" } : Jvm.MethodName) ({ cls := "TokenRing", name := "monitor", desc := "(I)I" } : Jvm.MethodName)) ∈ lw_all := lw_g (lw_at lw_m9 19 rfl) rfl
theorem q2034 : (Jvm.Cond.code ({ cls := "TokenRing", name := "monitor", desc := "(I)I" } : Jvm.MethodName) prog_1_method_17_code (3 : Nat) (Option.some Jvm.ClassFile.FieldType.int)) ∈ lw_all := lw_g (lw_at lw_m9 20 rfl) rfl
theorem q2039 : (Jvm.Cond.instanceMethod ({ cls := "TokenRing", name := "token", desc := "(I)I" } : Jvm.MethodName)) ∈ lw_all := lw_g (lw_at lw_m9 25 rfl) rfl
theorem q2040 : (Jvm.Cond.selects "TokenRing" ({ cls := "TokenRing", name := "token", desc := "(I)I" } : Jvm.MethodName) ({ cls := "TokenRing", name := "token", desc := "(I)I" } : Jvm.MethodName)) ∈ lw_all := lw_g (lw_at lw_m9 26 rfl) rfl
theorem q2041 : (Jvm.Cond.code ({ cls := "TokenRing", name := "token", desc := "(I)I" } : Jvm.MethodName) prog_1_method_20_code (2 : Nat) (Option.some Jvm.ClassFile.FieldType.int)) ∈ lw_all := lw_g (lw_at lw_m9 27 rfl) rfl
theorem q2042 : (Jvm.Cond.methodLink "TokenRing" (188 : Nat) ({ cls := "TokenRing$State", name := "tokenComes", desc := "(II)V" } : Jvm.MethodName)) ∈ lw_all := lw_g (lw_at lw_m9 28 rfl) rfl
theorem q2050 : (Jvm.Cond.instanceMethod ({ cls := "TokenRing", name := "lose", desc := "()I" } : Jvm.MethodName)) ∈ lw_all := lw_g (lw_at lw_m9 36 rfl) rfl
theorem q2051 : (Jvm.Cond.selects "TokenRing" ({ cls := "TokenRing", name := "lose", desc := "()I" } : Jvm.MethodName) ({ cls := "TokenRing", name := "lose", desc := "()I" } : Jvm.MethodName)) ∈ lw_all := lw_g (lw_at lw_m9 37 rfl) rfl
theorem q2052 : (Jvm.Cond.code ({ cls := "TokenRing", name := "lose", desc := "()I" } : Jvm.MethodName) prog_1_method_21_code (1 : Nat) (Option.some Jvm.ClassFile.FieldType.int)) ∈ lw_all := lw_g (lw_at lw_m9 38 rfl) rfl
theorem q2053 : (Jvm.Cond.methodLink "TokenRing" (197 : Nat) ({ cls := "TokenRing$State", name := "loses", desc := "()I" } : Jvm.MethodName)) ∈ lw_all := lw_g (lw_at lw_m9 39 rfl) rfl
theorem q2058 : (Jvm.Cond.instanceMethod ({ cls := "TokenRing", name := "tick", desc := "(I)I" } : Jvm.MethodName)) ∈ lw_all := lw_g (lw_at lw_m9 44 rfl) rfl
theorem q2059 : (Jvm.Cond.selects "TokenRing" ({ cls := "TokenRing", name := "tick", desc := "(I)I" } : Jvm.MethodName) ({ cls := "TokenRing", name := "tick", desc := "(I)I" } : Jvm.MethodName)) ∈ lw_all := lw_g (lw_at lw_m9 45 rfl) rfl
theorem q2060 : (Jvm.Cond.code ({ cls := "TokenRing", name := "tick", desc := "(I)I" } : Jvm.MethodName) prog_1_method_22_code (4 : Nat) (Option.some Jvm.ClassFile.FieldType.int)) ∈ lw_all := lw_g (lw_at lw_m9 46 rfl) rfl
theorem q2061 : (Jvm.Cond.methodLink "TokenRing" (203 : Nat) ({ cls := "TokenRing$State", name := "goesBy", desc := "()V" } : Jvm.MethodName)) ∈ lw_all := lw_g (lw_at lw_m9 47 rfl) rfl
theorem q2135 : (Jvm.Cond.instanceMethod ({ cls := "TokenRing", name := "onRing", desc := "(I)I" } : Jvm.MethodName)) ∈ lw_all := lw_g (lw_at lw_m9 121 rfl) rfl
theorem q2136 : (Jvm.Cond.selects "TokenRing" ({ cls := "TokenRing", name := "onRing", desc := "(I)I" } : Jvm.MethodName) ({ cls := "TokenRing", name := "onRing", desc := "(I)I" } : Jvm.MethodName)) ∈ lw_all := lw_g (lw_at lw_m9 122 rfl) rfl
theorem q2137 : (Jvm.Cond.code ({ cls := "TokenRing", name := "onRing", desc := "(I)I" } : Jvm.MethodName) prog_1_method_25_code (2 : Nat) (Option.some Jvm.ClassFile.FieldType.int)) ∈ lw_all := lw_g (lw_at lw_m9 123 rfl) rfl
theorem q2138 : (Jvm.Cond.methodLink "TokenRing" (238 : Nat) ({ cls := "TokenRing", name := "check", desc := "(Z)V" } : Jvm.MethodName)) ∈ lw_all := lw_g (lw_at lw_m9 124 rfl) rfl
theorem q2139 : (Jvm.Cond.static ({ cls := "TokenRing", name := "check", desc := "(Z)V" } : Jvm.MethodName)) ∈ lw_all := lw_g (lw_at lw_m9 125 rfl) rfl
theorem q2140 : (Jvm.Cond.code ({ cls := "TokenRing", name := "check", desc := "(Z)V" } : Jvm.MethodName) prog_1_method_6_code (1 : Nat) (Option.none : Option Jvm.ClassFile.FieldType)) ∈ lw_all := lw_g (lw_at lw_m9 126 rfl) rfl
theorem q2141 : (Jvm.Cond.classLink "TokenRing" (57 : Nat) "java/lang/IllegalArgumentException") ∈ lw_all := lw_g (lw_at lw_m9 127 rfl) rfl
theorem q2142 : (Jvm.Cond.methodLink "TokenRing" (59 : Nat) ({ cls := "java/lang/IllegalArgumentException", name := "<init>", desc := "()V" } : Jvm.MethodName)) ∈ lw_all := lw_g (lw_at lw_m9 128 rfl) rfl
theorem q2151 : (Jvm.Cond.instanceMethod ({ cls := "TokenRing", name := "stationAt", desc := "(I)I" } : Jvm.MethodName)) ∈ lw_all := lw_g (lw_at lw_m9 137 rfl) rfl
theorem q2152 : (Jvm.Cond.selects "TokenRing" ({ cls := "TokenRing", name := "stationAt", desc := "(I)I" } : Jvm.MethodName) ({ cls := "TokenRing", name := "stationAt", desc := "(I)I" } : Jvm.MethodName)) ∈ lw_all := lw_g (lw_at lw_m9 138 rfl) rfl
theorem q2153 : (Jvm.Cond.code ({ cls := "TokenRing", name := "stationAt", desc := "(I)I" } : Jvm.MethodName) prog_1_method_26_code (6 : Nat) (Option.some Jvm.ClassFile.FieldType.int)) ∈ lw_all := lw_g (lw_at lw_m9 139 rfl) rfl
theorem q2154 : (Jvm.Cond.methodLink "TokenRing" (245 : Nat) ({ cls := "TokenRing", name := "checkElement", desc := "(Z)V" } : Jvm.MethodName)) ∈ lw_all := lw_g (lw_at lw_m9 140 rfl) rfl
theorem q2155 : (Jvm.Cond.static ({ cls := "TokenRing", name := "checkElement", desc := "(Z)V" } : Jvm.MethodName)) ∈ lw_all := lw_g (lw_at lw_m9 141 rfl) rfl
theorem q2156 : (Jvm.Cond.code ({ cls := "TokenRing", name := "checkElement", desc := "(Z)V" } : Jvm.MethodName) prog_1_method_8_code (1 : Nat) (Option.none : Option Jvm.ClassFile.FieldType)) ∈ lw_all := lw_g (lw_at lw_m9 142 rfl) rfl
theorem q2157 : (Jvm.Cond.classLink "TokenRing" (63 : Nat) "java/util/NoSuchElementException") ∈ lw_all := lw_g (lw_at lw_m9 143 rfl) rfl
theorem q2158 : (Jvm.Cond.methodLink "TokenRing" (65 : Nat) ({ cls := "java/util/NoSuchElementException", name := "<init>", desc := "()V" } : Jvm.MethodName)) ∈ lw_all := lw_g (lw_at lw_m9 144 rfl) rfl
theorem q2166 : (Jvm.Cond.instanceMethod ({ cls := "TokenRing", name := "waits", desc := "(II)I" } : Jvm.MethodName)) ∈ lw_all := lw_g (lw_at lw_m9 152 rfl) rfl
theorem q2167 : (Jvm.Cond.selects "TokenRing" ({ cls := "TokenRing", name := "waits", desc := "(II)I" } : Jvm.MethodName) ({ cls := "TokenRing", name := "waits", desc := "(II)I" } : Jvm.MethodName)) ∈ lw_all := lw_g (lw_at lw_m9 153 rfl) rfl
theorem q2168 : (Jvm.Cond.code ({ cls := "TokenRing", name := "waits", desc := "(II)I" } : Jvm.MethodName) prog_1_method_27_code (4 : Nat) (Option.some Jvm.ClassFile.FieldType.int)) ∈ lw_all := lw_g (lw_at lw_m9 154 rfl) rfl
theorem q2169 : (Jvm.Cond.methodLink "TokenRing" (269 : Nat) ({ cls := "TokenRing", name := "station0", desc := "(I)LTokenRing$Station;" } : Jvm.MethodName)) ∈ lw_all := lw_g (lw_at lw_m9 155 rfl) rfl
theorem q2170 : (Jvm.Cond.privateMethod ({ cls := "TokenRing", name := "station0", desc := "(I)LTokenRing$Station;" } : Jvm.MethodName)) ∈ lw_tbl := lw_at lw_m9 156 rfl
theorem q2171 : (Jvm.Cond.instanceMethod ({ cls := "TokenRing", name := "station0", desc := "(I)LTokenRing$Station;" } : Jvm.MethodName)) ∈ lw_all := lw_g (lw_at lw_m9 157 rfl) rfl
theorem q2172 : (Jvm.Cond.code ({ cls := "TokenRing", name := "station0", desc := "(I)LTokenRing$Station;" } : Jvm.MethodName) prog_1_method_14_code (2 : Nat) (Option.some (Jvm.ClassFile.FieldType.object "TokenRing$Station"))) ∈ lw_all := lw_g (lw_at lw_m9 158 rfl) rfl
theorem q2173 : (Jvm.Cond.methodLink "TokenRing" (115 : Nat) ({ cls := "TokenRing", name := "checkIndex", desc := "(Z)V" } : Jvm.MethodName)) ∈ lw_all := lw_g (lw_at lw_m9 159 rfl) rfl
theorem q2174 : (Jvm.Cond.static ({ cls := "TokenRing", name := "checkIndex", desc := "(Z)V" } : Jvm.MethodName)) ∈ lw_all := lw_g (lw_at lw_m9 160 rfl) rfl
theorem q2175 : (Jvm.Cond.code ({ cls := "TokenRing", name := "checkIndex", desc := "(Z)V" } : Jvm.MethodName) prog_1_method_7_code (1 : Nat) (Option.none : Option Jvm.ClassFile.FieldType)) ∈ lw_all := lw_g (lw_at lw_m9 161 rfl) rfl
theorem q2176 : (Jvm.Cond.classLink "TokenRing" (60 : Nat) "java/lang/IndexOutOfBoundsException") ∈ lw_all := lw_g (lw_at lw_m9 162 rfl) rfl
theorem q2177 : (Jvm.Cond.methodLink "TokenRing" (62 : Nat) ({ cls := "java/lang/IndexOutOfBoundsException", name := "<init>", desc := "()V" } : Jvm.MethodName)) ∈ lw_all := lw_g (lw_at lw_m9 163 rfl) rfl
theorem q2181 : (Jvm.Cond.methodLink "TokenRing" (272 : Nat) ({ cls := "java/util/ArrayList", name := "get", desc := "(I)Ljava/lang/Object;" } : Jvm.MethodName)) ∈ lw_all := lw_g (lw_at lw_m9 167 rfl) rfl
theorem q2186 : (Jvm.Cond.instanceMethod ({ cls := "TokenRing", name := "rankOf", desc := "(I)I" } : Jvm.MethodName)) ∈ lw_all := lw_g (lw_at lw_m9 172 rfl) rfl
theorem q2187 : (Jvm.Cond.selects "TokenRing" ({ cls := "TokenRing", name := "rankOf", desc := "(I)I" } : Jvm.MethodName) ({ cls := "TokenRing", name := "rankOf", desc := "(I)I" } : Jvm.MethodName)) ∈ lw_all := lw_g (lw_at lw_m9 173 rfl) rfl
theorem q2188 : (Jvm.Cond.code ({ cls := "TokenRing", name := "rankOf", desc := "(I)I" } : Jvm.MethodName) prog_1_method_29_code (3 : Nat) (Option.some Jvm.ClassFile.FieldType.int)) ∈ lw_all := lw_g (lw_at lw_m9 174 rfl) rfl
theorem q2189 : (Jvm.Cond.methodLink "TokenRing" (278 : Nat) ({ cls := "TokenRing", name := "find", desc := "(I)LTokenRing$Frame;" } : Jvm.MethodName)) ∈ lw_all := lw_g (lw_at lw_m9 175 rfl) rfl
theorem q2190 : (Jvm.Cond.privateMethod ({ cls := "TokenRing", name := "find", desc := "(I)LTokenRing$Frame;" } : Jvm.MethodName)) ∈ lw_tbl := lw_at lw_m9 176 rfl
theorem q2191 : (Jvm.Cond.instanceMethod ({ cls := "TokenRing", name := "find", desc := "(I)LTokenRing$Frame;" } : Jvm.MethodName)) ∈ lw_all := lw_g (lw_at lw_m9 177 rfl) rfl
theorem q2192 : (Jvm.Cond.code ({ cls := "TokenRing", name := "find", desc := "(I)LTokenRing$Frame;" } : Jvm.MethodName) prog_1_method_28_code (6 : Nat) (Option.some (Jvm.ClassFile.FieldType.object "TokenRing$Frame"))) ∈ lw_all := lw_g (lw_at lw_m9 178 rfl) rfl
theorem q2193 : (Jvm.Cond.methodLink "TokenRing" (274 : Nat) ({ cls := "TokenRing$State", name := "whereIs", desc := "(I)I" } : Jvm.MethodName)) ∈ lw_all := lw_g (lw_at lw_m9 179 rfl) rfl
theorem q2199 : (Jvm.Cond.methodLink "TokenRing" (277 : Nat) ({ cls := "java/util/ArrayList", name := "iterator", desc := "()Ljava/util/Iterator;" } : Jvm.MethodName)) ∈ lw_all := lw_g (lw_at lw_m9 185 rfl) rfl
theorem q2204 : (Jvm.Cond.instanceMethod ({ cls := "TokenRing", name := "whereIs", desc := "(I)I" } : Jvm.MethodName)) ∈ lw_all := lw_g (lw_at lw_m9 190 rfl) rfl
theorem q2205 : (Jvm.Cond.selects "TokenRing" ({ cls := "TokenRing", name := "whereIs", desc := "(I)I" } : Jvm.MethodName) ({ cls := "TokenRing", name := "whereIs", desc := "(I)I" } : Jvm.MethodName)) ∈ lw_all := lw_g (lw_at lw_m9 191 rfl) rfl
theorem q2206 : (Jvm.Cond.code ({ cls := "TokenRing", name := "whereIs", desc := "(I)I" } : Jvm.MethodName) prog_1_method_30_code (3 : Nat) (Option.some Jvm.ClassFile.FieldType.int)) ∈ lw_all := lw_g (lw_at lw_m9 192 rfl) rfl
theorem q2211 : (Jvm.Cond.instanceMethod ({ cls := "TokenRing", name := "queueOf", desc := "(II)I" } : Jvm.MethodName)) ∈ lw_all := lw_g (lw_at lw_m9 197 rfl) rfl
theorem q2212 : (Jvm.Cond.selects "TokenRing" ({ cls := "TokenRing", name := "queueOf", desc := "(II)I" } : Jvm.MethodName) ({ cls := "TokenRing", name := "queueOf", desc := "(II)I" } : Jvm.MethodName)) ∈ lw_all := lw_g (lw_at lw_m9 198 rfl) rfl
theorem q2213 : (Jvm.Cond.code ({ cls := "TokenRing", name := "queueOf", desc := "(II)I" } : Jvm.MethodName) prog_1_method_31_code (4 : Nat) (Option.some Jvm.ClassFile.FieldType.int)) ∈ lw_all := lw_g (lw_at lw_m9 199 rfl) rfl
theorem q2214 : (Jvm.Cond.methodLink "TokenRing" (282 : Nat) ({ cls := "TokenRing$Station", name := "rank", desc := "()I" } : Jvm.MethodName)) ∈ lw_all := lw_g (lw_at lw_m9 200 rfl) rfl
theorem q2215 : (Jvm.Cond.methodLink "TokenRing" (284 : Nat) ({ cls := "TokenRing$Station", name := "lengths", desc := "()I" } : Jvm.MethodName)) ∈ lw_all := lw_g (lw_at lw_m9 201 rfl) rfl
theorem q2223 : (Jvm.Cond.instanceMethod ({ cls := "TokenRing", name := "next", desc := "(I)I" } : Jvm.MethodName)) ∈ lw_all := lw_g (lw_at lw_m9 209 rfl) rfl
theorem q2224 : (Jvm.Cond.selects "TokenRing" ({ cls := "TokenRing", name := "next", desc := "(I)I" } : Jvm.MethodName) ({ cls := "TokenRing", name := "next", desc := "(I)I" } : Jvm.MethodName)) ∈ lw_all := lw_g (lw_at lw_m9 210 rfl) rfl
theorem q2225 : (Jvm.Cond.code ({ cls := "TokenRing", name := "next", desc := "(I)I" } : Jvm.MethodName) prog_1_method_32_code (2 : Nat) (Option.some Jvm.ClassFile.FieldType.int)) ∈ lw_all := lw_g (lw_at lw_m9 211 rfl) rfl
theorem q2226 : (Jvm.Cond.methodLink "TokenRing" (291 : Nat) ({ cls := "TokenRing$State", name := "next", desc := "(I)I" } : Jvm.MethodName)) ∈ lw_all := lw_g (lw_at lw_m9 212 rfl) rfl
theorem q2231 : (Jvm.Cond.instanceMethod ({ cls := "TokenRing", name := "steps", desc := "(II)I" } : Jvm.MethodName)) ∈ lw_all := lw_g (lw_at lw_m9 217 rfl) rfl
theorem q2232 : (Jvm.Cond.selects "TokenRing" ({ cls := "TokenRing", name := "steps", desc := "(II)I" } : Jvm.MethodName) ({ cls := "TokenRing", name := "steps", desc := "(II)I" } : Jvm.MethodName)) ∈ lw_all := lw_g (lw_at lw_m9 218 rfl) rfl
theorem q2233 : (Jvm.Cond.code ({ cls := "TokenRing", name := "steps", desc := "(II)I" } : Jvm.MethodName) prog_1_method_33_code (6 : Nat) (Option.some Jvm.ClassFile.FieldType.int)) ∈ lw_all := lw_g (lw_at lw_m9 219 rfl) rfl
theorem q2234 : (Jvm.Cond.methodLink "TokenRing" (293 : Nat) ({ cls := "TokenRing$State", name := "round", desc := "(I)LTokenRing$State$Round;" } : Jvm.MethodName)) ∈ lw_all := lw_g (lw_at lw_m9 220 rfl) rfl
theorem q2253 : (Jvm.Cond.methodLink "TokenRing" (297 : Nat) ({ cls := "TokenRing$State$Round", name := "iterator", desc := "()Ljava/util/Iterator;" } : Jvm.MethodName)) ∈ lw_all := lw_g (lw_at lw_m9 239 rfl) rfl
theorem q2277 : (Jvm.Cond.instanceMethod ({ cls := "TokenRing", name := "stepsAgain", desc := "(II)I" } : Jvm.MethodName)) ∈ lw_all := lw_g (lw_at lw_m10 23 rfl) rfl
theorem q2278 : (Jvm.Cond.selects "TokenRing" ({ cls := "TokenRing", name := "stepsAgain", desc := "(II)I" } : Jvm.MethodName) ({ cls := "TokenRing", name := "stepsAgain", desc := "(II)I" } : Jvm.MethodName)) ∈ lw_all := lw_g (lw_at lw_m10 24 rfl) rfl
theorem q2279 : (Jvm.Cond.code ({ cls := "TokenRing", name := "stepsAgain", desc := "(II)I" } : Jvm.MethodName) prog_1_method_35_code (4 : Nat) (Option.some Jvm.ClassFile.FieldType.int)) ∈ lw_all := lw_g (lw_at lw_m10 25 rfl) rfl
theorem q2280 : (Jvm.Cond.methodLink "TokenRing" (307 : Nat) ({ cls := "TokenRing", name := "placeOf", desc := "(I)I" } : Jvm.MethodName)) ∈ lw_all := lw_g (lw_at lw_m10 26 rfl) rfl
theorem q2281 : (Jvm.Cond.privateMethod ({ cls := "TokenRing", name := "placeOf", desc := "(I)I" } : Jvm.MethodName)) ∈ lw_tbl := lw_at lw_m10 27 rfl
theorem q2282 : (Jvm.Cond.instanceMethod ({ cls := "TokenRing", name := "placeOf", desc := "(I)I" } : Jvm.MethodName)) ∈ lw_all := lw_g (lw_at lw_m10 28 rfl) rfl
theorem q2283 : (Jvm.Cond.code ({ cls := "TokenRing", name := "placeOf", desc := "(I)I" } : Jvm.MethodName) prog_1_method_34_code (2 : Nat) (Option.some Jvm.ClassFile.FieldType.int)) ∈ lw_all := lw_g (lw_at lw_m10 29 rfl) rfl
theorem q2284 : (Jvm.Cond.methodLink "TokenRing" (300 : Nat) ({ cls := "java/util/TreeMap", name := "headMap", desc := "(Ljava/lang/Object;)Ljava/util/SortedMap;" } : Jvm.MethodName)) ∈ lw_all := lw_g (lw_at lw_m10 30 rfl) rfl
theorem q2340 : (Jvm.Cond.interfaceEntry "TokenRing" (304 : Nat)) ∈ lw_tbl := lw_at lw_m10 86 rfl
theorem q2355 : (Jvm.Cond.instanceMethod ({ cls := "TokenRing", name := "isInRing", desc := "(I)Z" } : Jvm.MethodName)) ∈ lw_all := lw_g (lw_at lw_m10 101 rfl) rfl
theorem q2356 : (Jvm.Cond.selects "TokenRing" ({ cls := "TokenRing", name := "isInRing", desc := "(I)Z" } : Jvm.MethodName) ({ cls := "TokenRing", name := "isInRing", desc := "(I)Z" } : Jvm.MethodName)) ∈ lw_all := lw_g (lw_at lw_m10 102 rfl) rfl
theorem q2357 : (Jvm.Cond.code ({ cls := "TokenRing", name := "isInRing", desc := "(I)Z" } : Jvm.MethodName) prog_1_method_36_code (2 : Nat) (Option.some Jvm.ClassFile.FieldType.boolean)) ∈ lw_all := lw_g (lw_at lw_m10 103 rfl) rfl
theorem q2358 : (Jvm.Cond.methodLink "TokenRing" (310 : Nat) ({ cls := "TokenRing", name := "isAddress", desc := "(I)Z" } : Jvm.MethodName)) ∈ lw_all := lw_g (lw_at lw_m10 104 rfl) rfl
theorem q2359 : (Jvm.Cond.static ({ cls := "TokenRing", name := "isAddress", desc := "(I)Z" } : Jvm.MethodName)) ∈ lw_all := lw_g (lw_at lw_m10 105 rfl) rfl
theorem q2360 : (Jvm.Cond.code ({ cls := "TokenRing", name := "isAddress", desc := "(I)Z" } : Jvm.MethodName) prog_1_method_11_code (1 : Nat) (Option.some Jvm.ClassFile.FieldType.boolean)) ∈ lw_all := lw_g (lw_at lw_m10 106 rfl) rfl
theorem q2365 : (Jvm.Cond.instanceMethod ({ cls := "TokenRing", name := "canTake", desc := "(I)Z" } : Jvm.MethodName)) ∈ lw_all := lw_g (lw_at lw_m10 111 rfl) rfl
theorem q2366 : (Jvm.Cond.selects "TokenRing" ({ cls := "TokenRing", name := "canTake", desc := "(I)Z" } : Jvm.MethodName) ({ cls := "TokenRing", name := "canTake", desc := "(I)Z" } : Jvm.MethodName)) ∈ lw_all := lw_g (lw_at lw_m10 112 rfl) rfl
theorem q2367 : (Jvm.Cond.code ({ cls := "TokenRing", name := "canTake", desc := "(I)Z" } : Jvm.MethodName) prog_1_method_37_code (2 : Nat) (Option.some Jvm.ClassFile.FieldType.boolean)) ∈ lw_all := lw_g (lw_at lw_m10 113 rfl) rfl
theorem q2368 : (Jvm.Cond.methodLink "TokenRing" (313 : Nat) ({ cls := "TokenRing$State", name := "canTake", desc := "(LTokenRing$Station;)Z" } : Jvm.MethodName)) ∈ lw_all := lw_g (lw_at lw_m10 114 rfl) rfl
theorem q2377 : (Jvm.Cond.instanceMethod ({ cls := "TokenRing", name := "whoTakes", desc := "()I" } : Jvm.MethodName)) ∈ lw_all := lw_g (lw_at lw_m10 123 rfl) rfl
theorem q2378 : (Jvm.Cond.selects "TokenRing" ({ cls := "TokenRing", name := "whoTakes", desc := "()I" } : Jvm.MethodName) ({ cls := "TokenRing", name := "whoTakes", desc := "()I" } : Jvm.MethodName)) ∈ lw_all := lw_g (lw_at lw_m10 124 rfl) rfl
theorem q2379 : (Jvm.Cond.code ({ cls := "TokenRing", name := "whoTakes", desc := "()I" } : Jvm.MethodName) prog_1_method_38_code (3 : Nat) (Option.some Jvm.ClassFile.FieldType.int)) ∈ lw_all := lw_g (lw_at lw_m10 125 rfl) rfl
theorem q2384 : (Jvm.Cond.instanceMethod ({ cls := "TokenRing", name := "receivedIn", desc := "(I)I" } : Jvm.MethodName)) ∈ lw_all := lw_g (lw_at lw_m10 130 rfl) rfl
theorem q2385 : (Jvm.Cond.selects "TokenRing" ({ cls := "TokenRing", name := "receivedIn", desc := "(I)I" } : Jvm.MethodName) ({ cls := "TokenRing", name := "receivedIn", desc := "(I)I" } : Jvm.MethodName)) ∈ lw_all := lw_g (lw_at lw_m10 131 rfl) rfl
theorem q2386 : (Jvm.Cond.code ({ cls := "TokenRing", name := "receivedIn", desc := "(I)I" } : Jvm.MethodName) prog_1_method_39_code (5 : Nat) (Option.some Jvm.ClassFile.FieldType.int)) ∈ lw_all := lw_g (lw_at lw_m10 132 rfl) rfl
theorem q2391 : (Jvm.Cond.instanceMethod ({ cls := "TokenRing", name := "tokenIn", desc := "(I)I" } : Jvm.MethodName)) ∈ lw_all := lw_g (lw_at lw_m10 137 rfl) rfl
theorem q2392 : (Jvm.Cond.selects "TokenRing" ({ cls := "TokenRing", name := "tokenIn", desc := "(I)I" } : Jvm.MethodName) ({ cls := "TokenRing", name := "tokenIn", desc := "(I)I" } : Jvm.MethodName)) ∈ lw_all := lw_g (lw_at lw_m10 138 rfl) rfl
theorem q2393 : (Jvm.Cond.code ({ cls := "TokenRing", name := "tokenIn", desc := "(I)I" } : Jvm.MethodName) prog_1_method_40_code (4 : Nat) (Option.some Jvm.ClassFile.FieldType.int)) ∈ lw_all := lw_g (lw_at lw_m10 139 rfl) rfl
theorem q2398 : (Jvm.Cond.instanceMethod ({ cls := "TokenRing", name := "ahead", desc := "(II)I" } : Jvm.MethodName)) ∈ lw_all := lw_g (lw_at lw_m10 144 rfl) rfl
theorem q2399 : (Jvm.Cond.selects "TokenRing" ({ cls := "TokenRing", name := "ahead", desc := "(II)I" } : Jvm.MethodName) ({ cls := "TokenRing", name := "ahead", desc := "(II)I" } : Jvm.MethodName)) ∈ lw_all := lw_g (lw_at lw_m10 145 rfl) rfl
theorem q2400 : (Jvm.Cond.code ({ cls := "TokenRing", name := "ahead", desc := "(II)I" } : Jvm.MethodName) prog_1_method_41_code (5 : Nat) (Option.some Jvm.ClassFile.FieldType.int)) ∈ lw_all := lw_g (lw_at lw_m10 146 rfl) rfl
theorem q2405 : (Jvm.Cond.instanceMethod ({ cls := "TokenRing", name := "ranked", desc := "(I)I" } : Jvm.MethodName)) ∈ lw_all := lw_g (lw_at lw_m10 151 rfl) rfl
theorem q2406 : (Jvm.Cond.selects "TokenRing" ({ cls := "TokenRing", name := "ranked", desc := "(I)I" } : Jvm.MethodName) ({ cls := "TokenRing", name := "ranked", desc := "(I)I" } : Jvm.MethodName)) ∈ lw_all := lw_g (lw_at lw_m10 152 rfl) rfl
theorem q2407 : (Jvm.Cond.code ({ cls := "TokenRing", name := "ranked", desc := "(I)I" } : Jvm.MethodName) prog_1_method_42_code (8 : Nat) (Option.some Jvm.ClassFile.FieldType.int)) ∈ lw_all := lw_g (lw_at lw_m10 153 rfl) rfl
theorem q2408 : (Jvm.Cond.classLink "TokenRing" (329 : Nat) "TokenRing$1Busier") ∈ lw_all := lw_g (lw_at lw_m10 154 rfl) rfl
theorem q2410 : (Jvm.Cond.methodLink "TokenRing" (331 : Nat) ({ cls := "TokenRing$1Busier", name := "<init>", desc := "(LTokenRing;)V" } : Jvm.MethodName)) ∈ lw_all := lw_g (lw_at lw_m10 156 rfl) rfl
theorem q2418 : (Jvm.Cond.methodLink "TokenRing" (334 : Nat) ({ cls := "TokenRing$1Busier", name := "is", desc := "(LTokenRing$Station;LTokenRing$Station;)Z" } : Jvm.MethodName)) ∈ lw_all := lw_g (lw_at lw_m10 164 rfl) rfl
theorem q2428 : (Jvm.Cond.instanceMethod ({ cls := "TokenRing", name := "longestWait", desc := "()I" } : Jvm.MethodName)) ∈ lw_all := lw_g (lw_at lw_m10 174 rfl) rfl
theorem q2429 : (Jvm.Cond.selects "TokenRing" ({ cls := "TokenRing", name := "longestWait", desc := "()I" } : Jvm.MethodName) ({ cls := "TokenRing", name := "longestWait", desc := "()I" } : Jvm.MethodName)) ∈ lw_all := lw_g (lw_at lw_m10 175 rfl) rfl
theorem q2430 : (Jvm.Cond.code ({ cls := "TokenRing", name := "longestWait", desc := "()I" } : Jvm.MethodName) prog_1_method_43_code (6 : Nat) (Option.some Jvm.ClassFile.FieldType.int)) ∈ lw_all := lw_g (lw_at lw_m10 176 rfl) rfl
theorem q2435 : (Jvm.Cond.instanceMethod ({ cls := "TokenRing", name := "greatest", desc := "()I" } : Jvm.MethodName)) ∈ lw_all := lw_g (lw_at lw_m10 181 rfl) rfl
theorem q2436 : (Jvm.Cond.selects "TokenRing" ({ cls := "TokenRing", name := "greatest", desc := "()I" } : Jvm.MethodName) ({ cls := "TokenRing", name := "greatest", desc := "()I" } : Jvm.MethodName)) ∈ lw_all := lw_g (lw_at lw_m10 182 rfl) rfl
theorem q2437 : (Jvm.Cond.code ({ cls := "TokenRing", name := "greatest", desc := "()I" } : Jvm.MethodName) prog_1_method_44_code (5 : Nat) (Option.some Jvm.ClassFile.FieldType.int)) ∈ lw_all := lw_g (lw_at lw_m10 183 rfl) rfl
theorem q2438 : (Jvm.Cond.methodLink "TokenRing" (338 : Nat) ({ cls := "java/lang/Math", name := "max", desc := "(II)I" } : Jvm.MethodName)) ∈ lw_all := lw_g (lw_at lw_m10 184 rfl) rfl
theorem q2444 : (Jvm.Cond.instanceMethod ({ cls := "TokenRing", name := "append", desc := "(C)I" } : Jvm.MethodName)) ∈ lw_all := lw_g (lw_at lw_m10 190 rfl) rfl
theorem q2445 : (Jvm.Cond.selects "TokenRing" ({ cls := "TokenRing", name := "append", desc := "(C)I" } : Jvm.MethodName) ({ cls := "TokenRing", name := "append", desc := "(C)I" } : Jvm.MethodName)) ∈ lw_all := lw_g (lw_at lw_m10 191 rfl) rfl
theorem q2446 : (Jvm.Cond.code ({ cls := "TokenRing", name := "append", desc := "(C)I" } : Jvm.MethodName) prog_1_method_48_code (2 : Nat) (Option.some Jvm.ClassFile.FieldType.int)) ∈ lw_all := lw_g (lw_at lw_m10 192 rfl) rfl
theorem q2447 : (Jvm.Cond.methodLink "TokenRing" (357 : Nat) ({ cls := "TokenRing", name := "checkState", desc := "(Z)V" } : Jvm.MethodName)) ∈ lw_all := lw_g (lw_at lw_m10 193 rfl) rfl
theorem q2448 : (Jvm.Cond.static ({ cls := "TokenRing", name := "checkState", desc := "(Z)V" } : Jvm.MethodName)) ∈ lw_all := lw_g (lw_at lw_m10 194 rfl) rfl
theorem q2449 : (Jvm.Cond.code ({ cls := "TokenRing", name := "checkState", desc := "(Z)V" } : Jvm.MethodName) prog_1_method_9_code (1 : Nat) (Option.none : Option Jvm.ClassFile.FieldType)) ∈ lw_all := lw_g (lw_at lw_m10 195 rfl) rfl
theorem q2450 : (Jvm.Cond.classLink "TokenRing" (66 : Nat) "java/lang/IllegalStateException") ∈ lw_all := lw_g (lw_at lw_m10 196 rfl) rfl
theorem q2451 : (Jvm.Cond.methodLink "TokenRing" (68 : Nat) ({ cls := "java/lang/IllegalStateException", name := "<init>", desc := "()V" } : Jvm.MethodName)) ∈ lw_all := lw_g (lw_at lw_m10 197 rfl) rfl
theorem q2459 : (Jvm.Cond.instanceMethod ({ cls := "TokenRing", name := "run", desc := "()I" } : Jvm.MethodName)) ∈ lw_all := lw_g (lw_at lw_m10 205 rfl) rfl
theorem q2460 : (Jvm.Cond.selects "TokenRing" ({ cls := "TokenRing", name := "run", desc := "()I" } : Jvm.MethodName) ({ cls := "TokenRing", name := "run", desc := "()I" } : Jvm.MethodName)) ∈ lw_all := lw_g (lw_at lw_m10 206 rfl) rfl
theorem q2461 : (Jvm.Cond.code ({ cls := "TokenRing", name := "run", desc := "()I" } : Jvm.MethodName) prog_1_method_49_code (2 : Nat) (Option.some Jvm.ClassFile.FieldType.int)) ∈ lw_all := lw_g (lw_at lw_m10 207 rfl) rfl
theorem q2462 : (Jvm.Cond.classLink "TokenRing" (364 : Nat) "TokenRing$Reader") ∈ lw_all := lw_g (lw_at lw_m10 208 rfl) rfl
theorem q2464 : (Jvm.Cond.methodLink "TokenRing" (366 : Nat) ({ cls := "java/lang/StringBuilder", name := "toString", desc := "()Ljava/lang/String;" } : Jvm.MethodName)) ∈ lw_all := lw_g (lw_at lw_m10 210 rfl) rfl
theorem q2465 : (Jvm.Cond.methodLink "TokenRing" (370 : Nat) ({ cls := "TokenRing$Reader", name := "<init>", desc := "(LTokenRing;Ljava/lang/CharSequence;)V" } : Jvm.MethodName)) ∈ lw_all := lw_g (lw_at lw_m10 211 rfl) rfl
theorem q2473 : (Jvm.Cond.fieldLinkNest "TokenRing" (383 : Nat) "TokenRing$Reader" "orders" "Ljava/util/ArrayList;" "TokenRing") ∈ lw_tbl := lw_at lw_m10 219 rfl
theorem q2475 : (Jvm.Cond.fieldLinkNest "TokenRing" (382 : Nat) "TokenRing$Reader" "at" "I" "TokenRing") ∈ lw_tbl := lw_at lw_m10 221 rfl
theorem q2477 : (Jvm.Cond.fieldLinkNest "TokenRing" (379 : Nat) "TokenRing$Reader" "isFaulty" "Z" "TokenRing") ∈ lw_tbl := lw_at lw_m10 223 rfl
theorem q2496 : (Jvm.Cond.methodLink "TokenRing" (376 : Nat) ({ cls := "TokenRing$Reader", name := "read", desc := "()V" } : Jvm.MethodName)) ∈ lw_all := lw_g (lw_at lw_m11 2 rfl) rfl
theorem q2688 : (Jvm.Cond.methodLink "TokenRing" (386 : Nat) ({ cls := "TokenRing", name := "doAll", desc := "(Ljava/util/ArrayList;)I" } : Jvm.MethodName)) ∈ lw_all := lw_g (lw_at lw_m11 194 rfl) rfl
theorem q2689 : (Jvm.Cond.privateMethod ({ cls := "TokenRing", name := "doAll", desc := "(Ljava/util/ArrayList;)I" } : Jvm.MethodName)) ∈ lw_tbl := lw_at lw_m11 195 rfl
theorem q2690 : (Jvm.Cond.instanceMethod ({ cls := "TokenRing", name := "doAll", desc := "(Ljava/util/ArrayList;)I" } : Jvm.MethodName)) ∈ lw_all := lw_g (lw_at lw_m11 196 rfl) rfl
theorem q2691 : (Jvm.Cond.codeWith ({ cls := "TokenRing", name := "doAll", desc := "(Ljava/util/ArrayList;)I" } : Jvm.MethodName) prog_1_method_47_code (7 : Nat) (Option.some Jvm.ClassFile.FieldType.int) [((20 : Nat), (59 : Nat), (67 : Nat), (46 : Nat)), ((20 : Nat), (59 : Nat), (95 : Nat), (0 : Nat)), ((67 : Nat), (97 : Nat), (95 : Nat), (0 : Nat))]) ∈ lw_all := lw_g (lw_at lw_m11 197 rfl) rfl
theorem q2692 : (Jvm.Cond.classLink "TokenRing" (349 : Nat) "TokenRing$Order") ∈ lw_all := lw_g (lw_at lw_m11 198 rfl) rfl
theorem q2693 : (Jvm.Cond.methodLink "TokenRing" (351 : Nat) ({ cls := "TokenRing$Order", name := "does", desc := "()V" } : Jvm.MethodName)) ∈ lw_all := lw_g (lw_at lw_m11 199 rfl) rfl
theorem q2724 : (Jvm.Cond.instanceMethod ({ cls := "TokenRing", name := "reason", desc := "(IZ)I" } : Jvm.MethodName)) ∈ lw_all := lw_g (lw_at lw_m11 230 rfl) rfl
theorem q2725 : (Jvm.Cond.selects "TokenRing" ({ cls := "TokenRing", name := "reason", desc := "(IZ)I" } : Jvm.MethodName) ({ cls := "TokenRing", name := "reason", desc := "(IZ)I" } : Jvm.MethodName)) ∈ lw_all := lw_g (lw_at lw_m11 231 rfl) rfl
theorem q2726 : (Jvm.Cond.code ({ cls := "TokenRing", name := "reason", desc := "(IZ)I" } : Jvm.MethodName) prog_1_method_51_code (4 : Nat) (Option.some Jvm.ClassFile.FieldType.int)) ∈ lw_all := lw_g (lw_at lw_m11 232 rfl) rfl
theorem q2731 : (Jvm.Cond.instanceMethod ({ cls := "TokenRing", name := "tellQueue", desc := "(I)I" } : Jvm.MethodName)) ∈ lw_all := lw_g (lw_at lw_m11 237 rfl) rfl
theorem q2732 : (Jvm.Cond.selects "TokenRing" ({ cls := "TokenRing", name := "tellQueue", desc := "(I)I" } : Jvm.MethodName) ({ cls := "TokenRing", name := "tellQueue", desc := "(I)I" } : Jvm.MethodName)) ∈ lw_all := lw_g (lw_at lw_m11 238 rfl) rfl
theorem q2733 : (Jvm.Cond.code ({ cls := "TokenRing", name := "tellQueue", desc := "(I)I" } : Jvm.MethodName) prog_1_method_53_code (5 : Nat) (Option.some Jvm.ClassFile.FieldType.int)) ∈ lw_all := lw_g (lw_at lw_m11 239 rfl) rfl
theorem q2734 : (Jvm.Cond.stringRef "TokenRing" (412 : Nat) "-") ∈ lw_tbl := lw_at lw_m12 0 rfl
theorem q2739 : (Jvm.Cond.instanceMethod ({ cls := "TokenRing", name := "character", desc := "(I)C" } : Jvm.MethodName)) ∈ lw_all := lw_g (lw_at lw_m12 5 rfl) rfl
theorem q2740 : (Jvm.Cond.selects "TokenRing" ({ cls := "TokenRing", name := "character", desc := "(I)C" } : Jvm.MethodName) ({ cls := "TokenRing", name := "character", desc := "(I)C" } : Jvm.MethodName)) ∈ lw_all := lw_g (lw_at lw_m12 6 rfl) rfl
theorem q2741 : (Jvm.Cond.code ({ cls := "TokenRing", name := "character", desc := "(I)C" } : Jvm.MethodName) prog_1_method_54_code (2 : Nat) (Option.some Jvm.ClassFile.FieldType.char)) ∈ lw_all := lw_g (lw_at lw_m12 7 rfl) rfl
theorem q2742 : (Jvm.Cond.methodLink "TokenRing" (414 : Nat) ({ cls := "java/lang/StringBuilder", name := "charAt", desc := "(I)C" } : Jvm.MethodName)) ∈ lw_all := lw_g (lw_at lw_m12 8 rfl) rfl
theorem q2747 : (Jvm.Cond.instanceMethod ({ cls := "TokenRing", name := "account", desc := "(I)I" } : Jvm.MethodName)) ∈ lw_all := lw_g (lw_at lw_m12 13 rfl) rfl
theorem q2748 : (Jvm.Cond.selects "TokenRing" ({ cls := "TokenRing", name := "account", desc := "(I)I" } : Jvm.MethodName) ({ cls := "TokenRing", name := "account", desc := "(I)I" } : Jvm.MethodName)) ∈ lw_all := lw_g (lw_at lw_m12 14 rfl) rfl
theorem q2749 : (Jvm.Cond.code ({ cls := "TokenRing", name := "account", desc := "(I)I" } : Jvm.MethodName) prog_1_method_55_code (2 : Nat) (Option.some Jvm.ClassFile.FieldType.int)) ∈ lw_all := lw_g (lw_at lw_m12 15 rfl) rfl
theorem q2768 : (Jvm.Cond.instanceMethod ({ cls := "TokenRing", name := "meanDelay", desc := "()D" } : Jvm.MethodName)) ∈ lw_all := lw_g (lw_at lw_m12 34 rfl) rfl
theorem q2769 : (Jvm.Cond.selects "TokenRing" ({ cls := "TokenRing", name := "meanDelay", desc := "()D" } : Jvm.MethodName) ({ cls := "TokenRing", name := "meanDelay", desc := "()D" } : Jvm.MethodName)) ∈ lw_all := lw_g (lw_at lw_m12 35 rfl) rfl
theorem q2770 : (Jvm.Cond.code ({ cls := "TokenRing", name := "meanDelay", desc := "()D" } : Jvm.MethodName) prog_1_method_57_code (1 : Nat) (Option.some Jvm.ClassFile.FieldType.double)) ∈ lw_all := lw_g (lw_at lw_m12 36 rfl) rfl
theorem q2771 : (Jvm.Cond.methodLink "TokenRing" (444 : Nat) ({ cls := "TokenRing", name := "checkPut", desc := "()V" } : Jvm.MethodName)) ∈ lw_all := lw_g (lw_at lw_m12 37 rfl) rfl
theorem q2772 : (Jvm.Cond.privateMethod ({ cls := "TokenRing", name := "checkPut", desc := "()V" } : Jvm.MethodName)) ∈ lw_tbl := lw_at lw_m12 38 rfl
theorem q2773 : (Jvm.Cond.instanceMethod ({ cls := "TokenRing", name := "checkPut", desc := "()V" } : Jvm.MethodName)) ∈ lw_all := lw_g (lw_at lw_m12 39 rfl) rfl
theorem q2774 : (Jvm.Cond.code ({ cls := "TokenRing", name := "checkPut", desc := "()V" } : Jvm.MethodName) prog_1_method_56_code (1 : Nat) (Option.none : Option Jvm.ClassFile.FieldType)) ∈ lw_all := lw_g (lw_at lw_m12 40 rfl) rfl
theorem q2775 : (Jvm.Cond.classLink "TokenRing" (441 : Nat) "java/lang/ArithmeticException") ∈ lw_all := lw_g (lw_at lw_m12 41 rfl) rfl
theorem q2776 : (Jvm.Cond.methodLink "TokenRing" (443 : Nat) ({ cls := "java/lang/ArithmeticException", name := "<init>", desc := "()V" } : Jvm.MethodName)) ∈ lw_all := lw_g (lw_at lw_m12 42 rfl) rfl
theorem q2784 : (Jvm.Cond.instanceMethod ({ cls := "TokenRing", name := "receivedShare", desc := "()F" } : Jvm.MethodName)) ∈ lw_all := lw_g (lw_at lw_m12 50 rfl) rfl
theorem q2785 : (Jvm.Cond.selects "TokenRing" ({ cls := "TokenRing", name := "receivedShare", desc := "()F" } : Jvm.MethodName) ({ cls := "TokenRing", name := "receivedShare", desc := "()F" } : Jvm.MethodName)) ∈ lw_all := lw_g (lw_at lw_m12 51 rfl) rfl
theorem q2786 : (Jvm.Cond.code ({ cls := "TokenRing", name := "receivedShare", desc := "()F" } : Jvm.MethodName) prog_1_method_58_code (1 : Nat) (Option.some Jvm.ClassFile.FieldType.float)) ∈ lw_all := lw_g (lw_at lw_m12 52 rfl) rfl
theorem q2791 : (Jvm.Cond.instanceMethod ({ cls := "TokenRing", name := "undo", desc := "()I" } : Jvm.MethodName)) ∈ lw_all := lw_g (lw_at lw_m12 57 rfl) rfl
theorem q2792 : (Jvm.Cond.selects "TokenRing" ({ cls := "TokenRing", name := "undo", desc := "()I" } : Jvm.MethodName) ({ cls := "TokenRing", name := "undo", desc := "()I" } : Jvm.MethodName)) ∈ lw_all := lw_g (lw_at lw_m12 58 rfl) rfl
theorem q2793 : (Jvm.Cond.code ({ cls := "TokenRing", name := "undo", desc := "()I" } : Jvm.MethodName) prog_1_method_59_code (1 : Nat) (Option.some Jvm.ClassFile.FieldType.int)) ∈ lw_all := lw_g (lw_at lw_m12 59 rfl) rfl
theorem q2794 : (Jvm.Cond.methodLink "TokenRing" (447 : Nat) ({ cls := "java/util/ArrayDeque", name := "isEmpty", desc := "()Z" } : Jvm.MethodName)) ∈ lw_all := lw_g (lw_at lw_m12 60 rfl) rfl
theorem q2798 : (Jvm.Cond.methodLink "TokenRing" (448 : Nat) ({ cls := "java/util/ArrayDeque", name := "removeLast", desc := "()Ljava/lang/Object;" } : Jvm.MethodName)) ∈ lw_all := lw_g (lw_at lw_m12 64 rfl) rfl
theorem q2813 : (Jvm.Cond.instanceMethod ({ cls := "TokenRing", name := "restore", desc := "()I" } : Jvm.MethodName)) ∈ lw_all := lw_g (lw_at lw_m12 79 rfl) rfl
theorem q2814 : (Jvm.Cond.selects "TokenRing" ({ cls := "TokenRing", name := "restore", desc := "()I" } : Jvm.MethodName) ({ cls := "TokenRing", name := "restore", desc := "()I" } : Jvm.MethodName)) ∈ lw_all := lw_g (lw_at lw_m12 80 rfl) rfl
theorem q2815 : (Jvm.Cond.code ({ cls := "TokenRing", name := "restore", desc := "()I" } : Jvm.MethodName) prog_1_method_61_code (1 : Nat) (Option.some Jvm.ClassFile.FieldType.int)) ∈ lw_all := lw_g (lw_at lw_m12 81 rfl) rfl
theorem q2816 : (Jvm.Cond.methodLink "TokenRing" (454 : Nat) ({ cls := "java/util/ArrayDeque", name := "clear", desc := "()V" } : Jvm.MethodName)) ∈ lw_all := lw_g (lw_at lw_m12 82 rfl) rfl
theorem q3311 : (Jvm.Cond.castable "TokenRing" "java/lang/Object") ∈ lw_tbl := lw_at lw_m14 97 rfl
theorem in_X1 : ∀ w ∈ wsX10, w ∈ lw_all := lw_in wsX10 [399, 401, 403, 405, 407, 409, 411, 413] (by decide +kernel) (by decide +kernel)
/-! TokenRing$State$Round$1 -/
set_option maxRecDepth 100000
def RX10 : String := "TokenRing$State$Round$1"
def TX10 : u_T := fun k => match k with
  | 0 => ("TokenRing$State$Round$1", "last", "I", false)
  | 1 => ("TokenRing$State$Round$1", "gone", "I", false)
  | _ => ("TokenRing$State$Round$1", "this$1", "LTokenRing$State$Round;", true)
def tyX10 : Nat → FieldType := fun k => match k with
  | 0 => .int
  | 1 => .int
  | _ => .object "TokenRing$State$Round"
abbrev wsX100 : List Cond := u_ws RX10 TX10 3
theorem nmX10 : ∀ a, a < 3 → ∀ b, b < 3 → a ≠ b → (TX10 a).2.1 ≠ (TX10 b).2.1 := by decide +kernel
theorem tyX10_ok : ∀ k, k < 3 → parseFieldDescriptor (TX10 k).2.2.1 = some (tyX10 k) := by decide +kernel
abbrev cX10_hasNext : ByteArray := prog_16_method_2_code
def yX10_hasNext : MethodName := ⟨RX10, "hasNext", "()Z"⟩
def dkwX10_hasNext_1 : List UInt8 := [3, 172]
abbrev dktX10_hasNext_1 : List UInt8 := dkwX10_hasNext_1 ++ []
def dkwX10_hasNext_0 : List UInt8 := [42, 180, 0, 22, 42, 180, 0, 1, 180, 0, 25, 180, 0, 29, 182, 0, 35, 162, 0, 7, 4, 167, 0, 4]
abbrev dktX10_hasNext_0 : List UInt8 := dkwX10_hasNext_0 ++ dktX10_hasNext_1
theorem dksX10_hasNext_0 : cX10_hasNext.data.toList.drop 0 = dktX10_hasNext_0 := by decide +kernel
theorem dksX10_hasNext_1 : cX10_hasNext.data.toList.drop 24 = dktX10_hasNext_1 := dk_seg dksX10_hasNext_0 24 rfl rfl
theorem dX10_hasNext_0 : decode cX10_hasNext 0 = .ok (.aload_n 0, 1) := dk_42 (dk_at dksX10_hasNext_0 0 rfl rfl)
theorem dX10_hasNext_1 : decode cX10_hasNext 1 = .ok (.getfield 22, 3) := dk_180 0 22 (dk_at dksX10_hasNext_0 1 rfl rfl)
theorem dX10_hasNext_4 : decode cX10_hasNext 4 = .ok (.aload_n 0, 1) := dk_42 (dk_at dksX10_hasNext_0 4 rfl rfl)
theorem dX10_hasNext_5 : decode cX10_hasNext 5 = .ok (.getfield 1, 3) := dk_180 0 1 (dk_at dksX10_hasNext_0 5 rfl rfl)
theorem dX10_hasNext_8 : decode cX10_hasNext 8 = .ok (.getfield 25, 3) := dk_180 0 25 (dk_at dksX10_hasNext_0 8 rfl rfl)
theorem dX10_hasNext_11 : decode cX10_hasNext 11 = .ok (.getfield 29, 3) := dk_180 0 29 (dk_at dksX10_hasNext_0 11 rfl rfl)
theorem dX10_hasNext_14 : decode cX10_hasNext 14 = .ok (.invokevirtual 35, 3) := dk_182 0 35 (dk_at dksX10_hasNext_0 14 rfl rfl)
theorem dX10_hasNext_17 : decode cX10_hasNext 17 = .ok (.if_icmp .ge 7, 3) := dk_162 0 7 (dk_at dksX10_hasNext_0 17 rfl rfl)
theorem dX10_hasNext_20 : decode cX10_hasNext 20 = .ok (.iconst 1, 1) := dk_4 (dk_at dksX10_hasNext_0 20 rfl rfl)
theorem dX10_hasNext_21 : decode cX10_hasNext 21 = .ok (.goto 4, 3) := dk_167 0 4 (dk_at dksX10_hasNext_0 21 rfl rfl)
theorem dX10_hasNext_24 : decode cX10_hasNext 24 = .ok (.iconst 0, 1) := dk_3 (dk_at dksX10_hasNext_1 0 rfl rfl)
theorem dX10_hasNext_25 : decode cX10_hasNext 25 = .ok (.ireturn, 1) := dk_172 (dk_at dksX10_hasNext_1 1 rfl rfl)
abbrev cX10_next : ByteArray := prog_16_method_4_code
def yX10_next : MethodName := ⟨RX10, "next", "()Ljava/lang/Object;"⟩
theorem dX10_next_0 : decode cX10_next 0 = .ok (.aload_n 0, 1) := by decide +kernel
theorem dX10_next_1 : decode cX10_next 1 = .ok (.invokevirtual 57, 3) := by decide +kernel
theorem dX10_next_4 : decode cX10_next 4 = .ok (.areturn, 1) := by decide +kernel
abbrev cX10_next_2 : ByteArray := prog_16_method_3_code
def yX10_next_2 : MethodName := ⟨RX10, "next", "()LTokenRing$Station;"⟩
def dkwX10_next_2_2 : List UInt8 := [192, 0, 55, 176]
abbrev dktX10_next_2_2 : List UInt8 := dkwX10_next_2_2 ++ []
def dkwX10_next_2_1 : List UInt8 := [96, 181, 0, 22, 42, 180, 0, 1, 180, 0, 25, 180, 0, 29, 42, 180, 0, 19, 184, 0, 45, 182, 0, 51]
abbrev dktX10_next_2_1 : List UInt8 := dkwX10_next_2_1 ++ dktX10_next_2_2
def dkwX10_next_2_0 : List UInt8 := [42, 42, 180, 0, 1, 180, 0, 25, 42, 180, 0, 19, 182, 0, 41, 181, 0, 19, 42, 89, 180, 0, 22, 4]
abbrev dktX10_next_2_0 : List UInt8 := dkwX10_next_2_0 ++ dktX10_next_2_1
theorem dksX10_next_2_0 : cX10_next_2.data.toList.drop 0 = dktX10_next_2_0 := by decide +kernel
theorem dksX10_next_2_1 : cX10_next_2.data.toList.drop 24 = dktX10_next_2_1 := dk_seg dksX10_next_2_0 24 rfl rfl
theorem dksX10_next_2_2 : cX10_next_2.data.toList.drop 48 = dktX10_next_2_2 := dk_seg dksX10_next_2_1 24 rfl rfl
theorem dX10_next_2_0 : decode cX10_next_2 0 = .ok (.aload_n 0, 1) := dk_42 (dk_at dksX10_next_2_0 0 rfl rfl)
theorem dX10_next_2_1 : decode cX10_next_2 1 = .ok (.aload_n 0, 1) := dk_42 (dk_at dksX10_next_2_0 1 rfl rfl)
theorem dX10_next_2_2 : decode cX10_next_2 2 = .ok (.getfield 1, 3) := dk_180 0 1 (dk_at dksX10_next_2_0 2 rfl rfl)
theorem dX10_next_2_5 : decode cX10_next_2 5 = .ok (.getfield 25, 3) := dk_180 0 25 (dk_at dksX10_next_2_0 5 rfl rfl)
theorem dX10_next_2_8 : decode cX10_next_2 8 = .ok (.aload_n 0, 1) := dk_42 (dk_at dksX10_next_2_0 8 rfl rfl)
theorem dX10_next_2_9 : decode cX10_next_2 9 = .ok (.getfield 19, 3) := dk_180 0 19 (dk_at dksX10_next_2_0 9 rfl rfl)
theorem dX10_next_2_12 : decode cX10_next_2 12 = .ok (.invokevirtual 41, 3) := dk_182 0 41 (dk_at dksX10_next_2_0 12 rfl rfl)
theorem dX10_next_2_15 : decode cX10_next_2 15 = .ok (.putfield 19, 3) := dk_181 0 19 (dk_at dksX10_next_2_0 15 rfl rfl)
theorem dX10_next_2_18 : decode cX10_next_2 18 = .ok (.aload_n 0, 1) := dk_42 (dk_at dksX10_next_2_0 18 rfl rfl)
theorem dX10_next_2_19 : decode cX10_next_2 19 = .ok (.dup, 1) := dk_89 (dk_at dksX10_next_2_0 19 rfl rfl)
theorem dX10_next_2_20 : decode cX10_next_2 20 = .ok (.getfield 22, 3) := dk_180 0 22 (dk_at dksX10_next_2_0 20 rfl rfl)
theorem dX10_next_2_23 : decode cX10_next_2 23 = .ok (.iconst 1, 1) := dk_4 (dk_at dksX10_next_2_0 23 rfl rfl)
theorem dX10_next_2_24 : decode cX10_next_2 24 = .ok (.iadd, 1) := dk_96 (dk_at dksX10_next_2_1 0 rfl rfl)
theorem dX10_next_2_25 : decode cX10_next_2 25 = .ok (.putfield 22, 3) := dk_181 0 22 (dk_at dksX10_next_2_1 1 rfl rfl)
theorem dX10_next_2_28 : decode cX10_next_2 28 = .ok (.aload_n 0, 1) := dk_42 (dk_at dksX10_next_2_1 4 rfl rfl)
theorem dX10_next_2_29 : decode cX10_next_2 29 = .ok (.getfield 1, 3) := dk_180 0 1 (dk_at dksX10_next_2_1 5 rfl rfl)
theorem dX10_next_2_32 : decode cX10_next_2 32 = .ok (.getfield 25, 3) := dk_180 0 25 (dk_at dksX10_next_2_1 8 rfl rfl)
theorem dX10_next_2_35 : decode cX10_next_2 35 = .ok (.getfield 29, 3) := dk_180 0 29 (dk_at dksX10_next_2_1 11 rfl rfl)
theorem dX10_next_2_38 : decode cX10_next_2 38 = .ok (.aload_n 0, 1) := dk_42 (dk_at dksX10_next_2_1 14 rfl rfl)
theorem dX10_next_2_39 : decode cX10_next_2 39 = .ok (.getfield 19, 3) := dk_180 0 19 (dk_at dksX10_next_2_1 15 rfl rfl)
theorem dX10_next_2_42 : decode cX10_next_2 42 = .ok (.invokestatic 45, 3) := dk_184 0 45 (dk_at dksX10_next_2_1 18 rfl rfl)
theorem dX10_next_2_45 : decode cX10_next_2 45 = .ok (.invokevirtual 51, 3) := dk_182 0 51 (dk_at dksX10_next_2_1 21 rfl rfl)
theorem dX10_next_2_48 : decode cX10_next_2 48 = .ok (.checkcast 55, 3) := dk_192 0 55 (dk_at dksX10_next_2_2 0 rfl rfl)
theorem dX10_next_2_51 : decode cX10_next_2 51 = .ok (.areturn, 1) := dk_176 (dk_at dksX10_next_2_2 3 rfl rfl)
abbrev cX10_init : ByteArray := prog_16_method_1_code
def yX10_init : MethodName := ⟨RX10, "<init>", "(LTokenRing$State$Round;)V"⟩
def dkwX10_init_0 : List UInt8 := [42, 43, 181, 0, 1, 42, 183, 0, 7, 42, 42, 180, 0, 1, 180, 0, 13, 181, 0, 19, 177]
abbrev dktX10_init_0 : List UInt8 := dkwX10_init_0 ++ []
theorem dksX10_init_0 : cX10_init.data.toList.drop 0 = dktX10_init_0 := by decide +kernel
theorem dX10_init_0 : decode cX10_init 0 = .ok (.aload_n 0, 1) := dk_42 (dk_at dksX10_init_0 0 rfl rfl)
theorem dX10_init_1 : decode cX10_init 1 = .ok (.aload_n 1, 1) := dk_43 (dk_at dksX10_init_0 1 rfl rfl)
theorem dX10_init_2 : decode cX10_init 2 = .ok (.putfield 1, 3) := dk_181 0 1 (dk_at dksX10_init_0 2 rfl rfl)
theorem dX10_init_5 : decode cX10_init 5 = .ok (.aload_n 0, 1) := dk_42 (dk_at dksX10_init_0 5 rfl rfl)
theorem dX10_init_6 : decode cX10_init 6 = .ok (.invokespecial 7, 3) := dk_183 0 7 (dk_at dksX10_init_0 6 rfl rfl)
theorem dX10_init_9 : decode cX10_init 9 = .ok (.aload_n 0, 1) := dk_42 (dk_at dksX10_init_0 9 rfl rfl)
theorem dX10_init_10 : decode cX10_init 10 = .ok (.aload_n 0, 1) := dk_42 (dk_at dksX10_init_0 10 rfl rfl)
theorem dX10_init_11 : decode cX10_init 11 = .ok (.getfield 1, 3) := dk_180 0 1 (dk_at dksX10_init_0 11 rfl rfl)
theorem dX10_init_14 : decode cX10_init 14 = .ok (.getfield 13, 3) := dk_180 0 13 (dk_at dksX10_init_0 14 rfl rfl)
theorem dX10_init_17 : decode cX10_init 17 = .ok (.putfield 19, 3) := dk_181 0 19 (dk_at dksX10_init_0 17 rfl rfl)
theorem dX10_init_20 : decode cX10_init 20 = .ok (.return_, 1) := dk_177 (dk_at dksX10_init_0 20 rfl rfl)
theorem q149 : (Jvm.Cond.initialized "TokenRing$State$Round$1") ∈ lw_all := lw_g (lw_at lw_m1 55 rfl) rfl
theorem q216 : (Jvm.Cond.fieldLinkNest "TokenRing$State$Round$1" (29 : Nat) "TokenRing$State" "stations" "Ljava/util/TreeMap;" "TokenRing") ∈ lw_tbl := lw_at lw_m1 122 rfl
theorem q848 : (Jvm.Cond.castable "TokenRing$State$Round$1" "java/util/Iterator") ∈ lw_tbl := lw_at lw_m4 34 rfl
theorem q849 : (Jvm.Cond.selects "TokenRing$State$Round$1" ({ cls := "java/util/Iterator", name := "hasNext", desc := "()Z" } : Jvm.MethodName) ({ cls := "TokenRing$State$Round$1", name := "hasNext", desc := "()Z" } : Jvm.MethodName)) ∈ lw_all := lw_g (lw_at lw_m4 35 rfl) rfl
theorem q850 : (Jvm.Cond.unhidden "TokenRing$State$Round$1" "hasNext" "()Z") ∈ lw_tbl := lw_at lw_m4 36 rfl
theorem q851 : (Jvm.Cond.instanceMethod ({ cls := "TokenRing$State$Round$1", name := "hasNext", desc := "()Z" } : Jvm.MethodName)) ∈ lw_all := lw_g (lw_at lw_m4 37 rfl) rfl
theorem q852 : (Jvm.Cond.publicMethod ({ cls := "TokenRing$State$Round$1", name := "hasNext", desc := "()Z" } : Jvm.MethodName)) ∈ lw_tbl := lw_at lw_m4 38 rfl
theorem q853 : (Jvm.Cond.code ({ cls := "TokenRing$State$Round$1", name := "hasNext", desc := "()Z" } : Jvm.MethodName) prog_16_method_2_code (1 : Nat) (Option.some Jvm.ClassFile.FieldType.boolean)) ∈ lw_all := lw_g (lw_at lw_m4 39 rfl) rfl
theorem q854 : (Jvm.Cond.methodLink "TokenRing$State$Round$1" (35 : Nat) ({ cls := "java/util/TreeMap", name := "size", desc := "()I" } : Jvm.MethodName)) ∈ lw_all := lw_g (lw_at lw_m4 40 rfl) rfl
theorem q889 : (Jvm.Cond.selects "TokenRing$State$Round$1" ({ cls := "java/util/Iterator", name := "next", desc := "()Ljava/lang/Object;" } : Jvm.MethodName) ({ cls := "TokenRing$State$Round$1", name := "next", desc := "()Ljava/lang/Object;" } : Jvm.MethodName)) ∈ lw_all := lw_g (lw_at lw_m4 75 rfl) rfl
theorem q890 : (Jvm.Cond.unhidden "TokenRing$State$Round$1" "next" "()Ljava/lang/Object;") ∈ lw_tbl := lw_at lw_m4 76 rfl
theorem q891 : (Jvm.Cond.instanceMethod ({ cls := "TokenRing$State$Round$1", name := "next", desc := "()Ljava/lang/Object;" } : Jvm.MethodName)) ∈ lw_all := lw_g (lw_at lw_m4 77 rfl) rfl
theorem q892 : (Jvm.Cond.publicMethod ({ cls := "TokenRing$State$Round$1", name := "next", desc := "()Ljava/lang/Object;" } : Jvm.MethodName)) ∈ lw_tbl := lw_at lw_m4 78 rfl
theorem q893 : (Jvm.Cond.code ({ cls := "TokenRing$State$Round$1", name := "next", desc := "()Ljava/lang/Object;" } : Jvm.MethodName) prog_16_method_4_code (1 : Nat) (Option.some (Jvm.ClassFile.FieldType.object "java/lang/Object"))) ∈ lw_all := lw_g (lw_at lw_m4 79 rfl) rfl
theorem q894 : (Jvm.Cond.methodLink "TokenRing$State$Round$1" (57 : Nat) ({ cls := "TokenRing$State$Round$1", name := "next", desc := "()LTokenRing$Station;" } : Jvm.MethodName)) ∈ lw_all := lw_g (lw_at lw_m4 80 rfl) rfl
theorem q895 : (Jvm.Cond.instanceMethod ({ cls := "TokenRing$State$Round$1", name := "next", desc := "()LTokenRing$Station;" } : Jvm.MethodName)) ∈ lw_all := lw_g (lw_at lw_m4 81 rfl) rfl
theorem q896 : (Jvm.Cond.selects "TokenRing$State$Round$1" ({ cls := "TokenRing$State$Round$1", name := "next", desc := "()LTokenRing$Station;" } : Jvm.MethodName) ({ cls := "TokenRing$State$Round$1", name := "next", desc := "()LTokenRing$Station;" } : Jvm.MethodName)) ∈ lw_all := lw_g (lw_at lw_m4 82 rfl) rfl
theorem q897 : (Jvm.Cond.code ({ cls := "TokenRing$State$Round$1", name := "next", desc := "()LTokenRing$Station;" } : Jvm.MethodName) prog_16_method_3_code (1 : Nat) (Option.some (Jvm.ClassFile.FieldType.object "TokenRing$Station"))) ∈ lw_all := lw_g (lw_at lw_m4 83 rfl) rfl
theorem q898 : (Jvm.Cond.methodLink "TokenRing$State$Round$1" (41 : Nat) ({ cls := "TokenRing$State", name := "next", desc := "(I)I" } : Jvm.MethodName)) ∈ lw_all := lw_g (lw_at lw_m4 84 rfl) rfl
theorem q1011 : (Jvm.Cond.methodLink "TokenRing$State$Round$1" (45 : Nat) ({ cls := "java/lang/Integer", name := "valueOf", desc := "(I)Ljava/lang/Integer;" } : Jvm.MethodName)) ∈ lw_all := lw_g (lw_at lw_m4 197 rfl) rfl
theorem q1012 : (Jvm.Cond.methodLink "TokenRing$State$Round$1" (51 : Nat) ({ cls := "java/util/TreeMap", name := "get", desc := "(Ljava/lang/Object;)Ljava/lang/Object;" } : Jvm.MethodName)) ∈ lw_all := lw_g (lw_at lw_m4 198 rfl) rfl
theorem q1027 : (Jvm.Cond.classLink "TokenRing$State$Round$1" (55 : Nat) "TokenRing$Station") ∈ lw_all := lw_g (lw_at lw_m4 213 rfl) rfl
theorem q1614 : (Jvm.Cond.selects "TokenRing$State$Round$1" ({ cls := "java/lang/Object", name := "getClass", desc := "()Ljava/lang/Class;" } : Jvm.MethodName) ({ cls := "java/lang/Object", name := "getClass", desc := "()Ljava/lang/Class;" } : Jvm.MethodName)) ∈ lw_all := lw_g (lw_at lw_m7 80 rfl) rfl
theorem q2245 : (Jvm.Cond.fieldLinkNest "TokenRing$State$Round$1" (13 : Nat) "TokenRing$State$Round" "from" "I" "TokenRing") ∈ lw_tbl := lw_at lw_m9 231 rfl
theorem q2247 : (Jvm.Cond.fieldLink "TokenRing$State$Round$1" (25 : Nat) "TokenRing$State$Round" "this$0" "LTokenRing$State;") ∈ lw_all := lw_g (lw_at lw_m9 233 rfl) rfl
theorem q2258 : (Jvm.Cond.instantiable "TokenRing$State$Round$1" (3 : Nat)) ∈ lw_all := lw_g (lw_at lw_m10 4 rfl) rfl
theorem q2260 : (Jvm.Cond.instanceMethod ({ cls := "TokenRing$State$Round$1", name := "<init>", desc := "(LTokenRing$State$Round;)V" } : Jvm.MethodName)) ∈ lw_all := lw_g (lw_at lw_m10 6 rfl) rfl
theorem q2261 : (Jvm.Cond.code ({ cls := "TokenRing$State$Round$1", name := "<init>", desc := "(LTokenRing$State$Round;)V" } : Jvm.MethodName) prog_16_method_1_code (2 : Nat) (Option.none : Option Jvm.ClassFile.FieldType)) ∈ lw_all := lw_g (lw_at lw_m10 7 rfl) rfl
theorem q2262 : (Jvm.Cond.methodLink "TokenRing$State$Round$1" (7 : Nat) ({ cls := "java/lang/Object", name := "<init>", desc := "()V" } : Jvm.MethodName)) ∈ lw_all := lw_g (lw_at lw_m10 8 rfl) rfl
theorem q2263 : (Jvm.Cond.fieldLink "TokenRing$State$Round$1" (19 : Nat) "TokenRing$State$Round$1" "last" "I") ∈ lw_all := lw_g (lw_at lw_m10 9 rfl) rfl
theorem q2264 : (Jvm.Cond.fieldLink "TokenRing$State$Round$1" (22 : Nat) "TokenRing$State$Round$1" "gone" "I") ∈ lw_all := lw_g (lw_at lw_m10 10 rfl) rfl
theorem q2265 : (Jvm.Cond.fieldLink "TokenRing$State$Round$1" (1 : Nat) "TokenRing$State$Round$1" "this$1" "LTokenRing$State$Round;") ∈ lw_all := lw_g (lw_at lw_m10 11 rfl) rfl
theorem q2266 : (Jvm.Cond.lays "TokenRing$State$Round$1" "TokenRing$State$Round$1" "last" "I") ∈ lw_all := lw_g (lw_at lw_m10 12 rfl) rfl
theorem q2267 : (Jvm.Cond.soleField "TokenRing$State$Round$1" "last") ∈ lw_all := lw_g (lw_at lw_m10 13 rfl) rfl
theorem q2268 : (Jvm.Cond.lays "TokenRing$State$Round$1" "TokenRing$State$Round$1" "gone" "I") ∈ lw_all := lw_g (lw_at lw_m10 14 rfl) rfl
theorem q2269 : (Jvm.Cond.soleField "TokenRing$State$Round$1" "gone") ∈ lw_all := lw_g (lw_at lw_m10 15 rfl) rfl
theorem q2270 : (Jvm.Cond.laysFinal "TokenRing$State$Round$1" "TokenRing$State$Round$1" "this$1" "LTokenRing$State$Round;") ∈ lw_all := lw_g (lw_at lw_m10 16 rfl) rfl
theorem q2271 : (Jvm.Cond.soleField "TokenRing$State$Round$1" "this$1") ∈ lw_all := lw_g (lw_at lw_m10 17 rfl) rfl
theorem q2272 : (Jvm.Cond.superclass "TokenRing$State$Round$1" "java/lang/Object") ∈ lw_all := lw_g (lw_at lw_m10 18 rfl) rfl
theorem q3340 : (Jvm.Cond.castable "TokenRing$State$Round$1" "java/lang/Object") ∈ lw_tbl := lw_at lw_m14 126 rfl
theorem in_X10 : ∀ w ∈ wsX100, w ∈ lw_all := lw_in wsX100 [2266, 2268, 2270] (by decide +kernel) (by decide +kernel)
/-! TokenRing$1Busier -/
set_option maxRecDepth 100000
def RX11 : String := "TokenRing$1Busier"
def TX11 : u_T := fun k => match k with
  | _ => ("TokenRing$1Busier", "this$0", "LTokenRing;", true)
def tyX11 : Nat → FieldType := fun k => match k with
  | _ => .object "TokenRing"
abbrev wsX110 : List Cond := u_ws RX11 TX11 1
theorem nmX11 : ∀ a, a < 1 → ∀ b, b < 1 → a ≠ b → (TX11 a).2.1 ≠ (TX11 b).2.1 := by decide +kernel
theorem tyX11_ok : ∀ k, k < 1 → parseFieldDescriptor (TX11 k).2.2.1 = some (tyX11 k) := by decide +kernel
abbrev cX11_init : ByteArray := prog_2_method_1_code
def yX11_init : MethodName := ⟨RX11, "<init>", "(LTokenRing;)V"⟩
def dkwX11_init_0 : List UInt8 := [42, 43, 181, 0, 1, 42, 183, 0, 7, 177]
abbrev dktX11_init_0 : List UInt8 := dkwX11_init_0 ++ []
theorem dksX11_init_0 : cX11_init.data.toList.drop 0 = dktX11_init_0 := by decide +kernel
theorem dX11_init_0 : decode cX11_init 0 = .ok (.aload_n 0, 1) := dk_42 (dk_at dksX11_init_0 0 rfl rfl)
theorem dX11_init_1 : decode cX11_init 1 = .ok (.aload_n 1, 1) := dk_43 (dk_at dksX11_init_0 1 rfl rfl)
theorem dX11_init_2 : decode cX11_init 2 = .ok (.putfield 1, 3) := dk_181 0 1 (dk_at dksX11_init_0 2 rfl rfl)
theorem dX11_init_5 : decode cX11_init 5 = .ok (.aload_n 0, 1) := dk_42 (dk_at dksX11_init_0 5 rfl rfl)
theorem dX11_init_6 : decode cX11_init 6 = .ok (.invokespecial 7, 3) := dk_183 0 7 (dk_at dksX11_init_0 6 rfl rfl)
theorem dX11_init_9 : decode cX11_init 9 = .ok (.return_, 1) := dk_177 (dk_at dksX11_init_0 9 rfl rfl)
abbrev cX11_is : ByteArray := prog_2_method_2_code
def yX11_is : MethodName := ⟨RX11, "is", "(LTokenRing$Station;LTokenRing$Station;)Z"⟩
def dkwX11_is_3 : List UInt8 := [180, 0, 28, 44, 180, 0, 28, 162, 0, 7, 4, 167, 0, 4, 3, 172]
abbrev dktX11_is_3 : List UInt8 := dkwX11_is_3 ++ []
def dkwX11_is_2 : List UInt8 := [159, 0, 22, 43, 182, 0, 25, 44, 182, 0, 25, 164, 0, 7, 4, 167, 0, 23, 3, 167, 0, 19, 43]
abbrev dktX11_is_2 : List UInt8 := dkwX11_is_2 ++ dktX11_is_3
def dkwX11_is_1 : List UInt8 := [44, 180, 0, 13, 182, 0, 19, 164, 0, 7, 4, 167, 0, 4, 3, 172, 43, 182, 0, 25, 44, 182, 0, 25]
abbrev dktX11_is_1 : List UInt8 := dkwX11_is_1 ++ dktX11_is_2
def dkwX11_is_0 : List UInt8 := [43, 180, 0, 13, 182, 0, 19, 44, 180, 0, 13, 182, 0, 19, 159, 0, 26, 43, 180, 0, 13, 182, 0, 19]
abbrev dktX11_is_0 : List UInt8 := dkwX11_is_0 ++ dktX11_is_1
theorem dksX11_is_0 : cX11_is.data.toList.drop 0 = dktX11_is_0 := by decide +kernel
theorem dksX11_is_1 : cX11_is.data.toList.drop 24 = dktX11_is_1 := dk_seg dksX11_is_0 24 rfl rfl
theorem dksX11_is_2 : cX11_is.data.toList.drop 48 = dktX11_is_2 := dk_seg dksX11_is_1 24 rfl rfl
theorem dksX11_is_3 : cX11_is.data.toList.drop 71 = dktX11_is_3 := dk_seg dksX11_is_2 23 rfl rfl
theorem dX11_is_0 : decode cX11_is 0 = .ok (.aload_n 1, 1) := dk_43 (dk_at dksX11_is_0 0 rfl rfl)
theorem dX11_is_1 : decode cX11_is 1 = .ok (.getfield 13, 3) := dk_180 0 13 (dk_at dksX11_is_0 1 rfl rfl)
theorem dX11_is_4 : decode cX11_is 4 = .ok (.invokevirtual 19, 3) := dk_182 0 19 (dk_at dksX11_is_0 4 rfl rfl)
theorem dX11_is_7 : decode cX11_is 7 = .ok (.aload_n 2, 1) := dk_44 (dk_at dksX11_is_0 7 rfl rfl)
theorem dX11_is_8 : decode cX11_is 8 = .ok (.getfield 13, 3) := dk_180 0 13 (dk_at dksX11_is_0 8 rfl rfl)
theorem dX11_is_11 : decode cX11_is 11 = .ok (.invokevirtual 19, 3) := dk_182 0 19 (dk_at dksX11_is_0 11 rfl rfl)
theorem dX11_is_14 : decode cX11_is 14 = .ok (.if_icmp .eq 26, 3) := dk_159 0 26 (dk_at dksX11_is_0 14 rfl rfl)
theorem dX11_is_17 : decode cX11_is 17 = .ok (.aload_n 1, 1) := dk_43 (dk_at dksX11_is_0 17 rfl rfl)
theorem dX11_is_18 : decode cX11_is 18 = .ok (.getfield 13, 3) := dk_180 0 13 (dk_at dksX11_is_0 18 rfl rfl)
theorem dX11_is_21 : decode cX11_is 21 = .ok (.invokevirtual 19, 3) := dk_182 0 19 (dk_at dksX11_is_0 21 rfl rfl)
theorem dX11_is_24 : decode cX11_is 24 = .ok (.aload_n 2, 1) := dk_44 (dk_at dksX11_is_1 0 rfl rfl)
theorem dX11_is_25 : decode cX11_is 25 = .ok (.getfield 13, 3) := dk_180 0 13 (dk_at dksX11_is_1 1 rfl rfl)
theorem dX11_is_28 : decode cX11_is 28 = .ok (.invokevirtual 19, 3) := dk_182 0 19 (dk_at dksX11_is_1 4 rfl rfl)
theorem dX11_is_31 : decode cX11_is 31 = .ok (.if_icmp .le 7, 3) := dk_164 0 7 (dk_at dksX11_is_1 7 rfl rfl)
theorem dX11_is_34 : decode cX11_is 34 = .ok (.iconst 1, 1) := dk_4 (dk_at dksX11_is_1 10 rfl rfl)
theorem dX11_is_35 : decode cX11_is 35 = .ok (.goto 4, 3) := dk_167 0 4 (dk_at dksX11_is_1 11 rfl rfl)
theorem dX11_is_38 : decode cX11_is 38 = .ok (.iconst 0, 1) := dk_3 (dk_at dksX11_is_1 14 rfl rfl)
theorem dX11_is_39 : decode cX11_is 39 = .ok (.ireturn, 1) := dk_172 (dk_at dksX11_is_1 15 rfl rfl)
theorem dX11_is_40 : decode cX11_is 40 = .ok (.aload_n 1, 1) := dk_43 (dk_at dksX11_is_1 16 rfl rfl)
theorem dX11_is_41 : decode cX11_is 41 = .ok (.invokevirtual 25, 3) := dk_182 0 25 (dk_at dksX11_is_1 17 rfl rfl)
theorem dX11_is_44 : decode cX11_is 44 = .ok (.aload_n 2, 1) := dk_44 (dk_at dksX11_is_1 20 rfl rfl)
theorem dX11_is_45 : decode cX11_is 45 = .ok (.invokevirtual 25, 3) := dk_182 0 25 (dk_at dksX11_is_1 21 rfl rfl)
theorem dX11_is_48 : decode cX11_is 48 = .ok (.if_icmp .eq 22, 3) := dk_159 0 22 (dk_at dksX11_is_2 0 rfl rfl)
theorem dX11_is_51 : decode cX11_is 51 = .ok (.aload_n 1, 1) := dk_43 (dk_at dksX11_is_2 3 rfl rfl)
theorem dX11_is_52 : decode cX11_is 52 = .ok (.invokevirtual 25, 3) := dk_182 0 25 (dk_at dksX11_is_2 4 rfl rfl)
theorem dX11_is_55 : decode cX11_is 55 = .ok (.aload_n 2, 1) := dk_44 (dk_at dksX11_is_2 7 rfl rfl)
theorem dX11_is_56 : decode cX11_is 56 = .ok (.invokevirtual 25, 3) := dk_182 0 25 (dk_at dksX11_is_2 8 rfl rfl)
theorem dX11_is_59 : decode cX11_is 59 = .ok (.if_icmp .le 7, 3) := dk_164 0 7 (dk_at dksX11_is_2 11 rfl rfl)
theorem dX11_is_62 : decode cX11_is 62 = .ok (.iconst 1, 1) := dk_4 (dk_at dksX11_is_2 14 rfl rfl)
theorem dX11_is_63 : decode cX11_is 63 = .ok (.goto 23, 3) := dk_167 0 23 (dk_at dksX11_is_2 15 rfl rfl)
theorem dX11_is_66 : decode cX11_is 66 = .ok (.iconst 0, 1) := dk_3 (dk_at dksX11_is_2 18 rfl rfl)
theorem dX11_is_67 : decode cX11_is 67 = .ok (.goto 19, 3) := dk_167 0 19 (dk_at dksX11_is_2 19 rfl rfl)
theorem dX11_is_70 : decode cX11_is 70 = .ok (.aload_n 1, 1) := dk_43 (dk_at dksX11_is_2 22 rfl rfl)
theorem dX11_is_71 : decode cX11_is 71 = .ok (.getfield 28, 3) := dk_180 0 28 (dk_at dksX11_is_3 0 rfl rfl)
theorem dX11_is_74 : decode cX11_is 74 = .ok (.aload_n 2, 1) := dk_44 (dk_at dksX11_is_3 3 rfl rfl)
theorem dX11_is_75 : decode cX11_is 75 = .ok (.getfield 28, 3) := dk_180 0 28 (dk_at dksX11_is_3 4 rfl rfl)
theorem dX11_is_78 : decode cX11_is 78 = .ok (.if_icmp .ge 7, 3) := dk_162 0 7 (dk_at dksX11_is_3 7 rfl rfl)
theorem dX11_is_81 : decode cX11_is 81 = .ok (.iconst 1, 1) := dk_4 (dk_at dksX11_is_3 10 rfl rfl)
theorem dX11_is_82 : decode cX11_is 82 = .ok (.goto 4, 3) := dk_167 0 4 (dk_at dksX11_is_3 11 rfl rfl)
theorem dX11_is_85 : decode cX11_is 85 = .ok (.iconst 0, 1) := dk_3 (dk_at dksX11_is_3 14 rfl rfl)
theorem dX11_is_86 : decode cX11_is 86 = .ok (.ireturn, 1) := dk_172 (dk_at dksX11_is_3 15 rfl rfl)
theorem q152 : (Jvm.Cond.initialized "TokenRing$1Busier") ∈ lw_all := lw_g (lw_at lw_m1 58 rfl) rfl
theorem q1548 : (Jvm.Cond.fieldLinkNest "TokenRing$1Busier" (28 : Nat) "TokenRing$Station" "address" "I" "TokenRing") ∈ lw_tbl := lw_at lw_m7 14 rfl
theorem q1552 : (Jvm.Cond.fieldLinkNest "TokenRing$1Busier" (13 : Nat) "TokenRing$Station" "queue" "Ljava/util/ArrayList;" "TokenRing") ∈ lw_tbl := lw_at lw_m7 18 rfl
theorem q1601 : (Jvm.Cond.selects "TokenRing$1Busier" ({ cls := "java/lang/Object", name := "getClass", desc := "()Ljava/lang/Class;" } : Jvm.MethodName) ({ cls := "java/lang/Object", name := "getClass", desc := "()Ljava/lang/Class;" } : Jvm.MethodName)) ∈ lw_all := lw_g (lw_at lw_m7 67 rfl) rfl
theorem q2409 : (Jvm.Cond.instantiable "TokenRing$1Busier" (1 : Nat)) ∈ lw_all := lw_g (lw_at lw_m10 155 rfl) rfl
theorem q2411 : (Jvm.Cond.instanceMethod ({ cls := "TokenRing$1Busier", name := "<init>", desc := "(LTokenRing;)V" } : Jvm.MethodName)) ∈ lw_all := lw_g (lw_at lw_m10 157 rfl) rfl
theorem q2412 : (Jvm.Cond.code ({ cls := "TokenRing$1Busier", name := "<init>", desc := "(LTokenRing;)V" } : Jvm.MethodName) prog_2_method_1_code (2 : Nat) (Option.none : Option Jvm.ClassFile.FieldType)) ∈ lw_all := lw_g (lw_at lw_m10 158 rfl) rfl
theorem q2413 : (Jvm.Cond.methodLink "TokenRing$1Busier" (7 : Nat) ({ cls := "java/lang/Object", name := "<init>", desc := "()V" } : Jvm.MethodName)) ∈ lw_all := lw_g (lw_at lw_m10 159 rfl) rfl
theorem q2414 : (Jvm.Cond.fieldLink "TokenRing$1Busier" (1 : Nat) "TokenRing$1Busier" "this$0" "LTokenRing;") ∈ lw_all := lw_g (lw_at lw_m10 160 rfl) rfl
theorem q2415 : (Jvm.Cond.laysFinal "TokenRing$1Busier" "TokenRing$1Busier" "this$0" "LTokenRing;") ∈ lw_all := lw_g (lw_at lw_m10 161 rfl) rfl
theorem q2416 : (Jvm.Cond.soleField "TokenRing$1Busier" "this$0") ∈ lw_all := lw_g (lw_at lw_m10 162 rfl) rfl
theorem q2417 : (Jvm.Cond.superclass "TokenRing$1Busier" "java/lang/Object") ∈ lw_all := lw_g (lw_at lw_m10 163 rfl) rfl
theorem q2419 : (Jvm.Cond.instanceMethod ({ cls := "TokenRing$1Busier", name := "is", desc := "(LTokenRing$Station;LTokenRing$Station;)Z" } : Jvm.MethodName)) ∈ lw_all := lw_g (lw_at lw_m10 165 rfl) rfl
theorem q2420 : (Jvm.Cond.selects "TokenRing$1Busier" ({ cls := "TokenRing$1Busier", name := "is", desc := "(LTokenRing$Station;LTokenRing$Station;)Z" } : Jvm.MethodName) ({ cls := "TokenRing$1Busier", name := "is", desc := "(LTokenRing$Station;LTokenRing$Station;)Z" } : Jvm.MethodName)) ∈ lw_all := lw_g (lw_at lw_m10 166 rfl) rfl
theorem q2421 : (Jvm.Cond.code ({ cls := "TokenRing$1Busier", name := "is", desc := "(LTokenRing$Station;LTokenRing$Station;)Z" } : Jvm.MethodName) prog_2_method_2_code (3 : Nat) (Option.some Jvm.ClassFile.FieldType.boolean)) ∈ lw_all := lw_g (lw_at lw_m10 167 rfl) rfl
theorem q2422 : (Jvm.Cond.methodLink "TokenRing$1Busier" (19 : Nat) ({ cls := "java/util/ArrayList", name := "size", desc := "()I" } : Jvm.MethodName)) ∈ lw_all := lw_g (lw_at lw_m10 168 rfl) rfl
theorem q2423 : (Jvm.Cond.methodLink "TokenRing$1Busier" (25 : Nat) ({ cls := "TokenRing$Station", name := "lengths", desc := "()I" } : Jvm.MethodName)) ∈ lw_all := lw_g (lw_at lw_m10 169 rfl) rfl
theorem q3344 : (Jvm.Cond.castable "TokenRing$1Busier" "java/lang/Object") ∈ lw_tbl := lw_at lw_m14 130 rfl
theorem in_X11 : ∀ w ∈ wsX110, w ∈ lw_all := lw_in wsX110 [2415] (by decide +kernel) (by decide +kernel)
/-! TokenRing$Reader -/
set_option maxRecDepth 100000
def RX12 : String := "TokenRing$Reader"
def TX12 : u_T := fun k => match k with
  | 0 => ("TokenRing$Reader", "text", "Ljava/lang/CharSequence;", true)
  | 1 => ("TokenRing$Reader", "orders", "Ljava/util/ArrayList;", true)
  | 2 => ("TokenRing$Reader", "at", "I", false)
  | 3 => ("TokenRing$Reader", "isFaulty", "Z", false)
  | _ => ("TokenRing$Reader", "this$0", "LTokenRing;", true)
def tyX12 : Nat → FieldType := fun k => match k with
  | 0 => .object "java/lang/CharSequence"
  | 1 => .object "java/util/ArrayList"
  | 2 => .int
  | 3 => .boolean
  | _ => .object "TokenRing"
abbrev wsX120 : List Cond := u_ws RX12 TX12 5
theorem nmX12 : ∀ a, a < 5 → ∀ b, b < 5 → a ≠ b → (TX12 a).2.1 ≠ (TX12 b).2.1 := by decide +kernel
theorem tyX12_ok : ∀ k, k < 5 → parseFieldDescriptor (TX12 k).2.2.1 = some (tyX12 k) := by decide +kernel
abbrev cX12_init : ByteArray := prog_5_method_1_code
def yX12_init : MethodName := ⟨RX12, "<init>", "(LTokenRing;Ljava/lang/CharSequence;)V"⟩
def dkwX12_init_1 : List UInt8 := [181, 0, 20, 177]
abbrev dktX12_init_1 : List UInt8 := dkwX12_init_1 ++ []
def dkwX12_init_0 : List UInt8 := [42, 43, 181, 0, 1, 42, 183, 0, 7, 42, 187, 0, 13, 89, 183, 0, 15, 181, 0, 16, 42, 44]
abbrev dktX12_init_0 : List UInt8 := dkwX12_init_0 ++ dktX12_init_1
theorem dksX12_init_0 : cX12_init.data.toList.drop 0 = dktX12_init_0 := by decide +kernel
theorem dksX12_init_1 : cX12_init.data.toList.drop 22 = dktX12_init_1 := dk_seg dksX12_init_0 22 rfl rfl
theorem dX12_init_0 : decode cX12_init 0 = .ok (.aload_n 0, 1) := dk_42 (dk_at dksX12_init_0 0 rfl rfl)
theorem dX12_init_1 : decode cX12_init 1 = .ok (.aload_n 1, 1) := dk_43 (dk_at dksX12_init_0 1 rfl rfl)
theorem dX12_init_2 : decode cX12_init 2 = .ok (.putfield 1, 3) := dk_181 0 1 (dk_at dksX12_init_0 2 rfl rfl)
theorem dX12_init_5 : decode cX12_init 5 = .ok (.aload_n 0, 1) := dk_42 (dk_at dksX12_init_0 5 rfl rfl)
theorem dX12_init_6 : decode cX12_init 6 = .ok (.invokespecial 7, 3) := dk_183 0 7 (dk_at dksX12_init_0 6 rfl rfl)
theorem dX12_init_9 : decode cX12_init 9 = .ok (.aload_n 0, 1) := dk_42 (dk_at dksX12_init_0 9 rfl rfl)
theorem dX12_init_10 : decode cX12_init 10 = .ok (.new 13, 3) := dk_187 0 13 (dk_at dksX12_init_0 10 rfl rfl)
theorem dX12_init_13 : decode cX12_init 13 = .ok (.dup, 1) := dk_89 (dk_at dksX12_init_0 13 rfl rfl)
theorem dX12_init_14 : decode cX12_init 14 = .ok (.invokespecial 15, 3) := dk_183 0 15 (dk_at dksX12_init_0 14 rfl rfl)
theorem dX12_init_17 : decode cX12_init 17 = .ok (.putfield 16, 3) := dk_181 0 16 (dk_at dksX12_init_0 17 rfl rfl)
theorem dX12_init_20 : decode cX12_init 20 = .ok (.aload_n 0, 1) := dk_42 (dk_at dksX12_init_0 20 rfl rfl)
theorem dX12_init_21 : decode cX12_init 21 = .ok (.aload_n 2, 1) := dk_44 (dk_at dksX12_init_0 21 rfl rfl)
theorem dX12_init_22 : decode cX12_init 22 = .ok (.putfield 20, 3) := dk_181 0 20 (dk_at dksX12_init_1 0 rfl rfl)
theorem dX12_init_25 : decode cX12_init 25 = .ok (.return_, 1) := dk_177 (dk_at dksX12_init_1 3 rfl rfl)
abbrev cX12_read : ByteArray := prog_5_method_15_code
def yX12_read : MethodName := ⟨RX12, "read", "()V"⟩
def dkwX12_read_2 : List UInt8 := [180, 0, 20, 185, 0, 28, 1, 0, 162, 0, 7, 4, 167, 0, 4, 3, 128, 181, 0, 38, 177]
abbrev dktX12_read_2 : List UInt8 := dkwX12_read_2 ++ []
def dkwX12_read_1 : List UInt8 := [180, 0, 16, 42, 182, 0, 107, 182, 0, 110, 87, 167, 255, 235, 42, 89, 180, 0, 38, 42, 180, 0, 24, 42]
abbrev dktX12_read_1 : List UInt8 := dkwX12_read_1 ++ dktX12_read_2
def dkwX12_read_0 : List UInt8 := [42, 180, 0, 16, 42, 182, 0, 107, 182, 0, 110, 87, 42, 16, 59, 182, 0, 46, 153, 0, 18, 42]
abbrev dktX12_read_0 : List UInt8 := dkwX12_read_0 ++ dktX12_read_1
theorem dksX12_read_0 : cX12_read.data.toList.drop 0 = dktX12_read_0 := by decide +kernel
theorem dksX12_read_1 : cX12_read.data.toList.drop 22 = dktX12_read_1 := dk_seg dksX12_read_0 22 rfl rfl
theorem dksX12_read_2 : cX12_read.data.toList.drop 46 = dktX12_read_2 := dk_seg dksX12_read_1 24 rfl rfl
theorem dX12_read_0 : decode cX12_read 0 = .ok (.aload_n 0, 1) := dk_42 (dk_at dksX12_read_0 0 rfl rfl)
theorem dX12_read_1 : decode cX12_read 1 = .ok (.getfield 16, 3) := dk_180 0 16 (dk_at dksX12_read_0 1 rfl rfl)
theorem dX12_read_4 : decode cX12_read 4 = .ok (.aload_n 0, 1) := dk_42 (dk_at dksX12_read_0 4 rfl rfl)
theorem dX12_read_5 : decode cX12_read 5 = .ok (.invokevirtual 107, 3) := dk_182 0 107 (dk_at dksX12_read_0 5 rfl rfl)
theorem dX12_read_8 : decode cX12_read 8 = .ok (.invokevirtual 110, 3) := dk_182 0 110 (dk_at dksX12_read_0 8 rfl rfl)
theorem dX12_read_11 : decode cX12_read 11 = .ok (.pop, 1) := dk_87 (dk_at dksX12_read_0 11 rfl rfl)
theorem dX12_read_12 : decode cX12_read 12 = .ok (.aload_n 0, 1) := dk_42 (dk_at dksX12_read_0 12 rfl rfl)
theorem dX12_read_13 : decode cX12_read 13 = .ok (.bipush 59, 2) := dk_16 59 (dk_at dksX12_read_0 13 rfl rfl)
theorem dX12_read_15 : decode cX12_read 15 = .ok (.invokevirtual 46, 3) := dk_182 0 46 (dk_at dksX12_read_0 15 rfl rfl)
theorem dX12_read_18 : decode cX12_read 18 = .ok (.ifCond .eq 18, 3) := dk_153 0 18 (dk_at dksX12_read_0 18 rfl rfl)
theorem dX12_read_21 : decode cX12_read 21 = .ok (.aload_n 0, 1) := dk_42 (dk_at dksX12_read_0 21 rfl rfl)
theorem dX12_read_22 : decode cX12_read 22 = .ok (.getfield 16, 3) := dk_180 0 16 (dk_at dksX12_read_1 0 rfl rfl)
theorem dX12_read_25 : decode cX12_read 25 = .ok (.aload_n 0, 1) := dk_42 (dk_at dksX12_read_1 3 rfl rfl)
theorem dX12_read_26 : decode cX12_read 26 = .ok (.invokevirtual 107, 3) := dk_182 0 107 (dk_at dksX12_read_1 4 rfl rfl)
theorem dX12_read_29 : decode cX12_read 29 = .ok (.invokevirtual 110, 3) := dk_182 0 110 (dk_at dksX12_read_1 7 rfl rfl)
theorem dX12_read_32 : decode cX12_read 32 = .ok (.pop, 1) := dk_87 (dk_at dksX12_read_1 10 rfl rfl)
theorem dX12_read_33 : decode cX12_read 33 = .ok (.goto (-21), 3) := dk_167 255 235 (dk_at dksX12_read_1 11 rfl rfl)
theorem dX12_read_36 : decode cX12_read 36 = .ok (.aload_n 0, 1) := dk_42 (dk_at dksX12_read_1 14 rfl rfl)
theorem dX12_read_37 : decode cX12_read 37 = .ok (.dup, 1) := dk_89 (dk_at dksX12_read_1 15 rfl rfl)
theorem dX12_read_38 : decode cX12_read 38 = .ok (.getfield 38, 3) := dk_180 0 38 (dk_at dksX12_read_1 16 rfl rfl)
theorem dX12_read_41 : decode cX12_read 41 = .ok (.aload_n 0, 1) := dk_42 (dk_at dksX12_read_1 19 rfl rfl)
theorem dX12_read_42 : decode cX12_read 42 = .ok (.getfield 24, 3) := dk_180 0 24 (dk_at dksX12_read_1 20 rfl rfl)
theorem dX12_read_45 : decode cX12_read 45 = .ok (.aload_n 0, 1) := dk_42 (dk_at dksX12_read_1 23 rfl rfl)
theorem dX12_read_46 : decode cX12_read 46 = .ok (.getfield 20, 3) := dk_180 0 20 (dk_at dksX12_read_2 0 rfl rfl)
theorem dX12_read_49 : decode cX12_read 49 = .ok (.invokeinterface 28 1, 5) := by decide +kernel
theorem dX12_read_54 : decode cX12_read 54 = .ok (.if_icmp .ge 7, 3) := dk_162 0 7 (dk_at dksX12_read_2 8 rfl rfl)
theorem dX12_read_57 : decode cX12_read 57 = .ok (.iconst 1, 1) := dk_4 (dk_at dksX12_read_2 11 rfl rfl)
theorem dX12_read_58 : decode cX12_read 58 = .ok (.goto 4, 3) := dk_167 0 4 (dk_at dksX12_read_2 12 rfl rfl)
theorem dX12_read_61 : decode cX12_read 61 = .ok (.iconst 0, 1) := dk_3 (dk_at dksX12_read_2 15 rfl rfl)
theorem dX12_read_62 : decode cX12_read 62 = .ok (.ior, 1) := dk_128 (dk_at dksX12_read_2 16 rfl rfl)
theorem dX12_read_63 : decode cX12_read 63 = .ok (.putfield 38, 3) := dk_181 0 38 (dk_at dksX12_read_2 17 rfl rfl)
theorem dX12_read_66 : decode cX12_read 66 = .ok (.return_, 1) := dk_177 (dk_at dksX12_read_2 20 rfl rfl)
abbrev cX12_order : ByteArray := prog_5_method_14_code
def yX12_order : MethodName := ⟨RX12, "order", "()LTokenRing$Order;"⟩
def dkwX12_order_3 : List UInt8 := [42, 182, 0, 104, 176]
abbrev dktX12_order_3 : List UInt8 := dkwX12_order_3 ++ []
def dkwX12_order_2 : List UInt8 := [153, 0, 8, 42, 182, 0, 98, 176, 42, 16, 116, 182, 0, 46, 153, 0, 10, 42, 182, 0, 101, 167, 0, 7]
abbrev dktX12_order_2 : List UInt8 := dkwX12_order_2 ++ dktX12_order_3
def dkwX12_order_1 : List UInt8 := [182, 0, 92, 176, 42, 16, 113, 182, 0, 46, 153, 0, 8, 42, 182, 0, 95, 176, 42, 16, 109, 182, 0, 46]
abbrev dktX12_order_1 : List UInt8 := dkwX12_order_1 ++ dktX12_order_2
def dkwX12_order_0 : List UInt8 := [42, 16, 43, 182, 0, 46, 153, 0, 8, 42, 182, 0, 88, 176, 42, 16, 45, 182, 0, 46, 153, 0, 8, 42]
abbrev dktX12_order_0 : List UInt8 := dkwX12_order_0 ++ dktX12_order_1
theorem dksX12_order_0 : cX12_order.data.toList.drop 0 = dktX12_order_0 := by decide +kernel
theorem dksX12_order_1 : cX12_order.data.toList.drop 24 = dktX12_order_1 := dk_seg dksX12_order_0 24 rfl rfl
theorem dksX12_order_2 : cX12_order.data.toList.drop 48 = dktX12_order_2 := dk_seg dksX12_order_1 24 rfl rfl
theorem dksX12_order_3 : cX12_order.data.toList.drop 72 = dktX12_order_3 := dk_seg dksX12_order_2 24 rfl rfl
theorem dX12_order_0 : decode cX12_order 0 = .ok (.aload_n 0, 1) := dk_42 (dk_at dksX12_order_0 0 rfl rfl)
theorem dX12_order_1 : decode cX12_order 1 = .ok (.bipush 43, 2) := dk_16 43 (dk_at dksX12_order_0 1 rfl rfl)
theorem dX12_order_3 : decode cX12_order 3 = .ok (.invokevirtual 46, 3) := dk_182 0 46 (dk_at dksX12_order_0 3 rfl rfl)
theorem dX12_order_6 : decode cX12_order 6 = .ok (.ifCond .eq 8, 3) := dk_153 0 8 (dk_at dksX12_order_0 6 rfl rfl)
theorem dX12_order_9 : decode cX12_order 9 = .ok (.aload_n 0, 1) := dk_42 (dk_at dksX12_order_0 9 rfl rfl)
theorem dX12_order_10 : decode cX12_order 10 = .ok (.invokevirtual 88, 3) := dk_182 0 88 (dk_at dksX12_order_0 10 rfl rfl)
theorem dX12_order_13 : decode cX12_order 13 = .ok (.areturn, 1) := dk_176 (dk_at dksX12_order_0 13 rfl rfl)
theorem dX12_order_14 : decode cX12_order 14 = .ok (.aload_n 0, 1) := dk_42 (dk_at dksX12_order_0 14 rfl rfl)
theorem dX12_order_15 : decode cX12_order 15 = .ok (.bipush 45, 2) := dk_16 45 (dk_at dksX12_order_0 15 rfl rfl)
theorem dX12_order_17 : decode cX12_order 17 = .ok (.invokevirtual 46, 3) := dk_182 0 46 (dk_at dksX12_order_0 17 rfl rfl)
theorem dX12_order_20 : decode cX12_order 20 = .ok (.ifCond .eq 8, 3) := dk_153 0 8 (dk_at dksX12_order_0 20 rfl rfl)
theorem dX12_order_23 : decode cX12_order 23 = .ok (.aload_n 0, 1) := dk_42 (dk_at dksX12_order_0 23 rfl rfl)
theorem dX12_order_24 : decode cX12_order 24 = .ok (.invokevirtual 92, 3) := dk_182 0 92 (dk_at dksX12_order_1 0 rfl rfl)
theorem dX12_order_27 : decode cX12_order 27 = .ok (.areturn, 1) := dk_176 (dk_at dksX12_order_1 3 rfl rfl)
theorem dX12_order_28 : decode cX12_order 28 = .ok (.aload_n 0, 1) := dk_42 (dk_at dksX12_order_1 4 rfl rfl)
theorem dX12_order_29 : decode cX12_order 29 = .ok (.bipush 113, 2) := dk_16 113 (dk_at dksX12_order_1 5 rfl rfl)
theorem dX12_order_31 : decode cX12_order 31 = .ok (.invokevirtual 46, 3) := dk_182 0 46 (dk_at dksX12_order_1 7 rfl rfl)
theorem dX12_order_34 : decode cX12_order 34 = .ok (.ifCond .eq 8, 3) := dk_153 0 8 (dk_at dksX12_order_1 10 rfl rfl)
theorem dX12_order_37 : decode cX12_order 37 = .ok (.aload_n 0, 1) := dk_42 (dk_at dksX12_order_1 13 rfl rfl)
theorem dX12_order_38 : decode cX12_order 38 = .ok (.invokevirtual 95, 3) := dk_182 0 95 (dk_at dksX12_order_1 14 rfl rfl)
theorem dX12_order_41 : decode cX12_order 41 = .ok (.areturn, 1) := dk_176 (dk_at dksX12_order_1 17 rfl rfl)
theorem dX12_order_42 : decode cX12_order 42 = .ok (.aload_n 0, 1) := dk_42 (dk_at dksX12_order_1 18 rfl rfl)
theorem dX12_order_43 : decode cX12_order 43 = .ok (.bipush 109, 2) := dk_16 109 (dk_at dksX12_order_1 19 rfl rfl)
theorem dX12_order_45 : decode cX12_order 45 = .ok (.invokevirtual 46, 3) := dk_182 0 46 (dk_at dksX12_order_1 21 rfl rfl)
theorem dX12_order_48 : decode cX12_order 48 = .ok (.ifCond .eq 8, 3) := dk_153 0 8 (dk_at dksX12_order_2 0 rfl rfl)
theorem dX12_order_51 : decode cX12_order 51 = .ok (.aload_n 0, 1) := dk_42 (dk_at dksX12_order_2 3 rfl rfl)
theorem dX12_order_52 : decode cX12_order 52 = .ok (.invokevirtual 98, 3) := dk_182 0 98 (dk_at dksX12_order_2 4 rfl rfl)
theorem dX12_order_55 : decode cX12_order 55 = .ok (.areturn, 1) := dk_176 (dk_at dksX12_order_2 7 rfl rfl)
theorem dX12_order_56 : decode cX12_order 56 = .ok (.aload_n 0, 1) := dk_42 (dk_at dksX12_order_2 8 rfl rfl)
theorem dX12_order_57 : decode cX12_order 57 = .ok (.bipush 116, 2) := dk_16 116 (dk_at dksX12_order_2 9 rfl rfl)
theorem dX12_order_59 : decode cX12_order 59 = .ok (.invokevirtual 46, 3) := dk_182 0 46 (dk_at dksX12_order_2 11 rfl rfl)
theorem dX12_order_62 : decode cX12_order 62 = .ok (.ifCond .eq 10, 3) := dk_153 0 10 (dk_at dksX12_order_2 14 rfl rfl)
theorem dX12_order_65 : decode cX12_order 65 = .ok (.aload_n 0, 1) := dk_42 (dk_at dksX12_order_2 17 rfl rfl)
theorem dX12_order_66 : decode cX12_order 66 = .ok (.invokevirtual 101, 3) := dk_182 0 101 (dk_at dksX12_order_2 18 rfl rfl)
theorem dX12_order_69 : decode cX12_order 69 = .ok (.goto 7, 3) := dk_167 0 7 (dk_at dksX12_order_2 21 rfl rfl)
theorem dX12_order_72 : decode cX12_order 72 = .ok (.aload_n 0, 1) := dk_42 (dk_at dksX12_order_3 0 rfl rfl)
theorem dX12_order_73 : decode cX12_order 73 = .ok (.invokevirtual 104, 3) := dk_182 0 104 (dk_at dksX12_order_3 1 rfl rfl)
theorem dX12_order_76 : decode cX12_order 76 = .ok (.areturn, 1) := dk_176 (dk_at dksX12_order_3 4 rfl rfl)
abbrev cX12_takes : ByteArray := prog_5_method_3_code
def yX12_takes : MethodName := ⟨RX12, "takes", "(C)Z"⟩
def dkwX12_takes_1 : List UInt8 := [181, 0, 24, 4, 172]
abbrev dktX12_takes_1 : List UInt8 := dkwX12_takes_1 ++ []
def dkwX12_takes_0 : List UInt8 := [42, 180, 0, 38, 154, 0, 11, 42, 182, 0, 42, 27, 159, 0, 5, 3, 172, 42, 89, 180, 0, 24, 4, 96]
abbrev dktX12_takes_0 : List UInt8 := dkwX12_takes_0 ++ dktX12_takes_1
theorem dksX12_takes_0 : cX12_takes.data.toList.drop 0 = dktX12_takes_0 := by decide +kernel
theorem dksX12_takes_1 : cX12_takes.data.toList.drop 24 = dktX12_takes_1 := dk_seg dksX12_takes_0 24 rfl rfl
theorem dX12_takes_0 : decode cX12_takes 0 = .ok (.aload_n 0, 1) := dk_42 (dk_at dksX12_takes_0 0 rfl rfl)
theorem dX12_takes_1 : decode cX12_takes 1 = .ok (.getfield 38, 3) := dk_180 0 38 (dk_at dksX12_takes_0 1 rfl rfl)
theorem dX12_takes_4 : decode cX12_takes 4 = .ok (.ifCond .ne 11, 3) := dk_154 0 11 (dk_at dksX12_takes_0 4 rfl rfl)
theorem dX12_takes_7 : decode cX12_takes 7 = .ok (.aload_n 0, 1) := dk_42 (dk_at dksX12_takes_0 7 rfl rfl)
theorem dX12_takes_8 : decode cX12_takes 8 = .ok (.invokevirtual 42, 3) := dk_182 0 42 (dk_at dksX12_takes_0 8 rfl rfl)
theorem dX12_takes_11 : decode cX12_takes 11 = .ok (.iload_n 1, 1) := dk_27 (dk_at dksX12_takes_0 11 rfl rfl)
theorem dX12_takes_12 : decode cX12_takes 12 = .ok (.if_icmp .eq 5, 3) := dk_159 0 5 (dk_at dksX12_takes_0 12 rfl rfl)
theorem dX12_takes_15 : decode cX12_takes 15 = .ok (.iconst 0, 1) := dk_3 (dk_at dksX12_takes_0 15 rfl rfl)
theorem dX12_takes_16 : decode cX12_takes 16 = .ok (.ireturn, 1) := dk_172 (dk_at dksX12_takes_0 16 rfl rfl)
theorem dX12_takes_17 : decode cX12_takes 17 = .ok (.aload_n 0, 1) := dk_42 (dk_at dksX12_takes_0 17 rfl rfl)
theorem dX12_takes_18 : decode cX12_takes 18 = .ok (.dup, 1) := dk_89 (dk_at dksX12_takes_0 18 rfl rfl)
theorem dX12_takes_19 : decode cX12_takes 19 = .ok (.getfield 24, 3) := dk_180 0 24 (dk_at dksX12_takes_0 19 rfl rfl)
theorem dX12_takes_22 : decode cX12_takes 22 = .ok (.iconst 1, 1) := dk_4 (dk_at dksX12_takes_0 22 rfl rfl)
theorem dX12_takes_23 : decode cX12_takes 23 = .ok (.iadd, 1) := dk_96 (dk_at dksX12_takes_0 23 rfl rfl)
theorem dX12_takes_24 : decode cX12_takes 24 = .ok (.putfield 24, 3) := dk_181 0 24 (dk_at dksX12_takes_1 0 rfl rfl)
theorem dX12_takes_27 : decode cX12_takes 27 = .ok (.iconst 1, 1) := dk_4 (dk_at dksX12_takes_1 3 rfl rfl)
theorem dX12_takes_28 : decode cX12_takes 28 = .ok (.ireturn, 1) := dk_172 (dk_at dksX12_takes_1 4 rfl rfl)
abbrev cX12_here : ByteArray := prog_5_method_2_code
def yX12_here : MethodName := ⟨RX12, "here", "()C"⟩
def dkwX12_here_1 : List UInt8 := [185, 0, 34, 2, 0, 167, 0, 4, 3, 172]
abbrev dktX12_here_1 : List UInt8 := dkwX12_here_1 ++ []
def dkwX12_here_0 : List UInt8 := [42, 180, 0, 24, 42, 180, 0, 20, 185, 0, 28, 1, 0, 162, 0, 19, 42, 180, 0, 20, 42, 180, 0, 24]
abbrev dktX12_here_0 : List UInt8 := dkwX12_here_0 ++ dktX12_here_1
theorem dksX12_here_0 : cX12_here.data.toList.drop 0 = dktX12_here_0 := by decide +kernel
theorem dksX12_here_1 : cX12_here.data.toList.drop 24 = dktX12_here_1 := dk_seg dksX12_here_0 24 rfl rfl
theorem dX12_here_0 : decode cX12_here 0 = .ok (.aload_n 0, 1) := dk_42 (dk_at dksX12_here_0 0 rfl rfl)
theorem dX12_here_1 : decode cX12_here 1 = .ok (.getfield 24, 3) := dk_180 0 24 (dk_at dksX12_here_0 1 rfl rfl)
theorem dX12_here_4 : decode cX12_here 4 = .ok (.aload_n 0, 1) := dk_42 (dk_at dksX12_here_0 4 rfl rfl)
theorem dX12_here_5 : decode cX12_here 5 = .ok (.getfield 20, 3) := dk_180 0 20 (dk_at dksX12_here_0 5 rfl rfl)
theorem dX12_here_8 : decode cX12_here 8 = .ok (.invokeinterface 28 1, 5) := by decide +kernel
theorem dX12_here_13 : decode cX12_here 13 = .ok (.if_icmp .ge 19, 3) := dk_162 0 19 (dk_at dksX12_here_0 13 rfl rfl)
theorem dX12_here_16 : decode cX12_here 16 = .ok (.aload_n 0, 1) := dk_42 (dk_at dksX12_here_0 16 rfl rfl)
theorem dX12_here_17 : decode cX12_here 17 = .ok (.getfield 20, 3) := dk_180 0 20 (dk_at dksX12_here_0 17 rfl rfl)
theorem dX12_here_20 : decode cX12_here 20 = .ok (.aload_n 0, 1) := dk_42 (dk_at dksX12_here_0 20 rfl rfl)
theorem dX12_here_21 : decode cX12_here 21 = .ok (.getfield 24, 3) := dk_180 0 24 (dk_at dksX12_here_0 21 rfl rfl)
theorem dX12_here_24 : decode cX12_here 24 = .ok (.invokeinterface 34 2, 5) := by decide +kernel
theorem dX12_here_29 : decode cX12_here 29 = .ok (.goto 4, 3) := dk_167 0 4 (dk_at dksX12_here_1 5 rfl rfl)
theorem dX12_here_32 : decode cX12_here 32 = .ok (.iconst 0, 1) := dk_3 (dk_at dksX12_here_1 8 rfl rfl)
theorem dX12_here_33 : decode cX12_here 33 = .ok (.ireturn, 1) := dk_172 (dk_at dksX12_here_1 9 rfl rfl)
abbrev cX12_coming : ByteArray := prog_5_method_8_code
def yX12_coming : MethodName := ⟨RX12, "coming", "()LTokenRing$Order;"⟩
def dkwX12_coming_0 : List UInt8 := [42, 182, 0, 57, 60, 187, 0, 60, 89, 42, 27, 183, 0, 62, 176]
abbrev dktX12_coming_0 : List UInt8 := dkwX12_coming_0 ++ []
theorem dksX12_coming_0 : cX12_coming.data.toList.drop 0 = dktX12_coming_0 := by decide +kernel
theorem dX12_coming_0 : decode cX12_coming 0 = .ok (.aload_n 0, 1) := dk_42 (dk_at dksX12_coming_0 0 rfl rfl)
theorem dX12_coming_1 : decode cX12_coming 1 = .ok (.invokevirtual 57, 3) := dk_182 0 57 (dk_at dksX12_coming_0 1 rfl rfl)
theorem dX12_coming_4 : decode cX12_coming 4 = .ok (.istore_n 1, 1) := dk_60 (dk_at dksX12_coming_0 4 rfl rfl)
theorem dX12_coming_5 : decode cX12_coming 5 = .ok (.new 60, 3) := dk_187 0 60 (dk_at dksX12_coming_0 5 rfl rfl)
theorem dX12_coming_8 : decode cX12_coming 8 = .ok (.dup, 1) := dk_89 (dk_at dksX12_coming_0 8 rfl rfl)
theorem dX12_coming_9 : decode cX12_coming 9 = .ok (.aload_n 0, 1) := dk_42 (dk_at dksX12_coming_0 9 rfl rfl)
theorem dX12_coming_10 : decode cX12_coming 10 = .ok (.iload_n 1, 1) := dk_27 (dk_at dksX12_coming_0 10 rfl rfl)
theorem dX12_coming_11 : decode cX12_coming 11 = .ok (.invokespecial 62, 3) := dk_183 0 62 (dk_at dksX12_coming_0 11 rfl rfl)
theorem dX12_coming_14 : decode cX12_coming 14 = .ok (.areturn, 1) := dk_176 (dk_at dksX12_coming_0 14 rfl rfl)
abbrev cX12_number : ByteArray := prog_5_method_7_code
def yX12_number : MethodName := ⟨RX12, "number", "()I"⟩
def dkwX12_number_1 : List UInt8 := [27, 172]
abbrev dktX12_number_1 : List UInt8 := dkwX12_number_1 ++ []
def dkwX12_number_0 : List UInt8 := [42, 182, 0, 54, 60, 42, 182, 0, 50, 153, 0, 15, 16, 10, 27, 104, 42, 182, 0, 54, 96, 167, 0, 4]
abbrev dktX12_number_0 : List UInt8 := dkwX12_number_0 ++ dktX12_number_1
theorem dksX12_number_0 : cX12_number.data.toList.drop 0 = dktX12_number_0 := by decide +kernel
theorem dksX12_number_1 : cX12_number.data.toList.drop 24 = dktX12_number_1 := dk_seg dksX12_number_0 24 rfl rfl
theorem dX12_number_0 : decode cX12_number 0 = .ok (.aload_n 0, 1) := dk_42 (dk_at dksX12_number_0 0 rfl rfl)
theorem dX12_number_1 : decode cX12_number 1 = .ok (.invokevirtual 54, 3) := dk_182 0 54 (dk_at dksX12_number_0 1 rfl rfl)
theorem dX12_number_4 : decode cX12_number 4 = .ok (.istore_n 1, 1) := dk_60 (dk_at dksX12_number_0 4 rfl rfl)
theorem dX12_number_5 : decode cX12_number 5 = .ok (.aload_n 0, 1) := dk_42 (dk_at dksX12_number_0 5 rfl rfl)
theorem dX12_number_6 : decode cX12_number 6 = .ok (.invokevirtual 50, 3) := dk_182 0 50 (dk_at dksX12_number_0 6 rfl rfl)
theorem dX12_number_9 : decode cX12_number 9 = .ok (.ifCond .eq 15, 3) := dk_153 0 15 (dk_at dksX12_number_0 9 rfl rfl)
theorem dX12_number_12 : decode cX12_number 12 = .ok (.bipush 10, 2) := dk_16 10 (dk_at dksX12_number_0 12 rfl rfl)
theorem dX12_number_14 : decode cX12_number 14 = .ok (.iload_n 1, 1) := dk_27 (dk_at dksX12_number_0 14 rfl rfl)
theorem dX12_number_15 : decode cX12_number 15 = .ok (.imul, 1) := dk_104 (dk_at dksX12_number_0 15 rfl rfl)
theorem dX12_number_16 : decode cX12_number 16 = .ok (.aload_n 0, 1) := dk_42 (dk_at dksX12_number_0 16 rfl rfl)
theorem dX12_number_17 : decode cX12_number 17 = .ok (.invokevirtual 54, 3) := dk_182 0 54 (dk_at dksX12_number_0 17 rfl rfl)
theorem dX12_number_20 : decode cX12_number 20 = .ok (.iadd, 1) := dk_96 (dk_at dksX12_number_0 20 rfl rfl)
theorem dX12_number_21 : decode cX12_number 21 = .ok (.goto 4, 3) := dk_167 0 4 (dk_at dksX12_number_0 21 rfl rfl)
theorem dX12_number_24 : decode cX12_number 24 = .ok (.iload_n 1, 1) := dk_27 (dk_at dksX12_number_1 0 rfl rfl)
theorem dX12_number_25 : decode cX12_number 25 = .ok (.ireturn, 1) := dk_172 (dk_at dksX12_number_1 1 rfl rfl)
abbrev cX12_digit : ByteArray := prog_5_method_6_code
def yX12_digit : MethodName := ⟨RX12, "digit", "()I"⟩
def dkwX12_digit_2 : List UInt8 := [180, 0, 24, 4, 100, 185, 0, 34, 2, 0, 16, 48, 100, 172]
abbrev dktX12_digit_2 : List UInt8 := dkwX12_digit_2 ++ []
def dkwX12_digit_1 : List UInt8 := [180, 0, 38, 153, 0, 5, 3, 172, 42, 89, 180, 0, 24, 4, 96, 181, 0, 24, 42, 180, 0, 20, 42]
abbrev dktX12_digit_1 : List UInt8 := dkwX12_digit_1 ++ dktX12_digit_2
def dkwX12_digit_0 : List UInt8 := [42, 89, 180, 0, 38, 42, 182, 0, 50, 154, 0, 7, 4, 167, 0, 4, 3, 128, 181, 0, 38, 42]
abbrev dktX12_digit_0 : List UInt8 := dkwX12_digit_0 ++ dktX12_digit_1
theorem dksX12_digit_0 : cX12_digit.data.toList.drop 0 = dktX12_digit_0 := by decide +kernel
theorem dksX12_digit_1 : cX12_digit.data.toList.drop 22 = dktX12_digit_1 := dk_seg dksX12_digit_0 22 rfl rfl
theorem dksX12_digit_2 : cX12_digit.data.toList.drop 45 = dktX12_digit_2 := dk_seg dksX12_digit_1 23 rfl rfl
theorem dX12_digit_0 : decode cX12_digit 0 = .ok (.aload_n 0, 1) := dk_42 (dk_at dksX12_digit_0 0 rfl rfl)
theorem dX12_digit_1 : decode cX12_digit 1 = .ok (.dup, 1) := dk_89 (dk_at dksX12_digit_0 1 rfl rfl)
theorem dX12_digit_2 : decode cX12_digit 2 = .ok (.getfield 38, 3) := dk_180 0 38 (dk_at dksX12_digit_0 2 rfl rfl)
theorem dX12_digit_5 : decode cX12_digit 5 = .ok (.aload_n 0, 1) := dk_42 (dk_at dksX12_digit_0 5 rfl rfl)
theorem dX12_digit_6 : decode cX12_digit 6 = .ok (.invokevirtual 50, 3) := dk_182 0 50 (dk_at dksX12_digit_0 6 rfl rfl)
theorem dX12_digit_9 : decode cX12_digit 9 = .ok (.ifCond .ne 7, 3) := dk_154 0 7 (dk_at dksX12_digit_0 9 rfl rfl)
theorem dX12_digit_12 : decode cX12_digit 12 = .ok (.iconst 1, 1) := dk_4 (dk_at dksX12_digit_0 12 rfl rfl)
theorem dX12_digit_13 : decode cX12_digit 13 = .ok (.goto 4, 3) := dk_167 0 4 (dk_at dksX12_digit_0 13 rfl rfl)
theorem dX12_digit_16 : decode cX12_digit 16 = .ok (.iconst 0, 1) := dk_3 (dk_at dksX12_digit_0 16 rfl rfl)
theorem dX12_digit_17 : decode cX12_digit 17 = .ok (.ior, 1) := dk_128 (dk_at dksX12_digit_0 17 rfl rfl)
theorem dX12_digit_18 : decode cX12_digit 18 = .ok (.putfield 38, 3) := dk_181 0 38 (dk_at dksX12_digit_0 18 rfl rfl)
theorem dX12_digit_21 : decode cX12_digit 21 = .ok (.aload_n 0, 1) := dk_42 (dk_at dksX12_digit_0 21 rfl rfl)
theorem dX12_digit_22 : decode cX12_digit 22 = .ok (.getfield 38, 3) := dk_180 0 38 (dk_at dksX12_digit_1 0 rfl rfl)
theorem dX12_digit_25 : decode cX12_digit 25 = .ok (.ifCond .eq 5, 3) := dk_153 0 5 (dk_at dksX12_digit_1 3 rfl rfl)
theorem dX12_digit_28 : decode cX12_digit 28 = .ok (.iconst 0, 1) := dk_3 (dk_at dksX12_digit_1 6 rfl rfl)
theorem dX12_digit_29 : decode cX12_digit 29 = .ok (.ireturn, 1) := dk_172 (dk_at dksX12_digit_1 7 rfl rfl)
theorem dX12_digit_30 : decode cX12_digit 30 = .ok (.aload_n 0, 1) := dk_42 (dk_at dksX12_digit_1 8 rfl rfl)
theorem dX12_digit_31 : decode cX12_digit 31 = .ok (.dup, 1) := dk_89 (dk_at dksX12_digit_1 9 rfl rfl)
theorem dX12_digit_32 : decode cX12_digit 32 = .ok (.getfield 24, 3) := dk_180 0 24 (dk_at dksX12_digit_1 10 rfl rfl)
theorem dX12_digit_35 : decode cX12_digit 35 = .ok (.iconst 1, 1) := dk_4 (dk_at dksX12_digit_1 13 rfl rfl)
theorem dX12_digit_36 : decode cX12_digit 36 = .ok (.iadd, 1) := dk_96 (dk_at dksX12_digit_1 14 rfl rfl)
theorem dX12_digit_37 : decode cX12_digit 37 = .ok (.putfield 24, 3) := dk_181 0 24 (dk_at dksX12_digit_1 15 rfl rfl)
theorem dX12_digit_40 : decode cX12_digit 40 = .ok (.aload_n 0, 1) := dk_42 (dk_at dksX12_digit_1 18 rfl rfl)
theorem dX12_digit_41 : decode cX12_digit 41 = .ok (.getfield 20, 3) := dk_180 0 20 (dk_at dksX12_digit_1 19 rfl rfl)
theorem dX12_digit_44 : decode cX12_digit 44 = .ok (.aload_n 0, 1) := dk_42 (dk_at dksX12_digit_1 22 rfl rfl)
theorem dX12_digit_45 : decode cX12_digit 45 = .ok (.getfield 24, 3) := dk_180 0 24 (dk_at dksX12_digit_2 0 rfl rfl)
theorem dX12_digit_48 : decode cX12_digit 48 = .ok (.iconst 1, 1) := dk_4 (dk_at dksX12_digit_2 3 rfl rfl)
theorem dX12_digit_49 : decode cX12_digit 49 = .ok (.isub, 1) := dk_100 (dk_at dksX12_digit_2 4 rfl rfl)
theorem dX12_digit_50 : decode cX12_digit 50 = .ok (.invokeinterface 34 2, 5) := by decide +kernel
theorem dX12_digit_55 : decode cX12_digit 55 = .ok (.bipush 48, 2) := dk_16 48 (dk_at dksX12_digit_2 10 rfl rfl)
theorem dX12_digit_57 : decode cX12_digit 57 = .ok (.isub, 1) := dk_100 (dk_at dksX12_digit_2 12 rfl rfl)
theorem dX12_digit_58 : decode cX12_digit 58 = .ok (.ireturn, 1) := dk_172 (dk_at dksX12_digit_2 13 rfl rfl)
abbrev cX12_isDigit : ByteArray := prog_5_method_5_code
def yX12_isDigit : MethodName := ⟨RX12, "isDigit", "()Z"⟩
def dkwX12_isDigit_1 : List UInt8 := [163, 0, 7, 4, 167, 0, 4, 3, 172]
abbrev dktX12_isDigit_1 : List UInt8 := dkwX12_isDigit_1 ++ []
def dkwX12_isDigit_0 : List UInt8 := [42, 180, 0, 38, 154, 0, 25, 42, 182, 0, 42, 16, 48, 161, 0, 16, 42, 182, 0, 42, 16, 57]
abbrev dktX12_isDigit_0 : List UInt8 := dkwX12_isDigit_0 ++ dktX12_isDigit_1
theorem dksX12_isDigit_0 : cX12_isDigit.data.toList.drop 0 = dktX12_isDigit_0 := by decide +kernel
theorem dksX12_isDigit_1 : cX12_isDigit.data.toList.drop 22 = dktX12_isDigit_1 := dk_seg dksX12_isDigit_0 22 rfl rfl
theorem dX12_isDigit_0 : decode cX12_isDigit 0 = .ok (.aload_n 0, 1) := dk_42 (dk_at dksX12_isDigit_0 0 rfl rfl)
theorem dX12_isDigit_1 : decode cX12_isDigit 1 = .ok (.getfield 38, 3) := dk_180 0 38 (dk_at dksX12_isDigit_0 1 rfl rfl)
theorem dX12_isDigit_4 : decode cX12_isDigit 4 = .ok (.ifCond .ne 25, 3) := dk_154 0 25 (dk_at dksX12_isDigit_0 4 rfl rfl)
theorem dX12_isDigit_7 : decode cX12_isDigit 7 = .ok (.aload_n 0, 1) := dk_42 (dk_at dksX12_isDigit_0 7 rfl rfl)
theorem dX12_isDigit_8 : decode cX12_isDigit 8 = .ok (.invokevirtual 42, 3) := dk_182 0 42 (dk_at dksX12_isDigit_0 8 rfl rfl)
theorem dX12_isDigit_11 : decode cX12_isDigit 11 = .ok (.bipush 48, 2) := dk_16 48 (dk_at dksX12_isDigit_0 11 rfl rfl)
theorem dX12_isDigit_13 : decode cX12_isDigit 13 = .ok (.if_icmp .lt 16, 3) := dk_161 0 16 (dk_at dksX12_isDigit_0 13 rfl rfl)
theorem dX12_isDigit_16 : decode cX12_isDigit 16 = .ok (.aload_n 0, 1) := dk_42 (dk_at dksX12_isDigit_0 16 rfl rfl)
theorem dX12_isDigit_17 : decode cX12_isDigit 17 = .ok (.invokevirtual 42, 3) := dk_182 0 42 (dk_at dksX12_isDigit_0 17 rfl rfl)
theorem dX12_isDigit_20 : decode cX12_isDigit 20 = .ok (.bipush 57, 2) := dk_16 57 (dk_at dksX12_isDigit_0 20 rfl rfl)
theorem dX12_isDigit_22 : decode cX12_isDigit 22 = .ok (.if_icmp .gt 7, 3) := dk_163 0 7 (dk_at dksX12_isDigit_1 0 rfl rfl)
theorem dX12_isDigit_25 : decode cX12_isDigit 25 = .ok (.iconst 1, 1) := dk_4 (dk_at dksX12_isDigit_1 3 rfl rfl)
theorem dX12_isDigit_26 : decode cX12_isDigit 26 = .ok (.goto 4, 3) := dk_167 0 4 (dk_at dksX12_isDigit_1 4 rfl rfl)
theorem dX12_isDigit_29 : decode cX12_isDigit 29 = .ok (.iconst 0, 1) := dk_3 (dk_at dksX12_isDigit_1 7 rfl rfl)
theorem dX12_isDigit_30 : decode cX12_isDigit 30 = .ok (.ireturn, 1) := dk_172 (dk_at dksX12_isDigit_1 8 rfl rfl)
abbrev cX12_going : ByteArray := prog_5_method_9_code
def yX12_going : MethodName := ⟨RX12, "going", "()LTokenRing$Order;"⟩
def dkwX12_going_0 : List UInt8 := [42, 182, 0, 57, 60, 187, 0, 65, 89, 42, 27, 183, 0, 67, 176]
abbrev dktX12_going_0 : List UInt8 := dkwX12_going_0 ++ []
theorem dksX12_going_0 : cX12_going.data.toList.drop 0 = dktX12_going_0 := by decide +kernel
theorem dX12_going_0 : decode cX12_going 0 = .ok (.aload_n 0, 1) := dk_42 (dk_at dksX12_going_0 0 rfl rfl)
theorem dX12_going_1 : decode cX12_going 1 = .ok (.invokevirtual 57, 3) := dk_182 0 57 (dk_at dksX12_going_0 1 rfl rfl)
theorem dX12_going_4 : decode cX12_going 4 = .ok (.istore_n 1, 1) := dk_60 (dk_at dksX12_going_0 4 rfl rfl)
theorem dX12_going_5 : decode cX12_going 5 = .ok (.new 65, 3) := dk_187 0 65 (dk_at dksX12_going_0 5 rfl rfl)
theorem dX12_going_8 : decode cX12_going 8 = .ok (.dup, 1) := dk_89 (dk_at dksX12_going_0 8 rfl rfl)
theorem dX12_going_9 : decode cX12_going 9 = .ok (.aload_n 0, 1) := dk_42 (dk_at dksX12_going_0 9 rfl rfl)
theorem dX12_going_10 : decode cX12_going 10 = .ok (.iload_n 1, 1) := dk_27 (dk_at dksX12_going_0 10 rfl rfl)
theorem dX12_going_11 : decode cX12_going 11 = .ok (.invokespecial 67, 3) := dk_183 0 67 (dk_at dksX12_going_0 11 rfl rfl)
theorem dX12_going_14 : decode cX12_going 14 = .ok (.areturn, 1) := dk_176 (dk_at dksX12_going_0 14 rfl rfl)
abbrev cX12_queueing : ByteArray := prog_5_method_10_code
def yX12_queueing : MethodName := ⟨RX12, "queueing", "()LTokenRing$Order;"⟩
def dkwX12_queueing_1 : List UInt8 := [182, 0, 54, 62, 187, 0, 72, 89, 42, 27, 28, 29, 183, 0, 74, 176]
abbrev dktX12_queueing_1 : List UInt8 := dkwX12_queueing_1 ++ []
def dkwX12_queueing_0 : List UInt8 := [42, 182, 0, 57, 60, 42, 16, 62, 182, 0, 68, 42, 182, 0, 57, 61, 42, 16, 42, 182, 0, 68, 42]
abbrev dktX12_queueing_0 : List UInt8 := dkwX12_queueing_0 ++ dktX12_queueing_1
theorem dksX12_queueing_0 : cX12_queueing.data.toList.drop 0 = dktX12_queueing_0 := by decide +kernel
theorem dksX12_queueing_1 : cX12_queueing.data.toList.drop 23 = dktX12_queueing_1 := dk_seg dksX12_queueing_0 23 rfl rfl
theorem dX12_queueing_0 : decode cX12_queueing 0 = .ok (.aload_n 0, 1) := dk_42 (dk_at dksX12_queueing_0 0 rfl rfl)
theorem dX12_queueing_1 : decode cX12_queueing 1 = .ok (.invokevirtual 57, 3) := dk_182 0 57 (dk_at dksX12_queueing_0 1 rfl rfl)
theorem dX12_queueing_4 : decode cX12_queueing 4 = .ok (.istore_n 1, 1) := dk_60 (dk_at dksX12_queueing_0 4 rfl rfl)
theorem dX12_queueing_5 : decode cX12_queueing 5 = .ok (.aload_n 0, 1) := dk_42 (dk_at dksX12_queueing_0 5 rfl rfl)
theorem dX12_queueing_6 : decode cX12_queueing 6 = .ok (.bipush 62, 2) := dk_16 62 (dk_at dksX12_queueing_0 6 rfl rfl)
theorem dX12_queueing_8 : decode cX12_queueing 8 = .ok (.invokevirtual 68, 3) := dk_182 0 68 (dk_at dksX12_queueing_0 8 rfl rfl)
theorem dX12_queueing_11 : decode cX12_queueing 11 = .ok (.aload_n 0, 1) := dk_42 (dk_at dksX12_queueing_0 11 rfl rfl)
theorem dX12_queueing_12 : decode cX12_queueing 12 = .ok (.invokevirtual 57, 3) := dk_182 0 57 (dk_at dksX12_queueing_0 12 rfl rfl)
theorem dX12_queueing_15 : decode cX12_queueing 15 = .ok (.istore_n 2, 1) := dk_61 (dk_at dksX12_queueing_0 15 rfl rfl)
theorem dX12_queueing_16 : decode cX12_queueing 16 = .ok (.aload_n 0, 1) := dk_42 (dk_at dksX12_queueing_0 16 rfl rfl)
theorem dX12_queueing_17 : decode cX12_queueing 17 = .ok (.bipush 42, 2) := dk_16 42 (dk_at dksX12_queueing_0 17 rfl rfl)
theorem dX12_queueing_19 : decode cX12_queueing 19 = .ok (.invokevirtual 68, 3) := dk_182 0 68 (dk_at dksX12_queueing_0 19 rfl rfl)
theorem dX12_queueing_22 : decode cX12_queueing 22 = .ok (.aload_n 0, 1) := dk_42 (dk_at dksX12_queueing_0 22 rfl rfl)
theorem dX12_queueing_23 : decode cX12_queueing 23 = .ok (.invokevirtual 54, 3) := dk_182 0 54 (dk_at dksX12_queueing_1 0 rfl rfl)
theorem dX12_queueing_26 : decode cX12_queueing 26 = .ok (.istore_n 3, 1) := dk_62 (dk_at dksX12_queueing_1 3 rfl rfl)
theorem dX12_queueing_27 : decode cX12_queueing 27 = .ok (.new 72, 3) := dk_187 0 72 (dk_at dksX12_queueing_1 4 rfl rfl)
theorem dX12_queueing_30 : decode cX12_queueing 30 = .ok (.dup, 1) := dk_89 (dk_at dksX12_queueing_1 7 rfl rfl)
theorem dX12_queueing_31 : decode cX12_queueing 31 = .ok (.aload_n 0, 1) := dk_42 (dk_at dksX12_queueing_1 8 rfl rfl)
theorem dX12_queueing_32 : decode cX12_queueing 32 = .ok (.iload_n 1, 1) := dk_27 (dk_at dksX12_queueing_1 9 rfl rfl)
theorem dX12_queueing_33 : decode cX12_queueing 33 = .ok (.iload_n 2, 1) := dk_28 (dk_at dksX12_queueing_1 10 rfl rfl)
theorem dX12_queueing_34 : decode cX12_queueing 34 = .ok (.iload_n 3, 1) := dk_29 (dk_at dksX12_queueing_1 11 rfl rfl)
theorem dX12_queueing_35 : decode cX12_queueing 35 = .ok (.invokespecial 74, 3) := dk_183 0 74 (dk_at dksX12_queueing_1 12 rfl rfl)
theorem dX12_queueing_38 : decode cX12_queueing 38 = .ok (.areturn, 1) := dk_176 (dk_at dksX12_queueing_1 15 rfl rfl)
abbrev cX12_wants : ByteArray := prog_5_method_4_code
def yX12_wants : MethodName := ⟨RX12, "wants", "(C)V"⟩
def dkwX12_wants_0 : List UInt8 := [42, 89, 180, 0, 38, 42, 27, 182, 0, 46, 154, 0, 7, 4, 167, 0, 4, 3, 128, 181, 0, 38, 177]
abbrev dktX12_wants_0 : List UInt8 := dkwX12_wants_0 ++ []
theorem dksX12_wants_0 : cX12_wants.data.toList.drop 0 = dktX12_wants_0 := by decide +kernel
theorem dX12_wants_0 : decode cX12_wants 0 = .ok (.aload_n 0, 1) := dk_42 (dk_at dksX12_wants_0 0 rfl rfl)
theorem dX12_wants_1 : decode cX12_wants 1 = .ok (.dup, 1) := dk_89 (dk_at dksX12_wants_0 1 rfl rfl)
theorem dX12_wants_2 : decode cX12_wants 2 = .ok (.getfield 38, 3) := dk_180 0 38 (dk_at dksX12_wants_0 2 rfl rfl)
theorem dX12_wants_5 : decode cX12_wants 5 = .ok (.aload_n 0, 1) := dk_42 (dk_at dksX12_wants_0 5 rfl rfl)
theorem dX12_wants_6 : decode cX12_wants 6 = .ok (.iload_n 1, 1) := dk_27 (dk_at dksX12_wants_0 6 rfl rfl)
theorem dX12_wants_7 : decode cX12_wants 7 = .ok (.invokevirtual 46, 3) := dk_182 0 46 (dk_at dksX12_wants_0 7 rfl rfl)
theorem dX12_wants_10 : decode cX12_wants 10 = .ok (.ifCond .ne 7, 3) := dk_154 0 7 (dk_at dksX12_wants_0 10 rfl rfl)
theorem dX12_wants_13 : decode cX12_wants 13 = .ok (.iconst 1, 1) := dk_4 (dk_at dksX12_wants_0 13 rfl rfl)
theorem dX12_wants_14 : decode cX12_wants 14 = .ok (.goto 4, 3) := dk_167 0 4 (dk_at dksX12_wants_0 14 rfl rfl)
theorem dX12_wants_17 : decode cX12_wants 17 = .ok (.iconst 0, 1) := dk_3 (dk_at dksX12_wants_0 17 rfl rfl)
theorem dX12_wants_18 : decode cX12_wants 18 = .ok (.ior, 1) := dk_128 (dk_at dksX12_wants_0 18 rfl rfl)
theorem dX12_wants_19 : decode cX12_wants 19 = .ok (.putfield 38, 3) := dk_181 0 38 (dk_at dksX12_wants_0 19 rfl rfl)
theorem dX12_wants_22 : decode cX12_wants 22 = .ok (.return_, 1) := dk_177 (dk_at dksX12_wants_0 22 rfl rfl)
abbrev cX12_watching : ByteArray := prog_5_method_11_code
def yX12_watching : MethodName := ⟨RX12, "watching", "()LTokenRing$Order;"⟩
def dkwX12_watching_0 : List UInt8 := [42, 182, 0, 57, 60, 187, 0, 77, 89, 42, 27, 183, 0, 79, 176]
abbrev dktX12_watching_0 : List UInt8 := dkwX12_watching_0 ++ []
theorem dksX12_watching_0 : cX12_watching.data.toList.drop 0 = dktX12_watching_0 := by decide +kernel
theorem dX12_watching_0 : decode cX12_watching 0 = .ok (.aload_n 0, 1) := dk_42 (dk_at dksX12_watching_0 0 rfl rfl)
theorem dX12_watching_1 : decode cX12_watching 1 = .ok (.invokevirtual 57, 3) := dk_182 0 57 (dk_at dksX12_watching_0 1 rfl rfl)
theorem dX12_watching_4 : decode cX12_watching 4 = .ok (.istore_n 1, 1) := dk_60 (dk_at dksX12_watching_0 4 rfl rfl)
theorem dX12_watching_5 : decode cX12_watching 5 = .ok (.new 77, 3) := dk_187 0 77 (dk_at dksX12_watching_0 5 rfl rfl)
theorem dX12_watching_8 : decode cX12_watching 8 = .ok (.dup, 1) := dk_89 (dk_at dksX12_watching_0 8 rfl rfl)
theorem dX12_watching_9 : decode cX12_watching 9 = .ok (.aload_n 0, 1) := dk_42 (dk_at dksX12_watching_0 9 rfl rfl)
theorem dX12_watching_10 : decode cX12_watching 10 = .ok (.iload_n 1, 1) := dk_27 (dk_at dksX12_watching_0 10 rfl rfl)
theorem dX12_watching_11 : decode cX12_watching 11 = .ok (.invokespecial 79, 3) := dk_183 0 79 (dk_at dksX12_watching_0 11 rfl rfl)
theorem dX12_watching_14 : decode cX12_watching 14 = .ok (.areturn, 1) := dk_176 (dk_at dksX12_watching_0 14 rfl rfl)
abbrev cX12_ticking : ByteArray := prog_5_method_12_code
def yX12_ticking : MethodName := ⟨RX12, "ticking", "()LTokenRing$Order;"⟩
def dkwX12_ticking_1 : List UInt8 := [183, 0, 82, 176]
abbrev dktX12_ticking_1 : List UInt8 := dkwX12_ticking_1 ++ []
def dkwX12_ticking_0 : List UInt8 := [42, 182, 0, 50, 153, 0, 10, 42, 182, 0, 57, 167, 0, 4, 4, 60, 187, 0, 80, 89, 42, 27]
abbrev dktX12_ticking_0 : List UInt8 := dkwX12_ticking_0 ++ dktX12_ticking_1
theorem dksX12_ticking_0 : cX12_ticking.data.toList.drop 0 = dktX12_ticking_0 := by decide +kernel
theorem dksX12_ticking_1 : cX12_ticking.data.toList.drop 22 = dktX12_ticking_1 := dk_seg dksX12_ticking_0 22 rfl rfl
theorem dX12_ticking_0 : decode cX12_ticking 0 = .ok (.aload_n 0, 1) := dk_42 (dk_at dksX12_ticking_0 0 rfl rfl)
theorem dX12_ticking_1 : decode cX12_ticking 1 = .ok (.invokevirtual 50, 3) := dk_182 0 50 (dk_at dksX12_ticking_0 1 rfl rfl)
theorem dX12_ticking_4 : decode cX12_ticking 4 = .ok (.ifCond .eq 10, 3) := dk_153 0 10 (dk_at dksX12_ticking_0 4 rfl rfl)
theorem dX12_ticking_7 : decode cX12_ticking 7 = .ok (.aload_n 0, 1) := dk_42 (dk_at dksX12_ticking_0 7 rfl rfl)
theorem dX12_ticking_8 : decode cX12_ticking 8 = .ok (.invokevirtual 57, 3) := dk_182 0 57 (dk_at dksX12_ticking_0 8 rfl rfl)
theorem dX12_ticking_11 : decode cX12_ticking 11 = .ok (.goto 4, 3) := dk_167 0 4 (dk_at dksX12_ticking_0 11 rfl rfl)
theorem dX12_ticking_14 : decode cX12_ticking 14 = .ok (.iconst 1, 1) := dk_4 (dk_at dksX12_ticking_0 14 rfl rfl)
theorem dX12_ticking_15 : decode cX12_ticking 15 = .ok (.istore_n 1, 1) := dk_60 (dk_at dksX12_ticking_0 15 rfl rfl)
theorem dX12_ticking_16 : decode cX12_ticking 16 = .ok (.new 80, 3) := dk_187 0 80 (dk_at dksX12_ticking_0 16 rfl rfl)
theorem dX12_ticking_19 : decode cX12_ticking 19 = .ok (.dup, 1) := dk_89 (dk_at dksX12_ticking_0 19 rfl rfl)
theorem dX12_ticking_20 : decode cX12_ticking 20 = .ok (.aload_n 0, 1) := dk_42 (dk_at dksX12_ticking_0 20 rfl rfl)
theorem dX12_ticking_21 : decode cX12_ticking 21 = .ok (.iload_n 1, 1) := dk_27 (dk_at dksX12_ticking_0 21 rfl rfl)
theorem dX12_ticking_22 : decode cX12_ticking 22 = .ok (.invokespecial 82, 3) := dk_183 0 82 (dk_at dksX12_ticking_1 0 rfl rfl)
theorem dX12_ticking_25 : decode cX12_ticking 25 = .ok (.areturn, 1) := dk_176 (dk_at dksX12_ticking_1 3 rfl rfl)
abbrev cX12_losing : ByteArray := prog_5_method_13_code
def yX12_losing : MethodName := ⟨RX12, "losing", "()LTokenRing$Order;"⟩
def dkwX12_losing_0 : List UInt8 := [42, 16, 120, 182, 0, 68, 187, 0, 83, 89, 42, 183, 0, 85, 176]
abbrev dktX12_losing_0 : List UInt8 := dkwX12_losing_0 ++ []
theorem dksX12_losing_0 : cX12_losing.data.toList.drop 0 = dktX12_losing_0 := by decide +kernel
theorem dX12_losing_0 : decode cX12_losing 0 = .ok (.aload_n 0, 1) := dk_42 (dk_at dksX12_losing_0 0 rfl rfl)
theorem dX12_losing_1 : decode cX12_losing 1 = .ok (.bipush 120, 2) := dk_16 120 (dk_at dksX12_losing_0 1 rfl rfl)
theorem dX12_losing_3 : decode cX12_losing 3 = .ok (.invokevirtual 68, 3) := dk_182 0 68 (dk_at dksX12_losing_0 3 rfl rfl)
theorem dX12_losing_6 : decode cX12_losing 6 = .ok (.new 83, 3) := dk_187 0 83 (dk_at dksX12_losing_0 6 rfl rfl)
theorem dX12_losing_9 : decode cX12_losing 9 = .ok (.dup, 1) := dk_89 (dk_at dksX12_losing_0 9 rfl rfl)
theorem dX12_losing_10 : decode cX12_losing 10 = .ok (.aload_n 0, 1) := dk_42 (dk_at dksX12_losing_0 10 rfl rfl)
theorem dX12_losing_11 : decode cX12_losing 11 = .ok (.invokespecial 85, 3) := dk_183 0 85 (dk_at dksX12_losing_0 11 rfl rfl)
theorem dX12_losing_14 : decode cX12_losing 14 = .ok (.areturn, 1) := dk_176 (dk_at dksX12_losing_0 14 rfl rfl)
theorem q153 : (Jvm.Cond.initialized "TokenRing$Reader") ∈ lw_all := lw_g (lw_at lw_m1 59 rfl) rfl
theorem q1603 : (Jvm.Cond.selects "TokenRing$Reader" ({ cls := "java/lang/Object", name := "getClass", desc := "()Ljava/lang/Class;" } : Jvm.MethodName) ({ cls := "java/lang/Object", name := "getClass", desc := "()Ljava/lang/Class;" } : Jvm.MethodName)) ∈ lw_all := lw_g (lw_at lw_m7 69 rfl) rfl
theorem q2463 : (Jvm.Cond.instantiable "TokenRing$Reader" (5 : Nat)) ∈ lw_all := lw_g (lw_at lw_m10 209 rfl) rfl
theorem q2466 : (Jvm.Cond.instanceMethod ({ cls := "TokenRing$Reader", name := "<init>", desc := "(LTokenRing;Ljava/lang/CharSequence;)V" } : Jvm.MethodName)) ∈ lw_all := lw_g (lw_at lw_m10 212 rfl) rfl
theorem q2467 : (Jvm.Cond.code ({ cls := "TokenRing$Reader", name := "<init>", desc := "(LTokenRing;Ljava/lang/CharSequence;)V" } : Jvm.MethodName) prog_5_method_1_code (3 : Nat) (Option.none : Option Jvm.ClassFile.FieldType)) ∈ lw_all := lw_g (lw_at lw_m10 213 rfl) rfl
theorem q2468 : (Jvm.Cond.methodLink "TokenRing$Reader" (7 : Nat) ({ cls := "java/lang/Object", name := "<init>", desc := "()V" } : Jvm.MethodName)) ∈ lw_all := lw_g (lw_at lw_m10 214 rfl) rfl
theorem q2469 : (Jvm.Cond.classLink "TokenRing$Reader" (13 : Nat) "java/util/ArrayList") ∈ lw_all := lw_g (lw_at lw_m10 215 rfl) rfl
theorem q2470 : (Jvm.Cond.methodLink "TokenRing$Reader" (15 : Nat) ({ cls := "java/util/ArrayList", name := "<init>", desc := "()V" } : Jvm.MethodName)) ∈ lw_all := lw_g (lw_at lw_m10 216 rfl) rfl
theorem q2471 : (Jvm.Cond.fieldLink "TokenRing$Reader" (20 : Nat) "TokenRing$Reader" "text" "Ljava/lang/CharSequence;") ∈ lw_all := lw_g (lw_at lw_m10 217 rfl) rfl
theorem q2472 : (Jvm.Cond.fieldLink "TokenRing$Reader" (16 : Nat) "TokenRing$Reader" "orders" "Ljava/util/ArrayList;") ∈ lw_all := lw_g (lw_at lw_m10 218 rfl) rfl
theorem q2474 : (Jvm.Cond.fieldLink "TokenRing$Reader" (24 : Nat) "TokenRing$Reader" "at" "I") ∈ lw_all := lw_g (lw_at lw_m10 220 rfl) rfl
theorem q2476 : (Jvm.Cond.fieldLink "TokenRing$Reader" (38 : Nat) "TokenRing$Reader" "isFaulty" "Z") ∈ lw_all := lw_g (lw_at lw_m10 222 rfl) rfl
theorem q2478 : (Jvm.Cond.fieldLink "TokenRing$Reader" (1 : Nat) "TokenRing$Reader" "this$0" "LTokenRing;") ∈ lw_all := lw_g (lw_at lw_m10 224 rfl) rfl
theorem q2485 : (Jvm.Cond.laysFinal "TokenRing$Reader" "TokenRing$Reader" "text" "Ljava/lang/CharSequence;") ∈ lw_all := lw_g (lw_at lw_m10 231 rfl) rfl
theorem q2486 : (Jvm.Cond.soleField "TokenRing$Reader" "text") ∈ lw_all := lw_g (lw_at lw_m10 232 rfl) rfl
theorem q2487 : (Jvm.Cond.laysFinal "TokenRing$Reader" "TokenRing$Reader" "orders" "Ljava/util/ArrayList;") ∈ lw_all := lw_g (lw_at lw_m10 233 rfl) rfl
theorem q2488 : (Jvm.Cond.soleField "TokenRing$Reader" "orders") ∈ lw_all := lw_g (lw_at lw_m10 234 rfl) rfl
theorem q2489 : (Jvm.Cond.lays "TokenRing$Reader" "TokenRing$Reader" "at" "I") ∈ lw_all := lw_g (lw_at lw_m10 235 rfl) rfl
theorem q2490 : (Jvm.Cond.soleField "TokenRing$Reader" "at") ∈ lw_all := lw_g (lw_at lw_m10 236 rfl) rfl
theorem q2491 : (Jvm.Cond.lays "TokenRing$Reader" "TokenRing$Reader" "isFaulty" "Z") ∈ lw_all := lw_g (lw_at lw_m10 237 rfl) rfl
theorem q2492 : (Jvm.Cond.soleField "TokenRing$Reader" "isFaulty") ∈ lw_all := lw_g (lw_at lw_m10 238 rfl) rfl
theorem q2493 : (Jvm.Cond.laysFinal "TokenRing$Reader" "TokenRing$Reader" "this$0" "LTokenRing;") ∈ lw_all := lw_g (lw_at lw_m10 239 rfl) rfl
theorem q2494 : (Jvm.Cond.soleField "TokenRing$Reader" "this$0") ∈ lw_all := lw_g (lw_at lw_m11 0 rfl) rfl
theorem q2495 : (Jvm.Cond.superclass "TokenRing$Reader" "java/lang/Object") ∈ lw_all := lw_g (lw_at lw_m11 1 rfl) rfl
theorem q2497 : (Jvm.Cond.instanceMethod ({ cls := "TokenRing$Reader", name := "read", desc := "()V" } : Jvm.MethodName)) ∈ lw_all := lw_g (lw_at lw_m11 3 rfl) rfl
theorem q2498 : (Jvm.Cond.selects "TokenRing$Reader" ({ cls := "TokenRing$Reader", name := "read", desc := "()V" } : Jvm.MethodName) ({ cls := "TokenRing$Reader", name := "read", desc := "()V" } : Jvm.MethodName)) ∈ lw_all := lw_g (lw_at lw_m11 4 rfl) rfl
theorem q2499 : (Jvm.Cond.code ({ cls := "TokenRing$Reader", name := "read", desc := "()V" } : Jvm.MethodName) prog_5_method_15_code (1 : Nat) (Option.none : Option Jvm.ClassFile.FieldType)) ∈ lw_all := lw_g (lw_at lw_m11 5 rfl) rfl
theorem q2500 : (Jvm.Cond.methodLink "TokenRing$Reader" (107 : Nat) ({ cls := "TokenRing$Reader", name := "order", desc := "()LTokenRing$Order;" } : Jvm.MethodName)) ∈ lw_all := lw_g (lw_at lw_m11 6 rfl) rfl
theorem q2501 : (Jvm.Cond.privateMethod ({ cls := "TokenRing$Reader", name := "order", desc := "()LTokenRing$Order;" } : Jvm.MethodName)) ∈ lw_tbl := lw_at lw_m11 7 rfl
theorem q2502 : (Jvm.Cond.instanceMethod ({ cls := "TokenRing$Reader", name := "order", desc := "()LTokenRing$Order;" } : Jvm.MethodName)) ∈ lw_all := lw_g (lw_at lw_m11 8 rfl) rfl
theorem q2503 : (Jvm.Cond.code ({ cls := "TokenRing$Reader", name := "order", desc := "()LTokenRing$Order;" } : Jvm.MethodName) prog_5_method_14_code (1 : Nat) (Option.some (Jvm.ClassFile.FieldType.object "TokenRing$Order"))) ∈ lw_all := lw_g (lw_at lw_m11 9 rfl) rfl
theorem q2504 : (Jvm.Cond.methodLink "TokenRing$Reader" (46 : Nat) ({ cls := "TokenRing$Reader", name := "takes", desc := "(C)Z" } : Jvm.MethodName)) ∈ lw_all := lw_g (lw_at lw_m11 10 rfl) rfl
theorem q2505 : (Jvm.Cond.privateMethod ({ cls := "TokenRing$Reader", name := "takes", desc := "(C)Z" } : Jvm.MethodName)) ∈ lw_tbl := lw_at lw_m11 11 rfl
theorem q2506 : (Jvm.Cond.instanceMethod ({ cls := "TokenRing$Reader", name := "takes", desc := "(C)Z" } : Jvm.MethodName)) ∈ lw_all := lw_g (lw_at lw_m11 12 rfl) rfl
theorem q2507 : (Jvm.Cond.code ({ cls := "TokenRing$Reader", name := "takes", desc := "(C)Z" } : Jvm.MethodName) prog_5_method_3_code (2 : Nat) (Option.some Jvm.ClassFile.FieldType.boolean)) ∈ lw_all := lw_g (lw_at lw_m11 13 rfl) rfl
theorem q2508 : (Jvm.Cond.methodLink "TokenRing$Reader" (42 : Nat) ({ cls := "TokenRing$Reader", name := "here", desc := "()C" } : Jvm.MethodName)) ∈ lw_all := lw_g (lw_at lw_m11 14 rfl) rfl
theorem q2509 : (Jvm.Cond.privateMethod ({ cls := "TokenRing$Reader", name := "here", desc := "()C" } : Jvm.MethodName)) ∈ lw_tbl := lw_at lw_m11 15 rfl
theorem q2510 : (Jvm.Cond.instanceMethod ({ cls := "TokenRing$Reader", name := "here", desc := "()C" } : Jvm.MethodName)) ∈ lw_all := lw_g (lw_at lw_m11 16 rfl) rfl
theorem q2511 : (Jvm.Cond.code ({ cls := "TokenRing$Reader", name := "here", desc := "()C" } : Jvm.MethodName) prog_5_method_2_code (1 : Nat) (Option.some Jvm.ClassFile.FieldType.char)) ∈ lw_all := lw_g (lw_at lw_m11 17 rfl) rfl
theorem q2512 : (Jvm.Cond.interfaceEntry "TokenRing$Reader" (28 : Nat)) ∈ lw_tbl := lw_at lw_m11 18 rfl
theorem q2513 : (Jvm.Cond.methodLink "TokenRing$Reader" (28 : Nat) ({ cls := "java/lang/CharSequence", name := "length", desc := "()I" } : Jvm.MethodName)) ∈ lw_all := lw_g (lw_at lw_m11 19 rfl) rfl
theorem q2524 : (Jvm.Cond.interfaceEntry "TokenRing$Reader" (34 : Nat)) ∈ lw_tbl := lw_at lw_m11 30 rfl
theorem q2525 : (Jvm.Cond.methodLink "TokenRing$Reader" (34 : Nat) ({ cls := "java/lang/CharSequence", name := "charAt", desc := "(I)C" } : Jvm.MethodName)) ∈ lw_all := lw_g (lw_at lw_m11 31 rfl) rfl
theorem q2555 : (Jvm.Cond.methodLink "TokenRing$Reader" (88 : Nat) ({ cls := "TokenRing$Reader", name := "coming", desc := "()LTokenRing$Order;" } : Jvm.MethodName)) ∈ lw_all := lw_g (lw_at lw_m11 61 rfl) rfl
theorem q2556 : (Jvm.Cond.privateMethod ({ cls := "TokenRing$Reader", name := "coming", desc := "()LTokenRing$Order;" } : Jvm.MethodName)) ∈ lw_tbl := lw_at lw_m11 62 rfl
theorem q2557 : (Jvm.Cond.instanceMethod ({ cls := "TokenRing$Reader", name := "coming", desc := "()LTokenRing$Order;" } : Jvm.MethodName)) ∈ lw_all := lw_g (lw_at lw_m11 63 rfl) rfl
theorem q2558 : (Jvm.Cond.code ({ cls := "TokenRing$Reader", name := "coming", desc := "()LTokenRing$Order;" } : Jvm.MethodName) prog_5_method_8_code (2 : Nat) (Option.some (Jvm.ClassFile.FieldType.object "TokenRing$Order"))) ∈ lw_all := lw_g (lw_at lw_m11 64 rfl) rfl
theorem q2559 : (Jvm.Cond.methodLink "TokenRing$Reader" (57 : Nat) ({ cls := "TokenRing$Reader", name := "number", desc := "()I" } : Jvm.MethodName)) ∈ lw_all := lw_g (lw_at lw_m11 65 rfl) rfl
theorem q2560 : (Jvm.Cond.privateMethod ({ cls := "TokenRing$Reader", name := "number", desc := "()I" } : Jvm.MethodName)) ∈ lw_tbl := lw_at lw_m11 66 rfl
theorem q2561 : (Jvm.Cond.instanceMethod ({ cls := "TokenRing$Reader", name := "number", desc := "()I" } : Jvm.MethodName)) ∈ lw_all := lw_g (lw_at lw_m11 67 rfl) rfl
theorem q2562 : (Jvm.Cond.code ({ cls := "TokenRing$Reader", name := "number", desc := "()I" } : Jvm.MethodName) prog_5_method_7_code (2 : Nat) (Option.some Jvm.ClassFile.FieldType.int)) ∈ lw_all := lw_g (lw_at lw_m11 68 rfl) rfl
theorem q2563 : (Jvm.Cond.methodLink "TokenRing$Reader" (54 : Nat) ({ cls := "TokenRing$Reader", name := "digit", desc := "()I" } : Jvm.MethodName)) ∈ lw_all := lw_g (lw_at lw_m11 69 rfl) rfl
theorem q2564 : (Jvm.Cond.privateMethod ({ cls := "TokenRing$Reader", name := "digit", desc := "()I" } : Jvm.MethodName)) ∈ lw_tbl := lw_at lw_m11 70 rfl
theorem q2565 : (Jvm.Cond.instanceMethod ({ cls := "TokenRing$Reader", name := "digit", desc := "()I" } : Jvm.MethodName)) ∈ lw_all := lw_g (lw_at lw_m11 71 rfl) rfl
theorem q2566 : (Jvm.Cond.code ({ cls := "TokenRing$Reader", name := "digit", desc := "()I" } : Jvm.MethodName) prog_5_method_6_code (1 : Nat) (Option.some Jvm.ClassFile.FieldType.int)) ∈ lw_all := lw_g (lw_at lw_m11 72 rfl) rfl
theorem q2567 : (Jvm.Cond.methodLink "TokenRing$Reader" (50 : Nat) ({ cls := "TokenRing$Reader", name := "isDigit", desc := "()Z" } : Jvm.MethodName)) ∈ lw_all := lw_g (lw_at lw_m11 73 rfl) rfl
theorem q2568 : (Jvm.Cond.privateMethod ({ cls := "TokenRing$Reader", name := "isDigit", desc := "()Z" } : Jvm.MethodName)) ∈ lw_tbl := lw_at lw_m11 74 rfl
theorem q2569 : (Jvm.Cond.instanceMethod ({ cls := "TokenRing$Reader", name := "isDigit", desc := "()Z" } : Jvm.MethodName)) ∈ lw_all := lw_g (lw_at lw_m11 75 rfl) rfl
theorem q2570 : (Jvm.Cond.code ({ cls := "TokenRing$Reader", name := "isDigit", desc := "()Z" } : Jvm.MethodName) prog_5_method_5_code (1 : Nat) (Option.some Jvm.ClassFile.FieldType.boolean)) ∈ lw_all := lw_g (lw_at lw_m11 76 rfl) rfl
theorem q2571 : (Jvm.Cond.classLink "TokenRing$Reader" (60 : Nat) "TokenRing$Reader$1") ∈ lw_all := lw_g (lw_at lw_m11 77 rfl) rfl
theorem q2573 : (Jvm.Cond.methodLink "TokenRing$Reader" (62 : Nat) ({ cls := "TokenRing$Reader$1", name := "<init>", desc := "(LTokenRing$Reader;I)V" } : Jvm.MethodName)) ∈ lw_all := lw_g (lw_at lw_m11 79 rfl) rfl
theorem q2590 : (Jvm.Cond.methodLink "TokenRing$Reader" (92 : Nat) ({ cls := "TokenRing$Reader", name := "going", desc := "()LTokenRing$Order;" } : Jvm.MethodName)) ∈ lw_all := lw_g (lw_at lw_m11 96 rfl) rfl
theorem q2591 : (Jvm.Cond.privateMethod ({ cls := "TokenRing$Reader", name := "going", desc := "()LTokenRing$Order;" } : Jvm.MethodName)) ∈ lw_tbl := lw_at lw_m11 97 rfl
theorem q2592 : (Jvm.Cond.instanceMethod ({ cls := "TokenRing$Reader", name := "going", desc := "()LTokenRing$Order;" } : Jvm.MethodName)) ∈ lw_all := lw_g (lw_at lw_m11 98 rfl) rfl
theorem q2593 : (Jvm.Cond.code ({ cls := "TokenRing$Reader", name := "going", desc := "()LTokenRing$Order;" } : Jvm.MethodName) prog_5_method_9_code (2 : Nat) (Option.some (Jvm.ClassFile.FieldType.object "TokenRing$Order"))) ∈ lw_all := lw_g (lw_at lw_m11 99 rfl) rfl
theorem q2594 : (Jvm.Cond.classLink "TokenRing$Reader" (65 : Nat) "TokenRing$Reader$2") ∈ lw_all := lw_g (lw_at lw_m11 100 rfl) rfl
theorem q2596 : (Jvm.Cond.methodLink "TokenRing$Reader" (67 : Nat) ({ cls := "TokenRing$Reader$2", name := "<init>", desc := "(LTokenRing$Reader;I)V" } : Jvm.MethodName)) ∈ lw_all := lw_g (lw_at lw_m11 102 rfl) rfl
theorem q2608 : (Jvm.Cond.methodLink "TokenRing$Reader" (95 : Nat) ({ cls := "TokenRing$Reader", name := "queueing", desc := "()LTokenRing$Order;" } : Jvm.MethodName)) ∈ lw_all := lw_g (lw_at lw_m11 114 rfl) rfl
theorem q2609 : (Jvm.Cond.privateMethod ({ cls := "TokenRing$Reader", name := "queueing", desc := "()LTokenRing$Order;" } : Jvm.MethodName)) ∈ lw_tbl := lw_at lw_m11 115 rfl
theorem q2610 : (Jvm.Cond.instanceMethod ({ cls := "TokenRing$Reader", name := "queueing", desc := "()LTokenRing$Order;" } : Jvm.MethodName)) ∈ lw_all := lw_g (lw_at lw_m11 116 rfl) rfl
theorem q2611 : (Jvm.Cond.code ({ cls := "TokenRing$Reader", name := "queueing", desc := "()LTokenRing$Order;" } : Jvm.MethodName) prog_5_method_10_code (4 : Nat) (Option.some (Jvm.ClassFile.FieldType.object "TokenRing$Order"))) ∈ lw_all := lw_g (lw_at lw_m11 117 rfl) rfl
theorem q2612 : (Jvm.Cond.methodLink "TokenRing$Reader" (68 : Nat) ({ cls := "TokenRing$Reader", name := "wants", desc := "(C)V" } : Jvm.MethodName)) ∈ lw_all := lw_g (lw_at lw_m11 118 rfl) rfl
theorem q2613 : (Jvm.Cond.privateMethod ({ cls := "TokenRing$Reader", name := "wants", desc := "(C)V" } : Jvm.MethodName)) ∈ lw_tbl := lw_at lw_m11 119 rfl
theorem q2614 : (Jvm.Cond.instanceMethod ({ cls := "TokenRing$Reader", name := "wants", desc := "(C)V" } : Jvm.MethodName)) ∈ lw_all := lw_g (lw_at lw_m11 120 rfl) rfl
theorem q2615 : (Jvm.Cond.code ({ cls := "TokenRing$Reader", name := "wants", desc := "(C)V" } : Jvm.MethodName) prog_5_method_4_code (2 : Nat) (Option.none : Option Jvm.ClassFile.FieldType)) ∈ lw_all := lw_g (lw_at lw_m11 121 rfl) rfl
theorem q2616 : (Jvm.Cond.classLink "TokenRing$Reader" (72 : Nat) "TokenRing$Reader$3") ∈ lw_all := lw_g (lw_at lw_m11 122 rfl) rfl
theorem q2618 : (Jvm.Cond.methodLink "TokenRing$Reader" (74 : Nat) ({ cls := "TokenRing$Reader$3", name := "<init>", desc := "(LTokenRing$Reader;III)V" } : Jvm.MethodName)) ∈ lw_all := lw_g (lw_at lw_m11 124 rfl) rfl
theorem q2636 : (Jvm.Cond.methodLink "TokenRing$Reader" (98 : Nat) ({ cls := "TokenRing$Reader", name := "watching", desc := "()LTokenRing$Order;" } : Jvm.MethodName)) ∈ lw_all := lw_g (lw_at lw_m11 142 rfl) rfl
theorem q2637 : (Jvm.Cond.privateMethod ({ cls := "TokenRing$Reader", name := "watching", desc := "()LTokenRing$Order;" } : Jvm.MethodName)) ∈ lw_tbl := lw_at lw_m11 143 rfl
theorem q2638 : (Jvm.Cond.instanceMethod ({ cls := "TokenRing$Reader", name := "watching", desc := "()LTokenRing$Order;" } : Jvm.MethodName)) ∈ lw_all := lw_g (lw_at lw_m11 144 rfl) rfl
theorem q2639 : (Jvm.Cond.code ({ cls := "TokenRing$Reader", name := "watching", desc := "()LTokenRing$Order;" } : Jvm.MethodName) prog_5_method_11_code (2 : Nat) (Option.some (Jvm.ClassFile.FieldType.object "TokenRing$Order"))) ∈ lw_all := lw_g (lw_at lw_m11 145 rfl) rfl
theorem q2640 : (Jvm.Cond.classLink "TokenRing$Reader" (77 : Nat) "TokenRing$Reader$4") ∈ lw_all := lw_g (lw_at lw_m11 146 rfl) rfl
theorem q2642 : (Jvm.Cond.methodLink "TokenRing$Reader" (79 : Nat) ({ cls := "TokenRing$Reader$4", name := "<init>", desc := "(LTokenRing$Reader;I)V" } : Jvm.MethodName)) ∈ lw_all := lw_g (lw_at lw_m11 148 rfl) rfl
theorem q2654 : (Jvm.Cond.methodLink "TokenRing$Reader" (101 : Nat) ({ cls := "TokenRing$Reader", name := "ticking", desc := "()LTokenRing$Order;" } : Jvm.MethodName)) ∈ lw_all := lw_g (lw_at lw_m11 160 rfl) rfl
theorem q2655 : (Jvm.Cond.privateMethod ({ cls := "TokenRing$Reader", name := "ticking", desc := "()LTokenRing$Order;" } : Jvm.MethodName)) ∈ lw_tbl := lw_at lw_m11 161 rfl
theorem q2656 : (Jvm.Cond.instanceMethod ({ cls := "TokenRing$Reader", name := "ticking", desc := "()LTokenRing$Order;" } : Jvm.MethodName)) ∈ lw_all := lw_g (lw_at lw_m11 162 rfl) rfl
theorem q2657 : (Jvm.Cond.code ({ cls := "TokenRing$Reader", name := "ticking", desc := "()LTokenRing$Order;" } : Jvm.MethodName) prog_5_method_12_code (2 : Nat) (Option.some (Jvm.ClassFile.FieldType.object "TokenRing$Order"))) ∈ lw_all := lw_g (lw_at lw_m11 163 rfl) rfl
theorem q2658 : (Jvm.Cond.classLink "TokenRing$Reader" (80 : Nat) "TokenRing$Reader$5") ∈ lw_all := lw_g (lw_at lw_m11 164 rfl) rfl
theorem q2660 : (Jvm.Cond.methodLink "TokenRing$Reader" (82 : Nat) ({ cls := "TokenRing$Reader$5", name := "<init>", desc := "(LTokenRing$Reader;I)V" } : Jvm.MethodName)) ∈ lw_all := lw_g (lw_at lw_m11 166 rfl) rfl
theorem q2672 : (Jvm.Cond.methodLink "TokenRing$Reader" (104 : Nat) ({ cls := "TokenRing$Reader", name := "losing", desc := "()LTokenRing$Order;" } : Jvm.MethodName)) ∈ lw_all := lw_g (lw_at lw_m11 178 rfl) rfl
theorem q2673 : (Jvm.Cond.privateMethod ({ cls := "TokenRing$Reader", name := "losing", desc := "()LTokenRing$Order;" } : Jvm.MethodName)) ∈ lw_tbl := lw_at lw_m11 179 rfl
theorem q2674 : (Jvm.Cond.instanceMethod ({ cls := "TokenRing$Reader", name := "losing", desc := "()LTokenRing$Order;" } : Jvm.MethodName)) ∈ lw_all := lw_g (lw_at lw_m11 180 rfl) rfl
theorem q2675 : (Jvm.Cond.code ({ cls := "TokenRing$Reader", name := "losing", desc := "()LTokenRing$Order;" } : Jvm.MethodName) prog_5_method_13_code (1 : Nat) (Option.some (Jvm.ClassFile.FieldType.object "TokenRing$Order"))) ∈ lw_all := lw_g (lw_at lw_m11 181 rfl) rfl
theorem q2676 : (Jvm.Cond.classLink "TokenRing$Reader" (83 : Nat) "TokenRing$Reader$6") ∈ lw_all := lw_g (lw_at lw_m11 182 rfl) rfl
theorem q2678 : (Jvm.Cond.methodLink "TokenRing$Reader" (85 : Nat) ({ cls := "TokenRing$Reader$6", name := "<init>", desc := "(LTokenRing$Reader;)V" } : Jvm.MethodName)) ∈ lw_all := lw_g (lw_at lw_m11 184 rfl) rfl
theorem q2687 : (Jvm.Cond.methodLink "TokenRing$Reader" (110 : Nat) ({ cls := "java/util/ArrayList", name := "add", desc := "(Ljava/lang/Object;)Z" } : Jvm.MethodName)) ∈ lw_all := lw_g (lw_at lw_m11 193 rfl) rfl
theorem q3345 : (Jvm.Cond.castable "TokenRing$Reader" "java/lang/Object") ∈ lw_tbl := lw_at lw_m14 131 rfl
theorem in_X12 : ∀ w ∈ wsX120, w ∈ lw_all := lw_in wsX120 [2485, 2487, 2489, 2491, 2493] (by decide +kernel) (by decide +kernel)
/-! TokenRing$Order -/
set_option maxRecDepth 100000
def RX13 : String := "TokenRing$Order"
abbrev cX13_init : ByteArray := prog_4_method_1_code
def yX13_init : MethodName := ⟨RX13, "<init>", "(LTokenRing;)V"⟩
def dkwX13_init_0 : List UInt8 := [42, 43, 181, 0, 1, 42, 183, 0, 7, 177]
abbrev dktX13_init_0 : List UInt8 := dkwX13_init_0 ++ []
theorem dksX13_init_0 : cX13_init.data.toList.drop 0 = dktX13_init_0 := by decide +kernel
theorem dX13_init_0 : decode cX13_init 0 = .ok (.aload_n 0, 1) := dk_42 (dk_at dksX13_init_0 0 rfl rfl)
theorem dX13_init_1 : decode cX13_init 1 = .ok (.aload_n 1, 1) := dk_43 (dk_at dksX13_init_0 1 rfl rfl)
theorem dX13_init_2 : decode cX13_init 2 = .ok (.putfield 1, 3) := dk_181 0 1 (dk_at dksX13_init_0 2 rfl rfl)
theorem dX13_init_5 : decode cX13_init 5 = .ok (.aload_n 0, 1) := dk_42 (dk_at dksX13_init_0 5 rfl rfl)
theorem dX13_init_6 : decode cX13_init 6 = .ok (.invokespecial 7, 3) := dk_183 0 7 (dk_at dksX13_init_0 6 rfl rfl)
theorem dX13_init_9 : decode cX13_init 9 = .ok (.return_, 1) := dk_177 (dk_at dksX13_init_0 9 rfl rfl)
theorem q155 : (Jvm.Cond.initialized "TokenRing$Order") ∈ lw_all := lw_g (lw_at lw_m1 61 rfl) rfl
theorem q2577 : (Jvm.Cond.instanceMethod ({ cls := "TokenRing$Order", name := "<init>", desc := "(LTokenRing;)V" } : Jvm.MethodName)) ∈ lw_all := lw_g (lw_at lw_m11 83 rfl) rfl
theorem q2578 : (Jvm.Cond.code ({ cls := "TokenRing$Order", name := "<init>", desc := "(LTokenRing;)V" } : Jvm.MethodName) prog_4_method_1_code (2 : Nat) (Option.none : Option Jvm.ClassFile.FieldType)) ∈ lw_all := lw_g (lw_at lw_m11 84 rfl) rfl
theorem q2579 : (Jvm.Cond.methodLink "TokenRing$Order" (7 : Nat) ({ cls := "java/lang/Object", name := "<init>", desc := "()V" } : Jvm.MethodName)) ∈ lw_all := lw_g (lw_at lw_m11 85 rfl) rfl
theorem q2582 : (Jvm.Cond.fieldLink "TokenRing$Order" (1 : Nat) "TokenRing$Order" "this$0" "LTokenRing;") ∈ lw_all := lw_g (lw_at lw_m11 88 rfl) rfl
theorem q2588 : (Jvm.Cond.soleField "TokenRing$Order" "this$0") ∈ lw_all := lw_g (lw_at lw_m11 94 rfl) rfl
theorem q2694 : (Jvm.Cond.declares ({ cls := "TokenRing$Order", name := "does", desc := "()V" } : Jvm.MethodName)) ∈ lw_tbl := lw_at lw_m11 200 rfl
theorem q2695 : (Jvm.Cond.sameMethod "TokenRing$Order" "TokenRing$Order" "does" "()V") ∈ lw_all := lw_g (lw_at lw_m11 201 rfl) rfl
/-! TokenRing$Reader$1 -/
set_option maxRecDepth 100000
def RX14 : String := "TokenRing$Reader$1"
def TX14 : u_T := fun k => match k with
  | 0 => ("TokenRing$Order", "this$0", "LTokenRing;", true)
  | 1 => ("TokenRing$Reader$1", "val$address", "I", true)
  | _ => ("TokenRing$Reader$1", "this$1", "LTokenRing$Reader;", true)
def tyX14 : Nat → FieldType := fun k => match k with
  | 0 => .object "TokenRing"
  | 1 => .int
  | _ => .object "TokenRing$Reader"
abbrev wsX140 : List Cond := u_ws RX14 TX14 3
theorem nmX14 : ∀ a, a < 3 → ∀ b, b < 3 → a ≠ b → (TX14 a).2.1 ≠ (TX14 b).2.1 := by decide +kernel
theorem tyX14_ok : ∀ k, k < 3 → parseFieldDescriptor (TX14 k).2.2.1 = some (tyX14 k) := by decide +kernel
abbrev cX14_init : ByteArray := prog_6_method_1_code
def yX14_init : MethodName := ⟨RX14, "<init>", "(LTokenRing$Reader;I)V"⟩
def dkwX14_init_0 : List UInt8 := [42, 43, 181, 0, 1, 42, 28, 181, 0, 7, 42, 43, 180, 0, 11, 183, 0, 17, 177]
abbrev dktX14_init_0 : List UInt8 := dkwX14_init_0 ++ []
theorem dksX14_init_0 : cX14_init.data.toList.drop 0 = dktX14_init_0 := by decide +kernel
theorem dX14_init_0 : decode cX14_init 0 = .ok (.aload_n 0, 1) := dk_42 (dk_at dksX14_init_0 0 rfl rfl)
theorem dX14_init_1 : decode cX14_init 1 = .ok (.aload_n 1, 1) := dk_43 (dk_at dksX14_init_0 1 rfl rfl)
theorem dX14_init_2 : decode cX14_init 2 = .ok (.putfield 1, 3) := dk_181 0 1 (dk_at dksX14_init_0 2 rfl rfl)
theorem dX14_init_5 : decode cX14_init 5 = .ok (.aload_n 0, 1) := dk_42 (dk_at dksX14_init_0 5 rfl rfl)
theorem dX14_init_6 : decode cX14_init 6 = .ok (.iload_n 2, 1) := dk_28 (dk_at dksX14_init_0 6 rfl rfl)
theorem dX14_init_7 : decode cX14_init 7 = .ok (.putfield 7, 3) := dk_181 0 7 (dk_at dksX14_init_0 7 rfl rfl)
theorem dX14_init_10 : decode cX14_init 10 = .ok (.aload_n 0, 1) := dk_42 (dk_at dksX14_init_0 10 rfl rfl)
theorem dX14_init_11 : decode cX14_init 11 = .ok (.aload_n 1, 1) := dk_43 (dk_at dksX14_init_0 11 rfl rfl)
theorem dX14_init_12 : decode cX14_init 12 = .ok (.getfield 11, 3) := dk_180 0 11 (dk_at dksX14_init_0 12 rfl rfl)
theorem dX14_init_15 : decode cX14_init 15 = .ok (.invokespecial 17, 3) := dk_183 0 17 (dk_at dksX14_init_0 15 rfl rfl)
theorem dX14_init_18 : decode cX14_init 18 = .ok (.return_, 1) := dk_177 (dk_at dksX14_init_0 18 rfl rfl)
abbrev cX14_does : ByteArray := prog_6_method_2_code
def yX14_does : MethodName := ⟨RX14, "does", "()V"⟩
def dkwX14_does_0 : List UInt8 := [42, 180, 0, 1, 180, 0, 11, 42, 180, 0, 7, 182, 0, 23, 87, 177]
abbrev dktX14_does_0 : List UInt8 := dkwX14_does_0 ++ []
theorem dksX14_does_0 : cX14_does.data.toList.drop 0 = dktX14_does_0 := by decide +kernel
theorem dX14_does_0 : decode cX14_does 0 = .ok (.aload_n 0, 1) := dk_42 (dk_at dksX14_does_0 0 rfl rfl)
theorem dX14_does_1 : decode cX14_does 1 = .ok (.getfield 1, 3) := dk_180 0 1 (dk_at dksX14_does_0 1 rfl rfl)
theorem dX14_does_4 : decode cX14_does 4 = .ok (.getfield 11, 3) := dk_180 0 11 (dk_at dksX14_does_0 4 rfl rfl)
theorem dX14_does_7 : decode cX14_does 7 = .ok (.aload_n 0, 1) := dk_42 (dk_at dksX14_does_0 7 rfl rfl)
theorem dX14_does_8 : decode cX14_does 8 = .ok (.getfield 7, 3) := dk_180 0 7 (dk_at dksX14_does_0 8 rfl rfl)
theorem dX14_does_11 : decode cX14_does 11 = .ok (.invokevirtual 23, 3) := dk_182 0 23 (dk_at dksX14_does_0 11 rfl rfl)
theorem dX14_does_14 : decode cX14_does 14 = .ok (.pop, 1) := dk_87 (dk_at dksX14_does_0 14 rfl rfl)
theorem dX14_does_15 : decode cX14_does 15 = .ok (.return_, 1) := dk_177 (dk_at dksX14_does_0 15 rfl rfl)
theorem q156 : (Jvm.Cond.initialized "TokenRing$Reader$1") ∈ lw_all := lw_g (lw_at lw_m1 62 rfl) rfl
theorem q1604 : (Jvm.Cond.selects "TokenRing$Reader$1" ({ cls := "java/lang/Object", name := "getClass", desc := "()Ljava/lang/Class;" } : Jvm.MethodName) ({ cls := "java/lang/Object", name := "getClass", desc := "()Ljava/lang/Class;" } : Jvm.MethodName)) ∈ lw_all := lw_g (lw_at lw_m7 70 rfl) rfl
theorem q2480 : (Jvm.Cond.fieldLink "TokenRing$Reader$1" (11 : Nat) "TokenRing$Reader" "this$0" "LTokenRing;") ∈ lw_all := lw_g (lw_at lw_m10 226 rfl) rfl
theorem q2572 : (Jvm.Cond.instantiable "TokenRing$Reader$1" (3 : Nat)) ∈ lw_all := lw_g (lw_at lw_m11 78 rfl) rfl
theorem q2574 : (Jvm.Cond.instanceMethod ({ cls := "TokenRing$Reader$1", name := "<init>", desc := "(LTokenRing$Reader;I)V" } : Jvm.MethodName)) ∈ lw_all := lw_g (lw_at lw_m11 80 rfl) rfl
theorem q2575 : (Jvm.Cond.code ({ cls := "TokenRing$Reader$1", name := "<init>", desc := "(LTokenRing$Reader;I)V" } : Jvm.MethodName) prog_6_method_1_code (3 : Nat) (Option.none : Option Jvm.ClassFile.FieldType)) ∈ lw_all := lw_g (lw_at lw_m11 81 rfl) rfl
theorem q2576 : (Jvm.Cond.methodLinkNest "TokenRing$Reader$1" (17 : Nat) ({ cls := "TokenRing$Order", name := "<init>", desc := "(LTokenRing;)V" } : Jvm.MethodName) "TokenRing") ∈ lw_tbl := lw_at lw_m11 82 rfl
theorem q2580 : (Jvm.Cond.fieldLink "TokenRing$Reader$1" (7 : Nat) "TokenRing$Reader$1" "val$address" "I") ∈ lw_all := lw_g (lw_at lw_m11 86 rfl) rfl
theorem q2581 : (Jvm.Cond.fieldLink "TokenRing$Reader$1" (1 : Nat) "TokenRing$Reader$1" "this$1" "LTokenRing$Reader;") ∈ lw_all := lw_g (lw_at lw_m11 87 rfl) rfl
theorem q2583 : (Jvm.Cond.laysFinal "TokenRing$Reader$1" "TokenRing$Reader$1" "val$address" "I") ∈ lw_all := lw_g (lw_at lw_m11 89 rfl) rfl
theorem q2584 : (Jvm.Cond.soleField "TokenRing$Reader$1" "val$address") ∈ lw_all := lw_g (lw_at lw_m11 90 rfl) rfl
theorem q2585 : (Jvm.Cond.laysFinal "TokenRing$Reader$1" "TokenRing$Reader$1" "this$1" "LTokenRing$Reader;") ∈ lw_all := lw_g (lw_at lw_m11 91 rfl) rfl
theorem q2586 : (Jvm.Cond.soleField "TokenRing$Reader$1" "this$1") ∈ lw_all := lw_g (lw_at lw_m11 92 rfl) rfl
theorem q2587 : (Jvm.Cond.laysFinal "TokenRing$Reader$1" "TokenRing$Order" "this$0" "LTokenRing;") ∈ lw_all := lw_g (lw_at lw_m11 93 rfl) rfl
theorem q2589 : (Jvm.Cond.superclass "TokenRing$Reader$1" "TokenRing$Order") ∈ lw_all := lw_g (lw_at lw_m11 95 rfl) rfl
theorem q2696 : (Jvm.Cond.selects "TokenRing$Reader$1" ({ cls := "TokenRing$Order", name := "does", desc := "()V" } : Jvm.MethodName) ({ cls := "TokenRing$Reader$1", name := "does", desc := "()V" } : Jvm.MethodName)) ∈ lw_all := lw_g (lw_at lw_m11 202 rfl) rfl
theorem q2697 : (Jvm.Cond.instanceMethod ({ cls := "TokenRing$Reader$1", name := "does", desc := "()V" } : Jvm.MethodName)) ∈ lw_all := lw_g (lw_at lw_m11 203 rfl) rfl
theorem q2698 : (Jvm.Cond.code ({ cls := "TokenRing$Reader$1", name := "does", desc := "()V" } : Jvm.MethodName) prog_6_method_2_code (1 : Nat) (Option.none : Option Jvm.ClassFile.FieldType)) ∈ lw_all := lw_g (lw_at lw_m11 204 rfl) rfl
theorem q2699 : (Jvm.Cond.methodLink "TokenRing$Reader$1" (23 : Nat) ({ cls := "TokenRing", name := "join", desc := "(I)I" } : Jvm.MethodName)) ∈ lw_all := lw_g (lw_at lw_m11 205 rfl) rfl
theorem q3305 : (Jvm.Cond.castable "TokenRing$Reader$1" "TokenRing$Order") ∈ lw_tbl := lw_at lw_m14 91 rfl
theorem q3347 : (Jvm.Cond.castable "TokenRing$Reader$1" "java/lang/Object") ∈ lw_tbl := lw_at lw_m14 133 rfl
theorem in_X14 : ∀ w ∈ wsX140, w ∈ lw_all := lw_in wsX140 [2587, 2583, 2585] (by decide +kernel) (by decide +kernel)
/-! TokenRing$Reader$2 -/
set_option maxRecDepth 100000
def RX15 : String := "TokenRing$Reader$2"
def TX15 : u_T := fun k => match k with
  | 0 => ("TokenRing$Order", "this$0", "LTokenRing;", true)
  | 1 => ("TokenRing$Reader$2", "val$address", "I", true)
  | _ => ("TokenRing$Reader$2", "this$1", "LTokenRing$Reader;", true)
def tyX15 : Nat → FieldType := fun k => match k with
  | 0 => .object "TokenRing"
  | 1 => .int
  | _ => .object "TokenRing$Reader"
abbrev wsX150 : List Cond := u_ws RX15 TX15 3
theorem nmX15 : ∀ a, a < 3 → ∀ b, b < 3 → a ≠ b → (TX15 a).2.1 ≠ (TX15 b).2.1 := by decide +kernel
theorem tyX15_ok : ∀ k, k < 3 → parseFieldDescriptor (TX15 k).2.2.1 = some (tyX15 k) := by decide +kernel
abbrev cX15_init : ByteArray := prog_7_method_1_code
def yX15_init : MethodName := ⟨RX15, "<init>", "(LTokenRing$Reader;I)V"⟩
def dkwX15_init_0 : List UInt8 := [42, 43, 181, 0, 1, 42, 28, 181, 0, 7, 42, 43, 180, 0, 11, 183, 0, 17, 177]
abbrev dktX15_init_0 : List UInt8 := dkwX15_init_0 ++ []
theorem dksX15_init_0 : cX15_init.data.toList.drop 0 = dktX15_init_0 := by decide +kernel
theorem dX15_init_0 : decode cX15_init 0 = .ok (.aload_n 0, 1) := dk_42 (dk_at dksX15_init_0 0 rfl rfl)
theorem dX15_init_1 : decode cX15_init 1 = .ok (.aload_n 1, 1) := dk_43 (dk_at dksX15_init_0 1 rfl rfl)
theorem dX15_init_2 : decode cX15_init 2 = .ok (.putfield 1, 3) := dk_181 0 1 (dk_at dksX15_init_0 2 rfl rfl)
theorem dX15_init_5 : decode cX15_init 5 = .ok (.aload_n 0, 1) := dk_42 (dk_at dksX15_init_0 5 rfl rfl)
theorem dX15_init_6 : decode cX15_init 6 = .ok (.iload_n 2, 1) := dk_28 (dk_at dksX15_init_0 6 rfl rfl)
theorem dX15_init_7 : decode cX15_init 7 = .ok (.putfield 7, 3) := dk_181 0 7 (dk_at dksX15_init_0 7 rfl rfl)
theorem dX15_init_10 : decode cX15_init 10 = .ok (.aload_n 0, 1) := dk_42 (dk_at dksX15_init_0 10 rfl rfl)
theorem dX15_init_11 : decode cX15_init 11 = .ok (.aload_n 1, 1) := dk_43 (dk_at dksX15_init_0 11 rfl rfl)
theorem dX15_init_12 : decode cX15_init 12 = .ok (.getfield 11, 3) := dk_180 0 11 (dk_at dksX15_init_0 12 rfl rfl)
theorem dX15_init_15 : decode cX15_init 15 = .ok (.invokespecial 17, 3) := dk_183 0 17 (dk_at dksX15_init_0 15 rfl rfl)
theorem dX15_init_18 : decode cX15_init 18 = .ok (.return_, 1) := dk_177 (dk_at dksX15_init_0 18 rfl rfl)
abbrev cX15_does : ByteArray := prog_7_method_2_code
def yX15_does : MethodName := ⟨RX15, "does", "()V"⟩
def dkwX15_does_0 : List UInt8 := [42, 180, 0, 1, 180, 0, 11, 42, 180, 0, 7, 182, 0, 23, 87, 177]
abbrev dktX15_does_0 : List UInt8 := dkwX15_does_0 ++ []
theorem dksX15_does_0 : cX15_does.data.toList.drop 0 = dktX15_does_0 := by decide +kernel
theorem dX15_does_0 : decode cX15_does 0 = .ok (.aload_n 0, 1) := dk_42 (dk_at dksX15_does_0 0 rfl rfl)
theorem dX15_does_1 : decode cX15_does 1 = .ok (.getfield 1, 3) := dk_180 0 1 (dk_at dksX15_does_0 1 rfl rfl)
theorem dX15_does_4 : decode cX15_does 4 = .ok (.getfield 11, 3) := dk_180 0 11 (dk_at dksX15_does_0 4 rfl rfl)
theorem dX15_does_7 : decode cX15_does 7 = .ok (.aload_n 0, 1) := dk_42 (dk_at dksX15_does_0 7 rfl rfl)
theorem dX15_does_8 : decode cX15_does 8 = .ok (.getfield 7, 3) := dk_180 0 7 (dk_at dksX15_does_0 8 rfl rfl)
theorem dX15_does_11 : decode cX15_does 11 = .ok (.invokevirtual 23, 3) := dk_182 0 23 (dk_at dksX15_does_0 11 rfl rfl)
theorem dX15_does_14 : decode cX15_does 14 = .ok (.pop, 1) := dk_87 (dk_at dksX15_does_0 14 rfl rfl)
theorem dX15_does_15 : decode cX15_does 15 = .ok (.return_, 1) := dk_177 (dk_at dksX15_does_0 15 rfl rfl)
theorem q157 : (Jvm.Cond.initialized "TokenRing$Reader$2") ∈ lw_all := lw_g (lw_at lw_m1 63 rfl) rfl
theorem q1605 : (Jvm.Cond.selects "TokenRing$Reader$2" ({ cls := "java/lang/Object", name := "getClass", desc := "()Ljava/lang/Class;" } : Jvm.MethodName) ({ cls := "java/lang/Object", name := "getClass", desc := "()Ljava/lang/Class;" } : Jvm.MethodName)) ∈ lw_all := lw_g (lw_at lw_m7 71 rfl) rfl
theorem q2481 : (Jvm.Cond.fieldLink "TokenRing$Reader$2" (11 : Nat) "TokenRing$Reader" "this$0" "LTokenRing;") ∈ lw_all := lw_g (lw_at lw_m10 227 rfl) rfl
theorem q2595 : (Jvm.Cond.instantiable "TokenRing$Reader$2" (3 : Nat)) ∈ lw_all := lw_g (lw_at lw_m11 101 rfl) rfl
theorem q2597 : (Jvm.Cond.instanceMethod ({ cls := "TokenRing$Reader$2", name := "<init>", desc := "(LTokenRing$Reader;I)V" } : Jvm.MethodName)) ∈ lw_all := lw_g (lw_at lw_m11 103 rfl) rfl
theorem q2598 : (Jvm.Cond.code ({ cls := "TokenRing$Reader$2", name := "<init>", desc := "(LTokenRing$Reader;I)V" } : Jvm.MethodName) prog_7_method_1_code (3 : Nat) (Option.none : Option Jvm.ClassFile.FieldType)) ∈ lw_all := lw_g (lw_at lw_m11 104 rfl) rfl
theorem q2599 : (Jvm.Cond.methodLinkNest "TokenRing$Reader$2" (17 : Nat) ({ cls := "TokenRing$Order", name := "<init>", desc := "(LTokenRing;)V" } : Jvm.MethodName) "TokenRing") ∈ lw_tbl := lw_at lw_m11 105 rfl
theorem q2600 : (Jvm.Cond.fieldLink "TokenRing$Reader$2" (7 : Nat) "TokenRing$Reader$2" "val$address" "I") ∈ lw_all := lw_g (lw_at lw_m11 106 rfl) rfl
theorem q2601 : (Jvm.Cond.fieldLink "TokenRing$Reader$2" (1 : Nat) "TokenRing$Reader$2" "this$1" "LTokenRing$Reader;") ∈ lw_all := lw_g (lw_at lw_m11 107 rfl) rfl
theorem q2602 : (Jvm.Cond.laysFinal "TokenRing$Reader$2" "TokenRing$Reader$2" "val$address" "I") ∈ lw_all := lw_g (lw_at lw_m11 108 rfl) rfl
theorem q2603 : (Jvm.Cond.soleField "TokenRing$Reader$2" "val$address") ∈ lw_all := lw_g (lw_at lw_m11 109 rfl) rfl
theorem q2604 : (Jvm.Cond.laysFinal "TokenRing$Reader$2" "TokenRing$Reader$2" "this$1" "LTokenRing$Reader;") ∈ lw_all := lw_g (lw_at lw_m11 110 rfl) rfl
theorem q2605 : (Jvm.Cond.soleField "TokenRing$Reader$2" "this$1") ∈ lw_all := lw_g (lw_at lw_m11 111 rfl) rfl
theorem q2606 : (Jvm.Cond.laysFinal "TokenRing$Reader$2" "TokenRing$Order" "this$0" "LTokenRing;") ∈ lw_all := lw_g (lw_at lw_m11 112 rfl) rfl
theorem q2607 : (Jvm.Cond.superclass "TokenRing$Reader$2" "TokenRing$Order") ∈ lw_all := lw_g (lw_at lw_m11 113 rfl) rfl
theorem q2700 : (Jvm.Cond.selects "TokenRing$Reader$2" ({ cls := "TokenRing$Order", name := "does", desc := "()V" } : Jvm.MethodName) ({ cls := "TokenRing$Reader$2", name := "does", desc := "()V" } : Jvm.MethodName)) ∈ lw_all := lw_g (lw_at lw_m11 206 rfl) rfl
theorem q2701 : (Jvm.Cond.instanceMethod ({ cls := "TokenRing$Reader$2", name := "does", desc := "()V" } : Jvm.MethodName)) ∈ lw_all := lw_g (lw_at lw_m11 207 rfl) rfl
theorem q2702 : (Jvm.Cond.code ({ cls := "TokenRing$Reader$2", name := "does", desc := "()V" } : Jvm.MethodName) prog_7_method_2_code (1 : Nat) (Option.none : Option Jvm.ClassFile.FieldType)) ∈ lw_all := lw_g (lw_at lw_m11 208 rfl) rfl
theorem q2703 : (Jvm.Cond.methodLink "TokenRing$Reader$2" (23 : Nat) ({ cls := "TokenRing", name := "leave", desc := "(I)I" } : Jvm.MethodName)) ∈ lw_all := lw_g (lw_at lw_m11 209 rfl) rfl
theorem q3306 : (Jvm.Cond.castable "TokenRing$Reader$2" "TokenRing$Order") ∈ lw_tbl := lw_at lw_m14 92 rfl
theorem q3348 : (Jvm.Cond.castable "TokenRing$Reader$2" "java/lang/Object") ∈ lw_tbl := lw_at lw_m14 134 rfl
theorem in_X15 : ∀ w ∈ wsX150, w ∈ lw_all := lw_in wsX150 [2606, 2602, 2604] (by decide +kernel) (by decide +kernel)
/-! TokenRing$Reader$3 -/
set_option maxRecDepth 100000
def RX16 : String := "TokenRing$Reader$3"
def TX16 : u_T := fun k => match k with
  | 0 => ("TokenRing$Order", "this$0", "LTokenRing;", true)
  | 1 => ("TokenRing$Reader$3", "val$from", "I", true)
  | 2 => ("TokenRing$Reader$3", "val$to", "I", true)
  | 3 => ("TokenRing$Reader$3", "val$rank", "I", true)
  | _ => ("TokenRing$Reader$3", "this$1", "LTokenRing$Reader;", true)
def tyX16 : Nat → FieldType := fun k => match k with
  | 0 => .object "TokenRing"
  | 1 => .int
  | 2 => .int
  | 3 => .int
  | _ => .object "TokenRing$Reader"
abbrev wsX160 : List Cond := u_ws RX16 TX16 5
theorem nmX16 : ∀ a, a < 5 → ∀ b, b < 5 → a ≠ b → (TX16 a).2.1 ≠ (TX16 b).2.1 := by decide +kernel
theorem tyX16_ok : ∀ k, k < 5 → parseFieldDescriptor (TX16 k).2.2.1 = some (tyX16 k) := by decide +kernel
abbrev cX16_init : ByteArray := prog_8_method_1_code
def yX16_init : MethodName := ⟨RX16, "<init>", "(LTokenRing$Reader;III)V"⟩
def dkwX16_init_1 : List UInt8 := [180, 0, 17, 183, 0, 23, 177]
abbrev dktX16_init_1 : List UInt8 := dkwX16_init_1 ++ []
def dkwX16_init_0 : List UInt8 := [42, 43, 181, 0, 1, 42, 28, 181, 0, 7, 42, 29, 181, 0, 11, 42, 21, 4, 181, 0, 14, 42, 43]
abbrev dktX16_init_0 : List UInt8 := dkwX16_init_0 ++ dktX16_init_1
theorem dksX16_init_0 : cX16_init.data.toList.drop 0 = dktX16_init_0 := by decide +kernel
theorem dksX16_init_1 : cX16_init.data.toList.drop 23 = dktX16_init_1 := dk_seg dksX16_init_0 23 rfl rfl
theorem dX16_init_0 : decode cX16_init 0 = .ok (.aload_n 0, 1) := dk_42 (dk_at dksX16_init_0 0 rfl rfl)
theorem dX16_init_1 : decode cX16_init 1 = .ok (.aload_n 1, 1) := dk_43 (dk_at dksX16_init_0 1 rfl rfl)
theorem dX16_init_2 : decode cX16_init 2 = .ok (.putfield 1, 3) := dk_181 0 1 (dk_at dksX16_init_0 2 rfl rfl)
theorem dX16_init_5 : decode cX16_init 5 = .ok (.aload_n 0, 1) := dk_42 (dk_at dksX16_init_0 5 rfl rfl)
theorem dX16_init_6 : decode cX16_init 6 = .ok (.iload_n 2, 1) := dk_28 (dk_at dksX16_init_0 6 rfl rfl)
theorem dX16_init_7 : decode cX16_init 7 = .ok (.putfield 7, 3) := dk_181 0 7 (dk_at dksX16_init_0 7 rfl rfl)
theorem dX16_init_10 : decode cX16_init 10 = .ok (.aload_n 0, 1) := dk_42 (dk_at dksX16_init_0 10 rfl rfl)
theorem dX16_init_11 : decode cX16_init 11 = .ok (.iload_n 3, 1) := dk_29 (dk_at dksX16_init_0 11 rfl rfl)
theorem dX16_init_12 : decode cX16_init 12 = .ok (.putfield 11, 3) := dk_181 0 11 (dk_at dksX16_init_0 12 rfl rfl)
theorem dX16_init_15 : decode cX16_init 15 = .ok (.aload_n 0, 1) := dk_42 (dk_at dksX16_init_0 15 rfl rfl)
theorem dX16_init_16 : decode cX16_init 16 = .ok (.iload 4, 2) := dk_21 4 (dk_at dksX16_init_0 16 rfl rfl)
theorem dX16_init_18 : decode cX16_init 18 = .ok (.putfield 14, 3) := dk_181 0 14 (dk_at dksX16_init_0 18 rfl rfl)
theorem dX16_init_21 : decode cX16_init 21 = .ok (.aload_n 0, 1) := dk_42 (dk_at dksX16_init_0 21 rfl rfl)
theorem dX16_init_22 : decode cX16_init 22 = .ok (.aload_n 1, 1) := dk_43 (dk_at dksX16_init_0 22 rfl rfl)
theorem dX16_init_23 : decode cX16_init 23 = .ok (.getfield 17, 3) := dk_180 0 17 (dk_at dksX16_init_1 0 rfl rfl)
theorem dX16_init_26 : decode cX16_init 26 = .ok (.invokespecial 23, 3) := dk_183 0 23 (dk_at dksX16_init_1 3 rfl rfl)
theorem dX16_init_29 : decode cX16_init 29 = .ok (.return_, 1) := dk_177 (dk_at dksX16_init_1 6 rfl rfl)
abbrev cX16_does : ByteArray := prog_8_method_2_code
def yX16_does : MethodName := ⟨RX16, "does", "()V"⟩
def dkwX16_does_1 : List UInt8 := [177]
abbrev dktX16_does_1 : List UInt8 := dkwX16_does_1 ++ []
def dkwX16_does_0 : List UInt8 := [42, 180, 0, 1, 180, 0, 17, 42, 180, 0, 7, 42, 180, 0, 11, 42, 180, 0, 14, 4, 182, 0, 29, 87]
abbrev dktX16_does_0 : List UInt8 := dkwX16_does_0 ++ dktX16_does_1
theorem dksX16_does_0 : cX16_does.data.toList.drop 0 = dktX16_does_0 := by decide +kernel
theorem dksX16_does_1 : cX16_does.data.toList.drop 24 = dktX16_does_1 := dk_seg dksX16_does_0 24 rfl rfl
theorem dX16_does_0 : decode cX16_does 0 = .ok (.aload_n 0, 1) := dk_42 (dk_at dksX16_does_0 0 rfl rfl)
theorem dX16_does_1 : decode cX16_does 1 = .ok (.getfield 1, 3) := dk_180 0 1 (dk_at dksX16_does_0 1 rfl rfl)
theorem dX16_does_4 : decode cX16_does 4 = .ok (.getfield 17, 3) := dk_180 0 17 (dk_at dksX16_does_0 4 rfl rfl)
theorem dX16_does_7 : decode cX16_does 7 = .ok (.aload_n 0, 1) := dk_42 (dk_at dksX16_does_0 7 rfl rfl)
theorem dX16_does_8 : decode cX16_does 8 = .ok (.getfield 7, 3) := dk_180 0 7 (dk_at dksX16_does_0 8 rfl rfl)
theorem dX16_does_11 : decode cX16_does 11 = .ok (.aload_n 0, 1) := dk_42 (dk_at dksX16_does_0 11 rfl rfl)
theorem dX16_does_12 : decode cX16_does 12 = .ok (.getfield 11, 3) := dk_180 0 11 (dk_at dksX16_does_0 12 rfl rfl)
theorem dX16_does_15 : decode cX16_does 15 = .ok (.aload_n 0, 1) := dk_42 (dk_at dksX16_does_0 15 rfl rfl)
theorem dX16_does_16 : decode cX16_does 16 = .ok (.getfield 14, 3) := dk_180 0 14 (dk_at dksX16_does_0 16 rfl rfl)
theorem dX16_does_19 : decode cX16_does 19 = .ok (.iconst 1, 1) := dk_4 (dk_at dksX16_does_0 19 rfl rfl)
theorem dX16_does_20 : decode cX16_does 20 = .ok (.invokevirtual 29, 3) := dk_182 0 29 (dk_at dksX16_does_0 20 rfl rfl)
theorem dX16_does_23 : decode cX16_does 23 = .ok (.pop, 1) := dk_87 (dk_at dksX16_does_0 23 rfl rfl)
theorem dX16_does_24 : decode cX16_does 24 = .ok (.return_, 1) := dk_177 (dk_at dksX16_does_1 0 rfl rfl)
theorem q158 : (Jvm.Cond.initialized "TokenRing$Reader$3") ∈ lw_all := lw_g (lw_at lw_m1 64 rfl) rfl
theorem q1606 : (Jvm.Cond.selects "TokenRing$Reader$3" ({ cls := "java/lang/Object", name := "getClass", desc := "()Ljava/lang/Class;" } : Jvm.MethodName) ({ cls := "java/lang/Object", name := "getClass", desc := "()Ljava/lang/Class;" } : Jvm.MethodName)) ∈ lw_all := lw_g (lw_at lw_m7 72 rfl) rfl
theorem q2484 : (Jvm.Cond.fieldLink "TokenRing$Reader$3" (17 : Nat) "TokenRing$Reader" "this$0" "LTokenRing;") ∈ lw_all := lw_g (lw_at lw_m10 230 rfl) rfl
theorem q2617 : (Jvm.Cond.instantiable "TokenRing$Reader$3" (5 : Nat)) ∈ lw_all := lw_g (lw_at lw_m11 123 rfl) rfl
theorem q2619 : (Jvm.Cond.instanceMethod ({ cls := "TokenRing$Reader$3", name := "<init>", desc := "(LTokenRing$Reader;III)V" } : Jvm.MethodName)) ∈ lw_all := lw_g (lw_at lw_m11 125 rfl) rfl
theorem q2620 : (Jvm.Cond.code ({ cls := "TokenRing$Reader$3", name := "<init>", desc := "(LTokenRing$Reader;III)V" } : Jvm.MethodName) prog_8_method_1_code (5 : Nat) (Option.none : Option Jvm.ClassFile.FieldType)) ∈ lw_all := lw_g (lw_at lw_m11 126 rfl) rfl
theorem q2621 : (Jvm.Cond.methodLinkNest "TokenRing$Reader$3" (23 : Nat) ({ cls := "TokenRing$Order", name := "<init>", desc := "(LTokenRing;)V" } : Jvm.MethodName) "TokenRing") ∈ lw_tbl := lw_at lw_m11 127 rfl
theorem q2622 : (Jvm.Cond.fieldLink "TokenRing$Reader$3" (7 : Nat) "TokenRing$Reader$3" "val$from" "I") ∈ lw_all := lw_g (lw_at lw_m11 128 rfl) rfl
theorem q2623 : (Jvm.Cond.fieldLink "TokenRing$Reader$3" (11 : Nat) "TokenRing$Reader$3" "val$to" "I") ∈ lw_all := lw_g (lw_at lw_m11 129 rfl) rfl
theorem q2624 : (Jvm.Cond.fieldLink "TokenRing$Reader$3" (14 : Nat) "TokenRing$Reader$3" "val$rank" "I") ∈ lw_all := lw_g (lw_at lw_m11 130 rfl) rfl
theorem q2625 : (Jvm.Cond.fieldLink "TokenRing$Reader$3" (1 : Nat) "TokenRing$Reader$3" "this$1" "LTokenRing$Reader;") ∈ lw_all := lw_g (lw_at lw_m11 131 rfl) rfl
theorem q2626 : (Jvm.Cond.laysFinal "TokenRing$Reader$3" "TokenRing$Reader$3" "val$from" "I") ∈ lw_all := lw_g (lw_at lw_m11 132 rfl) rfl
theorem q2627 : (Jvm.Cond.soleField "TokenRing$Reader$3" "val$from") ∈ lw_all := lw_g (lw_at lw_m11 133 rfl) rfl
theorem q2628 : (Jvm.Cond.laysFinal "TokenRing$Reader$3" "TokenRing$Reader$3" "val$to" "I") ∈ lw_all := lw_g (lw_at lw_m11 134 rfl) rfl
theorem q2629 : (Jvm.Cond.soleField "TokenRing$Reader$3" "val$to") ∈ lw_all := lw_g (lw_at lw_m11 135 rfl) rfl
theorem q2630 : (Jvm.Cond.laysFinal "TokenRing$Reader$3" "TokenRing$Reader$3" "val$rank" "I") ∈ lw_all := lw_g (lw_at lw_m11 136 rfl) rfl
theorem q2631 : (Jvm.Cond.soleField "TokenRing$Reader$3" "val$rank") ∈ lw_all := lw_g (lw_at lw_m11 137 rfl) rfl
theorem q2632 : (Jvm.Cond.laysFinal "TokenRing$Reader$3" "TokenRing$Reader$3" "this$1" "LTokenRing$Reader;") ∈ lw_all := lw_g (lw_at lw_m11 138 rfl) rfl
theorem q2633 : (Jvm.Cond.soleField "TokenRing$Reader$3" "this$1") ∈ lw_all := lw_g (lw_at lw_m11 139 rfl) rfl
theorem q2634 : (Jvm.Cond.laysFinal "TokenRing$Reader$3" "TokenRing$Order" "this$0" "LTokenRing;") ∈ lw_all := lw_g (lw_at lw_m11 140 rfl) rfl
theorem q2635 : (Jvm.Cond.superclass "TokenRing$Reader$3" "TokenRing$Order") ∈ lw_all := lw_g (lw_at lw_m11 141 rfl) rfl
theorem q2704 : (Jvm.Cond.selects "TokenRing$Reader$3" ({ cls := "TokenRing$Order", name := "does", desc := "()V" } : Jvm.MethodName) ({ cls := "TokenRing$Reader$3", name := "does", desc := "()V" } : Jvm.MethodName)) ∈ lw_all := lw_g (lw_at lw_m11 210 rfl) rfl
theorem q2705 : (Jvm.Cond.instanceMethod ({ cls := "TokenRing$Reader$3", name := "does", desc := "()V" } : Jvm.MethodName)) ∈ lw_all := lw_g (lw_at lw_m11 211 rfl) rfl
theorem q2706 : (Jvm.Cond.code ({ cls := "TokenRing$Reader$3", name := "does", desc := "()V" } : Jvm.MethodName) prog_8_method_2_code (1 : Nat) (Option.none : Option Jvm.ClassFile.FieldType)) ∈ lw_all := lw_g (lw_at lw_m11 212 rfl) rfl
theorem q2707 : (Jvm.Cond.methodLink "TokenRing$Reader$3" (29 : Nat) ({ cls := "TokenRing", name := "queue", desc := "(IIII)I" } : Jvm.MethodName)) ∈ lw_all := lw_g (lw_at lw_m11 213 rfl) rfl
theorem q3307 : (Jvm.Cond.castable "TokenRing$Reader$3" "TokenRing$Order") ∈ lw_tbl := lw_at lw_m14 93 rfl
theorem q3349 : (Jvm.Cond.castable "TokenRing$Reader$3" "java/lang/Object") ∈ lw_tbl := lw_at lw_m14 135 rfl
theorem in_X16 : ∀ w ∈ wsX160, w ∈ lw_all := lw_in wsX160 [2634, 2626, 2628, 2630, 2632] (by decide +kernel) (by decide +kernel)
/-! TokenRing$Reader$4 -/
set_option maxRecDepth 100000
def RX17 : String := "TokenRing$Reader$4"
def TX17 : u_T := fun k => match k with
  | 0 => ("TokenRing$Order", "this$0", "LTokenRing;", true)
  | 1 => ("TokenRing$Reader$4", "val$address", "I", true)
  | _ => ("TokenRing$Reader$4", "this$1", "LTokenRing$Reader;", true)
def tyX17 : Nat → FieldType := fun k => match k with
  | 0 => .object "TokenRing"
  | 1 => .int
  | _ => .object "TokenRing$Reader"
abbrev wsX170 : List Cond := u_ws RX17 TX17 3
theorem nmX17 : ∀ a, a < 3 → ∀ b, b < 3 → a ≠ b → (TX17 a).2.1 ≠ (TX17 b).2.1 := by decide +kernel
theorem tyX17_ok : ∀ k, k < 3 → parseFieldDescriptor (TX17 k).2.2.1 = some (tyX17 k) := by decide +kernel
abbrev cX17_init : ByteArray := prog_9_method_1_code
def yX17_init : MethodName := ⟨RX17, "<init>", "(LTokenRing$Reader;I)V"⟩
def dkwX17_init_0 : List UInt8 := [42, 43, 181, 0, 1, 42, 28, 181, 0, 7, 42, 43, 180, 0, 11, 183, 0, 17, 177]
abbrev dktX17_init_0 : List UInt8 := dkwX17_init_0 ++ []
theorem dksX17_init_0 : cX17_init.data.toList.drop 0 = dktX17_init_0 := by decide +kernel
theorem dX17_init_0 : decode cX17_init 0 = .ok (.aload_n 0, 1) := dk_42 (dk_at dksX17_init_0 0 rfl rfl)
theorem dX17_init_1 : decode cX17_init 1 = .ok (.aload_n 1, 1) := dk_43 (dk_at dksX17_init_0 1 rfl rfl)
theorem dX17_init_2 : decode cX17_init 2 = .ok (.putfield 1, 3) := dk_181 0 1 (dk_at dksX17_init_0 2 rfl rfl)
theorem dX17_init_5 : decode cX17_init 5 = .ok (.aload_n 0, 1) := dk_42 (dk_at dksX17_init_0 5 rfl rfl)
theorem dX17_init_6 : decode cX17_init 6 = .ok (.iload_n 2, 1) := dk_28 (dk_at dksX17_init_0 6 rfl rfl)
theorem dX17_init_7 : decode cX17_init 7 = .ok (.putfield 7, 3) := dk_181 0 7 (dk_at dksX17_init_0 7 rfl rfl)
theorem dX17_init_10 : decode cX17_init 10 = .ok (.aload_n 0, 1) := dk_42 (dk_at dksX17_init_0 10 rfl rfl)
theorem dX17_init_11 : decode cX17_init 11 = .ok (.aload_n 1, 1) := dk_43 (dk_at dksX17_init_0 11 rfl rfl)
theorem dX17_init_12 : decode cX17_init 12 = .ok (.getfield 11, 3) := dk_180 0 11 (dk_at dksX17_init_0 12 rfl rfl)
theorem dX17_init_15 : decode cX17_init 15 = .ok (.invokespecial 17, 3) := dk_183 0 17 (dk_at dksX17_init_0 15 rfl rfl)
theorem dX17_init_18 : decode cX17_init 18 = .ok (.return_, 1) := dk_177 (dk_at dksX17_init_0 18 rfl rfl)
abbrev cX17_does : ByteArray := prog_9_method_2_code
def yX17_does : MethodName := ⟨RX17, "does", "()V"⟩
def dkwX17_does_0 : List UInt8 := [42, 180, 0, 1, 180, 0, 11, 42, 180, 0, 7, 182, 0, 23, 87, 177]
abbrev dktX17_does_0 : List UInt8 := dkwX17_does_0 ++ []
theorem dksX17_does_0 : cX17_does.data.toList.drop 0 = dktX17_does_0 := by decide +kernel
theorem dX17_does_0 : decode cX17_does 0 = .ok (.aload_n 0, 1) := dk_42 (dk_at dksX17_does_0 0 rfl rfl)
theorem dX17_does_1 : decode cX17_does 1 = .ok (.getfield 1, 3) := dk_180 0 1 (dk_at dksX17_does_0 1 rfl rfl)
theorem dX17_does_4 : decode cX17_does 4 = .ok (.getfield 11, 3) := dk_180 0 11 (dk_at dksX17_does_0 4 rfl rfl)
theorem dX17_does_7 : decode cX17_does 7 = .ok (.aload_n 0, 1) := dk_42 (dk_at dksX17_does_0 7 rfl rfl)
theorem dX17_does_8 : decode cX17_does 8 = .ok (.getfield 7, 3) := dk_180 0 7 (dk_at dksX17_does_0 8 rfl rfl)
theorem dX17_does_11 : decode cX17_does 11 = .ok (.invokevirtual 23, 3) := dk_182 0 23 (dk_at dksX17_does_0 11 rfl rfl)
theorem dX17_does_14 : decode cX17_does 14 = .ok (.pop, 1) := dk_87 (dk_at dksX17_does_0 14 rfl rfl)
theorem dX17_does_15 : decode cX17_does 15 = .ok (.return_, 1) := dk_177 (dk_at dksX17_does_0 15 rfl rfl)
theorem q159 : (Jvm.Cond.initialized "TokenRing$Reader$4") ∈ lw_all := lw_g (lw_at lw_m1 65 rfl) rfl
theorem q1607 : (Jvm.Cond.selects "TokenRing$Reader$4" ({ cls := "java/lang/Object", name := "getClass", desc := "()Ljava/lang/Class;" } : Jvm.MethodName) ({ cls := "java/lang/Object", name := "getClass", desc := "()Ljava/lang/Class;" } : Jvm.MethodName)) ∈ lw_all := lw_g (lw_at lw_m7 73 rfl) rfl
theorem q2482 : (Jvm.Cond.fieldLink "TokenRing$Reader$4" (11 : Nat) "TokenRing$Reader" "this$0" "LTokenRing;") ∈ lw_all := lw_g (lw_at lw_m10 228 rfl) rfl
theorem q2641 : (Jvm.Cond.instantiable "TokenRing$Reader$4" (3 : Nat)) ∈ lw_all := lw_g (lw_at lw_m11 147 rfl) rfl
theorem q2643 : (Jvm.Cond.instanceMethod ({ cls := "TokenRing$Reader$4", name := "<init>", desc := "(LTokenRing$Reader;I)V" } : Jvm.MethodName)) ∈ lw_all := lw_g (lw_at lw_m11 149 rfl) rfl
theorem q2644 : (Jvm.Cond.code ({ cls := "TokenRing$Reader$4", name := "<init>", desc := "(LTokenRing$Reader;I)V" } : Jvm.MethodName) prog_9_method_1_code (3 : Nat) (Option.none : Option Jvm.ClassFile.FieldType)) ∈ lw_all := lw_g (lw_at lw_m11 150 rfl) rfl
theorem q2645 : (Jvm.Cond.methodLinkNest "TokenRing$Reader$4" (17 : Nat) ({ cls := "TokenRing$Order", name := "<init>", desc := "(LTokenRing;)V" } : Jvm.MethodName) "TokenRing") ∈ lw_tbl := lw_at lw_m11 151 rfl
theorem q2646 : (Jvm.Cond.fieldLink "TokenRing$Reader$4" (7 : Nat) "TokenRing$Reader$4" "val$address" "I") ∈ lw_all := lw_g (lw_at lw_m11 152 rfl) rfl
theorem q2647 : (Jvm.Cond.fieldLink "TokenRing$Reader$4" (1 : Nat) "TokenRing$Reader$4" "this$1" "LTokenRing$Reader;") ∈ lw_all := lw_g (lw_at lw_m11 153 rfl) rfl
theorem q2648 : (Jvm.Cond.laysFinal "TokenRing$Reader$4" "TokenRing$Reader$4" "val$address" "I") ∈ lw_all := lw_g (lw_at lw_m11 154 rfl) rfl
theorem q2649 : (Jvm.Cond.soleField "TokenRing$Reader$4" "val$address") ∈ lw_all := lw_g (lw_at lw_m11 155 rfl) rfl
theorem q2650 : (Jvm.Cond.laysFinal "TokenRing$Reader$4" "TokenRing$Reader$4" "this$1" "LTokenRing$Reader;") ∈ lw_all := lw_g (lw_at lw_m11 156 rfl) rfl
theorem q2651 : (Jvm.Cond.soleField "TokenRing$Reader$4" "this$1") ∈ lw_all := lw_g (lw_at lw_m11 157 rfl) rfl
theorem q2652 : (Jvm.Cond.laysFinal "TokenRing$Reader$4" "TokenRing$Order" "this$0" "LTokenRing;") ∈ lw_all := lw_g (lw_at lw_m11 158 rfl) rfl
theorem q2653 : (Jvm.Cond.superclass "TokenRing$Reader$4" "TokenRing$Order") ∈ lw_all := lw_g (lw_at lw_m11 159 rfl) rfl
theorem q2708 : (Jvm.Cond.selects "TokenRing$Reader$4" ({ cls := "TokenRing$Order", name := "does", desc := "()V" } : Jvm.MethodName) ({ cls := "TokenRing$Reader$4", name := "does", desc := "()V" } : Jvm.MethodName)) ∈ lw_all := lw_g (lw_at lw_m11 214 rfl) rfl
theorem q2709 : (Jvm.Cond.instanceMethod ({ cls := "TokenRing$Reader$4", name := "does", desc := "()V" } : Jvm.MethodName)) ∈ lw_all := lw_g (lw_at lw_m11 215 rfl) rfl
theorem q2710 : (Jvm.Cond.code ({ cls := "TokenRing$Reader$4", name := "does", desc := "()V" } : Jvm.MethodName) prog_9_method_2_code (1 : Nat) (Option.none : Option Jvm.ClassFile.FieldType)) ∈ lw_all := lw_g (lw_at lw_m11 216 rfl) rfl
theorem q2711 : (Jvm.Cond.methodLink "TokenRing$Reader$4" (23 : Nat) ({ cls := "TokenRing", name := "monitor", desc := "(I)I" } : Jvm.MethodName)) ∈ lw_all := lw_g (lw_at lw_m11 217 rfl) rfl
theorem q3308 : (Jvm.Cond.castable "TokenRing$Reader$4" "TokenRing$Order") ∈ lw_tbl := lw_at lw_m14 94 rfl
theorem q3350 : (Jvm.Cond.castable "TokenRing$Reader$4" "java/lang/Object") ∈ lw_tbl := lw_at lw_m14 136 rfl
theorem in_X17 : ∀ w ∈ wsX170, w ∈ lw_all := lw_in wsX170 [2652, 2648, 2650] (by decide +kernel) (by decide +kernel)
/-! TokenRing$Reader$5 -/
set_option maxRecDepth 100000
def RX18 : String := "TokenRing$Reader$5"
def TX18 : u_T := fun k => match k with
  | 0 => ("TokenRing$Order", "this$0", "LTokenRing;", true)
  | 1 => ("TokenRing$Reader$5", "val$ticks", "I", true)
  | _ => ("TokenRing$Reader$5", "this$1", "LTokenRing$Reader;", true)
def tyX18 : Nat → FieldType := fun k => match k with
  | 0 => .object "TokenRing"
  | 1 => .int
  | _ => .object "TokenRing$Reader"
abbrev wsX180 : List Cond := u_ws RX18 TX18 3
theorem nmX18 : ∀ a, a < 3 → ∀ b, b < 3 → a ≠ b → (TX18 a).2.1 ≠ (TX18 b).2.1 := by decide +kernel
theorem tyX18_ok : ∀ k, k < 3 → parseFieldDescriptor (TX18 k).2.2.1 = some (tyX18 k) := by decide +kernel
abbrev cX18_init : ByteArray := prog_10_method_1_code
def yX18_init : MethodName := ⟨RX18, "<init>", "(LTokenRing$Reader;I)V"⟩
def dkwX18_init_0 : List UInt8 := [42, 43, 181, 0, 1, 42, 28, 181, 0, 7, 42, 43, 180, 0, 11, 183, 0, 17, 177]
abbrev dktX18_init_0 : List UInt8 := dkwX18_init_0 ++ []
theorem dksX18_init_0 : cX18_init.data.toList.drop 0 = dktX18_init_0 := by decide +kernel
theorem dX18_init_0 : decode cX18_init 0 = .ok (.aload_n 0, 1) := dk_42 (dk_at dksX18_init_0 0 rfl rfl)
theorem dX18_init_1 : decode cX18_init 1 = .ok (.aload_n 1, 1) := dk_43 (dk_at dksX18_init_0 1 rfl rfl)
theorem dX18_init_2 : decode cX18_init 2 = .ok (.putfield 1, 3) := dk_181 0 1 (dk_at dksX18_init_0 2 rfl rfl)
theorem dX18_init_5 : decode cX18_init 5 = .ok (.aload_n 0, 1) := dk_42 (dk_at dksX18_init_0 5 rfl rfl)
theorem dX18_init_6 : decode cX18_init 6 = .ok (.iload_n 2, 1) := dk_28 (dk_at dksX18_init_0 6 rfl rfl)
theorem dX18_init_7 : decode cX18_init 7 = .ok (.putfield 7, 3) := dk_181 0 7 (dk_at dksX18_init_0 7 rfl rfl)
theorem dX18_init_10 : decode cX18_init 10 = .ok (.aload_n 0, 1) := dk_42 (dk_at dksX18_init_0 10 rfl rfl)
theorem dX18_init_11 : decode cX18_init 11 = .ok (.aload_n 1, 1) := dk_43 (dk_at dksX18_init_0 11 rfl rfl)
theorem dX18_init_12 : decode cX18_init 12 = .ok (.getfield 11, 3) := dk_180 0 11 (dk_at dksX18_init_0 12 rfl rfl)
theorem dX18_init_15 : decode cX18_init 15 = .ok (.invokespecial 17, 3) := dk_183 0 17 (dk_at dksX18_init_0 15 rfl rfl)
theorem dX18_init_18 : decode cX18_init 18 = .ok (.return_, 1) := dk_177 (dk_at dksX18_init_0 18 rfl rfl)
abbrev cX18_does : ByteArray := prog_10_method_2_code
def yX18_does : MethodName := ⟨RX18, "does", "()V"⟩
def dkwX18_does_0 : List UInt8 := [42, 180, 0, 1, 180, 0, 11, 42, 180, 0, 7, 182, 0, 23, 87, 177]
abbrev dktX18_does_0 : List UInt8 := dkwX18_does_0 ++ []
theorem dksX18_does_0 : cX18_does.data.toList.drop 0 = dktX18_does_0 := by decide +kernel
theorem dX18_does_0 : decode cX18_does 0 = .ok (.aload_n 0, 1) := dk_42 (dk_at dksX18_does_0 0 rfl rfl)
theorem dX18_does_1 : decode cX18_does 1 = .ok (.getfield 1, 3) := dk_180 0 1 (dk_at dksX18_does_0 1 rfl rfl)
theorem dX18_does_4 : decode cX18_does 4 = .ok (.getfield 11, 3) := dk_180 0 11 (dk_at dksX18_does_0 4 rfl rfl)
theorem dX18_does_7 : decode cX18_does 7 = .ok (.aload_n 0, 1) := dk_42 (dk_at dksX18_does_0 7 rfl rfl)
theorem dX18_does_8 : decode cX18_does 8 = .ok (.getfield 7, 3) := dk_180 0 7 (dk_at dksX18_does_0 8 rfl rfl)
theorem dX18_does_11 : decode cX18_does 11 = .ok (.invokevirtual 23, 3) := dk_182 0 23 (dk_at dksX18_does_0 11 rfl rfl)
theorem dX18_does_14 : decode cX18_does 14 = .ok (.pop, 1) := dk_87 (dk_at dksX18_does_0 14 rfl rfl)
theorem dX18_does_15 : decode cX18_does 15 = .ok (.return_, 1) := dk_177 (dk_at dksX18_does_0 15 rfl rfl)
theorem q160 : (Jvm.Cond.initialized "TokenRing$Reader$5") ∈ lw_all := lw_g (lw_at lw_m1 66 rfl) rfl
theorem q1608 : (Jvm.Cond.selects "TokenRing$Reader$5" ({ cls := "java/lang/Object", name := "getClass", desc := "()Ljava/lang/Class;" } : Jvm.MethodName) ({ cls := "java/lang/Object", name := "getClass", desc := "()Ljava/lang/Class;" } : Jvm.MethodName)) ∈ lw_all := lw_g (lw_at lw_m7 74 rfl) rfl
theorem q2483 : (Jvm.Cond.fieldLink "TokenRing$Reader$5" (11 : Nat) "TokenRing$Reader" "this$0" "LTokenRing;") ∈ lw_all := lw_g (lw_at lw_m10 229 rfl) rfl
theorem q2659 : (Jvm.Cond.instantiable "TokenRing$Reader$5" (3 : Nat)) ∈ lw_all := lw_g (lw_at lw_m11 165 rfl) rfl
theorem q2661 : (Jvm.Cond.instanceMethod ({ cls := "TokenRing$Reader$5", name := "<init>", desc := "(LTokenRing$Reader;I)V" } : Jvm.MethodName)) ∈ lw_all := lw_g (lw_at lw_m11 167 rfl) rfl
theorem q2662 : (Jvm.Cond.code ({ cls := "TokenRing$Reader$5", name := "<init>", desc := "(LTokenRing$Reader;I)V" } : Jvm.MethodName) prog_10_method_1_code (3 : Nat) (Option.none : Option Jvm.ClassFile.FieldType)) ∈ lw_all := lw_g (lw_at lw_m11 168 rfl) rfl
theorem q2663 : (Jvm.Cond.methodLinkNest "TokenRing$Reader$5" (17 : Nat) ({ cls := "TokenRing$Order", name := "<init>", desc := "(LTokenRing;)V" } : Jvm.MethodName) "TokenRing") ∈ lw_tbl := lw_at lw_m11 169 rfl
theorem q2664 : (Jvm.Cond.fieldLink "TokenRing$Reader$5" (7 : Nat) "TokenRing$Reader$5" "val$ticks" "I") ∈ lw_all := lw_g (lw_at lw_m11 170 rfl) rfl
theorem q2665 : (Jvm.Cond.fieldLink "TokenRing$Reader$5" (1 : Nat) "TokenRing$Reader$5" "this$1" "LTokenRing$Reader;") ∈ lw_all := lw_g (lw_at lw_m11 171 rfl) rfl
theorem q2666 : (Jvm.Cond.laysFinal "TokenRing$Reader$5" "TokenRing$Reader$5" "val$ticks" "I") ∈ lw_all := lw_g (lw_at lw_m11 172 rfl) rfl
theorem q2667 : (Jvm.Cond.soleField "TokenRing$Reader$5" "val$ticks") ∈ lw_all := lw_g (lw_at lw_m11 173 rfl) rfl
theorem q2668 : (Jvm.Cond.laysFinal "TokenRing$Reader$5" "TokenRing$Reader$5" "this$1" "LTokenRing$Reader;") ∈ lw_all := lw_g (lw_at lw_m11 174 rfl) rfl
theorem q2669 : (Jvm.Cond.soleField "TokenRing$Reader$5" "this$1") ∈ lw_all := lw_g (lw_at lw_m11 175 rfl) rfl
theorem q2670 : (Jvm.Cond.laysFinal "TokenRing$Reader$5" "TokenRing$Order" "this$0" "LTokenRing;") ∈ lw_all := lw_g (lw_at lw_m11 176 rfl) rfl
theorem q2671 : (Jvm.Cond.superclass "TokenRing$Reader$5" "TokenRing$Order") ∈ lw_all := lw_g (lw_at lw_m11 177 rfl) rfl
theorem q2712 : (Jvm.Cond.selects "TokenRing$Reader$5" ({ cls := "TokenRing$Order", name := "does", desc := "()V" } : Jvm.MethodName) ({ cls := "TokenRing$Reader$5", name := "does", desc := "()V" } : Jvm.MethodName)) ∈ lw_all := lw_g (lw_at lw_m11 218 rfl) rfl
theorem q2713 : (Jvm.Cond.instanceMethod ({ cls := "TokenRing$Reader$5", name := "does", desc := "()V" } : Jvm.MethodName)) ∈ lw_all := lw_g (lw_at lw_m11 219 rfl) rfl
theorem q2714 : (Jvm.Cond.code ({ cls := "TokenRing$Reader$5", name := "does", desc := "()V" } : Jvm.MethodName) prog_10_method_2_code (1 : Nat) (Option.none : Option Jvm.ClassFile.FieldType)) ∈ lw_all := lw_g (lw_at lw_m11 220 rfl) rfl
theorem q2715 : (Jvm.Cond.methodLink "TokenRing$Reader$5" (23 : Nat) ({ cls := "TokenRing", name := "tick", desc := "(I)I" } : Jvm.MethodName)) ∈ lw_all := lw_g (lw_at lw_m11 221 rfl) rfl
theorem q3309 : (Jvm.Cond.castable "TokenRing$Reader$5" "TokenRing$Order") ∈ lw_tbl := lw_at lw_m14 95 rfl
theorem q3351 : (Jvm.Cond.castable "TokenRing$Reader$5" "java/lang/Object") ∈ lw_tbl := lw_at lw_m14 137 rfl
theorem in_X18 : ∀ w ∈ wsX180, w ∈ lw_all := lw_in wsX180 [2670, 2666, 2668] (by decide +kernel) (by decide +kernel)
/-! TokenRing$Reader$6 -/
set_option maxRecDepth 100000
def RX19 : String := "TokenRing$Reader$6"
def TX19 : u_T := fun k => match k with
  | 0 => ("TokenRing$Order", "this$0", "LTokenRing;", true)
  | _ => ("TokenRing$Reader$6", "this$1", "LTokenRing$Reader;", true)
def tyX19 : Nat → FieldType := fun k => match k with
  | 0 => .object "TokenRing"
  | _ => .object "TokenRing$Reader"
abbrev wsX190 : List Cond := u_ws RX19 TX19 2
theorem nmX19 : ∀ a, a < 2 → ∀ b, b < 2 → a ≠ b → (TX19 a).2.1 ≠ (TX19 b).2.1 := by decide +kernel
theorem tyX19_ok : ∀ k, k < 2 → parseFieldDescriptor (TX19 k).2.2.1 = some (tyX19 k) := by decide +kernel
abbrev cX19_init : ByteArray := prog_11_method_1_code
def yX19_init : MethodName := ⟨RX19, "<init>", "(LTokenRing$Reader;)V"⟩
def dkwX19_init_0 : List UInt8 := [42, 43, 181, 0, 1, 42, 43, 180, 0, 7, 183, 0, 13, 177]
abbrev dktX19_init_0 : List UInt8 := dkwX19_init_0 ++ []
theorem dksX19_init_0 : cX19_init.data.toList.drop 0 = dktX19_init_0 := by decide +kernel
theorem dX19_init_0 : decode cX19_init 0 = .ok (.aload_n 0, 1) := dk_42 (dk_at dksX19_init_0 0 rfl rfl)
theorem dX19_init_1 : decode cX19_init 1 = .ok (.aload_n 1, 1) := dk_43 (dk_at dksX19_init_0 1 rfl rfl)
theorem dX19_init_2 : decode cX19_init 2 = .ok (.putfield 1, 3) := dk_181 0 1 (dk_at dksX19_init_0 2 rfl rfl)
theorem dX19_init_5 : decode cX19_init 5 = .ok (.aload_n 0, 1) := dk_42 (dk_at dksX19_init_0 5 rfl rfl)
theorem dX19_init_6 : decode cX19_init 6 = .ok (.aload_n 1, 1) := dk_43 (dk_at dksX19_init_0 6 rfl rfl)
theorem dX19_init_7 : decode cX19_init 7 = .ok (.getfield 7, 3) := dk_180 0 7 (dk_at dksX19_init_0 7 rfl rfl)
theorem dX19_init_10 : decode cX19_init 10 = .ok (.invokespecial 13, 3) := dk_183 0 13 (dk_at dksX19_init_0 10 rfl rfl)
theorem dX19_init_13 : decode cX19_init 13 = .ok (.return_, 1) := dk_177 (dk_at dksX19_init_0 13 rfl rfl)
abbrev cX19_does : ByteArray := prog_11_method_2_code
def yX19_does : MethodName := ⟨RX19, "does", "()V"⟩
def dkwX19_does_0 : List UInt8 := [42, 180, 0, 1, 180, 0, 7, 182, 0, 19, 87, 177]
abbrev dktX19_does_0 : List UInt8 := dkwX19_does_0 ++ []
theorem dksX19_does_0 : cX19_does.data.toList.drop 0 = dktX19_does_0 := by decide +kernel
theorem dX19_does_0 : decode cX19_does 0 = .ok (.aload_n 0, 1) := dk_42 (dk_at dksX19_does_0 0 rfl rfl)
theorem dX19_does_1 : decode cX19_does 1 = .ok (.getfield 1, 3) := dk_180 0 1 (dk_at dksX19_does_0 1 rfl rfl)
theorem dX19_does_4 : decode cX19_does 4 = .ok (.getfield 7, 3) := dk_180 0 7 (dk_at dksX19_does_0 4 rfl rfl)
theorem dX19_does_7 : decode cX19_does 7 = .ok (.invokevirtual 19, 3) := dk_182 0 19 (dk_at dksX19_does_0 7 rfl rfl)
theorem dX19_does_10 : decode cX19_does 10 = .ok (.pop, 1) := dk_87 (dk_at dksX19_does_0 10 rfl rfl)
theorem dX19_does_11 : decode cX19_does 11 = .ok (.return_, 1) := dk_177 (dk_at dksX19_does_0 11 rfl rfl)
theorem q161 : (Jvm.Cond.initialized "TokenRing$Reader$6") ∈ lw_all := lw_g (lw_at lw_m1 67 rfl) rfl
theorem q1609 : (Jvm.Cond.selects "TokenRing$Reader$6" ({ cls := "java/lang/Object", name := "getClass", desc := "()Ljava/lang/Class;" } : Jvm.MethodName) ({ cls := "java/lang/Object", name := "getClass", desc := "()Ljava/lang/Class;" } : Jvm.MethodName)) ∈ lw_all := lw_g (lw_at lw_m7 75 rfl) rfl
theorem q2479 : (Jvm.Cond.fieldLink "TokenRing$Reader$6" (7 : Nat) "TokenRing$Reader" "this$0" "LTokenRing;") ∈ lw_all := lw_g (lw_at lw_m10 225 rfl) rfl
theorem q2677 : (Jvm.Cond.instantiable "TokenRing$Reader$6" (2 : Nat)) ∈ lw_all := lw_g (lw_at lw_m11 183 rfl) rfl
theorem q2679 : (Jvm.Cond.instanceMethod ({ cls := "TokenRing$Reader$6", name := "<init>", desc := "(LTokenRing$Reader;)V" } : Jvm.MethodName)) ∈ lw_all := lw_g (lw_at lw_m11 185 rfl) rfl
theorem q2680 : (Jvm.Cond.code ({ cls := "TokenRing$Reader$6", name := "<init>", desc := "(LTokenRing$Reader;)V" } : Jvm.MethodName) prog_11_method_1_code (2 : Nat) (Option.none : Option Jvm.ClassFile.FieldType)) ∈ lw_all := lw_g (lw_at lw_m11 186 rfl) rfl
theorem q2681 : (Jvm.Cond.methodLinkNest "TokenRing$Reader$6" (13 : Nat) ({ cls := "TokenRing$Order", name := "<init>", desc := "(LTokenRing;)V" } : Jvm.MethodName) "TokenRing") ∈ lw_tbl := lw_at lw_m11 187 rfl
theorem q2682 : (Jvm.Cond.fieldLink "TokenRing$Reader$6" (1 : Nat) "TokenRing$Reader$6" "this$1" "LTokenRing$Reader;") ∈ lw_all := lw_g (lw_at lw_m11 188 rfl) rfl
theorem q2683 : (Jvm.Cond.laysFinal "TokenRing$Reader$6" "TokenRing$Reader$6" "this$1" "LTokenRing$Reader;") ∈ lw_all := lw_g (lw_at lw_m11 189 rfl) rfl
theorem q2684 : (Jvm.Cond.soleField "TokenRing$Reader$6" "this$1") ∈ lw_all := lw_g (lw_at lw_m11 190 rfl) rfl
theorem q2685 : (Jvm.Cond.laysFinal "TokenRing$Reader$6" "TokenRing$Order" "this$0" "LTokenRing;") ∈ lw_all := lw_g (lw_at lw_m11 191 rfl) rfl
theorem q2686 : (Jvm.Cond.superclass "TokenRing$Reader$6" "TokenRing$Order") ∈ lw_all := lw_g (lw_at lw_m11 192 rfl) rfl
theorem q2716 : (Jvm.Cond.selects "TokenRing$Reader$6" ({ cls := "TokenRing$Order", name := "does", desc := "()V" } : Jvm.MethodName) ({ cls := "TokenRing$Reader$6", name := "does", desc := "()V" } : Jvm.MethodName)) ∈ lw_all := lw_g (lw_at lw_m11 222 rfl) rfl
theorem q2717 : (Jvm.Cond.instanceMethod ({ cls := "TokenRing$Reader$6", name := "does", desc := "()V" } : Jvm.MethodName)) ∈ lw_all := lw_g (lw_at lw_m11 223 rfl) rfl
theorem q2718 : (Jvm.Cond.code ({ cls := "TokenRing$Reader$6", name := "does", desc := "()V" } : Jvm.MethodName) prog_11_method_2_code (1 : Nat) (Option.none : Option Jvm.ClassFile.FieldType)) ∈ lw_all := lw_g (lw_at lw_m11 224 rfl) rfl
theorem q2719 : (Jvm.Cond.methodLink "TokenRing$Reader$6" (19 : Nat) ({ cls := "TokenRing", name := "lose", desc := "()I" } : Jvm.MethodName)) ∈ lw_all := lw_g (lw_at lw_m11 225 rfl) rfl
theorem q3310 : (Jvm.Cond.castable "TokenRing$Reader$6" "TokenRing$Order") ∈ lw_tbl := lw_at lw_m14 96 rfl
theorem q3352 : (Jvm.Cond.castable "TokenRing$Reader$6" "java/lang/Object") ∈ lw_tbl := lw_at lw_m14 138 rfl
theorem in_X19 : ∀ w ∈ wsX190, w ∈ lw_all := lw_in wsX190 [2685, 2683] (by decide +kernel) (by decide +kernel)
/-! TokenRing$State -/
set_option maxRecDepth 100000
def RX2 : String := "TokenRing$State"
def TX2 : u_T := fun k => match k with
  | 0 => ("TokenRing$State", "stations", "Ljava/util/TreeMap;", true)
  | 1 => ("TokenRing$State", "kind", "I", false)
  | 2 => ("TokenRing$State", "at", "I", false)
  | 3 => ("TokenRing$State", "tokenRank", "I", false)
  | 4 => ("TokenRing$State", "tokenPasses", "I", false)
  | 5 => ("TokenRing$State", "ride", "LTokenRing$Ride;", false)
  | 6 => ("TokenRing$State", "monitor", "I", false)
  | 7 => ("TokenRing$State", "silence", "I", false)
  | 8 => ("TokenRing$State", "ticks", "I", false)
  | 9 => ("TokenRing$State", "came", "I", false)
  | 10 => ("TokenRing$State", "put", "I", false)
  | 11 => ("TokenRing$State", "received", "I", false)
  | 12 => ("TokenRing$State", "returned", "I", false)
  | 13 => ("TokenRing$State", "orphans", "I", false)
  | 14 => ("TokenRing$State", "lostOnRing", "I", false)
  | 15 => ("TokenRing$State", "lostInQueues", "I", false)
  | 16 => ("TokenRing$State", "dropped", "I", false)
  | 17 => ("TokenRing$State", "lengths", "I", false)
  | 18 => ("TokenRing$State", "delays", "I", false)
  | 19 => ("TokenRing$State", "greatestDelay", "I", false)
  | 20 => ("TokenRing$State", "purges", "I", false)
  | 21 => ("TokenRing$State", "claims", "I", false)
  | 22 => ("TokenRing$State", "tokensLost", "I", false)
  | 23 => ("TokenRing$State", "watched", "I", false)
  | _ => ("TokenRing$State", "isSeen", "Z", false)
def tyX2 : Nat → FieldType := fun k => match k with
  | 0 => .object "java/util/TreeMap"
  | 1 => .int
  | 2 => .int
  | 3 => .int
  | 4 => .int
  | 5 => .object "TokenRing$Ride"
  | 6 => .int
  | 7 => .int
  | 8 => .int
  | 9 => .int
  | 10 => .int
  | 11 => .int
  | 12 => .int
  | 13 => .int
  | 14 => .int
  | 15 => .int
  | 16 => .int
  | 17 => .int
  | 18 => .int
  | 19 => .int
  | 20 => .int
  | 21 => .int
  | 22 => .int
  | 23 => .int
  | _ => .boolean
abbrev wsX20 : List Cond := u_ws RX2 TX2 25
set_option maxRecDepth 100000 in
theorem nmX2 : ∀ a, a < 25 → ∀ b, b < 25 → a ≠ b → (TX2 a).2.1 ≠ (TX2 b).2.1 := by decide +kernel
set_option maxRecDepth 100000 in
theorem tyX2_ok : ∀ k, k < 25 → parseFieldDescriptor (TX2 k).2.2.1 = some (tyX2 k) := by decide +kernel
abbrev cX2_init : ByteArray := prog_14_method_1_code
def yX2_init : MethodName := ⟨RX2, "<init>", "()V"⟩
def dkwX2_init_1 : List UInt8 := [181, 0, 22, 42, 2, 181, 0, 25, 177]
abbrev dktX2_init_1 : List UInt8 := dkwX2_init_1 ++ []
def dkwX2_init_0 : List UInt8 := [42, 183, 0, 3, 42, 187, 0, 9, 89, 183, 0, 11, 181, 0, 12, 42, 2, 181, 0, 18, 42, 2]
abbrev dktX2_init_0 : List UInt8 := dkwX2_init_0 ++ dktX2_init_1
theorem dksX2_init_0 : cX2_init.data.toList.drop 0 = dktX2_init_0 := by decide +kernel
theorem dksX2_init_1 : cX2_init.data.toList.drop 22 = dktX2_init_1 := dk_seg dksX2_init_0 22 rfl rfl
theorem dX2_init_0 : decode cX2_init 0 = .ok (.aload_n 0, 1) := dk_42 (dk_at dksX2_init_0 0 rfl rfl)
theorem dX2_init_1 : decode cX2_init 1 = .ok (.invokespecial 3, 3) := dk_183 0 3 (dk_at dksX2_init_0 1 rfl rfl)
theorem dX2_init_4 : decode cX2_init 4 = .ok (.aload_n 0, 1) := dk_42 (dk_at dksX2_init_0 4 rfl rfl)
theorem dX2_init_5 : decode cX2_init 5 = .ok (.new 9, 3) := dk_187 0 9 (dk_at dksX2_init_0 5 rfl rfl)
theorem dX2_init_8 : decode cX2_init 8 = .ok (.dup, 1) := dk_89 (dk_at dksX2_init_0 8 rfl rfl)
theorem dX2_init_9 : decode cX2_init 9 = .ok (.invokespecial 11, 3) := dk_183 0 11 (dk_at dksX2_init_0 9 rfl rfl)
theorem dX2_init_12 : decode cX2_init 12 = .ok (.putfield 12, 3) := dk_181 0 12 (dk_at dksX2_init_0 12 rfl rfl)
theorem dX2_init_15 : decode cX2_init 15 = .ok (.aload_n 0, 1) := dk_42 (dk_at dksX2_init_0 15 rfl rfl)
theorem dX2_init_16 : decode cX2_init 16 = .ok (.iconst (-1), 1) := dk_2 (dk_at dksX2_init_0 16 rfl rfl)
theorem dX2_init_17 : decode cX2_init 17 = .ok (.putfield 18, 3) := dk_181 0 18 (dk_at dksX2_init_0 17 rfl rfl)
theorem dX2_init_20 : decode cX2_init 20 = .ok (.aload_n 0, 1) := dk_42 (dk_at dksX2_init_0 20 rfl rfl)
theorem dX2_init_21 : decode cX2_init 21 = .ok (.iconst (-1), 1) := dk_2 (dk_at dksX2_init_0 21 rfl rfl)
theorem dX2_init_22 : decode cX2_init 22 = .ok (.putfield 22, 3) := dk_181 0 22 (dk_at dksX2_init_1 0 rfl rfl)
theorem dX2_init_25 : decode cX2_init 25 = .ok (.aload_n 0, 1) := dk_42 (dk_at dksX2_init_1 3 rfl rfl)
theorem dX2_init_26 : decode cX2_init 26 = .ok (.iconst (-1), 1) := dk_2 (dk_at dksX2_init_1 4 rfl rfl)
theorem dX2_init_27 : decode cX2_init 27 = .ok (.putfield 25, 3) := dk_181 0 25 (dk_at dksX2_init_1 5 rfl rfl)
theorem dX2_init_30 : decode cX2_init 30 = .ok (.return_, 1) := dk_177 (dk_at dksX2_init_1 8 rfl rfl)
abbrev cX2_waiting : ByteArray := prog_14_method_10_code
def yX2_waiting : MethodName := ⟨RX2, "waiting", "()I"⟩
def dkwX2_waiting_2 : List UInt8 := [172]
abbrev dktX2_waiting_2 : List UInt8 := dkwX2_waiting_2 ++ []
def dkwX2_waiting_1 : List UInt8 := [44, 185, 0, 45, 1, 0, 192, 0, 49, 78, 27, 45, 180, 0, 152, 182, 0, 156, 96, 60, 167, 255, 227, 27]
abbrev dktX2_waiting_1 : List UInt8 := dkwX2_waiting_1 ++ dktX2_waiting_2
def dkwX2_waiting_0 : List UInt8 := [3, 60, 42, 180, 0, 12, 182, 0, 29, 185, 0, 33, 1, 0, 77, 44, 185, 0, 39, 1, 0, 153, 0, 26]
abbrev dktX2_waiting_0 : List UInt8 := dkwX2_waiting_0 ++ dktX2_waiting_1
theorem dksX2_waiting_0 : cX2_waiting.data.toList.drop 0 = dktX2_waiting_0 := by decide +kernel
theorem dksX2_waiting_1 : cX2_waiting.data.toList.drop 24 = dktX2_waiting_1 := dk_seg dksX2_waiting_0 24 rfl rfl
theorem dksX2_waiting_2 : cX2_waiting.data.toList.drop 48 = dktX2_waiting_2 := dk_seg dksX2_waiting_1 24 rfl rfl
theorem dX2_waiting_0 : decode cX2_waiting 0 = .ok (.iconst 0, 1) := dk_3 (dk_at dksX2_waiting_0 0 rfl rfl)
theorem dX2_waiting_1 : decode cX2_waiting 1 = .ok (.istore_n 1, 1) := dk_60 (dk_at dksX2_waiting_0 1 rfl rfl)
theorem dX2_waiting_2 : decode cX2_waiting 2 = .ok (.aload_n 0, 1) := dk_42 (dk_at dksX2_waiting_0 2 rfl rfl)
theorem dX2_waiting_3 : decode cX2_waiting 3 = .ok (.getfield 12, 3) := dk_180 0 12 (dk_at dksX2_waiting_0 3 rfl rfl)
theorem dX2_waiting_6 : decode cX2_waiting 6 = .ok (.invokevirtual 29, 3) := dk_182 0 29 (dk_at dksX2_waiting_0 6 rfl rfl)
theorem dX2_waiting_9 : decode cX2_waiting 9 = .ok (.invokeinterface 33 1, 5) := by decide +kernel
theorem dX2_waiting_14 : decode cX2_waiting 14 = .ok (.astore_n 2, 1) := dk_77 (dk_at dksX2_waiting_0 14 rfl rfl)
theorem dX2_waiting_15 : decode cX2_waiting 15 = .ok (.aload_n 2, 1) := dk_44 (dk_at dksX2_waiting_0 15 rfl rfl)
theorem dX2_waiting_16 : decode cX2_waiting 16 = .ok (.invokeinterface 39 1, 5) := by decide +kernel
theorem dX2_waiting_21 : decode cX2_waiting 21 = .ok (.ifCond .eq 26, 3) := dk_153 0 26 (dk_at dksX2_waiting_0 21 rfl rfl)
theorem dX2_waiting_24 : decode cX2_waiting 24 = .ok (.aload_n 2, 1) := dk_44 (dk_at dksX2_waiting_1 0 rfl rfl)
theorem dX2_waiting_25 : decode cX2_waiting 25 = .ok (.invokeinterface 45 1, 5) := by decide +kernel
theorem dX2_waiting_30 : decode cX2_waiting 30 = .ok (.checkcast 49, 3) := dk_192 0 49 (dk_at dksX2_waiting_1 6 rfl rfl)
theorem dX2_waiting_33 : decode cX2_waiting 33 = .ok (.astore_n 3, 1) := dk_78 (dk_at dksX2_waiting_1 9 rfl rfl)
theorem dX2_waiting_34 : decode cX2_waiting 34 = .ok (.iload_n 1, 1) := dk_27 (dk_at dksX2_waiting_1 10 rfl rfl)
theorem dX2_waiting_35 : decode cX2_waiting 35 = .ok (.aload_n 3, 1) := dk_45 (dk_at dksX2_waiting_1 11 rfl rfl)
theorem dX2_waiting_36 : decode cX2_waiting 36 = .ok (.getfield 152, 3) := dk_180 0 152 (dk_at dksX2_waiting_1 12 rfl rfl)
theorem dX2_waiting_39 : decode cX2_waiting 39 = .ok (.invokevirtual 156, 3) := dk_182 0 156 (dk_at dksX2_waiting_1 15 rfl rfl)
theorem dX2_waiting_42 : decode cX2_waiting 42 = .ok (.iadd, 1) := dk_96 (dk_at dksX2_waiting_1 18 rfl rfl)
theorem dX2_waiting_43 : decode cX2_waiting 43 = .ok (.istore_n 1, 1) := dk_60 (dk_at dksX2_waiting_1 19 rfl rfl)
theorem dX2_waiting_44 : decode cX2_waiting 44 = .ok (.goto (-29), 3) := dk_167 255 227 (dk_at dksX2_waiting_1 20 rfl rfl)
theorem dX2_waiting_47 : decode cX2_waiting 47 = .ok (.iload_n 1, 1) := dk_27 (dk_at dksX2_waiting_1 23 rfl rfl)
theorem dX2_waiting_48 : decode cX2_waiting 48 = .ok (.ireturn, 1) := dk_172 (dk_at dksX2_waiting_2 0 rfl rfl)
abbrev cX2_next : ByteArray := prog_14_method_3_code
def yX2_next : MethodName := ⟨RX2, "next", "(I)I"⟩
def dkwX2_next_1 : List UInt8 := [182, 0, 137, 192, 0, 55, 167, 0, 4, 44, 182, 0, 140, 172]
abbrev dktX2_next_1 : List UInt8 := dkwX2_next_1 ++ []
def dkwX2_next_0 : List UInt8 := [42, 180, 0, 12, 27, 184, 0, 54, 182, 0, 133, 192, 0, 55, 77, 44, 199, 0, 16, 42, 180, 0, 12]
abbrev dktX2_next_0 : List UInt8 := dkwX2_next_0 ++ dktX2_next_1
theorem dksX2_next_0 : cX2_next.data.toList.drop 0 = dktX2_next_0 := by decide +kernel
theorem dksX2_next_1 : cX2_next.data.toList.drop 23 = dktX2_next_1 := dk_seg dksX2_next_0 23 rfl rfl
theorem dX2_next_0 : decode cX2_next 0 = .ok (.aload_n 0, 1) := dk_42 (dk_at dksX2_next_0 0 rfl rfl)
theorem dX2_next_1 : decode cX2_next 1 = .ok (.getfield 12, 3) := dk_180 0 12 (dk_at dksX2_next_0 1 rfl rfl)
theorem dX2_next_4 : decode cX2_next 4 = .ok (.iload_n 1, 1) := dk_27 (dk_at dksX2_next_0 4 rfl rfl)
theorem dX2_next_5 : decode cX2_next 5 = .ok (.invokestatic 54, 3) := dk_184 0 54 (dk_at dksX2_next_0 5 rfl rfl)
theorem dX2_next_8 : decode cX2_next 8 = .ok (.invokevirtual 133, 3) := dk_182 0 133 (dk_at dksX2_next_0 8 rfl rfl)
theorem dX2_next_11 : decode cX2_next 11 = .ok (.checkcast 55, 3) := dk_192 0 55 (dk_at dksX2_next_0 11 rfl rfl)
theorem dX2_next_14 : decode cX2_next 14 = .ok (.astore_n 2, 1) := dk_77 (dk_at dksX2_next_0 14 rfl rfl)
theorem dX2_next_15 : decode cX2_next 15 = .ok (.aload_n 2, 1) := dk_44 (dk_at dksX2_next_0 15 rfl rfl)
theorem dX2_next_16 : decode cX2_next 16 = .ok (.ifnonnull 16, 3) := dk_199 0 16 (dk_at dksX2_next_0 16 rfl rfl)
theorem dX2_next_19 : decode cX2_next 19 = .ok (.aload_n 0, 1) := dk_42 (dk_at dksX2_next_0 19 rfl rfl)
theorem dX2_next_20 : decode cX2_next 20 = .ok (.getfield 12, 3) := dk_180 0 12 (dk_at dksX2_next_0 20 rfl rfl)
theorem dX2_next_23 : decode cX2_next 23 = .ok (.invokevirtual 137, 3) := dk_182 0 137 (dk_at dksX2_next_1 0 rfl rfl)
theorem dX2_next_26 : decode cX2_next 26 = .ok (.checkcast 55, 3) := dk_192 0 55 (dk_at dksX2_next_1 3 rfl rfl)
theorem dX2_next_29 : decode cX2_next 29 = .ok (.goto 4, 3) := dk_167 0 4 (dk_at dksX2_next_1 6 rfl rfl)
theorem dX2_next_32 : decode cX2_next 32 = .ok (.aload_n 2, 1) := dk_44 (dk_at dksX2_next_1 9 rfl rfl)
theorem dX2_next_33 : decode cX2_next 33 = .ok (.invokevirtual 140, 3) := dk_182 0 140 (dk_at dksX2_next_1 10 rfl rfl)
theorem dX2_next_36 : decode cX2_next 36 = .ok (.ireturn, 1) := dk_172 (dk_at dksX2_next_1 13 rfl rfl)
abbrev cX2_copy : ByteArray := prog_14_method_2_code
def yX2_copy : MethodName := ⟨RX2, "copy", "()LTokenRing$State;"⟩
def dkwX2_copy_10 : List UInt8 := [181, 0, 124, 43, 42, 180, 0, 127, 181, 0, 127, 43, 42, 180, 0, 130, 181, 0, 130, 43, 176]
abbrev dktX2_copy_10 : List UInt8 := dkwX2_copy_10 ++ []
def dkwX2_copy_9 : List UInt8 := [181, 0, 115, 43, 42, 180, 0, 118, 181, 0, 118, 43, 42, 180, 0, 121, 181, 0, 121, 43, 42, 180, 0, 124]
abbrev dktX2_copy_9 : List UInt8 := dkwX2_copy_9 ++ dktX2_copy_10
def dkwX2_copy_8 : List UInt8 := [181, 0, 106, 43, 42, 180, 0, 109, 181, 0, 109, 43, 42, 180, 0, 112, 181, 0, 112, 43, 42, 180, 0, 115]
abbrev dktX2_copy_8 : List UInt8 := dkwX2_copy_8 ++ dktX2_copy_9
def dkwX2_copy_7 : List UInt8 := [181, 0, 97, 43, 42, 180, 0, 100, 181, 0, 100, 43, 42, 180, 0, 103, 181, 0, 103, 43, 42, 180, 0, 106]
abbrev dktX2_copy_7 : List UInt8 := dkwX2_copy_7 ++ dktX2_copy_8
def dkwX2_copy_6 : List UInt8 := [181, 0, 89, 43, 42, 180, 0, 92, 181, 0, 92, 43, 42, 180, 0, 95, 181, 0, 95, 43, 42, 180, 0, 97]
abbrev dktX2_copy_6 : List UInt8 := dkwX2_copy_6 ++ dktX2_copy_7
def dkwX2_copy_5 : List UInt8 := [181, 0, 77, 43, 42, 180, 0, 22, 181, 0, 22, 43, 42, 180, 0, 86, 181, 0, 86, 43, 42, 180, 0, 89]
abbrev dktX2_copy_5 : List UInt8 := dkwX2_copy_5 ++ dktX2_copy_6
def dkwX2_copy_4 : List UInt8 := [181, 0, 74, 43, 42, 180, 0, 77, 199, 0, 7, 1, 167, 0, 10, 42, 180, 0, 77, 182, 0, 81]
abbrev dktX2_copy_4 : List UInt8 := dkwX2_copy_4 ++ dktX2_copy_5
def dkwX2_copy_3 : List UInt8 := [181, 0, 68, 43, 42, 180, 0, 18, 181, 0, 18, 43, 42, 180, 0, 71, 181, 0, 71, 43, 42, 180, 0, 74]
abbrev dktX2_copy_3 : List UInt8 := dkwX2_copy_3 ++ dktX2_copy_4
def dkwX2_copy_2 : List UInt8 := [180, 0, 51, 184, 0, 54, 45, 182, 0, 60, 182, 0, 64, 87, 167, 255, 218, 43, 42, 180, 0, 68]
abbrev dktX2_copy_2 : List UInt8 := dkwX2_copy_2 ++ dktX2_copy_3
def dkwX2_copy_1 : List UInt8 := [185, 0, 39, 1, 0, 153, 0, 35, 44, 185, 0, 45, 1, 0, 192, 0, 49, 78, 43, 180, 0, 12, 45]
abbrev dktX2_copy_1 : List UInt8 := dkwX2_copy_1 ++ dktX2_copy_2
def dkwX2_copy_0 : List UInt8 := [187, 0, 13, 89, 183, 0, 28, 76, 42, 180, 0, 12, 182, 0, 29, 185, 0, 33, 1, 0, 77, 44]
abbrev dktX2_copy_0 : List UInt8 := dkwX2_copy_0 ++ dktX2_copy_1
theorem dksX2_copy_0 : cX2_copy.data.toList.drop 0 = dktX2_copy_0 := by decide +kernel
theorem dksX2_copy_1 : cX2_copy.data.toList.drop 22 = dktX2_copy_1 := dk_seg dksX2_copy_0 22 rfl rfl
theorem dksX2_copy_2 : cX2_copy.data.toList.drop 45 = dktX2_copy_2 := dk_seg dksX2_copy_1 23 rfl rfl
theorem dksX2_copy_3 : cX2_copy.data.toList.drop 67 = dktX2_copy_3 := dk_seg dksX2_copy_2 22 rfl rfl
theorem dksX2_copy_4 : cX2_copy.data.toList.drop 91 = dktX2_copy_4 := dk_seg dksX2_copy_3 24 rfl rfl
theorem dksX2_copy_5 : cX2_copy.data.toList.drop 113 = dktX2_copy_5 := dk_seg dksX2_copy_4 22 rfl rfl
theorem dksX2_copy_6 : cX2_copy.data.toList.drop 137 = dktX2_copy_6 := dk_seg dksX2_copy_5 24 rfl rfl
theorem dksX2_copy_7 : cX2_copy.data.toList.drop 161 = dktX2_copy_7 := dk_seg dksX2_copy_6 24 rfl rfl
theorem dksX2_copy_8 : cX2_copy.data.toList.drop 185 = dktX2_copy_8 := dk_seg dksX2_copy_7 24 rfl rfl
theorem dksX2_copy_9 : cX2_copy.data.toList.drop 209 = dktX2_copy_9 := dk_seg dksX2_copy_8 24 rfl rfl
theorem dksX2_copy_10 : cX2_copy.data.toList.drop 233 = dktX2_copy_10 := dk_seg dksX2_copy_9 24 rfl rfl
theorem dX2_copy_0 : decode cX2_copy 0 = .ok (.new 13, 3) := dk_187 0 13 (dk_at dksX2_copy_0 0 rfl rfl)
theorem dX2_copy_3 : decode cX2_copy 3 = .ok (.dup, 1) := dk_89 (dk_at dksX2_copy_0 3 rfl rfl)
theorem dX2_copy_4 : decode cX2_copy 4 = .ok (.invokespecial 28, 3) := dk_183 0 28 (dk_at dksX2_copy_0 4 rfl rfl)
theorem dX2_copy_7 : decode cX2_copy 7 = .ok (.astore_n 1, 1) := dk_76 (dk_at dksX2_copy_0 7 rfl rfl)
theorem dX2_copy_8 : decode cX2_copy 8 = .ok (.aload_n 0, 1) := dk_42 (dk_at dksX2_copy_0 8 rfl rfl)
theorem dX2_copy_9 : decode cX2_copy 9 = .ok (.getfield 12, 3) := dk_180 0 12 (dk_at dksX2_copy_0 9 rfl rfl)
theorem dX2_copy_12 : decode cX2_copy 12 = .ok (.invokevirtual 29, 3) := dk_182 0 29 (dk_at dksX2_copy_0 12 rfl rfl)
theorem dX2_copy_15 : decode cX2_copy 15 = .ok (.invokeinterface 33 1, 5) := by decide +kernel
theorem dX2_copy_20 : decode cX2_copy 20 = .ok (.astore_n 2, 1) := dk_77 (dk_at dksX2_copy_0 20 rfl rfl)
theorem dX2_copy_21 : decode cX2_copy 21 = .ok (.aload_n 2, 1) := dk_44 (dk_at dksX2_copy_0 21 rfl rfl)
theorem dX2_copy_22 : decode cX2_copy 22 = .ok (.invokeinterface 39 1, 5) := by decide +kernel
theorem dX2_copy_27 : decode cX2_copy 27 = .ok (.ifCond .eq 35, 3) := dk_153 0 35 (dk_at dksX2_copy_1 5 rfl rfl)
theorem dX2_copy_30 : decode cX2_copy 30 = .ok (.aload_n 2, 1) := dk_44 (dk_at dksX2_copy_1 8 rfl rfl)
theorem dX2_copy_31 : decode cX2_copy 31 = .ok (.invokeinterface 45 1, 5) := by decide +kernel
theorem dX2_copy_36 : decode cX2_copy 36 = .ok (.checkcast 49, 3) := dk_192 0 49 (dk_at dksX2_copy_1 14 rfl rfl)
theorem dX2_copy_39 : decode cX2_copy 39 = .ok (.astore_n 3, 1) := dk_78 (dk_at dksX2_copy_1 17 rfl rfl)
theorem dX2_copy_40 : decode cX2_copy 40 = .ok (.aload_n 1, 1) := dk_43 (dk_at dksX2_copy_1 18 rfl rfl)
theorem dX2_copy_41 : decode cX2_copy 41 = .ok (.getfield 12, 3) := dk_180 0 12 (dk_at dksX2_copy_1 19 rfl rfl)
theorem dX2_copy_44 : decode cX2_copy 44 = .ok (.aload_n 3, 1) := dk_45 (dk_at dksX2_copy_1 22 rfl rfl)
theorem dX2_copy_45 : decode cX2_copy 45 = .ok (.getfield 51, 3) := dk_180 0 51 (dk_at dksX2_copy_2 0 rfl rfl)
theorem dX2_copy_48 : decode cX2_copy 48 = .ok (.invokestatic 54, 3) := dk_184 0 54 (dk_at dksX2_copy_2 3 rfl rfl)
theorem dX2_copy_51 : decode cX2_copy 51 = .ok (.aload_n 3, 1) := dk_45 (dk_at dksX2_copy_2 6 rfl rfl)
theorem dX2_copy_52 : decode cX2_copy 52 = .ok (.invokevirtual 60, 3) := dk_182 0 60 (dk_at dksX2_copy_2 7 rfl rfl)
theorem dX2_copy_55 : decode cX2_copy 55 = .ok (.invokevirtual 64, 3) := dk_182 0 64 (dk_at dksX2_copy_2 10 rfl rfl)
theorem dX2_copy_58 : decode cX2_copy 58 = .ok (.pop, 1) := dk_87 (dk_at dksX2_copy_2 13 rfl rfl)
theorem dX2_copy_59 : decode cX2_copy 59 = .ok (.goto (-38), 3) := dk_167 255 218 (dk_at dksX2_copy_2 14 rfl rfl)
theorem dX2_copy_62 : decode cX2_copy 62 = .ok (.aload_n 1, 1) := dk_43 (dk_at dksX2_copy_2 17 rfl rfl)
theorem dX2_copy_63 : decode cX2_copy 63 = .ok (.aload_n 0, 1) := dk_42 (dk_at dksX2_copy_2 18 rfl rfl)
theorem dX2_copy_64 : decode cX2_copy 64 = .ok (.getfield 68, 3) := dk_180 0 68 (dk_at dksX2_copy_2 19 rfl rfl)
theorem dX2_copy_67 : decode cX2_copy 67 = .ok (.putfield 68, 3) := dk_181 0 68 (dk_at dksX2_copy_3 0 rfl rfl)
theorem dX2_copy_70 : decode cX2_copy 70 = .ok (.aload_n 1, 1) := dk_43 (dk_at dksX2_copy_3 3 rfl rfl)
theorem dX2_copy_71 : decode cX2_copy 71 = .ok (.aload_n 0, 1) := dk_42 (dk_at dksX2_copy_3 4 rfl rfl)
theorem dX2_copy_72 : decode cX2_copy 72 = .ok (.getfield 18, 3) := dk_180 0 18 (dk_at dksX2_copy_3 5 rfl rfl)
theorem dX2_copy_75 : decode cX2_copy 75 = .ok (.putfield 18, 3) := dk_181 0 18 (dk_at dksX2_copy_3 8 rfl rfl)
theorem dX2_copy_78 : decode cX2_copy 78 = .ok (.aload_n 1, 1) := dk_43 (dk_at dksX2_copy_3 11 rfl rfl)
theorem dX2_copy_79 : decode cX2_copy 79 = .ok (.aload_n 0, 1) := dk_42 (dk_at dksX2_copy_3 12 rfl rfl)
theorem dX2_copy_80 : decode cX2_copy 80 = .ok (.getfield 71, 3) := dk_180 0 71 (dk_at dksX2_copy_3 13 rfl rfl)
theorem dX2_copy_83 : decode cX2_copy 83 = .ok (.putfield 71, 3) := dk_181 0 71 (dk_at dksX2_copy_3 16 rfl rfl)
theorem dX2_copy_86 : decode cX2_copy 86 = .ok (.aload_n 1, 1) := dk_43 (dk_at dksX2_copy_3 19 rfl rfl)
theorem dX2_copy_87 : decode cX2_copy 87 = .ok (.aload_n 0, 1) := dk_42 (dk_at dksX2_copy_3 20 rfl rfl)
theorem dX2_copy_88 : decode cX2_copy 88 = .ok (.getfield 74, 3) := dk_180 0 74 (dk_at dksX2_copy_3 21 rfl rfl)
theorem dX2_copy_91 : decode cX2_copy 91 = .ok (.putfield 74, 3) := dk_181 0 74 (dk_at dksX2_copy_4 0 rfl rfl)
theorem dX2_copy_94 : decode cX2_copy 94 = .ok (.aload_n 1, 1) := dk_43 (dk_at dksX2_copy_4 3 rfl rfl)
theorem dX2_copy_95 : decode cX2_copy 95 = .ok (.aload_n 0, 1) := dk_42 (dk_at dksX2_copy_4 4 rfl rfl)
theorem dX2_copy_96 : decode cX2_copy 96 = .ok (.getfield 77, 3) := dk_180 0 77 (dk_at dksX2_copy_4 5 rfl rfl)
theorem dX2_copy_99 : decode cX2_copy 99 = .ok (.ifnonnull 7, 3) := dk_199 0 7 (dk_at dksX2_copy_4 8 rfl rfl)
theorem dX2_copy_102 : decode cX2_copy 102 = .ok (.aconst_null, 1) := dk_1 (dk_at dksX2_copy_4 11 rfl rfl)
theorem dX2_copy_103 : decode cX2_copy 103 = .ok (.goto 10, 3) := dk_167 0 10 (dk_at dksX2_copy_4 12 rfl rfl)
theorem dX2_copy_106 : decode cX2_copy 106 = .ok (.aload_n 0, 1) := dk_42 (dk_at dksX2_copy_4 15 rfl rfl)
theorem dX2_copy_107 : decode cX2_copy 107 = .ok (.getfield 77, 3) := dk_180 0 77 (dk_at dksX2_copy_4 16 rfl rfl)
theorem dX2_copy_110 : decode cX2_copy 110 = .ok (.invokevirtual 81, 3) := dk_182 0 81 (dk_at dksX2_copy_4 19 rfl rfl)
theorem dX2_copy_113 : decode cX2_copy 113 = .ok (.putfield 77, 3) := dk_181 0 77 (dk_at dksX2_copy_5 0 rfl rfl)
theorem dX2_copy_116 : decode cX2_copy 116 = .ok (.aload_n 1, 1) := dk_43 (dk_at dksX2_copy_5 3 rfl rfl)
theorem dX2_copy_117 : decode cX2_copy 117 = .ok (.aload_n 0, 1) := dk_42 (dk_at dksX2_copy_5 4 rfl rfl)
theorem dX2_copy_118 : decode cX2_copy 118 = .ok (.getfield 22, 3) := dk_180 0 22 (dk_at dksX2_copy_5 5 rfl rfl)
theorem dX2_copy_121 : decode cX2_copy 121 = .ok (.putfield 22, 3) := dk_181 0 22 (dk_at dksX2_copy_5 8 rfl rfl)
theorem dX2_copy_124 : decode cX2_copy 124 = .ok (.aload_n 1, 1) := dk_43 (dk_at dksX2_copy_5 11 rfl rfl)
theorem dX2_copy_125 : decode cX2_copy 125 = .ok (.aload_n 0, 1) := dk_42 (dk_at dksX2_copy_5 12 rfl rfl)
theorem dX2_copy_126 : decode cX2_copy 126 = .ok (.getfield 86, 3) := dk_180 0 86 (dk_at dksX2_copy_5 13 rfl rfl)
theorem dX2_copy_129 : decode cX2_copy 129 = .ok (.putfield 86, 3) := dk_181 0 86 (dk_at dksX2_copy_5 16 rfl rfl)
theorem dX2_copy_132 : decode cX2_copy 132 = .ok (.aload_n 1, 1) := dk_43 (dk_at dksX2_copy_5 19 rfl rfl)
theorem dX2_copy_133 : decode cX2_copy 133 = .ok (.aload_n 0, 1) := dk_42 (dk_at dksX2_copy_5 20 rfl rfl)
theorem dX2_copy_134 : decode cX2_copy 134 = .ok (.getfield 89, 3) := dk_180 0 89 (dk_at dksX2_copy_5 21 rfl rfl)
theorem dX2_copy_137 : decode cX2_copy 137 = .ok (.putfield 89, 3) := dk_181 0 89 (dk_at dksX2_copy_6 0 rfl rfl)
theorem dX2_copy_140 : decode cX2_copy 140 = .ok (.aload_n 1, 1) := dk_43 (dk_at dksX2_copy_6 3 rfl rfl)
theorem dX2_copy_141 : decode cX2_copy 141 = .ok (.aload_n 0, 1) := dk_42 (dk_at dksX2_copy_6 4 rfl rfl)
theorem dX2_copy_142 : decode cX2_copy 142 = .ok (.getfield 92, 3) := dk_180 0 92 (dk_at dksX2_copy_6 5 rfl rfl)
theorem dX2_copy_145 : decode cX2_copy 145 = .ok (.putfield 92, 3) := dk_181 0 92 (dk_at dksX2_copy_6 8 rfl rfl)
theorem dX2_copy_148 : decode cX2_copy 148 = .ok (.aload_n 1, 1) := dk_43 (dk_at dksX2_copy_6 11 rfl rfl)
theorem dX2_copy_149 : decode cX2_copy 149 = .ok (.aload_n 0, 1) := dk_42 (dk_at dksX2_copy_6 12 rfl rfl)
theorem dX2_copy_150 : decode cX2_copy 150 = .ok (.getfield 95, 3) := dk_180 0 95 (dk_at dksX2_copy_6 13 rfl rfl)
theorem dX2_copy_153 : decode cX2_copy 153 = .ok (.putfield 95, 3) := dk_181 0 95 (dk_at dksX2_copy_6 16 rfl rfl)
theorem dX2_copy_156 : decode cX2_copy 156 = .ok (.aload_n 1, 1) := dk_43 (dk_at dksX2_copy_6 19 rfl rfl)
theorem dX2_copy_157 : decode cX2_copy 157 = .ok (.aload_n 0, 1) := dk_42 (dk_at dksX2_copy_6 20 rfl rfl)
theorem dX2_copy_158 : decode cX2_copy 158 = .ok (.getfield 97, 3) := dk_180 0 97 (dk_at dksX2_copy_6 21 rfl rfl)
theorem dX2_copy_161 : decode cX2_copy 161 = .ok (.putfield 97, 3) := dk_181 0 97 (dk_at dksX2_copy_7 0 rfl rfl)
theorem dX2_copy_164 : decode cX2_copy 164 = .ok (.aload_n 1, 1) := dk_43 (dk_at dksX2_copy_7 3 rfl rfl)
theorem dX2_copy_165 : decode cX2_copy 165 = .ok (.aload_n 0, 1) := dk_42 (dk_at dksX2_copy_7 4 rfl rfl)
theorem dX2_copy_166 : decode cX2_copy 166 = .ok (.getfield 100, 3) := dk_180 0 100 (dk_at dksX2_copy_7 5 rfl rfl)
theorem dX2_copy_169 : decode cX2_copy 169 = .ok (.putfield 100, 3) := dk_181 0 100 (dk_at dksX2_copy_7 8 rfl rfl)
theorem dX2_copy_172 : decode cX2_copy 172 = .ok (.aload_n 1, 1) := dk_43 (dk_at dksX2_copy_7 11 rfl rfl)
theorem dX2_copy_173 : decode cX2_copy 173 = .ok (.aload_n 0, 1) := dk_42 (dk_at dksX2_copy_7 12 rfl rfl)
theorem dX2_copy_174 : decode cX2_copy 174 = .ok (.getfield 103, 3) := dk_180 0 103 (dk_at dksX2_copy_7 13 rfl rfl)
theorem dX2_copy_177 : decode cX2_copy 177 = .ok (.putfield 103, 3) := dk_181 0 103 (dk_at dksX2_copy_7 16 rfl rfl)
theorem dX2_copy_180 : decode cX2_copy 180 = .ok (.aload_n 1, 1) := dk_43 (dk_at dksX2_copy_7 19 rfl rfl)
theorem dX2_copy_181 : decode cX2_copy 181 = .ok (.aload_n 0, 1) := dk_42 (dk_at dksX2_copy_7 20 rfl rfl)
theorem dX2_copy_182 : decode cX2_copy 182 = .ok (.getfield 106, 3) := dk_180 0 106 (dk_at dksX2_copy_7 21 rfl rfl)
theorem dX2_copy_185 : decode cX2_copy 185 = .ok (.putfield 106, 3) := dk_181 0 106 (dk_at dksX2_copy_8 0 rfl rfl)
theorem dX2_copy_188 : decode cX2_copy 188 = .ok (.aload_n 1, 1) := dk_43 (dk_at dksX2_copy_8 3 rfl rfl)
theorem dX2_copy_189 : decode cX2_copy 189 = .ok (.aload_n 0, 1) := dk_42 (dk_at dksX2_copy_8 4 rfl rfl)
theorem dX2_copy_190 : decode cX2_copy 190 = .ok (.getfield 109, 3) := dk_180 0 109 (dk_at dksX2_copy_8 5 rfl rfl)
theorem dX2_copy_193 : decode cX2_copy 193 = .ok (.putfield 109, 3) := dk_181 0 109 (dk_at dksX2_copy_8 8 rfl rfl)
theorem dX2_copy_196 : decode cX2_copy 196 = .ok (.aload_n 1, 1) := dk_43 (dk_at dksX2_copy_8 11 rfl rfl)
theorem dX2_copy_197 : decode cX2_copy 197 = .ok (.aload_n 0, 1) := dk_42 (dk_at dksX2_copy_8 12 rfl rfl)
theorem dX2_copy_198 : decode cX2_copy 198 = .ok (.getfield 112, 3) := dk_180 0 112 (dk_at dksX2_copy_8 13 rfl rfl)
theorem dX2_copy_201 : decode cX2_copy 201 = .ok (.putfield 112, 3) := dk_181 0 112 (dk_at dksX2_copy_8 16 rfl rfl)
theorem dX2_copy_204 : decode cX2_copy 204 = .ok (.aload_n 1, 1) := dk_43 (dk_at dksX2_copy_8 19 rfl rfl)
theorem dX2_copy_205 : decode cX2_copy 205 = .ok (.aload_n 0, 1) := dk_42 (dk_at dksX2_copy_8 20 rfl rfl)
theorem dX2_copy_206 : decode cX2_copy 206 = .ok (.getfield 115, 3) := dk_180 0 115 (dk_at dksX2_copy_8 21 rfl rfl)
theorem dX2_copy_209 : decode cX2_copy 209 = .ok (.putfield 115, 3) := dk_181 0 115 (dk_at dksX2_copy_9 0 rfl rfl)
theorem dX2_copy_212 : decode cX2_copy 212 = .ok (.aload_n 1, 1) := dk_43 (dk_at dksX2_copy_9 3 rfl rfl)
theorem dX2_copy_213 : decode cX2_copy 213 = .ok (.aload_n 0, 1) := dk_42 (dk_at dksX2_copy_9 4 rfl rfl)
theorem dX2_copy_214 : decode cX2_copy 214 = .ok (.getfield 118, 3) := dk_180 0 118 (dk_at dksX2_copy_9 5 rfl rfl)
theorem dX2_copy_217 : decode cX2_copy 217 = .ok (.putfield 118, 3) := dk_181 0 118 (dk_at dksX2_copy_9 8 rfl rfl)
theorem dX2_copy_220 : decode cX2_copy 220 = .ok (.aload_n 1, 1) := dk_43 (dk_at dksX2_copy_9 11 rfl rfl)
theorem dX2_copy_221 : decode cX2_copy 221 = .ok (.aload_n 0, 1) := dk_42 (dk_at dksX2_copy_9 12 rfl rfl)
theorem dX2_copy_222 : decode cX2_copy 222 = .ok (.getfield 121, 3) := dk_180 0 121 (dk_at dksX2_copy_9 13 rfl rfl)
theorem dX2_copy_225 : decode cX2_copy 225 = .ok (.putfield 121, 3) := dk_181 0 121 (dk_at dksX2_copy_9 16 rfl rfl)
theorem dX2_copy_228 : decode cX2_copy 228 = .ok (.aload_n 1, 1) := dk_43 (dk_at dksX2_copy_9 19 rfl rfl)
theorem dX2_copy_229 : decode cX2_copy 229 = .ok (.aload_n 0, 1) := dk_42 (dk_at dksX2_copy_9 20 rfl rfl)
theorem dX2_copy_230 : decode cX2_copy 230 = .ok (.getfield 124, 3) := dk_180 0 124 (dk_at dksX2_copy_9 21 rfl rfl)
theorem dX2_copy_233 : decode cX2_copy 233 = .ok (.putfield 124, 3) := dk_181 0 124 (dk_at dksX2_copy_10 0 rfl rfl)
theorem dX2_copy_236 : decode cX2_copy 236 = .ok (.aload_n 1, 1) := dk_43 (dk_at dksX2_copy_10 3 rfl rfl)
theorem dX2_copy_237 : decode cX2_copy 237 = .ok (.aload_n 0, 1) := dk_42 (dk_at dksX2_copy_10 4 rfl rfl)
theorem dX2_copy_238 : decode cX2_copy 238 = .ok (.getfield 127, 3) := dk_180 0 127 (dk_at dksX2_copy_10 5 rfl rfl)
theorem dX2_copy_241 : decode cX2_copy 241 = .ok (.putfield 127, 3) := dk_181 0 127 (dk_at dksX2_copy_10 8 rfl rfl)
theorem dX2_copy_244 : decode cX2_copy 244 = .ok (.aload_n 1, 1) := dk_43 (dk_at dksX2_copy_10 11 rfl rfl)
theorem dX2_copy_245 : decode cX2_copy 245 = .ok (.aload_n 0, 1) := dk_42 (dk_at dksX2_copy_10 12 rfl rfl)
theorem dX2_copy_246 : decode cX2_copy 246 = .ok (.getfield 130, 3) := dk_180 0 130 (dk_at dksX2_copy_10 13 rfl rfl)
theorem dX2_copy_249 : decode cX2_copy 249 = .ok (.putfield 130, 3) := dk_181 0 130 (dk_at dksX2_copy_10 16 rfl rfl)
theorem dX2_copy_252 : decode cX2_copy 252 = .ok (.aload_n 1, 1) := dk_43 (dk_at dksX2_copy_10 19 rfl rfl)
theorem dX2_copy_253 : decode cX2_copy 253 = .ok (.areturn, 1) := dk_176 (dk_at dksX2_copy_10 20 rfl rfl)
abbrev cX2_leaves : ByteArray := prog_14_method_7_code
def yX2_leaves : MethodName := ⟨RX2, "leaves", "(I)I"⟩
def dkwX2_leaves_4 : List UInt8 := [180, 0, 22, 27, 160, 0, 7, 2, 167, 0, 7, 42, 180, 0, 22, 181, 0, 22, 28, 172]
abbrev dktX2_leaves_4 : List UInt8 := dkwX2_leaves_4 ++ []
def dkwX2_leaves_3 : List UInt8 := [160, 0, 7, 4, 167, 0, 4, 3, 96, 61, 42, 180, 0, 12, 27, 184, 0, 54, 182, 0, 167, 87, 42, 42]
abbrev dktX2_leaves_3 : List UInt8 := dkwX2_leaves_3 ++ dktX2_leaves_4
def dkwX2_leaves_2 : List UInt8 := [180, 0, 18, 27, 160, 0, 29, 42, 29, 181, 0, 18, 29, 27, 160, 0, 19, 28, 42, 182, 0, 164, 5]
abbrev dktX2_leaves_2 : List UInt8 := dkwX2_leaves_2 ++ dktX2_leaves_3
def dkwX2_leaves_1 : List UInt8 := [180, 0, 109, 28, 96, 181, 0, 109, 42, 27, 182, 0, 161, 62, 42, 180, 0, 68, 153, 0, 37, 42]
abbrev dktX2_leaves_1 : List UInt8 := dkwX2_leaves_1 ++ dktX2_leaves_2
def dkwX2_leaves_0 : List UInt8 := [42, 180, 0, 12, 27, 184, 0, 54, 182, 0, 149, 192, 0, 49, 180, 0, 152, 182, 0, 156, 61, 42, 89]
abbrev dktX2_leaves_0 : List UInt8 := dkwX2_leaves_0 ++ dktX2_leaves_1
theorem dksX2_leaves_0 : cX2_leaves.data.toList.drop 0 = dktX2_leaves_0 := by decide +kernel
theorem dksX2_leaves_1 : cX2_leaves.data.toList.drop 23 = dktX2_leaves_1 := dk_seg dksX2_leaves_0 23 rfl rfl
theorem dksX2_leaves_2 : cX2_leaves.data.toList.drop 45 = dktX2_leaves_2 := dk_seg dksX2_leaves_1 22 rfl rfl
theorem dksX2_leaves_3 : cX2_leaves.data.toList.drop 68 = dktX2_leaves_3 := dk_seg dksX2_leaves_2 23 rfl rfl
theorem dksX2_leaves_4 : cX2_leaves.data.toList.drop 92 = dktX2_leaves_4 := dk_seg dksX2_leaves_3 24 rfl rfl
theorem dX2_leaves_0 : decode cX2_leaves 0 = .ok (.aload_n 0, 1) := dk_42 (dk_at dksX2_leaves_0 0 rfl rfl)
theorem dX2_leaves_1 : decode cX2_leaves 1 = .ok (.getfield 12, 3) := dk_180 0 12 (dk_at dksX2_leaves_0 1 rfl rfl)
theorem dX2_leaves_4 : decode cX2_leaves 4 = .ok (.iload_n 1, 1) := dk_27 (dk_at dksX2_leaves_0 4 rfl rfl)
theorem dX2_leaves_5 : decode cX2_leaves 5 = .ok (.invokestatic 54, 3) := dk_184 0 54 (dk_at dksX2_leaves_0 5 rfl rfl)
theorem dX2_leaves_8 : decode cX2_leaves 8 = .ok (.invokevirtual 149, 3) := dk_182 0 149 (dk_at dksX2_leaves_0 8 rfl rfl)
theorem dX2_leaves_11 : decode cX2_leaves 11 = .ok (.checkcast 49, 3) := dk_192 0 49 (dk_at dksX2_leaves_0 11 rfl rfl)
theorem dX2_leaves_14 : decode cX2_leaves 14 = .ok (.getfield 152, 3) := dk_180 0 152 (dk_at dksX2_leaves_0 14 rfl rfl)
theorem dX2_leaves_17 : decode cX2_leaves 17 = .ok (.invokevirtual 156, 3) := dk_182 0 156 (dk_at dksX2_leaves_0 17 rfl rfl)
theorem dX2_leaves_20 : decode cX2_leaves 20 = .ok (.istore_n 2, 1) := dk_61 (dk_at dksX2_leaves_0 20 rfl rfl)
theorem dX2_leaves_21 : decode cX2_leaves 21 = .ok (.aload_n 0, 1) := dk_42 (dk_at dksX2_leaves_0 21 rfl rfl)
theorem dX2_leaves_22 : decode cX2_leaves 22 = .ok (.dup, 1) := dk_89 (dk_at dksX2_leaves_0 22 rfl rfl)
theorem dX2_leaves_23 : decode cX2_leaves 23 = .ok (.getfield 109, 3) := dk_180 0 109 (dk_at dksX2_leaves_1 0 rfl rfl)
theorem dX2_leaves_26 : decode cX2_leaves 26 = .ok (.iload_n 2, 1) := dk_28 (dk_at dksX2_leaves_1 3 rfl rfl)
theorem dX2_leaves_27 : decode cX2_leaves 27 = .ok (.iadd, 1) := dk_96 (dk_at dksX2_leaves_1 4 rfl rfl)
theorem dX2_leaves_28 : decode cX2_leaves 28 = .ok (.putfield 109, 3) := dk_181 0 109 (dk_at dksX2_leaves_1 5 rfl rfl)
theorem dX2_leaves_31 : decode cX2_leaves 31 = .ok (.aload_n 0, 1) := dk_42 (dk_at dksX2_leaves_1 8 rfl rfl)
theorem dX2_leaves_32 : decode cX2_leaves 32 = .ok (.iload_n 1, 1) := dk_27 (dk_at dksX2_leaves_1 9 rfl rfl)
theorem dX2_leaves_33 : decode cX2_leaves 33 = .ok (.invokevirtual 161, 3) := dk_182 0 161 (dk_at dksX2_leaves_1 10 rfl rfl)
theorem dX2_leaves_36 : decode cX2_leaves 36 = .ok (.istore_n 3, 1) := dk_62 (dk_at dksX2_leaves_1 13 rfl rfl)
theorem dX2_leaves_37 : decode cX2_leaves 37 = .ok (.aload_n 0, 1) := dk_42 (dk_at dksX2_leaves_1 14 rfl rfl)
theorem dX2_leaves_38 : decode cX2_leaves 38 = .ok (.getfield 68, 3) := dk_180 0 68 (dk_at dksX2_leaves_1 15 rfl rfl)
theorem dX2_leaves_41 : decode cX2_leaves 41 = .ok (.ifCond .eq 37, 3) := dk_153 0 37 (dk_at dksX2_leaves_1 18 rfl rfl)
theorem dX2_leaves_44 : decode cX2_leaves 44 = .ok (.aload_n 0, 1) := dk_42 (dk_at dksX2_leaves_1 21 rfl rfl)
theorem dX2_leaves_45 : decode cX2_leaves 45 = .ok (.getfield 18, 3) := dk_180 0 18 (dk_at dksX2_leaves_2 0 rfl rfl)
theorem dX2_leaves_48 : decode cX2_leaves 48 = .ok (.iload_n 1, 1) := dk_27 (dk_at dksX2_leaves_2 3 rfl rfl)
theorem dX2_leaves_49 : decode cX2_leaves 49 = .ok (.if_icmp .ne 29, 3) := dk_160 0 29 (dk_at dksX2_leaves_2 4 rfl rfl)
theorem dX2_leaves_52 : decode cX2_leaves 52 = .ok (.aload_n 0, 1) := dk_42 (dk_at dksX2_leaves_2 7 rfl rfl)
theorem dX2_leaves_53 : decode cX2_leaves 53 = .ok (.iload_n 3, 1) := dk_29 (dk_at dksX2_leaves_2 8 rfl rfl)
theorem dX2_leaves_54 : decode cX2_leaves 54 = .ok (.putfield 18, 3) := dk_181 0 18 (dk_at dksX2_leaves_2 9 rfl rfl)
theorem dX2_leaves_57 : decode cX2_leaves 57 = .ok (.iload_n 3, 1) := dk_29 (dk_at dksX2_leaves_2 12 rfl rfl)
theorem dX2_leaves_58 : decode cX2_leaves 58 = .ok (.iload_n 1, 1) := dk_27 (dk_at dksX2_leaves_2 13 rfl rfl)
theorem dX2_leaves_59 : decode cX2_leaves 59 = .ok (.if_icmp .ne 19, 3) := dk_160 0 19 (dk_at dksX2_leaves_2 14 rfl rfl)
theorem dX2_leaves_62 : decode cX2_leaves 62 = .ok (.iload_n 2, 1) := dk_28 (dk_at dksX2_leaves_2 17 rfl rfl)
theorem dX2_leaves_63 : decode cX2_leaves 63 = .ok (.aload_n 0, 1) := dk_42 (dk_at dksX2_leaves_2 18 rfl rfl)
theorem dX2_leaves_64 : decode cX2_leaves 64 = .ok (.invokevirtual 164, 3) := dk_182 0 164 (dk_at dksX2_leaves_2 19 rfl rfl)
theorem dX2_leaves_67 : decode cX2_leaves 67 = .ok (.iconst 2, 1) := dk_5 (dk_at dksX2_leaves_2 22 rfl rfl)
theorem dX2_leaves_68 : decode cX2_leaves 68 = .ok (.if_icmp .ne 7, 3) := dk_160 0 7 (dk_at dksX2_leaves_3 0 rfl rfl)
theorem dX2_leaves_71 : decode cX2_leaves 71 = .ok (.iconst 1, 1) := dk_4 (dk_at dksX2_leaves_3 3 rfl rfl)
theorem dX2_leaves_72 : decode cX2_leaves 72 = .ok (.goto 4, 3) := dk_167 0 4 (dk_at dksX2_leaves_3 4 rfl rfl)
theorem dX2_leaves_75 : decode cX2_leaves 75 = .ok (.iconst 0, 1) := dk_3 (dk_at dksX2_leaves_3 7 rfl rfl)
theorem dX2_leaves_76 : decode cX2_leaves 76 = .ok (.iadd, 1) := dk_96 (dk_at dksX2_leaves_3 8 rfl rfl)
theorem dX2_leaves_77 : decode cX2_leaves 77 = .ok (.istore_n 2, 1) := dk_61 (dk_at dksX2_leaves_3 9 rfl rfl)
theorem dX2_leaves_78 : decode cX2_leaves 78 = .ok (.aload_n 0, 1) := dk_42 (dk_at dksX2_leaves_3 10 rfl rfl)
theorem dX2_leaves_79 : decode cX2_leaves 79 = .ok (.getfield 12, 3) := dk_180 0 12 (dk_at dksX2_leaves_3 11 rfl rfl)
theorem dX2_leaves_82 : decode cX2_leaves 82 = .ok (.iload_n 1, 1) := dk_27 (dk_at dksX2_leaves_3 14 rfl rfl)
theorem dX2_leaves_83 : decode cX2_leaves 83 = .ok (.invokestatic 54, 3) := dk_184 0 54 (dk_at dksX2_leaves_3 15 rfl rfl)
theorem dX2_leaves_86 : decode cX2_leaves 86 = .ok (.invokevirtual 167, 3) := dk_182 0 167 (dk_at dksX2_leaves_3 18 rfl rfl)
theorem dX2_leaves_89 : decode cX2_leaves 89 = .ok (.pop, 1) := dk_87 (dk_at dksX2_leaves_3 21 rfl rfl)
theorem dX2_leaves_90 : decode cX2_leaves 90 = .ok (.aload_n 0, 1) := dk_42 (dk_at dksX2_leaves_3 22 rfl rfl)
theorem dX2_leaves_91 : decode cX2_leaves 91 = .ok (.aload_n 0, 1) := dk_42 (dk_at dksX2_leaves_3 23 rfl rfl)
theorem dX2_leaves_92 : decode cX2_leaves 92 = .ok (.getfield 22, 3) := dk_180 0 22 (dk_at dksX2_leaves_4 0 rfl rfl)
theorem dX2_leaves_95 : decode cX2_leaves 95 = .ok (.iload_n 1, 1) := dk_27 (dk_at dksX2_leaves_4 3 rfl rfl)
theorem dX2_leaves_96 : decode cX2_leaves 96 = .ok (.if_icmp .ne 7, 3) := dk_160 0 7 (dk_at dksX2_leaves_4 4 rfl rfl)
theorem dX2_leaves_99 : decode cX2_leaves 99 = .ok (.iconst (-1), 1) := dk_2 (dk_at dksX2_leaves_4 7 rfl rfl)
theorem dX2_leaves_100 : decode cX2_leaves 100 = .ok (.goto 7, 3) := dk_167 0 7 (dk_at dksX2_leaves_4 8 rfl rfl)
theorem dX2_leaves_103 : decode cX2_leaves 103 = .ok (.aload_n 0, 1) := dk_42 (dk_at dksX2_leaves_4 11 rfl rfl)
theorem dX2_leaves_104 : decode cX2_leaves 104 = .ok (.getfield 22, 3) := dk_180 0 22 (dk_at dksX2_leaves_4 12 rfl rfl)
theorem dX2_leaves_107 : decode cX2_leaves 107 = .ok (.putfield 22, 3) := dk_181 0 22 (dk_at dksX2_leaves_4 15 rfl rfl)
theorem dX2_leaves_110 : decode cX2_leaves 110 = .ok (.iload_n 2, 1) := dk_28 (dk_at dksX2_leaves_4 18 rfl rfl)
theorem dX2_leaves_111 : decode cX2_leaves 111 = .ok (.ireturn, 1) := dk_172 (dk_at dksX2_leaves_4 19 rfl rfl)
abbrev cX2_loses : ByteArray := prog_14_method_6_code
def yX2_loses : MethodName := ⟨RX2, "loses", "()I"⟩
def dkwX2_loses_2 : List UInt8 := [42, 2, 181, 0, 18, 42, 1, 181, 0, 77, 27, 172]
abbrev dktX2_loses_2 : List UInt8 := dkwX2_loses_2 ++ []
def dkwX2_loses_1 : List UInt8 := [42, 89, 180, 0, 106, 27, 5, 160, 0, 7, 4, 167, 0, 4, 3, 96, 181, 0, 106, 42, 3, 181, 0, 68]
abbrev dktX2_loses_1 : List UInt8 := dkwX2_loses_1 ++ dktX2_loses_2
def dkwX2_loses_0 : List UInt8 := [42, 180, 0, 68, 60, 42, 89, 180, 0, 130, 27, 4, 160, 0, 7, 4, 167, 0, 4, 3, 96, 181, 0, 130]
abbrev dktX2_loses_0 : List UInt8 := dkwX2_loses_0 ++ dktX2_loses_1
theorem dksX2_loses_0 : cX2_loses.data.toList.drop 0 = dktX2_loses_0 := by decide +kernel
theorem dksX2_loses_1 : cX2_loses.data.toList.drop 24 = dktX2_loses_1 := dk_seg dksX2_loses_0 24 rfl rfl
theorem dksX2_loses_2 : cX2_loses.data.toList.drop 48 = dktX2_loses_2 := dk_seg dksX2_loses_1 24 rfl rfl
theorem dX2_loses_0 : decode cX2_loses 0 = .ok (.aload_n 0, 1) := dk_42 (dk_at dksX2_loses_0 0 rfl rfl)
theorem dX2_loses_1 : decode cX2_loses 1 = .ok (.getfield 68, 3) := dk_180 0 68 (dk_at dksX2_loses_0 1 rfl rfl)
theorem dX2_loses_4 : decode cX2_loses 4 = .ok (.istore_n 1, 1) := dk_60 (dk_at dksX2_loses_0 4 rfl rfl)
theorem dX2_loses_5 : decode cX2_loses 5 = .ok (.aload_n 0, 1) := dk_42 (dk_at dksX2_loses_0 5 rfl rfl)
theorem dX2_loses_6 : decode cX2_loses 6 = .ok (.dup, 1) := dk_89 (dk_at dksX2_loses_0 6 rfl rfl)
theorem dX2_loses_7 : decode cX2_loses 7 = .ok (.getfield 130, 3) := dk_180 0 130 (dk_at dksX2_loses_0 7 rfl rfl)
theorem dX2_loses_10 : decode cX2_loses 10 = .ok (.iload_n 1, 1) := dk_27 (dk_at dksX2_loses_0 10 rfl rfl)
theorem dX2_loses_11 : decode cX2_loses 11 = .ok (.iconst 1, 1) := dk_4 (dk_at dksX2_loses_0 11 rfl rfl)
theorem dX2_loses_12 : decode cX2_loses 12 = .ok (.if_icmp .ne 7, 3) := dk_160 0 7 (dk_at dksX2_loses_0 12 rfl rfl)
theorem dX2_loses_15 : decode cX2_loses 15 = .ok (.iconst 1, 1) := dk_4 (dk_at dksX2_loses_0 15 rfl rfl)
theorem dX2_loses_16 : decode cX2_loses 16 = .ok (.goto 4, 3) := dk_167 0 4 (dk_at dksX2_loses_0 16 rfl rfl)
theorem dX2_loses_19 : decode cX2_loses 19 = .ok (.iconst 0, 1) := dk_3 (dk_at dksX2_loses_0 19 rfl rfl)
theorem dX2_loses_20 : decode cX2_loses 20 = .ok (.iadd, 1) := dk_96 (dk_at dksX2_loses_0 20 rfl rfl)
theorem dX2_loses_21 : decode cX2_loses 21 = .ok (.putfield 130, 3) := dk_181 0 130 (dk_at dksX2_loses_0 21 rfl rfl)
theorem dX2_loses_24 : decode cX2_loses 24 = .ok (.aload_n 0, 1) := dk_42 (dk_at dksX2_loses_1 0 rfl rfl)
theorem dX2_loses_25 : decode cX2_loses 25 = .ok (.dup, 1) := dk_89 (dk_at dksX2_loses_1 1 rfl rfl)
theorem dX2_loses_26 : decode cX2_loses 26 = .ok (.getfield 106, 3) := dk_180 0 106 (dk_at dksX2_loses_1 2 rfl rfl)
theorem dX2_loses_29 : decode cX2_loses 29 = .ok (.iload_n 1, 1) := dk_27 (dk_at dksX2_loses_1 5 rfl rfl)
theorem dX2_loses_30 : decode cX2_loses 30 = .ok (.iconst 2, 1) := dk_5 (dk_at dksX2_loses_1 6 rfl rfl)
theorem dX2_loses_31 : decode cX2_loses 31 = .ok (.if_icmp .ne 7, 3) := dk_160 0 7 (dk_at dksX2_loses_1 7 rfl rfl)
theorem dX2_loses_34 : decode cX2_loses 34 = .ok (.iconst 1, 1) := dk_4 (dk_at dksX2_loses_1 10 rfl rfl)
theorem dX2_loses_35 : decode cX2_loses 35 = .ok (.goto 4, 3) := dk_167 0 4 (dk_at dksX2_loses_1 11 rfl rfl)
theorem dX2_loses_38 : decode cX2_loses 38 = .ok (.iconst 0, 1) := dk_3 (dk_at dksX2_loses_1 14 rfl rfl)
theorem dX2_loses_39 : decode cX2_loses 39 = .ok (.iadd, 1) := dk_96 (dk_at dksX2_loses_1 15 rfl rfl)
theorem dX2_loses_40 : decode cX2_loses 40 = .ok (.putfield 106, 3) := dk_181 0 106 (dk_at dksX2_loses_1 16 rfl rfl)
theorem dX2_loses_43 : decode cX2_loses 43 = .ok (.aload_n 0, 1) := dk_42 (dk_at dksX2_loses_1 19 rfl rfl)
theorem dX2_loses_44 : decode cX2_loses 44 = .ok (.iconst 0, 1) := dk_3 (dk_at dksX2_loses_1 20 rfl rfl)
theorem dX2_loses_45 : decode cX2_loses 45 = .ok (.putfield 68, 3) := dk_181 0 68 (dk_at dksX2_loses_1 21 rfl rfl)
theorem dX2_loses_48 : decode cX2_loses 48 = .ok (.aload_n 0, 1) := dk_42 (dk_at dksX2_loses_2 0 rfl rfl)
theorem dX2_loses_49 : decode cX2_loses 49 = .ok (.iconst (-1), 1) := dk_2 (dk_at dksX2_loses_2 1 rfl rfl)
theorem dX2_loses_50 : decode cX2_loses 50 = .ok (.putfield 18, 3) := dk_181 0 18 (dk_at dksX2_loses_2 2 rfl rfl)
theorem dX2_loses_53 : decode cX2_loses 53 = .ok (.aload_n 0, 1) := dk_42 (dk_at dksX2_loses_2 5 rfl rfl)
theorem dX2_loses_54 : decode cX2_loses 54 = .ok (.aconst_null, 1) := dk_1 (dk_at dksX2_loses_2 6 rfl rfl)
theorem dX2_loses_55 : decode cX2_loses 55 = .ok (.putfield 77, 3) := dk_181 0 77 (dk_at dksX2_loses_2 7 rfl rfl)
theorem dX2_loses_58 : decode cX2_loses 58 = .ok (.iload_n 1, 1) := dk_27 (dk_at dksX2_loses_2 10 rfl rfl)
theorem dX2_loses_59 : decode cX2_loses 59 = .ok (.ireturn, 1) := dk_172 (dk_at dksX2_loses_2 11 rfl rfl)
abbrev cX2_tokenComes : ByteArray := prog_14_method_5_code
def yX2_tokenComes : MethodName := ⟨RX2, "tokenComes", "(II)V"⟩
def dkwX2_tokenComes_1 : List UInt8 := [181, 0, 77, 177]
abbrev dktX2_tokenComes_1 : List UInt8 := dkwX2_tokenComes_1 ++ []
def dkwX2_tokenComes_0 : List UInt8 := [42, 4, 181, 0, 68, 42, 27, 181, 0, 18, 42, 28, 181, 0, 71, 42, 3, 181, 0, 74, 42, 1]
abbrev dktX2_tokenComes_0 : List UInt8 := dkwX2_tokenComes_0 ++ dktX2_tokenComes_1
theorem dksX2_tokenComes_0 : cX2_tokenComes.data.toList.drop 0 = dktX2_tokenComes_0 := by decide +kernel
theorem dksX2_tokenComes_1 : cX2_tokenComes.data.toList.drop 22 = dktX2_tokenComes_1 := dk_seg dksX2_tokenComes_0 22 rfl rfl
theorem dX2_tokenComes_0 : decode cX2_tokenComes 0 = .ok (.aload_n 0, 1) := dk_42 (dk_at dksX2_tokenComes_0 0 rfl rfl)
theorem dX2_tokenComes_1 : decode cX2_tokenComes 1 = .ok (.iconst 1, 1) := dk_4 (dk_at dksX2_tokenComes_0 1 rfl rfl)
theorem dX2_tokenComes_2 : decode cX2_tokenComes 2 = .ok (.putfield 68, 3) := dk_181 0 68 (dk_at dksX2_tokenComes_0 2 rfl rfl)
theorem dX2_tokenComes_5 : decode cX2_tokenComes 5 = .ok (.aload_n 0, 1) := dk_42 (dk_at dksX2_tokenComes_0 5 rfl rfl)
theorem dX2_tokenComes_6 : decode cX2_tokenComes 6 = .ok (.iload_n 1, 1) := dk_27 (dk_at dksX2_tokenComes_0 6 rfl rfl)
theorem dX2_tokenComes_7 : decode cX2_tokenComes 7 = .ok (.putfield 18, 3) := dk_181 0 18 (dk_at dksX2_tokenComes_0 7 rfl rfl)
theorem dX2_tokenComes_10 : decode cX2_tokenComes 10 = .ok (.aload_n 0, 1) := dk_42 (dk_at dksX2_tokenComes_0 10 rfl rfl)
theorem dX2_tokenComes_11 : decode cX2_tokenComes 11 = .ok (.iload_n 2, 1) := dk_28 (dk_at dksX2_tokenComes_0 11 rfl rfl)
theorem dX2_tokenComes_12 : decode cX2_tokenComes 12 = .ok (.putfield 71, 3) := dk_181 0 71 (dk_at dksX2_tokenComes_0 12 rfl rfl)
theorem dX2_tokenComes_15 : decode cX2_tokenComes 15 = .ok (.aload_n 0, 1) := dk_42 (dk_at dksX2_tokenComes_0 15 rfl rfl)
theorem dX2_tokenComes_16 : decode cX2_tokenComes 16 = .ok (.iconst 0, 1) := dk_3 (dk_at dksX2_tokenComes_0 16 rfl rfl)
theorem dX2_tokenComes_17 : decode cX2_tokenComes 17 = .ok (.putfield 74, 3) := dk_181 0 74 (dk_at dksX2_tokenComes_0 17 rfl rfl)
theorem dX2_tokenComes_20 : decode cX2_tokenComes 20 = .ok (.aload_n 0, 1) := dk_42 (dk_at dksX2_tokenComes_0 20 rfl rfl)
theorem dX2_tokenComes_21 : decode cX2_tokenComes 21 = .ok (.aconst_null, 1) := dk_1 (dk_at dksX2_tokenComes_0 21 rfl rfl)
theorem dX2_tokenComes_22 : decode cX2_tokenComes 22 = .ok (.putfield 77, 3) := dk_181 0 77 (dk_at dksX2_tokenComes_1 0 rfl rfl)
theorem dX2_tokenComes_25 : decode cX2_tokenComes 25 = .ok (.return_, 1) := dk_177 (dk_at dksX2_tokenComes_1 3 rfl rfl)
abbrev cX2_goesBy : ByteArray := prog_14_method_8_code
def yX2_goesBy : MethodName := ⟨RX2, "goesBy", "()V"⟩
def dkwX2_goesBy_0 : List UInt8 := [187, 0, 170, 89, 42, 183, 0, 172, 182, 0, 175, 177]
abbrev dktX2_goesBy_0 : List UInt8 := dkwX2_goesBy_0 ++ []
theorem dksX2_goesBy_0 : cX2_goesBy.data.toList.drop 0 = dktX2_goesBy_0 := by decide +kernel
theorem dX2_goesBy_0 : decode cX2_goesBy 0 = .ok (.new 170, 3) := dk_187 0 170 (dk_at dksX2_goesBy_0 0 rfl rfl)
theorem dX2_goesBy_3 : decode cX2_goesBy 3 = .ok (.dup, 1) := dk_89 (dk_at dksX2_goesBy_0 3 rfl rfl)
theorem dX2_goesBy_4 : decode cX2_goesBy 4 = .ok (.aload_n 0, 1) := dk_42 (dk_at dksX2_goesBy_0 4 rfl rfl)
theorem dX2_goesBy_5 : decode cX2_goesBy 5 = .ok (.invokespecial 172, 3) := dk_183 0 172 (dk_at dksX2_goesBy_0 5 rfl rfl)
theorem dX2_goesBy_8 : decode cX2_goesBy 8 = .ok (.invokevirtual 175, 3) := dk_182 0 175 (dk_at dksX2_goesBy_0 8 rfl rfl)
theorem dX2_goesBy_11 : decode cX2_goesBy 11 = .ok (.return_, 1) := dk_177 (dk_at dksX2_goesBy_0 11 rfl rfl)
abbrev cX2_whereIs : ByteArray := prog_14_method_11_code
def yX2_whereIs : MethodName := ⟨RX2, "whereIs", "(I)I"⟩
def dkwX2_whereIs_4 : List UInt8 := [180, 0, 185, 27, 160, 0, 8, 45, 180, 0, 51, 172, 167, 255, 220, 167, 255, 189, 2, 172]
abbrev dktX2_whereIs_4 : List UInt8 := dkwX2_whereIs_4 ++ []
def dkwX2_whereIs_3 : List UInt8 := [185, 0, 39, 1, 0, 153, 0, 32, 25, 4, 185, 0, 45, 1, 0, 192, 0, 186, 58, 5, 25, 5]
abbrev dktX2_whereIs_3 : List UInt8 := dkwX2_whereIs_3 ++ dktX2_whereIs_4
def dkwX2_whereIs_2 : List UInt8 := [185, 0, 45, 1, 0, 192, 0, 49, 78, 45, 180, 0, 152, 182, 0, 190, 58, 4, 25, 4]
abbrev dktX2_whereIs_2 : List UInt8 := dkwX2_whereIs_2 ++ dktX2_whereIs_3
def dkwX2_whereIs_1 : List UInt8 := [172, 42, 180, 0, 12, 182, 0, 29, 185, 0, 33, 1, 0, 77, 44, 185, 0, 39, 1, 0, 153, 0, 64, 44]
abbrev dktX2_whereIs_1 : List UInt8 := dkwX2_whereIs_1 ++ dktX2_whereIs_2
def dkwX2_whereIs_0 : List UInt8 := [42, 180, 0, 68, 5, 160, 0, 20, 42, 180, 0, 77, 180, 0, 181, 180, 0, 185, 27, 160, 0, 6, 16, 100]
abbrev dktX2_whereIs_0 : List UInt8 := dkwX2_whereIs_0 ++ dktX2_whereIs_1
theorem dksX2_whereIs_0 : cX2_whereIs.data.toList.drop 0 = dktX2_whereIs_0 := by decide +kernel
theorem dksX2_whereIs_1 : cX2_whereIs.data.toList.drop 24 = dktX2_whereIs_1 := dk_seg dksX2_whereIs_0 24 rfl rfl
theorem dksX2_whereIs_2 : cX2_whereIs.data.toList.drop 48 = dktX2_whereIs_2 := dk_seg dksX2_whereIs_1 24 rfl rfl
theorem dksX2_whereIs_3 : cX2_whereIs.data.toList.drop 68 = dktX2_whereIs_3 := dk_seg dksX2_whereIs_2 20 rfl rfl
theorem dksX2_whereIs_4 : cX2_whereIs.data.toList.drop 90 = dktX2_whereIs_4 := dk_seg dksX2_whereIs_3 22 rfl rfl
theorem dX2_whereIs_0 : decode cX2_whereIs 0 = .ok (.aload_n 0, 1) := dk_42 (dk_at dksX2_whereIs_0 0 rfl rfl)
theorem dX2_whereIs_1 : decode cX2_whereIs 1 = .ok (.getfield 68, 3) := dk_180 0 68 (dk_at dksX2_whereIs_0 1 rfl rfl)
theorem dX2_whereIs_4 : decode cX2_whereIs 4 = .ok (.iconst 2, 1) := dk_5 (dk_at dksX2_whereIs_0 4 rfl rfl)
theorem dX2_whereIs_5 : decode cX2_whereIs 5 = .ok (.if_icmp .ne 20, 3) := dk_160 0 20 (dk_at dksX2_whereIs_0 5 rfl rfl)
theorem dX2_whereIs_8 : decode cX2_whereIs 8 = .ok (.aload_n 0, 1) := dk_42 (dk_at dksX2_whereIs_0 8 rfl rfl)
theorem dX2_whereIs_9 : decode cX2_whereIs 9 = .ok (.getfield 77, 3) := dk_180 0 77 (dk_at dksX2_whereIs_0 9 rfl rfl)
theorem dX2_whereIs_12 : decode cX2_whereIs 12 = .ok (.getfield 181, 3) := dk_180 0 181 (dk_at dksX2_whereIs_0 12 rfl rfl)
theorem dX2_whereIs_15 : decode cX2_whereIs 15 = .ok (.getfield 185, 3) := dk_180 0 185 (dk_at dksX2_whereIs_0 15 rfl rfl)
theorem dX2_whereIs_18 : decode cX2_whereIs 18 = .ok (.iload_n 1, 1) := dk_27 (dk_at dksX2_whereIs_0 18 rfl rfl)
theorem dX2_whereIs_19 : decode cX2_whereIs 19 = .ok (.if_icmp .ne 6, 3) := dk_160 0 6 (dk_at dksX2_whereIs_0 19 rfl rfl)
theorem dX2_whereIs_22 : decode cX2_whereIs 22 = .ok (.bipush 100, 2) := dk_16 100 (dk_at dksX2_whereIs_0 22 rfl rfl)
theorem dX2_whereIs_24 : decode cX2_whereIs 24 = .ok (.ireturn, 1) := dk_172 (dk_at dksX2_whereIs_1 0 rfl rfl)
theorem dX2_whereIs_25 : decode cX2_whereIs 25 = .ok (.aload_n 0, 1) := dk_42 (dk_at dksX2_whereIs_1 1 rfl rfl)
theorem dX2_whereIs_26 : decode cX2_whereIs 26 = .ok (.getfield 12, 3) := dk_180 0 12 (dk_at dksX2_whereIs_1 2 rfl rfl)
theorem dX2_whereIs_29 : decode cX2_whereIs 29 = .ok (.invokevirtual 29, 3) := dk_182 0 29 (dk_at dksX2_whereIs_1 5 rfl rfl)
theorem dX2_whereIs_32 : decode cX2_whereIs 32 = .ok (.invokeinterface 33 1, 5) := by decide +kernel
theorem dX2_whereIs_37 : decode cX2_whereIs 37 = .ok (.astore_n 2, 1) := dk_77 (dk_at dksX2_whereIs_1 13 rfl rfl)
theorem dX2_whereIs_38 : decode cX2_whereIs 38 = .ok (.aload_n 2, 1) := dk_44 (dk_at dksX2_whereIs_1 14 rfl rfl)
theorem dX2_whereIs_39 : decode cX2_whereIs 39 = .ok (.invokeinterface 39 1, 5) := by decide +kernel
theorem dX2_whereIs_44 : decode cX2_whereIs 44 = .ok (.ifCond .eq 64, 3) := dk_153 0 64 (dk_at dksX2_whereIs_1 20 rfl rfl)
theorem dX2_whereIs_47 : decode cX2_whereIs 47 = .ok (.aload_n 2, 1) := dk_44 (dk_at dksX2_whereIs_1 23 rfl rfl)
theorem dX2_whereIs_48 : decode cX2_whereIs 48 = .ok (.invokeinterface 45 1, 5) := by decide +kernel
theorem dX2_whereIs_53 : decode cX2_whereIs 53 = .ok (.checkcast 49, 3) := dk_192 0 49 (dk_at dksX2_whereIs_2 5 rfl rfl)
theorem dX2_whereIs_56 : decode cX2_whereIs 56 = .ok (.astore_n 3, 1) := dk_78 (dk_at dksX2_whereIs_2 8 rfl rfl)
theorem dX2_whereIs_57 : decode cX2_whereIs 57 = .ok (.aload_n 3, 1) := dk_45 (dk_at dksX2_whereIs_2 9 rfl rfl)
theorem dX2_whereIs_58 : decode cX2_whereIs 58 = .ok (.getfield 152, 3) := dk_180 0 152 (dk_at dksX2_whereIs_2 10 rfl rfl)
theorem dX2_whereIs_61 : decode cX2_whereIs 61 = .ok (.invokevirtual 190, 3) := dk_182 0 190 (dk_at dksX2_whereIs_2 13 rfl rfl)
theorem dX2_whereIs_64 : decode cX2_whereIs 64 = .ok (.astore 4, 2) := dk_58 4 (dk_at dksX2_whereIs_2 16 rfl rfl)
theorem dX2_whereIs_66 : decode cX2_whereIs 66 = .ok (.aload 4, 2) := dk_25 4 (dk_at dksX2_whereIs_2 18 rfl rfl)
theorem dX2_whereIs_68 : decode cX2_whereIs 68 = .ok (.invokeinterface 39 1, 5) := by decide +kernel
theorem dX2_whereIs_73 : decode cX2_whereIs 73 = .ok (.ifCond .eq 32, 3) := dk_153 0 32 (dk_at dksX2_whereIs_3 5 rfl rfl)
theorem dX2_whereIs_76 : decode cX2_whereIs 76 = .ok (.aload 4, 2) := dk_25 4 (dk_at dksX2_whereIs_3 8 rfl rfl)
theorem dX2_whereIs_78 : decode cX2_whereIs 78 = .ok (.invokeinterface 45 1, 5) := by decide +kernel
theorem dX2_whereIs_83 : decode cX2_whereIs 83 = .ok (.checkcast 186, 3) := dk_192 0 186 (dk_at dksX2_whereIs_3 15 rfl rfl)
theorem dX2_whereIs_86 : decode cX2_whereIs 86 = .ok (.astore 5, 2) := dk_58 5 (dk_at dksX2_whereIs_3 18 rfl rfl)
theorem dX2_whereIs_88 : decode cX2_whereIs 88 = .ok (.aload 5, 2) := dk_25 5 (dk_at dksX2_whereIs_3 20 rfl rfl)
theorem dX2_whereIs_90 : decode cX2_whereIs 90 = .ok (.getfield 185, 3) := dk_180 0 185 (dk_at dksX2_whereIs_4 0 rfl rfl)
theorem dX2_whereIs_93 : decode cX2_whereIs 93 = .ok (.iload_n 1, 1) := dk_27 (dk_at dksX2_whereIs_4 3 rfl rfl)
theorem dX2_whereIs_94 : decode cX2_whereIs 94 = .ok (.if_icmp .ne 8, 3) := dk_160 0 8 (dk_at dksX2_whereIs_4 4 rfl rfl)
theorem dX2_whereIs_97 : decode cX2_whereIs 97 = .ok (.aload_n 3, 1) := dk_45 (dk_at dksX2_whereIs_4 7 rfl rfl)
theorem dX2_whereIs_98 : decode cX2_whereIs 98 = .ok (.getfield 51, 3) := dk_180 0 51 (dk_at dksX2_whereIs_4 8 rfl rfl)
theorem dX2_whereIs_101 : decode cX2_whereIs 101 = .ok (.ireturn, 1) := dk_172 (dk_at dksX2_whereIs_4 11 rfl rfl)
theorem dX2_whereIs_102 : decode cX2_whereIs 102 = .ok (.goto (-36), 3) := dk_167 255 220 (dk_at dksX2_whereIs_4 12 rfl rfl)
theorem dX2_whereIs_105 : decode cX2_whereIs 105 = .ok (.goto (-67), 3) := dk_167 255 189 (dk_at dksX2_whereIs_4 15 rfl rfl)
theorem dX2_whereIs_108 : decode cX2_whereIs 108 = .ok (.iconst (-1), 1) := dk_2 (dk_at dksX2_whereIs_4 18 rfl rfl)
theorem dX2_whereIs_109 : decode cX2_whereIs 109 = .ok (.ireturn, 1) := dk_172 (dk_at dksX2_whereIs_4 19 rfl rfl)
abbrev cX2_round : ByteArray := prog_14_method_4_code
def yX2_round : MethodName := ⟨RX2, "round", "(I)LTokenRing$State$Round;"⟩
def dkwX2_round_0 : List UInt8 := [187, 0, 144, 89, 42, 27, 183, 0, 146, 176]
abbrev dktX2_round_0 : List UInt8 := dkwX2_round_0 ++ []
theorem dksX2_round_0 : cX2_round.data.toList.drop 0 = dktX2_round_0 := by decide +kernel
theorem dX2_round_0 : decode cX2_round 0 = .ok (.new 144, 3) := dk_187 0 144 (dk_at dksX2_round_0 0 rfl rfl)
theorem dX2_round_3 : decode cX2_round 3 = .ok (.dup, 1) := dk_89 (dk_at dksX2_round_0 3 rfl rfl)
theorem dX2_round_4 : decode cX2_round 4 = .ok (.aload_n 0, 1) := dk_42 (dk_at dksX2_round_0 4 rfl rfl)
theorem dX2_round_5 : decode cX2_round 5 = .ok (.iload_n 1, 1) := dk_27 (dk_at dksX2_round_0 5 rfl rfl)
theorem dX2_round_6 : decode cX2_round 6 = .ok (.invokespecial 146, 3) := dk_183 0 146 (dk_at dksX2_round_0 6 rfl rfl)
theorem dX2_round_9 : decode cX2_round 9 = .ok (.areturn, 1) := dk_176 (dk_at dksX2_round_0 9 rfl rfl)
abbrev cX2_canTake : ByteArray := prog_14_method_9_code
def yX2_canTake : MethodName := ⟨RX2, "canTake", "(LTokenRing$Station;)Z"⟩
def dkwX2_canTake_1 : List UInt8 := [172]
abbrev dktX2_canTake_1 : List UInt8 := dkwX2_canTake_1 ++ []
def dkwX2_canTake_0 : List UInt8 := [42, 180, 0, 68, 4, 160, 0, 18, 43, 182, 0, 178, 42, 180, 0, 71, 161, 0, 7, 4, 167, 0, 4, 3]
abbrev dktX2_canTake_0 : List UInt8 := dkwX2_canTake_0 ++ dktX2_canTake_1
theorem dksX2_canTake_0 : cX2_canTake.data.toList.drop 0 = dktX2_canTake_0 := by decide +kernel
theorem dksX2_canTake_1 : cX2_canTake.data.toList.drop 24 = dktX2_canTake_1 := dk_seg dksX2_canTake_0 24 rfl rfl
theorem dX2_canTake_0 : decode cX2_canTake 0 = .ok (.aload_n 0, 1) := dk_42 (dk_at dksX2_canTake_0 0 rfl rfl)
theorem dX2_canTake_1 : decode cX2_canTake 1 = .ok (.getfield 68, 3) := dk_180 0 68 (dk_at dksX2_canTake_0 1 rfl rfl)
theorem dX2_canTake_4 : decode cX2_canTake 4 = .ok (.iconst 1, 1) := dk_4 (dk_at dksX2_canTake_0 4 rfl rfl)
theorem dX2_canTake_5 : decode cX2_canTake 5 = .ok (.if_icmp .ne 18, 3) := dk_160 0 18 (dk_at dksX2_canTake_0 5 rfl rfl)
theorem dX2_canTake_8 : decode cX2_canTake 8 = .ok (.aload_n 1, 1) := dk_43 (dk_at dksX2_canTake_0 8 rfl rfl)
theorem dX2_canTake_9 : decode cX2_canTake 9 = .ok (.invokevirtual 178, 3) := dk_182 0 178 (dk_at dksX2_canTake_0 9 rfl rfl)
theorem dX2_canTake_12 : decode cX2_canTake 12 = .ok (.aload_n 0, 1) := dk_42 (dk_at dksX2_canTake_0 12 rfl rfl)
theorem dX2_canTake_13 : decode cX2_canTake 13 = .ok (.getfield 71, 3) := dk_180 0 71 (dk_at dksX2_canTake_0 13 rfl rfl)
theorem dX2_canTake_16 : decode cX2_canTake 16 = .ok (.if_icmp .lt 7, 3) := dk_161 0 7 (dk_at dksX2_canTake_0 16 rfl rfl)
theorem dX2_canTake_19 : decode cX2_canTake 19 = .ok (.iconst 1, 1) := dk_4 (dk_at dksX2_canTake_0 19 rfl rfl)
theorem dX2_canTake_20 : decode cX2_canTake 20 = .ok (.goto 4, 3) := dk_167 0 4 (dk_at dksX2_canTake_0 20 rfl rfl)
theorem dX2_canTake_23 : decode cX2_canTake 23 = .ok (.iconst 0, 1) := dk_3 (dk_at dksX2_canTake_0 23 rfl rfl)
theorem dX2_canTake_24 : decode cX2_canTake 24 = .ok (.ireturn, 1) := dk_172 (dk_at dksX2_canTake_1 0 rfl rfl)
theorem q96 : (Jvm.Cond.initialized "TokenRing$State") ∈ lw_all := lw_g (lw_at lw_m1 2 rfl) rfl
theorem q172 : (Jvm.Cond.instantiable "TokenRing$State" (25 : Nat)) ∈ lw_all := lw_g (lw_at lw_m1 78 rfl) rfl
theorem q174 : (Jvm.Cond.instanceMethod ({ cls := "TokenRing$State", name := "<init>", desc := "()V" } : Jvm.MethodName)) ∈ lw_all := lw_g (lw_at lw_m1 80 rfl) rfl
theorem q175 : (Jvm.Cond.code ({ cls := "TokenRing$State", name := "<init>", desc := "()V" } : Jvm.MethodName) prog_14_method_1_code (1 : Nat) (Option.none : Option Jvm.ClassFile.FieldType)) ∈ lw_all := lw_g (lw_at lw_m1 81 rfl) rfl
theorem q176 : (Jvm.Cond.methodLink "TokenRing$State" (3 : Nat) ({ cls := "java/lang/Object", name := "<init>", desc := "()V" } : Jvm.MethodName)) ∈ lw_all := lw_g (lw_at lw_m1 82 rfl) rfl
theorem q177 : (Jvm.Cond.classLink "TokenRing$State" (9 : Nat) "java/util/TreeMap") ∈ lw_all := lw_g (lw_at lw_m1 83 rfl) rfl
theorem q179 : (Jvm.Cond.methodLink "TokenRing$State" (11 : Nat) ({ cls := "java/util/TreeMap", name := "<init>", desc := "()V" } : Jvm.MethodName)) ∈ lw_all := lw_g (lw_at lw_m1 85 rfl) rfl
theorem q215 : (Jvm.Cond.fieldLink "TokenRing$State" (12 : Nat) "TokenRing$State" "stations" "Ljava/util/TreeMap;") ∈ lw_all := lw_g (lw_at lw_m1 121 rfl) rfl
theorem q219 : (Jvm.Cond.fieldLink "TokenRing$State" (68 : Nat) "TokenRing$State" "kind" "I") ∈ lw_all := lw_g (lw_at lw_m1 125 rfl) rfl
theorem q222 : (Jvm.Cond.fieldLink "TokenRing$State" (18 : Nat) "TokenRing$State" "at" "I") ∈ lw_all := lw_g (lw_at lw_m1 128 rfl) rfl
theorem q225 : (Jvm.Cond.fieldLink "TokenRing$State" (71 : Nat) "TokenRing$State" "tokenRank" "I") ∈ lw_all := lw_g (lw_at lw_m1 131 rfl) rfl
theorem q228 : (Jvm.Cond.fieldLink "TokenRing$State" (74 : Nat) "TokenRing$State" "tokenPasses" "I") ∈ lw_all := lw_g (lw_at lw_m1 134 rfl) rfl
theorem q230 : (Jvm.Cond.fieldLink "TokenRing$State" (77 : Nat) "TokenRing$State" "ride" "LTokenRing$Ride;") ∈ lw_all := lw_g (lw_at lw_m1 136 rfl) rfl
theorem q233 : (Jvm.Cond.fieldLink "TokenRing$State" (22 : Nat) "TokenRing$State" "monitor" "I") ∈ lw_all := lw_g (lw_at lw_m1 139 rfl) rfl
theorem q237 : (Jvm.Cond.fieldLink "TokenRing$State" (86 : Nat) "TokenRing$State" "silence" "I") ∈ lw_all := lw_g (lw_at lw_m1 143 rfl) rfl
theorem q239 : (Jvm.Cond.fieldLink "TokenRing$State" (89 : Nat) "TokenRing$State" "ticks" "I") ∈ lw_all := lw_g (lw_at lw_m1 145 rfl) rfl
theorem q242 : (Jvm.Cond.fieldLink "TokenRing$State" (92 : Nat) "TokenRing$State" "came" "I") ∈ lw_all := lw_g (lw_at lw_m1 148 rfl) rfl
theorem q244 : (Jvm.Cond.fieldLink "TokenRing$State" (95 : Nat) "TokenRing$State" "put" "I") ∈ lw_all := lw_g (lw_at lw_m1 150 rfl) rfl
theorem q247 : (Jvm.Cond.fieldLink "TokenRing$State" (97 : Nat) "TokenRing$State" "received" "I") ∈ lw_all := lw_g (lw_at lw_m1 153 rfl) rfl
theorem q250 : (Jvm.Cond.fieldLink "TokenRing$State" (100 : Nat) "TokenRing$State" "returned" "I") ∈ lw_all := lw_g (lw_at lw_m1 156 rfl) rfl
theorem q253 : (Jvm.Cond.fieldLink "TokenRing$State" (103 : Nat) "TokenRing$State" "orphans" "I") ∈ lw_all := lw_g (lw_at lw_m1 159 rfl) rfl
theorem q256 : (Jvm.Cond.fieldLink "TokenRing$State" (106 : Nat) "TokenRing$State" "lostOnRing" "I") ∈ lw_all := lw_g (lw_at lw_m1 162 rfl) rfl
theorem q258 : (Jvm.Cond.fieldLink "TokenRing$State" (109 : Nat) "TokenRing$State" "lostInQueues" "I") ∈ lw_all := lw_g (lw_at lw_m1 164 rfl) rfl
theorem q260 : (Jvm.Cond.fieldLink "TokenRing$State" (112 : Nat) "TokenRing$State" "dropped" "I") ∈ lw_all := lw_g (lw_at lw_m1 166 rfl) rfl
theorem q262 : (Jvm.Cond.fieldLink "TokenRing$State" (115 : Nat) "TokenRing$State" "lengths" "I") ∈ lw_all := lw_g (lw_at lw_m1 168 rfl) rfl
theorem q265 : (Jvm.Cond.fieldLink "TokenRing$State" (118 : Nat) "TokenRing$State" "delays" "I") ∈ lw_all := lw_g (lw_at lw_m1 171 rfl) rfl
theorem q268 : (Jvm.Cond.fieldLink "TokenRing$State" (121 : Nat) "TokenRing$State" "greatestDelay" "I") ∈ lw_all := lw_g (lw_at lw_m1 174 rfl) rfl
theorem q272 : (Jvm.Cond.fieldLink "TokenRing$State" (124 : Nat) "TokenRing$State" "purges" "I") ∈ lw_all := lw_g (lw_at lw_m1 178 rfl) rfl
theorem q275 : (Jvm.Cond.fieldLink "TokenRing$State" (127 : Nat) "TokenRing$State" "claims" "I") ∈ lw_all := lw_g (lw_at lw_m1 181 rfl) rfl
theorem q277 : (Jvm.Cond.fieldLink "TokenRing$State" (130 : Nat) "TokenRing$State" "tokensLost" "I") ∈ lw_all := lw_g (lw_at lw_m1 183 rfl) rfl
theorem q279 : (Jvm.Cond.fieldLink "TokenRing$State" (25 : Nat) "TokenRing$State" "watched" "I") ∈ lw_all := lw_g (lw_at lw_m1 185 rfl) rfl
theorem q284 : (Jvm.Cond.laysFinal "TokenRing$State" "TokenRing$State" "stations" "Ljava/util/TreeMap;") ∈ lw_all := lw_g (lw_at lw_m1 190 rfl) rfl
theorem q285 : (Jvm.Cond.soleField "TokenRing$State" "stations") ∈ lw_all := lw_g (lw_at lw_m1 191 rfl) rfl
theorem q286 : (Jvm.Cond.lays "TokenRing$State" "TokenRing$State" "kind" "I") ∈ lw_all := lw_g (lw_at lw_m1 192 rfl) rfl
theorem q287 : (Jvm.Cond.soleField "TokenRing$State" "kind") ∈ lw_all := lw_g (lw_at lw_m1 193 rfl) rfl
theorem q288 : (Jvm.Cond.lays "TokenRing$State" "TokenRing$State" "at" "I") ∈ lw_all := lw_g (lw_at lw_m1 194 rfl) rfl
theorem q289 : (Jvm.Cond.soleField "TokenRing$State" "at") ∈ lw_all := lw_g (lw_at lw_m1 195 rfl) rfl
theorem q290 : (Jvm.Cond.lays "TokenRing$State" "TokenRing$State" "tokenRank" "I") ∈ lw_all := lw_g (lw_at lw_m1 196 rfl) rfl
theorem q291 : (Jvm.Cond.soleField "TokenRing$State" "tokenRank") ∈ lw_all := lw_g (lw_at lw_m1 197 rfl) rfl
theorem q292 : (Jvm.Cond.lays "TokenRing$State" "TokenRing$State" "tokenPasses" "I") ∈ lw_all := lw_g (lw_at lw_m1 198 rfl) rfl
theorem q293 : (Jvm.Cond.soleField "TokenRing$State" "tokenPasses") ∈ lw_all := lw_g (lw_at lw_m1 199 rfl) rfl
theorem q294 : (Jvm.Cond.lays "TokenRing$State" "TokenRing$State" "ride" "LTokenRing$Ride;") ∈ lw_all := lw_g (lw_at lw_m1 200 rfl) rfl
theorem q295 : (Jvm.Cond.soleField "TokenRing$State" "ride") ∈ lw_all := lw_g (lw_at lw_m1 201 rfl) rfl
theorem q296 : (Jvm.Cond.lays "TokenRing$State" "TokenRing$State" "monitor" "I") ∈ lw_all := lw_g (lw_at lw_m1 202 rfl) rfl
theorem q297 : (Jvm.Cond.soleField "TokenRing$State" "monitor") ∈ lw_all := lw_g (lw_at lw_m1 203 rfl) rfl
theorem q298 : (Jvm.Cond.lays "TokenRing$State" "TokenRing$State" "silence" "I") ∈ lw_all := lw_g (lw_at lw_m1 204 rfl) rfl
theorem q299 : (Jvm.Cond.soleField "TokenRing$State" "silence") ∈ lw_all := lw_g (lw_at lw_m1 205 rfl) rfl
theorem q300 : (Jvm.Cond.lays "TokenRing$State" "TokenRing$State" "ticks" "I") ∈ lw_all := lw_g (lw_at lw_m1 206 rfl) rfl
theorem q301 : (Jvm.Cond.soleField "TokenRing$State" "ticks") ∈ lw_all := lw_g (lw_at lw_m1 207 rfl) rfl
theorem q302 : (Jvm.Cond.lays "TokenRing$State" "TokenRing$State" "came" "I") ∈ lw_all := lw_g (lw_at lw_m1 208 rfl) rfl
theorem q303 : (Jvm.Cond.soleField "TokenRing$State" "came") ∈ lw_all := lw_g (lw_at lw_m1 209 rfl) rfl
theorem q304 : (Jvm.Cond.lays "TokenRing$State" "TokenRing$State" "put" "I") ∈ lw_all := lw_g (lw_at lw_m1 210 rfl) rfl
theorem q305 : (Jvm.Cond.soleField "TokenRing$State" "put") ∈ lw_all := lw_g (lw_at lw_m1 211 rfl) rfl
theorem q306 : (Jvm.Cond.lays "TokenRing$State" "TokenRing$State" "received" "I") ∈ lw_all := lw_g (lw_at lw_m1 212 rfl) rfl
theorem q307 : (Jvm.Cond.soleField "TokenRing$State" "received") ∈ lw_all := lw_g (lw_at lw_m1 213 rfl) rfl
theorem q308 : (Jvm.Cond.lays "TokenRing$State" "TokenRing$State" "returned" "I") ∈ lw_all := lw_g (lw_at lw_m1 214 rfl) rfl
theorem q309 : (Jvm.Cond.soleField "TokenRing$State" "returned") ∈ lw_all := lw_g (lw_at lw_m1 215 rfl) rfl
theorem q310 : (Jvm.Cond.lays "TokenRing$State" "TokenRing$State" "orphans" "I") ∈ lw_all := lw_g (lw_at lw_m1 216 rfl) rfl
theorem q311 : (Jvm.Cond.soleField "TokenRing$State" "orphans") ∈ lw_all := lw_g (lw_at lw_m1 217 rfl) rfl
theorem q312 : (Jvm.Cond.lays "TokenRing$State" "TokenRing$State" "lostOnRing" "I") ∈ lw_all := lw_g (lw_at lw_m1 218 rfl) rfl
theorem q313 : (Jvm.Cond.soleField "TokenRing$State" "lostOnRing") ∈ lw_all := lw_g (lw_at lw_m1 219 rfl) rfl
theorem q314 : (Jvm.Cond.lays "TokenRing$State" "TokenRing$State" "lostInQueues" "I") ∈ lw_all := lw_g (lw_at lw_m1 220 rfl) rfl
theorem q315 : (Jvm.Cond.soleField "TokenRing$State" "lostInQueues") ∈ lw_all := lw_g (lw_at lw_m1 221 rfl) rfl
theorem q316 : (Jvm.Cond.lays "TokenRing$State" "TokenRing$State" "dropped" "I") ∈ lw_all := lw_g (lw_at lw_m1 222 rfl) rfl
theorem q317 : (Jvm.Cond.soleField "TokenRing$State" "dropped") ∈ lw_all := lw_g (lw_at lw_m1 223 rfl) rfl
theorem q318 : (Jvm.Cond.lays "TokenRing$State" "TokenRing$State" "lengths" "I") ∈ lw_all := lw_g (lw_at lw_m1 224 rfl) rfl
theorem q319 : (Jvm.Cond.soleField "TokenRing$State" "lengths") ∈ lw_all := lw_g (lw_at lw_m1 225 rfl) rfl
theorem q320 : (Jvm.Cond.lays "TokenRing$State" "TokenRing$State" "delays" "I") ∈ lw_all := lw_g (lw_at lw_m1 226 rfl) rfl
theorem q321 : (Jvm.Cond.soleField "TokenRing$State" "delays") ∈ lw_all := lw_g (lw_at lw_m1 227 rfl) rfl
theorem q322 : (Jvm.Cond.lays "TokenRing$State" "TokenRing$State" "greatestDelay" "I") ∈ lw_all := lw_g (lw_at lw_m1 228 rfl) rfl
theorem q323 : (Jvm.Cond.soleField "TokenRing$State" "greatestDelay") ∈ lw_all := lw_g (lw_at lw_m1 229 rfl) rfl
theorem q324 : (Jvm.Cond.lays "TokenRing$State" "TokenRing$State" "purges" "I") ∈ lw_all := lw_g (lw_at lw_m1 230 rfl) rfl
theorem q325 : (Jvm.Cond.soleField "TokenRing$State" "purges") ∈ lw_all := lw_g (lw_at lw_m1 231 rfl) rfl
theorem q326 : (Jvm.Cond.lays "TokenRing$State" "TokenRing$State" "claims" "I") ∈ lw_all := lw_g (lw_at lw_m1 232 rfl) rfl
theorem q327 : (Jvm.Cond.soleField "TokenRing$State" "claims") ∈ lw_all := lw_g (lw_at lw_m1 233 rfl) rfl
theorem q328 : (Jvm.Cond.lays "TokenRing$State" "TokenRing$State" "tokensLost" "I") ∈ lw_all := lw_g (lw_at lw_m1 234 rfl) rfl
theorem q329 : (Jvm.Cond.soleField "TokenRing$State" "tokensLost") ∈ lw_all := lw_g (lw_at lw_m1 235 rfl) rfl
theorem q330 : (Jvm.Cond.lays "TokenRing$State" "TokenRing$State" "watched" "I") ∈ lw_all := lw_g (lw_at lw_m1 236 rfl) rfl
theorem q331 : (Jvm.Cond.soleField "TokenRing$State" "watched") ∈ lw_all := lw_g (lw_at lw_m1 237 rfl) rfl
theorem q332 : (Jvm.Cond.lays "TokenRing$State" "TokenRing$State" "isSeen" "Z") ∈ lw_all := lw_g (lw_at lw_m1 238 rfl) rfl
theorem q333 : (Jvm.Cond.soleField "TokenRing$State" "isSeen") ∈ lw_all := lw_g (lw_at lw_m1 239 rfl) rfl
theorem q334 : (Jvm.Cond.superclass "TokenRing$State" "java/lang/Object") ∈ lw_all := lw_g (lw_at lw_m2 0 rfl) rfl
theorem q421 : (Jvm.Cond.instanceMethod ({ cls := "TokenRing$State", name := "waiting", desc := "()I" } : Jvm.MethodName)) ∈ lw_all := lw_g (lw_at lw_m2 87 rfl) rfl
theorem q422 : (Jvm.Cond.selects "TokenRing$State" ({ cls := "TokenRing$State", name := "waiting", desc := "()I" } : Jvm.MethodName) ({ cls := "TokenRing$State", name := "waiting", desc := "()I" } : Jvm.MethodName)) ∈ lw_all := lw_g (lw_at lw_m2 88 rfl) rfl
theorem q423 : (Jvm.Cond.code ({ cls := "TokenRing$State", name := "waiting", desc := "()I" } : Jvm.MethodName) prog_14_method_10_code (4 : Nat) (Option.some Jvm.ClassFile.FieldType.int)) ∈ lw_all := lw_g (lw_at lw_m2 89 rfl) rfl
theorem q424 : (Jvm.Cond.methodLink "TokenRing$State" (29 : Nat) ({ cls := "java/util/TreeMap", name := "values", desc := "()Ljava/util/Collection;" } : Jvm.MethodName)) ∈ lw_all := lw_g (lw_at lw_m2 90 rfl) rfl
theorem q438 : (Jvm.Cond.interfaceEntry "TokenRing$State" (33 : Nat)) ∈ lw_tbl := lw_at lw_m2 104 rfl
theorem q439 : (Jvm.Cond.methodLink "TokenRing$State" (33 : Nat) ({ cls := "java/util/Collection", name := "iterator", desc := "()Ljava/util/Iterator;" } : Jvm.MethodName)) ∈ lw_all := lw_g (lw_at lw_m2 105 rfl) rfl
theorem q844 : (Jvm.Cond.interfaceEntry "TokenRing$State" (39 : Nat)) ∈ lw_tbl := lw_at lw_m4 30 rfl
theorem q845 : (Jvm.Cond.methodLink "TokenRing$State" (39 : Nat) ({ cls := "java/util/Iterator", name := "hasNext", desc := "()Z" } : Jvm.MethodName)) ∈ lw_all := lw_g (lw_at lw_m4 31 rfl) rfl
theorem q885 : (Jvm.Cond.interfaceEntry "TokenRing$State" (45 : Nat)) ∈ lw_tbl := lw_at lw_m4 71 rfl
theorem q886 : (Jvm.Cond.methodLink "TokenRing$State" (45 : Nat) ({ cls := "java/util/Iterator", name := "next", desc := "()Ljava/lang/Object;" } : Jvm.MethodName)) ∈ lw_all := lw_g (lw_at lw_m4 72 rfl) rfl
theorem q899 : (Jvm.Cond.instanceMethod ({ cls := "TokenRing$State", name := "next", desc := "(I)I" } : Jvm.MethodName)) ∈ lw_all := lw_g (lw_at lw_m4 85 rfl) rfl
theorem q900 : (Jvm.Cond.selects "TokenRing$State" ({ cls := "TokenRing$State", name := "next", desc := "(I)I" } : Jvm.MethodName) ({ cls := "TokenRing$State", name := "next", desc := "(I)I" } : Jvm.MethodName)) ∈ lw_all := lw_g (lw_at lw_m4 86 rfl) rfl
theorem q901 : (Jvm.Cond.code ({ cls := "TokenRing$State", name := "next", desc := "(I)I" } : Jvm.MethodName) prog_14_method_3_code (3 : Nat) (Option.some Jvm.ClassFile.FieldType.int)) ∈ lw_all := lw_g (lw_at lw_m4 87 rfl) rfl
theorem q902 : (Jvm.Cond.methodLink "TokenRing$State" (54 : Nat) ({ cls := "java/lang/Integer", name := "valueOf", desc := "(I)Ljava/lang/Integer;" } : Jvm.MethodName)) ∈ lw_all := lw_g (lw_at lw_m4 88 rfl) rfl
theorem q921 : (Jvm.Cond.methodLink "TokenRing$State" (133 : Nat) ({ cls := "java/util/TreeMap", name := "higherKey", desc := "(Ljava/lang/Object;)Ljava/lang/Object;" } : Jvm.MethodName)) ∈ lw_all := lw_g (lw_at lw_m4 107 rfl) rfl
theorem q929 : (Jvm.Cond.classLink "TokenRing$State" (55 : Nat) "java/lang/Integer") ∈ lw_all := lw_g (lw_at lw_m4 115 rfl) rfl
theorem q930 : (Jvm.Cond.methodLink "TokenRing$State" (137 : Nat) ({ cls := "java/util/TreeMap", name := "firstKey", desc := "()Ljava/lang/Object;" } : Jvm.MethodName)) ∈ lw_all := lw_g (lw_at lw_m4 116 rfl) rfl
theorem q1007 : (Jvm.Cond.methodLink "TokenRing$State" (140 : Nat) ({ cls := "java/lang/Integer", name := "intValue", desc := "()I" } : Jvm.MethodName)) ∈ lw_all := lw_g (lw_at lw_m4 193 rfl) rfl
theorem q1098 : (Jvm.Cond.classLink "TokenRing$State" (49 : Nat) "TokenRing$Station") ∈ lw_all := lw_g (lw_at lw_m5 44 rfl) rfl
theorem q1099 : (Jvm.Cond.methodLink "TokenRing$State" (156 : Nat) ({ cls := "java/util/ArrayList", name := "size", desc := "()I" } : Jvm.MethodName)) ∈ lw_all := lw_g (lw_at lw_m5 45 rfl) rfl
theorem q1505 : (Jvm.Cond.instanceMethod ({ cls := "TokenRing$State", name := "copy", desc := "()LTokenRing$State;" } : Jvm.MethodName)) ∈ lw_all := lw_g (lw_at lw_m6 211 rfl) rfl
theorem q1506 : (Jvm.Cond.selects "TokenRing$State" ({ cls := "TokenRing$State", name := "copy", desc := "()LTokenRing$State;" } : Jvm.MethodName) ({ cls := "TokenRing$State", name := "copy", desc := "()LTokenRing$State;" } : Jvm.MethodName)) ∈ lw_all := lw_g (lw_at lw_m6 212 rfl) rfl
theorem q1507 : (Jvm.Cond.code ({ cls := "TokenRing$State", name := "copy", desc := "()LTokenRing$State;" } : Jvm.MethodName) prog_14_method_2_code (4 : Nat) (Option.some (Jvm.ClassFile.FieldType.object "TokenRing$State"))) ∈ lw_all := lw_g (lw_at lw_m6 213 rfl) rfl
theorem q1508 : (Jvm.Cond.classLink "TokenRing$State" (13 : Nat) "TokenRing$State") ∈ lw_all := lw_g (lw_at lw_m6 214 rfl) rfl
theorem q1509 : (Jvm.Cond.methodLink "TokenRing$State" (28 : Nat) ({ cls := "TokenRing$State", name := "<init>", desc := "()V" } : Jvm.MethodName)) ∈ lw_all := lw_g (lw_at lw_m6 215 rfl) rfl
theorem q1510 : (Jvm.Cond.methodLink "TokenRing$State" (60 : Nat) ({ cls := "TokenRing$Station", name := "copy", desc := "()LTokenRing$Station;" } : Jvm.MethodName)) ∈ lw_all := lw_g (lw_at lw_m6 216 rfl) rfl
theorem q1547 : (Jvm.Cond.fieldLinkNest "TokenRing$State" (51 : Nat) "TokenRing$Station" "address" "I" "TokenRing") ∈ lw_tbl := lw_at lw_m7 13 rfl
theorem q1554 : (Jvm.Cond.fieldLinkNest "TokenRing$State" (152 : Nat) "TokenRing$Station" "queue" "Ljava/util/ArrayList;" "TokenRing") ∈ lw_tbl := lw_at lw_m7 20 rfl
theorem q1612 : (Jvm.Cond.selects "TokenRing$State" ({ cls := "java/lang/Object", name := "getClass", desc := "()Ljava/lang/Class;" } : Jvm.MethodName) ({ cls := "java/lang/Object", name := "getClass", desc := "()Ljava/lang/Class;" } : Jvm.MethodName)) ∈ lw_all := lw_g (lw_at lw_m7 78 rfl) rfl
theorem q1651 : (Jvm.Cond.methodLink "TokenRing$State" (64 : Nat) ({ cls := "java/util/TreeMap", name := "put", desc := "(Ljava/lang/Object;Ljava/lang/Object;)Ljava/lang/Object;" } : Jvm.MethodName)) ∈ lw_all := lw_g (lw_at lw_m7 117 rfl) rfl
theorem q1726 : (Jvm.Cond.methodLink "TokenRing$State" (81 : Nat) ({ cls := "TokenRing$Ride", name := "copy", desc := "()LTokenRing$Ride;" } : Jvm.MethodName)) ∈ lw_all := lw_g (lw_at lw_m7 192 rfl) rfl
theorem q1738 : (Jvm.Cond.fieldLinkNest "TokenRing$State" (181 : Nat) "TokenRing$Ride" "frame" "LTokenRing$Frame;" "TokenRing") ∈ lw_tbl := lw_at lw_m7 204 rfl
theorem q1895 : (Jvm.Cond.instanceMethod ({ cls := "TokenRing$State", name := "leaves", desc := "(I)I" } : Jvm.MethodName)) ∈ lw_all := lw_g (lw_at lw_m8 121 rfl) rfl
theorem q1896 : (Jvm.Cond.selects "TokenRing$State" ({ cls := "TokenRing$State", name := "leaves", desc := "(I)I" } : Jvm.MethodName) ({ cls := "TokenRing$State", name := "leaves", desc := "(I)I" } : Jvm.MethodName)) ∈ lw_all := lw_g (lw_at lw_m8 122 rfl) rfl
theorem q1897 : (Jvm.Cond.code ({ cls := "TokenRing$State", name := "leaves", desc := "(I)I" } : Jvm.MethodName) prog_14_method_7_code (4 : Nat) (Option.some Jvm.ClassFile.FieldType.int)) ∈ lw_all := lw_g (lw_at lw_m8 123 rfl) rfl
theorem q1898 : (Jvm.Cond.methodLink "TokenRing$State" (149 : Nat) ({ cls := "java/util/TreeMap", name := "get", desc := "(Ljava/lang/Object;)Ljava/lang/Object;" } : Jvm.MethodName)) ∈ lw_all := lw_g (lw_at lw_m8 124 rfl) rfl
theorem q1899 : (Jvm.Cond.methodLink "TokenRing$State" (161 : Nat) ({ cls := "TokenRing$State", name := "next", desc := "(I)I" } : Jvm.MethodName)) ∈ lw_all := lw_g (lw_at lw_m8 125 rfl) rfl
theorem q1900 : (Jvm.Cond.methodLink "TokenRing$State" (164 : Nat) ({ cls := "TokenRing$State", name := "loses", desc := "()I" } : Jvm.MethodName)) ∈ lw_all := lw_g (lw_at lw_m8 126 rfl) rfl
theorem q1901 : (Jvm.Cond.instanceMethod ({ cls := "TokenRing$State", name := "loses", desc := "()I" } : Jvm.MethodName)) ∈ lw_all := lw_g (lw_at lw_m8 127 rfl) rfl
theorem q1902 : (Jvm.Cond.selects "TokenRing$State" ({ cls := "TokenRing$State", name := "loses", desc := "()I" } : Jvm.MethodName) ({ cls := "TokenRing$State", name := "loses", desc := "()I" } : Jvm.MethodName)) ∈ lw_all := lw_g (lw_at lw_m8 128 rfl) rfl
theorem q1903 : (Jvm.Cond.code ({ cls := "TokenRing$State", name := "loses", desc := "()I" } : Jvm.MethodName) prog_14_method_6_code (2 : Nat) (Option.some Jvm.ClassFile.FieldType.int)) ∈ lw_all := lw_g (lw_at lw_m8 129 rfl) rfl
theorem q1904 : (Jvm.Cond.methodLink "TokenRing$State" (167 : Nat) ({ cls := "java/util/TreeMap", name := "remove", desc := "(Ljava/lang/Object;)Ljava/lang/Object;" } : Jvm.MethodName)) ∈ lw_all := lw_g (lw_at lw_m8 130 rfl) rfl
theorem q1933 : (Jvm.Cond.fieldLinkNest "TokenRing$State" (185 : Nat) "TokenRing$Frame" "number" "I" "TokenRing") ∈ lw_tbl := lw_at lw_m8 159 rfl
theorem q2043 : (Jvm.Cond.instanceMethod ({ cls := "TokenRing$State", name := "tokenComes", desc := "(II)V" } : Jvm.MethodName)) ∈ lw_all := lw_g (lw_at lw_m9 29 rfl) rfl
theorem q2044 : (Jvm.Cond.selects "TokenRing$State" ({ cls := "TokenRing$State", name := "tokenComes", desc := "(II)V" } : Jvm.MethodName) ({ cls := "TokenRing$State", name := "tokenComes", desc := "(II)V" } : Jvm.MethodName)) ∈ lw_all := lw_g (lw_at lw_m9 30 rfl) rfl
theorem q2045 : (Jvm.Cond.code ({ cls := "TokenRing$State", name := "tokenComes", desc := "(II)V" } : Jvm.MethodName) prog_14_method_5_code (3 : Nat) (Option.none : Option Jvm.ClassFile.FieldType)) ∈ lw_all := lw_g (lw_at lw_m9 31 rfl) rfl
theorem q2062 : (Jvm.Cond.instanceMethod ({ cls := "TokenRing$State", name := "goesBy", desc := "()V" } : Jvm.MethodName)) ∈ lw_all := lw_g (lw_at lw_m9 48 rfl) rfl
theorem q2063 : (Jvm.Cond.selects "TokenRing$State" ({ cls := "TokenRing$State", name := "goesBy", desc := "()V" } : Jvm.MethodName) ({ cls := "TokenRing$State", name := "goesBy", desc := "()V" } : Jvm.MethodName)) ∈ lw_all := lw_g (lw_at lw_m9 49 rfl) rfl
theorem q2064 : (Jvm.Cond.code ({ cls := "TokenRing$State", name := "goesBy", desc := "()V" } : Jvm.MethodName) prog_14_method_8_code (1 : Nat) (Option.none : Option Jvm.ClassFile.FieldType)) ∈ lw_all := lw_g (lw_at lw_m9 50 rfl) rfl
theorem q2065 : (Jvm.Cond.classLink "TokenRing$State" (170 : Nat) "TokenRing$State$Tick") ∈ lw_all := lw_g (lw_at lw_m9 51 rfl) rfl
theorem q2067 : (Jvm.Cond.methodLinkNest "TokenRing$State" (172 : Nat) ({ cls := "TokenRing$State$Tick", name := "<init>", desc := "(LTokenRing$State;)V" } : Jvm.MethodName) "TokenRing") ∈ lw_tbl := lw_at lw_m9 53 rfl
theorem q2075 : (Jvm.Cond.methodLink "TokenRing$State" (175 : Nat) ({ cls := "TokenRing$State$Tick", name := "goes", desc := "()V" } : Jvm.MethodName)) ∈ lw_all := lw_g (lw_at lw_m9 61 rfl) rfl
theorem q2194 : (Jvm.Cond.instanceMethod ({ cls := "TokenRing$State", name := "whereIs", desc := "(I)I" } : Jvm.MethodName)) ∈ lw_all := lw_g (lw_at lw_m9 180 rfl) rfl
theorem q2195 : (Jvm.Cond.selects "TokenRing$State" ({ cls := "TokenRing$State", name := "whereIs", desc := "(I)I" } : Jvm.MethodName) ({ cls := "TokenRing$State", name := "whereIs", desc := "(I)I" } : Jvm.MethodName)) ∈ lw_all := lw_g (lw_at lw_m9 181 rfl) rfl
theorem q2196 : (Jvm.Cond.code ({ cls := "TokenRing$State", name := "whereIs", desc := "(I)I" } : Jvm.MethodName) prog_14_method_11_code (6 : Nat) (Option.some Jvm.ClassFile.FieldType.int)) ∈ lw_all := lw_g (lw_at lw_m9 182 rfl) rfl
theorem q2197 : (Jvm.Cond.methodLink "TokenRing$State" (190 : Nat) ({ cls := "java/util/ArrayList", name := "iterator", desc := "()Ljava/util/Iterator;" } : Jvm.MethodName)) ∈ lw_all := lw_g (lw_at lw_m9 183 rfl) rfl
theorem q2198 : (Jvm.Cond.classLink "TokenRing$State" (186 : Nat) "TokenRing$Frame") ∈ lw_all := lw_g (lw_at lw_m9 184 rfl) rfl
theorem q2235 : (Jvm.Cond.instanceMethod ({ cls := "TokenRing$State", name := "round", desc := "(I)LTokenRing$State$Round;" } : Jvm.MethodName)) ∈ lw_all := lw_g (lw_at lw_m9 221 rfl) rfl
theorem q2236 : (Jvm.Cond.selects "TokenRing$State" ({ cls := "TokenRing$State", name := "round", desc := "(I)LTokenRing$State$Round;" } : Jvm.MethodName) ({ cls := "TokenRing$State", name := "round", desc := "(I)LTokenRing$State$Round;" } : Jvm.MethodName)) ∈ lw_all := lw_g (lw_at lw_m9 222 rfl) rfl
theorem q2237 : (Jvm.Cond.code ({ cls := "TokenRing$State", name := "round", desc := "(I)LTokenRing$State$Round;" } : Jvm.MethodName) prog_14_method_4_code (2 : Nat) (Option.some (Jvm.ClassFile.FieldType.object "TokenRing$State$Round"))) ∈ lw_all := lw_g (lw_at lw_m9 223 rfl) rfl
theorem q2238 : (Jvm.Cond.classLink "TokenRing$State" (144 : Nat) "TokenRing$State$Round") ∈ lw_all := lw_g (lw_at lw_m9 224 rfl) rfl
theorem q2240 : (Jvm.Cond.methodLink "TokenRing$State" (146 : Nat) ({ cls := "TokenRing$State$Round", name := "<init>", desc := "(LTokenRing$State;I)V" } : Jvm.MethodName)) ∈ lw_all := lw_g (lw_at lw_m9 226 rfl) rfl
theorem q2369 : (Jvm.Cond.instanceMethod ({ cls := "TokenRing$State", name := "canTake", desc := "(LTokenRing$Station;)Z" } : Jvm.MethodName)) ∈ lw_all := lw_g (lw_at lw_m10 115 rfl) rfl
theorem q2370 : (Jvm.Cond.selects "TokenRing$State" ({ cls := "TokenRing$State", name := "canTake", desc := "(LTokenRing$Station;)Z" } : Jvm.MethodName) ({ cls := "TokenRing$State", name := "canTake", desc := "(LTokenRing$Station;)Z" } : Jvm.MethodName)) ∈ lw_all := lw_g (lw_at lw_m10 116 rfl) rfl
theorem q2371 : (Jvm.Cond.code ({ cls := "TokenRing$State", name := "canTake", desc := "(LTokenRing$Station;)Z" } : Jvm.MethodName) prog_14_method_9_code (2 : Nat) (Option.some Jvm.ClassFile.FieldType.boolean)) ∈ lw_all := lw_g (lw_at lw_m10 117 rfl) rfl
theorem q2372 : (Jvm.Cond.methodLink "TokenRing$State" (178 : Nat) ({ cls := "TokenRing$Station", name := "rank", desc := "()I" } : Jvm.MethodName)) ∈ lw_all := lw_g (lw_at lw_m10 118 rfl) rfl
theorem q3312 : (Jvm.Cond.castable "TokenRing$State" "java/lang/Object") ∈ lw_tbl := lw_at lw_m14 98 rfl
theorem in_X2 : ∀ w ∈ wsX20, w ∈ lw_all := lw_in wsX20 [284, 286, 288, 290, 292, 294, 296, 298, 300, 302, 304, 306, 308, 310, 312, 314, 316, 318, 320, 322, 324, 326, 328, 330, 332] (by decide +kernel) (by decide +kernel)
/-! TokenRing$Reason -/
set_option maxRecDepth 100000
def RX4 : String := "TokenRing$Reason"
def TX4 : u_T := fun k => match k with
  | 0 => ("TokenRing$Reason", "number", "I", true)
  | 1 => ("TokenRing$Reason", "detail", "I", true)
  | _ => ("TokenRing$Reason", "cause", "LTokenRing$Reason;", true)
def tyX4 : Nat → FieldType := fun k => match k with
  | 0 => .int
  | 1 => .int
  | _ => .object "TokenRing$Reason"
abbrev wsX40 : List Cond := u_ws RX4 TX4 3
theorem nmX4 : ∀ a, a < 3 → ∀ b, b < 3 → a ≠ b → (TX4 a).2.1 ≠ (TX4 b).2.1 := by decide +kernel
theorem tyX4_ok : ∀ k, k < 3 → parseFieldDescriptor (TX4 k).2.2.1 = some (tyX4 k) := by decide +kernel
abbrev cX4_init : ByteArray := prog_12_method_1_code
def yX4_init : MethodName := ⟨RX4, "<init>", "(IILTokenRing$Reason;)V"⟩
def dkwX4_init_0 : List UInt8 := [42, 183, 0, 1, 42, 27, 181, 0, 7, 42, 28, 181, 0, 13, 42, 45, 181, 0, 16, 177]
abbrev dktX4_init_0 : List UInt8 := dkwX4_init_0 ++ []
theorem dksX4_init_0 : cX4_init.data.toList.drop 0 = dktX4_init_0 := by decide +kernel
theorem dX4_init_0 : decode cX4_init 0 = .ok (.aload_n 0, 1) := dk_42 (dk_at dksX4_init_0 0 rfl rfl)
theorem dX4_init_1 : decode cX4_init 1 = .ok (.invokespecial 1, 3) := dk_183 0 1 (dk_at dksX4_init_0 1 rfl rfl)
theorem dX4_init_4 : decode cX4_init 4 = .ok (.aload_n 0, 1) := dk_42 (dk_at dksX4_init_0 4 rfl rfl)
theorem dX4_init_5 : decode cX4_init 5 = .ok (.iload_n 1, 1) := dk_27 (dk_at dksX4_init_0 5 rfl rfl)
theorem dX4_init_6 : decode cX4_init 6 = .ok (.putfield 7, 3) := dk_181 0 7 (dk_at dksX4_init_0 6 rfl rfl)
theorem dX4_init_9 : decode cX4_init 9 = .ok (.aload_n 0, 1) := dk_42 (dk_at dksX4_init_0 9 rfl rfl)
theorem dX4_init_10 : decode cX4_init 10 = .ok (.iload_n 2, 1) := dk_28 (dk_at dksX4_init_0 10 rfl rfl)
theorem dX4_init_11 : decode cX4_init 11 = .ok (.putfield 13, 3) := dk_181 0 13 (dk_at dksX4_init_0 11 rfl rfl)
theorem dX4_init_14 : decode cX4_init 14 = .ok (.aload_n 0, 1) := dk_42 (dk_at dksX4_init_0 14 rfl rfl)
theorem dX4_init_15 : decode cX4_init 15 = .ok (.aload_n 3, 1) := dk_45 (dk_at dksX4_init_0 15 rfl rfl)
theorem dX4_init_16 : decode cX4_init 16 = .ok (.putfield 16, 3) := dk_181 0 16 (dk_at dksX4_init_0 16 rfl rfl)
theorem dX4_init_19 : decode cX4_init 19 = .ok (.return_, 1) := dk_177 (dk_at dksX4_init_0 19 rfl rfl)
theorem q106 : (Jvm.Cond.initialized "TokenRing$Reason") ∈ lw_all := lw_g (lw_at lw_m1 12 rfl) rfl
theorem q1610 : (Jvm.Cond.selects "TokenRing$Reason" ({ cls := "java/lang/Object", name := "getClass", desc := "()Ljava/lang/Class;" } : Jvm.MethodName) ({ cls := "java/lang/Object", name := "getClass", desc := "()Ljava/lang/Class;" } : Jvm.MethodName)) ∈ lw_all := lw_g (lw_at lw_m7 76 rfl) rfl
theorem q1782 : (Jvm.Cond.instantiable "TokenRing$Reason" (3 : Nat)) ∈ lw_all := lw_g (lw_at lw_m8 8 rfl) rfl
theorem q1784 : (Jvm.Cond.instanceMethod ({ cls := "TokenRing$Reason", name := "<init>", desc := "(IILTokenRing$Reason;)V" } : Jvm.MethodName)) ∈ lw_all := lw_g (lw_at lw_m8 10 rfl) rfl
theorem q1785 : (Jvm.Cond.code ({ cls := "TokenRing$Reason", name := "<init>", desc := "(IILTokenRing$Reason;)V" } : Jvm.MethodName) prog_12_method_1_code (4 : Nat) (Option.none : Option Jvm.ClassFile.FieldType)) ∈ lw_all := lw_g (lw_at lw_m8 11 rfl) rfl
theorem q1786 : (Jvm.Cond.methodLink "TokenRing$Reason" (1 : Nat) ({ cls := "java/lang/Object", name := "<init>", desc := "()V" } : Jvm.MethodName)) ∈ lw_all := lw_g (lw_at lw_m8 12 rfl) rfl
theorem q1787 : (Jvm.Cond.fieldLink "TokenRing$Reason" (7 : Nat) "TokenRing$Reason" "number" "I") ∈ lw_all := lw_g (lw_at lw_m8 13 rfl) rfl
theorem q1789 : (Jvm.Cond.fieldLink "TokenRing$Reason" (13 : Nat) "TokenRing$Reason" "detail" "I") ∈ lw_all := lw_g (lw_at lw_m8 15 rfl) rfl
theorem q1791 : (Jvm.Cond.fieldLink "TokenRing$Reason" (16 : Nat) "TokenRing$Reason" "cause" "LTokenRing$Reason;") ∈ lw_all := lw_g (lw_at lw_m8 17 rfl) rfl
theorem q1793 : (Jvm.Cond.laysFinal "TokenRing$Reason" "TokenRing$Reason" "number" "I") ∈ lw_all := lw_g (lw_at lw_m8 19 rfl) rfl
theorem q1794 : (Jvm.Cond.soleField "TokenRing$Reason" "number") ∈ lw_all := lw_g (lw_at lw_m8 20 rfl) rfl
theorem q1795 : (Jvm.Cond.laysFinal "TokenRing$Reason" "TokenRing$Reason" "detail" "I") ∈ lw_all := lw_g (lw_at lw_m8 21 rfl) rfl
theorem q1796 : (Jvm.Cond.soleField "TokenRing$Reason" "detail") ∈ lw_all := lw_g (lw_at lw_m8 22 rfl) rfl
theorem q1797 : (Jvm.Cond.laysFinal "TokenRing$Reason" "TokenRing$Reason" "cause" "LTokenRing$Reason;") ∈ lw_all := lw_g (lw_at lw_m8 23 rfl) rfl
theorem q1798 : (Jvm.Cond.soleField "TokenRing$Reason" "cause") ∈ lw_all := lw_g (lw_at lw_m8 24 rfl) rfl
theorem q1799 : (Jvm.Cond.superclass "TokenRing$Reason" "java/lang/Object") ∈ lw_all := lw_g (lw_at lw_m8 25 rfl) rfl
theorem q3317 : (Jvm.Cond.castable "TokenRing$Reason" "java/lang/Object") ∈ lw_tbl := lw_at lw_m14 103 rfl
theorem in_X4 : ∀ w ∈ wsX40, w ∈ lw_all := lw_in wsX40 [1793, 1795, 1797] (by decide +kernel) (by decide +kernel)
/-! TokenRing$Station -/
set_option maxRecDepth 100000
def RX5 : String := "TokenRing$Station"
def TX5 : u_T := fun k => match k with
  | 0 => ("TokenRing$Station", "address", "I", true)
  | 1 => ("TokenRing$Station", "queue", "Ljava/util/ArrayList;", true)
  | 2 => ("TokenRing$Station", "sent", "I", false)
  | _ => ("TokenRing$Station", "received", "I", false)
def tyX5 : Nat → FieldType := fun k => match k with
  | 0 => .int
  | 1 => .object "java/util/ArrayList"
  | 2 => .int
  | _ => .int
abbrev wsX50 : List Cond := u_ws RX5 TX5 4
theorem nmX5 : ∀ a, a < 4 → ∀ b, b < 4 → a ≠ b → (TX5 a).2.1 ≠ (TX5 b).2.1 := by decide +kernel
theorem tyX5_ok : ∀ k, k < 4 → parseFieldDescriptor (TX5 k).2.2.1 = some (tyX5 k) := by decide +kernel
abbrev cX5_copy : ByteArray := prog_18_method_2_code
def yX5_copy : MethodName := ⟨RX5, "copy", "()LTokenRing$Station;"⟩
def dkwX5_copy_3 : List UInt8 := [176]
abbrev dktX5_copy_3 : List UInt8 := dkwX5_copy_3 ++ []
def dkwX5_copy_2 : List UInt8 := [182, 0, 41, 87, 167, 255, 228, 43, 42, 180, 0, 45, 181, 0, 45, 43, 42, 180, 0, 48, 181, 0, 48, 43]
abbrev dktX5_copy_2 : List UInt8 := dkwX5_copy_2 ++ dktX5_copy_3
def dkwX5_copy_1 : List UInt8 := [185, 0, 29, 1, 0, 153, 0, 25, 44, 185, 0, 35, 1, 0, 192, 0, 39, 78, 43, 180, 0, 12, 45]
abbrev dktX5_copy_1 : List UInt8 := dkwX5_copy_1 ++ dktX5_copy_2
def dkwX5_copy_0 : List UInt8 := [187, 0, 13, 89, 42, 180, 0, 18, 183, 0, 22, 76, 42, 180, 0, 12, 182, 0, 25, 77, 44]
abbrev dktX5_copy_0 : List UInt8 := dkwX5_copy_0 ++ dktX5_copy_1
theorem dksX5_copy_0 : cX5_copy.data.toList.drop 0 = dktX5_copy_0 := by decide +kernel
theorem dksX5_copy_1 : cX5_copy.data.toList.drop 21 = dktX5_copy_1 := dk_seg dksX5_copy_0 21 rfl rfl
theorem dksX5_copy_2 : cX5_copy.data.toList.drop 44 = dktX5_copy_2 := dk_seg dksX5_copy_1 23 rfl rfl
theorem dksX5_copy_3 : cX5_copy.data.toList.drop 68 = dktX5_copy_3 := dk_seg dksX5_copy_2 24 rfl rfl
theorem dX5_copy_0 : decode cX5_copy 0 = .ok (.new 13, 3) := dk_187 0 13 (dk_at dksX5_copy_0 0 rfl rfl)
theorem dX5_copy_3 : decode cX5_copy 3 = .ok (.dup, 1) := dk_89 (dk_at dksX5_copy_0 3 rfl rfl)
theorem dX5_copy_4 : decode cX5_copy 4 = .ok (.aload_n 0, 1) := dk_42 (dk_at dksX5_copy_0 4 rfl rfl)
theorem dX5_copy_5 : decode cX5_copy 5 = .ok (.getfield 18, 3) := dk_180 0 18 (dk_at dksX5_copy_0 5 rfl rfl)
theorem dX5_copy_8 : decode cX5_copy 8 = .ok (.invokespecial 22, 3) := dk_183 0 22 (dk_at dksX5_copy_0 8 rfl rfl)
theorem dX5_copy_11 : decode cX5_copy 11 = .ok (.astore_n 1, 1) := dk_76 (dk_at dksX5_copy_0 11 rfl rfl)
theorem dX5_copy_12 : decode cX5_copy 12 = .ok (.aload_n 0, 1) := dk_42 (dk_at dksX5_copy_0 12 rfl rfl)
theorem dX5_copy_13 : decode cX5_copy 13 = .ok (.getfield 12, 3) := dk_180 0 12 (dk_at dksX5_copy_0 13 rfl rfl)
theorem dX5_copy_16 : decode cX5_copy 16 = .ok (.invokevirtual 25, 3) := dk_182 0 25 (dk_at dksX5_copy_0 16 rfl rfl)
theorem dX5_copy_19 : decode cX5_copy 19 = .ok (.astore_n 2, 1) := dk_77 (dk_at dksX5_copy_0 19 rfl rfl)
theorem dX5_copy_20 : decode cX5_copy 20 = .ok (.aload_n 2, 1) := dk_44 (dk_at dksX5_copy_0 20 rfl rfl)
theorem dX5_copy_21 : decode cX5_copy 21 = .ok (.invokeinterface 29 1, 5) := by decide +kernel
theorem dX5_copy_26 : decode cX5_copy 26 = .ok (.ifCond .eq 25, 3) := dk_153 0 25 (dk_at dksX5_copy_1 5 rfl rfl)
theorem dX5_copy_29 : decode cX5_copy 29 = .ok (.aload_n 2, 1) := dk_44 (dk_at dksX5_copy_1 8 rfl rfl)
theorem dX5_copy_30 : decode cX5_copy 30 = .ok (.invokeinterface 35 1, 5) := by decide +kernel
theorem dX5_copy_35 : decode cX5_copy 35 = .ok (.checkcast 39, 3) := dk_192 0 39 (dk_at dksX5_copy_1 14 rfl rfl)
theorem dX5_copy_38 : decode cX5_copy 38 = .ok (.astore_n 3, 1) := dk_78 (dk_at dksX5_copy_1 17 rfl rfl)
theorem dX5_copy_39 : decode cX5_copy 39 = .ok (.aload_n 1, 1) := dk_43 (dk_at dksX5_copy_1 18 rfl rfl)
theorem dX5_copy_40 : decode cX5_copy 40 = .ok (.getfield 12, 3) := dk_180 0 12 (dk_at dksX5_copy_1 19 rfl rfl)
theorem dX5_copy_43 : decode cX5_copy 43 = .ok (.aload_n 3, 1) := dk_45 (dk_at dksX5_copy_1 22 rfl rfl)
theorem dX5_copy_44 : decode cX5_copy 44 = .ok (.invokevirtual 41, 3) := dk_182 0 41 (dk_at dksX5_copy_2 0 rfl rfl)
theorem dX5_copy_47 : decode cX5_copy 47 = .ok (.pop, 1) := dk_87 (dk_at dksX5_copy_2 3 rfl rfl)
theorem dX5_copy_48 : decode cX5_copy 48 = .ok (.goto (-28), 3) := dk_167 255 228 (dk_at dksX5_copy_2 4 rfl rfl)
theorem dX5_copy_51 : decode cX5_copy 51 = .ok (.aload_n 1, 1) := dk_43 (dk_at dksX5_copy_2 7 rfl rfl)
theorem dX5_copy_52 : decode cX5_copy 52 = .ok (.aload_n 0, 1) := dk_42 (dk_at dksX5_copy_2 8 rfl rfl)
theorem dX5_copy_53 : decode cX5_copy 53 = .ok (.getfield 45, 3) := dk_180 0 45 (dk_at dksX5_copy_2 9 rfl rfl)
theorem dX5_copy_56 : decode cX5_copy 56 = .ok (.putfield 45, 3) := dk_181 0 45 (dk_at dksX5_copy_2 12 rfl rfl)
theorem dX5_copy_59 : decode cX5_copy 59 = .ok (.aload_n 1, 1) := dk_43 (dk_at dksX5_copy_2 15 rfl rfl)
theorem dX5_copy_60 : decode cX5_copy 60 = .ok (.aload_n 0, 1) := dk_42 (dk_at dksX5_copy_2 16 rfl rfl)
theorem dX5_copy_61 : decode cX5_copy 61 = .ok (.getfield 48, 3) := dk_180 0 48 (dk_at dksX5_copy_2 17 rfl rfl)
theorem dX5_copy_64 : decode cX5_copy 64 = .ok (.putfield 48, 3) := dk_181 0 48 (dk_at dksX5_copy_2 20 rfl rfl)
theorem dX5_copy_67 : decode cX5_copy 67 = .ok (.aload_n 1, 1) := dk_43 (dk_at dksX5_copy_2 23 rfl rfl)
theorem dX5_copy_68 : decode cX5_copy 68 = .ok (.areturn, 1) := dk_176 (dk_at dksX5_copy_3 0 rfl rfl)
abbrev cX5_init : ByteArray := prog_18_method_1_code
def yX5_init : MethodName := ⟨RX5, "<init>", "(I)V"⟩
def dkwX5_init_0 : List UInt8 := [42, 183, 0, 3, 42, 187, 0, 9, 89, 183, 0, 11, 181, 0, 12, 42, 27, 181, 0, 18, 177]
abbrev dktX5_init_0 : List UInt8 := dkwX5_init_0 ++ []
theorem dksX5_init_0 : cX5_init.data.toList.drop 0 = dktX5_init_0 := by decide +kernel
theorem dX5_init_0 : decode cX5_init 0 = .ok (.aload_n 0, 1) := dk_42 (dk_at dksX5_init_0 0 rfl rfl)
theorem dX5_init_1 : decode cX5_init 1 = .ok (.invokespecial 3, 3) := dk_183 0 3 (dk_at dksX5_init_0 1 rfl rfl)
theorem dX5_init_4 : decode cX5_init 4 = .ok (.aload_n 0, 1) := dk_42 (dk_at dksX5_init_0 4 rfl rfl)
theorem dX5_init_5 : decode cX5_init 5 = .ok (.new 9, 3) := dk_187 0 9 (dk_at dksX5_init_0 5 rfl rfl)
theorem dX5_init_8 : decode cX5_init 8 = .ok (.dup, 1) := dk_89 (dk_at dksX5_init_0 8 rfl rfl)
theorem dX5_init_9 : decode cX5_init 9 = .ok (.invokespecial 11, 3) := dk_183 0 11 (dk_at dksX5_init_0 9 rfl rfl)
theorem dX5_init_12 : decode cX5_init 12 = .ok (.putfield 12, 3) := dk_181 0 12 (dk_at dksX5_init_0 12 rfl rfl)
theorem dX5_init_15 : decode cX5_init 15 = .ok (.aload_n 0, 1) := dk_42 (dk_at dksX5_init_0 15 rfl rfl)
theorem dX5_init_16 : decode cX5_init 16 = .ok (.iload_n 1, 1) := dk_27 (dk_at dksX5_init_0 16 rfl rfl)
theorem dX5_init_17 : decode cX5_init 17 = .ok (.putfield 18, 3) := dk_181 0 18 (dk_at dksX5_init_0 17 rfl rfl)
theorem dX5_init_20 : decode cX5_init 20 = .ok (.return_, 1) := dk_177 (dk_at dksX5_init_0 20 rfl rfl)
abbrev cX5_add : ByteArray := prog_18_method_3_code
def yX5_add : MethodName := ⟨RX5, "add", "(LTokenRing$Frame;)V"⟩
def dkwX5_add_2 : List UInt8 := [182, 0, 62, 177]
abbrev dktX5_add_2 : List UInt8 := dkwX5_add_2 ++ []
def dkwX5_add_1 : List UInt8 := [180, 0, 59, 43, 180, 0, 59, 161, 0, 9, 132, 2, 1, 167, 255, 221, 42, 180, 0, 12, 28, 43]
abbrev dktX5_add_1 : List UInt8 := dkwX5_add_1 ++ dktX5_add_2
def dkwX5_add_0 : List UInt8 := [3, 61, 28, 42, 180, 0, 12, 182, 0, 51, 162, 0, 30, 42, 180, 0, 12, 28, 182, 0, 55, 192, 0, 39]
abbrev dktX5_add_0 : List UInt8 := dkwX5_add_0 ++ dktX5_add_1
theorem dksX5_add_0 : cX5_add.data.toList.drop 0 = dktX5_add_0 := by decide +kernel
theorem dksX5_add_1 : cX5_add.data.toList.drop 24 = dktX5_add_1 := dk_seg dksX5_add_0 24 rfl rfl
theorem dksX5_add_2 : cX5_add.data.toList.drop 46 = dktX5_add_2 := dk_seg dksX5_add_1 22 rfl rfl
theorem dX5_add_0 : decode cX5_add 0 = .ok (.iconst 0, 1) := dk_3 (dk_at dksX5_add_0 0 rfl rfl)
theorem dX5_add_1 : decode cX5_add 1 = .ok (.istore_n 2, 1) := dk_61 (dk_at dksX5_add_0 1 rfl rfl)
theorem dX5_add_2 : decode cX5_add 2 = .ok (.iload_n 2, 1) := dk_28 (dk_at dksX5_add_0 2 rfl rfl)
theorem dX5_add_3 : decode cX5_add 3 = .ok (.aload_n 0, 1) := dk_42 (dk_at dksX5_add_0 3 rfl rfl)
theorem dX5_add_4 : decode cX5_add 4 = .ok (.getfield 12, 3) := dk_180 0 12 (dk_at dksX5_add_0 4 rfl rfl)
theorem dX5_add_7 : decode cX5_add 7 = .ok (.invokevirtual 51, 3) := dk_182 0 51 (dk_at dksX5_add_0 7 rfl rfl)
theorem dX5_add_10 : decode cX5_add 10 = .ok (.if_icmp .ge 30, 3) := dk_162 0 30 (dk_at dksX5_add_0 10 rfl rfl)
theorem dX5_add_13 : decode cX5_add 13 = .ok (.aload_n 0, 1) := dk_42 (dk_at dksX5_add_0 13 rfl rfl)
theorem dX5_add_14 : decode cX5_add 14 = .ok (.getfield 12, 3) := dk_180 0 12 (dk_at dksX5_add_0 14 rfl rfl)
theorem dX5_add_17 : decode cX5_add 17 = .ok (.iload_n 2, 1) := dk_28 (dk_at dksX5_add_0 17 rfl rfl)
theorem dX5_add_18 : decode cX5_add 18 = .ok (.invokevirtual 55, 3) := dk_182 0 55 (dk_at dksX5_add_0 18 rfl rfl)
theorem dX5_add_21 : decode cX5_add 21 = .ok (.checkcast 39, 3) := dk_192 0 39 (dk_at dksX5_add_0 21 rfl rfl)
theorem dX5_add_24 : decode cX5_add 24 = .ok (.getfield 59, 3) := dk_180 0 59 (dk_at dksX5_add_1 0 rfl rfl)
theorem dX5_add_27 : decode cX5_add 27 = .ok (.aload_n 1, 1) := dk_43 (dk_at dksX5_add_1 3 rfl rfl)
theorem dX5_add_28 : decode cX5_add 28 = .ok (.getfield 59, 3) := dk_180 0 59 (dk_at dksX5_add_1 4 rfl rfl)
theorem dX5_add_31 : decode cX5_add 31 = .ok (.if_icmp .lt 9, 3) := dk_161 0 9 (dk_at dksX5_add_1 7 rfl rfl)
theorem dX5_add_34 : decode cX5_add 34 = .ok (.iinc 2 1, 3) := dk_132 2 1 (dk_at dksX5_add_1 10 rfl rfl)
theorem dX5_add_37 : decode cX5_add 37 = .ok (.goto (-35), 3) := dk_167 255 221 (dk_at dksX5_add_1 13 rfl rfl)
theorem dX5_add_40 : decode cX5_add 40 = .ok (.aload_n 0, 1) := dk_42 (dk_at dksX5_add_1 16 rfl rfl)
theorem dX5_add_41 : decode cX5_add 41 = .ok (.getfield 12, 3) := dk_180 0 12 (dk_at dksX5_add_1 17 rfl rfl)
theorem dX5_add_44 : decode cX5_add 44 = .ok (.iload_n 2, 1) := dk_28 (dk_at dksX5_add_1 20 rfl rfl)
theorem dX5_add_45 : decode cX5_add 45 = .ok (.aload_n 1, 1) := dk_43 (dk_at dksX5_add_1 21 rfl rfl)
theorem dX5_add_46 : decode cX5_add 46 = .ok (.invokevirtual 62, 3) := dk_182 0 62 (dk_at dksX5_add_2 0 rfl rfl)
theorem dX5_add_49 : decode cX5_add 49 = .ok (.return_, 1) := dk_177 (dk_at dksX5_add_2 3 rfl rfl)
abbrev cX5_rank : ByteArray := prog_18_method_4_code
def yX5_rank : MethodName := ⟨RX5, "rank", "()I"⟩
def dkwX5_rank_1 : List UInt8 := [192, 0, 39, 180, 0, 59, 172]
abbrev dktX5_rank_1 : List UInt8 := dkwX5_rank_1 ++ []
def dkwX5_rank_0 : List UInt8 := [42, 180, 0, 12, 182, 0, 65, 153, 0, 7, 2, 167, 0, 17, 42, 180, 0, 12, 3, 182, 0, 55]
abbrev dktX5_rank_0 : List UInt8 := dkwX5_rank_0 ++ dktX5_rank_1
theorem dksX5_rank_0 : cX5_rank.data.toList.drop 0 = dktX5_rank_0 := by decide +kernel
theorem dksX5_rank_1 : cX5_rank.data.toList.drop 22 = dktX5_rank_1 := dk_seg dksX5_rank_0 22 rfl rfl
theorem dX5_rank_0 : decode cX5_rank 0 = .ok (.aload_n 0, 1) := dk_42 (dk_at dksX5_rank_0 0 rfl rfl)
theorem dX5_rank_1 : decode cX5_rank 1 = .ok (.getfield 12, 3) := dk_180 0 12 (dk_at dksX5_rank_0 1 rfl rfl)
theorem dX5_rank_4 : decode cX5_rank 4 = .ok (.invokevirtual 65, 3) := dk_182 0 65 (dk_at dksX5_rank_0 4 rfl rfl)
theorem dX5_rank_7 : decode cX5_rank 7 = .ok (.ifCond .eq 7, 3) := dk_153 0 7 (dk_at dksX5_rank_0 7 rfl rfl)
theorem dX5_rank_10 : decode cX5_rank 10 = .ok (.iconst (-1), 1) := dk_2 (dk_at dksX5_rank_0 10 rfl rfl)
theorem dX5_rank_11 : decode cX5_rank 11 = .ok (.goto 17, 3) := dk_167 0 17 (dk_at dksX5_rank_0 11 rfl rfl)
theorem dX5_rank_14 : decode cX5_rank 14 = .ok (.aload_n 0, 1) := dk_42 (dk_at dksX5_rank_0 14 rfl rfl)
theorem dX5_rank_15 : decode cX5_rank 15 = .ok (.getfield 12, 3) := dk_180 0 12 (dk_at dksX5_rank_0 15 rfl rfl)
theorem dX5_rank_18 : decode cX5_rank 18 = .ok (.iconst 0, 1) := dk_3 (dk_at dksX5_rank_0 18 rfl rfl)
theorem dX5_rank_19 : decode cX5_rank 19 = .ok (.invokevirtual 55, 3) := dk_182 0 55 (dk_at dksX5_rank_0 19 rfl rfl)
theorem dX5_rank_22 : decode cX5_rank 22 = .ok (.checkcast 39, 3) := dk_192 0 39 (dk_at dksX5_rank_1 0 rfl rfl)
theorem dX5_rank_25 : decode cX5_rank 25 = .ok (.getfield 59, 3) := dk_180 0 59 (dk_at dksX5_rank_1 3 rfl rfl)
theorem dX5_rank_28 : decode cX5_rank 28 = .ok (.ireturn, 1) := dk_172 (dk_at dksX5_rank_1 6 rfl rfl)
abbrev cX5_lengths : ByteArray := prog_18_method_5_code
def yX5_lengths : MethodName := ⟨RX5, "lengths", "()I"⟩
def dkwX5_lengths_1 : List UInt8 := [185, 0, 35, 1, 0, 192, 0, 39, 78, 27, 45, 180, 0, 68, 96, 60, 167, 255, 230, 27, 172]
abbrev dktX5_lengths_1 : List UInt8 := dkwX5_lengths_1 ++ []
def dkwX5_lengths_0 : List UInt8 := [3, 60, 42, 180, 0, 12, 182, 0, 25, 77, 44, 185, 0, 29, 1, 0, 153, 0, 23, 44]
abbrev dktX5_lengths_0 : List UInt8 := dkwX5_lengths_0 ++ dktX5_lengths_1
theorem dksX5_lengths_0 : cX5_lengths.data.toList.drop 0 = dktX5_lengths_0 := by decide +kernel
theorem dksX5_lengths_1 : cX5_lengths.data.toList.drop 20 = dktX5_lengths_1 := dk_seg dksX5_lengths_0 20 rfl rfl
theorem dX5_lengths_0 : decode cX5_lengths 0 = .ok (.iconst 0, 1) := dk_3 (dk_at dksX5_lengths_0 0 rfl rfl)
theorem dX5_lengths_1 : decode cX5_lengths 1 = .ok (.istore_n 1, 1) := dk_60 (dk_at dksX5_lengths_0 1 rfl rfl)
theorem dX5_lengths_2 : decode cX5_lengths 2 = .ok (.aload_n 0, 1) := dk_42 (dk_at dksX5_lengths_0 2 rfl rfl)
theorem dX5_lengths_3 : decode cX5_lengths 3 = .ok (.getfield 12, 3) := dk_180 0 12 (dk_at dksX5_lengths_0 3 rfl rfl)
theorem dX5_lengths_6 : decode cX5_lengths 6 = .ok (.invokevirtual 25, 3) := dk_182 0 25 (dk_at dksX5_lengths_0 6 rfl rfl)
theorem dX5_lengths_9 : decode cX5_lengths 9 = .ok (.astore_n 2, 1) := dk_77 (dk_at dksX5_lengths_0 9 rfl rfl)
theorem dX5_lengths_10 : decode cX5_lengths 10 = .ok (.aload_n 2, 1) := dk_44 (dk_at dksX5_lengths_0 10 rfl rfl)
theorem dX5_lengths_11 : decode cX5_lengths 11 = .ok (.invokeinterface 29 1, 5) := by decide +kernel
theorem dX5_lengths_16 : decode cX5_lengths 16 = .ok (.ifCond .eq 23, 3) := dk_153 0 23 (dk_at dksX5_lengths_0 16 rfl rfl)
theorem dX5_lengths_19 : decode cX5_lengths 19 = .ok (.aload_n 2, 1) := dk_44 (dk_at dksX5_lengths_0 19 rfl rfl)
theorem dX5_lengths_20 : decode cX5_lengths 20 = .ok (.invokeinterface 35 1, 5) := by decide +kernel
theorem dX5_lengths_25 : decode cX5_lengths 25 = .ok (.checkcast 39, 3) := dk_192 0 39 (dk_at dksX5_lengths_1 5 rfl rfl)
theorem dX5_lengths_28 : decode cX5_lengths 28 = .ok (.astore_n 3, 1) := dk_78 (dk_at dksX5_lengths_1 8 rfl rfl)
theorem dX5_lengths_29 : decode cX5_lengths 29 = .ok (.iload_n 1, 1) := dk_27 (dk_at dksX5_lengths_1 9 rfl rfl)
theorem dX5_lengths_30 : decode cX5_lengths 30 = .ok (.aload_n 3, 1) := dk_45 (dk_at dksX5_lengths_1 10 rfl rfl)
theorem dX5_lengths_31 : decode cX5_lengths 31 = .ok (.getfield 68, 3) := dk_180 0 68 (dk_at dksX5_lengths_1 11 rfl rfl)
theorem dX5_lengths_34 : decode cX5_lengths 34 = .ok (.iadd, 1) := dk_96 (dk_at dksX5_lengths_1 14 rfl rfl)
theorem dX5_lengths_35 : decode cX5_lengths 35 = .ok (.istore_n 1, 1) := dk_60 (dk_at dksX5_lengths_1 15 rfl rfl)
theorem dX5_lengths_36 : decode cX5_lengths 36 = .ok (.goto (-26), 3) := dk_167 255 230 (dk_at dksX5_lengths_1 16 rfl rfl)
theorem dX5_lengths_39 : decode cX5_lengths 39 = .ok (.iload_n 1, 1) := dk_27 (dk_at dksX5_lengths_1 19 rfl rfl)
theorem dX5_lengths_40 : decode cX5_lengths 40 = .ok (.ireturn, 1) := dk_172 (dk_at dksX5_lengths_1 20 rfl rfl)
theorem q131 : (Jvm.Cond.initialized "TokenRing$Station") ∈ lw_all := lw_g (lw_at lw_m1 37 rfl) rfl
theorem q1511 : (Jvm.Cond.instanceMethod ({ cls := "TokenRing$Station", name := "copy", desc := "()LTokenRing$Station;" } : Jvm.MethodName)) ∈ lw_all := lw_g (lw_at lw_m6 217 rfl) rfl
theorem q1512 : (Jvm.Cond.selects "TokenRing$Station" ({ cls := "TokenRing$Station", name := "copy", desc := "()LTokenRing$Station;" } : Jvm.MethodName) ({ cls := "TokenRing$Station", name := "copy", desc := "()LTokenRing$Station;" } : Jvm.MethodName)) ∈ lw_all := lw_g (lw_at lw_m6 218 rfl) rfl
theorem q1513 : (Jvm.Cond.code ({ cls := "TokenRing$Station", name := "copy", desc := "()LTokenRing$Station;" } : Jvm.MethodName) prog_18_method_2_code (4 : Nat) (Option.some (Jvm.ClassFile.FieldType.object "TokenRing$Station"))) ∈ lw_all := lw_g (lw_at lw_m6 219 rfl) rfl
theorem q1514 : (Jvm.Cond.classLink "TokenRing$Station" (13 : Nat) "TokenRing$Station") ∈ lw_all := lw_g (lw_at lw_m6 220 rfl) rfl
theorem q1515 : (Jvm.Cond.instantiable "TokenRing$Station" (4 : Nat)) ∈ lw_all := lw_g (lw_at lw_m6 221 rfl) rfl
theorem q1516 : (Jvm.Cond.methodLink "TokenRing$Station" (22 : Nat) ({ cls := "TokenRing$Station", name := "<init>", desc := "(I)V" } : Jvm.MethodName)) ∈ lw_all := lw_g (lw_at lw_m6 222 rfl) rfl
theorem q1517 : (Jvm.Cond.instanceMethod ({ cls := "TokenRing$Station", name := "<init>", desc := "(I)V" } : Jvm.MethodName)) ∈ lw_all := lw_g (lw_at lw_m6 223 rfl) rfl
theorem q1518 : (Jvm.Cond.code ({ cls := "TokenRing$Station", name := "<init>", desc := "(I)V" } : Jvm.MethodName) prog_18_method_1_code (2 : Nat) (Option.none : Option Jvm.ClassFile.FieldType)) ∈ lw_all := lw_g (lw_at lw_m6 224 rfl) rfl
theorem q1519 : (Jvm.Cond.methodLink "TokenRing$Station" (3 : Nat) ({ cls := "java/lang/Object", name := "<init>", desc := "()V" } : Jvm.MethodName)) ∈ lw_all := lw_g (lw_at lw_m6 225 rfl) rfl
theorem q1520 : (Jvm.Cond.classLink "TokenRing$Station" (9 : Nat) "java/util/ArrayList") ∈ lw_all := lw_g (lw_at lw_m6 226 rfl) rfl
theorem q1522 : (Jvm.Cond.methodLink "TokenRing$Station" (11 : Nat) ({ cls := "java/util/ArrayList", name := "<init>", desc := "()V" } : Jvm.MethodName)) ∈ lw_all := lw_g (lw_at lw_m6 228 rfl) rfl
theorem q1546 : (Jvm.Cond.fieldLink "TokenRing$Station" (18 : Nat) "TokenRing$Station" "address" "I") ∈ lw_all := lw_g (lw_at lw_m7 12 rfl) rfl
theorem q1551 : (Jvm.Cond.fieldLink "TokenRing$Station" (12 : Nat) "TokenRing$Station" "queue" "Ljava/util/ArrayList;") ∈ lw_all := lw_g (lw_at lw_m7 17 rfl) rfl
theorem q1556 : (Jvm.Cond.fieldLink "TokenRing$Station" (45 : Nat) "TokenRing$Station" "sent" "I") ∈ lw_all := lw_g (lw_at lw_m7 22 rfl) rfl
theorem q1559 : (Jvm.Cond.fieldLink "TokenRing$Station" (48 : Nat) "TokenRing$Station" "received" "I") ∈ lw_all := lw_g (lw_at lw_m7 25 rfl) rfl
theorem q1562 : (Jvm.Cond.laysFinal "TokenRing$Station" "TokenRing$Station" "address" "I") ∈ lw_all := lw_g (lw_at lw_m7 28 rfl) rfl
theorem q1563 : (Jvm.Cond.soleField "TokenRing$Station" "address") ∈ lw_all := lw_g (lw_at lw_m7 29 rfl) rfl
theorem q1564 : (Jvm.Cond.laysFinal "TokenRing$Station" "TokenRing$Station" "queue" "Ljava/util/ArrayList;") ∈ lw_all := lw_g (lw_at lw_m7 30 rfl) rfl
theorem q1565 : (Jvm.Cond.soleField "TokenRing$Station" "queue") ∈ lw_all := lw_g (lw_at lw_m7 31 rfl) rfl
theorem q1566 : (Jvm.Cond.lays "TokenRing$Station" "TokenRing$Station" "sent" "I") ∈ lw_all := lw_g (lw_at lw_m7 32 rfl) rfl
theorem q1567 : (Jvm.Cond.soleField "TokenRing$Station" "sent") ∈ lw_all := lw_g (lw_at lw_m7 33 rfl) rfl
theorem q1568 : (Jvm.Cond.lays "TokenRing$Station" "TokenRing$Station" "received" "I") ∈ lw_all := lw_g (lw_at lw_m7 34 rfl) rfl
theorem q1569 : (Jvm.Cond.soleField "TokenRing$Station" "received") ∈ lw_all := lw_g (lw_at lw_m7 35 rfl) rfl
theorem q1570 : (Jvm.Cond.superclass "TokenRing$Station" "java/lang/Object") ∈ lw_all := lw_g (lw_at lw_m7 36 rfl) rfl
theorem q1571 : (Jvm.Cond.methodLink "TokenRing$Station" (25 : Nat) ({ cls := "java/util/ArrayList", name := "iterator", desc := "()Ljava/util/Iterator;" } : Jvm.MethodName)) ∈ lw_all := lw_g (lw_at lw_m7 37 rfl) rfl
theorem q1572 : (Jvm.Cond.interfaceEntry "TokenRing$Station" (29 : Nat)) ∈ lw_tbl := lw_at lw_m7 38 rfl
theorem q1573 : (Jvm.Cond.methodLink "TokenRing$Station" (29 : Nat) ({ cls := "java/util/Iterator", name := "hasNext", desc := "()Z" } : Jvm.MethodName)) ∈ lw_all := lw_g (lw_at lw_m7 39 rfl) rfl
theorem q1574 : (Jvm.Cond.interfaceEntry "TokenRing$Station" (35 : Nat)) ∈ lw_tbl := lw_at lw_m7 40 rfl
theorem q1575 : (Jvm.Cond.methodLink "TokenRing$Station" (35 : Nat) ({ cls := "java/util/Iterator", name := "next", desc := "()Ljava/lang/Object;" } : Jvm.MethodName)) ∈ lw_all := lw_g (lw_at lw_m7 41 rfl) rfl
theorem q1576 : (Jvm.Cond.classLink "TokenRing$Station" (39 : Nat) "TokenRing$Frame") ∈ lw_all := lw_g (lw_at lw_m7 42 rfl) rfl
theorem q1577 : (Jvm.Cond.methodLink "TokenRing$Station" (41 : Nat) ({ cls := "java/util/ArrayList", name := "add", desc := "(Ljava/lang/Object;)Z" } : Jvm.MethodName)) ∈ lw_all := lw_g (lw_at lw_m7 43 rfl) rfl
theorem q1616 : (Jvm.Cond.selects "TokenRing$Station" ({ cls := "java/lang/Object", name := "getClass", desc := "()Ljava/lang/Class;" } : Jvm.MethodName) ({ cls := "java/lang/Object", name := "getClass", desc := "()Ljava/lang/Class;" } : Jvm.MethodName)) ∈ lw_all := lw_g (lw_at lw_m7 82 rfl) rfl
theorem q1940 : (Jvm.Cond.fieldLinkNest "TokenRing$Station" (59 : Nat) "TokenRing$Frame" "rank" "I" "TokenRing") ∈ lw_tbl := lw_at lw_m8 166 rfl
theorem q1943 : (Jvm.Cond.fieldLinkNest "TokenRing$Station" (68 : Nat) "TokenRing$Frame" "length" "I" "TokenRing") ∈ lw_tbl := lw_at lw_m8 169 rfl
theorem q1961 : (Jvm.Cond.instanceMethod ({ cls := "TokenRing$Station", name := "add", desc := "(LTokenRing$Frame;)V" } : Jvm.MethodName)) ∈ lw_all := lw_g (lw_at lw_m8 187 rfl) rfl
theorem q1962 : (Jvm.Cond.selects "TokenRing$Station" ({ cls := "TokenRing$Station", name := "add", desc := "(LTokenRing$Frame;)V" } : Jvm.MethodName) ({ cls := "TokenRing$Station", name := "add", desc := "(LTokenRing$Frame;)V" } : Jvm.MethodName)) ∈ lw_all := lw_g (lw_at lw_m8 188 rfl) rfl
theorem q1963 : (Jvm.Cond.code ({ cls := "TokenRing$Station", name := "add", desc := "(LTokenRing$Frame;)V" } : Jvm.MethodName) prog_18_method_3_code (3 : Nat) (Option.none : Option Jvm.ClassFile.FieldType)) ∈ lw_all := lw_g (lw_at lw_m8 189 rfl) rfl
theorem q1964 : (Jvm.Cond.methodLink "TokenRing$Station" (51 : Nat) ({ cls := "java/util/ArrayList", name := "size", desc := "()I" } : Jvm.MethodName)) ∈ lw_all := lw_g (lw_at lw_m8 190 rfl) rfl
theorem q1965 : (Jvm.Cond.methodLink "TokenRing$Station" (55 : Nat) ({ cls := "java/util/ArrayList", name := "get", desc := "(I)Ljava/lang/Object;" } : Jvm.MethodName)) ∈ lw_all := lw_g (lw_at lw_m8 191 rfl) rfl
theorem q1977 : (Jvm.Cond.methodLink "TokenRing$Station" (62 : Nat) ({ cls := "java/util/ArrayList", name := "add", desc := "(ILjava/lang/Object;)V" } : Jvm.MethodName)) ∈ lw_all := lw_g (lw_at lw_m8 203 rfl) rfl
theorem q2104 : (Jvm.Cond.instanceMethod ({ cls := "TokenRing$Station", name := "rank", desc := "()I" } : Jvm.MethodName)) ∈ lw_all := lw_g (lw_at lw_m9 90 rfl) rfl
theorem q2105 : (Jvm.Cond.selects "TokenRing$Station" ({ cls := "TokenRing$Station", name := "rank", desc := "()I" } : Jvm.MethodName) ({ cls := "TokenRing$Station", name := "rank", desc := "()I" } : Jvm.MethodName)) ∈ lw_all := lw_g (lw_at lw_m9 91 rfl) rfl
theorem q2106 : (Jvm.Cond.code ({ cls := "TokenRing$Station", name := "rank", desc := "()I" } : Jvm.MethodName) prog_18_method_4_code (1 : Nat) (Option.some Jvm.ClassFile.FieldType.int)) ∈ lw_all := lw_g (lw_at lw_m9 92 rfl) rfl
theorem q2107 : (Jvm.Cond.methodLink "TokenRing$Station" (65 : Nat) ({ cls := "java/util/ArrayList", name := "isEmpty", desc := "()Z" } : Jvm.MethodName)) ∈ lw_all := lw_g (lw_at lw_m9 93 rfl) rfl
theorem q2216 : (Jvm.Cond.instanceMethod ({ cls := "TokenRing$Station", name := "lengths", desc := "()I" } : Jvm.MethodName)) ∈ lw_all := lw_g (lw_at lw_m9 202 rfl) rfl
theorem q2217 : (Jvm.Cond.selects "TokenRing$Station" ({ cls := "TokenRing$Station", name := "lengths", desc := "()I" } : Jvm.MethodName) ({ cls := "TokenRing$Station", name := "lengths", desc := "()I" } : Jvm.MethodName)) ∈ lw_all := lw_g (lw_at lw_m9 203 rfl) rfl
theorem q2218 : (Jvm.Cond.code ({ cls := "TokenRing$Station", name := "lengths", desc := "()I" } : Jvm.MethodName) prog_18_method_5_code (4 : Nat) (Option.some Jvm.ClassFile.FieldType.int)) ∈ lw_all := lw_g (lw_at lw_m9 204 rfl) rfl
theorem q3325 : (Jvm.Cond.castable "TokenRing$Station" "java/lang/Object") ∈ lw_tbl := lw_at lw_m14 111 rfl
theorem in_X5 : ∀ w ∈ wsX50, w ∈ lw_all := lw_in wsX50 [1562, 1564, 1566, 1568] (by decide +kernel) (by decide +kernel)
/-! TokenRing$Ride -/
set_option maxRecDepth 100000
def RX6 : String := "TokenRing$Ride"
def TX6 : u_T := fun k => match k with
  | 0 => ("TokenRing$Ride", "frame", "LTokenRing$Frame;", true)
  | 1 => ("TokenRing$Ride", "held", "I", true)
  | 2 => ("TokenRing$Ride", "reserved", "I", false)
  | 3 => ("TokenRing$Ride", "isReceived", "Z", false)
  | _ => ("TokenRing$Ride", "isMarked", "Z", false)
def tyX6 : Nat → FieldType := fun k => match k with
  | 0 => .object "TokenRing$Frame"
  | 1 => .int
  | 2 => .int
  | 3 => .boolean
  | _ => .boolean
abbrev wsX60 : List Cond := u_ws RX6 TX6 5
theorem nmX6 : ∀ a, a < 5 → ∀ b, b < 5 → a ≠ b → (TX6 a).2.1 ≠ (TX6 b).2.1 := by decide +kernel
theorem tyX6_ok : ∀ k, k < 5 → parseFieldDescriptor (TX6 k).2.2.1 = some (tyX6 k) := by decide +kernel
abbrev cX6_copy : ByteArray := prog_13_method_2_code
def yX6_copy : MethodName := ⟨RX6, "copy", "()LTokenRing$Ride;"⟩
def dkwX6_copy_1 : List UInt8 := [43, 42, 180, 0, 23, 181, 0, 23, 43, 42, 180, 0, 27, 181, 0, 27, 43, 176]
abbrev dktX6_copy_1 : List UInt8 := dkwX6_copy_1 ++ []
def dkwX6_copy_0 : List UInt8 := [187, 0, 8, 89, 42, 180, 0, 7, 42, 180, 0, 13, 183, 0, 17, 76, 43, 42, 180, 0, 20, 181, 0, 20]
abbrev dktX6_copy_0 : List UInt8 := dkwX6_copy_0 ++ dktX6_copy_1
theorem dksX6_copy_0 : cX6_copy.data.toList.drop 0 = dktX6_copy_0 := by decide +kernel
theorem dksX6_copy_1 : cX6_copy.data.toList.drop 24 = dktX6_copy_1 := dk_seg dksX6_copy_0 24 rfl rfl
theorem dX6_copy_0 : decode cX6_copy 0 = .ok (.new 8, 3) := dk_187 0 8 (dk_at dksX6_copy_0 0 rfl rfl)
theorem dX6_copy_3 : decode cX6_copy 3 = .ok (.dup, 1) := dk_89 (dk_at dksX6_copy_0 3 rfl rfl)
theorem dX6_copy_4 : decode cX6_copy 4 = .ok (.aload_n 0, 1) := dk_42 (dk_at dksX6_copy_0 4 rfl rfl)
theorem dX6_copy_5 : decode cX6_copy 5 = .ok (.getfield 7, 3) := dk_180 0 7 (dk_at dksX6_copy_0 5 rfl rfl)
theorem dX6_copy_8 : decode cX6_copy 8 = .ok (.aload_n 0, 1) := dk_42 (dk_at dksX6_copy_0 8 rfl rfl)
theorem dX6_copy_9 : decode cX6_copy 9 = .ok (.getfield 13, 3) := dk_180 0 13 (dk_at dksX6_copy_0 9 rfl rfl)
theorem dX6_copy_12 : decode cX6_copy 12 = .ok (.invokespecial 17, 3) := dk_183 0 17 (dk_at dksX6_copy_0 12 rfl rfl)
theorem dX6_copy_15 : decode cX6_copy 15 = .ok (.astore_n 1, 1) := dk_76 (dk_at dksX6_copy_0 15 rfl rfl)
theorem dX6_copy_16 : decode cX6_copy 16 = .ok (.aload_n 1, 1) := dk_43 (dk_at dksX6_copy_0 16 rfl rfl)
theorem dX6_copy_17 : decode cX6_copy 17 = .ok (.aload_n 0, 1) := dk_42 (dk_at dksX6_copy_0 17 rfl rfl)
theorem dX6_copy_18 : decode cX6_copy 18 = .ok (.getfield 20, 3) := dk_180 0 20 (dk_at dksX6_copy_0 18 rfl rfl)
theorem dX6_copy_21 : decode cX6_copy 21 = .ok (.putfield 20, 3) := dk_181 0 20 (dk_at dksX6_copy_0 21 rfl rfl)
theorem dX6_copy_24 : decode cX6_copy 24 = .ok (.aload_n 1, 1) := dk_43 (dk_at dksX6_copy_1 0 rfl rfl)
theorem dX6_copy_25 : decode cX6_copy 25 = .ok (.aload_n 0, 1) := dk_42 (dk_at dksX6_copy_1 1 rfl rfl)
theorem dX6_copy_26 : decode cX6_copy 26 = .ok (.getfield 23, 3) := dk_180 0 23 (dk_at dksX6_copy_1 2 rfl rfl)
theorem dX6_copy_29 : decode cX6_copy 29 = .ok (.putfield 23, 3) := dk_181 0 23 (dk_at dksX6_copy_1 5 rfl rfl)
theorem dX6_copy_32 : decode cX6_copy 32 = .ok (.aload_n 1, 1) := dk_43 (dk_at dksX6_copy_1 8 rfl rfl)
theorem dX6_copy_33 : decode cX6_copy 33 = .ok (.aload_n 0, 1) := dk_42 (dk_at dksX6_copy_1 9 rfl rfl)
theorem dX6_copy_34 : decode cX6_copy 34 = .ok (.getfield 27, 3) := dk_180 0 27 (dk_at dksX6_copy_1 10 rfl rfl)
theorem dX6_copy_37 : decode cX6_copy 37 = .ok (.putfield 27, 3) := dk_181 0 27 (dk_at dksX6_copy_1 13 rfl rfl)
theorem dX6_copy_40 : decode cX6_copy 40 = .ok (.aload_n 1, 1) := dk_43 (dk_at dksX6_copy_1 16 rfl rfl)
theorem dX6_copy_41 : decode cX6_copy 41 = .ok (.areturn, 1) := dk_176 (dk_at dksX6_copy_1 17 rfl rfl)
abbrev cX6_init : ByteArray := prog_13_method_1_code
def yX6_init : MethodName := ⟨RX6, "<init>", "(LTokenRing$Frame;I)V"⟩
def dkwX6_init_0 : List UInt8 := [42, 183, 0, 1, 42, 43, 181, 0, 7, 42, 28, 181, 0, 13, 177]
abbrev dktX6_init_0 : List UInt8 := dkwX6_init_0 ++ []
theorem dksX6_init_0 : cX6_init.data.toList.drop 0 = dktX6_init_0 := by decide +kernel
theorem dX6_init_0 : decode cX6_init 0 = .ok (.aload_n 0, 1) := dk_42 (dk_at dksX6_init_0 0 rfl rfl)
theorem dX6_init_1 : decode cX6_init 1 = .ok (.invokespecial 1, 3) := dk_183 0 1 (dk_at dksX6_init_0 1 rfl rfl)
theorem dX6_init_4 : decode cX6_init 4 = .ok (.aload_n 0, 1) := dk_42 (dk_at dksX6_init_0 4 rfl rfl)
theorem dX6_init_5 : decode cX6_init 5 = .ok (.aload_n 1, 1) := dk_43 (dk_at dksX6_init_0 5 rfl rfl)
theorem dX6_init_6 : decode cX6_init 6 = .ok (.putfield 7, 3) := dk_181 0 7 (dk_at dksX6_init_0 6 rfl rfl)
theorem dX6_init_9 : decode cX6_init 9 = .ok (.aload_n 0, 1) := dk_42 (dk_at dksX6_init_0 9 rfl rfl)
theorem dX6_init_10 : decode cX6_init 10 = .ok (.iload_n 2, 1) := dk_28 (dk_at dksX6_init_0 10 rfl rfl)
theorem dX6_init_11 : decode cX6_init 11 = .ok (.putfield 13, 3) := dk_181 0 13 (dk_at dksX6_init_0 11 rfl rfl)
theorem dX6_init_14 : decode cX6_init 14 = .ok (.return_, 1) := dk_177 (dk_at dksX6_init_0 14 rfl rfl)
abbrev cX6_rankBehind : ByteArray := prog_13_method_3_code
def yX6_rankBehind : MethodName := ⟨RX6, "rankBehind", "()I"⟩
def dkwX6_rankBehind_0 : List UInt8 := [42, 180, 0, 20, 42, 180, 0, 13, 184, 0, 30, 172]
abbrev dktX6_rankBehind_0 : List UInt8 := dkwX6_rankBehind_0 ++ []
theorem dksX6_rankBehind_0 : cX6_rankBehind.data.toList.drop 0 = dktX6_rankBehind_0 := by decide +kernel
theorem dX6_rankBehind_0 : decode cX6_rankBehind 0 = .ok (.aload_n 0, 1) := dk_42 (dk_at dksX6_rankBehind_0 0 rfl rfl)
theorem dX6_rankBehind_1 : decode cX6_rankBehind 1 = .ok (.getfield 20, 3) := dk_180 0 20 (dk_at dksX6_rankBehind_0 1 rfl rfl)
theorem dX6_rankBehind_4 : decode cX6_rankBehind 4 = .ok (.aload_n 0, 1) := dk_42 (dk_at dksX6_rankBehind_0 4 rfl rfl)
theorem dX6_rankBehind_5 : decode cX6_rankBehind 5 = .ok (.getfield 13, 3) := dk_180 0 13 (dk_at dksX6_rankBehind_0 5 rfl rfl)
theorem dX6_rankBehind_8 : decode cX6_rankBehind 8 = .ok (.invokestatic 30, 3) := dk_184 0 30 (dk_at dksX6_rankBehind_0 8 rfl rfl)
theorem dX6_rankBehind_11 : decode cX6_rankBehind 11 = .ok (.ireturn, 1) := dk_172 (dk_at dksX6_rankBehind_0 11 rfl rfl)
theorem q137 : (Jvm.Cond.initialized "TokenRing$Ride") ∈ lw_all := lw_g (lw_at lw_m1 43 rfl) rfl
theorem q1611 : (Jvm.Cond.selects "TokenRing$Ride" ({ cls := "java/lang/Object", name := "getClass", desc := "()Ljava/lang/Class;" } : Jvm.MethodName) ({ cls := "java/lang/Object", name := "getClass", desc := "()Ljava/lang/Class;" } : Jvm.MethodName)) ∈ lw_all := lw_g (lw_at lw_m7 77 rfl) rfl
theorem q1727 : (Jvm.Cond.instanceMethod ({ cls := "TokenRing$Ride", name := "copy", desc := "()LTokenRing$Ride;" } : Jvm.MethodName)) ∈ lw_all := lw_g (lw_at lw_m7 193 rfl) rfl
theorem q1728 : (Jvm.Cond.selects "TokenRing$Ride" ({ cls := "TokenRing$Ride", name := "copy", desc := "()LTokenRing$Ride;" } : Jvm.MethodName) ({ cls := "TokenRing$Ride", name := "copy", desc := "()LTokenRing$Ride;" } : Jvm.MethodName)) ∈ lw_all := lw_g (lw_at lw_m7 194 rfl) rfl
theorem q1729 : (Jvm.Cond.code ({ cls := "TokenRing$Ride", name := "copy", desc := "()LTokenRing$Ride;" } : Jvm.MethodName) prog_13_method_2_code (2 : Nat) (Option.some (Jvm.ClassFile.FieldType.object "TokenRing$Ride"))) ∈ lw_all := lw_g (lw_at lw_m7 195 rfl) rfl
theorem q1730 : (Jvm.Cond.classLink "TokenRing$Ride" (8 : Nat) "TokenRing$Ride") ∈ lw_all := lw_g (lw_at lw_m7 196 rfl) rfl
theorem q1731 : (Jvm.Cond.instantiable "TokenRing$Ride" (5 : Nat)) ∈ lw_all := lw_g (lw_at lw_m7 197 rfl) rfl
theorem q1732 : (Jvm.Cond.methodLink "TokenRing$Ride" (17 : Nat) ({ cls := "TokenRing$Ride", name := "<init>", desc := "(LTokenRing$Frame;I)V" } : Jvm.MethodName)) ∈ lw_all := lw_g (lw_at lw_m7 198 rfl) rfl
theorem q1733 : (Jvm.Cond.instanceMethod ({ cls := "TokenRing$Ride", name := "<init>", desc := "(LTokenRing$Frame;I)V" } : Jvm.MethodName)) ∈ lw_all := lw_g (lw_at lw_m7 199 rfl) rfl
theorem q1734 : (Jvm.Cond.code ({ cls := "TokenRing$Ride", name := "<init>", desc := "(LTokenRing$Frame;I)V" } : Jvm.MethodName) prog_13_method_1_code (3 : Nat) (Option.none : Option Jvm.ClassFile.FieldType)) ∈ lw_all := lw_g (lw_at lw_m7 200 rfl) rfl
theorem q1735 : (Jvm.Cond.methodLink "TokenRing$Ride" (1 : Nat) ({ cls := "java/lang/Object", name := "<init>", desc := "()V" } : Jvm.MethodName)) ∈ lw_all := lw_g (lw_at lw_m7 201 rfl) rfl
theorem q1736 : (Jvm.Cond.fieldLink "TokenRing$Ride" (7 : Nat) "TokenRing$Ride" "frame" "LTokenRing$Frame;") ∈ lw_all := lw_g (lw_at lw_m7 202 rfl) rfl
theorem q1740 : (Jvm.Cond.fieldLink "TokenRing$Ride" (13 : Nat) "TokenRing$Ride" "held" "I") ∈ lw_all := lw_g (lw_at lw_m7 206 rfl) rfl
theorem q1742 : (Jvm.Cond.fieldLink "TokenRing$Ride" (20 : Nat) "TokenRing$Ride" "reserved" "I") ∈ lw_all := lw_g (lw_at lw_m7 208 rfl) rfl
theorem q1745 : (Jvm.Cond.fieldLink "TokenRing$Ride" (23 : Nat) "TokenRing$Ride" "isReceived" "Z") ∈ lw_all := lw_g (lw_at lw_m7 211 rfl) rfl
theorem q1748 : (Jvm.Cond.fieldLink "TokenRing$Ride" (27 : Nat) "TokenRing$Ride" "isMarked" "Z") ∈ lw_all := lw_g (lw_at lw_m7 214 rfl) rfl
theorem q1751 : (Jvm.Cond.laysFinal "TokenRing$Ride" "TokenRing$Ride" "frame" "LTokenRing$Frame;") ∈ lw_all := lw_g (lw_at lw_m7 217 rfl) rfl
theorem q1752 : (Jvm.Cond.soleField "TokenRing$Ride" "frame") ∈ lw_all := lw_g (lw_at lw_m7 218 rfl) rfl
theorem q1753 : (Jvm.Cond.laysFinal "TokenRing$Ride" "TokenRing$Ride" "held" "I") ∈ lw_all := lw_g (lw_at lw_m7 219 rfl) rfl
theorem q1754 : (Jvm.Cond.soleField "TokenRing$Ride" "held") ∈ lw_all := lw_g (lw_at lw_m7 220 rfl) rfl
theorem q1755 : (Jvm.Cond.lays "TokenRing$Ride" "TokenRing$Ride" "reserved" "I") ∈ lw_all := lw_g (lw_at lw_m7 221 rfl) rfl
theorem q1756 : (Jvm.Cond.soleField "TokenRing$Ride" "reserved") ∈ lw_all := lw_g (lw_at lw_m7 222 rfl) rfl
theorem q1757 : (Jvm.Cond.lays "TokenRing$Ride" "TokenRing$Ride" "isReceived" "Z") ∈ lw_all := lw_g (lw_at lw_m7 223 rfl) rfl
theorem q1758 : (Jvm.Cond.soleField "TokenRing$Ride" "isReceived") ∈ lw_all := lw_g (lw_at lw_m7 224 rfl) rfl
theorem q1759 : (Jvm.Cond.lays "TokenRing$Ride" "TokenRing$Ride" "isMarked" "Z") ∈ lw_all := lw_g (lw_at lw_m7 225 rfl) rfl
theorem q1760 : (Jvm.Cond.soleField "TokenRing$Ride" "isMarked") ∈ lw_all := lw_g (lw_at lw_m7 226 rfl) rfl
theorem q1761 : (Jvm.Cond.superclass "TokenRing$Ride" "java/lang/Object") ∈ lw_all := lw_g (lw_at lw_m7 227 rfl) rfl
theorem q2126 : (Jvm.Cond.instanceMethod ({ cls := "TokenRing$Ride", name := "rankBehind", desc := "()I" } : Jvm.MethodName)) ∈ lw_all := lw_g (lw_at lw_m9 112 rfl) rfl
theorem q2127 : (Jvm.Cond.selects "TokenRing$Ride" ({ cls := "TokenRing$Ride", name := "rankBehind", desc := "()I" } : Jvm.MethodName) ({ cls := "TokenRing$Ride", name := "rankBehind", desc := "()I" } : Jvm.MethodName)) ∈ lw_all := lw_g (lw_at lw_m9 113 rfl) rfl
theorem q2128 : (Jvm.Cond.code ({ cls := "TokenRing$Ride", name := "rankBehind", desc := "()I" } : Jvm.MethodName) prog_13_method_3_code (1 : Nat) (Option.some Jvm.ClassFile.FieldType.int)) ∈ lw_all := lw_g (lw_at lw_m9 114 rfl) rfl
theorem q2129 : (Jvm.Cond.methodLink "TokenRing$Ride" (30 : Nat) ({ cls := "java/lang/Math", name := "max", desc := "(II)I" } : Jvm.MethodName)) ∈ lw_all := lw_g (lw_at lw_m9 115 rfl) rfl
theorem q3329 : (Jvm.Cond.castable "TokenRing$Ride" "java/lang/Object") ∈ lw_tbl := lw_at lw_m14 115 rfl
theorem in_X6 : ∀ w ∈ wsX60, w ∈ lw_all := lw_in wsX60 [1751, 1753, 1755, 1757, 1759] (by decide +kernel) (by decide +kernel)
/-! TokenRing$Frame -/
set_option maxRecDepth 100000
def RX7 : String := "TokenRing$Frame"
def TX7 : u_T := fun k => match k with
  | 0 => ("TokenRing$Frame", "number", "I", true)
  | 1 => ("TokenRing$Frame", "from", "I", true)
  | 2 => ("TokenRing$Frame", "to", "I", true)
  | 3 => ("TokenRing$Frame", "rank", "I", true)
  | 4 => ("TokenRing$Frame", "length", "I", true)
  | _ => ("TokenRing$Frame", "came", "I", true)
def tyX7 : Nat → FieldType := fun k => match k with
  | 0 => .int
  | 1 => .int
  | 2 => .int
  | 3 => .int
  | 4 => .int
  | _ => .int
abbrev wsX70 : List Cond := u_ws RX7 TX7 6
theorem nmX7 : ∀ a, a < 6 → ∀ b, b < 6 → a ≠ b → (TX7 a).2.1 ≠ (TX7 b).2.1 := by decide +kernel
theorem tyX7_ok : ∀ k, k < 6 → parseFieldDescriptor (TX7 k).2.2.1 = some (tyX7 k) := by decide +kernel
abbrev cX7_init : ByteArray := prog_3_method_1_code
def yX7_init : MethodName := ⟨RX7, "<init>", "(IIIIII)V"⟩
def dkwX7_init_1 : List UInt8 := [181, 0, 19, 42, 21, 5, 181, 0, 22, 42, 21, 6, 181, 0, 25, 177]
abbrev dktX7_init_1 : List UInt8 := dkwX7_init_1 ++ []
def dkwX7_init_0 : List UInt8 := [42, 183, 0, 1, 42, 27, 181, 0, 7, 42, 28, 181, 0, 13, 42, 29, 181, 0, 16, 42, 21, 4]
abbrev dktX7_init_0 : List UInt8 := dkwX7_init_0 ++ dktX7_init_1
theorem dksX7_init_0 : cX7_init.data.toList.drop 0 = dktX7_init_0 := by decide +kernel
theorem dksX7_init_1 : cX7_init.data.toList.drop 22 = dktX7_init_1 := dk_seg dksX7_init_0 22 rfl rfl
theorem dX7_init_0 : decode cX7_init 0 = .ok (.aload_n 0, 1) := dk_42 (dk_at dksX7_init_0 0 rfl rfl)
theorem dX7_init_1 : decode cX7_init 1 = .ok (.invokespecial 1, 3) := dk_183 0 1 (dk_at dksX7_init_0 1 rfl rfl)
theorem dX7_init_4 : decode cX7_init 4 = .ok (.aload_n 0, 1) := dk_42 (dk_at dksX7_init_0 4 rfl rfl)
theorem dX7_init_5 : decode cX7_init 5 = .ok (.iload_n 1, 1) := dk_27 (dk_at dksX7_init_0 5 rfl rfl)
theorem dX7_init_6 : decode cX7_init 6 = .ok (.putfield 7, 3) := dk_181 0 7 (dk_at dksX7_init_0 6 rfl rfl)
theorem dX7_init_9 : decode cX7_init 9 = .ok (.aload_n 0, 1) := dk_42 (dk_at dksX7_init_0 9 rfl rfl)
theorem dX7_init_10 : decode cX7_init 10 = .ok (.iload_n 2, 1) := dk_28 (dk_at dksX7_init_0 10 rfl rfl)
theorem dX7_init_11 : decode cX7_init 11 = .ok (.putfield 13, 3) := dk_181 0 13 (dk_at dksX7_init_0 11 rfl rfl)
theorem dX7_init_14 : decode cX7_init 14 = .ok (.aload_n 0, 1) := dk_42 (dk_at dksX7_init_0 14 rfl rfl)
theorem dX7_init_15 : decode cX7_init 15 = .ok (.iload_n 3, 1) := dk_29 (dk_at dksX7_init_0 15 rfl rfl)
theorem dX7_init_16 : decode cX7_init 16 = .ok (.putfield 16, 3) := dk_181 0 16 (dk_at dksX7_init_0 16 rfl rfl)
theorem dX7_init_19 : decode cX7_init 19 = .ok (.aload_n 0, 1) := dk_42 (dk_at dksX7_init_0 19 rfl rfl)
theorem dX7_init_20 : decode cX7_init 20 = .ok (.iload 4, 2) := dk_21 4 (dk_at dksX7_init_0 20 rfl rfl)
theorem dX7_init_22 : decode cX7_init 22 = .ok (.putfield 19, 3) := dk_181 0 19 (dk_at dksX7_init_1 0 rfl rfl)
theorem dX7_init_25 : decode cX7_init 25 = .ok (.aload_n 0, 1) := dk_42 (dk_at dksX7_init_1 3 rfl rfl)
theorem dX7_init_26 : decode cX7_init 26 = .ok (.iload 5, 2) := dk_21 5 (dk_at dksX7_init_1 4 rfl rfl)
theorem dX7_init_28 : decode cX7_init 28 = .ok (.putfield 22, 3) := dk_181 0 22 (dk_at dksX7_init_1 6 rfl rfl)
theorem dX7_init_31 : decode cX7_init 31 = .ok (.aload_n 0, 1) := dk_42 (dk_at dksX7_init_1 9 rfl rfl)
theorem dX7_init_32 : decode cX7_init 32 = .ok (.iload 6, 2) := dk_21 6 (dk_at dksX7_init_1 10 rfl rfl)
theorem dX7_init_34 : decode cX7_init 34 = .ok (.putfield 25, 3) := dk_181 0 25 (dk_at dksX7_init_1 12 rfl rfl)
theorem dX7_init_37 : decode cX7_init 37 = .ok (.return_, 1) := dk_177 (dk_at dksX7_init_1 15 rfl rfl)
theorem q139 : (Jvm.Cond.initialized "TokenRing$Frame") ∈ lw_all := lw_g (lw_at lw_m1 45 rfl) rfl
theorem q1602 : (Jvm.Cond.selects "TokenRing$Frame" ({ cls := "java/lang/Object", name := "getClass", desc := "()Ljava/lang/Class;" } : Jvm.MethodName) ({ cls := "java/lang/Object", name := "getClass", desc := "()Ljava/lang/Class;" } : Jvm.MethodName)) ∈ lw_all := lw_g (lw_at lw_m7 68 rfl) rfl
theorem q1926 : (Jvm.Cond.instantiable "TokenRing$Frame" (6 : Nat)) ∈ lw_all := lw_g (lw_at lw_m8 152 rfl) rfl
theorem q1928 : (Jvm.Cond.instanceMethod ({ cls := "TokenRing$Frame", name := "<init>", desc := "(IIIIII)V" } : Jvm.MethodName)) ∈ lw_all := lw_g (lw_at lw_m8 154 rfl) rfl
theorem q1929 : (Jvm.Cond.code ({ cls := "TokenRing$Frame", name := "<init>", desc := "(IIIIII)V" } : Jvm.MethodName) prog_3_method_1_code (7 : Nat) (Option.none : Option Jvm.ClassFile.FieldType)) ∈ lw_all := lw_g (lw_at lw_m8 155 rfl) rfl
theorem q1930 : (Jvm.Cond.methodLink "TokenRing$Frame" (1 : Nat) ({ cls := "java/lang/Object", name := "<init>", desc := "()V" } : Jvm.MethodName)) ∈ lw_all := lw_g (lw_at lw_m8 156 rfl) rfl
theorem q1931 : (Jvm.Cond.fieldLink "TokenRing$Frame" (7 : Nat) "TokenRing$Frame" "number" "I") ∈ lw_all := lw_g (lw_at lw_m8 157 rfl) rfl
theorem q1935 : (Jvm.Cond.fieldLink "TokenRing$Frame" (13 : Nat) "TokenRing$Frame" "from" "I") ∈ lw_all := lw_g (lw_at lw_m8 161 rfl) rfl
theorem q1937 : (Jvm.Cond.fieldLink "TokenRing$Frame" (16 : Nat) "TokenRing$Frame" "to" "I") ∈ lw_all := lw_g (lw_at lw_m8 163 rfl) rfl
theorem q1939 : (Jvm.Cond.fieldLink "TokenRing$Frame" (19 : Nat) "TokenRing$Frame" "rank" "I") ∈ lw_all := lw_g (lw_at lw_m8 165 rfl) rfl
theorem q1942 : (Jvm.Cond.fieldLink "TokenRing$Frame" (22 : Nat) "TokenRing$Frame" "length" "I") ∈ lw_all := lw_g (lw_at lw_m8 168 rfl) rfl
theorem q1945 : (Jvm.Cond.fieldLink "TokenRing$Frame" (25 : Nat) "TokenRing$Frame" "came" "I") ∈ lw_all := lw_g (lw_at lw_m8 171 rfl) rfl
theorem q1947 : (Jvm.Cond.laysFinal "TokenRing$Frame" "TokenRing$Frame" "number" "I") ∈ lw_all := lw_g (lw_at lw_m8 173 rfl) rfl
theorem q1948 : (Jvm.Cond.soleField "TokenRing$Frame" "number") ∈ lw_all := lw_g (lw_at lw_m8 174 rfl) rfl
theorem q1949 : (Jvm.Cond.laysFinal "TokenRing$Frame" "TokenRing$Frame" "from" "I") ∈ lw_all := lw_g (lw_at lw_m8 175 rfl) rfl
theorem q1950 : (Jvm.Cond.soleField "TokenRing$Frame" "from") ∈ lw_all := lw_g (lw_at lw_m8 176 rfl) rfl
theorem q1951 : (Jvm.Cond.laysFinal "TokenRing$Frame" "TokenRing$Frame" "to" "I") ∈ lw_all := lw_g (lw_at lw_m8 177 rfl) rfl
theorem q1952 : (Jvm.Cond.soleField "TokenRing$Frame" "to") ∈ lw_all := lw_g (lw_at lw_m8 178 rfl) rfl
theorem q1953 : (Jvm.Cond.laysFinal "TokenRing$Frame" "TokenRing$Frame" "rank" "I") ∈ lw_all := lw_g (lw_at lw_m8 179 rfl) rfl
theorem q1954 : (Jvm.Cond.soleField "TokenRing$Frame" "rank") ∈ lw_all := lw_g (lw_at lw_m8 180 rfl) rfl
theorem q1955 : (Jvm.Cond.laysFinal "TokenRing$Frame" "TokenRing$Frame" "length" "I") ∈ lw_all := lw_g (lw_at lw_m8 181 rfl) rfl
theorem q1956 : (Jvm.Cond.soleField "TokenRing$Frame" "length") ∈ lw_all := lw_g (lw_at lw_m8 182 rfl) rfl
theorem q1957 : (Jvm.Cond.laysFinal "TokenRing$Frame" "TokenRing$Frame" "came" "I") ∈ lw_all := lw_g (lw_at lw_m8 183 rfl) rfl
theorem q1958 : (Jvm.Cond.soleField "TokenRing$Frame" "came") ∈ lw_all := lw_g (lw_at lw_m8 184 rfl) rfl
theorem q1959 : (Jvm.Cond.superclass "TokenRing$Frame" "java/lang/Object") ∈ lw_all := lw_g (lw_at lw_m8 185 rfl) rfl
theorem q3331 : (Jvm.Cond.castable "TokenRing$Frame" "java/lang/Object") ∈ lw_tbl := lw_at lw_m14 117 rfl
theorem in_X7 : ∀ w ∈ wsX70, w ∈ lw_all := lw_in wsX70 [1947, 1949, 1951, 1953, 1955, 1957] (by decide +kernel) (by decide +kernel)
/-! TokenRing$State$Tick -/
set_option maxRecDepth 100000
def RX8 : String := "TokenRing$State$Tick"
def TX8 : u_T := fun k => match k with
  | _ => ("TokenRing$State$Tick", "this$0", "LTokenRing$State;", true)
def tyX8 : Nat → FieldType := fun k => match k with
  | _ => .object "TokenRing$State"
abbrev wsX80 : List Cond := u_ws RX8 TX8 1
theorem nmX8 : ∀ a, a < 1 → ∀ b, b < 1 → a ≠ b → (TX8 a).2.1 ≠ (TX8 b).2.1 := by decide +kernel
theorem tyX8_ok : ∀ k, k < 1 → parseFieldDescriptor (TX8 k).2.2.1 = some (tyX8 k) := by decide +kernel
abbrev cX8_init : ByteArray := prog_17_method_1_code
def yX8_init : MethodName := ⟨RX8, "<init>", "(LTokenRing$State;)V"⟩
def dkwX8_init_0 : List UInt8 := [42, 43, 181, 0, 3, 42, 183, 0, 9, 177]
abbrev dktX8_init_0 : List UInt8 := dkwX8_init_0 ++ []
theorem dksX8_init_0 : cX8_init.data.toList.drop 0 = dktX8_init_0 := by decide +kernel
theorem dX8_init_0 : decode cX8_init 0 = .ok (.aload_n 0, 1) := dk_42 (dk_at dksX8_init_0 0 rfl rfl)
theorem dX8_init_1 : decode cX8_init 1 = .ok (.aload_n 1, 1) := dk_43 (dk_at dksX8_init_0 1 rfl rfl)
theorem dX8_init_2 : decode cX8_init 2 = .ok (.putfield 3, 3) := dk_181 0 3 (dk_at dksX8_init_0 2 rfl rfl)
theorem dX8_init_5 : decode cX8_init 5 = .ok (.aload_n 0, 1) := dk_42 (dk_at dksX8_init_0 5 rfl rfl)
theorem dX8_init_6 : decode cX8_init 6 = .ok (.invokespecial 9, 3) := dk_183 0 9 (dk_at dksX8_init_0 6 rfl rfl)
theorem dX8_init_9 : decode cX8_init 9 = .ok (.return_, 1) := dk_177 (dk_at dksX8_init_0 9 rfl rfl)
abbrev cX8_goes : ByteArray := prog_17_method_7_code
def yX8_goes : MethodName := ⟨RX8, "goes", "()V"⟩
def dkwX8_goes_4 : List UInt8 := [4, 96, 181, 0, 102, 177]
abbrev dktX8_goes_4 : List UInt8 := dkwX8_goes_4 ++ []
def dkwX8_goes_3 : List UInt8 := [160, 0, 11, 42, 43, 182, 0, 189, 167, 0, 8, 42, 43, 182, 0, 192, 42, 180, 0, 3, 89, 180, 0, 102]
abbrev dktX8_goes_3 : List UInt8 := dkwX8_goes_3 ++ dktX8_goes_4
def dkwX8_goes_2 : List UInt8 := [180, 0, 3, 180, 0, 159, 184, 0, 181, 182, 0, 185, 192, 0, 55, 76, 42, 180, 0, 3, 180, 0, 93, 4]
abbrev dktX8_goes_2 : List UInt8 := dkwX8_goes_2 ++ dktX8_goes_3
def dkwX8_goes_1 : List UInt8 := [180, 0, 3, 42, 180, 0, 3, 180, 0, 159, 182, 0, 177, 181, 0, 159, 42, 180, 0, 3, 180, 0, 31, 42]
abbrev dktX8_goes_1 : List UInt8 := dkwX8_goes_1 ++ dktX8_goes_2
def dkwX8_goes_0 : List UInt8 := [42, 180, 0, 3, 180, 0, 93, 154, 0, 10, 42, 182, 0, 174, 167, 0, 72, 42, 180, 0, 3, 42]
abbrev dktX8_goes_0 : List UInt8 := dkwX8_goes_0 ++ dktX8_goes_1
theorem dksX8_goes_0 : cX8_goes.data.toList.drop 0 = dktX8_goes_0 := by decide +kernel
theorem dksX8_goes_1 : cX8_goes.data.toList.drop 22 = dktX8_goes_1 := dk_seg dksX8_goes_0 22 rfl rfl
theorem dksX8_goes_2 : cX8_goes.data.toList.drop 46 = dktX8_goes_2 := dk_seg dksX8_goes_1 24 rfl rfl
theorem dksX8_goes_3 : cX8_goes.data.toList.drop 70 = dktX8_goes_3 := dk_seg dksX8_goes_2 24 rfl rfl
theorem dksX8_goes_4 : cX8_goes.data.toList.drop 94 = dktX8_goes_4 := dk_seg dksX8_goes_3 24 rfl rfl
theorem dX8_goes_0 : decode cX8_goes 0 = .ok (.aload_n 0, 1) := dk_42 (dk_at dksX8_goes_0 0 rfl rfl)
theorem dX8_goes_1 : decode cX8_goes 1 = .ok (.getfield 3, 3) := dk_180 0 3 (dk_at dksX8_goes_0 1 rfl rfl)
theorem dX8_goes_4 : decode cX8_goes 4 = .ok (.getfield 93, 3) := dk_180 0 93 (dk_at dksX8_goes_0 4 rfl rfl)
theorem dX8_goes_7 : decode cX8_goes 7 = .ok (.ifCond .ne 10, 3) := dk_154 0 10 (dk_at dksX8_goes_0 7 rfl rfl)
theorem dX8_goes_10 : decode cX8_goes 10 = .ok (.aload_n 0, 1) := dk_42 (dk_at dksX8_goes_0 10 rfl rfl)
theorem dX8_goes_11 : decode cX8_goes 11 = .ok (.invokevirtual 174, 3) := dk_182 0 174 (dk_at dksX8_goes_0 11 rfl rfl)
theorem dX8_goes_14 : decode cX8_goes 14 = .ok (.goto 72, 3) := dk_167 0 72 (dk_at dksX8_goes_0 14 rfl rfl)
theorem dX8_goes_17 : decode cX8_goes 17 = .ok (.aload_n 0, 1) := dk_42 (dk_at dksX8_goes_0 17 rfl rfl)
theorem dX8_goes_18 : decode cX8_goes 18 = .ok (.getfield 3, 3) := dk_180 0 3 (dk_at dksX8_goes_0 18 rfl rfl)
theorem dX8_goes_21 : decode cX8_goes 21 = .ok (.aload_n 0, 1) := dk_42 (dk_at dksX8_goes_0 21 rfl rfl)
theorem dX8_goes_22 : decode cX8_goes 22 = .ok (.getfield 3, 3) := dk_180 0 3 (dk_at dksX8_goes_1 0 rfl rfl)
theorem dX8_goes_25 : decode cX8_goes 25 = .ok (.aload_n 0, 1) := dk_42 (dk_at dksX8_goes_1 3 rfl rfl)
theorem dX8_goes_26 : decode cX8_goes 26 = .ok (.getfield 3, 3) := dk_180 0 3 (dk_at dksX8_goes_1 4 rfl rfl)
theorem dX8_goes_29 : decode cX8_goes 29 = .ok (.getfield 159, 3) := dk_180 0 159 (dk_at dksX8_goes_1 7 rfl rfl)
theorem dX8_goes_32 : decode cX8_goes 32 = .ok (.invokevirtual 177, 3) := dk_182 0 177 (dk_at dksX8_goes_1 10 rfl rfl)
theorem dX8_goes_35 : decode cX8_goes 35 = .ok (.putfield 159, 3) := dk_181 0 159 (dk_at dksX8_goes_1 13 rfl rfl)
theorem dX8_goes_38 : decode cX8_goes 38 = .ok (.aload_n 0, 1) := dk_42 (dk_at dksX8_goes_1 16 rfl rfl)
theorem dX8_goes_39 : decode cX8_goes 39 = .ok (.getfield 3, 3) := dk_180 0 3 (dk_at dksX8_goes_1 17 rfl rfl)
theorem dX8_goes_42 : decode cX8_goes 42 = .ok (.getfield 31, 3) := dk_180 0 31 (dk_at dksX8_goes_1 20 rfl rfl)
theorem dX8_goes_45 : decode cX8_goes 45 = .ok (.aload_n 0, 1) := dk_42 (dk_at dksX8_goes_1 23 rfl rfl)
theorem dX8_goes_46 : decode cX8_goes 46 = .ok (.getfield 3, 3) := dk_180 0 3 (dk_at dksX8_goes_2 0 rfl rfl)
theorem dX8_goes_49 : decode cX8_goes 49 = .ok (.getfield 159, 3) := dk_180 0 159 (dk_at dksX8_goes_2 3 rfl rfl)
theorem dX8_goes_52 : decode cX8_goes 52 = .ok (.invokestatic 181, 3) := dk_184 0 181 (dk_at dksX8_goes_2 6 rfl rfl)
theorem dX8_goes_55 : decode cX8_goes 55 = .ok (.invokevirtual 185, 3) := dk_182 0 185 (dk_at dksX8_goes_2 9 rfl rfl)
theorem dX8_goes_58 : decode cX8_goes 58 = .ok (.checkcast 55, 3) := dk_192 0 55 (dk_at dksX8_goes_2 12 rfl rfl)
theorem dX8_goes_61 : decode cX8_goes 61 = .ok (.astore_n 1, 1) := dk_76 (dk_at dksX8_goes_2 15 rfl rfl)
theorem dX8_goes_62 : decode cX8_goes 62 = .ok (.aload_n 0, 1) := dk_42 (dk_at dksX8_goes_2 16 rfl rfl)
theorem dX8_goes_63 : decode cX8_goes 63 = .ok (.getfield 3, 3) := dk_180 0 3 (dk_at dksX8_goes_2 17 rfl rfl)
theorem dX8_goes_66 : decode cX8_goes 66 = .ok (.getfield 93, 3) := dk_180 0 93 (dk_at dksX8_goes_2 20 rfl rfl)
theorem dX8_goes_69 : decode cX8_goes 69 = .ok (.iconst 1, 1) := dk_4 (dk_at dksX8_goes_2 23 rfl rfl)
theorem dX8_goes_70 : decode cX8_goes 70 = .ok (.if_icmp .ne 11, 3) := dk_160 0 11 (dk_at dksX8_goes_3 0 rfl rfl)
theorem dX8_goes_73 : decode cX8_goes 73 = .ok (.aload_n 0, 1) := dk_42 (dk_at dksX8_goes_3 3 rfl rfl)
theorem dX8_goes_74 : decode cX8_goes 74 = .ok (.aload_n 1, 1) := dk_43 (dk_at dksX8_goes_3 4 rfl rfl)
theorem dX8_goes_75 : decode cX8_goes 75 = .ok (.invokevirtual 189, 3) := dk_182 0 189 (dk_at dksX8_goes_3 5 rfl rfl)
theorem dX8_goes_78 : decode cX8_goes 78 = .ok (.goto 8, 3) := dk_167 0 8 (dk_at dksX8_goes_3 8 rfl rfl)
theorem dX8_goes_81 : decode cX8_goes 81 = .ok (.aload_n 0, 1) := dk_42 (dk_at dksX8_goes_3 11 rfl rfl)
theorem dX8_goes_82 : decode cX8_goes 82 = .ok (.aload_n 1, 1) := dk_43 (dk_at dksX8_goes_3 12 rfl rfl)
theorem dX8_goes_83 : decode cX8_goes 83 = .ok (.invokevirtual 192, 3) := dk_182 0 192 (dk_at dksX8_goes_3 13 rfl rfl)
theorem dX8_goes_86 : decode cX8_goes 86 = .ok (.aload_n 0, 1) := dk_42 (dk_at dksX8_goes_3 16 rfl rfl)
theorem dX8_goes_87 : decode cX8_goes 87 = .ok (.getfield 3, 3) := dk_180 0 3 (dk_at dksX8_goes_3 17 rfl rfl)
theorem dX8_goes_90 : decode cX8_goes 90 = .ok (.dup, 1) := dk_89 (dk_at dksX8_goes_3 20 rfl rfl)
theorem dX8_goes_91 : decode cX8_goes 91 = .ok (.getfield 102, 3) := dk_180 0 102 (dk_at dksX8_goes_3 21 rfl rfl)
theorem dX8_goes_94 : decode cX8_goes 94 = .ok (.iconst 1, 1) := dk_4 (dk_at dksX8_goes_4 0 rfl rfl)
theorem dX8_goes_95 : decode cX8_goes 95 = .ok (.iadd, 1) := dk_96 (dk_at dksX8_goes_4 1 rfl rfl)
theorem dX8_goes_96 : decode cX8_goes 96 = .ok (.putfield 102, 3) := dk_181 0 102 (dk_at dksX8_goes_4 2 rfl rfl)
theorem dX8_goes_99 : decode cX8_goes 99 = .ok (.return_, 1) := dk_177 (dk_at dksX8_goes_4 5 rfl rfl)
abbrev cX8_isSilent : ByteArray := prog_17_method_2_code
def yX8_isSilent : MethodName := ⟨RX8, "isSilent", "()V"⟩
def dkwX8_isSilent_6 : List UInt8 := [181, 0, 15, 42, 180, 0, 3, 89, 180, 0, 51, 4, 96, 181, 0, 51, 177]
abbrev dktX8_isSilent_6 : List UInt8 := dkwX8_isSilent_6 ++ []
def dkwX8_isSilent_5 : List UInt8 := [180, 0, 3, 180, 0, 31, 182, 0, 41, 192, 0, 45, 182, 0, 47, 181, 0, 21, 42, 180, 0, 3, 3]
abbrev dktX8_isSilent_5 : List UInt8 := dkwX8_isSilent_5 ++ dktX8_isSilent_6
def dkwX8_isSilent_4 : List UInt8 := [182, 0, 35, 154, 0, 58, 42, 180, 0, 3, 180, 0, 21, 2, 160, 0, 47, 42, 180, 0, 3, 42]
abbrev dktX8_isSilent_4 : List UInt8 := dkwX8_isSilent_4 ++ dktX8_isSilent_5
def dkwX8_isSilent_3 : List UInt8 := [167, 0, 83, 42, 180, 0, 3, 180, 0, 15, 16, 8, 161, 0, 71, 42, 180, 0, 3, 180, 0, 31]
abbrev dktX8_isSilent_3 : List UInt8 := dkwX8_isSilent_3 ++ dktX8_isSilent_4
def dkwX8_isSilent_2 : List UInt8 := [182, 0, 24, 42, 180, 0, 3, 3, 181, 0, 15, 42, 180, 0, 3, 89, 180, 0, 28, 4, 96, 181, 0, 28]
abbrev dktX8_isSilent_2 : List UInt8 := dkwX8_isSilent_2 ++ dktX8_isSilent_3
def dkwX8_isSilent_1 : List UInt8 := [42, 180, 0, 3, 180, 0, 21, 2, 159, 0, 42, 42, 180, 0, 3, 42, 180, 0, 3, 180, 0, 21, 3]
abbrev dktX8_isSilent_1 : List UInt8 := dkwX8_isSilent_1 ++ dktX8_isSilent_2
def dkwX8_isSilent_0 : List UInt8 := [42, 180, 0, 3, 89, 180, 0, 15, 4, 96, 181, 0, 15, 42, 180, 0, 3, 180, 0, 15, 8, 161, 0, 53]
abbrev dktX8_isSilent_0 : List UInt8 := dkwX8_isSilent_0 ++ dktX8_isSilent_1
theorem dksX8_isSilent_0 : cX8_isSilent.data.toList.drop 0 = dktX8_isSilent_0 := by decide +kernel
theorem dksX8_isSilent_1 : cX8_isSilent.data.toList.drop 24 = dktX8_isSilent_1 := dk_seg dksX8_isSilent_0 24 rfl rfl
theorem dksX8_isSilent_2 : cX8_isSilent.data.toList.drop 47 = dktX8_isSilent_2 := dk_seg dksX8_isSilent_1 23 rfl rfl
theorem dksX8_isSilent_3 : cX8_isSilent.data.toList.drop 71 = dktX8_isSilent_3 := dk_seg dksX8_isSilent_2 24 rfl rfl
theorem dksX8_isSilent_4 : cX8_isSilent.data.toList.drop 93 = dktX8_isSilent_4 := dk_seg dksX8_isSilent_3 22 rfl rfl
theorem dksX8_isSilent_5 : cX8_isSilent.data.toList.drop 115 = dktX8_isSilent_5 := dk_seg dksX8_isSilent_4 22 rfl rfl
theorem dksX8_isSilent_6 : cX8_isSilent.data.toList.drop 138 = dktX8_isSilent_6 := dk_seg dksX8_isSilent_5 23 rfl rfl
theorem dX8_isSilent_0 : decode cX8_isSilent 0 = .ok (.aload_n 0, 1) := dk_42 (dk_at dksX8_isSilent_0 0 rfl rfl)
theorem dX8_isSilent_1 : decode cX8_isSilent 1 = .ok (.getfield 3, 3) := dk_180 0 3 (dk_at dksX8_isSilent_0 1 rfl rfl)
theorem dX8_isSilent_4 : decode cX8_isSilent 4 = .ok (.dup, 1) := dk_89 (dk_at dksX8_isSilent_0 4 rfl rfl)
theorem dX8_isSilent_5 : decode cX8_isSilent 5 = .ok (.getfield 15, 3) := dk_180 0 15 (dk_at dksX8_isSilent_0 5 rfl rfl)
theorem dX8_isSilent_8 : decode cX8_isSilent 8 = .ok (.iconst 1, 1) := dk_4 (dk_at dksX8_isSilent_0 8 rfl rfl)
theorem dX8_isSilent_9 : decode cX8_isSilent 9 = .ok (.iadd, 1) := dk_96 (dk_at dksX8_isSilent_0 9 rfl rfl)
theorem dX8_isSilent_10 : decode cX8_isSilent 10 = .ok (.putfield 15, 3) := dk_181 0 15 (dk_at dksX8_isSilent_0 10 rfl rfl)
theorem dX8_isSilent_13 : decode cX8_isSilent 13 = .ok (.aload_n 0, 1) := dk_42 (dk_at dksX8_isSilent_0 13 rfl rfl)
theorem dX8_isSilent_14 : decode cX8_isSilent 14 = .ok (.getfield 3, 3) := dk_180 0 3 (dk_at dksX8_isSilent_0 14 rfl rfl)
theorem dX8_isSilent_17 : decode cX8_isSilent 17 = .ok (.getfield 15, 3) := dk_180 0 15 (dk_at dksX8_isSilent_0 17 rfl rfl)
theorem dX8_isSilent_20 : decode cX8_isSilent 20 = .ok (.iconst 5, 1) := dk_8 (dk_at dksX8_isSilent_0 20 rfl rfl)
theorem dX8_isSilent_21 : decode cX8_isSilent 21 = .ok (.if_icmp .lt 53, 3) := dk_161 0 53 (dk_at dksX8_isSilent_0 21 rfl rfl)
theorem dX8_isSilent_24 : decode cX8_isSilent 24 = .ok (.aload_n 0, 1) := dk_42 (dk_at dksX8_isSilent_1 0 rfl rfl)
theorem dX8_isSilent_25 : decode cX8_isSilent 25 = .ok (.getfield 3, 3) := dk_180 0 3 (dk_at dksX8_isSilent_1 1 rfl rfl)
theorem dX8_isSilent_28 : decode cX8_isSilent 28 = .ok (.getfield 21, 3) := dk_180 0 21 (dk_at dksX8_isSilent_1 4 rfl rfl)
theorem dX8_isSilent_31 : decode cX8_isSilent 31 = .ok (.iconst (-1), 1) := dk_2 (dk_at dksX8_isSilent_1 7 rfl rfl)
theorem dX8_isSilent_32 : decode cX8_isSilent 32 = .ok (.if_icmp .eq 42, 3) := dk_159 0 42 (dk_at dksX8_isSilent_1 8 rfl rfl)
theorem dX8_isSilent_35 : decode cX8_isSilent 35 = .ok (.aload_n 0, 1) := dk_42 (dk_at dksX8_isSilent_1 11 rfl rfl)
theorem dX8_isSilent_36 : decode cX8_isSilent 36 = .ok (.getfield 3, 3) := dk_180 0 3 (dk_at dksX8_isSilent_1 12 rfl rfl)
theorem dX8_isSilent_39 : decode cX8_isSilent 39 = .ok (.aload_n 0, 1) := dk_42 (dk_at dksX8_isSilent_1 15 rfl rfl)
theorem dX8_isSilent_40 : decode cX8_isSilent 40 = .ok (.getfield 3, 3) := dk_180 0 3 (dk_at dksX8_isSilent_1 16 rfl rfl)
theorem dX8_isSilent_43 : decode cX8_isSilent 43 = .ok (.getfield 21, 3) := dk_180 0 21 (dk_at dksX8_isSilent_1 19 rfl rfl)
theorem dX8_isSilent_46 : decode cX8_isSilent 46 = .ok (.iconst 0, 1) := dk_3 (dk_at dksX8_isSilent_1 22 rfl rfl)
theorem dX8_isSilent_47 : decode cX8_isSilent 47 = .ok (.invokevirtual 24, 3) := dk_182 0 24 (dk_at dksX8_isSilent_2 0 rfl rfl)
theorem dX8_isSilent_50 : decode cX8_isSilent 50 = .ok (.aload_n 0, 1) := dk_42 (dk_at dksX8_isSilent_2 3 rfl rfl)
theorem dX8_isSilent_51 : decode cX8_isSilent 51 = .ok (.getfield 3, 3) := dk_180 0 3 (dk_at dksX8_isSilent_2 4 rfl rfl)
theorem dX8_isSilent_54 : decode cX8_isSilent 54 = .ok (.iconst 0, 1) := dk_3 (dk_at dksX8_isSilent_2 7 rfl rfl)
theorem dX8_isSilent_55 : decode cX8_isSilent 55 = .ok (.putfield 15, 3) := dk_181 0 15 (dk_at dksX8_isSilent_2 8 rfl rfl)
theorem dX8_isSilent_58 : decode cX8_isSilent 58 = .ok (.aload_n 0, 1) := dk_42 (dk_at dksX8_isSilent_2 11 rfl rfl)
theorem dX8_isSilent_59 : decode cX8_isSilent 59 = .ok (.getfield 3, 3) := dk_180 0 3 (dk_at dksX8_isSilent_2 12 rfl rfl)
theorem dX8_isSilent_62 : decode cX8_isSilent 62 = .ok (.dup, 1) := dk_89 (dk_at dksX8_isSilent_2 15 rfl rfl)
theorem dX8_isSilent_63 : decode cX8_isSilent 63 = .ok (.getfield 28, 3) := dk_180 0 28 (dk_at dksX8_isSilent_2 16 rfl rfl)
theorem dX8_isSilent_66 : decode cX8_isSilent 66 = .ok (.iconst 1, 1) := dk_4 (dk_at dksX8_isSilent_2 19 rfl rfl)
theorem dX8_isSilent_67 : decode cX8_isSilent 67 = .ok (.iadd, 1) := dk_96 (dk_at dksX8_isSilent_2 20 rfl rfl)
theorem dX8_isSilent_68 : decode cX8_isSilent 68 = .ok (.putfield 28, 3) := dk_181 0 28 (dk_at dksX8_isSilent_2 21 rfl rfl)
theorem dX8_isSilent_71 : decode cX8_isSilent 71 = .ok (.goto 83, 3) := dk_167 0 83 (dk_at dksX8_isSilent_3 0 rfl rfl)
theorem dX8_isSilent_74 : decode cX8_isSilent 74 = .ok (.aload_n 0, 1) := dk_42 (dk_at dksX8_isSilent_3 3 rfl rfl)
theorem dX8_isSilent_75 : decode cX8_isSilent 75 = .ok (.getfield 3, 3) := dk_180 0 3 (dk_at dksX8_isSilent_3 4 rfl rfl)
theorem dX8_isSilent_78 : decode cX8_isSilent 78 = .ok (.getfield 15, 3) := dk_180 0 15 (dk_at dksX8_isSilent_3 7 rfl rfl)
theorem dX8_isSilent_81 : decode cX8_isSilent 81 = .ok (.bipush 8, 2) := dk_16 8 (dk_at dksX8_isSilent_3 10 rfl rfl)
theorem dX8_isSilent_83 : decode cX8_isSilent 83 = .ok (.if_icmp .lt 71, 3) := dk_161 0 71 (dk_at dksX8_isSilent_3 12 rfl rfl)
theorem dX8_isSilent_86 : decode cX8_isSilent 86 = .ok (.aload_n 0, 1) := dk_42 (dk_at dksX8_isSilent_3 15 rfl rfl)
theorem dX8_isSilent_87 : decode cX8_isSilent 87 = .ok (.getfield 3, 3) := dk_180 0 3 (dk_at dksX8_isSilent_3 16 rfl rfl)
theorem dX8_isSilent_90 : decode cX8_isSilent 90 = .ok (.getfield 31, 3) := dk_180 0 31 (dk_at dksX8_isSilent_3 19 rfl rfl)
theorem dX8_isSilent_93 : decode cX8_isSilent 93 = .ok (.invokevirtual 35, 3) := dk_182 0 35 (dk_at dksX8_isSilent_4 0 rfl rfl)
theorem dX8_isSilent_96 : decode cX8_isSilent 96 = .ok (.ifCond .ne 58, 3) := dk_154 0 58 (dk_at dksX8_isSilent_4 3 rfl rfl)
theorem dX8_isSilent_99 : decode cX8_isSilent 99 = .ok (.aload_n 0, 1) := dk_42 (dk_at dksX8_isSilent_4 6 rfl rfl)
theorem dX8_isSilent_100 : decode cX8_isSilent 100 = .ok (.getfield 3, 3) := dk_180 0 3 (dk_at dksX8_isSilent_4 7 rfl rfl)
theorem dX8_isSilent_103 : decode cX8_isSilent 103 = .ok (.getfield 21, 3) := dk_180 0 21 (dk_at dksX8_isSilent_4 10 rfl rfl)
theorem dX8_isSilent_106 : decode cX8_isSilent 106 = .ok (.iconst (-1), 1) := dk_2 (dk_at dksX8_isSilent_4 13 rfl rfl)
theorem dX8_isSilent_107 : decode cX8_isSilent 107 = .ok (.if_icmp .ne 47, 3) := dk_160 0 47 (dk_at dksX8_isSilent_4 14 rfl rfl)
theorem dX8_isSilent_110 : decode cX8_isSilent 110 = .ok (.aload_n 0, 1) := dk_42 (dk_at dksX8_isSilent_4 17 rfl rfl)
theorem dX8_isSilent_111 : decode cX8_isSilent 111 = .ok (.getfield 3, 3) := dk_180 0 3 (dk_at dksX8_isSilent_4 18 rfl rfl)
theorem dX8_isSilent_114 : decode cX8_isSilent 114 = .ok (.aload_n 0, 1) := dk_42 (dk_at dksX8_isSilent_4 21 rfl rfl)
theorem dX8_isSilent_115 : decode cX8_isSilent 115 = .ok (.getfield 3, 3) := dk_180 0 3 (dk_at dksX8_isSilent_5 0 rfl rfl)
theorem dX8_isSilent_118 : decode cX8_isSilent 118 = .ok (.getfield 31, 3) := dk_180 0 31 (dk_at dksX8_isSilent_5 3 rfl rfl)
theorem dX8_isSilent_121 : decode cX8_isSilent 121 = .ok (.invokevirtual 41, 3) := dk_182 0 41 (dk_at dksX8_isSilent_5 6 rfl rfl)
theorem dX8_isSilent_124 : decode cX8_isSilent 124 = .ok (.checkcast 45, 3) := dk_192 0 45 (dk_at dksX8_isSilent_5 9 rfl rfl)
theorem dX8_isSilent_127 : decode cX8_isSilent 127 = .ok (.invokevirtual 47, 3) := dk_182 0 47 (dk_at dksX8_isSilent_5 12 rfl rfl)
theorem dX8_isSilent_130 : decode cX8_isSilent 130 = .ok (.putfield 21, 3) := dk_181 0 21 (dk_at dksX8_isSilent_5 15 rfl rfl)
theorem dX8_isSilent_133 : decode cX8_isSilent 133 = .ok (.aload_n 0, 1) := dk_42 (dk_at dksX8_isSilent_5 18 rfl rfl)
theorem dX8_isSilent_134 : decode cX8_isSilent 134 = .ok (.getfield 3, 3) := dk_180 0 3 (dk_at dksX8_isSilent_5 19 rfl rfl)
theorem dX8_isSilent_137 : decode cX8_isSilent 137 = .ok (.iconst 0, 1) := dk_3 (dk_at dksX8_isSilent_5 22 rfl rfl)
theorem dX8_isSilent_138 : decode cX8_isSilent 138 = .ok (.putfield 15, 3) := dk_181 0 15 (dk_at dksX8_isSilent_6 0 rfl rfl)
theorem dX8_isSilent_141 : decode cX8_isSilent 141 = .ok (.aload_n 0, 1) := dk_42 (dk_at dksX8_isSilent_6 3 rfl rfl)
theorem dX8_isSilent_142 : decode cX8_isSilent 142 = .ok (.getfield 3, 3) := dk_180 0 3 (dk_at dksX8_isSilent_6 4 rfl rfl)
theorem dX8_isSilent_145 : decode cX8_isSilent 145 = .ok (.dup, 1) := dk_89 (dk_at dksX8_isSilent_6 7 rfl rfl)
theorem dX8_isSilent_146 : decode cX8_isSilent 146 = .ok (.getfield 51, 3) := dk_180 0 51 (dk_at dksX8_isSilent_6 8 rfl rfl)
theorem dX8_isSilent_149 : decode cX8_isSilent 149 = .ok (.iconst 1, 1) := dk_4 (dk_at dksX8_isSilent_6 11 rfl rfl)
theorem dX8_isSilent_150 : decode cX8_isSilent 150 = .ok (.iadd, 1) := dk_96 (dk_at dksX8_isSilent_6 12 rfl rfl)
theorem dX8_isSilent_151 : decode cX8_isSilent 151 = .ok (.putfield 51, 3) := dk_181 0 51 (dk_at dksX8_isSilent_6 13 rfl rfl)
theorem dX8_isSilent_154 : decode cX8_isSilent 154 = .ok (.return_, 1) := dk_177 (dk_at dksX8_isSilent_6 16 rfl rfl)
abbrev cX8_comesToken : ByteArray := prog_17_method_3_code
def yX8_comesToken : MethodName := ⟨RX8, "comesToken", "(LTokenRing$Station;)V"⟩
def dkwX8_comesToken_3 : List UInt8 := [3, 167, 0, 10, 42, 180, 0, 3, 180, 0, 59, 181, 0, 59, 177]
abbrev dktX8_comesToken_3 : List UInt8 := dkwX8_comesToken_3 ++ []
def dkwX8_comesToken_2 : List UInt8 := [89, 180, 0, 69, 4, 96, 181, 0, 69, 42, 180, 0, 3, 42, 180, 0, 3, 180, 0, 69, 6, 160, 0, 7]
abbrev dktX8_comesToken_2 : List UInt8 := dkwX8_comesToken_2 ++ dktX8_comesToken_3
def dkwX8_comesToken_1 : List UInt8 := [42, 180, 0, 3, 180, 0, 21, 160, 0, 55, 42, 180, 0, 3, 180, 0, 59, 158, 0, 45, 42, 180, 0, 3]
abbrev dktX8_comesToken_1 : List UInt8 := dkwX8_comesToken_1 ++ dktX8_comesToken_2
def dkwX8_comesToken_0 : List UInt8 := [43, 182, 0, 54, 42, 180, 0, 3, 180, 0, 59, 161, 0, 9, 42, 43, 182, 0, 62, 177, 43, 180, 0, 66]
abbrev dktX8_comesToken_0 : List UInt8 := dkwX8_comesToken_0 ++ dktX8_comesToken_1
theorem dksX8_comesToken_0 : cX8_comesToken.data.toList.drop 0 = dktX8_comesToken_0 := by decide +kernel
theorem dksX8_comesToken_1 : cX8_comesToken.data.toList.drop 24 = dktX8_comesToken_1 := dk_seg dksX8_comesToken_0 24 rfl rfl
theorem dksX8_comesToken_2 : cX8_comesToken.data.toList.drop 48 = dktX8_comesToken_2 := dk_seg dksX8_comesToken_1 24 rfl rfl
theorem dksX8_comesToken_3 : cX8_comesToken.data.toList.drop 72 = dktX8_comesToken_3 := dk_seg dksX8_comesToken_2 24 rfl rfl
theorem dX8_comesToken_0 : decode cX8_comesToken 0 = .ok (.aload_n 1, 1) := dk_43 (dk_at dksX8_comesToken_0 0 rfl rfl)
theorem dX8_comesToken_1 : decode cX8_comesToken 1 = .ok (.invokevirtual 54, 3) := dk_182 0 54 (dk_at dksX8_comesToken_0 1 rfl rfl)
theorem dX8_comesToken_4 : decode cX8_comesToken 4 = .ok (.aload_n 0, 1) := dk_42 (dk_at dksX8_comesToken_0 4 rfl rfl)
theorem dX8_comesToken_5 : decode cX8_comesToken 5 = .ok (.getfield 3, 3) := dk_180 0 3 (dk_at dksX8_comesToken_0 5 rfl rfl)
theorem dX8_comesToken_8 : decode cX8_comesToken 8 = .ok (.getfield 59, 3) := dk_180 0 59 (dk_at dksX8_comesToken_0 8 rfl rfl)
theorem dX8_comesToken_11 : decode cX8_comesToken 11 = .ok (.if_icmp .lt 9, 3) := dk_161 0 9 (dk_at dksX8_comesToken_0 11 rfl rfl)
theorem dX8_comesToken_14 : decode cX8_comesToken 14 = .ok (.aload_n 0, 1) := dk_42 (dk_at dksX8_comesToken_0 14 rfl rfl)
theorem dX8_comesToken_15 : decode cX8_comesToken 15 = .ok (.aload_n 1, 1) := dk_43 (dk_at dksX8_comesToken_0 15 rfl rfl)
theorem dX8_comesToken_16 : decode cX8_comesToken 16 = .ok (.invokevirtual 62, 3) := dk_182 0 62 (dk_at dksX8_comesToken_0 16 rfl rfl)
theorem dX8_comesToken_19 : decode cX8_comesToken 19 = .ok (.return_, 1) := dk_177 (dk_at dksX8_comesToken_0 19 rfl rfl)
theorem dX8_comesToken_20 : decode cX8_comesToken 20 = .ok (.aload_n 1, 1) := dk_43 (dk_at dksX8_comesToken_0 20 rfl rfl)
theorem dX8_comesToken_21 : decode cX8_comesToken 21 = .ok (.getfield 66, 3) := dk_180 0 66 (dk_at dksX8_comesToken_0 21 rfl rfl)
theorem dX8_comesToken_24 : decode cX8_comesToken 24 = .ok (.aload_n 0, 1) := dk_42 (dk_at dksX8_comesToken_1 0 rfl rfl)
theorem dX8_comesToken_25 : decode cX8_comesToken 25 = .ok (.getfield 3, 3) := dk_180 0 3 (dk_at dksX8_comesToken_1 1 rfl rfl)
theorem dX8_comesToken_28 : decode cX8_comesToken 28 = .ok (.getfield 21, 3) := dk_180 0 21 (dk_at dksX8_comesToken_1 4 rfl rfl)
theorem dX8_comesToken_31 : decode cX8_comesToken 31 = .ok (.if_icmp .ne 55, 3) := dk_160 0 55 (dk_at dksX8_comesToken_1 7 rfl rfl)
theorem dX8_comesToken_34 : decode cX8_comesToken 34 = .ok (.aload_n 0, 1) := dk_42 (dk_at dksX8_comesToken_1 10 rfl rfl)
theorem dX8_comesToken_35 : decode cX8_comesToken 35 = .ok (.getfield 3, 3) := dk_180 0 3 (dk_at dksX8_comesToken_1 11 rfl rfl)
theorem dX8_comesToken_38 : decode cX8_comesToken 38 = .ok (.getfield 59, 3) := dk_180 0 59 (dk_at dksX8_comesToken_1 14 rfl rfl)
theorem dX8_comesToken_41 : decode cX8_comesToken 41 = .ok (.ifCond .le 45, 3) := dk_158 0 45 (dk_at dksX8_comesToken_1 17 rfl rfl)
theorem dX8_comesToken_44 : decode cX8_comesToken 44 = .ok (.aload_n 0, 1) := dk_42 (dk_at dksX8_comesToken_1 20 rfl rfl)
theorem dX8_comesToken_45 : decode cX8_comesToken 45 = .ok (.getfield 3, 3) := dk_180 0 3 (dk_at dksX8_comesToken_1 21 rfl rfl)
theorem dX8_comesToken_48 : decode cX8_comesToken 48 = .ok (.dup, 1) := dk_89 (dk_at dksX8_comesToken_2 0 rfl rfl)
theorem dX8_comesToken_49 : decode cX8_comesToken 49 = .ok (.getfield 69, 3) := dk_180 0 69 (dk_at dksX8_comesToken_2 1 rfl rfl)
theorem dX8_comesToken_52 : decode cX8_comesToken 52 = .ok (.iconst 1, 1) := dk_4 (dk_at dksX8_comesToken_2 4 rfl rfl)
theorem dX8_comesToken_53 : decode cX8_comesToken 53 = .ok (.iadd, 1) := dk_96 (dk_at dksX8_comesToken_2 5 rfl rfl)
theorem dX8_comesToken_54 : decode cX8_comesToken 54 = .ok (.putfield 69, 3) := dk_181 0 69 (dk_at dksX8_comesToken_2 6 rfl rfl)
theorem dX8_comesToken_57 : decode cX8_comesToken 57 = .ok (.aload_n 0, 1) := dk_42 (dk_at dksX8_comesToken_2 9 rfl rfl)
theorem dX8_comesToken_58 : decode cX8_comesToken 58 = .ok (.getfield 3, 3) := dk_180 0 3 (dk_at dksX8_comesToken_2 10 rfl rfl)
theorem dX8_comesToken_61 : decode cX8_comesToken 61 = .ok (.aload_n 0, 1) := dk_42 (dk_at dksX8_comesToken_2 13 rfl rfl)
theorem dX8_comesToken_62 : decode cX8_comesToken 62 = .ok (.getfield 3, 3) := dk_180 0 3 (dk_at dksX8_comesToken_2 14 rfl rfl)
theorem dX8_comesToken_65 : decode cX8_comesToken 65 = .ok (.getfield 69, 3) := dk_180 0 69 (dk_at dksX8_comesToken_2 17 rfl rfl)
theorem dX8_comesToken_68 : decode cX8_comesToken 68 = .ok (.iconst 3, 1) := dk_6 (dk_at dksX8_comesToken_2 20 rfl rfl)
theorem dX8_comesToken_69 : decode cX8_comesToken 69 = .ok (.if_icmp .ne 7, 3) := dk_160 0 7 (dk_at dksX8_comesToken_2 21 rfl rfl)
theorem dX8_comesToken_72 : decode cX8_comesToken 72 = .ok (.iconst 0, 1) := dk_3 (dk_at dksX8_comesToken_3 0 rfl rfl)
theorem dX8_comesToken_73 : decode cX8_comesToken 73 = .ok (.goto 10, 3) := dk_167 0 10 (dk_at dksX8_comesToken_3 1 rfl rfl)
theorem dX8_comesToken_76 : decode cX8_comesToken 76 = .ok (.aload_n 0, 1) := dk_42 (dk_at dksX8_comesToken_3 4 rfl rfl)
theorem dX8_comesToken_77 : decode cX8_comesToken 77 = .ok (.getfield 3, 3) := dk_180 0 3 (dk_at dksX8_comesToken_3 5 rfl rfl)
theorem dX8_comesToken_80 : decode cX8_comesToken 80 = .ok (.getfield 59, 3) := dk_180 0 59 (dk_at dksX8_comesToken_3 8 rfl rfl)
theorem dX8_comesToken_83 : decode cX8_comesToken 83 = .ok (.putfield 59, 3) := dk_181 0 59 (dk_at dksX8_comesToken_3 11 rfl rfl)
theorem dX8_comesToken_86 : decode cX8_comesToken 86 = .ok (.return_, 1) := dk_177 (dk_at dksX8_comesToken_3 14 rfl rfl)
abbrev cX8_takes : ByteArray := prog_17_method_4_code
def yX8_takes : MethodName := ⟨RX8, "takes", "(LTokenRing$Station;)V"⟩
def dkwX8_takes_4 : List UInt8 := [181, 0, 108, 42, 180, 0, 3, 42, 180, 0, 3, 180, 0, 111, 29, 184, 0, 114, 181, 0, 111, 177]
abbrev dktX8_takes_4 : List UInt8 := dkwX8_takes_4 ++ []
def dkwX8_takes_3 : List UInt8 := [180, 0, 3, 180, 0, 102, 44, 180, 0, 105, 100, 62, 42, 180, 0, 3, 89, 180, 0, 108, 29, 96]
abbrev dktX8_takes_3 : List UInt8 := dkwX8_takes_3 ++ dktX8_takes_4
def dkwX8_takes_2 : List UInt8 := [180, 0, 96, 4, 96, 181, 0, 96, 42, 180, 0, 3, 89, 180, 0, 99, 4, 96, 181, 0, 99, 42]
abbrev dktX8_takes_2 : List UInt8 := dkwX8_takes_2 ++ dktX8_takes_3
def dkwX8_takes_1 : List UInt8 := [180, 0, 3, 180, 0, 59, 183, 0, 86, 181, 0, 89, 42, 180, 0, 3, 5, 181, 0, 93, 43, 89]
abbrev dktX8_takes_1 : List UInt8 := dkwX8_takes_1 ++ dktX8_takes_2
def dkwX8_takes_0 : List UInt8 := [43, 180, 0, 72, 3, 182, 0, 76, 192, 0, 82, 77, 42, 180, 0, 3, 187, 0, 84, 89, 44, 42]
abbrev dktX8_takes_0 : List UInt8 := dkwX8_takes_0 ++ dktX8_takes_1
theorem dksX8_takes_0 : cX8_takes.data.toList.drop 0 = dktX8_takes_0 := by decide +kernel
theorem dksX8_takes_1 : cX8_takes.data.toList.drop 22 = dktX8_takes_1 := dk_seg dksX8_takes_0 22 rfl rfl
theorem dksX8_takes_2 : cX8_takes.data.toList.drop 44 = dktX8_takes_2 := dk_seg dksX8_takes_1 22 rfl rfl
theorem dksX8_takes_3 : cX8_takes.data.toList.drop 66 = dktX8_takes_3 := dk_seg dksX8_takes_2 22 rfl rfl
theorem dksX8_takes_4 : cX8_takes.data.toList.drop 88 = dktX8_takes_4 := dk_seg dksX8_takes_3 22 rfl rfl
theorem dX8_takes_0 : decode cX8_takes 0 = .ok (.aload_n 1, 1) := dk_43 (dk_at dksX8_takes_0 0 rfl rfl)
theorem dX8_takes_1 : decode cX8_takes 1 = .ok (.getfield 72, 3) := dk_180 0 72 (dk_at dksX8_takes_0 1 rfl rfl)
theorem dX8_takes_4 : decode cX8_takes 4 = .ok (.iconst 0, 1) := dk_3 (dk_at dksX8_takes_0 4 rfl rfl)
theorem dX8_takes_5 : decode cX8_takes 5 = .ok (.invokevirtual 76, 3) := dk_182 0 76 (dk_at dksX8_takes_0 5 rfl rfl)
theorem dX8_takes_8 : decode cX8_takes 8 = .ok (.checkcast 82, 3) := dk_192 0 82 (dk_at dksX8_takes_0 8 rfl rfl)
theorem dX8_takes_11 : decode cX8_takes 11 = .ok (.astore_n 2, 1) := dk_77 (dk_at dksX8_takes_0 11 rfl rfl)
theorem dX8_takes_12 : decode cX8_takes 12 = .ok (.aload_n 0, 1) := dk_42 (dk_at dksX8_takes_0 12 rfl rfl)
theorem dX8_takes_13 : decode cX8_takes 13 = .ok (.getfield 3, 3) := dk_180 0 3 (dk_at dksX8_takes_0 13 rfl rfl)
theorem dX8_takes_16 : decode cX8_takes 16 = .ok (.new 84, 3) := dk_187 0 84 (dk_at dksX8_takes_0 16 rfl rfl)
theorem dX8_takes_19 : decode cX8_takes 19 = .ok (.dup, 1) := dk_89 (dk_at dksX8_takes_0 19 rfl rfl)
theorem dX8_takes_20 : decode cX8_takes 20 = .ok (.aload_n 2, 1) := dk_44 (dk_at dksX8_takes_0 20 rfl rfl)
theorem dX8_takes_21 : decode cX8_takes 21 = .ok (.aload_n 0, 1) := dk_42 (dk_at dksX8_takes_0 21 rfl rfl)
theorem dX8_takes_22 : decode cX8_takes 22 = .ok (.getfield 3, 3) := dk_180 0 3 (dk_at dksX8_takes_1 0 rfl rfl)
theorem dX8_takes_25 : decode cX8_takes 25 = .ok (.getfield 59, 3) := dk_180 0 59 (dk_at dksX8_takes_1 3 rfl rfl)
theorem dX8_takes_28 : decode cX8_takes 28 = .ok (.invokespecial 86, 3) := dk_183 0 86 (dk_at dksX8_takes_1 6 rfl rfl)
theorem dX8_takes_31 : decode cX8_takes 31 = .ok (.putfield 89, 3) := dk_181 0 89 (dk_at dksX8_takes_1 9 rfl rfl)
theorem dX8_takes_34 : decode cX8_takes 34 = .ok (.aload_n 0, 1) := dk_42 (dk_at dksX8_takes_1 12 rfl rfl)
theorem dX8_takes_35 : decode cX8_takes 35 = .ok (.getfield 3, 3) := dk_180 0 3 (dk_at dksX8_takes_1 13 rfl rfl)
theorem dX8_takes_38 : decode cX8_takes 38 = .ok (.iconst 2, 1) := dk_5 (dk_at dksX8_takes_1 16 rfl rfl)
theorem dX8_takes_39 : decode cX8_takes 39 = .ok (.putfield 93, 3) := dk_181 0 93 (dk_at dksX8_takes_1 17 rfl rfl)
theorem dX8_takes_42 : decode cX8_takes 42 = .ok (.aload_n 1, 1) := dk_43 (dk_at dksX8_takes_1 20 rfl rfl)
theorem dX8_takes_43 : decode cX8_takes 43 = .ok (.dup, 1) := dk_89 (dk_at dksX8_takes_1 21 rfl rfl)
theorem dX8_takes_44 : decode cX8_takes 44 = .ok (.getfield 96, 3) := dk_180 0 96 (dk_at dksX8_takes_2 0 rfl rfl)
theorem dX8_takes_47 : decode cX8_takes 47 = .ok (.iconst 1, 1) := dk_4 (dk_at dksX8_takes_2 3 rfl rfl)
theorem dX8_takes_48 : decode cX8_takes 48 = .ok (.iadd, 1) := dk_96 (dk_at dksX8_takes_2 4 rfl rfl)
theorem dX8_takes_49 : decode cX8_takes 49 = .ok (.putfield 96, 3) := dk_181 0 96 (dk_at dksX8_takes_2 5 rfl rfl)
theorem dX8_takes_52 : decode cX8_takes 52 = .ok (.aload_n 0, 1) := dk_42 (dk_at dksX8_takes_2 8 rfl rfl)
theorem dX8_takes_53 : decode cX8_takes 53 = .ok (.getfield 3, 3) := dk_180 0 3 (dk_at dksX8_takes_2 9 rfl rfl)
theorem dX8_takes_56 : decode cX8_takes 56 = .ok (.dup, 1) := dk_89 (dk_at dksX8_takes_2 12 rfl rfl)
theorem dX8_takes_57 : decode cX8_takes 57 = .ok (.getfield 99, 3) := dk_180 0 99 (dk_at dksX8_takes_2 13 rfl rfl)
theorem dX8_takes_60 : decode cX8_takes 60 = .ok (.iconst 1, 1) := dk_4 (dk_at dksX8_takes_2 16 rfl rfl)
theorem dX8_takes_61 : decode cX8_takes 61 = .ok (.iadd, 1) := dk_96 (dk_at dksX8_takes_2 17 rfl rfl)
theorem dX8_takes_62 : decode cX8_takes 62 = .ok (.putfield 99, 3) := dk_181 0 99 (dk_at dksX8_takes_2 18 rfl rfl)
theorem dX8_takes_65 : decode cX8_takes 65 = .ok (.aload_n 0, 1) := dk_42 (dk_at dksX8_takes_2 21 rfl rfl)
theorem dX8_takes_66 : decode cX8_takes 66 = .ok (.getfield 3, 3) := dk_180 0 3 (dk_at dksX8_takes_3 0 rfl rfl)
theorem dX8_takes_69 : decode cX8_takes 69 = .ok (.getfield 102, 3) := dk_180 0 102 (dk_at dksX8_takes_3 3 rfl rfl)
theorem dX8_takes_72 : decode cX8_takes 72 = .ok (.aload_n 2, 1) := dk_44 (dk_at dksX8_takes_3 6 rfl rfl)
theorem dX8_takes_73 : decode cX8_takes 73 = .ok (.getfield 105, 3) := dk_180 0 105 (dk_at dksX8_takes_3 7 rfl rfl)
theorem dX8_takes_76 : decode cX8_takes 76 = .ok (.isub, 1) := dk_100 (dk_at dksX8_takes_3 10 rfl rfl)
theorem dX8_takes_77 : decode cX8_takes 77 = .ok (.istore_n 3, 1) := dk_62 (dk_at dksX8_takes_3 11 rfl rfl)
theorem dX8_takes_78 : decode cX8_takes 78 = .ok (.aload_n 0, 1) := dk_42 (dk_at dksX8_takes_3 12 rfl rfl)
theorem dX8_takes_79 : decode cX8_takes 79 = .ok (.getfield 3, 3) := dk_180 0 3 (dk_at dksX8_takes_3 13 rfl rfl)
theorem dX8_takes_82 : decode cX8_takes 82 = .ok (.dup, 1) := dk_89 (dk_at dksX8_takes_3 16 rfl rfl)
theorem dX8_takes_83 : decode cX8_takes 83 = .ok (.getfield 108, 3) := dk_180 0 108 (dk_at dksX8_takes_3 17 rfl rfl)
theorem dX8_takes_86 : decode cX8_takes 86 = .ok (.iload_n 3, 1) := dk_29 (dk_at dksX8_takes_3 20 rfl rfl)
theorem dX8_takes_87 : decode cX8_takes 87 = .ok (.iadd, 1) := dk_96 (dk_at dksX8_takes_3 21 rfl rfl)
theorem dX8_takes_88 : decode cX8_takes 88 = .ok (.putfield 108, 3) := dk_181 0 108 (dk_at dksX8_takes_4 0 rfl rfl)
theorem dX8_takes_91 : decode cX8_takes 91 = .ok (.aload_n 0, 1) := dk_42 (dk_at dksX8_takes_4 3 rfl rfl)
theorem dX8_takes_92 : decode cX8_takes 92 = .ok (.getfield 3, 3) := dk_180 0 3 (dk_at dksX8_takes_4 4 rfl rfl)
theorem dX8_takes_95 : decode cX8_takes 95 = .ok (.aload_n 0, 1) := dk_42 (dk_at dksX8_takes_4 7 rfl rfl)
theorem dX8_takes_96 : decode cX8_takes 96 = .ok (.getfield 3, 3) := dk_180 0 3 (dk_at dksX8_takes_4 8 rfl rfl)
theorem dX8_takes_99 : decode cX8_takes 99 = .ok (.getfield 111, 3) := dk_180 0 111 (dk_at dksX8_takes_4 11 rfl rfl)
theorem dX8_takes_102 : decode cX8_takes 102 = .ok (.iload_n 3, 1) := dk_29 (dk_at dksX8_takes_4 14 rfl rfl)
theorem dX8_takes_103 : decode cX8_takes 103 = .ok (.invokestatic 114, 3) := dk_184 0 114 (dk_at dksX8_takes_4 15 rfl rfl)
theorem dX8_takes_106 : decode cX8_takes 106 = .ok (.putfield 111, 3) := dk_181 0 111 (dk_at dksX8_takes_4 18 rfl rfl)
theorem dX8_takes_109 : decode cX8_takes 109 = .ok (.return_, 1) := dk_177 (dk_at dksX8_takes_4 21 rfl rfl)
abbrev cX8_comesFrame : ByteArray := prog_17_method_6_code
def yX8_comesFrame : MethodName := ⟨RX8, "comesFrame", "(LTokenRing$Station;)V"⟩
def dkwX8_comesFrame_8 : List UInt8 := [184, 0, 114, 181, 0, 171, 177]
abbrev dktX8_comesFrame_8 : List UInt8 := dkwX8_comesFrame_8 ++ []
def dkwX8_comesFrame_7 : List UInt8 := [181, 0, 165, 42, 180, 0, 3, 180, 0, 89, 42, 180, 0, 3, 180, 0, 89, 180, 0, 171, 43, 182, 0, 54]
abbrev dktX8_comesFrame_7 : List UInt8 := dkwX8_comesFrame_7 ++ dktX8_comesFrame_8
def dkwX8_comesFrame_6 : List UInt8 := [180, 0, 3, 42, 180, 0, 3, 180, 0, 159, 3, 182, 0, 24, 177, 42, 180, 0, 3, 180, 0, 89, 4]
abbrev dktX8_comesFrame_6 : List UInt8 := dkwX8_comesFrame_6 ++ dktX8_comesFrame_7
def dkwX8_comesFrame_5 : List UInt8 := [180, 0, 89, 180, 0, 165, 153, 0, 32, 42, 180, 0, 3, 89, 180, 0, 168, 4, 96, 181, 0, 168, 42]
abbrev dktX8_comesFrame_5 : List UInt8 := dkwX8_comesFrame_5 ++ dktX8_comesFrame_6
def dkwX8_comesFrame_4 : List UInt8 := [182, 0, 24, 177, 43, 180, 0, 66, 42, 180, 0, 3, 180, 0, 21, 160, 0, 56, 42, 180, 0, 3]
abbrev dktX8_comesFrame_4 : List UInt8 := dkwX8_comesFrame_4 ++ dktX8_comesFrame_5
def dkwX8_comesFrame_3 : List UInt8 := [181, 0, 156, 42, 180, 0, 3, 42, 180, 0, 3, 180, 0, 159, 42, 180, 0, 3, 180, 0, 89, 182, 0, 162]
abbrev dktX8_comesFrame_3 : List UInt8 := dkwX8_comesFrame_3 ++ dktX8_comesFrame_4
def dkwX8_comesFrame_2 : List UInt8 := [180, 0, 89, 180, 0, 131, 180, 0, 153, 160, 0, 41, 42, 180, 0, 3, 89, 180, 0, 156, 4, 96]
abbrev dktX8_comesFrame_2 : List UInt8 := dkwX8_comesFrame_2 ++ dktX8_comesFrame_3
def dkwX8_comesFrame_1 : List UInt8 := [180, 0, 89, 180, 0, 120, 154, 0, 8, 42, 43, 182, 0, 150, 43, 180, 0, 66, 42, 180, 0, 3]
abbrev dktX8_comesFrame_1 : List UInt8 := dkwX8_comesFrame_1 ++ dktX8_comesFrame_2
def dkwX8_comesFrame_0 : List UInt8 := [43, 180, 0, 66, 42, 180, 0, 3, 180, 0, 89, 180, 0, 131, 180, 0, 147, 160, 0, 21, 42, 180, 0, 3]
abbrev dktX8_comesFrame_0 : List UInt8 := dkwX8_comesFrame_0 ++ dktX8_comesFrame_1
theorem dksX8_comesFrame_0 : cX8_comesFrame.data.toList.drop 0 = dktX8_comesFrame_0 := by decide +kernel
theorem dksX8_comesFrame_1 : cX8_comesFrame.data.toList.drop 24 = dktX8_comesFrame_1 := dk_seg dksX8_comesFrame_0 24 rfl rfl
theorem dksX8_comesFrame_2 : cX8_comesFrame.data.toList.drop 46 = dktX8_comesFrame_2 := dk_seg dksX8_comesFrame_1 22 rfl rfl
theorem dksX8_comesFrame_3 : cX8_comesFrame.data.toList.drop 68 = dktX8_comesFrame_3 := dk_seg dksX8_comesFrame_2 22 rfl rfl
theorem dksX8_comesFrame_4 : cX8_comesFrame.data.toList.drop 92 = dktX8_comesFrame_4 := dk_seg dksX8_comesFrame_3 24 rfl rfl
theorem dksX8_comesFrame_5 : cX8_comesFrame.data.toList.drop 114 = dktX8_comesFrame_5 := dk_seg dksX8_comesFrame_4 22 rfl rfl
theorem dksX8_comesFrame_6 : cX8_comesFrame.data.toList.drop 137 = dktX8_comesFrame_6 := dk_seg dksX8_comesFrame_5 23 rfl rfl
theorem dksX8_comesFrame_7 : cX8_comesFrame.data.toList.drop 160 = dktX8_comesFrame_7 := dk_seg dksX8_comesFrame_6 23 rfl rfl
theorem dksX8_comesFrame_8 : cX8_comesFrame.data.toList.drop 184 = dktX8_comesFrame_8 := dk_seg dksX8_comesFrame_7 24 rfl rfl
theorem dX8_comesFrame_0 : decode cX8_comesFrame 0 = .ok (.aload_n 1, 1) := dk_43 (dk_at dksX8_comesFrame_0 0 rfl rfl)
theorem dX8_comesFrame_1 : decode cX8_comesFrame 1 = .ok (.getfield 66, 3) := dk_180 0 66 (dk_at dksX8_comesFrame_0 1 rfl rfl)
theorem dX8_comesFrame_4 : decode cX8_comesFrame 4 = .ok (.aload_n 0, 1) := dk_42 (dk_at dksX8_comesFrame_0 4 rfl rfl)
theorem dX8_comesFrame_5 : decode cX8_comesFrame 5 = .ok (.getfield 3, 3) := dk_180 0 3 (dk_at dksX8_comesFrame_0 5 rfl rfl)
theorem dX8_comesFrame_8 : decode cX8_comesFrame 8 = .ok (.getfield 89, 3) := dk_180 0 89 (dk_at dksX8_comesFrame_0 8 rfl rfl)
theorem dX8_comesFrame_11 : decode cX8_comesFrame 11 = .ok (.getfield 131, 3) := dk_180 0 131 (dk_at dksX8_comesFrame_0 11 rfl rfl)
theorem dX8_comesFrame_14 : decode cX8_comesFrame 14 = .ok (.getfield 147, 3) := dk_180 0 147 (dk_at dksX8_comesFrame_0 14 rfl rfl)
theorem dX8_comesFrame_17 : decode cX8_comesFrame 17 = .ok (.if_icmp .ne 21, 3) := dk_160 0 21 (dk_at dksX8_comesFrame_0 17 rfl rfl)
theorem dX8_comesFrame_20 : decode cX8_comesFrame 20 = .ok (.aload_n 0, 1) := dk_42 (dk_at dksX8_comesFrame_0 20 rfl rfl)
theorem dX8_comesFrame_21 : decode cX8_comesFrame 21 = .ok (.getfield 3, 3) := dk_180 0 3 (dk_at dksX8_comesFrame_0 21 rfl rfl)
theorem dX8_comesFrame_24 : decode cX8_comesFrame 24 = .ok (.getfield 89, 3) := dk_180 0 89 (dk_at dksX8_comesFrame_1 0 rfl rfl)
theorem dX8_comesFrame_27 : decode cX8_comesFrame 27 = .ok (.getfield 120, 3) := dk_180 0 120 (dk_at dksX8_comesFrame_1 3 rfl rfl)
theorem dX8_comesFrame_30 : decode cX8_comesFrame 30 = .ok (.ifCond .ne 8, 3) := dk_154 0 8 (dk_at dksX8_comesFrame_1 6 rfl rfl)
theorem dX8_comesFrame_33 : decode cX8_comesFrame 33 = .ok (.aload_n 0, 1) := dk_42 (dk_at dksX8_comesFrame_1 9 rfl rfl)
theorem dX8_comesFrame_34 : decode cX8_comesFrame 34 = .ok (.aload_n 1, 1) := dk_43 (dk_at dksX8_comesFrame_1 10 rfl rfl)
theorem dX8_comesFrame_35 : decode cX8_comesFrame 35 = .ok (.invokevirtual 150, 3) := dk_182 0 150 (dk_at dksX8_comesFrame_1 11 rfl rfl)
theorem dX8_comesFrame_38 : decode cX8_comesFrame 38 = .ok (.aload_n 1, 1) := dk_43 (dk_at dksX8_comesFrame_1 14 rfl rfl)
theorem dX8_comesFrame_39 : decode cX8_comesFrame 39 = .ok (.getfield 66, 3) := dk_180 0 66 (dk_at dksX8_comesFrame_1 15 rfl rfl)
theorem dX8_comesFrame_42 : decode cX8_comesFrame 42 = .ok (.aload_n 0, 1) := dk_42 (dk_at dksX8_comesFrame_1 18 rfl rfl)
theorem dX8_comesFrame_43 : decode cX8_comesFrame 43 = .ok (.getfield 3, 3) := dk_180 0 3 (dk_at dksX8_comesFrame_1 19 rfl rfl)
theorem dX8_comesFrame_46 : decode cX8_comesFrame 46 = .ok (.getfield 89, 3) := dk_180 0 89 (dk_at dksX8_comesFrame_2 0 rfl rfl)
theorem dX8_comesFrame_49 : decode cX8_comesFrame 49 = .ok (.getfield 131, 3) := dk_180 0 131 (dk_at dksX8_comesFrame_2 3 rfl rfl)
theorem dX8_comesFrame_52 : decode cX8_comesFrame 52 = .ok (.getfield 153, 3) := dk_180 0 153 (dk_at dksX8_comesFrame_2 6 rfl rfl)
theorem dX8_comesFrame_55 : decode cX8_comesFrame 55 = .ok (.if_icmp .ne 41, 3) := dk_160 0 41 (dk_at dksX8_comesFrame_2 9 rfl rfl)
theorem dX8_comesFrame_58 : decode cX8_comesFrame 58 = .ok (.aload_n 0, 1) := dk_42 (dk_at dksX8_comesFrame_2 12 rfl rfl)
theorem dX8_comesFrame_59 : decode cX8_comesFrame 59 = .ok (.getfield 3, 3) := dk_180 0 3 (dk_at dksX8_comesFrame_2 13 rfl rfl)
theorem dX8_comesFrame_62 : decode cX8_comesFrame 62 = .ok (.dup, 1) := dk_89 (dk_at dksX8_comesFrame_2 16 rfl rfl)
theorem dX8_comesFrame_63 : decode cX8_comesFrame 63 = .ok (.getfield 156, 3) := dk_180 0 156 (dk_at dksX8_comesFrame_2 17 rfl rfl)
theorem dX8_comesFrame_66 : decode cX8_comesFrame 66 = .ok (.iconst 1, 1) := dk_4 (dk_at dksX8_comesFrame_2 20 rfl rfl)
theorem dX8_comesFrame_67 : decode cX8_comesFrame 67 = .ok (.iadd, 1) := dk_96 (dk_at dksX8_comesFrame_2 21 rfl rfl)
theorem dX8_comesFrame_68 : decode cX8_comesFrame 68 = .ok (.putfield 156, 3) := dk_181 0 156 (dk_at dksX8_comesFrame_3 0 rfl rfl)
theorem dX8_comesFrame_71 : decode cX8_comesFrame 71 = .ok (.aload_n 0, 1) := dk_42 (dk_at dksX8_comesFrame_3 3 rfl rfl)
theorem dX8_comesFrame_72 : decode cX8_comesFrame 72 = .ok (.getfield 3, 3) := dk_180 0 3 (dk_at dksX8_comesFrame_3 4 rfl rfl)
theorem dX8_comesFrame_75 : decode cX8_comesFrame 75 = .ok (.aload_n 0, 1) := dk_42 (dk_at dksX8_comesFrame_3 7 rfl rfl)
theorem dX8_comesFrame_76 : decode cX8_comesFrame 76 = .ok (.getfield 3, 3) := dk_180 0 3 (dk_at dksX8_comesFrame_3 8 rfl rfl)
theorem dX8_comesFrame_79 : decode cX8_comesFrame 79 = .ok (.getfield 159, 3) := dk_180 0 159 (dk_at dksX8_comesFrame_3 11 rfl rfl)
theorem dX8_comesFrame_82 : decode cX8_comesFrame 82 = .ok (.aload_n 0, 1) := dk_42 (dk_at dksX8_comesFrame_3 14 rfl rfl)
theorem dX8_comesFrame_83 : decode cX8_comesFrame 83 = .ok (.getfield 3, 3) := dk_180 0 3 (dk_at dksX8_comesFrame_3 15 rfl rfl)
theorem dX8_comesFrame_86 : decode cX8_comesFrame 86 = .ok (.getfield 89, 3) := dk_180 0 89 (dk_at dksX8_comesFrame_3 18 rfl rfl)
theorem dX8_comesFrame_89 : decode cX8_comesFrame 89 = .ok (.invokevirtual 162, 3) := dk_182 0 162 (dk_at dksX8_comesFrame_3 21 rfl rfl)
theorem dX8_comesFrame_92 : decode cX8_comesFrame 92 = .ok (.invokevirtual 24, 3) := dk_182 0 24 (dk_at dksX8_comesFrame_4 0 rfl rfl)
theorem dX8_comesFrame_95 : decode cX8_comesFrame 95 = .ok (.return_, 1) := dk_177 (dk_at dksX8_comesFrame_4 3 rfl rfl)
theorem dX8_comesFrame_96 : decode cX8_comesFrame 96 = .ok (.aload_n 1, 1) := dk_43 (dk_at dksX8_comesFrame_4 4 rfl rfl)
theorem dX8_comesFrame_97 : decode cX8_comesFrame 97 = .ok (.getfield 66, 3) := dk_180 0 66 (dk_at dksX8_comesFrame_4 5 rfl rfl)
theorem dX8_comesFrame_100 : decode cX8_comesFrame 100 = .ok (.aload_n 0, 1) := dk_42 (dk_at dksX8_comesFrame_4 8 rfl rfl)
theorem dX8_comesFrame_101 : decode cX8_comesFrame 101 = .ok (.getfield 3, 3) := dk_180 0 3 (dk_at dksX8_comesFrame_4 9 rfl rfl)
theorem dX8_comesFrame_104 : decode cX8_comesFrame 104 = .ok (.getfield 21, 3) := dk_180 0 21 (dk_at dksX8_comesFrame_4 12 rfl rfl)
theorem dX8_comesFrame_107 : decode cX8_comesFrame 107 = .ok (.if_icmp .ne 56, 3) := dk_160 0 56 (dk_at dksX8_comesFrame_4 15 rfl rfl)
theorem dX8_comesFrame_110 : decode cX8_comesFrame 110 = .ok (.aload_n 0, 1) := dk_42 (dk_at dksX8_comesFrame_4 18 rfl rfl)
theorem dX8_comesFrame_111 : decode cX8_comesFrame 111 = .ok (.getfield 3, 3) := dk_180 0 3 (dk_at dksX8_comesFrame_4 19 rfl rfl)
theorem dX8_comesFrame_114 : decode cX8_comesFrame 114 = .ok (.getfield 89, 3) := dk_180 0 89 (dk_at dksX8_comesFrame_5 0 rfl rfl)
theorem dX8_comesFrame_117 : decode cX8_comesFrame 117 = .ok (.getfield 165, 3) := dk_180 0 165 (dk_at dksX8_comesFrame_5 3 rfl rfl)
theorem dX8_comesFrame_120 : decode cX8_comesFrame 120 = .ok (.ifCond .eq 32, 3) := dk_153 0 32 (dk_at dksX8_comesFrame_5 6 rfl rfl)
theorem dX8_comesFrame_123 : decode cX8_comesFrame 123 = .ok (.aload_n 0, 1) := dk_42 (dk_at dksX8_comesFrame_5 9 rfl rfl)
theorem dX8_comesFrame_124 : decode cX8_comesFrame 124 = .ok (.getfield 3, 3) := dk_180 0 3 (dk_at dksX8_comesFrame_5 10 rfl rfl)
theorem dX8_comesFrame_127 : decode cX8_comesFrame 127 = .ok (.dup, 1) := dk_89 (dk_at dksX8_comesFrame_5 13 rfl rfl)
theorem dX8_comesFrame_128 : decode cX8_comesFrame 128 = .ok (.getfield 168, 3) := dk_180 0 168 (dk_at dksX8_comesFrame_5 14 rfl rfl)
theorem dX8_comesFrame_131 : decode cX8_comesFrame 131 = .ok (.iconst 1, 1) := dk_4 (dk_at dksX8_comesFrame_5 17 rfl rfl)
theorem dX8_comesFrame_132 : decode cX8_comesFrame 132 = .ok (.iadd, 1) := dk_96 (dk_at dksX8_comesFrame_5 18 rfl rfl)
theorem dX8_comesFrame_133 : decode cX8_comesFrame 133 = .ok (.putfield 168, 3) := dk_181 0 168 (dk_at dksX8_comesFrame_5 19 rfl rfl)
theorem dX8_comesFrame_136 : decode cX8_comesFrame 136 = .ok (.aload_n 0, 1) := dk_42 (dk_at dksX8_comesFrame_5 22 rfl rfl)
theorem dX8_comesFrame_137 : decode cX8_comesFrame 137 = .ok (.getfield 3, 3) := dk_180 0 3 (dk_at dksX8_comesFrame_6 0 rfl rfl)
theorem dX8_comesFrame_140 : decode cX8_comesFrame 140 = .ok (.aload_n 0, 1) := dk_42 (dk_at dksX8_comesFrame_6 3 rfl rfl)
theorem dX8_comesFrame_141 : decode cX8_comesFrame 141 = .ok (.getfield 3, 3) := dk_180 0 3 (dk_at dksX8_comesFrame_6 4 rfl rfl)
theorem dX8_comesFrame_144 : decode cX8_comesFrame 144 = .ok (.getfield 159, 3) := dk_180 0 159 (dk_at dksX8_comesFrame_6 7 rfl rfl)
theorem dX8_comesFrame_147 : decode cX8_comesFrame 147 = .ok (.iconst 0, 1) := dk_3 (dk_at dksX8_comesFrame_6 10 rfl rfl)
theorem dX8_comesFrame_148 : decode cX8_comesFrame 148 = .ok (.invokevirtual 24, 3) := dk_182 0 24 (dk_at dksX8_comesFrame_6 11 rfl rfl)
theorem dX8_comesFrame_151 : decode cX8_comesFrame 151 = .ok (.return_, 1) := dk_177 (dk_at dksX8_comesFrame_6 14 rfl rfl)
theorem dX8_comesFrame_152 : decode cX8_comesFrame 152 = .ok (.aload_n 0, 1) := dk_42 (dk_at dksX8_comesFrame_6 15 rfl rfl)
theorem dX8_comesFrame_153 : decode cX8_comesFrame 153 = .ok (.getfield 3, 3) := dk_180 0 3 (dk_at dksX8_comesFrame_6 16 rfl rfl)
theorem dX8_comesFrame_156 : decode cX8_comesFrame 156 = .ok (.getfield 89, 3) := dk_180 0 89 (dk_at dksX8_comesFrame_6 19 rfl rfl)
theorem dX8_comesFrame_159 : decode cX8_comesFrame 159 = .ok (.iconst 1, 1) := dk_4 (dk_at dksX8_comesFrame_6 22 rfl rfl)
theorem dX8_comesFrame_160 : decode cX8_comesFrame 160 = .ok (.putfield 165, 3) := dk_181 0 165 (dk_at dksX8_comesFrame_7 0 rfl rfl)
theorem dX8_comesFrame_163 : decode cX8_comesFrame 163 = .ok (.aload_n 0, 1) := dk_42 (dk_at dksX8_comesFrame_7 3 rfl rfl)
theorem dX8_comesFrame_164 : decode cX8_comesFrame 164 = .ok (.getfield 3, 3) := dk_180 0 3 (dk_at dksX8_comesFrame_7 4 rfl rfl)
theorem dX8_comesFrame_167 : decode cX8_comesFrame 167 = .ok (.getfield 89, 3) := dk_180 0 89 (dk_at dksX8_comesFrame_7 7 rfl rfl)
theorem dX8_comesFrame_170 : decode cX8_comesFrame 170 = .ok (.aload_n 0, 1) := dk_42 (dk_at dksX8_comesFrame_7 10 rfl rfl)
theorem dX8_comesFrame_171 : decode cX8_comesFrame 171 = .ok (.getfield 3, 3) := dk_180 0 3 (dk_at dksX8_comesFrame_7 11 rfl rfl)
theorem dX8_comesFrame_174 : decode cX8_comesFrame 174 = .ok (.getfield 89, 3) := dk_180 0 89 (dk_at dksX8_comesFrame_7 14 rfl rfl)
theorem dX8_comesFrame_177 : decode cX8_comesFrame 177 = .ok (.getfield 171, 3) := dk_180 0 171 (dk_at dksX8_comesFrame_7 17 rfl rfl)
theorem dX8_comesFrame_180 : decode cX8_comesFrame 180 = .ok (.aload_n 1, 1) := dk_43 (dk_at dksX8_comesFrame_7 20 rfl rfl)
theorem dX8_comesFrame_181 : decode cX8_comesFrame 181 = .ok (.invokevirtual 54, 3) := dk_182 0 54 (dk_at dksX8_comesFrame_7 21 rfl rfl)
theorem dX8_comesFrame_184 : decode cX8_comesFrame 184 = .ok (.invokestatic 114, 3) := dk_184 0 114 (dk_at dksX8_comesFrame_8 0 rfl rfl)
theorem dX8_comesFrame_187 : decode cX8_comesFrame 187 = .ok (.putfield 171, 3) := dk_181 0 171 (dk_at dksX8_comesFrame_8 3 rfl rfl)
theorem dX8_comesFrame_190 : decode cX8_comesFrame 190 = .ok (.return_, 1) := dk_177 (dk_at dksX8_comesFrame_8 6 rfl rfl)
abbrev cX8_receives : ByteArray := prog_17_method_5_code
def yX8_receives : MethodName := ⟨RX8, "receives", "(LTokenRing$Station;)V"⟩
def dkwX8_receives_4 : List UInt8 := [167, 0, 4, 3, 128, 181, 0, 138, 177]
abbrev dktX8_receives_4 : List UInt8 := dkwX8_receives_4 ++ []
def dkwX8_receives_3 : List UInt8 := [180, 0, 3, 180, 0, 89, 180, 0, 131, 180, 0, 141, 42, 180, 0, 3, 180, 0, 144, 160, 0, 7, 4]
abbrev dktX8_receives_3 : List UInt8 := dkwX8_receives_3 ++ dktX8_receives_4
def dkwX8_receives_2 : List UInt8 := [180, 0, 89, 180, 0, 131, 180, 0, 135, 96, 181, 0, 128, 42, 180, 0, 3, 89, 180, 0, 138, 42]
abbrev dktX8_receives_2 : List UInt8 := dkwX8_receives_2 ++ dktX8_receives_3
def dkwX8_receives_1 : List UInt8 := [180, 0, 3, 89, 180, 0, 127, 4, 96, 181, 0, 127, 42, 180, 0, 3, 89, 180, 0, 128, 42, 180, 0, 3]
abbrev dktX8_receives_1 : List UInt8 := dkwX8_receives_1 ++ dktX8_receives_2
def dkwX8_receives_0 : List UInt8 := [42, 180, 0, 3, 180, 0, 89, 4, 181, 0, 120, 43, 89, 180, 0, 124, 4, 96, 181, 0, 124, 42]
abbrev dktX8_receives_0 : List UInt8 := dkwX8_receives_0 ++ dktX8_receives_1
theorem dksX8_receives_0 : cX8_receives.data.toList.drop 0 = dktX8_receives_0 := by decide +kernel
theorem dksX8_receives_1 : cX8_receives.data.toList.drop 22 = dktX8_receives_1 := dk_seg dksX8_receives_0 22 rfl rfl
theorem dksX8_receives_2 : cX8_receives.data.toList.drop 46 = dktX8_receives_2 := dk_seg dksX8_receives_1 24 rfl rfl
theorem dksX8_receives_3 : cX8_receives.data.toList.drop 68 = dktX8_receives_3 := dk_seg dksX8_receives_2 22 rfl rfl
theorem dksX8_receives_4 : cX8_receives.data.toList.drop 91 = dktX8_receives_4 := dk_seg dksX8_receives_3 23 rfl rfl
theorem dX8_receives_0 : decode cX8_receives 0 = .ok (.aload_n 0, 1) := dk_42 (dk_at dksX8_receives_0 0 rfl rfl)
theorem dX8_receives_1 : decode cX8_receives 1 = .ok (.getfield 3, 3) := dk_180 0 3 (dk_at dksX8_receives_0 1 rfl rfl)
theorem dX8_receives_4 : decode cX8_receives 4 = .ok (.getfield 89, 3) := dk_180 0 89 (dk_at dksX8_receives_0 4 rfl rfl)
theorem dX8_receives_7 : decode cX8_receives 7 = .ok (.iconst 1, 1) := dk_4 (dk_at dksX8_receives_0 7 rfl rfl)
theorem dX8_receives_8 : decode cX8_receives 8 = .ok (.putfield 120, 3) := dk_181 0 120 (dk_at dksX8_receives_0 8 rfl rfl)
theorem dX8_receives_11 : decode cX8_receives 11 = .ok (.aload_n 1, 1) := dk_43 (dk_at dksX8_receives_0 11 rfl rfl)
theorem dX8_receives_12 : decode cX8_receives 12 = .ok (.dup, 1) := dk_89 (dk_at dksX8_receives_0 12 rfl rfl)
theorem dX8_receives_13 : decode cX8_receives 13 = .ok (.getfield 124, 3) := dk_180 0 124 (dk_at dksX8_receives_0 13 rfl rfl)
theorem dX8_receives_16 : decode cX8_receives 16 = .ok (.iconst 1, 1) := dk_4 (dk_at dksX8_receives_0 16 rfl rfl)
theorem dX8_receives_17 : decode cX8_receives 17 = .ok (.iadd, 1) := dk_96 (dk_at dksX8_receives_0 17 rfl rfl)
theorem dX8_receives_18 : decode cX8_receives 18 = .ok (.putfield 124, 3) := dk_181 0 124 (dk_at dksX8_receives_0 18 rfl rfl)
theorem dX8_receives_21 : decode cX8_receives 21 = .ok (.aload_n 0, 1) := dk_42 (dk_at dksX8_receives_0 21 rfl rfl)
theorem dX8_receives_22 : decode cX8_receives 22 = .ok (.getfield 3, 3) := dk_180 0 3 (dk_at dksX8_receives_1 0 rfl rfl)
theorem dX8_receives_25 : decode cX8_receives 25 = .ok (.dup, 1) := dk_89 (dk_at dksX8_receives_1 3 rfl rfl)
theorem dX8_receives_26 : decode cX8_receives 26 = .ok (.getfield 127, 3) := dk_180 0 127 (dk_at dksX8_receives_1 4 rfl rfl)
theorem dX8_receives_29 : decode cX8_receives 29 = .ok (.iconst 1, 1) := dk_4 (dk_at dksX8_receives_1 7 rfl rfl)
theorem dX8_receives_30 : decode cX8_receives 30 = .ok (.iadd, 1) := dk_96 (dk_at dksX8_receives_1 8 rfl rfl)
theorem dX8_receives_31 : decode cX8_receives 31 = .ok (.putfield 127, 3) := dk_181 0 127 (dk_at dksX8_receives_1 9 rfl rfl)
theorem dX8_receives_34 : decode cX8_receives 34 = .ok (.aload_n 0, 1) := dk_42 (dk_at dksX8_receives_1 12 rfl rfl)
theorem dX8_receives_35 : decode cX8_receives 35 = .ok (.getfield 3, 3) := dk_180 0 3 (dk_at dksX8_receives_1 13 rfl rfl)
theorem dX8_receives_38 : decode cX8_receives 38 = .ok (.dup, 1) := dk_89 (dk_at dksX8_receives_1 16 rfl rfl)
theorem dX8_receives_39 : decode cX8_receives 39 = .ok (.getfield 128, 3) := dk_180 0 128 (dk_at dksX8_receives_1 17 rfl rfl)
theorem dX8_receives_42 : decode cX8_receives 42 = .ok (.aload_n 0, 1) := dk_42 (dk_at dksX8_receives_1 20 rfl rfl)
theorem dX8_receives_43 : decode cX8_receives 43 = .ok (.getfield 3, 3) := dk_180 0 3 (dk_at dksX8_receives_1 21 rfl rfl)
theorem dX8_receives_46 : decode cX8_receives 46 = .ok (.getfield 89, 3) := dk_180 0 89 (dk_at dksX8_receives_2 0 rfl rfl)
theorem dX8_receives_49 : decode cX8_receives 49 = .ok (.getfield 131, 3) := dk_180 0 131 (dk_at dksX8_receives_2 3 rfl rfl)
theorem dX8_receives_52 : decode cX8_receives 52 = .ok (.getfield 135, 3) := dk_180 0 135 (dk_at dksX8_receives_2 6 rfl rfl)
theorem dX8_receives_55 : decode cX8_receives 55 = .ok (.iadd, 1) := dk_96 (dk_at dksX8_receives_2 9 rfl rfl)
theorem dX8_receives_56 : decode cX8_receives 56 = .ok (.putfield 128, 3) := dk_181 0 128 (dk_at dksX8_receives_2 10 rfl rfl)
theorem dX8_receives_59 : decode cX8_receives 59 = .ok (.aload_n 0, 1) := dk_42 (dk_at dksX8_receives_2 13 rfl rfl)
theorem dX8_receives_60 : decode cX8_receives 60 = .ok (.getfield 3, 3) := dk_180 0 3 (dk_at dksX8_receives_2 14 rfl rfl)
theorem dX8_receives_63 : decode cX8_receives 63 = .ok (.dup, 1) := dk_89 (dk_at dksX8_receives_2 17 rfl rfl)
theorem dX8_receives_64 : decode cX8_receives 64 = .ok (.getfield 138, 3) := dk_180 0 138 (dk_at dksX8_receives_2 18 rfl rfl)
theorem dX8_receives_67 : decode cX8_receives 67 = .ok (.aload_n 0, 1) := dk_42 (dk_at dksX8_receives_2 21 rfl rfl)
theorem dX8_receives_68 : decode cX8_receives 68 = .ok (.getfield 3, 3) := dk_180 0 3 (dk_at dksX8_receives_3 0 rfl rfl)
theorem dX8_receives_71 : decode cX8_receives 71 = .ok (.getfield 89, 3) := dk_180 0 89 (dk_at dksX8_receives_3 3 rfl rfl)
theorem dX8_receives_74 : decode cX8_receives 74 = .ok (.getfield 131, 3) := dk_180 0 131 (dk_at dksX8_receives_3 6 rfl rfl)
theorem dX8_receives_77 : decode cX8_receives 77 = .ok (.getfield 141, 3) := dk_180 0 141 (dk_at dksX8_receives_3 9 rfl rfl)
theorem dX8_receives_80 : decode cX8_receives 80 = .ok (.aload_n 0, 1) := dk_42 (dk_at dksX8_receives_3 12 rfl rfl)
theorem dX8_receives_81 : decode cX8_receives 81 = .ok (.getfield 3, 3) := dk_180 0 3 (dk_at dksX8_receives_3 13 rfl rfl)
theorem dX8_receives_84 : decode cX8_receives 84 = .ok (.getfield 144, 3) := dk_180 0 144 (dk_at dksX8_receives_3 16 rfl rfl)
theorem dX8_receives_87 : decode cX8_receives 87 = .ok (.if_icmp .ne 7, 3) := dk_160 0 7 (dk_at dksX8_receives_3 19 rfl rfl)
theorem dX8_receives_90 : decode cX8_receives 90 = .ok (.iconst 1, 1) := dk_4 (dk_at dksX8_receives_3 22 rfl rfl)
theorem dX8_receives_91 : decode cX8_receives 91 = .ok (.goto 4, 3) := dk_167 0 4 (dk_at dksX8_receives_4 0 rfl rfl)
theorem dX8_receives_94 : decode cX8_receives 94 = .ok (.iconst 0, 1) := dk_3 (dk_at dksX8_receives_4 3 rfl rfl)
theorem dX8_receives_95 : decode cX8_receives 95 = .ok (.ior, 1) := dk_128 (dk_at dksX8_receives_4 4 rfl rfl)
theorem dX8_receives_96 : decode cX8_receives 96 = .ok (.putfield 138, 3) := dk_181 0 138 (dk_at dksX8_receives_4 5 rfl rfl)
theorem dX8_receives_99 : decode cX8_receives 99 = .ok (.return_, 1) := dk_177 (dk_at dksX8_receives_4 8 rfl rfl)
theorem q142 : (Jvm.Cond.initialized "TokenRing$State$Tick") ∈ lw_all := lw_g (lw_at lw_m1 48 rfl) rfl
theorem q217 : (Jvm.Cond.fieldLinkNest "TokenRing$State$Tick" (31 : Nat) "TokenRing$State" "stations" "Ljava/util/TreeMap;" "TokenRing") ∈ lw_tbl := lw_at lw_m1 123 rfl
theorem q220 : (Jvm.Cond.fieldLinkNest "TokenRing$State$Tick" (93 : Nat) "TokenRing$State" "kind" "I" "TokenRing") ∈ lw_tbl := lw_at lw_m1 126 rfl
theorem q223 : (Jvm.Cond.fieldLinkNest "TokenRing$State$Tick" (159 : Nat) "TokenRing$State" "at" "I" "TokenRing") ∈ lw_tbl := lw_at lw_m1 129 rfl
theorem q226 : (Jvm.Cond.fieldLinkNest "TokenRing$State$Tick" (59 : Nat) "TokenRing$State" "tokenRank" "I" "TokenRing") ∈ lw_tbl := lw_at lw_m1 132 rfl
theorem q229 : (Jvm.Cond.fieldLinkNest "TokenRing$State$Tick" (69 : Nat) "TokenRing$State" "tokenPasses" "I" "TokenRing") ∈ lw_tbl := lw_at lw_m1 135 rfl
theorem q231 : (Jvm.Cond.fieldLinkNest "TokenRing$State$Tick" (89 : Nat) "TokenRing$State" "ride" "LTokenRing$Ride;" "TokenRing") ∈ lw_tbl := lw_at lw_m1 137 rfl
theorem q234 : (Jvm.Cond.fieldLinkNest "TokenRing$State$Tick" (21 : Nat) "TokenRing$State" "monitor" "I" "TokenRing") ∈ lw_tbl := lw_at lw_m1 140 rfl
theorem q236 : (Jvm.Cond.fieldLinkNest "TokenRing$State$Tick" (15 : Nat) "TokenRing$State" "silence" "I" "TokenRing") ∈ lw_tbl := lw_at lw_m1 142 rfl
theorem q240 : (Jvm.Cond.fieldLinkNest "TokenRing$State$Tick" (102 : Nat) "TokenRing$State" "ticks" "I" "TokenRing") ∈ lw_tbl := lw_at lw_m1 146 rfl
theorem q245 : (Jvm.Cond.fieldLinkNest "TokenRing$State$Tick" (99 : Nat) "TokenRing$State" "put" "I" "TokenRing") ∈ lw_tbl := lw_at lw_m1 151 rfl
theorem q248 : (Jvm.Cond.fieldLinkNest "TokenRing$State$Tick" (127 : Nat) "TokenRing$State" "received" "I" "TokenRing") ∈ lw_tbl := lw_at lw_m1 154 rfl
theorem q251 : (Jvm.Cond.fieldLinkNest "TokenRing$State$Tick" (156 : Nat) "TokenRing$State" "returned" "I" "TokenRing") ∈ lw_tbl := lw_at lw_m1 157 rfl
theorem q254 : (Jvm.Cond.fieldLinkNest "TokenRing$State$Tick" (168 : Nat) "TokenRing$State" "orphans" "I" "TokenRing") ∈ lw_tbl := lw_at lw_m1 160 rfl
theorem q263 : (Jvm.Cond.fieldLinkNest "TokenRing$State$Tick" (128 : Nat) "TokenRing$State" "lengths" "I" "TokenRing") ∈ lw_tbl := lw_at lw_m1 169 rfl
theorem q266 : (Jvm.Cond.fieldLinkNest "TokenRing$State$Tick" (108 : Nat) "TokenRing$State" "delays" "I" "TokenRing") ∈ lw_tbl := lw_at lw_m1 172 rfl
theorem q269 : (Jvm.Cond.fieldLinkNest "TokenRing$State$Tick" (111 : Nat) "TokenRing$State" "greatestDelay" "I" "TokenRing") ∈ lw_tbl := lw_at lw_m1 175 rfl
theorem q271 : (Jvm.Cond.fieldLinkNest "TokenRing$State$Tick" (28 : Nat) "TokenRing$State" "purges" "I" "TokenRing") ∈ lw_tbl := lw_at lw_m1 177 rfl
theorem q274 : (Jvm.Cond.fieldLinkNest "TokenRing$State$Tick" (51 : Nat) "TokenRing$State" "claims" "I" "TokenRing") ∈ lw_tbl := lw_at lw_m1 180 rfl
theorem q280 : (Jvm.Cond.fieldLinkNest "TokenRing$State$Tick" (144 : Nat) "TokenRing$State" "watched" "I" "TokenRing") ∈ lw_tbl := lw_at lw_m1 186 rfl
theorem q282 : (Jvm.Cond.fieldLinkNest "TokenRing$State$Tick" (138 : Nat) "TokenRing$State" "isSeen" "Z" "TokenRing") ∈ lw_tbl := lw_at lw_m1 188 rfl
theorem q1549 : (Jvm.Cond.fieldLinkNest "TokenRing$State$Tick" (66 : Nat) "TokenRing$Station" "address" "I" "TokenRing") ∈ lw_tbl := lw_at lw_m7 15 rfl
theorem q1553 : (Jvm.Cond.fieldLinkNest "TokenRing$State$Tick" (72 : Nat) "TokenRing$Station" "queue" "Ljava/util/ArrayList;" "TokenRing") ∈ lw_tbl := lw_at lw_m7 19 rfl
theorem q1557 : (Jvm.Cond.fieldLinkNest "TokenRing$State$Tick" (96 : Nat) "TokenRing$Station" "sent" "I" "TokenRing") ∈ lw_tbl := lw_at lw_m7 23 rfl
theorem q1560 : (Jvm.Cond.fieldLinkNest "TokenRing$State$Tick" (124 : Nat) "TokenRing$Station" "received" "I" "TokenRing") ∈ lw_tbl := lw_at lw_m7 26 rfl
theorem q1615 : (Jvm.Cond.selects "TokenRing$State$Tick" ({ cls := "java/lang/Object", name := "getClass", desc := "()Ljava/lang/Class;" } : Jvm.MethodName) ({ cls := "java/lang/Object", name := "getClass", desc := "()Ljava/lang/Class;" } : Jvm.MethodName)) ∈ lw_all := lw_g (lw_at lw_m7 81 rfl) rfl
theorem q1737 : (Jvm.Cond.fieldLinkNest "TokenRing$State$Tick" (131 : Nat) "TokenRing$Ride" "frame" "LTokenRing$Frame;" "TokenRing") ∈ lw_tbl := lw_at lw_m7 203 rfl
theorem q1743 : (Jvm.Cond.fieldLinkNest "TokenRing$State$Tick" (171 : Nat) "TokenRing$Ride" "reserved" "I" "TokenRing") ∈ lw_tbl := lw_at lw_m7 209 rfl
theorem q1746 : (Jvm.Cond.fieldLinkNest "TokenRing$State$Tick" (120 : Nat) "TokenRing$Ride" "isReceived" "Z" "TokenRing") ∈ lw_tbl := lw_at lw_m7 212 rfl
theorem q1749 : (Jvm.Cond.fieldLinkNest "TokenRing$State$Tick" (165 : Nat) "TokenRing$Ride" "isMarked" "Z" "TokenRing") ∈ lw_tbl := lw_at lw_m7 215 rfl
theorem q1932 : (Jvm.Cond.fieldLinkNest "TokenRing$State$Tick" (141 : Nat) "TokenRing$Frame" "number" "I" "TokenRing") ∈ lw_tbl := lw_at lw_m8 158 rfl
theorem q1936 : (Jvm.Cond.fieldLinkNest "TokenRing$State$Tick" (153 : Nat) "TokenRing$Frame" "from" "I" "TokenRing") ∈ lw_tbl := lw_at lw_m8 162 rfl
theorem q1938 : (Jvm.Cond.fieldLinkNest "TokenRing$State$Tick" (147 : Nat) "TokenRing$Frame" "to" "I" "TokenRing") ∈ lw_tbl := lw_at lw_m8 164 rfl
theorem q1944 : (Jvm.Cond.fieldLinkNest "TokenRing$State$Tick" (135 : Nat) "TokenRing$Frame" "length" "I" "TokenRing") ∈ lw_tbl := lw_at lw_m8 170 rfl
theorem q1946 : (Jvm.Cond.fieldLinkNest "TokenRing$State$Tick" (105 : Nat) "TokenRing$Frame" "came" "I" "TokenRing") ∈ lw_tbl := lw_at lw_m8 172 rfl
theorem q2066 : (Jvm.Cond.instantiable "TokenRing$State$Tick" (1 : Nat)) ∈ lw_all := lw_g (lw_at lw_m9 52 rfl) rfl
theorem q2068 : (Jvm.Cond.instanceMethod ({ cls := "TokenRing$State$Tick", name := "<init>", desc := "(LTokenRing$State;)V" } : Jvm.MethodName)) ∈ lw_all := lw_g (lw_at lw_m9 54 rfl) rfl
theorem q2069 : (Jvm.Cond.code ({ cls := "TokenRing$State$Tick", name := "<init>", desc := "(LTokenRing$State;)V" } : Jvm.MethodName) prog_17_method_1_code (2 : Nat) (Option.none : Option Jvm.ClassFile.FieldType)) ∈ lw_all := lw_g (lw_at lw_m9 55 rfl) rfl
theorem q2070 : (Jvm.Cond.methodLink "TokenRing$State$Tick" (9 : Nat) ({ cls := "java/lang/Object", name := "<init>", desc := "()V" } : Jvm.MethodName)) ∈ lw_all := lw_g (lw_at lw_m9 56 rfl) rfl
theorem q2071 : (Jvm.Cond.fieldLink "TokenRing$State$Tick" (3 : Nat) "TokenRing$State$Tick" "this$0" "LTokenRing$State;") ∈ lw_all := lw_g (lw_at lw_m9 57 rfl) rfl
theorem q2072 : (Jvm.Cond.laysFinal "TokenRing$State$Tick" "TokenRing$State$Tick" "this$0" "LTokenRing$State;") ∈ lw_all := lw_g (lw_at lw_m9 58 rfl) rfl
theorem q2073 : (Jvm.Cond.soleField "TokenRing$State$Tick" "this$0") ∈ lw_all := lw_g (lw_at lw_m9 59 rfl) rfl
theorem q2074 : (Jvm.Cond.superclass "TokenRing$State$Tick" "java/lang/Object") ∈ lw_all := lw_g (lw_at lw_m9 60 rfl) rfl
theorem q2076 : (Jvm.Cond.instanceMethod ({ cls := "TokenRing$State$Tick", name := "goes", desc := "()V" } : Jvm.MethodName)) ∈ lw_all := lw_g (lw_at lw_m9 62 rfl) rfl
theorem q2077 : (Jvm.Cond.selects "TokenRing$State$Tick" ({ cls := "TokenRing$State$Tick", name := "goes", desc := "()V" } : Jvm.MethodName) ({ cls := "TokenRing$State$Tick", name := "goes", desc := "()V" } : Jvm.MethodName)) ∈ lw_all := lw_g (lw_at lw_m9 63 rfl) rfl
theorem q2078 : (Jvm.Cond.code ({ cls := "TokenRing$State$Tick", name := "goes", desc := "()V" } : Jvm.MethodName) prog_17_method_7_code (2 : Nat) (Option.none : Option Jvm.ClassFile.FieldType)) ∈ lw_all := lw_g (lw_at lw_m9 64 rfl) rfl
theorem q2079 : (Jvm.Cond.methodLink "TokenRing$State$Tick" (174 : Nat) ({ cls := "TokenRing$State$Tick", name := "isSilent", desc := "()V" } : Jvm.MethodName)) ∈ lw_all := lw_g (lw_at lw_m9 65 rfl) rfl
theorem q2080 : (Jvm.Cond.privateMethod ({ cls := "TokenRing$State$Tick", name := "isSilent", desc := "()V" } : Jvm.MethodName)) ∈ lw_tbl := lw_at lw_m9 66 rfl
theorem q2081 : (Jvm.Cond.instanceMethod ({ cls := "TokenRing$State$Tick", name := "isSilent", desc := "()V" } : Jvm.MethodName)) ∈ lw_all := lw_g (lw_at lw_m9 67 rfl) rfl
theorem q2082 : (Jvm.Cond.code ({ cls := "TokenRing$State$Tick", name := "isSilent", desc := "()V" } : Jvm.MethodName) prog_17_method_2_code (1 : Nat) (Option.none : Option Jvm.ClassFile.FieldType)) ∈ lw_all := lw_g (lw_at lw_m9 68 rfl) rfl
theorem q2083 : (Jvm.Cond.methodLink "TokenRing$State$Tick" (24 : Nat) ({ cls := "TokenRing$State", name := "tokenComes", desc := "(II)V" } : Jvm.MethodName)) ∈ lw_all := lw_g (lw_at lw_m9 69 rfl) rfl
theorem q2084 : (Jvm.Cond.methodLink "TokenRing$State$Tick" (35 : Nat) ({ cls := "java/util/TreeMap", name := "isEmpty", desc := "()Z" } : Jvm.MethodName)) ∈ lw_all := lw_g (lw_at lw_m9 70 rfl) rfl
theorem q2085 : (Jvm.Cond.methodLink "TokenRing$State$Tick" (41 : Nat) ({ cls := "java/util/TreeMap", name := "lastKey", desc := "()Ljava/lang/Object;" } : Jvm.MethodName)) ∈ lw_all := lw_g (lw_at lw_m9 71 rfl) rfl
theorem q2093 : (Jvm.Cond.classLink "TokenRing$State$Tick" (45 : Nat) "java/lang/Integer") ∈ lw_all := lw_g (lw_at lw_m9 79 rfl) rfl
theorem q2094 : (Jvm.Cond.methodLink "TokenRing$State$Tick" (47 : Nat) ({ cls := "java/lang/Integer", name := "intValue", desc := "()I" } : Jvm.MethodName)) ∈ lw_all := lw_g (lw_at lw_m9 80 rfl) rfl
theorem q2095 : (Jvm.Cond.methodLink "TokenRing$State$Tick" (177 : Nat) ({ cls := "TokenRing$State", name := "next", desc := "(I)I" } : Jvm.MethodName)) ∈ lw_all := lw_g (lw_at lw_m9 81 rfl) rfl
theorem q2096 : (Jvm.Cond.methodLink "TokenRing$State$Tick" (181 : Nat) ({ cls := "java/lang/Integer", name := "valueOf", desc := "(I)Ljava/lang/Integer;" } : Jvm.MethodName)) ∈ lw_all := lw_g (lw_at lw_m9 82 rfl) rfl
theorem q2097 : (Jvm.Cond.methodLink "TokenRing$State$Tick" (185 : Nat) ({ cls := "java/util/TreeMap", name := "get", desc := "(Ljava/lang/Object;)Ljava/lang/Object;" } : Jvm.MethodName)) ∈ lw_all := lw_g (lw_at lw_m9 83 rfl) rfl
theorem q2098 : (Jvm.Cond.classLink "TokenRing$State$Tick" (55 : Nat) "TokenRing$Station") ∈ lw_all := lw_g (lw_at lw_m9 84 rfl) rfl
theorem q2099 : (Jvm.Cond.methodLink "TokenRing$State$Tick" (189 : Nat) ({ cls := "TokenRing$State$Tick", name := "comesToken", desc := "(LTokenRing$Station;)V" } : Jvm.MethodName)) ∈ lw_all := lw_g (lw_at lw_m9 85 rfl) rfl
theorem q2100 : (Jvm.Cond.privateMethod ({ cls := "TokenRing$State$Tick", name := "comesToken", desc := "(LTokenRing$Station;)V" } : Jvm.MethodName)) ∈ lw_tbl := lw_at lw_m9 86 rfl
theorem q2101 : (Jvm.Cond.instanceMethod ({ cls := "TokenRing$State$Tick", name := "comesToken", desc := "(LTokenRing$Station;)V" } : Jvm.MethodName)) ∈ lw_all := lw_g (lw_at lw_m9 87 rfl) rfl
theorem q2102 : (Jvm.Cond.code ({ cls := "TokenRing$State$Tick", name := "comesToken", desc := "(LTokenRing$Station;)V" } : Jvm.MethodName) prog_17_method_3_code (2 : Nat) (Option.none : Option Jvm.ClassFile.FieldType)) ∈ lw_all := lw_g (lw_at lw_m9 88 rfl) rfl
theorem q2103 : (Jvm.Cond.methodLink "TokenRing$State$Tick" (54 : Nat) ({ cls := "TokenRing$Station", name := "rank", desc := "()I" } : Jvm.MethodName)) ∈ lw_all := lw_g (lw_at lw_m9 89 rfl) rfl
theorem q2108 : (Jvm.Cond.methodLink "TokenRing$State$Tick" (62 : Nat) ({ cls := "TokenRing$State$Tick", name := "takes", desc := "(LTokenRing$Station;)V" } : Jvm.MethodName)) ∈ lw_all := lw_g (lw_at lw_m9 94 rfl) rfl
theorem q2109 : (Jvm.Cond.privateMethod ({ cls := "TokenRing$State$Tick", name := "takes", desc := "(LTokenRing$Station;)V" } : Jvm.MethodName)) ∈ lw_tbl := lw_at lw_m9 95 rfl
theorem q2110 : (Jvm.Cond.instanceMethod ({ cls := "TokenRing$State$Tick", name := "takes", desc := "(LTokenRing$Station;)V" } : Jvm.MethodName)) ∈ lw_all := lw_g (lw_at lw_m9 96 rfl) rfl
theorem q2111 : (Jvm.Cond.code ({ cls := "TokenRing$State$Tick", name := "takes", desc := "(LTokenRing$Station;)V" } : Jvm.MethodName) prog_17_method_4_code (4 : Nat) (Option.none : Option Jvm.ClassFile.FieldType)) ∈ lw_all := lw_g (lw_at lw_m9 97 rfl) rfl
theorem q2112 : (Jvm.Cond.methodLink "TokenRing$State$Tick" (76 : Nat) ({ cls := "java/util/ArrayList", name := "remove", desc := "(I)Ljava/lang/Object;" } : Jvm.MethodName)) ∈ lw_all := lw_g (lw_at lw_m9 98 rfl) rfl
theorem q2113 : (Jvm.Cond.classLink "TokenRing$State$Tick" (82 : Nat) "TokenRing$Frame") ∈ lw_all := lw_g (lw_at lw_m9 99 rfl) rfl
theorem q2114 : (Jvm.Cond.classLink "TokenRing$State$Tick" (84 : Nat) "TokenRing$Ride") ∈ lw_all := lw_g (lw_at lw_m9 100 rfl) rfl
theorem q2115 : (Jvm.Cond.methodLink "TokenRing$State$Tick" (86 : Nat) ({ cls := "TokenRing$Ride", name := "<init>", desc := "(LTokenRing$Frame;I)V" } : Jvm.MethodName)) ∈ lw_all := lw_g (lw_at lw_m9 101 rfl) rfl
theorem q2116 : (Jvm.Cond.methodLink "TokenRing$State$Tick" (114 : Nat) ({ cls := "java/lang/Math", name := "max", desc := "(II)I" } : Jvm.MethodName)) ∈ lw_all := lw_g (lw_at lw_m9 102 rfl) rfl
theorem q2117 : (Jvm.Cond.methodLink "TokenRing$State$Tick" (192 : Nat) ({ cls := "TokenRing$State$Tick", name := "comesFrame", desc := "(LTokenRing$Station;)V" } : Jvm.MethodName)) ∈ lw_all := lw_g (lw_at lw_m9 103 rfl) rfl
theorem q2118 : (Jvm.Cond.privateMethod ({ cls := "TokenRing$State$Tick", name := "comesFrame", desc := "(LTokenRing$Station;)V" } : Jvm.MethodName)) ∈ lw_tbl := lw_at lw_m9 104 rfl
theorem q2119 : (Jvm.Cond.instanceMethod ({ cls := "TokenRing$State$Tick", name := "comesFrame", desc := "(LTokenRing$Station;)V" } : Jvm.MethodName)) ∈ lw_all := lw_g (lw_at lw_m9 105 rfl) rfl
theorem q2120 : (Jvm.Cond.code ({ cls := "TokenRing$State$Tick", name := "comesFrame", desc := "(LTokenRing$Station;)V" } : Jvm.MethodName) prog_17_method_6_code (2 : Nat) (Option.none : Option Jvm.ClassFile.FieldType)) ∈ lw_all := lw_g (lw_at lw_m9 106 rfl) rfl
theorem q2121 : (Jvm.Cond.methodLink "TokenRing$State$Tick" (150 : Nat) ({ cls := "TokenRing$State$Tick", name := "receives", desc := "(LTokenRing$Station;)V" } : Jvm.MethodName)) ∈ lw_all := lw_g (lw_at lw_m9 107 rfl) rfl
theorem q2122 : (Jvm.Cond.privateMethod ({ cls := "TokenRing$State$Tick", name := "receives", desc := "(LTokenRing$Station;)V" } : Jvm.MethodName)) ∈ lw_tbl := lw_at lw_m9 108 rfl
theorem q2123 : (Jvm.Cond.instanceMethod ({ cls := "TokenRing$State$Tick", name := "receives", desc := "(LTokenRing$Station;)V" } : Jvm.MethodName)) ∈ lw_all := lw_g (lw_at lw_m9 109 rfl) rfl
theorem q2124 : (Jvm.Cond.code ({ cls := "TokenRing$State$Tick", name := "receives", desc := "(LTokenRing$Station;)V" } : Jvm.MethodName) prog_17_method_5_code (2 : Nat) (Option.none : Option Jvm.ClassFile.FieldType)) ∈ lw_all := lw_g (lw_at lw_m9 110 rfl) rfl
theorem q2125 : (Jvm.Cond.methodLink "TokenRing$State$Tick" (162 : Nat) ({ cls := "TokenRing$Ride", name := "rankBehind", desc := "()I" } : Jvm.MethodName)) ∈ lw_all := lw_g (lw_at lw_m9 111 rfl) rfl
theorem q3335 : (Jvm.Cond.castable "TokenRing$State$Tick" "java/lang/Object") ∈ lw_tbl := lw_at lw_m14 121 rfl
theorem in_X8 : ∀ w ∈ wsX80, w ∈ lw_all := lw_in wsX80 [2072] (by decide +kernel) (by decide +kernel)
/-! TokenRing$State$Round -/
set_option maxRecDepth 100000
def RX9 : String := "TokenRing$State$Round"
def TX9 : u_T := fun k => match k with
  | 0 => ("TokenRing$State$Round", "from", "I", true)
  | _ => ("TokenRing$State$Round", "this$0", "LTokenRing$State;", true)
def tyX9 : Nat → FieldType := fun k => match k with
  | 0 => .int
  | _ => .object "TokenRing$State"
abbrev wsX90 : List Cond := u_ws RX9 TX9 2
theorem nmX9 : ∀ a, a < 2 → ∀ b, b < 2 → a ≠ b → (TX9 a).2.1 ≠ (TX9 b).2.1 := by decide +kernel
theorem tyX9_ok : ∀ k, k < 2 → parseFieldDescriptor (TX9 k).2.2.1 = some (tyX9 k) := by decide +kernel
abbrev cX9_init : ByteArray := prog_15_method_1_code
def yX9_init : MethodName := ⟨RX9, "<init>", "(LTokenRing$State;I)V"⟩
def dkwX9_init_0 : List UInt8 := [42, 43, 181, 0, 1, 42, 183, 0, 7, 42, 28, 181, 0, 13, 177]
abbrev dktX9_init_0 : List UInt8 := dkwX9_init_0 ++ []
theorem dksX9_init_0 : cX9_init.data.toList.drop 0 = dktX9_init_0 := by decide +kernel
theorem dX9_init_0 : decode cX9_init 0 = .ok (.aload_n 0, 1) := dk_42 (dk_at dksX9_init_0 0 rfl rfl)
theorem dX9_init_1 : decode cX9_init 1 = .ok (.aload_n 1, 1) := dk_43 (dk_at dksX9_init_0 1 rfl rfl)
theorem dX9_init_2 : decode cX9_init 2 = .ok (.putfield 1, 3) := dk_181 0 1 (dk_at dksX9_init_0 2 rfl rfl)
theorem dX9_init_5 : decode cX9_init 5 = .ok (.aload_n 0, 1) := dk_42 (dk_at dksX9_init_0 5 rfl rfl)
theorem dX9_init_6 : decode cX9_init 6 = .ok (.invokespecial 7, 3) := dk_183 0 7 (dk_at dksX9_init_0 6 rfl rfl)
theorem dX9_init_9 : decode cX9_init 9 = .ok (.aload_n 0, 1) := dk_42 (dk_at dksX9_init_0 9 rfl rfl)
theorem dX9_init_10 : decode cX9_init 10 = .ok (.iload_n 2, 1) := dk_28 (dk_at dksX9_init_0 10 rfl rfl)
theorem dX9_init_11 : decode cX9_init 11 = .ok (.putfield 13, 3) := dk_181 0 13 (dk_at dksX9_init_0 11 rfl rfl)
theorem dX9_init_14 : decode cX9_init 14 = .ok (.return_, 1) := dk_177 (dk_at dksX9_init_0 14 rfl rfl)
abbrev cX9_iterator : ByteArray := prog_15_method_2_code
def yX9_iterator : MethodName := ⟨RX9, "iterator", "()Ljava/util/Iterator;"⟩
def dkwX9_iterator_0 : List UInt8 := [187, 0, 17, 89, 42, 183, 0, 19, 176]
abbrev dktX9_iterator_0 : List UInt8 := dkwX9_iterator_0 ++ []
theorem dksX9_iterator_0 : cX9_iterator.data.toList.drop 0 = dktX9_iterator_0 := by decide +kernel
theorem dX9_iterator_0 : decode cX9_iterator 0 = .ok (.new 17, 3) := dk_187 0 17 (dk_at dksX9_iterator_0 0 rfl rfl)
theorem dX9_iterator_3 : decode cX9_iterator 3 = .ok (.dup, 1) := dk_89 (dk_at dksX9_iterator_0 3 rfl rfl)
theorem dX9_iterator_4 : decode cX9_iterator 4 = .ok (.aload_n 0, 1) := dk_42 (dk_at dksX9_iterator_0 4 rfl rfl)
theorem dX9_iterator_5 : decode cX9_iterator 5 = .ok (.invokespecial 19, 3) := dk_183 0 19 (dk_at dksX9_iterator_0 5 rfl rfl)
theorem dX9_iterator_8 : decode cX9_iterator 8 = .ok (.areturn, 1) := dk_176 (dk_at dksX9_iterator_0 8 rfl rfl)
theorem q148 : (Jvm.Cond.initialized "TokenRing$State$Round") ∈ lw_all := lw_g (lw_at lw_m1 54 rfl) rfl
theorem q1613 : (Jvm.Cond.selects "TokenRing$State$Round" ({ cls := "java/lang/Object", name := "getClass", desc := "()Ljava/lang/Class;" } : Jvm.MethodName) ({ cls := "java/lang/Object", name := "getClass", desc := "()Ljava/lang/Class;" } : Jvm.MethodName)) ∈ lw_all := lw_g (lw_at lw_m7 79 rfl) rfl
theorem q2239 : (Jvm.Cond.instantiable "TokenRing$State$Round" (2 : Nat)) ∈ lw_all := lw_g (lw_at lw_m9 225 rfl) rfl
theorem q2241 : (Jvm.Cond.instanceMethod ({ cls := "TokenRing$State$Round", name := "<init>", desc := "(LTokenRing$State;I)V" } : Jvm.MethodName)) ∈ lw_all := lw_g (lw_at lw_m9 227 rfl) rfl
theorem q2242 : (Jvm.Cond.code ({ cls := "TokenRing$State$Round", name := "<init>", desc := "(LTokenRing$State;I)V" } : Jvm.MethodName) prog_15_method_1_code (3 : Nat) (Option.none : Option Jvm.ClassFile.FieldType)) ∈ lw_all := lw_g (lw_at lw_m9 228 rfl) rfl
theorem q2243 : (Jvm.Cond.methodLink "TokenRing$State$Round" (7 : Nat) ({ cls := "java/lang/Object", name := "<init>", desc := "()V" } : Jvm.MethodName)) ∈ lw_all := lw_g (lw_at lw_m9 229 rfl) rfl
theorem q2244 : (Jvm.Cond.fieldLink "TokenRing$State$Round" (13 : Nat) "TokenRing$State$Round" "from" "I") ∈ lw_all := lw_g (lw_at lw_m9 230 rfl) rfl
theorem q2246 : (Jvm.Cond.fieldLink "TokenRing$State$Round" (1 : Nat) "TokenRing$State$Round" "this$0" "LTokenRing$State;") ∈ lw_all := lw_g (lw_at lw_m9 232 rfl) rfl
theorem q2248 : (Jvm.Cond.laysFinal "TokenRing$State$Round" "TokenRing$State$Round" "from" "I") ∈ lw_all := lw_g (lw_at lw_m9 234 rfl) rfl
theorem q2249 : (Jvm.Cond.soleField "TokenRing$State$Round" "from") ∈ lw_all := lw_g (lw_at lw_m9 235 rfl) rfl
theorem q2250 : (Jvm.Cond.laysFinal "TokenRing$State$Round" "TokenRing$State$Round" "this$0" "LTokenRing$State;") ∈ lw_all := lw_g (lw_at lw_m9 236 rfl) rfl
theorem q2251 : (Jvm.Cond.soleField "TokenRing$State$Round" "this$0") ∈ lw_all := lw_g (lw_at lw_m9 237 rfl) rfl
theorem q2252 : (Jvm.Cond.superclass "TokenRing$State$Round" "java/lang/Object") ∈ lw_all := lw_g (lw_at lw_m9 238 rfl) rfl
theorem q2254 : (Jvm.Cond.instanceMethod ({ cls := "TokenRing$State$Round", name := "iterator", desc := "()Ljava/util/Iterator;" } : Jvm.MethodName)) ∈ lw_all := lw_g (lw_at lw_m10 0 rfl) rfl
theorem q2255 : (Jvm.Cond.selects "TokenRing$State$Round" ({ cls := "TokenRing$State$Round", name := "iterator", desc := "()Ljava/util/Iterator;" } : Jvm.MethodName) ({ cls := "TokenRing$State$Round", name := "iterator", desc := "()Ljava/util/Iterator;" } : Jvm.MethodName)) ∈ lw_all := lw_g (lw_at lw_m10 1 rfl) rfl
theorem q2256 : (Jvm.Cond.code ({ cls := "TokenRing$State$Round", name := "iterator", desc := "()Ljava/util/Iterator;" } : Jvm.MethodName) prog_15_method_2_code (1 : Nat) (Option.some (Jvm.ClassFile.FieldType.object "java/util/Iterator"))) ∈ lw_all := lw_g (lw_at lw_m10 2 rfl) rfl
theorem q2257 : (Jvm.Cond.classLink "TokenRing$State$Round" (17 : Nat) "TokenRing$State$Round$1") ∈ lw_all := lw_g (lw_at lw_m10 3 rfl) rfl
theorem q2259 : (Jvm.Cond.methodLink "TokenRing$State$Round" (19 : Nat) ({ cls := "TokenRing$State$Round$1", name := "<init>", desc := "(LTokenRing$State$Round;)V" } : Jvm.MethodName)) ∈ lw_all := lw_g (lw_at lw_m10 5 rfl) rfl
theorem q3339 : (Jvm.Cond.castable "TokenRing$State$Round" "java/lang/Object") ∈ lw_tbl := lw_at lw_m14 125 rfl
theorem in_X9 : ∀ w ∈ wsX90, w ∈ lw_all := lw_in wsX90 [2248, 2250] (by decide +kernel) (by decide +kernel)
