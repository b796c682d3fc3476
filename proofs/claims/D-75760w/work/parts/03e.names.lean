/-! names and decode rows -/
set_option maxRecDepth 100000
abbrev cX0_load : ByteArray := method_3_code
def yX0_load : MethodName := ⟨RX0, "load", "(LSharedTaxis;I[J)I"⟩
def dkwX0_load_0 : List UInt8 := [44, 3, 42, 27, 182, 0, 7, 133, 80, 167, 0, 6, 78, 4, 172, 3, 172]
abbrev dktX0_load_0 : List UInt8 := dkwX0_load_0 ++ []
theorem dksX0_load_0 : cX0_load.data.toList.drop 0 = dktX0_load_0 := by decide +kernel
theorem dX0_load_0 : decode cX0_load 0 = .ok (.aload_n 2, 1) := dk_44 (dk_at dksX0_load_0 0 rfl rfl)
theorem dX0_load_1 : decode cX0_load 1 = .ok (.iconst 0, 1) := dk_3 (dk_at dksX0_load_0 1 rfl rfl)
theorem dX0_load_2 : decode cX0_load 2 = .ok (.aload_n 0, 1) := dk_42 (dk_at dksX0_load_0 2 rfl rfl)
theorem dX0_load_3 : decode cX0_load 3 = .ok (.iload_n 1, 1) := dk_27 (dk_at dksX0_load_0 3 rfl rfl)
theorem dX0_load_4 : decode cX0_load 4 = .ok (.invokevirtual 7, 3) := dk_182 0 7 (dk_at dksX0_load_0 4 rfl rfl)
theorem dX0_load_7 : decode cX0_load 7 = .ok (.i2l, 1) := dk_133 (dk_at dksX0_load_0 7 rfl rfl)
theorem dX0_load_8 : decode cX0_load 8 = .ok (.lastore, 1) := dk_80 (dk_at dksX0_load_0 8 rfl rfl)
theorem dX0_load_9 : decode cX0_load 9 = .ok (.goto 6, 3) := dk_167 0 6 (dk_at dksX0_load_0 9 rfl rfl)
theorem dX0_load_12 : decode cX0_load 12 = .ok (.astore_n 3, 1) := dk_78 (dk_at dksX0_load_0 12 rfl rfl)
theorem dX0_load_13 : decode cX0_load 13 = .ok (.iconst 1, 1) := dk_4 (dk_at dksX0_load_0 13 rfl rfl)
theorem dX0_load_14 : decode cX0_load 14 = .ok (.ireturn, 1) := dk_172 (dk_at dksX0_load_0 14 rfl rfl)
theorem dX0_load_15 : decode cX0_load 15 = .ok (.iconst 0, 1) := dk_3 (dk_at dksX0_load_0 15 rfl rfl)
theorem dX0_load_16 : decode cX0_load 16 = .ok (.ireturn, 1) := dk_172 (dk_at dksX0_load_0 16 rfl rfl)
abbrev cX0_size : ByteArray := method_4_code
def yX0_size : MethodName := ⟨RX0, "size", "(LSharedTaxis;I[J)I"⟩
def dkwX0_size_0 : List UInt8 := [44, 3, 42, 27, 182, 0, 15, 133, 80, 167, 0, 6, 78, 4, 172, 3, 172]
abbrev dktX0_size_0 : List UInt8 := dkwX0_size_0 ++ []
theorem dksX0_size_0 : cX0_size.data.toList.drop 0 = dktX0_size_0 := by decide +kernel
theorem dX0_size_0 : decode cX0_size 0 = .ok (.aload_n 2, 1) := dk_44 (dk_at dksX0_size_0 0 rfl rfl)
theorem dX0_size_1 : decode cX0_size 1 = .ok (.iconst 0, 1) := dk_3 (dk_at dksX0_size_0 1 rfl rfl)
theorem dX0_size_2 : decode cX0_size 2 = .ok (.aload_n 0, 1) := dk_42 (dk_at dksX0_size_0 2 rfl rfl)
theorem dX0_size_3 : decode cX0_size 3 = .ok (.iload_n 1, 1) := dk_27 (dk_at dksX0_size_0 3 rfl rfl)
theorem dX0_size_4 : decode cX0_size 4 = .ok (.invokevirtual 15, 3) := dk_182 0 15 (dk_at dksX0_size_0 4 rfl rfl)
theorem dX0_size_7 : decode cX0_size 7 = .ok (.i2l, 1) := dk_133 (dk_at dksX0_size_0 7 rfl rfl)
theorem dX0_size_8 : decode cX0_size 8 = .ok (.lastore, 1) := dk_80 (dk_at dksX0_size_0 8 rfl rfl)
theorem dX0_size_9 : decode cX0_size 9 = .ok (.goto 6, 3) := dk_167 0 6 (dk_at dksX0_size_0 9 rfl rfl)
theorem dX0_size_12 : decode cX0_size 12 = .ok (.astore_n 3, 1) := dk_78 (dk_at dksX0_size_0 12 rfl rfl)
theorem dX0_size_13 : decode cX0_size 13 = .ok (.iconst 1, 1) := dk_4 (dk_at dksX0_size_0 13 rfl rfl)
theorem dX0_size_14 : decode cX0_size 14 = .ok (.ireturn, 1) := dk_172 (dk_at dksX0_size_0 14 rfl rfl)
theorem dX0_size_15 : decode cX0_size 15 = .ok (.iconst 0, 1) := dk_3 (dk_at dksX0_size_0 15 rfl rfl)
theorem dX0_size_16 : decode cX0_size 16 = .ok (.ireturn, 1) := dk_172 (dk_at dksX0_size_0 16 rfl rfl)
abbrev cX0_rule : ByteArray := method_5_code
def yX0_rule : MethodName := ⟨RX0, "rule", "(LSharedTaxis;I[J)I"⟩
def dkwX0_rule_0 : List UInt8 := [44, 3, 42, 27, 182, 0, 20, 133, 80, 167, 0, 6, 78, 4, 172, 3, 172]
abbrev dktX0_rule_0 : List UInt8 := dkwX0_rule_0 ++ []
theorem dksX0_rule_0 : cX0_rule.data.toList.drop 0 = dktX0_rule_0 := by decide +kernel
theorem dX0_rule_0 : decode cX0_rule 0 = .ok (.aload_n 2, 1) := dk_44 (dk_at dksX0_rule_0 0 rfl rfl)
theorem dX0_rule_1 : decode cX0_rule 1 = .ok (.iconst 0, 1) := dk_3 (dk_at dksX0_rule_0 1 rfl rfl)
theorem dX0_rule_2 : decode cX0_rule 2 = .ok (.aload_n 0, 1) := dk_42 (dk_at dksX0_rule_0 2 rfl rfl)
theorem dX0_rule_3 : decode cX0_rule 3 = .ok (.iload_n 1, 1) := dk_27 (dk_at dksX0_rule_0 3 rfl rfl)
theorem dX0_rule_4 : decode cX0_rule 4 = .ok (.invokevirtual 20, 3) := dk_182 0 20 (dk_at dksX0_rule_0 4 rfl rfl)
theorem dX0_rule_7 : decode cX0_rule 7 = .ok (.i2l, 1) := dk_133 (dk_at dksX0_rule_0 7 rfl rfl)
theorem dX0_rule_8 : decode cX0_rule 8 = .ok (.lastore, 1) := dk_80 (dk_at dksX0_rule_0 8 rfl rfl)
theorem dX0_rule_9 : decode cX0_rule 9 = .ok (.goto 6, 3) := dk_167 0 6 (dk_at dksX0_rule_0 9 rfl rfl)
theorem dX0_rule_12 : decode cX0_rule 12 = .ok (.astore_n 3, 1) := dk_78 (dk_at dksX0_rule_0 12 rfl rfl)
theorem dX0_rule_13 : decode cX0_rule 13 = .ok (.iconst 1, 1) := dk_4 (dk_at dksX0_rule_0 13 rfl rfl)
theorem dX0_rule_14 : decode cX0_rule 14 = .ok (.ireturn, 1) := dk_172 (dk_at dksX0_rule_0 14 rfl rfl)
theorem dX0_rule_15 : decode cX0_rule 15 = .ok (.iconst 0, 1) := dk_3 (dk_at dksX0_rule_0 15 rfl rfl)
theorem dX0_rule_16 : decode cX0_rule 16 = .ok (.ireturn, 1) := dk_172 (dk_at dksX0_rule_0 16 rfl rfl)
abbrev cX0_minutes : ByteArray := method_6_code
def yX0_minutes : MethodName := ⟨RX0, "minutes", "(LSharedTaxis;II[J)I"⟩
def dkwX0_minutes_0 : List UInt8 := [45, 3, 42, 27, 28, 182, 0, 23, 133, 80, 167, 0, 7, 58, 4, 4, 172, 3, 172]
abbrev dktX0_minutes_0 : List UInt8 := dkwX0_minutes_0 ++ []
theorem dksX0_minutes_0 : cX0_minutes.data.toList.drop 0 = dktX0_minutes_0 := by decide +kernel
theorem dX0_minutes_0 : decode cX0_minutes 0 = .ok (.aload_n 3, 1) := dk_45 (dk_at dksX0_minutes_0 0 rfl rfl)
theorem dX0_minutes_1 : decode cX0_minutes 1 = .ok (.iconst 0, 1) := dk_3 (dk_at dksX0_minutes_0 1 rfl rfl)
theorem dX0_minutes_2 : decode cX0_minutes 2 = .ok (.aload_n 0, 1) := dk_42 (dk_at dksX0_minutes_0 2 rfl rfl)
theorem dX0_minutes_3 : decode cX0_minutes 3 = .ok (.iload_n 1, 1) := dk_27 (dk_at dksX0_minutes_0 3 rfl rfl)
theorem dX0_minutes_4 : decode cX0_minutes 4 = .ok (.iload_n 2, 1) := dk_28 (dk_at dksX0_minutes_0 4 rfl rfl)
theorem dX0_minutes_5 : decode cX0_minutes 5 = .ok (.invokevirtual 23, 3) := dk_182 0 23 (dk_at dksX0_minutes_0 5 rfl rfl)
theorem dX0_minutes_8 : decode cX0_minutes 8 = .ok (.i2l, 1) := dk_133 (dk_at dksX0_minutes_0 8 rfl rfl)
theorem dX0_minutes_9 : decode cX0_minutes 9 = .ok (.lastore, 1) := dk_80 (dk_at dksX0_minutes_0 9 rfl rfl)
theorem dX0_minutes_10 : decode cX0_minutes 10 = .ok (.goto 7, 3) := dk_167 0 7 (dk_at dksX0_minutes_0 10 rfl rfl)
theorem dX0_minutes_13 : decode cX0_minutes 13 = .ok (.astore 4, 2) := dk_58 4 (dk_at dksX0_minutes_0 13 rfl rfl)
theorem dX0_minutes_15 : decode cX0_minutes 15 = .ok (.iconst 1, 1) := dk_4 (dk_at dksX0_minutes_0 15 rfl rfl)
theorem dX0_minutes_16 : decode cX0_minutes 16 = .ok (.ireturn, 1) := dk_172 (dk_at dksX0_minutes_0 16 rfl rfl)
theorem dX0_minutes_17 : decode cX0_minutes 17 = .ok (.iconst 0, 1) := dk_3 (dk_at dksX0_minutes_0 17 rfl rfl)
theorem dX0_minutes_18 : decode cX0_minutes 18 = .ok (.ireturn, 1) := dk_172 (dk_at dksX0_minutes_0 18 rfl rfl)
abbrev cX0_taxi : ByteArray := method_7_code
def yX0_taxi : MethodName := ⟨RX0, "taxi", "(LSharedTaxis;II[J)I"⟩
def dkwX0_taxi_0 : List UInt8 := [45, 3, 42, 27, 28, 182, 0, 27, 133, 80, 167, 0, 7, 58, 4, 4, 172, 3, 172]
abbrev dktX0_taxi_0 : List UInt8 := dkwX0_taxi_0 ++ []
theorem dksX0_taxi_0 : cX0_taxi.data.toList.drop 0 = dktX0_taxi_0 := by decide +kernel
theorem dX0_taxi_0 : decode cX0_taxi 0 = .ok (.aload_n 3, 1) := dk_45 (dk_at dksX0_taxi_0 0 rfl rfl)
theorem dX0_taxi_1 : decode cX0_taxi 1 = .ok (.iconst 0, 1) := dk_3 (dk_at dksX0_taxi_0 1 rfl rfl)
theorem dX0_taxi_2 : decode cX0_taxi 2 = .ok (.aload_n 0, 1) := dk_42 (dk_at dksX0_taxi_0 2 rfl rfl)
theorem dX0_taxi_3 : decode cX0_taxi 3 = .ok (.iload_n 1, 1) := dk_27 (dk_at dksX0_taxi_0 3 rfl rfl)
theorem dX0_taxi_4 : decode cX0_taxi 4 = .ok (.iload_n 2, 1) := dk_28 (dk_at dksX0_taxi_0 4 rfl rfl)
theorem dX0_taxi_5 : decode cX0_taxi 5 = .ok (.invokevirtual 27, 3) := dk_182 0 27 (dk_at dksX0_taxi_0 5 rfl rfl)
theorem dX0_taxi_8 : decode cX0_taxi 8 = .ok (.i2l, 1) := dk_133 (dk_at dksX0_taxi_0 8 rfl rfl)
theorem dX0_taxi_9 : decode cX0_taxi 9 = .ok (.lastore, 1) := dk_80 (dk_at dksX0_taxi_0 9 rfl rfl)
theorem dX0_taxi_10 : decode cX0_taxi 10 = .ok (.goto 7, 3) := dk_167 0 7 (dk_at dksX0_taxi_0 10 rfl rfl)
theorem dX0_taxi_13 : decode cX0_taxi 13 = .ok (.astore 4, 2) := dk_58 4 (dk_at dksX0_taxi_0 13 rfl rfl)
theorem dX0_taxi_15 : decode cX0_taxi 15 = .ok (.iconst 1, 1) := dk_4 (dk_at dksX0_taxi_0 15 rfl rfl)
theorem dX0_taxi_16 : decode cX0_taxi 16 = .ok (.ireturn, 1) := dk_172 (dk_at dksX0_taxi_0 16 rfl rfl)
theorem dX0_taxi_17 : decode cX0_taxi 17 = .ok (.iconst 0, 1) := dk_3 (dk_at dksX0_taxi_0 17 rfl rfl)
theorem dX0_taxi_18 : decode cX0_taxi 18 = .ok (.ireturn, 1) := dk_172 (dk_at dksX0_taxi_0 18 rfl rfl)
abbrev cX0_account : ByteArray := method_8_code
def yX0_account : MethodName := ⟨RX0, "account", "(LSharedTaxis;II[J)I"⟩
def dkwX0_account_0 : List UInt8 := [45, 3, 42, 27, 28, 182, 0, 30, 133, 80, 167, 0, 7, 58, 4, 4, 172, 3, 172]
abbrev dktX0_account_0 : List UInt8 := dkwX0_account_0 ++ []
theorem dksX0_account_0 : cX0_account.data.toList.drop 0 = dktX0_account_0 := by decide +kernel
theorem dX0_account_0 : decode cX0_account 0 = .ok (.aload_n 3, 1) := dk_45 (dk_at dksX0_account_0 0 rfl rfl)
theorem dX0_account_1 : decode cX0_account 1 = .ok (.iconst 0, 1) := dk_3 (dk_at dksX0_account_0 1 rfl rfl)
theorem dX0_account_2 : decode cX0_account 2 = .ok (.aload_n 0, 1) := dk_42 (dk_at dksX0_account_0 2 rfl rfl)
theorem dX0_account_3 : decode cX0_account 3 = .ok (.iload_n 1, 1) := dk_27 (dk_at dksX0_account_0 3 rfl rfl)
theorem dX0_account_4 : decode cX0_account 4 = .ok (.iload_n 2, 1) := dk_28 (dk_at dksX0_account_0 4 rfl rfl)
theorem dX0_account_5 : decode cX0_account 5 = .ok (.invokevirtual 30, 3) := dk_182 0 30 (dk_at dksX0_account_0 5 rfl rfl)
theorem dX0_account_8 : decode cX0_account 8 = .ok (.i2l, 1) := dk_133 (dk_at dksX0_account_0 8 rfl rfl)
theorem dX0_account_9 : decode cX0_account 9 = .ok (.lastore, 1) := dk_80 (dk_at dksX0_account_0 9 rfl rfl)
theorem dX0_account_10 : decode cX0_account 10 = .ok (.goto 7, 3) := dk_167 0 7 (dk_at dksX0_account_0 10 rfl rfl)
theorem dX0_account_13 : decode cX0_account 13 = .ok (.astore 4, 2) := dk_58 4 (dk_at dksX0_account_0 13 rfl rfl)
theorem dX0_account_15 : decode cX0_account 15 = .ok (.iconst 1, 1) := dk_4 (dk_at dksX0_account_0 15 rfl rfl)
theorem dX0_account_16 : decode cX0_account 16 = .ok (.ireturn, 1) := dk_172 (dk_at dksX0_account_0 16 rfl rfl)
theorem dX0_account_17 : decode cX0_account 17 = .ok (.iconst 0, 1) := dk_3 (dk_at dksX0_account_0 17 rfl rfl)
theorem dX0_account_18 : decode cX0_account 18 = .ok (.ireturn, 1) := dk_172 (dk_at dksX0_account_0 18 rfl rfl)
abbrev cX0_stop : ByteArray := method_9_code
def yX0_stop : MethodName := ⟨RX0, "stop", "(LSharedTaxis;III[J)I"⟩
def dkwX0_stop_0 : List UInt8 := [25, 4, 3, 42, 27, 28, 29, 182, 0, 33, 133, 80, 167, 0, 7, 58, 5, 4, 172, 3, 172]
abbrev dktX0_stop_0 : List UInt8 := dkwX0_stop_0 ++ []
theorem dksX0_stop_0 : cX0_stop.data.toList.drop 0 = dktX0_stop_0 := by decide +kernel
theorem dX0_stop_0 : decode cX0_stop 0 = .ok (.aload 4, 2) := dk_25 4 (dk_at dksX0_stop_0 0 rfl rfl)
theorem dX0_stop_2 : decode cX0_stop 2 = .ok (.iconst 0, 1) := dk_3 (dk_at dksX0_stop_0 2 rfl rfl)
theorem dX0_stop_3 : decode cX0_stop 3 = .ok (.aload_n 0, 1) := dk_42 (dk_at dksX0_stop_0 3 rfl rfl)
theorem dX0_stop_4 : decode cX0_stop 4 = .ok (.iload_n 1, 1) := dk_27 (dk_at dksX0_stop_0 4 rfl rfl)
theorem dX0_stop_5 : decode cX0_stop 5 = .ok (.iload_n 2, 1) := dk_28 (dk_at dksX0_stop_0 5 rfl rfl)
theorem dX0_stop_6 : decode cX0_stop 6 = .ok (.iload_n 3, 1) := dk_29 (dk_at dksX0_stop_0 6 rfl rfl)
theorem dX0_stop_7 : decode cX0_stop 7 = .ok (.invokevirtual 33, 3) := dk_182 0 33 (dk_at dksX0_stop_0 7 rfl rfl)
theorem dX0_stop_10 : decode cX0_stop 10 = .ok (.i2l, 1) := dk_133 (dk_at dksX0_stop_0 10 rfl rfl)
theorem dX0_stop_11 : decode cX0_stop 11 = .ok (.lastore, 1) := dk_80 (dk_at dksX0_stop_0 11 rfl rfl)
theorem dX0_stop_12 : decode cX0_stop 12 = .ok (.goto 7, 3) := dk_167 0 7 (dk_at dksX0_stop_0 12 rfl rfl)
theorem dX0_stop_15 : decode cX0_stop 15 = .ok (.astore 5, 2) := dk_58 5 (dk_at dksX0_stop_0 15 rfl rfl)
theorem dX0_stop_17 : decode cX0_stop 17 = .ok (.iconst 1, 1) := dk_4 (dk_at dksX0_stop_0 17 rfl rfl)
theorem dX0_stop_18 : decode cX0_stop 18 = .ok (.ireturn, 1) := dk_172 (dk_at dksX0_stop_0 18 rfl rfl)
theorem dX0_stop_19 : decode cX0_stop 19 = .ok (.iconst 0, 1) := dk_3 (dk_at dksX0_stop_0 19 rfl rfl)
theorem dX0_stop_20 : decode cX0_stop 20 = .ok (.ireturn, 1) := dk_172 (dk_at dksX0_stop_0 20 rfl rfl)
abbrev cX0_ride : ByteArray := method_10_code
def yX0_ride : MethodName := ⟨RX0, "ride", "(LSharedTaxis;II[J)I"⟩
def dkwX0_ride_0 : List UInt8 := [45, 3, 42, 27, 28, 182, 0, 37, 133, 80, 167, 0, 7, 58, 4, 4, 172, 3, 172]
abbrev dktX0_ride_0 : List UInt8 := dkwX0_ride_0 ++ []
theorem dksX0_ride_0 : cX0_ride.data.toList.drop 0 = dktX0_ride_0 := by decide +kernel
theorem dX0_ride_0 : decode cX0_ride 0 = .ok (.aload_n 3, 1) := dk_45 (dk_at dksX0_ride_0 0 rfl rfl)
theorem dX0_ride_1 : decode cX0_ride 1 = .ok (.iconst 0, 1) := dk_3 (dk_at dksX0_ride_0 1 rfl rfl)
theorem dX0_ride_2 : decode cX0_ride 2 = .ok (.aload_n 0, 1) := dk_42 (dk_at dksX0_ride_0 2 rfl rfl)
theorem dX0_ride_3 : decode cX0_ride 3 = .ok (.iload_n 1, 1) := dk_27 (dk_at dksX0_ride_0 3 rfl rfl)
theorem dX0_ride_4 : decode cX0_ride 4 = .ok (.iload_n 2, 1) := dk_28 (dk_at dksX0_ride_0 4 rfl rfl)
theorem dX0_ride_5 : decode cX0_ride 5 = .ok (.invokevirtual 37, 3) := dk_182 0 37 (dk_at dksX0_ride_0 5 rfl rfl)
theorem dX0_ride_8 : decode cX0_ride 8 = .ok (.i2l, 1) := dk_133 (dk_at dksX0_ride_0 8 rfl rfl)
theorem dX0_ride_9 : decode cX0_ride 9 = .ok (.lastore, 1) := dk_80 (dk_at dksX0_ride_0 9 rfl rfl)
theorem dX0_ride_10 : decode cX0_ride 10 = .ok (.goto 7, 3) := dk_167 0 7 (dk_at dksX0_ride_0 10 rfl rfl)
theorem dX0_ride_13 : decode cX0_ride 13 = .ok (.astore 4, 2) := dk_58 4 (dk_at dksX0_ride_0 13 rfl rfl)
theorem dX0_ride_15 : decode cX0_ride 15 = .ok (.iconst 1, 1) := dk_4 (dk_at dksX0_ride_0 15 rfl rfl)
theorem dX0_ride_16 : decode cX0_ride 16 = .ok (.ireturn, 1) := dk_172 (dk_at dksX0_ride_0 16 rfl rfl)
theorem dX0_ride_17 : decode cX0_ride 17 = .ok (.iconst 0, 1) := dk_3 (dk_at dksX0_ride_0 17 rfl rfl)
theorem dX0_ride_18 : decode cX0_ride 18 = .ok (.ireturn, 1) := dk_172 (dk_at dksX0_ride_0 18 rfl rfl)
abbrev cX0_offer : ByteArray := method_11_code
def yX0_offer : MethodName := ⟨RX0, "offer", "(LSharedTaxis;II[J)I"⟩
def dkwX0_offer_0 : List UInt8 := [45, 3, 42, 27, 28, 182, 0, 40, 133, 80, 167, 0, 7, 58, 4, 4, 172, 3, 172]
abbrev dktX0_offer_0 : List UInt8 := dkwX0_offer_0 ++ []
theorem dksX0_offer_0 : cX0_offer.data.toList.drop 0 = dktX0_offer_0 := by decide +kernel
theorem dX0_offer_0 : decode cX0_offer 0 = .ok (.aload_n 3, 1) := dk_45 (dk_at dksX0_offer_0 0 rfl rfl)
theorem dX0_offer_1 : decode cX0_offer 1 = .ok (.iconst 0, 1) := dk_3 (dk_at dksX0_offer_0 1 rfl rfl)
theorem dX0_offer_2 : decode cX0_offer 2 = .ok (.aload_n 0, 1) := dk_42 (dk_at dksX0_offer_0 2 rfl rfl)
theorem dX0_offer_3 : decode cX0_offer 3 = .ok (.iload_n 1, 1) := dk_27 (dk_at dksX0_offer_0 3 rfl rfl)
theorem dX0_offer_4 : decode cX0_offer 4 = .ok (.iload_n 2, 1) := dk_28 (dk_at dksX0_offer_0 4 rfl rfl)
theorem dX0_offer_5 : decode cX0_offer 5 = .ok (.invokevirtual 40, 3) := dk_182 0 40 (dk_at dksX0_offer_0 5 rfl rfl)
theorem dX0_offer_8 : decode cX0_offer 8 = .ok (.i2l, 1) := dk_133 (dk_at dksX0_offer_0 8 rfl rfl)
theorem dX0_offer_9 : decode cX0_offer 9 = .ok (.lastore, 1) := dk_80 (dk_at dksX0_offer_0 9 rfl rfl)
theorem dX0_offer_10 : decode cX0_offer 10 = .ok (.goto 7, 3) := dk_167 0 7 (dk_at dksX0_offer_0 10 rfl rfl)
theorem dX0_offer_13 : decode cX0_offer 13 = .ok (.astore 4, 2) := dk_58 4 (dk_at dksX0_offer_0 13 rfl rfl)
theorem dX0_offer_15 : decode cX0_offer 15 = .ok (.iconst 1, 1) := dk_4 (dk_at dksX0_offer_0 15 rfl rfl)
theorem dX0_offer_16 : decode cX0_offer 16 = .ok (.ireturn, 1) := dk_172 (dk_at dksX0_offer_0 16 rfl rfl)
theorem dX0_offer_17 : decode cX0_offer 17 = .ok (.iconst 0, 1) := dk_3 (dk_at dksX0_offer_0 17 rfl rfl)
theorem dX0_offer_18 : decode cX0_offer 18 = .ok (.ireturn, 1) := dk_172 (dk_at dksX0_offer_0 18 rfl rfl)
abbrev cX0_extra : ByteArray := method_12_code
def yX0_extra : MethodName := ⟨RX0, "extra", "(LSharedTaxis;II[J)I"⟩
def dkwX0_extra_0 : List UInt8 := [45, 3, 42, 27, 28, 182, 0, 43, 133, 80, 167, 0, 7, 58, 4, 4, 172, 3, 172]
abbrev dktX0_extra_0 : List UInt8 := dkwX0_extra_0 ++ []
theorem dksX0_extra_0 : cX0_extra.data.toList.drop 0 = dktX0_extra_0 := by decide +kernel
theorem dX0_extra_0 : decode cX0_extra 0 = .ok (.aload_n 3, 1) := dk_45 (dk_at dksX0_extra_0 0 rfl rfl)
theorem dX0_extra_1 : decode cX0_extra 1 = .ok (.iconst 0, 1) := dk_3 (dk_at dksX0_extra_0 1 rfl rfl)
theorem dX0_extra_2 : decode cX0_extra 2 = .ok (.aload_n 0, 1) := dk_42 (dk_at dksX0_extra_0 2 rfl rfl)
theorem dX0_extra_3 : decode cX0_extra 3 = .ok (.iload_n 1, 1) := dk_27 (dk_at dksX0_extra_0 3 rfl rfl)
theorem dX0_extra_4 : decode cX0_extra 4 = .ok (.iload_n 2, 1) := dk_28 (dk_at dksX0_extra_0 4 rfl rfl)
theorem dX0_extra_5 : decode cX0_extra 5 = .ok (.invokevirtual 43, 3) := dk_182 0 43 (dk_at dksX0_extra_0 5 rfl rfl)
theorem dX0_extra_8 : decode cX0_extra 8 = .ok (.i2l, 1) := dk_133 (dk_at dksX0_extra_0 8 rfl rfl)
theorem dX0_extra_9 : decode cX0_extra 9 = .ok (.lastore, 1) := dk_80 (dk_at dksX0_extra_0 9 rfl rfl)
theorem dX0_extra_10 : decode cX0_extra 10 = .ok (.goto 7, 3) := dk_167 0 7 (dk_at dksX0_extra_0 10 rfl rfl)
theorem dX0_extra_13 : decode cX0_extra 13 = .ok (.astore 4, 2) := dk_58 4 (dk_at dksX0_extra_0 13 rfl rfl)
theorem dX0_extra_15 : decode cX0_extra 15 = .ok (.iconst 1, 1) := dk_4 (dk_at dksX0_extra_0 15 rfl rfl)
theorem dX0_extra_16 : decode cX0_extra 16 = .ok (.ireturn, 1) := dk_172 (dk_at dksX0_extra_0 16 rfl rfl)
theorem dX0_extra_17 : decode cX0_extra 17 = .ok (.iconst 0, 1) := dk_3 (dk_at dksX0_extra_0 17 rfl rfl)
theorem dX0_extra_18 : decode cX0_extra 18 = .ok (.ireturn, 1) := dk_172 (dk_at dksX0_extra_0 18 rfl rfl)
abbrev cX0_fare : ByteArray := method_13_code
def yX0_fare : MethodName := ⟨RX0, "fare", "(LSharedTaxis;I[J)I"⟩
def dkwX0_fare_0 : List UInt8 := [44, 3, 42, 27, 182, 0, 46, 133, 80, 167, 0, 6, 78, 4, 172, 3, 172]
abbrev dktX0_fare_0 : List UInt8 := dkwX0_fare_0 ++ []
theorem dksX0_fare_0 : cX0_fare.data.toList.drop 0 = dktX0_fare_0 := by decide +kernel
theorem dX0_fare_0 : decode cX0_fare 0 = .ok (.aload_n 2, 1) := dk_44 (dk_at dksX0_fare_0 0 rfl rfl)
theorem dX0_fare_1 : decode cX0_fare 1 = .ok (.iconst 0, 1) := dk_3 (dk_at dksX0_fare_0 1 rfl rfl)
theorem dX0_fare_2 : decode cX0_fare 2 = .ok (.aload_n 0, 1) := dk_42 (dk_at dksX0_fare_0 2 rfl rfl)
theorem dX0_fare_3 : decode cX0_fare 3 = .ok (.iload_n 1, 1) := dk_27 (dk_at dksX0_fare_0 3 rfl rfl)
theorem dX0_fare_4 : decode cX0_fare 4 = .ok (.invokevirtual 46, 3) := dk_182 0 46 (dk_at dksX0_fare_0 4 rfl rfl)
theorem dX0_fare_7 : decode cX0_fare 7 = .ok (.i2l, 1) := dk_133 (dk_at dksX0_fare_0 7 rfl rfl)
theorem dX0_fare_8 : decode cX0_fare 8 = .ok (.lastore, 1) := dk_80 (dk_at dksX0_fare_0 8 rfl rfl)
theorem dX0_fare_9 : decode cX0_fare 9 = .ok (.goto 6, 3) := dk_167 0 6 (dk_at dksX0_fare_0 9 rfl rfl)
theorem dX0_fare_12 : decode cX0_fare 12 = .ok (.astore_n 3, 1) := dk_78 (dk_at dksX0_fare_0 12 rfl rfl)
theorem dX0_fare_13 : decode cX0_fare 13 = .ok (.iconst 1, 1) := dk_4 (dk_at dksX0_fare_0 13 rfl rfl)
theorem dX0_fare_14 : decode cX0_fare 14 = .ok (.ireturn, 1) := dk_172 (dk_at dksX0_fare_0 14 rfl rfl)
theorem dX0_fare_15 : decode cX0_fare 15 = .ok (.iconst 0, 1) := dk_3 (dk_at dksX0_fare_0 15 rfl rfl)
theorem dX0_fare_16 : decode cX0_fare 16 = .ok (.ireturn, 1) := dk_172 (dk_at dksX0_fare_0 16 rfl rfl)
abbrev cX0_aloneFare : ByteArray := method_14_code
def yX0_aloneFare : MethodName := ⟨RX0, "aloneFare", "(LSharedTaxis;II[J)I"⟩
def dkwX0_aloneFare_0 : List UInt8 := [45, 3, 42, 27, 28, 182, 0, 49, 133, 80, 167, 0, 7, 58, 4, 4, 172, 3, 172]
abbrev dktX0_aloneFare_0 : List UInt8 := dkwX0_aloneFare_0 ++ []
theorem dksX0_aloneFare_0 : cX0_aloneFare.data.toList.drop 0 = dktX0_aloneFare_0 := by decide +kernel
theorem dX0_aloneFare_0 : decode cX0_aloneFare 0 = .ok (.aload_n 3, 1) := dk_45 (dk_at dksX0_aloneFare_0 0 rfl rfl)
theorem dX0_aloneFare_1 : decode cX0_aloneFare 1 = .ok (.iconst 0, 1) := dk_3 (dk_at dksX0_aloneFare_0 1 rfl rfl)
theorem dX0_aloneFare_2 : decode cX0_aloneFare 2 = .ok (.aload_n 0, 1) := dk_42 (dk_at dksX0_aloneFare_0 2 rfl rfl)
theorem dX0_aloneFare_3 : decode cX0_aloneFare 3 = .ok (.iload_n 1, 1) := dk_27 (dk_at dksX0_aloneFare_0 3 rfl rfl)
theorem dX0_aloneFare_4 : decode cX0_aloneFare 4 = .ok (.iload_n 2, 1) := dk_28 (dk_at dksX0_aloneFare_0 4 rfl rfl)
theorem dX0_aloneFare_5 : decode cX0_aloneFare 5 = .ok (.invokevirtual 49, 3) := dk_182 0 49 (dk_at dksX0_aloneFare_0 5 rfl rfl)
theorem dX0_aloneFare_8 : decode cX0_aloneFare 8 = .ok (.i2l, 1) := dk_133 (dk_at dksX0_aloneFare_0 8 rfl rfl)
theorem dX0_aloneFare_9 : decode cX0_aloneFare 9 = .ok (.lastore, 1) := dk_80 (dk_at dksX0_aloneFare_0 9 rfl rfl)
theorem dX0_aloneFare_10 : decode cX0_aloneFare 10 = .ok (.goto 7, 3) := dk_167 0 7 (dk_at dksX0_aloneFare_0 10 rfl rfl)
theorem dX0_aloneFare_13 : decode cX0_aloneFare 13 = .ok (.astore 4, 2) := dk_58 4 (dk_at dksX0_aloneFare_0 13 rfl rfl)
theorem dX0_aloneFare_15 : decode cX0_aloneFare 15 = .ok (.iconst 1, 1) := dk_4 (dk_at dksX0_aloneFare_0 15 rfl rfl)
theorem dX0_aloneFare_16 : decode cX0_aloneFare 16 = .ok (.ireturn, 1) := dk_172 (dk_at dksX0_aloneFare_0 16 rfl rfl)
theorem dX0_aloneFare_17 : decode cX0_aloneFare 17 = .ok (.iconst 0, 1) := dk_3 (dk_at dksX0_aloneFare_0 17 rfl rfl)
theorem dX0_aloneFare_18 : decode cX0_aloneFare 18 = .ok (.ireturn, 1) := dk_172 (dk_at dksX0_aloneFare_0 18 rfl rfl)
abbrev cX0_keeps : ByteArray := method_15_code
def yX0_keeps : MethodName := ⟨RX0, "keeps", "(LSharedTaxis;I[J)I"⟩
def dkwX0_keeps_0 : List UInt8 := [44, 3, 42, 27, 182, 0, 52, 153, 0, 7, 10, 167, 0, 4, 9, 80, 167, 0, 6, 78, 4, 172, 3, 172]
abbrev dktX0_keeps_0 : List UInt8 := dkwX0_keeps_0 ++ []
theorem dksX0_keeps_0 : cX0_keeps.data.toList.drop 0 = dktX0_keeps_0 := by decide +kernel
theorem dX0_keeps_0 : decode cX0_keeps 0 = .ok (.aload_n 2, 1) := dk_44 (dk_at dksX0_keeps_0 0 rfl rfl)
theorem dX0_keeps_1 : decode cX0_keeps 1 = .ok (.iconst 0, 1) := dk_3 (dk_at dksX0_keeps_0 1 rfl rfl)
theorem dX0_keeps_2 : decode cX0_keeps 2 = .ok (.aload_n 0, 1) := dk_42 (dk_at dksX0_keeps_0 2 rfl rfl)
theorem dX0_keeps_3 : decode cX0_keeps 3 = .ok (.iload_n 1, 1) := dk_27 (dk_at dksX0_keeps_0 3 rfl rfl)
theorem dX0_keeps_4 : decode cX0_keeps 4 = .ok (.invokevirtual 52, 3) := dk_182 0 52 (dk_at dksX0_keeps_0 4 rfl rfl)
theorem dX0_keeps_7 : decode cX0_keeps 7 = .ok (.ifCond .eq 7, 3) := dk_153 0 7 (dk_at dksX0_keeps_0 7 rfl rfl)
theorem dX0_keeps_10 : decode cX0_keeps 10 = .ok (.lconst 1, 1) := dk_10 (dk_at dksX0_keeps_0 10 rfl rfl)
theorem dX0_keeps_11 : decode cX0_keeps 11 = .ok (.goto 4, 3) := dk_167 0 4 (dk_at dksX0_keeps_0 11 rfl rfl)
theorem dX0_keeps_14 : decode cX0_keeps 14 = .ok (.lconst 0, 1) := dk_9 (dk_at dksX0_keeps_0 14 rfl rfl)
theorem dX0_keeps_15 : decode cX0_keeps 15 = .ok (.lastore, 1) := dk_80 (dk_at dksX0_keeps_0 15 rfl rfl)
theorem dX0_keeps_16 : decode cX0_keeps 16 = .ok (.goto 6, 3) := dk_167 0 6 (dk_at dksX0_keeps_0 16 rfl rfl)
theorem dX0_keeps_19 : decode cX0_keeps 19 = .ok (.astore_n 3, 1) := dk_78 (dk_at dksX0_keeps_0 19 rfl rfl)
theorem dX0_keeps_20 : decode cX0_keeps 20 = .ok (.iconst 1, 1) := dk_4 (dk_at dksX0_keeps_0 20 rfl rfl)
theorem dX0_keeps_21 : decode cX0_keeps 21 = .ok (.ireturn, 1) := dk_172 (dk_at dksX0_keeps_0 21 rfl rfl)
theorem dX0_keeps_22 : decode cX0_keeps 22 = .ok (.iconst 0, 1) := dk_3 (dk_at dksX0_keeps_0 22 rfl rfl)
theorem dX0_keeps_23 : decode cX0_keeps 23 = .ok (.ireturn, 1) := dk_172 (dk_at dksX0_keeps_0 23 rfl rfl)
abbrev cX0_routeMinutes : ByteArray := method_16_code
def yX0_routeMinutes : MethodName := ⟨RX0, "routeMinutes", "(LSharedTaxis;I[J)I"⟩
def dkwX0_routeMinutes_0 : List UInt8 := [44, 3, 42, 27, 182, 0, 56, 133, 80, 167, 0, 6, 78, 4, 172, 3, 172]
abbrev dktX0_routeMinutes_0 : List UInt8 := dkwX0_routeMinutes_0 ++ []
theorem dksX0_routeMinutes_0 : cX0_routeMinutes.data.toList.drop 0 = dktX0_routeMinutes_0 := by decide +kernel
theorem dX0_routeMinutes_0 : decode cX0_routeMinutes 0 = .ok (.aload_n 2, 1) := dk_44 (dk_at dksX0_routeMinutes_0 0 rfl rfl)
theorem dX0_routeMinutes_1 : decode cX0_routeMinutes 1 = .ok (.iconst 0, 1) := dk_3 (dk_at dksX0_routeMinutes_0 1 rfl rfl)
theorem dX0_routeMinutes_2 : decode cX0_routeMinutes 2 = .ok (.aload_n 0, 1) := dk_42 (dk_at dksX0_routeMinutes_0 2 rfl rfl)
theorem dX0_routeMinutes_3 : decode cX0_routeMinutes 3 = .ok (.iload_n 1, 1) := dk_27 (dk_at dksX0_routeMinutes_0 3 rfl rfl)
theorem dX0_routeMinutes_4 : decode cX0_routeMinutes 4 = .ok (.invokevirtual 56, 3) := dk_182 0 56 (dk_at dksX0_routeMinutes_0 4 rfl rfl)
theorem dX0_routeMinutes_7 : decode cX0_routeMinutes 7 = .ok (.i2l, 1) := dk_133 (dk_at dksX0_routeMinutes_0 7 rfl rfl)
theorem dX0_routeMinutes_8 : decode cX0_routeMinutes 8 = .ok (.lastore, 1) := dk_80 (dk_at dksX0_routeMinutes_0 8 rfl rfl)
theorem dX0_routeMinutes_9 : decode cX0_routeMinutes 9 = .ok (.goto 6, 3) := dk_167 0 6 (dk_at dksX0_routeMinutes_0 9 rfl rfl)
theorem dX0_routeMinutes_12 : decode cX0_routeMinutes 12 = .ok (.astore_n 3, 1) := dk_78 (dk_at dksX0_routeMinutes_0 12 rfl rfl)
theorem dX0_routeMinutes_13 : decode cX0_routeMinutes 13 = .ok (.iconst 1, 1) := dk_4 (dk_at dksX0_routeMinutes_0 13 rfl rfl)
theorem dX0_routeMinutes_14 : decode cX0_routeMinutes 14 = .ok (.ireturn, 1) := dk_172 (dk_at dksX0_routeMinutes_0 14 rfl rfl)
theorem dX0_routeMinutes_15 : decode cX0_routeMinutes 15 = .ok (.iconst 0, 1) := dk_3 (dk_at dksX0_routeMinutes_0 15 rfl rfl)
theorem dX0_routeMinutes_16 : decode cX0_routeMinutes 16 = .ok (.ireturn, 1) := dk_172 (dk_at dksX0_routeMinutes_0 16 rfl rfl)
abbrev cX0_rides : ByteArray := method_17_code
def yX0_rides : MethodName := ⟨RX0, "rides", "(LSharedTaxis;I[J)I"⟩
def dkwX0_rides_0 : List UInt8 := [44, 3, 42, 27, 182, 0, 59, 133, 80, 167, 0, 6, 78, 4, 172, 3, 172]
abbrev dktX0_rides_0 : List UInt8 := dkwX0_rides_0 ++ []
theorem dksX0_rides_0 : cX0_rides.data.toList.drop 0 = dktX0_rides_0 := by decide +kernel
theorem dX0_rides_0 : decode cX0_rides 0 = .ok (.aload_n 2, 1) := dk_44 (dk_at dksX0_rides_0 0 rfl rfl)
theorem dX0_rides_1 : decode cX0_rides 1 = .ok (.iconst 0, 1) := dk_3 (dk_at dksX0_rides_0 1 rfl rfl)
theorem dX0_rides_2 : decode cX0_rides 2 = .ok (.aload_n 0, 1) := dk_42 (dk_at dksX0_rides_0 2 rfl rfl)
theorem dX0_rides_3 : decode cX0_rides 3 = .ok (.iload_n 1, 1) := dk_27 (dk_at dksX0_rides_0 3 rfl rfl)
theorem dX0_rides_4 : decode cX0_rides 4 = .ok (.invokevirtual 59, 3) := dk_182 0 59 (dk_at dksX0_rides_0 4 rfl rfl)
theorem dX0_rides_7 : decode cX0_rides 7 = .ok (.i2l, 1) := dk_133 (dk_at dksX0_rides_0 7 rfl rfl)
theorem dX0_rides_8 : decode cX0_rides 8 = .ok (.lastore, 1) := dk_80 (dk_at dksX0_rides_0 8 rfl rfl)
theorem dX0_rides_9 : decode cX0_rides 9 = .ok (.goto 6, 3) := dk_167 0 6 (dk_at dksX0_rides_0 9 rfl rfl)
theorem dX0_rides_12 : decode cX0_rides 12 = .ok (.astore_n 3, 1) := dk_78 (dk_at dksX0_rides_0 12 rfl rfl)
theorem dX0_rides_13 : decode cX0_rides 13 = .ok (.iconst 1, 1) := dk_4 (dk_at dksX0_rides_0 13 rfl rfl)
theorem dX0_rides_14 : decode cX0_rides 14 = .ok (.ireturn, 1) := dk_172 (dk_at dksX0_rides_0 14 rfl rfl)
theorem dX0_rides_15 : decode cX0_rides 15 = .ok (.iconst 0, 1) := dk_3 (dk_at dksX0_rides_0 15 rfl rfl)
theorem dX0_rides_16 : decode cX0_rides 16 = .ok (.ireturn, 1) := dk_172 (dk_at dksX0_rides_0 16 rfl rfl)
abbrev cX0_ask : ByteArray := method_18_code
def yX0_ask : MethodName := ⟨RX0, "ask", "(LSharedTaxis;IIIII[J)I"⟩
def dkwX0_ask_1 : List UInt8 := [58, 7, 5, 172, 3, 172]
abbrev dktX0_ask_1 : List UInt8 := dkwX0_ask_1 ++ []
def dkwX0_ask_0 : List UInt8 := [25, 6, 3, 42, 27, 28, 29, 21, 4, 21, 5, 182, 0, 62, 133, 80, 167, 0, 11, 58, 7, 4, 172]
abbrev dktX0_ask_0 : List UInt8 := dkwX0_ask_0 ++ dktX0_ask_1
theorem dksX0_ask_0 : cX0_ask.data.toList.drop 0 = dktX0_ask_0 := by decide +kernel
theorem dksX0_ask_1 : cX0_ask.data.toList.drop 23 = dktX0_ask_1 := dk_seg dksX0_ask_0 23 rfl rfl
theorem dX0_ask_0 : decode cX0_ask 0 = .ok (.aload 6, 2) := dk_25 6 (dk_at dksX0_ask_0 0 rfl rfl)
theorem dX0_ask_2 : decode cX0_ask 2 = .ok (.iconst 0, 1) := dk_3 (dk_at dksX0_ask_0 2 rfl rfl)
theorem dX0_ask_3 : decode cX0_ask 3 = .ok (.aload_n 0, 1) := dk_42 (dk_at dksX0_ask_0 3 rfl rfl)
theorem dX0_ask_4 : decode cX0_ask 4 = .ok (.iload_n 1, 1) := dk_27 (dk_at dksX0_ask_0 4 rfl rfl)
theorem dX0_ask_5 : decode cX0_ask 5 = .ok (.iload_n 2, 1) := dk_28 (dk_at dksX0_ask_0 5 rfl rfl)
theorem dX0_ask_6 : decode cX0_ask 6 = .ok (.iload_n 3, 1) := dk_29 (dk_at dksX0_ask_0 6 rfl rfl)
theorem dX0_ask_7 : decode cX0_ask 7 = .ok (.iload 4, 2) := dk_21 4 (dk_at dksX0_ask_0 7 rfl rfl)
theorem dX0_ask_9 : decode cX0_ask 9 = .ok (.iload 5, 2) := dk_21 5 (dk_at dksX0_ask_0 9 rfl rfl)
theorem dX0_ask_11 : decode cX0_ask 11 = .ok (.invokevirtual 62, 3) := dk_182 0 62 (dk_at dksX0_ask_0 11 rfl rfl)
theorem dX0_ask_14 : decode cX0_ask 14 = .ok (.i2l, 1) := dk_133 (dk_at dksX0_ask_0 14 rfl rfl)
theorem dX0_ask_15 : decode cX0_ask 15 = .ok (.lastore, 1) := dk_80 (dk_at dksX0_ask_0 15 rfl rfl)
theorem dX0_ask_16 : decode cX0_ask 16 = .ok (.goto 11, 3) := dk_167 0 11 (dk_at dksX0_ask_0 16 rfl rfl)
theorem dX0_ask_19 : decode cX0_ask 19 = .ok (.astore 7, 2) := dk_58 7 (dk_at dksX0_ask_0 19 rfl rfl)
theorem dX0_ask_21 : decode cX0_ask 21 = .ok (.iconst 1, 1) := dk_4 (dk_at dksX0_ask_0 21 rfl rfl)
theorem dX0_ask_22 : decode cX0_ask 22 = .ok (.ireturn, 1) := dk_172 (dk_at dksX0_ask_0 22 rfl rfl)
theorem dX0_ask_23 : decode cX0_ask 23 = .ok (.astore 7, 2) := dk_58 7 (dk_at dksX0_ask_1 0 rfl rfl)
theorem dX0_ask_25 : decode cX0_ask 25 = .ok (.iconst 2, 1) := dk_5 (dk_at dksX0_ask_1 2 rfl rfl)
theorem dX0_ask_26 : decode cX0_ask 26 = .ok (.ireturn, 1) := dk_172 (dk_at dksX0_ask_1 3 rfl rfl)
theorem dX0_ask_27 : decode cX0_ask 27 = .ok (.iconst 0, 1) := dk_3 (dk_at dksX0_ask_1 4 rfl rfl)
theorem dX0_ask_28 : decode cX0_ask 28 = .ok (.ireturn, 1) := dk_172 (dk_at dksX0_ask_1 5 rfl rfl)
abbrev cX0_accept : ByteArray := method_19_code
def yX0_accept : MethodName := ⟨RX0, "accept", "(LSharedTaxis;I[J)I"⟩
def dkwX0_accept_0 : List UInt8 := [44, 3, 42, 27, 182, 0, 66, 133, 80, 167, 0, 6, 78, 4, 172, 3, 172]
abbrev dktX0_accept_0 : List UInt8 := dkwX0_accept_0 ++ []
theorem dksX0_accept_0 : cX0_accept.data.toList.drop 0 = dktX0_accept_0 := by decide +kernel
theorem dX0_accept_0 : decode cX0_accept 0 = .ok (.aload_n 2, 1) := dk_44 (dk_at dksX0_accept_0 0 rfl rfl)
theorem dX0_accept_1 : decode cX0_accept 1 = .ok (.iconst 0, 1) := dk_3 (dk_at dksX0_accept_0 1 rfl rfl)
theorem dX0_accept_2 : decode cX0_accept 2 = .ok (.aload_n 0, 1) := dk_42 (dk_at dksX0_accept_0 2 rfl rfl)
theorem dX0_accept_3 : decode cX0_accept 3 = .ok (.iload_n 1, 1) := dk_27 (dk_at dksX0_accept_0 3 rfl rfl)
theorem dX0_accept_4 : decode cX0_accept 4 = .ok (.invokevirtual 66, 3) := dk_182 0 66 (dk_at dksX0_accept_0 4 rfl rfl)
theorem dX0_accept_7 : decode cX0_accept 7 = .ok (.i2l, 1) := dk_133 (dk_at dksX0_accept_0 7 rfl rfl)
theorem dX0_accept_8 : decode cX0_accept 8 = .ok (.lastore, 1) := dk_80 (dk_at dksX0_accept_0 8 rfl rfl)
theorem dX0_accept_9 : decode cX0_accept 9 = .ok (.goto 6, 3) := dk_167 0 6 (dk_at dksX0_accept_0 9 rfl rfl)
theorem dX0_accept_12 : decode cX0_accept 12 = .ok (.astore_n 3, 1) := dk_78 (dk_at dksX0_accept_0 12 rfl rfl)
theorem dX0_accept_13 : decode cX0_accept 13 = .ok (.iconst 1, 1) := dk_4 (dk_at dksX0_accept_0 13 rfl rfl)
theorem dX0_accept_14 : decode cX0_accept 14 = .ok (.ireturn, 1) := dk_172 (dk_at dksX0_accept_0 14 rfl rfl)
theorem dX0_accept_15 : decode cX0_accept 15 = .ok (.iconst 0, 1) := dk_3 (dk_at dksX0_accept_0 15 rfl rfl)
theorem dX0_accept_16 : decode cX0_accept 16 = .ok (.ireturn, 1) := dk_172 (dk_at dksX0_accept_0 16 rfl rfl)
abbrev cX0_decline : ByteArray := method_20_code
def yX0_decline : MethodName := ⟨RX0, "decline", "(LSharedTaxis;I[J)I"⟩
def dkwX0_decline_0 : List UInt8 := [44, 3, 42, 27, 182, 0, 69, 133, 80, 167, 0, 6, 78, 4, 172, 3, 172]
abbrev dktX0_decline_0 : List UInt8 := dkwX0_decline_0 ++ []
theorem dksX0_decline_0 : cX0_decline.data.toList.drop 0 = dktX0_decline_0 := by decide +kernel
theorem dX0_decline_0 : decode cX0_decline 0 = .ok (.aload_n 2, 1) := dk_44 (dk_at dksX0_decline_0 0 rfl rfl)
theorem dX0_decline_1 : decode cX0_decline 1 = .ok (.iconst 0, 1) := dk_3 (dk_at dksX0_decline_0 1 rfl rfl)
theorem dX0_decline_2 : decode cX0_decline 2 = .ok (.aload_n 0, 1) := dk_42 (dk_at dksX0_decline_0 2 rfl rfl)
theorem dX0_decline_3 : decode cX0_decline 3 = .ok (.iload_n 1, 1) := dk_27 (dk_at dksX0_decline_0 3 rfl rfl)
theorem dX0_decline_4 : decode cX0_decline 4 = .ok (.invokevirtual 69, 3) := dk_182 0 69 (dk_at dksX0_decline_0 4 rfl rfl)
theorem dX0_decline_7 : decode cX0_decline 7 = .ok (.i2l, 1) := dk_133 (dk_at dksX0_decline_0 7 rfl rfl)
theorem dX0_decline_8 : decode cX0_decline 8 = .ok (.lastore, 1) := dk_80 (dk_at dksX0_decline_0 8 rfl rfl)
theorem dX0_decline_9 : decode cX0_decline 9 = .ok (.goto 6, 3) := dk_167 0 6 (dk_at dksX0_decline_0 9 rfl rfl)
theorem dX0_decline_12 : decode cX0_decline 12 = .ok (.astore_n 3, 1) := dk_78 (dk_at dksX0_decline_0 12 rfl rfl)
theorem dX0_decline_13 : decode cX0_decline 13 = .ok (.iconst 1, 1) := dk_4 (dk_at dksX0_decline_0 13 rfl rfl)
theorem dX0_decline_14 : decode cX0_decline 14 = .ok (.ireturn, 1) := dk_172 (dk_at dksX0_decline_0 14 rfl rfl)
theorem dX0_decline_15 : decode cX0_decline 15 = .ok (.iconst 0, 1) := dk_3 (dk_at dksX0_decline_0 15 rfl rfl)
theorem dX0_decline_16 : decode cX0_decline 16 = .ok (.ireturn, 1) := dk_172 (dk_at dksX0_decline_0 16 rfl rfl)
abbrev cX0_cancel : ByteArray := method_21_code
def yX0_cancel : MethodName := ⟨RX0, "cancel", "(LSharedTaxis;I[J)I"⟩
def dkwX0_cancel_0 : List UInt8 := [44, 3, 42, 27, 182, 0, 72, 133, 80, 167, 0, 6, 78, 4, 172, 3, 172]
abbrev dktX0_cancel_0 : List UInt8 := dkwX0_cancel_0 ++ []
theorem dksX0_cancel_0 : cX0_cancel.data.toList.drop 0 = dktX0_cancel_0 := by decide +kernel
theorem dX0_cancel_0 : decode cX0_cancel 0 = .ok (.aload_n 2, 1) := dk_44 (dk_at dksX0_cancel_0 0 rfl rfl)
theorem dX0_cancel_1 : decode cX0_cancel 1 = .ok (.iconst 0, 1) := dk_3 (dk_at dksX0_cancel_0 1 rfl rfl)
theorem dX0_cancel_2 : decode cX0_cancel 2 = .ok (.aload_n 0, 1) := dk_42 (dk_at dksX0_cancel_0 2 rfl rfl)
theorem dX0_cancel_3 : decode cX0_cancel 3 = .ok (.iload_n 1, 1) := dk_27 (dk_at dksX0_cancel_0 3 rfl rfl)
theorem dX0_cancel_4 : decode cX0_cancel 4 = .ok (.invokevirtual 72, 3) := dk_182 0 72 (dk_at dksX0_cancel_0 4 rfl rfl)
theorem dX0_cancel_7 : decode cX0_cancel 7 = .ok (.i2l, 1) := dk_133 (dk_at dksX0_cancel_0 7 rfl rfl)
theorem dX0_cancel_8 : decode cX0_cancel 8 = .ok (.lastore, 1) := dk_80 (dk_at dksX0_cancel_0 8 rfl rfl)
theorem dX0_cancel_9 : decode cX0_cancel 9 = .ok (.goto 6, 3) := dk_167 0 6 (dk_at dksX0_cancel_0 9 rfl rfl)
theorem dX0_cancel_12 : decode cX0_cancel 12 = .ok (.astore_n 3, 1) := dk_78 (dk_at dksX0_cancel_0 12 rfl rfl)
theorem dX0_cancel_13 : decode cX0_cancel 13 = .ok (.iconst 1, 1) := dk_4 (dk_at dksX0_cancel_0 13 rfl rfl)
theorem dX0_cancel_14 : decode cX0_cancel 14 = .ok (.ireturn, 1) := dk_172 (dk_at dksX0_cancel_0 14 rfl rfl)
theorem dX0_cancel_15 : decode cX0_cancel 15 = .ok (.iconst 0, 1) := dk_3 (dk_at dksX0_cancel_0 15 rfl rfl)
theorem dX0_cancel_16 : decode cX0_cancel 16 = .ok (.ireturn, 1) := dk_172 (dk_at dksX0_cancel_0 16 rfl rfl)
abbrev cX0_absent : ByteArray := method_22_code
def yX0_absent : MethodName := ⟨RX0, "absent", "(LSharedTaxis;I[J)I"⟩
def dkwX0_absent_0 : List UInt8 := [44, 3, 42, 27, 182, 0, 75, 133, 80, 167, 0, 6, 78, 4, 172, 3, 172]
abbrev dktX0_absent_0 : List UInt8 := dkwX0_absent_0 ++ []
theorem dksX0_absent_0 : cX0_absent.data.toList.drop 0 = dktX0_absent_0 := by decide +kernel
theorem dX0_absent_0 : decode cX0_absent 0 = .ok (.aload_n 2, 1) := dk_44 (dk_at dksX0_absent_0 0 rfl rfl)
theorem dX0_absent_1 : decode cX0_absent 1 = .ok (.iconst 0, 1) := dk_3 (dk_at dksX0_absent_0 1 rfl rfl)
theorem dX0_absent_2 : decode cX0_absent 2 = .ok (.aload_n 0, 1) := dk_42 (dk_at dksX0_absent_0 2 rfl rfl)
theorem dX0_absent_3 : decode cX0_absent 3 = .ok (.iload_n 1, 1) := dk_27 (dk_at dksX0_absent_0 3 rfl rfl)
theorem dX0_absent_4 : decode cX0_absent 4 = .ok (.invokevirtual 75, 3) := dk_182 0 75 (dk_at dksX0_absent_0 4 rfl rfl)
theorem dX0_absent_7 : decode cX0_absent 7 = .ok (.i2l, 1) := dk_133 (dk_at dksX0_absent_0 7 rfl rfl)
theorem dX0_absent_8 : decode cX0_absent 8 = .ok (.lastore, 1) := dk_80 (dk_at dksX0_absent_0 8 rfl rfl)
theorem dX0_absent_9 : decode cX0_absent 9 = .ok (.goto 6, 3) := dk_167 0 6 (dk_at dksX0_absent_0 9 rfl rfl)
theorem dX0_absent_12 : decode cX0_absent 12 = .ok (.astore_n 3, 1) := dk_78 (dk_at dksX0_absent_0 12 rfl rfl)
theorem dX0_absent_13 : decode cX0_absent 13 = .ok (.iconst 1, 1) := dk_4 (dk_at dksX0_absent_0 13 rfl rfl)
theorem dX0_absent_14 : decode cX0_absent 14 = .ok (.ireturn, 1) := dk_172 (dk_at dksX0_absent_0 14 rfl rfl)
theorem dX0_absent_15 : decode cX0_absent 15 = .ok (.iconst 0, 1) := dk_3 (dk_at dksX0_absent_0 15 rfl rfl)
theorem dX0_absent_16 : decode cX0_absent 16 = .ok (.ireturn, 1) := dk_172 (dk_at dksX0_absent_0 16 rfl rfl)
abbrev cX0_advance : ByteArray := method_23_code
def yX0_advance : MethodName := ⟨RX0, "advance", "(LSharedTaxis;I[J)I"⟩
def dkwX0_advance_0 : List UInt8 := [44, 3, 42, 27, 182, 0, 78, 133, 80, 167, 0, 6, 78, 4, 172, 3, 172]
abbrev dktX0_advance_0 : List UInt8 := dkwX0_advance_0 ++ []
theorem dksX0_advance_0 : cX0_advance.data.toList.drop 0 = dktX0_advance_0 := by decide +kernel
theorem dX0_advance_0 : decode cX0_advance 0 = .ok (.aload_n 2, 1) := dk_44 (dk_at dksX0_advance_0 0 rfl rfl)
theorem dX0_advance_1 : decode cX0_advance 1 = .ok (.iconst 0, 1) := dk_3 (dk_at dksX0_advance_0 1 rfl rfl)
theorem dX0_advance_2 : decode cX0_advance 2 = .ok (.aload_n 0, 1) := dk_42 (dk_at dksX0_advance_0 2 rfl rfl)
theorem dX0_advance_3 : decode cX0_advance 3 = .ok (.iload_n 1, 1) := dk_27 (dk_at dksX0_advance_0 3 rfl rfl)
theorem dX0_advance_4 : decode cX0_advance 4 = .ok (.invokevirtual 78, 3) := dk_182 0 78 (dk_at dksX0_advance_0 4 rfl rfl)
theorem dX0_advance_7 : decode cX0_advance 7 = .ok (.i2l, 1) := dk_133 (dk_at dksX0_advance_0 7 rfl rfl)
theorem dX0_advance_8 : decode cX0_advance 8 = .ok (.lastore, 1) := dk_80 (dk_at dksX0_advance_0 8 rfl rfl)
theorem dX0_advance_9 : decode cX0_advance 9 = .ok (.goto 6, 3) := dk_167 0 6 (dk_at dksX0_advance_0 9 rfl rfl)
theorem dX0_advance_12 : decode cX0_advance 12 = .ok (.astore_n 3, 1) := dk_78 (dk_at dksX0_advance_0 12 rfl rfl)
theorem dX0_advance_13 : decode cX0_advance 13 = .ok (.iconst 1, 1) := dk_4 (dk_at dksX0_advance_0 13 rfl rfl)
theorem dX0_advance_14 : decode cX0_advance 14 = .ok (.ireturn, 1) := dk_172 (dk_at dksX0_advance_0 14 rfl rfl)
theorem dX0_advance_15 : decode cX0_advance 15 = .ok (.iconst 0, 1) := dk_3 (dk_at dksX0_advance_0 15 rfl rfl)
theorem dX0_advance_16 : decode cX0_advance 16 = .ok (.ireturn, 1) := dk_172 (dk_at dksX0_advance_0 16 rfl rfl)
abbrev cX0_tip : ByteArray := method_24_code
def yX0_tip : MethodName := ⟨RX0, "tip", "(LSharedTaxis;II[J)I"⟩
def dkwX0_tip_0 : List UInt8 := [45, 3, 42, 27, 28, 182, 0, 81, 133, 80, 167, 0, 11, 58, 4, 4, 172, 58, 4, 5, 172, 3, 172]
abbrev dktX0_tip_0 : List UInt8 := dkwX0_tip_0 ++ []
theorem dksX0_tip_0 : cX0_tip.data.toList.drop 0 = dktX0_tip_0 := by decide +kernel
theorem dX0_tip_0 : decode cX0_tip 0 = .ok (.aload_n 3, 1) := dk_45 (dk_at dksX0_tip_0 0 rfl rfl)
theorem dX0_tip_1 : decode cX0_tip 1 = .ok (.iconst 0, 1) := dk_3 (dk_at dksX0_tip_0 1 rfl rfl)
theorem dX0_tip_2 : decode cX0_tip 2 = .ok (.aload_n 0, 1) := dk_42 (dk_at dksX0_tip_0 2 rfl rfl)
theorem dX0_tip_3 : decode cX0_tip 3 = .ok (.iload_n 1, 1) := dk_27 (dk_at dksX0_tip_0 3 rfl rfl)
theorem dX0_tip_4 : decode cX0_tip 4 = .ok (.iload_n 2, 1) := dk_28 (dk_at dksX0_tip_0 4 rfl rfl)
theorem dX0_tip_5 : decode cX0_tip 5 = .ok (.invokevirtual 81, 3) := dk_182 0 81 (dk_at dksX0_tip_0 5 rfl rfl)
theorem dX0_tip_8 : decode cX0_tip 8 = .ok (.i2l, 1) := dk_133 (dk_at dksX0_tip_0 8 rfl rfl)
theorem dX0_tip_9 : decode cX0_tip 9 = .ok (.lastore, 1) := dk_80 (dk_at dksX0_tip_0 9 rfl rfl)
theorem dX0_tip_10 : decode cX0_tip 10 = .ok (.goto 11, 3) := dk_167 0 11 (dk_at dksX0_tip_0 10 rfl rfl)
theorem dX0_tip_13 : decode cX0_tip 13 = .ok (.astore 4, 2) := dk_58 4 (dk_at dksX0_tip_0 13 rfl rfl)
theorem dX0_tip_15 : decode cX0_tip 15 = .ok (.iconst 1, 1) := dk_4 (dk_at dksX0_tip_0 15 rfl rfl)
theorem dX0_tip_16 : decode cX0_tip 16 = .ok (.ireturn, 1) := dk_172 (dk_at dksX0_tip_0 16 rfl rfl)
theorem dX0_tip_17 : decode cX0_tip 17 = .ok (.astore 4, 2) := dk_58 4 (dk_at dksX0_tip_0 17 rfl rfl)
theorem dX0_tip_19 : decode cX0_tip 19 = .ok (.iconst 2, 1) := dk_5 (dk_at dksX0_tip_0 19 rfl rfl)
theorem dX0_tip_20 : decode cX0_tip 20 = .ok (.ireturn, 1) := dk_172 (dk_at dksX0_tip_0 20 rfl rfl)
theorem dX0_tip_21 : decode cX0_tip 21 = .ok (.iconst 0, 1) := dk_3 (dk_at dksX0_tip_0 21 rfl rfl)
theorem dX0_tip_22 : decode cX0_tip 22 = .ok (.ireturn, 1) := dk_172 (dk_at dksX0_tip_0 22 rfl rfl)
abbrev cX0_setRate : ByteArray := method_25_code
def yX0_setRate : MethodName := ⟨RX0, "setRate", "(LSharedTaxis;I[J)I"⟩
def dkwX0_setRate_0 : List UInt8 := [44, 3, 42, 27, 182, 0, 84, 133, 80, 167, 0, 6, 78, 4, 172, 3, 172]
abbrev dktX0_setRate_0 : List UInt8 := dkwX0_setRate_0 ++ []
theorem dksX0_setRate_0 : cX0_setRate.data.toList.drop 0 = dktX0_setRate_0 := by decide +kernel
theorem dX0_setRate_0 : decode cX0_setRate 0 = .ok (.aload_n 2, 1) := dk_44 (dk_at dksX0_setRate_0 0 rfl rfl)
theorem dX0_setRate_1 : decode cX0_setRate 1 = .ok (.iconst 0, 1) := dk_3 (dk_at dksX0_setRate_0 1 rfl rfl)
theorem dX0_setRate_2 : decode cX0_setRate 2 = .ok (.aload_n 0, 1) := dk_42 (dk_at dksX0_setRate_0 2 rfl rfl)
theorem dX0_setRate_3 : decode cX0_setRate 3 = .ok (.iload_n 1, 1) := dk_27 (dk_at dksX0_setRate_0 3 rfl rfl)
theorem dX0_setRate_4 : decode cX0_setRate 4 = .ok (.invokevirtual 84, 3) := dk_182 0 84 (dk_at dksX0_setRate_0 4 rfl rfl)
theorem dX0_setRate_7 : decode cX0_setRate 7 = .ok (.i2l, 1) := dk_133 (dk_at dksX0_setRate_0 7 rfl rfl)
theorem dX0_setRate_8 : decode cX0_setRate 8 = .ok (.lastore, 1) := dk_80 (dk_at dksX0_setRate_0 8 rfl rfl)
theorem dX0_setRate_9 : decode cX0_setRate 9 = .ok (.goto 6, 3) := dk_167 0 6 (dk_at dksX0_setRate_0 9 rfl rfl)
theorem dX0_setRate_12 : decode cX0_setRate 12 = .ok (.astore_n 3, 1) := dk_78 (dk_at dksX0_setRate_0 12 rfl rfl)
theorem dX0_setRate_13 : decode cX0_setRate 13 = .ok (.iconst 1, 1) := dk_4 (dk_at dksX0_setRate_0 13 rfl rfl)
theorem dX0_setRate_14 : decode cX0_setRate 14 = .ok (.ireturn, 1) := dk_172 (dk_at dksX0_setRate_0 14 rfl rfl)
theorem dX0_setRate_15 : decode cX0_setRate 15 = .ok (.iconst 0, 1) := dk_3 (dk_at dksX0_setRate_0 15 rfl rfl)
theorem dX0_setRate_16 : decode cX0_setRate 16 = .ok (.ireturn, 1) := dk_172 (dk_at dksX0_setRate_0 16 rfl rfl)
abbrev cX0_setEnd : ByteArray := method_26_code
def yX0_setEnd : MethodName := ⟨RX0, "setEnd", "(LSharedTaxis;II[J)I"⟩
def dkwX0_setEnd_0 : List UInt8 := [45, 3, 42, 27, 28, 182, 0, 87, 133, 80, 167, 0, 11, 58, 4, 4, 172, 58, 4, 5, 172, 3, 172]
abbrev dktX0_setEnd_0 : List UInt8 := dkwX0_setEnd_0 ++ []
theorem dksX0_setEnd_0 : cX0_setEnd.data.toList.drop 0 = dktX0_setEnd_0 := by decide +kernel
theorem dX0_setEnd_0 : decode cX0_setEnd 0 = .ok (.aload_n 3, 1) := dk_45 (dk_at dksX0_setEnd_0 0 rfl rfl)
theorem dX0_setEnd_1 : decode cX0_setEnd 1 = .ok (.iconst 0, 1) := dk_3 (dk_at dksX0_setEnd_0 1 rfl rfl)
theorem dX0_setEnd_2 : decode cX0_setEnd 2 = .ok (.aload_n 0, 1) := dk_42 (dk_at dksX0_setEnd_0 2 rfl rfl)
theorem dX0_setEnd_3 : decode cX0_setEnd 3 = .ok (.iload_n 1, 1) := dk_27 (dk_at dksX0_setEnd_0 3 rfl rfl)
theorem dX0_setEnd_4 : decode cX0_setEnd 4 = .ok (.iload_n 2, 1) := dk_28 (dk_at dksX0_setEnd_0 4 rfl rfl)
theorem dX0_setEnd_5 : decode cX0_setEnd 5 = .ok (.invokevirtual 87, 3) := dk_182 0 87 (dk_at dksX0_setEnd_0 5 rfl rfl)
theorem dX0_setEnd_8 : decode cX0_setEnd 8 = .ok (.i2l, 1) := dk_133 (dk_at dksX0_setEnd_0 8 rfl rfl)
theorem dX0_setEnd_9 : decode cX0_setEnd 9 = .ok (.lastore, 1) := dk_80 (dk_at dksX0_setEnd_0 9 rfl rfl)
theorem dX0_setEnd_10 : decode cX0_setEnd 10 = .ok (.goto 11, 3) := dk_167 0 11 (dk_at dksX0_setEnd_0 10 rfl rfl)
theorem dX0_setEnd_13 : decode cX0_setEnd 13 = .ok (.astore 4, 2) := dk_58 4 (dk_at dksX0_setEnd_0 13 rfl rfl)
theorem dX0_setEnd_15 : decode cX0_setEnd 15 = .ok (.iconst 1, 1) := dk_4 (dk_at dksX0_setEnd_0 15 rfl rfl)
theorem dX0_setEnd_16 : decode cX0_setEnd 16 = .ok (.ireturn, 1) := dk_172 (dk_at dksX0_setEnd_0 16 rfl rfl)
theorem dX0_setEnd_17 : decode cX0_setEnd 17 = .ok (.astore 4, 2) := dk_58 4 (dk_at dksX0_setEnd_0 17 rfl rfl)
theorem dX0_setEnd_19 : decode cX0_setEnd 19 = .ok (.iconst 2, 1) := dk_5 (dk_at dksX0_setEnd_0 19 rfl rfl)
theorem dX0_setEnd_20 : decode cX0_setEnd 20 = .ok (.ireturn, 1) := dk_172 (dk_at dksX0_setEnd_0 20 rfl rfl)
theorem dX0_setEnd_21 : decode cX0_setEnd 21 = .ok (.iconst 0, 1) := dk_3 (dk_at dksX0_setEnd_0 21 rfl rfl)
theorem dX0_setEnd_22 : decode cX0_setEnd 22 = .ok (.ireturn, 1) := dk_172 (dk_at dksX0_setEnd_0 22 rfl rfl)
abbrev cX0_setRule : ByteArray := method_27_code
def yX0_setRule : MethodName := ⟨RX0, "setRule", "(LSharedTaxis;II[J)I"⟩
def dkwX0_setRule_0 : List UInt8 := [45, 3, 42, 27, 28, 182, 0, 90, 133, 80, 167, 0, 11, 58, 4, 4, 172, 58, 4, 5, 172, 3, 172]
abbrev dktX0_setRule_0 : List UInt8 := dkwX0_setRule_0 ++ []
theorem dksX0_setRule_0 : cX0_setRule.data.toList.drop 0 = dktX0_setRule_0 := by decide +kernel
theorem dX0_setRule_0 : decode cX0_setRule 0 = .ok (.aload_n 3, 1) := dk_45 (dk_at dksX0_setRule_0 0 rfl rfl)
theorem dX0_setRule_1 : decode cX0_setRule 1 = .ok (.iconst 0, 1) := dk_3 (dk_at dksX0_setRule_0 1 rfl rfl)
theorem dX0_setRule_2 : decode cX0_setRule 2 = .ok (.aload_n 0, 1) := dk_42 (dk_at dksX0_setRule_0 2 rfl rfl)
theorem dX0_setRule_3 : decode cX0_setRule 3 = .ok (.iload_n 1, 1) := dk_27 (dk_at dksX0_setRule_0 3 rfl rfl)
theorem dX0_setRule_4 : decode cX0_setRule 4 = .ok (.iload_n 2, 1) := dk_28 (dk_at dksX0_setRule_0 4 rfl rfl)
theorem dX0_setRule_5 : decode cX0_setRule 5 = .ok (.invokevirtual 90, 3) := dk_182 0 90 (dk_at dksX0_setRule_0 5 rfl rfl)
theorem dX0_setRule_8 : decode cX0_setRule 8 = .ok (.i2l, 1) := dk_133 (dk_at dksX0_setRule_0 8 rfl rfl)
theorem dX0_setRule_9 : decode cX0_setRule 9 = .ok (.lastore, 1) := dk_80 (dk_at dksX0_setRule_0 9 rfl rfl)
theorem dX0_setRule_10 : decode cX0_setRule 10 = .ok (.goto 11, 3) := dk_167 0 11 (dk_at dksX0_setRule_0 10 rfl rfl)
theorem dX0_setRule_13 : decode cX0_setRule 13 = .ok (.astore 4, 2) := dk_58 4 (dk_at dksX0_setRule_0 13 rfl rfl)
theorem dX0_setRule_15 : decode cX0_setRule 15 = .ok (.iconst 1, 1) := dk_4 (dk_at dksX0_setRule_0 15 rfl rfl)
theorem dX0_setRule_16 : decode cX0_setRule 16 = .ok (.ireturn, 1) := dk_172 (dk_at dksX0_setRule_0 16 rfl rfl)
theorem dX0_setRule_17 : decode cX0_setRule 17 = .ok (.astore 4, 2) := dk_58 4 (dk_at dksX0_setRule_0 17 rfl rfl)
theorem dX0_setRule_19 : decode cX0_setRule 19 = .ok (.iconst 2, 1) := dk_5 (dk_at dksX0_setRule_0 19 rfl rfl)
theorem dX0_setRule_20 : decode cX0_setRule 20 = .ok (.ireturn, 1) := dk_172 (dk_at dksX0_setRule_0 20 rfl rfl)
theorem dX0_setRule_21 : decode cX0_setRule 21 = .ok (.iconst 0, 1) := dk_3 (dk_at dksX0_setRule_0 21 rfl rfl)
theorem dX0_setRule_22 : decode cX0_setRule 22 = .ok (.ireturn, 1) := dk_172 (dk_at dksX0_setRule_0 22 rfl rfl)
abbrev cX0_format : ByteArray := method_28_code
def yX0_format : MethodName := ⟨RX0, "format", "(LSharedTaxis;I[J)I"⟩
def dkwX0_format_0 : List UInt8 := [44, 3, 42, 27, 182, 0, 93, 133, 80, 167, 0, 6, 78, 4, 172, 3, 172]
abbrev dktX0_format_0 : List UInt8 := dkwX0_format_0 ++ []
theorem dksX0_format_0 : cX0_format.data.toList.drop 0 = dktX0_format_0 := by decide +kernel
theorem dX0_format_0 : decode cX0_format 0 = .ok (.aload_n 2, 1) := dk_44 (dk_at dksX0_format_0 0 rfl rfl)
theorem dX0_format_1 : decode cX0_format 1 = .ok (.iconst 0, 1) := dk_3 (dk_at dksX0_format_0 1 rfl rfl)
theorem dX0_format_2 : decode cX0_format 2 = .ok (.aload_n 0, 1) := dk_42 (dk_at dksX0_format_0 2 rfl rfl)
theorem dX0_format_3 : decode cX0_format 3 = .ok (.iload_n 1, 1) := dk_27 (dk_at dksX0_format_0 3 rfl rfl)
theorem dX0_format_4 : decode cX0_format 4 = .ok (.invokevirtual 93, 3) := dk_182 0 93 (dk_at dksX0_format_0 4 rfl rfl)
theorem dX0_format_7 : decode cX0_format 7 = .ok (.i2l, 1) := dk_133 (dk_at dksX0_format_0 7 rfl rfl)
theorem dX0_format_8 : decode cX0_format 8 = .ok (.lastore, 1) := dk_80 (dk_at dksX0_format_0 8 rfl rfl)
theorem dX0_format_9 : decode cX0_format 9 = .ok (.goto 6, 3) := dk_167 0 6 (dk_at dksX0_format_0 9 rfl rfl)
theorem dX0_format_12 : decode cX0_format 12 = .ok (.astore_n 3, 1) := dk_78 (dk_at dksX0_format_0 12 rfl rfl)
theorem dX0_format_13 : decode cX0_format 13 = .ok (.iconst 1, 1) := dk_4 (dk_at dksX0_format_0 13 rfl rfl)
theorem dX0_format_14 : decode cX0_format 14 = .ok (.ireturn, 1) := dk_172 (dk_at dksX0_format_0 14 rfl rfl)
theorem dX0_format_15 : decode cX0_format 15 = .ok (.iconst 0, 1) := dk_3 (dk_at dksX0_format_0 15 rfl rfl)
theorem dX0_format_16 : decode cX0_format 16 = .ok (.ireturn, 1) := dk_172 (dk_at dksX0_format_0 16 rfl rfl)
abbrev cX0_query : ByteArray := method_29_code
def yX0_query : MethodName := ⟨RX0, "query", "(LSharedTaxis;I[J)I"⟩
def dkwX0_query_0 : List UInt8 := [44, 3, 42, 27, 182, 0, 96, 133, 80, 167, 0, 6, 78, 4, 172, 3, 172]
abbrev dktX0_query_0 : List UInt8 := dkwX0_query_0 ++ []
theorem dksX0_query_0 : cX0_query.data.toList.drop 0 = dktX0_query_0 := by decide +kernel
theorem dX0_query_0 : decode cX0_query 0 = .ok (.aload_n 2, 1) := dk_44 (dk_at dksX0_query_0 0 rfl rfl)
theorem dX0_query_1 : decode cX0_query 1 = .ok (.iconst 0, 1) := dk_3 (dk_at dksX0_query_0 1 rfl rfl)
theorem dX0_query_2 : decode cX0_query 2 = .ok (.aload_n 0, 1) := dk_42 (dk_at dksX0_query_0 2 rfl rfl)
theorem dX0_query_3 : decode cX0_query 3 = .ok (.iload_n 1, 1) := dk_27 (dk_at dksX0_query_0 3 rfl rfl)
theorem dX0_query_4 : decode cX0_query 4 = .ok (.invokevirtual 96, 3) := dk_182 0 96 (dk_at dksX0_query_0 4 rfl rfl)
theorem dX0_query_7 : decode cX0_query 7 = .ok (.i2l, 1) := dk_133 (dk_at dksX0_query_0 7 rfl rfl)
theorem dX0_query_8 : decode cX0_query 8 = .ok (.lastore, 1) := dk_80 (dk_at dksX0_query_0 8 rfl rfl)
theorem dX0_query_9 : decode cX0_query 9 = .ok (.goto 6, 3) := dk_167 0 6 (dk_at dksX0_query_0 9 rfl rfl)
theorem dX0_query_12 : decode cX0_query 12 = .ok (.astore_n 3, 1) := dk_78 (dk_at dksX0_query_0 12 rfl rfl)
theorem dX0_query_13 : decode cX0_query 13 = .ok (.iconst 1, 1) := dk_4 (dk_at dksX0_query_0 13 rfl rfl)
theorem dX0_query_14 : decode cX0_query 14 = .ok (.ireturn, 1) := dk_172 (dk_at dksX0_query_0 14 rfl rfl)
theorem dX0_query_15 : decode cX0_query 15 = .ok (.iconst 0, 1) := dk_3 (dk_at dksX0_query_0 15 rfl rfl)
theorem dX0_query_16 : decode cX0_query 16 = .ok (.ireturn, 1) := dk_172 (dk_at dksX0_query_0 16 rfl rfl)
abbrev cX10_init : ByteArray := prog_3_method_1_code
def yX10_init : MethodName := ⟨RX10, "<init>", "(I)V"⟩
def dkwX10_init_0 : List UInt8 := [42, 27, 183, 0, 1, 177]
abbrev dktX10_init_0 : List UInt8 := dkwX10_init_0 ++ []
theorem dksX10_init_0 : cX10_init.data.toList.drop 0 = dktX10_init_0 := by decide +kernel
theorem dX10_init_0 : decode cX10_init 0 = .ok (.aload_n 0, 1) := dk_42 (dk_at dksX10_init_0 0 rfl rfl)
theorem dX10_init_1 : decode cX10_init 1 = .ok (.iload_n 1, 1) := dk_27 (dk_at dksX10_init_0 1 rfl rfl)
theorem dX10_init_2 : decode cX10_init 2 = .ok (.invokespecial 1, 3) := dk_183 0 1 (dk_at dksX10_init_0 2 rfl rfl)
theorem dX10_init_5 : decode cX10_init 5 = .ok (.return_, 1) := dk_177 (dk_at dksX10_init_0 5 rfl rfl)
abbrev cX10_code : ByteArray := prog_3_method_2_code
def yX10_code : MethodName := ⟨RX10, "code", "()I"⟩
theorem dX10_code_0 : decode cX10_code 0 = .ok (.iconst 3, 1) := by decide +kernel
theorem dX10_code_1 : decode cX10_code 1 = .ok (.ireturn, 1) := by decide +kernel
abbrev cX11_init : ByteArray := prog_2_method_1_code
def yX11_init : MethodName := ⟨RX11, "<init>", "(I)V"⟩
def dkwX11_init_0 : List UInt8 := [42, 27, 183, 0, 1, 177]
abbrev dktX11_init_0 : List UInt8 := dkwX11_init_0 ++ []
theorem dksX11_init_0 : cX11_init.data.toList.drop 0 = dktX11_init_0 := by decide +kernel
theorem dX11_init_0 : decode cX11_init 0 = .ok (.aload_n 0, 1) := dk_42 (dk_at dksX11_init_0 0 rfl rfl)
theorem dX11_init_1 : decode cX11_init 1 = .ok (.iload_n 1, 1) := dk_27 (dk_at dksX11_init_0 1 rfl rfl)
theorem dX11_init_2 : decode cX11_init 2 = .ok (.invokespecial 1, 3) := dk_183 0 1 (dk_at dksX11_init_0 2 rfl rfl)
theorem dX11_init_5 : decode cX11_init 5 = .ok (.return_, 1) := dk_177 (dk_at dksX11_init_0 5 rfl rfl)
abbrev cX11_code : ByteArray := prog_2_method_2_code
def yX11_code : MethodName := ⟨RX11, "code", "()I"⟩
theorem dX11_code_0 : decode cX11_code 0 = .ok (.iconst 4, 1) := by decide +kernel
theorem dX11_code_1 : decode cX11_code 1 = .ok (.ireturn, 1) := by decide +kernel
abbrev cX12_copy : ByteArray := prog_15_method_3_code
def yX12_copy : MethodName := ⟨RX12, "copy", "()LSharedTaxis$Taxi;"⟩
def dkwX12_copy_0 : List UInt8 := [187, 0, 10, 89, 42, 183, 0, 70, 176]
abbrev dktX12_copy_0 : List UInt8 := dkwX12_copy_0 ++ []
theorem dksX12_copy_0 : cX12_copy.data.toList.drop 0 = dktX12_copy_0 := by decide +kernel
theorem dX12_copy_0 : decode cX12_copy 0 = .ok (.new 10, 3) := dk_187 0 10 (dk_at dksX12_copy_0 0 rfl rfl)
theorem dX12_copy_3 : decode cX12_copy 3 = .ok (.dup, 1) := dk_89 (dk_at dksX12_copy_0 3 rfl rfl)
theorem dX12_copy_4 : decode cX12_copy 4 = .ok (.aload_n 0, 1) := dk_42 (dk_at dksX12_copy_0 4 rfl rfl)
theorem dX12_copy_5 : decode cX12_copy 5 = .ok (.invokespecial 70, 3) := dk_183 0 70 (dk_at dksX12_copy_0 5 rfl rfl)
theorem dX12_copy_8 : decode cX12_copy 8 = .ok (.areturn, 1) := dk_176 (dk_at dksX12_copy_0 8 rfl rfl)
abbrev cX12_init : ByteArray := prog_15_method_2_code
def yX12_init : MethodName := ⟨RX12, "<init>", "(LSharedTaxis$Taxi;)V"⟩
def dkwX12_init_5 : List UInt8 := [180, 0, 67, 181, 0, 67, 177]
abbrev dktX12_init_5 : List UInt8 := dkwX12_init_5 ++ []
def dkwX12_init_4 : List UInt8 := [180, 0, 58, 181, 0, 58, 42, 43, 180, 0, 61, 181, 0, 61, 42, 43, 180, 0, 64, 181, 0, 64, 42, 43]
abbrev dktX12_init_4 : List UInt8 := dkwX12_init_4 ++ dktX12_init_5
def dkwX12_init_3 : List UInt8 := [185, 0, 46, 2, 0, 87, 42, 43, 180, 0, 52, 181, 0, 52, 42, 43, 180, 0, 55, 181, 0, 55, 42, 43]
abbrev dktX12_init_3 : List UInt8 := dkwX12_init_3 ++ dktX12_init_4
def dkwX12_init_2 : List UInt8 := [180, 0, 18, 43, 180, 0, 18, 185, 0, 46, 2, 0, 87, 42, 180, 0, 22, 43, 180, 0, 22]
abbrev dktX12_init_2 : List UInt8 := dkwX12_init_2 ++ dktX12_init_3
def dkwX12_init_1 : List UInt8 := [180, 0, 37, 181, 0, 37, 42, 43, 180, 0, 43, 181, 0, 43, 42, 43, 180, 0, 9, 181, 0, 9, 42]
abbrev dktX12_init_1 : List UInt8 := dkwX12_init_1 ++ dktX12_init_2
def dkwX12_init_0 : List UInt8 := [42, 43, 180, 0, 25, 43, 180, 0, 28, 43, 180, 0, 31, 43, 180, 0, 34, 183, 0, 40, 42, 43]
abbrev dktX12_init_0 : List UInt8 := dkwX12_init_0 ++ dktX12_init_1
theorem dksX12_init_0 : cX12_init.data.toList.drop 0 = dktX12_init_0 := by decide +kernel
theorem dksX12_init_1 : cX12_init.data.toList.drop 22 = dktX12_init_1 := dk_seg dksX12_init_0 22 rfl rfl
theorem dksX12_init_2 : cX12_init.data.toList.drop 45 = dktX12_init_2 := dk_seg dksX12_init_1 23 rfl rfl
theorem dksX12_init_3 : cX12_init.data.toList.drop 66 = dktX12_init_3 := dk_seg dksX12_init_2 21 rfl rfl
theorem dksX12_init_4 : cX12_init.data.toList.drop 90 = dktX12_init_4 := dk_seg dksX12_init_3 24 rfl rfl
theorem dksX12_init_5 : cX12_init.data.toList.drop 114 = dktX12_init_5 := dk_seg dksX12_init_4 24 rfl rfl
theorem dX12_init_0 : decode cX12_init 0 = .ok (.aload_n 0, 1) := dk_42 (dk_at dksX12_init_0 0 rfl rfl)
theorem dX12_init_1 : decode cX12_init 1 = .ok (.aload_n 1, 1) := dk_43 (dk_at dksX12_init_0 1 rfl rfl)
theorem dX12_init_2 : decode cX12_init 2 = .ok (.getfield 25, 3) := dk_180 0 25 (dk_at dksX12_init_0 2 rfl rfl)
theorem dX12_init_5 : decode cX12_init 5 = .ok (.aload_n 1, 1) := dk_43 (dk_at dksX12_init_0 5 rfl rfl)
theorem dX12_init_6 : decode cX12_init 6 = .ok (.getfield 28, 3) := dk_180 0 28 (dk_at dksX12_init_0 6 rfl rfl)
theorem dX12_init_9 : decode cX12_init 9 = .ok (.aload_n 1, 1) := dk_43 (dk_at dksX12_init_0 9 rfl rfl)
theorem dX12_init_10 : decode cX12_init 10 = .ok (.getfield 31, 3) := dk_180 0 31 (dk_at dksX12_init_0 10 rfl rfl)
theorem dX12_init_13 : decode cX12_init 13 = .ok (.aload_n 1, 1) := dk_43 (dk_at dksX12_init_0 13 rfl rfl)
theorem dX12_init_14 : decode cX12_init 14 = .ok (.getfield 34, 3) := dk_180 0 34 (dk_at dksX12_init_0 14 rfl rfl)
theorem dX12_init_17 : decode cX12_init 17 = .ok (.invokespecial 40, 3) := dk_183 0 40 (dk_at dksX12_init_0 17 rfl rfl)
theorem dX12_init_20 : decode cX12_init 20 = .ok (.aload_n 0, 1) := dk_42 (dk_at dksX12_init_0 20 rfl rfl)
theorem dX12_init_21 : decode cX12_init 21 = .ok (.aload_n 1, 1) := dk_43 (dk_at dksX12_init_0 21 rfl rfl)
theorem dX12_init_22 : decode cX12_init 22 = .ok (.getfield 37, 3) := dk_180 0 37 (dk_at dksX12_init_1 0 rfl rfl)
theorem dX12_init_25 : decode cX12_init 25 = .ok (.putfield 37, 3) := dk_181 0 37 (dk_at dksX12_init_1 3 rfl rfl)
theorem dX12_init_28 : decode cX12_init 28 = .ok (.aload_n 0, 1) := dk_42 (dk_at dksX12_init_1 6 rfl rfl)
theorem dX12_init_29 : decode cX12_init 29 = .ok (.aload_n 1, 1) := dk_43 (dk_at dksX12_init_1 7 rfl rfl)
theorem dX12_init_30 : decode cX12_init 30 = .ok (.getfield 43, 3) := dk_180 0 43 (dk_at dksX12_init_1 8 rfl rfl)
theorem dX12_init_33 : decode cX12_init 33 = .ok (.putfield 43, 3) := dk_181 0 43 (dk_at dksX12_init_1 11 rfl rfl)
theorem dX12_init_36 : decode cX12_init 36 = .ok (.aload_n 0, 1) := dk_42 (dk_at dksX12_init_1 14 rfl rfl)
theorem dX12_init_37 : decode cX12_init 37 = .ok (.aload_n 1, 1) := dk_43 (dk_at dksX12_init_1 15 rfl rfl)
theorem dX12_init_38 : decode cX12_init 38 = .ok (.getfield 9, 3) := dk_180 0 9 (dk_at dksX12_init_1 16 rfl rfl)
theorem dX12_init_41 : decode cX12_init 41 = .ok (.putfield 9, 3) := dk_181 0 9 (dk_at dksX12_init_1 19 rfl rfl)
theorem dX12_init_44 : decode cX12_init 44 = .ok (.aload_n 0, 1) := dk_42 (dk_at dksX12_init_1 22 rfl rfl)
theorem dX12_init_45 : decode cX12_init 45 = .ok (.getfield 18, 3) := dk_180 0 18 (dk_at dksX12_init_2 0 rfl rfl)
theorem dX12_init_48 : decode cX12_init 48 = .ok (.aload_n 1, 1) := dk_43 (dk_at dksX12_init_2 3 rfl rfl)
theorem dX12_init_49 : decode cX12_init 49 = .ok (.getfield 18, 3) := dk_180 0 18 (dk_at dksX12_init_2 4 rfl rfl)
theorem dX12_init_52 : decode cX12_init 52 = .ok (.invokeinterface 46 2, 5) := by decide +kernel
theorem dX12_init_57 : decode cX12_init 57 = .ok (.pop, 1) := dk_87 (dk_at dksX12_init_2 12 rfl rfl)
theorem dX12_init_58 : decode cX12_init 58 = .ok (.aload_n 0, 1) := dk_42 (dk_at dksX12_init_2 13 rfl rfl)
theorem dX12_init_59 : decode cX12_init 59 = .ok (.getfield 22, 3) := dk_180 0 22 (dk_at dksX12_init_2 14 rfl rfl)
theorem dX12_init_62 : decode cX12_init 62 = .ok (.aload_n 1, 1) := dk_43 (dk_at dksX12_init_2 17 rfl rfl)
theorem dX12_init_63 : decode cX12_init 63 = .ok (.getfield 22, 3) := dk_180 0 22 (dk_at dksX12_init_2 18 rfl rfl)
theorem dX12_init_66 : decode cX12_init 66 = .ok (.invokeinterface 46 2, 5) := by decide +kernel
theorem dX12_init_71 : decode cX12_init 71 = .ok (.pop, 1) := dk_87 (dk_at dksX12_init_3 5 rfl rfl)
theorem dX12_init_72 : decode cX12_init 72 = .ok (.aload_n 0, 1) := dk_42 (dk_at dksX12_init_3 6 rfl rfl)
theorem dX12_init_73 : decode cX12_init 73 = .ok (.aload_n 1, 1) := dk_43 (dk_at dksX12_init_3 7 rfl rfl)
theorem dX12_init_74 : decode cX12_init 74 = .ok (.getfield 52, 3) := dk_180 0 52 (dk_at dksX12_init_3 8 rfl rfl)
theorem dX12_init_77 : decode cX12_init 77 = .ok (.putfield 52, 3) := dk_181 0 52 (dk_at dksX12_init_3 11 rfl rfl)
theorem dX12_init_80 : decode cX12_init 80 = .ok (.aload_n 0, 1) := dk_42 (dk_at dksX12_init_3 14 rfl rfl)
theorem dX12_init_81 : decode cX12_init 81 = .ok (.aload_n 1, 1) := dk_43 (dk_at dksX12_init_3 15 rfl rfl)
theorem dX12_init_82 : decode cX12_init 82 = .ok (.getfield 55, 3) := dk_180 0 55 (dk_at dksX12_init_3 16 rfl rfl)
theorem dX12_init_85 : decode cX12_init 85 = .ok (.putfield 55, 3) := dk_181 0 55 (dk_at dksX12_init_3 19 rfl rfl)
theorem dX12_init_88 : decode cX12_init 88 = .ok (.aload_n 0, 1) := dk_42 (dk_at dksX12_init_3 22 rfl rfl)
theorem dX12_init_89 : decode cX12_init 89 = .ok (.aload_n 1, 1) := dk_43 (dk_at dksX12_init_3 23 rfl rfl)
theorem dX12_init_90 : decode cX12_init 90 = .ok (.getfield 58, 3) := dk_180 0 58 (dk_at dksX12_init_4 0 rfl rfl)
theorem dX12_init_93 : decode cX12_init 93 = .ok (.putfield 58, 3) := dk_181 0 58 (dk_at dksX12_init_4 3 rfl rfl)
theorem dX12_init_96 : decode cX12_init 96 = .ok (.aload_n 0, 1) := dk_42 (dk_at dksX12_init_4 6 rfl rfl)
theorem dX12_init_97 : decode cX12_init 97 = .ok (.aload_n 1, 1) := dk_43 (dk_at dksX12_init_4 7 rfl rfl)
theorem dX12_init_98 : decode cX12_init 98 = .ok (.getfield 61, 3) := dk_180 0 61 (dk_at dksX12_init_4 8 rfl rfl)
theorem dX12_init_101 : decode cX12_init 101 = .ok (.putfield 61, 3) := dk_181 0 61 (dk_at dksX12_init_4 11 rfl rfl)
theorem dX12_init_104 : decode cX12_init 104 = .ok (.aload_n 0, 1) := dk_42 (dk_at dksX12_init_4 14 rfl rfl)
theorem dX12_init_105 : decode cX12_init 105 = .ok (.aload_n 1, 1) := dk_43 (dk_at dksX12_init_4 15 rfl rfl)
theorem dX12_init_106 : decode cX12_init 106 = .ok (.getfield 64, 3) := dk_180 0 64 (dk_at dksX12_init_4 16 rfl rfl)
theorem dX12_init_109 : decode cX12_init 109 = .ok (.putfield 64, 3) := dk_181 0 64 (dk_at dksX12_init_4 19 rfl rfl)
theorem dX12_init_112 : decode cX12_init 112 = .ok (.aload_n 0, 1) := dk_42 (dk_at dksX12_init_4 22 rfl rfl)
theorem dX12_init_113 : decode cX12_init 113 = .ok (.aload_n 1, 1) := dk_43 (dk_at dksX12_init_4 23 rfl rfl)
theorem dX12_init_114 : decode cX12_init 114 = .ok (.getfield 67, 3) := dk_180 0 67 (dk_at dksX12_init_5 0 rfl rfl)
theorem dX12_init_117 : decode cX12_init 117 = .ok (.putfield 67, 3) := dk_181 0 67 (dk_at dksX12_init_5 3 rfl rfl)
theorem dX12_init_120 : decode cX12_init 120 = .ok (.return_, 1) := dk_177 (dk_at dksX12_init_5 6 rfl rfl)
abbrev cX12_init_2 : ByteArray := prog_15_method_1_code
def yX12_init_2 : MethodName := ⟨RX12, "<init>", "(IIII)V"⟩
def dkwX12_init_2_2 : List UInt8 := [21, 4, 181, 0, 34, 42, 29, 181, 0, 37, 177]
abbrev dktX12_init_2_2 : List UInt8 := dkwX12_init_2_2 ++ []
def dkwX12_init_2_1 : List UInt8 := [89, 183, 0, 17, 181, 0, 22, 42, 27, 181, 0, 25, 42, 28, 181, 0, 28, 42, 29, 181, 0, 31, 42]
abbrev dktX12_init_2_1 : List UInt8 := dkwX12_init_2_1 ++ dktX12_init_2_2
def dkwX12_init_2_0 : List UInt8 := [42, 183, 0, 3, 42, 2, 181, 0, 9, 42, 187, 0, 15, 89, 183, 0, 17, 181, 0, 18, 42, 187, 0, 15]
abbrev dktX12_init_2_0 : List UInt8 := dkwX12_init_2_0 ++ dktX12_init_2_1
theorem dksX12_init_2_0 : cX12_init_2.data.toList.drop 0 = dktX12_init_2_0 := by decide +kernel
theorem dksX12_init_2_1 : cX12_init_2.data.toList.drop 24 = dktX12_init_2_1 := dk_seg dksX12_init_2_0 24 rfl rfl
theorem dksX12_init_2_2 : cX12_init_2.data.toList.drop 47 = dktX12_init_2_2 := dk_seg dksX12_init_2_1 23 rfl rfl
theorem dX12_init_2_0 : decode cX12_init_2 0 = .ok (.aload_n 0, 1) := dk_42 (dk_at dksX12_init_2_0 0 rfl rfl)
theorem dX12_init_2_1 : decode cX12_init_2 1 = .ok (.invokespecial 3, 3) := dk_183 0 3 (dk_at dksX12_init_2_0 1 rfl rfl)
theorem dX12_init_2_4 : decode cX12_init_2 4 = .ok (.aload_n 0, 1) := dk_42 (dk_at dksX12_init_2_0 4 rfl rfl)
theorem dX12_init_2_5 : decode cX12_init_2 5 = .ok (.iconst (-1), 1) := dk_2 (dk_at dksX12_init_2_0 5 rfl rfl)
theorem dX12_init_2_6 : decode cX12_init_2 6 = .ok (.putfield 9, 3) := dk_181 0 9 (dk_at dksX12_init_2_0 6 rfl rfl)
theorem dX12_init_2_9 : decode cX12_init_2 9 = .ok (.aload_n 0, 1) := dk_42 (dk_at dksX12_init_2_0 9 rfl rfl)
theorem dX12_init_2_10 : decode cX12_init_2 10 = .ok (.new 15, 3) := dk_187 0 15 (dk_at dksX12_init_2_0 10 rfl rfl)
theorem dX12_init_2_13 : decode cX12_init_2 13 = .ok (.dup, 1) := dk_89 (dk_at dksX12_init_2_0 13 rfl rfl)
theorem dX12_init_2_14 : decode cX12_init_2 14 = .ok (.invokespecial 17, 3) := dk_183 0 17 (dk_at dksX12_init_2_0 14 rfl rfl)
theorem dX12_init_2_17 : decode cX12_init_2 17 = .ok (.putfield 18, 3) := dk_181 0 18 (dk_at dksX12_init_2_0 17 rfl rfl)
theorem dX12_init_2_20 : decode cX12_init_2 20 = .ok (.aload_n 0, 1) := dk_42 (dk_at dksX12_init_2_0 20 rfl rfl)
theorem dX12_init_2_21 : decode cX12_init_2 21 = .ok (.new 15, 3) := dk_187 0 15 (dk_at dksX12_init_2_0 21 rfl rfl)
theorem dX12_init_2_24 : decode cX12_init_2 24 = .ok (.dup, 1) := dk_89 (dk_at dksX12_init_2_1 0 rfl rfl)
theorem dX12_init_2_25 : decode cX12_init_2 25 = .ok (.invokespecial 17, 3) := dk_183 0 17 (dk_at dksX12_init_2_1 1 rfl rfl)
theorem dX12_init_2_28 : decode cX12_init_2 28 = .ok (.putfield 22, 3) := dk_181 0 22 (dk_at dksX12_init_2_1 4 rfl rfl)
theorem dX12_init_2_31 : decode cX12_init_2 31 = .ok (.aload_n 0, 1) := dk_42 (dk_at dksX12_init_2_1 7 rfl rfl)
theorem dX12_init_2_32 : decode cX12_init_2 32 = .ok (.iload_n 1, 1) := dk_27 (dk_at dksX12_init_2_1 8 rfl rfl)
theorem dX12_init_2_33 : decode cX12_init_2 33 = .ok (.putfield 25, 3) := dk_181 0 25 (dk_at dksX12_init_2_1 9 rfl rfl)
theorem dX12_init_2_36 : decode cX12_init_2 36 = .ok (.aload_n 0, 1) := dk_42 (dk_at dksX12_init_2_1 12 rfl rfl)
theorem dX12_init_2_37 : decode cX12_init_2 37 = .ok (.iload_n 2, 1) := dk_28 (dk_at dksX12_init_2_1 13 rfl rfl)
theorem dX12_init_2_38 : decode cX12_init_2 38 = .ok (.putfield 28, 3) := dk_181 0 28 (dk_at dksX12_init_2_1 14 rfl rfl)
theorem dX12_init_2_41 : decode cX12_init_2 41 = .ok (.aload_n 0, 1) := dk_42 (dk_at dksX12_init_2_1 17 rfl rfl)
theorem dX12_init_2_42 : decode cX12_init_2 42 = .ok (.iload_n 3, 1) := dk_29 (dk_at dksX12_init_2_1 18 rfl rfl)
theorem dX12_init_2_43 : decode cX12_init_2 43 = .ok (.putfield 31, 3) := dk_181 0 31 (dk_at dksX12_init_2_1 19 rfl rfl)
theorem dX12_init_2_46 : decode cX12_init_2 46 = .ok (.aload_n 0, 1) := dk_42 (dk_at dksX12_init_2_1 22 rfl rfl)
theorem dX12_init_2_47 : decode cX12_init_2 47 = .ok (.iload 4, 2) := dk_21 4 (dk_at dksX12_init_2_2 0 rfl rfl)
theorem dX12_init_2_49 : decode cX12_init_2 49 = .ok (.putfield 34, 3) := dk_181 0 34 (dk_at dksX12_init_2_2 2 rfl rfl)
theorem dX12_init_2_52 : decode cX12_init_2 52 = .ok (.aload_n 0, 1) := dk_42 (dk_at dksX12_init_2_2 5 rfl rfl)
theorem dX12_init_2_53 : decode cX12_init_2 53 = .ok (.iload_n 3, 1) := dk_29 (dk_at dksX12_init_2_2 6 rfl rfl)
theorem dX12_init_2_54 : decode cX12_init_2 54 = .ok (.putfield 37, 3) := dk_181 0 37 (dk_at dksX12_init_2_2 7 rfl rfl)
theorem dX12_init_2_57 : decode cX12_init_2 57 = .ok (.return_, 1) := dk_177 (dk_at dksX12_init_2_2 10 rfl rfl)
abbrev cX12_account : ByteArray := prog_15_method_5_code
def yX12_account : MethodName := ⟨RX12, "account", "(I)I"⟩
def dkwX12_account_3 : List UInt8 := [180, 0, 61, 167, 0, 14, 42, 180, 0, 64, 167, 0, 7, 42, 180, 0, 67, 172]
abbrev dktX12_account_3 : List UInt8 := dkwX12_account_3 ++ []
def dkwX12_account_2 : List UInt8 := [42, 180, 0, 52, 167, 0, 35, 42, 180, 0, 55, 167, 0, 28, 42, 180, 0, 58, 167, 0, 21, 42]
abbrev dktX12_account_2 : List UInt8 := dkwX12_account_2 ++ dktX12_account_3
def dkwX12_account_1 : List UInt8 := [170, 0, 0, 0, 0, 0, 70, 0, 0, 0, 0, 0, 0, 0, 4, 0, 0, 0, 35, 0, 0, 0, 42, 0, 0, 0, 49, 0, 0, 0, 56, 0, 0, 0, 63]
abbrev dktX12_account_1 : List UInt8 := dkwX12_account_1 ++ dktX12_account_2
def dkwX12_account_0 : List UInt8 := [27]
abbrev dktX12_account_0 : List UInt8 := dkwX12_account_0 ++ dktX12_account_1
theorem dksX12_account_0 : cX12_account.data.toList.drop 0 = dktX12_account_0 := by decide +kernel
theorem dksX12_account_1 : cX12_account.data.toList.drop 1 = dktX12_account_1 := dk_seg dksX12_account_0 1 rfl rfl
theorem dksX12_account_2 : cX12_account.data.toList.drop 36 = dktX12_account_2 := dk_seg dksX12_account_1 35 rfl rfl
theorem dksX12_account_3 : cX12_account.data.toList.drop 58 = dktX12_account_3 := dk_seg dksX12_account_2 22 rfl rfl
theorem dX12_account_0 : decode cX12_account 0 = .ok (.iload_n 1, 1) := dk_27 (dk_at dksX12_account_0 0 rfl rfl)
theorem dX12_account_1 : decode cX12_account 1 = .ok (.tableswitch 70 0 4 #[35, 42, 49, 56, 63], 35) := by decide +kernel
theorem dX12_account_36 : decode cX12_account 36 = .ok (.aload_n 0, 1) := dk_42 (dk_at dksX12_account_2 0 rfl rfl)
theorem dX12_account_37 : decode cX12_account 37 = .ok (.getfield 52, 3) := dk_180 0 52 (dk_at dksX12_account_2 1 rfl rfl)
theorem dX12_account_40 : decode cX12_account 40 = .ok (.goto 35, 3) := dk_167 0 35 (dk_at dksX12_account_2 4 rfl rfl)
theorem dX12_account_43 : decode cX12_account 43 = .ok (.aload_n 0, 1) := dk_42 (dk_at dksX12_account_2 7 rfl rfl)
theorem dX12_account_44 : decode cX12_account 44 = .ok (.getfield 55, 3) := dk_180 0 55 (dk_at dksX12_account_2 8 rfl rfl)
theorem dX12_account_47 : decode cX12_account 47 = .ok (.goto 28, 3) := dk_167 0 28 (dk_at dksX12_account_2 11 rfl rfl)
theorem dX12_account_50 : decode cX12_account 50 = .ok (.aload_n 0, 1) := dk_42 (dk_at dksX12_account_2 14 rfl rfl)
theorem dX12_account_51 : decode cX12_account 51 = .ok (.getfield 58, 3) := dk_180 0 58 (dk_at dksX12_account_2 15 rfl rfl)
theorem dX12_account_54 : decode cX12_account 54 = .ok (.goto 21, 3) := dk_167 0 21 (dk_at dksX12_account_2 18 rfl rfl)
theorem dX12_account_57 : decode cX12_account 57 = .ok (.aload_n 0, 1) := dk_42 (dk_at dksX12_account_2 21 rfl rfl)
theorem dX12_account_58 : decode cX12_account 58 = .ok (.getfield 61, 3) := dk_180 0 61 (dk_at dksX12_account_3 0 rfl rfl)
theorem dX12_account_61 : decode cX12_account 61 = .ok (.goto 14, 3) := dk_167 0 14 (dk_at dksX12_account_3 3 rfl rfl)
theorem dX12_account_64 : decode cX12_account 64 = .ok (.aload_n 0, 1) := dk_42 (dk_at dksX12_account_3 6 rfl rfl)
theorem dX12_account_65 : decode cX12_account 65 = .ok (.getfield 64, 3) := dk_180 0 64 (dk_at dksX12_account_3 7 rfl rfl)
theorem dX12_account_68 : decode cX12_account 68 = .ok (.goto 7, 3) := dk_167 0 7 (dk_at dksX12_account_3 10 rfl rfl)
theorem dX12_account_71 : decode cX12_account 71 = .ok (.aload_n 0, 1) := dk_42 (dk_at dksX12_account_3 13 rfl rfl)
theorem dX12_account_72 : decode cX12_account 72 = .ok (.getfield 67, 3) := dk_180 0 67 (dk_at dksX12_account_3 14 rfl rfl)
theorem dX12_account_75 : decode cX12_account 75 = .ok (.ireturn, 1) := dk_172 (dk_at dksX12_account_3 17 rfl rfl)
abbrev cX12_isOnWayTo : ByteArray := prog_15_method_6_code
def yX12_isOnWayTo : MethodName := ⟨RX12, "isOnWayTo", "(I)Z"⟩
def dkwX12_isOnWayTo_2 : List UInt8 := [167, 0, 4, 3, 172]
abbrev dktX12_isOnWayTo_2 : List UInt8 := dkwX12_isOnWayTo_2 ++ []
def dkwX12_isOnWayTo_1 : List UInt8 := [27, 160, 0, 26, 42, 180, 0, 18, 3, 185, 0, 99, 2, 0, 192, 0, 87, 180, 0, 92, 153, 0, 7, 4]
abbrev dktX12_isOnWayTo_1 : List UInt8 := dkwX12_isOnWayTo_1 ++ dktX12_isOnWayTo_2
def dkwX12_isOnWayTo_0 : List UInt8 := [42, 180, 0, 9, 2, 159, 0, 46, 42, 180, 0, 18, 3, 185, 0, 99, 2, 0, 192, 0, 87, 180, 0, 89]
abbrev dktX12_isOnWayTo_0 : List UInt8 := dkwX12_isOnWayTo_0 ++ dktX12_isOnWayTo_1
theorem dksX12_isOnWayTo_0 : cX12_isOnWayTo.data.toList.drop 0 = dktX12_isOnWayTo_0 := by decide +kernel
theorem dksX12_isOnWayTo_1 : cX12_isOnWayTo.data.toList.drop 24 = dktX12_isOnWayTo_1 := dk_seg dksX12_isOnWayTo_0 24 rfl rfl
theorem dksX12_isOnWayTo_2 : cX12_isOnWayTo.data.toList.drop 48 = dktX12_isOnWayTo_2 := dk_seg dksX12_isOnWayTo_1 24 rfl rfl
theorem dX12_isOnWayTo_0 : decode cX12_isOnWayTo 0 = .ok (.aload_n 0, 1) := dk_42 (dk_at dksX12_isOnWayTo_0 0 rfl rfl)
theorem dX12_isOnWayTo_1 : decode cX12_isOnWayTo 1 = .ok (.getfield 9, 3) := dk_180 0 9 (dk_at dksX12_isOnWayTo_0 1 rfl rfl)
theorem dX12_isOnWayTo_4 : decode cX12_isOnWayTo 4 = .ok (.iconst (-1), 1) := dk_2 (dk_at dksX12_isOnWayTo_0 4 rfl rfl)
theorem dX12_isOnWayTo_5 : decode cX12_isOnWayTo 5 = .ok (.if_icmp .eq 46, 3) := dk_159 0 46 (dk_at dksX12_isOnWayTo_0 5 rfl rfl)
theorem dX12_isOnWayTo_8 : decode cX12_isOnWayTo 8 = .ok (.aload_n 0, 1) := dk_42 (dk_at dksX12_isOnWayTo_0 8 rfl rfl)
theorem dX12_isOnWayTo_9 : decode cX12_isOnWayTo 9 = .ok (.getfield 18, 3) := dk_180 0 18 (dk_at dksX12_isOnWayTo_0 9 rfl rfl)
theorem dX12_isOnWayTo_12 : decode cX12_isOnWayTo 12 = .ok (.iconst 0, 1) := dk_3 (dk_at dksX12_isOnWayTo_0 12 rfl rfl)
theorem dX12_isOnWayTo_13 : decode cX12_isOnWayTo 13 = .ok (.invokeinterface 99 2, 5) := by decide +kernel
theorem dX12_isOnWayTo_18 : decode cX12_isOnWayTo 18 = .ok (.checkcast 87, 3) := dk_192 0 87 (dk_at dksX12_isOnWayTo_0 18 rfl rfl)
theorem dX12_isOnWayTo_21 : decode cX12_isOnWayTo 21 = .ok (.getfield 89, 3) := dk_180 0 89 (dk_at dksX12_isOnWayTo_0 21 rfl rfl)
theorem dX12_isOnWayTo_24 : decode cX12_isOnWayTo 24 = .ok (.iload_n 1, 1) := dk_27 (dk_at dksX12_isOnWayTo_1 0 rfl rfl)
theorem dX12_isOnWayTo_25 : decode cX12_isOnWayTo 25 = .ok (.if_icmp .ne 26, 3) := dk_160 0 26 (dk_at dksX12_isOnWayTo_1 1 rfl rfl)
theorem dX12_isOnWayTo_28 : decode cX12_isOnWayTo 28 = .ok (.aload_n 0, 1) := dk_42 (dk_at dksX12_isOnWayTo_1 4 rfl rfl)
theorem dX12_isOnWayTo_29 : decode cX12_isOnWayTo 29 = .ok (.getfield 18, 3) := dk_180 0 18 (dk_at dksX12_isOnWayTo_1 5 rfl rfl)
theorem dX12_isOnWayTo_32 : decode cX12_isOnWayTo 32 = .ok (.iconst 0, 1) := dk_3 (dk_at dksX12_isOnWayTo_1 8 rfl rfl)
theorem dX12_isOnWayTo_33 : decode cX12_isOnWayTo 33 = .ok (.invokeinterface 99 2, 5) := by decide +kernel
theorem dX12_isOnWayTo_38 : decode cX12_isOnWayTo 38 = .ok (.checkcast 87, 3) := dk_192 0 87 (dk_at dksX12_isOnWayTo_1 14 rfl rfl)
theorem dX12_isOnWayTo_41 : decode cX12_isOnWayTo 41 = .ok (.getfield 92, 3) := dk_180 0 92 (dk_at dksX12_isOnWayTo_1 17 rfl rfl)
theorem dX12_isOnWayTo_44 : decode cX12_isOnWayTo 44 = .ok (.ifCond .eq 7, 3) := dk_153 0 7 (dk_at dksX12_isOnWayTo_1 20 rfl rfl)
theorem dX12_isOnWayTo_47 : decode cX12_isOnWayTo 47 = .ok (.iconst 1, 1) := dk_4 (dk_at dksX12_isOnWayTo_1 23 rfl rfl)
theorem dX12_isOnWayTo_48 : decode cX12_isOnWayTo 48 = .ok (.goto 4, 3) := dk_167 0 4 (dk_at dksX12_isOnWayTo_2 0 rfl rfl)
theorem dX12_isOnWayTo_51 : decode cX12_isOnWayTo 51 = .ok (.iconst 0, 1) := dk_3 (dk_at dksX12_isOnWayTo_2 3 rfl rfl)
theorem dX12_isOnWayTo_52 : decode cX12_isOnWayTo 52 = .ok (.ireturn, 1) := dk_172 (dk_at dksX12_isOnWayTo_2 4 rfl rfl)
abbrev cX12_remove : ByteArray := prog_15_method_4_code
def yX12_remove : MethodName := ⟨RX12, "remove", "(IZ)V"⟩
def dkwX12_remove_2 : List UInt8 := [25, 4, 180, 0, 92, 154, 0, 9, 45, 185, 0, 96, 1, 0, 167, 255, 209, 177]
abbrev dktX12_remove_2 : List UInt8 := dkwX12_remove_2 ++ []
def dkwX12_remove_1 : List UInt8 := [185, 0, 83, 1, 0, 192, 0, 87, 58, 4, 25, 4, 180, 0, 89, 27, 160, 0, 21, 28, 153, 0, 11]
abbrev dktX12_remove_1 : List UInt8 := dkwX12_remove_1 ++ dktX12_remove_2
def dkwX12_remove_0 : List UInt8 := [42, 180, 0, 18, 185, 0, 73, 1, 0, 78, 45, 185, 0, 77, 1, 0, 153, 0, 44, 45]
abbrev dktX12_remove_0 : List UInt8 := dkwX12_remove_0 ++ dktX12_remove_1
theorem dksX12_remove_0 : cX12_remove.data.toList.drop 0 = dktX12_remove_0 := by decide +kernel
theorem dksX12_remove_1 : cX12_remove.data.toList.drop 20 = dktX12_remove_1 := dk_seg dksX12_remove_0 20 rfl rfl
theorem dksX12_remove_2 : cX12_remove.data.toList.drop 43 = dktX12_remove_2 := dk_seg dksX12_remove_1 23 rfl rfl
theorem dX12_remove_0 : decode cX12_remove 0 = .ok (.aload_n 0, 1) := dk_42 (dk_at dksX12_remove_0 0 rfl rfl)
theorem dX12_remove_1 : decode cX12_remove 1 = .ok (.getfield 18, 3) := dk_180 0 18 (dk_at dksX12_remove_0 1 rfl rfl)
theorem dX12_remove_4 : decode cX12_remove 4 = .ok (.invokeinterface 73 1, 5) := by decide +kernel
theorem dX12_remove_9 : decode cX12_remove 9 = .ok (.astore_n 3, 1) := dk_78 (dk_at dksX12_remove_0 9 rfl rfl)
theorem dX12_remove_10 : decode cX12_remove 10 = .ok (.aload_n 3, 1) := dk_45 (dk_at dksX12_remove_0 10 rfl rfl)
theorem dX12_remove_11 : decode cX12_remove 11 = .ok (.invokeinterface 77 1, 5) := by decide +kernel
theorem dX12_remove_16 : decode cX12_remove 16 = .ok (.ifCond .eq 44, 3) := dk_153 0 44 (dk_at dksX12_remove_0 16 rfl rfl)
theorem dX12_remove_19 : decode cX12_remove 19 = .ok (.aload_n 3, 1) := dk_45 (dk_at dksX12_remove_0 19 rfl rfl)
theorem dX12_remove_20 : decode cX12_remove 20 = .ok (.invokeinterface 83 1, 5) := by decide +kernel
theorem dX12_remove_25 : decode cX12_remove 25 = .ok (.checkcast 87, 3) := dk_192 0 87 (dk_at dksX12_remove_1 5 rfl rfl)
theorem dX12_remove_28 : decode cX12_remove 28 = .ok (.astore 4, 2) := dk_58 4 (dk_at dksX12_remove_1 8 rfl rfl)
theorem dX12_remove_30 : decode cX12_remove 30 = .ok (.aload 4, 2) := dk_25 4 (dk_at dksX12_remove_1 10 rfl rfl)
theorem dX12_remove_32 : decode cX12_remove 32 = .ok (.getfield 89, 3) := dk_180 0 89 (dk_at dksX12_remove_1 12 rfl rfl)
theorem dX12_remove_35 : decode cX12_remove 35 = .ok (.iload_n 1, 1) := dk_27 (dk_at dksX12_remove_1 15 rfl rfl)
theorem dX12_remove_36 : decode cX12_remove 36 = .ok (.if_icmp .ne 21, 3) := dk_160 0 21 (dk_at dksX12_remove_1 16 rfl rfl)
theorem dX12_remove_39 : decode cX12_remove 39 = .ok (.iload_n 2, 1) := dk_28 (dk_at dksX12_remove_1 19 rfl rfl)
theorem dX12_remove_40 : decode cX12_remove 40 = .ok (.ifCond .eq 11, 3) := dk_153 0 11 (dk_at dksX12_remove_1 20 rfl rfl)
theorem dX12_remove_43 : decode cX12_remove 43 = .ok (.aload 4, 2) := dk_25 4 (dk_at dksX12_remove_2 0 rfl rfl)
theorem dX12_remove_45 : decode cX12_remove 45 = .ok (.getfield 92, 3) := dk_180 0 92 (dk_at dksX12_remove_2 2 rfl rfl)
theorem dX12_remove_48 : decode cX12_remove 48 = .ok (.ifCond .ne 9, 3) := dk_154 0 9 (dk_at dksX12_remove_2 5 rfl rfl)
theorem dX12_remove_51 : decode cX12_remove 51 = .ok (.aload_n 3, 1) := dk_45 (dk_at dksX12_remove_2 8 rfl rfl)
theorem dX12_remove_52 : decode cX12_remove 52 = .ok (.invokeinterface 96 1, 5) := by decide +kernel
theorem dX12_remove_57 : decode cX12_remove 57 = .ok (.goto (-47), 3) := dk_167 255 209 (dk_at dksX12_remove_2 14 rfl rfl)
theorem dX12_remove_60 : decode cX12_remove 60 = .ok (.return_, 1) := dk_177 (dk_at dksX12_remove_2 17 rfl rfl)
abbrev cX13_init : ByteArray := prog_21_method_1_code
def yX13_init : MethodName := ⟨RX13, "<init>", "(LSharedTaxis$State;)V"⟩
def dkwX13_init_0 : List UInt8 := [42, 183, 0, 3, 42, 16, 24, 188, 10, 181, 0, 9, 42, 43, 181, 0, 15, 177]
abbrev dktX13_init_0 : List UInt8 := dkwX13_init_0 ++ []
theorem dksX13_init_0 : cX13_init.data.toList.drop 0 = dktX13_init_0 := by decide +kernel
theorem dX13_init_0 : decode cX13_init 0 = .ok (.aload_n 0, 1) := dk_42 (dk_at dksX13_init_0 0 rfl rfl)
theorem dX13_init_1 : decode cX13_init 1 = .ok (.invokespecial 3, 3) := dk_183 0 3 (dk_at dksX13_init_0 1 rfl rfl)
theorem dX13_init_4 : decode cX13_init 4 = .ok (.aload_n 0, 1) := dk_42 (dk_at dksX13_init_0 4 rfl rfl)
theorem dX13_init_5 : decode cX13_init 5 = .ok (.bipush 24, 2) := dk_16 24 (dk_at dksX13_init_0 5 rfl rfl)
theorem dX13_init_7 : decode cX13_init 7 = .ok (.newarray .int, 2) := dk_188_10 (dk_at dksX13_init_0 7 rfl rfl)
theorem dX13_init_9 : decode cX13_init 9 = .ok (.putfield 9, 3) := dk_181 0 9 (dk_at dksX13_init_0 9 rfl rfl)
theorem dX13_init_12 : decode cX13_init 12 = .ok (.aload_n 0, 1) := dk_42 (dk_at dksX13_init_0 12 rfl rfl)
theorem dX13_init_13 : decode cX13_init 13 = .ok (.aload_n 1, 1) := dk_43 (dk_at dksX13_init_0 13 rfl rfl)
theorem dX13_init_14 : decode cX13_init 14 = .ok (.putfield 15, 3) := dk_181 0 15 (dk_at dksX13_init_0 14 rfl rfl)
theorem dX13_init_17 : decode cX13_init 17 = .ok (.return_, 1) := dk_177 (dk_at dksX13_init_0 17 rfl rfl)
abbrev cX13_begin : ByteArray := prog_21_method_2_code
def yX13_begin : MethodName := ⟨RX13, "begin", "(LSharedTaxis$Taxi;Ljava/util/List;)LSharedTaxis$Walk;"⟩
def dkwX13_begin_5 : List UInt8 := [192, 0, 79, 180, 0, 81, 79, 132, 3, 1, 167, 255, 185, 42, 176]
abbrev dktX13_begin_5 : List UInt8 := dkwX13_begin_5 ++ []
def dkwX13_begin_4 : List UInt8 := [180, 0, 76, 43, 180, 0, 58, 29, 185, 0, 67, 2, 0, 192, 0, 71, 182, 0, 73, 185, 0, 67, 2, 0]
abbrev dktX13_begin_4 : List UInt8 := dkwX13_begin_4 ++ dktX13_begin_5
def dkwX13_begin_3 : List UInt8 := [180, 0, 9, 43, 180, 0, 58, 29, 185, 0, 67, 2, 0, 192, 0, 71, 182, 0, 73, 42, 180, 0, 15]
abbrev dktX13_begin_3 : List UInt8 := dkwX13_begin_3 ++ dktX13_begin_4
def dkwX13_begin_2 : List UInt8 := [181, 0, 51, 42, 3, 181, 0, 54, 3, 62, 29, 43, 180, 0, 58, 185, 0, 61, 1, 0, 162, 0, 64, 42]
abbrev dktX13_begin_2 : List UInt8 := dkwX13_begin_2 ++ dktX13_begin_3
def dkwX13_begin_1 : List UInt8 := [43, 180, 0, 37, 181, 0, 40, 42, 43, 180, 0, 41, 181, 0, 44, 42, 42, 180, 0, 15, 43, 182, 0, 45]
abbrev dktX13_begin_1 : List UInt8 := dkwX13_begin_1 ++ dktX13_begin_2
def dkwX13_begin_0 : List UInt8 := [42, 43, 181, 0, 19, 42, 44, 181, 0, 23, 42, 3, 181, 0, 27, 42, 43, 180, 0, 31, 181, 0, 36, 42]
abbrev dktX13_begin_0 : List UInt8 := dkwX13_begin_0 ++ dktX13_begin_1
theorem dksX13_begin_0 : cX13_begin.data.toList.drop 0 = dktX13_begin_0 := by decide +kernel
theorem dksX13_begin_1 : cX13_begin.data.toList.drop 24 = dktX13_begin_1 := dk_seg dksX13_begin_0 24 rfl rfl
theorem dksX13_begin_2 : cX13_begin.data.toList.drop 48 = dktX13_begin_2 := dk_seg dksX13_begin_1 24 rfl rfl
theorem dksX13_begin_3 : cX13_begin.data.toList.drop 72 = dktX13_begin_3 := dk_seg dksX13_begin_2 24 rfl rfl
theorem dksX13_begin_4 : cX13_begin.data.toList.drop 95 = dktX13_begin_4 := dk_seg dksX13_begin_3 23 rfl rfl
theorem dksX13_begin_5 : cX13_begin.data.toList.drop 119 = dktX13_begin_5 := dk_seg dksX13_begin_4 24 rfl rfl
theorem dX13_begin_0 : decode cX13_begin 0 = .ok (.aload_n 0, 1) := dk_42 (dk_at dksX13_begin_0 0 rfl rfl)
theorem dX13_begin_1 : decode cX13_begin 1 = .ok (.aload_n 1, 1) := dk_43 (dk_at dksX13_begin_0 1 rfl rfl)
theorem dX13_begin_2 : decode cX13_begin 2 = .ok (.putfield 19, 3) := dk_181 0 19 (dk_at dksX13_begin_0 2 rfl rfl)
theorem dX13_begin_5 : decode cX13_begin 5 = .ok (.aload_n 0, 1) := dk_42 (dk_at dksX13_begin_0 5 rfl rfl)
theorem dX13_begin_6 : decode cX13_begin 6 = .ok (.aload_n 2, 1) := dk_44 (dk_at dksX13_begin_0 6 rfl rfl)
theorem dX13_begin_7 : decode cX13_begin 7 = .ok (.putfield 23, 3) := dk_181 0 23 (dk_at dksX13_begin_0 7 rfl rfl)
theorem dX13_begin_10 : decode cX13_begin 10 = .ok (.aload_n 0, 1) := dk_42 (dk_at dksX13_begin_0 10 rfl rfl)
theorem dX13_begin_11 : decode cX13_begin 11 = .ok (.iconst 0, 1) := dk_3 (dk_at dksX13_begin_0 11 rfl rfl)
theorem dX13_begin_12 : decode cX13_begin 12 = .ok (.putfield 27, 3) := dk_181 0 27 (dk_at dksX13_begin_0 12 rfl rfl)
theorem dX13_begin_15 : decode cX13_begin 15 = .ok (.aload_n 0, 1) := dk_42 (dk_at dksX13_begin_0 15 rfl rfl)
theorem dX13_begin_16 : decode cX13_begin 16 = .ok (.aload_n 1, 1) := dk_43 (dk_at dksX13_begin_0 16 rfl rfl)
theorem dX13_begin_17 : decode cX13_begin 17 = .ok (.getfield 31, 3) := dk_180 0 31 (dk_at dksX13_begin_0 17 rfl rfl)
theorem dX13_begin_20 : decode cX13_begin 20 = .ok (.putfield 36, 3) := dk_181 0 36 (dk_at dksX13_begin_0 20 rfl rfl)
theorem dX13_begin_23 : decode cX13_begin 23 = .ok (.aload_n 0, 1) := dk_42 (dk_at dksX13_begin_0 23 rfl rfl)
theorem dX13_begin_24 : decode cX13_begin 24 = .ok (.aload_n 1, 1) := dk_43 (dk_at dksX13_begin_1 0 rfl rfl)
theorem dX13_begin_25 : decode cX13_begin 25 = .ok (.getfield 37, 3) := dk_180 0 37 (dk_at dksX13_begin_1 1 rfl rfl)
theorem dX13_begin_28 : decode cX13_begin 28 = .ok (.putfield 40, 3) := dk_181 0 40 (dk_at dksX13_begin_1 4 rfl rfl)
theorem dX13_begin_31 : decode cX13_begin 31 = .ok (.aload_n 0, 1) := dk_42 (dk_at dksX13_begin_1 7 rfl rfl)
theorem dX13_begin_32 : decode cX13_begin 32 = .ok (.aload_n 1, 1) := dk_43 (dk_at dksX13_begin_1 8 rfl rfl)
theorem dX13_begin_33 : decode cX13_begin 33 = .ok (.getfield 41, 3) := dk_180 0 41 (dk_at dksX13_begin_1 9 rfl rfl)
theorem dX13_begin_36 : decode cX13_begin 36 = .ok (.putfield 44, 3) := dk_181 0 44 (dk_at dksX13_begin_1 12 rfl rfl)
theorem dX13_begin_39 : decode cX13_begin 39 = .ok (.aload_n 0, 1) := dk_42 (dk_at dksX13_begin_1 15 rfl rfl)
theorem dX13_begin_40 : decode cX13_begin 40 = .ok (.aload_n 0, 1) := dk_42 (dk_at dksX13_begin_1 16 rfl rfl)
theorem dX13_begin_41 : decode cX13_begin 41 = .ok (.getfield 15, 3) := dk_180 0 15 (dk_at dksX13_begin_1 17 rfl rfl)
theorem dX13_begin_44 : decode cX13_begin 44 = .ok (.aload_n 1, 1) := dk_43 (dk_at dksX13_begin_1 20 rfl rfl)
theorem dX13_begin_45 : decode cX13_begin 45 = .ok (.invokevirtual 45, 3) := dk_182 0 45 (dk_at dksX13_begin_1 21 rfl rfl)
theorem dX13_begin_48 : decode cX13_begin 48 = .ok (.putfield 51, 3) := dk_181 0 51 (dk_at dksX13_begin_2 0 rfl rfl)
theorem dX13_begin_51 : decode cX13_begin 51 = .ok (.aload_n 0, 1) := dk_42 (dk_at dksX13_begin_2 3 rfl rfl)
theorem dX13_begin_52 : decode cX13_begin 52 = .ok (.iconst 0, 1) := dk_3 (dk_at dksX13_begin_2 4 rfl rfl)
theorem dX13_begin_53 : decode cX13_begin 53 = .ok (.putfield 54, 3) := dk_181 0 54 (dk_at dksX13_begin_2 5 rfl rfl)
theorem dX13_begin_56 : decode cX13_begin 56 = .ok (.iconst 0, 1) := dk_3 (dk_at dksX13_begin_2 8 rfl rfl)
theorem dX13_begin_57 : decode cX13_begin 57 = .ok (.istore_n 3, 1) := dk_62 (dk_at dksX13_begin_2 9 rfl rfl)
theorem dX13_begin_58 : decode cX13_begin 58 = .ok (.iload_n 3, 1) := dk_29 (dk_at dksX13_begin_2 10 rfl rfl)
theorem dX13_begin_59 : decode cX13_begin 59 = .ok (.aload_n 1, 1) := dk_43 (dk_at dksX13_begin_2 11 rfl rfl)
theorem dX13_begin_60 : decode cX13_begin 60 = .ok (.getfield 58, 3) := dk_180 0 58 (dk_at dksX13_begin_2 12 rfl rfl)
theorem dX13_begin_63 : decode cX13_begin 63 = .ok (.invokeinterface 61 1, 5) := by decide +kernel
theorem dX13_begin_68 : decode cX13_begin 68 = .ok (.if_icmp .ge 64, 3) := dk_162 0 64 (dk_at dksX13_begin_2 20 rfl rfl)
theorem dX13_begin_71 : decode cX13_begin 71 = .ok (.aload_n 0, 1) := dk_42 (dk_at dksX13_begin_2 23 rfl rfl)
theorem dX13_begin_72 : decode cX13_begin 72 = .ok (.getfield 9, 3) := dk_180 0 9 (dk_at dksX13_begin_3 0 rfl rfl)
theorem dX13_begin_75 : decode cX13_begin 75 = .ok (.aload_n 1, 1) := dk_43 (dk_at dksX13_begin_3 3 rfl rfl)
theorem dX13_begin_76 : decode cX13_begin 76 = .ok (.getfield 58, 3) := dk_180 0 58 (dk_at dksX13_begin_3 4 rfl rfl)
theorem dX13_begin_79 : decode cX13_begin 79 = .ok (.iload_n 3, 1) := dk_29 (dk_at dksX13_begin_3 7 rfl rfl)
theorem dX13_begin_80 : decode cX13_begin 80 = .ok (.invokeinterface 67 2, 5) := by decide +kernel
theorem dX13_begin_85 : decode cX13_begin 85 = .ok (.checkcast 71, 3) := dk_192 0 71 (dk_at dksX13_begin_3 13 rfl rfl)
theorem dX13_begin_88 : decode cX13_begin 88 = .ok (.invokevirtual 73, 3) := dk_182 0 73 (dk_at dksX13_begin_3 16 rfl rfl)
theorem dX13_begin_91 : decode cX13_begin 91 = .ok (.aload_n 0, 1) := dk_42 (dk_at dksX13_begin_3 19 rfl rfl)
theorem dX13_begin_92 : decode cX13_begin 92 = .ok (.getfield 15, 3) := dk_180 0 15 (dk_at dksX13_begin_3 20 rfl rfl)
theorem dX13_begin_95 : decode cX13_begin 95 = .ok (.getfield 76, 3) := dk_180 0 76 (dk_at dksX13_begin_4 0 rfl rfl)
theorem dX13_begin_98 : decode cX13_begin 98 = .ok (.aload_n 1, 1) := dk_43 (dk_at dksX13_begin_4 3 rfl rfl)
theorem dX13_begin_99 : decode cX13_begin 99 = .ok (.getfield 58, 3) := dk_180 0 58 (dk_at dksX13_begin_4 4 rfl rfl)
theorem dX13_begin_102 : decode cX13_begin 102 = .ok (.iload_n 3, 1) := dk_29 (dk_at dksX13_begin_4 7 rfl rfl)
theorem dX13_begin_103 : decode cX13_begin 103 = .ok (.invokeinterface 67 2, 5) := by decide +kernel
theorem dX13_begin_108 : decode cX13_begin 108 = .ok (.checkcast 71, 3) := dk_192 0 71 (dk_at dksX13_begin_4 13 rfl rfl)
theorem dX13_begin_111 : decode cX13_begin 111 = .ok (.invokevirtual 73, 3) := dk_182 0 73 (dk_at dksX13_begin_4 16 rfl rfl)
theorem dX13_begin_114 : decode cX13_begin 114 = .ok (.invokeinterface 67 2, 5) := by decide +kernel
theorem dX13_begin_119 : decode cX13_begin 119 = .ok (.checkcast 79, 3) := dk_192 0 79 (dk_at dksX13_begin_5 0 rfl rfl)
theorem dX13_begin_122 : decode cX13_begin 122 = .ok (.getfield 81, 3) := dk_180 0 81 (dk_at dksX13_begin_5 3 rfl rfl)
theorem dX13_begin_125 : decode cX13_begin 125 = .ok (.iastore, 1) := dk_79 (dk_at dksX13_begin_5 6 rfl rfl)
theorem dX13_begin_126 : decode cX13_begin 126 = .ok (.iinc 3 1, 3) := dk_132 3 1 (dk_at dksX13_begin_5 7 rfl rfl)
theorem dX13_begin_129 : decode cX13_begin 129 = .ok (.goto (-71), 3) := dk_167 255 185 (dk_at dksX13_begin_5 10 rfl rfl)
theorem dX13_begin_132 : decode cX13_begin 132 = .ok (.aload_n 0, 1) := dk_42 (dk_at dksX13_begin_5 13 rfl rfl)
theorem dX13_begin_133 : decode cX13_begin 133 = .ok (.areturn, 1) := dk_176 (dk_at dksX13_begin_5 14 rfl rfl)
abbrev cX13_next : ByteArray := prog_21_method_5_code
def yX13_next : MethodName := ⟨RX13, "next", "()V"⟩
def dkwX13_next_14 : List UInt8 := [181, 0, 40, 42, 89, 180, 0, 27, 4, 96, 181, 0, 27, 177]
abbrev dktX13_next_14 : List UInt8 := dkwX13_next_14 ++ []
def dkwX13_next_13 : List UInt8 := [180, 0, 51, 42, 180, 0, 104, 180, 0, 152, 100, 181, 0, 51, 42, 27, 181, 0, 36, 42, 42, 180, 0, 146]
abbrev dktX13_next_13 : List UInt8 := dkwX13_next_13 ++ dktX13_next_14
def dkwX13_next_12 : List UInt8 := [153, 0, 7, 3, 167, 0, 10, 42, 180, 0, 104, 180, 0, 152, 96, 181, 0, 51, 167, 0, 19, 42, 89]
abbrev dktX13_next_12 : List UInt8 := dkwX13_next_12 ++ dktX13_next_13
def dkwX13_next_11 : List UInt8 := [180, 0, 95, 180, 0, 114, 42, 180, 0, 146, 79, 42, 89, 180, 0, 51, 42, 180, 0, 104, 180, 0, 143]
abbrev dktX13_next_11 : List UInt8 := dkwX13_next_11 ++ dktX13_next_12
def dkwX13_next_10 : List UInt8 := [42, 180, 0, 51, 181, 0, 149, 42, 180, 0, 95, 180, 0, 99, 153, 0, 52, 42, 180, 0, 9, 42]
abbrev dktX13_next_10 : List UInt8 := dkwX13_next_10 ++ dktX13_next_11
def dkwX13_next_9 : List UInt8 := [153, 0, 17, 42, 180, 0, 104, 180, 0, 143, 153, 0, 7, 6, 167, 0, 4, 4, 46, 96, 181, 0, 146, 42]
abbrev dktX13_next_9 : List UInt8 := dkwX13_next_9 ++ dktX13_next_10
def dkwX13_next_8 : List UInt8 := [96, 181, 0, 140, 42, 42, 180, 0, 140, 42, 180, 0, 15, 180, 0, 137, 42, 180, 0, 95, 180, 0, 99]
abbrev dktX13_next_8 : List UInt8 := dkwX13_next_8 ++ dktX13_next_9
def dkwX13_next_7 : List UInt8 := [167, 0, 7, 42, 180, 0, 44, 42, 180, 0, 111, 96, 181, 0, 44, 42, 42, 180, 0, 134, 42, 180, 0, 111]
abbrev dktX13_next_7 : List UInt8 := dkwX13_next_7 ++ dktX13_next_8
def dkwX13_next_6 : List UInt8 := [42, 180, 0, 134, 42, 180, 0, 40, 100, 42, 180, 0, 15, 180, 0, 137, 16, 6, 46, 161, 0, 7, 3]
abbrev dktX13_next_6 : List UInt8 := dkwX13_next_6 ++ dktX13_next_7
def dkwX13_next_5 : List UInt8 := [181, 0, 54, 42, 3, 42, 180, 0, 111, 184, 0, 89, 181, 0, 111, 42, 42, 182, 0, 131, 181, 0, 134, 42]
abbrev dktX13_next_5 : List UInt8 := dkwX13_next_5 ++ dktX13_next_6
def dkwX13_next_4 : List UInt8 := [181, 0, 111, 42, 89, 180, 0, 54, 42, 180, 0, 111, 2, 160, 0, 7, 4, 167, 0, 4, 3, 128]
abbrev dktX13_next_4 : List UInt8 := dkwX13_next_4 ++ dktX13_next_5
def dkwX13_next_3 : List UInt8 := [180, 0, 119, 60, 42, 42, 180, 0, 15, 180, 0, 122, 180, 0, 126, 42, 180, 0, 36, 50, 27, 46]
abbrev dktX13_next_3 : List UInt8 := dkwX13_next_3 ++ dktX13_next_4
def dkwX13_next_2 : List UInt8 := [42, 180, 0, 95, 180, 0, 99, 153, 0, 13, 42, 180, 0, 104, 180, 0, 116, 167, 0, 10, 42, 180, 0, 104]
abbrev dktX13_next_2 : List UInt8 := dkwX13_next_2 ++ dktX13_next_3
def dkwX13_next_1 : List UInt8 := [180, 0, 15, 180, 0, 76, 42, 180, 0, 95, 180, 0, 114, 185, 0, 67, 2, 0, 192, 0, 79, 181, 0, 104]
abbrev dktX13_next_1 : List UInt8 := dkwX13_next_1 ++ dktX13_next_2
def dkwX13_next_0 : List UInt8 := [42, 42, 180, 0, 23, 42, 180, 0, 27, 185, 0, 67, 2, 0, 192, 0, 100, 181, 0, 95, 42, 42]
abbrev dktX13_next_0 : List UInt8 := dkwX13_next_0 ++ dktX13_next_1
theorem dksX13_next_0 : cX13_next.data.toList.drop 0 = dktX13_next_0 := by decide +kernel
theorem dksX13_next_1 : cX13_next.data.toList.drop 22 = dktX13_next_1 := dk_seg dksX13_next_0 22 rfl rfl
theorem dksX13_next_2 : cX13_next.data.toList.drop 46 = dktX13_next_2 := dk_seg dksX13_next_1 24 rfl rfl
theorem dksX13_next_3 : cX13_next.data.toList.drop 70 = dktX13_next_3 := dk_seg dksX13_next_2 24 rfl rfl
theorem dksX13_next_4 : cX13_next.data.toList.drop 92 = dktX13_next_4 := dk_seg dksX13_next_3 22 rfl rfl
theorem dksX13_next_5 : cX13_next.data.toList.drop 114 = dktX13_next_5 := dk_seg dksX13_next_4 22 rfl rfl
theorem dksX13_next_6 : cX13_next.data.toList.drop 138 = dktX13_next_6 := dk_seg dksX13_next_5 24 rfl rfl
theorem dksX13_next_7 : cX13_next.data.toList.drop 161 = dktX13_next_7 := dk_seg dksX13_next_6 23 rfl rfl
theorem dksX13_next_8 : cX13_next.data.toList.drop 185 = dktX13_next_8 := dk_seg dksX13_next_7 24 rfl rfl
theorem dksX13_next_9 : cX13_next.data.toList.drop 208 = dktX13_next_9 := dk_seg dksX13_next_8 23 rfl rfl
theorem dksX13_next_10 : cX13_next.data.toList.drop 232 = dktX13_next_10 := dk_seg dksX13_next_9 24 rfl rfl
theorem dksX13_next_11 : cX13_next.data.toList.drop 254 = dktX13_next_11 := dk_seg dksX13_next_10 22 rfl rfl
theorem dksX13_next_12 : cX13_next.data.toList.drop 277 = dktX13_next_12 := dk_seg dksX13_next_11 23 rfl rfl
theorem dksX13_next_13 : cX13_next.data.toList.drop 300 = dktX13_next_13 := dk_seg dksX13_next_12 23 rfl rfl
theorem dksX13_next_14 : cX13_next.data.toList.drop 324 = dktX13_next_14 := dk_seg dksX13_next_13 24 rfl rfl
theorem dX13_next_0 : decode cX13_next 0 = .ok (.aload_n 0, 1) := dk_42 (dk_at dksX13_next_0 0 rfl rfl)
theorem dX13_next_1 : decode cX13_next 1 = .ok (.aload_n 0, 1) := dk_42 (dk_at dksX13_next_0 1 rfl rfl)
theorem dX13_next_2 : decode cX13_next 2 = .ok (.getfield 23, 3) := dk_180 0 23 (dk_at dksX13_next_0 2 rfl rfl)
theorem dX13_next_5 : decode cX13_next 5 = .ok (.aload_n 0, 1) := dk_42 (dk_at dksX13_next_0 5 rfl rfl)
theorem dX13_next_6 : decode cX13_next 6 = .ok (.getfield 27, 3) := dk_180 0 27 (dk_at dksX13_next_0 6 rfl rfl)
theorem dX13_next_9 : decode cX13_next 9 = .ok (.invokeinterface 67 2, 5) := by decide +kernel
theorem dX13_next_14 : decode cX13_next 14 = .ok (.checkcast 100, 3) := dk_192 0 100 (dk_at dksX13_next_0 14 rfl rfl)
theorem dX13_next_17 : decode cX13_next 17 = .ok (.putfield 95, 3) := dk_181 0 95 (dk_at dksX13_next_0 17 rfl rfl)
theorem dX13_next_20 : decode cX13_next 20 = .ok (.aload_n 0, 1) := dk_42 (dk_at dksX13_next_0 20 rfl rfl)
theorem dX13_next_21 : decode cX13_next 21 = .ok (.aload_n 0, 1) := dk_42 (dk_at dksX13_next_0 21 rfl rfl)
theorem dX13_next_22 : decode cX13_next 22 = .ok (.getfield 15, 3) := dk_180 0 15 (dk_at dksX13_next_1 0 rfl rfl)
theorem dX13_next_25 : decode cX13_next 25 = .ok (.getfield 76, 3) := dk_180 0 76 (dk_at dksX13_next_1 3 rfl rfl)
theorem dX13_next_28 : decode cX13_next 28 = .ok (.aload_n 0, 1) := dk_42 (dk_at dksX13_next_1 6 rfl rfl)
theorem dX13_next_29 : decode cX13_next 29 = .ok (.getfield 95, 3) := dk_180 0 95 (dk_at dksX13_next_1 7 rfl rfl)
theorem dX13_next_32 : decode cX13_next 32 = .ok (.getfield 114, 3) := dk_180 0 114 (dk_at dksX13_next_1 10 rfl rfl)
theorem dX13_next_35 : decode cX13_next 35 = .ok (.invokeinterface 67 2, 5) := by decide +kernel
theorem dX13_next_40 : decode cX13_next 40 = .ok (.checkcast 79, 3) := dk_192 0 79 (dk_at dksX13_next_1 18 rfl rfl)
theorem dX13_next_43 : decode cX13_next 43 = .ok (.putfield 104, 3) := dk_181 0 104 (dk_at dksX13_next_1 21 rfl rfl)
theorem dX13_next_46 : decode cX13_next 46 = .ok (.aload_n 0, 1) := dk_42 (dk_at dksX13_next_2 0 rfl rfl)
theorem dX13_next_47 : decode cX13_next 47 = .ok (.getfield 95, 3) := dk_180 0 95 (dk_at dksX13_next_2 1 rfl rfl)
theorem dX13_next_50 : decode cX13_next 50 = .ok (.getfield 99, 3) := dk_180 0 99 (dk_at dksX13_next_2 4 rfl rfl)
theorem dX13_next_53 : decode cX13_next 53 = .ok (.ifCond .eq 13, 3) := dk_153 0 13 (dk_at dksX13_next_2 7 rfl rfl)
theorem dX13_next_56 : decode cX13_next 56 = .ok (.aload_n 0, 1) := dk_42 (dk_at dksX13_next_2 10 rfl rfl)
theorem dX13_next_57 : decode cX13_next 57 = .ok (.getfield 104, 3) := dk_180 0 104 (dk_at dksX13_next_2 11 rfl rfl)
theorem dX13_next_60 : decode cX13_next 60 = .ok (.getfield 116, 3) := dk_180 0 116 (dk_at dksX13_next_2 14 rfl rfl)
theorem dX13_next_63 : decode cX13_next 63 = .ok (.goto 10, 3) := dk_167 0 10 (dk_at dksX13_next_2 17 rfl rfl)
theorem dX13_next_66 : decode cX13_next 66 = .ok (.aload_n 0, 1) := dk_42 (dk_at dksX13_next_2 20 rfl rfl)
theorem dX13_next_67 : decode cX13_next 67 = .ok (.getfield 104, 3) := dk_180 0 104 (dk_at dksX13_next_2 21 rfl rfl)
theorem dX13_next_70 : decode cX13_next 70 = .ok (.getfield 119, 3) := dk_180 0 119 (dk_at dksX13_next_3 0 rfl rfl)
theorem dX13_next_73 : decode cX13_next 73 = .ok (.istore_n 1, 1) := dk_60 (dk_at dksX13_next_3 3 rfl rfl)
theorem dX13_next_74 : decode cX13_next 74 = .ok (.aload_n 0, 1) := dk_42 (dk_at dksX13_next_3 4 rfl rfl)
theorem dX13_next_75 : decode cX13_next 75 = .ok (.aload_n 0, 1) := dk_42 (dk_at dksX13_next_3 5 rfl rfl)
theorem dX13_next_76 : decode cX13_next 76 = .ok (.getfield 15, 3) := dk_180 0 15 (dk_at dksX13_next_3 6 rfl rfl)
theorem dX13_next_79 : decode cX13_next 79 = .ok (.getfield 122, 3) := dk_180 0 122 (dk_at dksX13_next_3 9 rfl rfl)
theorem dX13_next_82 : decode cX13_next 82 = .ok (.getfield 126, 3) := dk_180 0 126 (dk_at dksX13_next_3 12 rfl rfl)
theorem dX13_next_85 : decode cX13_next 85 = .ok (.aload_n 0, 1) := dk_42 (dk_at dksX13_next_3 15 rfl rfl)
theorem dX13_next_86 : decode cX13_next 86 = .ok (.getfield 36, 3) := dk_180 0 36 (dk_at dksX13_next_3 16 rfl rfl)
theorem dX13_next_89 : decode cX13_next 89 = .ok (.aaload, 1) := dk_50 (dk_at dksX13_next_3 19 rfl rfl)
theorem dX13_next_90 : decode cX13_next 90 = .ok (.iload_n 1, 1) := dk_27 (dk_at dksX13_next_3 20 rfl rfl)
theorem dX13_next_91 : decode cX13_next 91 = .ok (.iaload, 1) := dk_46 (dk_at dksX13_next_3 21 rfl rfl)
theorem dX13_next_92 : decode cX13_next 92 = .ok (.putfield 111, 3) := dk_181 0 111 (dk_at dksX13_next_4 0 rfl rfl)
theorem dX13_next_95 : decode cX13_next 95 = .ok (.aload_n 0, 1) := dk_42 (dk_at dksX13_next_4 3 rfl rfl)
theorem dX13_next_96 : decode cX13_next 96 = .ok (.dup, 1) := dk_89 (dk_at dksX13_next_4 4 rfl rfl)
theorem dX13_next_97 : decode cX13_next 97 = .ok (.getfield 54, 3) := dk_180 0 54 (dk_at dksX13_next_4 5 rfl rfl)
theorem dX13_next_100 : decode cX13_next 100 = .ok (.aload_n 0, 1) := dk_42 (dk_at dksX13_next_4 8 rfl rfl)
theorem dX13_next_101 : decode cX13_next 101 = .ok (.getfield 111, 3) := dk_180 0 111 (dk_at dksX13_next_4 9 rfl rfl)
theorem dX13_next_104 : decode cX13_next 104 = .ok (.iconst (-1), 1) := dk_2 (dk_at dksX13_next_4 12 rfl rfl)
theorem dX13_next_105 : decode cX13_next 105 = .ok (.if_icmp .ne 7, 3) := dk_160 0 7 (dk_at dksX13_next_4 13 rfl rfl)
theorem dX13_next_108 : decode cX13_next 108 = .ok (.iconst 1, 1) := dk_4 (dk_at dksX13_next_4 16 rfl rfl)
theorem dX13_next_109 : decode cX13_next 109 = .ok (.goto 4, 3) := dk_167 0 4 (dk_at dksX13_next_4 17 rfl rfl)
theorem dX13_next_112 : decode cX13_next 112 = .ok (.iconst 0, 1) := dk_3 (dk_at dksX13_next_4 20 rfl rfl)
theorem dX13_next_113 : decode cX13_next 113 = .ok (.ior, 1) := dk_128 (dk_at dksX13_next_4 21 rfl rfl)
theorem dX13_next_114 : decode cX13_next 114 = .ok (.putfield 54, 3) := dk_181 0 54 (dk_at dksX13_next_5 0 rfl rfl)
theorem dX13_next_117 : decode cX13_next 117 = .ok (.aload_n 0, 1) := dk_42 (dk_at dksX13_next_5 3 rfl rfl)
theorem dX13_next_118 : decode cX13_next 118 = .ok (.iconst 0, 1) := dk_3 (dk_at dksX13_next_5 4 rfl rfl)
theorem dX13_next_119 : decode cX13_next 119 = .ok (.aload_n 0, 1) := dk_42 (dk_at dksX13_next_5 5 rfl rfl)
theorem dX13_next_120 : decode cX13_next 120 = .ok (.getfield 111, 3) := dk_180 0 111 (dk_at dksX13_next_5 6 rfl rfl)
theorem dX13_next_123 : decode cX13_next 123 = .ok (.invokestatic 89, 3) := dk_184 0 89 (dk_at dksX13_next_5 9 rfl rfl)
theorem dX13_next_126 : decode cX13_next 126 = .ok (.putfield 111, 3) := dk_181 0 111 (dk_at dksX13_next_5 12 rfl rfl)
theorem dX13_next_129 : decode cX13_next 129 = .ok (.aload_n 0, 1) := dk_42 (dk_at dksX13_next_5 15 rfl rfl)
theorem dX13_next_130 : decode cX13_next 130 = .ok (.aload_n 0, 1) := dk_42 (dk_at dksX13_next_5 16 rfl rfl)
theorem dX13_next_131 : decode cX13_next 131 = .ok (.invokevirtual 131, 3) := dk_182 0 131 (dk_at dksX13_next_5 17 rfl rfl)
theorem dX13_next_134 : decode cX13_next 134 = .ok (.putfield 134, 3) := dk_181 0 134 (dk_at dksX13_next_5 20 rfl rfl)
theorem dX13_next_137 : decode cX13_next 137 = .ok (.aload_n 0, 1) := dk_42 (dk_at dksX13_next_5 23 rfl rfl)
theorem dX13_next_138 : decode cX13_next 138 = .ok (.aload_n 0, 1) := dk_42 (dk_at dksX13_next_6 0 rfl rfl)
theorem dX13_next_139 : decode cX13_next 139 = .ok (.getfield 134, 3) := dk_180 0 134 (dk_at dksX13_next_6 1 rfl rfl)
theorem dX13_next_142 : decode cX13_next 142 = .ok (.aload_n 0, 1) := dk_42 (dk_at dksX13_next_6 4 rfl rfl)
theorem dX13_next_143 : decode cX13_next 143 = .ok (.getfield 40, 3) := dk_180 0 40 (dk_at dksX13_next_6 5 rfl rfl)
theorem dX13_next_146 : decode cX13_next 146 = .ok (.isub, 1) := dk_100 (dk_at dksX13_next_6 8 rfl rfl)
theorem dX13_next_147 : decode cX13_next 147 = .ok (.aload_n 0, 1) := dk_42 (dk_at dksX13_next_6 9 rfl rfl)
theorem dX13_next_148 : decode cX13_next 148 = .ok (.getfield 15, 3) := dk_180 0 15 (dk_at dksX13_next_6 10 rfl rfl)
theorem dX13_next_151 : decode cX13_next 151 = .ok (.getfield 137, 3) := dk_180 0 137 (dk_at dksX13_next_6 13 rfl rfl)
theorem dX13_next_154 : decode cX13_next 154 = .ok (.bipush 6, 2) := dk_16 6 (dk_at dksX13_next_6 16 rfl rfl)
theorem dX13_next_156 : decode cX13_next 156 = .ok (.iaload, 1) := dk_46 (dk_at dksX13_next_6 18 rfl rfl)
theorem dX13_next_157 : decode cX13_next 157 = .ok (.if_icmp .lt 7, 3) := dk_161 0 7 (dk_at dksX13_next_6 19 rfl rfl)
theorem dX13_next_160 : decode cX13_next 160 = .ok (.iconst 0, 1) := dk_3 (dk_at dksX13_next_6 22 rfl rfl)
theorem dX13_next_161 : decode cX13_next 161 = .ok (.goto 7, 3) := dk_167 0 7 (dk_at dksX13_next_7 0 rfl rfl)
theorem dX13_next_164 : decode cX13_next 164 = .ok (.aload_n 0, 1) := dk_42 (dk_at dksX13_next_7 3 rfl rfl)
theorem dX13_next_165 : decode cX13_next 165 = .ok (.getfield 44, 3) := dk_180 0 44 (dk_at dksX13_next_7 4 rfl rfl)
theorem dX13_next_168 : decode cX13_next 168 = .ok (.aload_n 0, 1) := dk_42 (dk_at dksX13_next_7 7 rfl rfl)
theorem dX13_next_169 : decode cX13_next 169 = .ok (.getfield 111, 3) := dk_180 0 111 (dk_at dksX13_next_7 8 rfl rfl)
theorem dX13_next_172 : decode cX13_next 172 = .ok (.iadd, 1) := dk_96 (dk_at dksX13_next_7 11 rfl rfl)
theorem dX13_next_173 : decode cX13_next 173 = .ok (.putfield 44, 3) := dk_181 0 44 (dk_at dksX13_next_7 12 rfl rfl)
theorem dX13_next_176 : decode cX13_next 176 = .ok (.aload_n 0, 1) := dk_42 (dk_at dksX13_next_7 15 rfl rfl)
theorem dX13_next_177 : decode cX13_next 177 = .ok (.aload_n 0, 1) := dk_42 (dk_at dksX13_next_7 16 rfl rfl)
theorem dX13_next_178 : decode cX13_next 178 = .ok (.getfield 134, 3) := dk_180 0 134 (dk_at dksX13_next_7 17 rfl rfl)
theorem dX13_next_181 : decode cX13_next 181 = .ok (.aload_n 0, 1) := dk_42 (dk_at dksX13_next_7 20 rfl rfl)
theorem dX13_next_182 : decode cX13_next 182 = .ok (.getfield 111, 3) := dk_180 0 111 (dk_at dksX13_next_7 21 rfl rfl)
theorem dX13_next_185 : decode cX13_next 185 = .ok (.iadd, 1) := dk_96 (dk_at dksX13_next_8 0 rfl rfl)
theorem dX13_next_186 : decode cX13_next 186 = .ok (.putfield 140, 3) := dk_181 0 140 (dk_at dksX13_next_8 1 rfl rfl)
theorem dX13_next_189 : decode cX13_next 189 = .ok (.aload_n 0, 1) := dk_42 (dk_at dksX13_next_8 4 rfl rfl)
theorem dX13_next_190 : decode cX13_next 190 = .ok (.aload_n 0, 1) := dk_42 (dk_at dksX13_next_8 5 rfl rfl)
theorem dX13_next_191 : decode cX13_next 191 = .ok (.getfield 140, 3) := dk_180 0 140 (dk_at dksX13_next_8 6 rfl rfl)
theorem dX13_next_194 : decode cX13_next 194 = .ok (.aload_n 0, 1) := dk_42 (dk_at dksX13_next_8 9 rfl rfl)
theorem dX13_next_195 : decode cX13_next 195 = .ok (.getfield 15, 3) := dk_180 0 15 (dk_at dksX13_next_8 10 rfl rfl)
theorem dX13_next_198 : decode cX13_next 198 = .ok (.getfield 137, 3) := dk_180 0 137 (dk_at dksX13_next_8 13 rfl rfl)
theorem dX13_next_201 : decode cX13_next 201 = .ok (.aload_n 0, 1) := dk_42 (dk_at dksX13_next_8 16 rfl rfl)
theorem dX13_next_202 : decode cX13_next 202 = .ok (.getfield 95, 3) := dk_180 0 95 (dk_at dksX13_next_8 17 rfl rfl)
theorem dX13_next_205 : decode cX13_next 205 = .ok (.getfield 99, 3) := dk_180 0 99 (dk_at dksX13_next_8 20 rfl rfl)
theorem dX13_next_208 : decode cX13_next 208 = .ok (.ifCond .eq 17, 3) := dk_153 0 17 (dk_at dksX13_next_9 0 rfl rfl)
theorem dX13_next_211 : decode cX13_next 211 = .ok (.aload_n 0, 1) := dk_42 (dk_at dksX13_next_9 3 rfl rfl)
theorem dX13_next_212 : decode cX13_next 212 = .ok (.getfield 104, 3) := dk_180 0 104 (dk_at dksX13_next_9 4 rfl rfl)
theorem dX13_next_215 : decode cX13_next 215 = .ok (.getfield 143, 3) := dk_180 0 143 (dk_at dksX13_next_9 7 rfl rfl)
theorem dX13_next_218 : decode cX13_next 218 = .ok (.ifCond .eq 7, 3) := dk_153 0 7 (dk_at dksX13_next_9 10 rfl rfl)
theorem dX13_next_221 : decode cX13_next 221 = .ok (.iconst 3, 1) := dk_6 (dk_at dksX13_next_9 13 rfl rfl)
theorem dX13_next_222 : decode cX13_next 222 = .ok (.goto 4, 3) := dk_167 0 4 (dk_at dksX13_next_9 14 rfl rfl)
theorem dX13_next_225 : decode cX13_next 225 = .ok (.iconst 1, 1) := dk_4 (dk_at dksX13_next_9 17 rfl rfl)
theorem dX13_next_226 : decode cX13_next 226 = .ok (.iaload, 1) := dk_46 (dk_at dksX13_next_9 18 rfl rfl)
theorem dX13_next_227 : decode cX13_next 227 = .ok (.iadd, 1) := dk_96 (dk_at dksX13_next_9 19 rfl rfl)
theorem dX13_next_228 : decode cX13_next 228 = .ok (.putfield 146, 3) := dk_181 0 146 (dk_at dksX13_next_9 20 rfl rfl)
theorem dX13_next_231 : decode cX13_next 231 = .ok (.aload_n 0, 1) := dk_42 (dk_at dksX13_next_9 23 rfl rfl)
theorem dX13_next_232 : decode cX13_next 232 = .ok (.aload_n 0, 1) := dk_42 (dk_at dksX13_next_10 0 rfl rfl)
theorem dX13_next_233 : decode cX13_next 233 = .ok (.getfield 51, 3) := dk_180 0 51 (dk_at dksX13_next_10 1 rfl rfl)
theorem dX13_next_236 : decode cX13_next 236 = .ok (.putfield 149, 3) := dk_181 0 149 (dk_at dksX13_next_10 4 rfl rfl)
theorem dX13_next_239 : decode cX13_next 239 = .ok (.aload_n 0, 1) := dk_42 (dk_at dksX13_next_10 7 rfl rfl)
theorem dX13_next_240 : decode cX13_next 240 = .ok (.getfield 95, 3) := dk_180 0 95 (dk_at dksX13_next_10 8 rfl rfl)
theorem dX13_next_243 : decode cX13_next 243 = .ok (.getfield 99, 3) := dk_180 0 99 (dk_at dksX13_next_10 11 rfl rfl)
theorem dX13_next_246 : decode cX13_next 246 = .ok (.ifCond .eq 52, 3) := dk_153 0 52 (dk_at dksX13_next_10 14 rfl rfl)
theorem dX13_next_249 : decode cX13_next 249 = .ok (.aload_n 0, 1) := dk_42 (dk_at dksX13_next_10 17 rfl rfl)
theorem dX13_next_250 : decode cX13_next 250 = .ok (.getfield 9, 3) := dk_180 0 9 (dk_at dksX13_next_10 18 rfl rfl)
theorem dX13_next_253 : decode cX13_next 253 = .ok (.aload_n 0, 1) := dk_42 (dk_at dksX13_next_10 21 rfl rfl)
theorem dX13_next_254 : decode cX13_next 254 = .ok (.getfield 95, 3) := dk_180 0 95 (dk_at dksX13_next_11 0 rfl rfl)
theorem dX13_next_257 : decode cX13_next 257 = .ok (.getfield 114, 3) := dk_180 0 114 (dk_at dksX13_next_11 3 rfl rfl)
theorem dX13_next_260 : decode cX13_next 260 = .ok (.aload_n 0, 1) := dk_42 (dk_at dksX13_next_11 6 rfl rfl)
theorem dX13_next_261 : decode cX13_next 261 = .ok (.getfield 146, 3) := dk_180 0 146 (dk_at dksX13_next_11 7 rfl rfl)
theorem dX13_next_264 : decode cX13_next 264 = .ok (.iastore, 1) := dk_79 (dk_at dksX13_next_11 10 rfl rfl)
theorem dX13_next_265 : decode cX13_next 265 = .ok (.aload_n 0, 1) := dk_42 (dk_at dksX13_next_11 11 rfl rfl)
theorem dX13_next_266 : decode cX13_next 266 = .ok (.dup, 1) := dk_89 (dk_at dksX13_next_11 12 rfl rfl)
theorem dX13_next_267 : decode cX13_next 267 = .ok (.getfield 51, 3) := dk_180 0 51 (dk_at dksX13_next_11 13 rfl rfl)
theorem dX13_next_270 : decode cX13_next 270 = .ok (.aload_n 0, 1) := dk_42 (dk_at dksX13_next_11 16 rfl rfl)
theorem dX13_next_271 : decode cX13_next 271 = .ok (.getfield 104, 3) := dk_180 0 104 (dk_at dksX13_next_11 17 rfl rfl)
theorem dX13_next_274 : decode cX13_next 274 = .ok (.getfield 143, 3) := dk_180 0 143 (dk_at dksX13_next_11 20 rfl rfl)
theorem dX13_next_277 : decode cX13_next 277 = .ok (.ifCond .eq 7, 3) := dk_153 0 7 (dk_at dksX13_next_12 0 rfl rfl)
theorem dX13_next_280 : decode cX13_next 280 = .ok (.iconst 0, 1) := dk_3 (dk_at dksX13_next_12 3 rfl rfl)
theorem dX13_next_281 : decode cX13_next 281 = .ok (.goto 10, 3) := dk_167 0 10 (dk_at dksX13_next_12 4 rfl rfl)
theorem dX13_next_284 : decode cX13_next 284 = .ok (.aload_n 0, 1) := dk_42 (dk_at dksX13_next_12 7 rfl rfl)
theorem dX13_next_285 : decode cX13_next 285 = .ok (.getfield 104, 3) := dk_180 0 104 (dk_at dksX13_next_12 8 rfl rfl)
theorem dX13_next_288 : decode cX13_next 288 = .ok (.getfield 152, 3) := dk_180 0 152 (dk_at dksX13_next_12 11 rfl rfl)
theorem dX13_next_291 : decode cX13_next 291 = .ok (.iadd, 1) := dk_96 (dk_at dksX13_next_12 14 rfl rfl)
theorem dX13_next_292 : decode cX13_next 292 = .ok (.putfield 51, 3) := dk_181 0 51 (dk_at dksX13_next_12 15 rfl rfl)
theorem dX13_next_295 : decode cX13_next 295 = .ok (.goto 19, 3) := dk_167 0 19 (dk_at dksX13_next_12 18 rfl rfl)
theorem dX13_next_298 : decode cX13_next 298 = .ok (.aload_n 0, 1) := dk_42 (dk_at dksX13_next_12 21 rfl rfl)
theorem dX13_next_299 : decode cX13_next 299 = .ok (.dup, 1) := dk_89 (dk_at dksX13_next_12 22 rfl rfl)
theorem dX13_next_300 : decode cX13_next 300 = .ok (.getfield 51, 3) := dk_180 0 51 (dk_at dksX13_next_13 0 rfl rfl)
theorem dX13_next_303 : decode cX13_next 303 = .ok (.aload_n 0, 1) := dk_42 (dk_at dksX13_next_13 3 rfl rfl)
theorem dX13_next_304 : decode cX13_next 304 = .ok (.getfield 104, 3) := dk_180 0 104 (dk_at dksX13_next_13 4 rfl rfl)
theorem dX13_next_307 : decode cX13_next 307 = .ok (.getfield 152, 3) := dk_180 0 152 (dk_at dksX13_next_13 7 rfl rfl)
theorem dX13_next_310 : decode cX13_next 310 = .ok (.isub, 1) := dk_100 (dk_at dksX13_next_13 10 rfl rfl)
theorem dX13_next_311 : decode cX13_next 311 = .ok (.putfield 51, 3) := dk_181 0 51 (dk_at dksX13_next_13 11 rfl rfl)
theorem dX13_next_314 : decode cX13_next 314 = .ok (.aload_n 0, 1) := dk_42 (dk_at dksX13_next_13 14 rfl rfl)
theorem dX13_next_315 : decode cX13_next 315 = .ok (.iload_n 1, 1) := dk_27 (dk_at dksX13_next_13 15 rfl rfl)
theorem dX13_next_316 : decode cX13_next 316 = .ok (.putfield 36, 3) := dk_181 0 36 (dk_at dksX13_next_13 16 rfl rfl)
theorem dX13_next_319 : decode cX13_next 319 = .ok (.aload_n 0, 1) := dk_42 (dk_at dksX13_next_13 19 rfl rfl)
theorem dX13_next_320 : decode cX13_next 320 = .ok (.aload_n 0, 1) := dk_42 (dk_at dksX13_next_13 20 rfl rfl)
theorem dX13_next_321 : decode cX13_next 321 = .ok (.getfield 146, 3) := dk_180 0 146 (dk_at dksX13_next_13 21 rfl rfl)
theorem dX13_next_324 : decode cX13_next 324 = .ok (.putfield 40, 3) := dk_181 0 40 (dk_at dksX13_next_14 0 rfl rfl)
theorem dX13_next_327 : decode cX13_next 327 = .ok (.aload_n 0, 1) := dk_42 (dk_at dksX13_next_14 3 rfl rfl)
theorem dX13_next_328 : decode cX13_next 328 = .ok (.dup, 1) := dk_89 (dk_at dksX13_next_14 4 rfl rfl)
theorem dX13_next_329 : decode cX13_next 329 = .ok (.getfield 27, 3) := dk_180 0 27 (dk_at dksX13_next_14 5 rfl rfl)
theorem dX13_next_332 : decode cX13_next 332 = .ok (.iconst 1, 1) := dk_4 (dk_at dksX13_next_14 8 rfl rfl)
theorem dX13_next_333 : decode cX13_next 333 = .ok (.iadd, 1) := dk_96 (dk_at dksX13_next_14 9 rfl rfl)
theorem dX13_next_334 : decode cX13_next 334 = .ok (.putfield 27, 3) := dk_181 0 27 (dk_at dksX13_next_14 10 rfl rfl)
theorem dX13_next_337 : decode cX13_next 337 = .ok (.return_, 1) := dk_177 (dk_at dksX13_next_14 13 rfl rfl)
abbrev cX13_leaving : ByteArray := prog_21_method_4_code
def yX13_leaving : MethodName := ⟨RX13, "leaving", "()I"⟩
def dkwX13_leaving_3 : List UInt8 := [180, 0, 104, 180, 0, 108, 42, 180, 0, 111, 100, 184, 0, 89, 167, 0, 4, 27, 172]
abbrev dktX13_leaving_3 : List UInt8 := dkwX13_leaving_3 ++ []
def dkwX13_leaving_2 : List UInt8 := [184, 0, 89, 167, 0, 7, 42, 180, 0, 40, 60, 42, 180, 0, 95, 180, 0, 99, 153, 0, 22, 27, 42]
abbrev dktX13_leaving_2 : List UInt8 := dkwX13_leaving_2 ++ dktX13_leaving_3
def dkwX13_leaving_1 : List UInt8 := [180, 0, 83, 172, 42, 180, 0, 27, 154, 0, 20, 42, 180, 0, 40, 42, 180, 0, 15, 180, 0, 86]
abbrev dktX13_leaving_1 : List UInt8 := dkwX13_leaving_1 ++ dktX13_leaving_2
def dkwX13_leaving_0 : List UInt8 := [42, 180, 0, 27, 154, 0, 22, 42, 180, 0, 19, 180, 0, 83, 2, 159, 0, 11, 42, 180, 0, 19]
abbrev dktX13_leaving_0 : List UInt8 := dkwX13_leaving_0 ++ dktX13_leaving_1
theorem dksX13_leaving_0 : cX13_leaving.data.toList.drop 0 = dktX13_leaving_0 := by decide +kernel
theorem dksX13_leaving_1 : cX13_leaving.data.toList.drop 22 = dktX13_leaving_1 := dk_seg dksX13_leaving_0 22 rfl rfl
theorem dksX13_leaving_2 : cX13_leaving.data.toList.drop 44 = dktX13_leaving_2 := dk_seg dksX13_leaving_1 22 rfl rfl
theorem dksX13_leaving_3 : cX13_leaving.data.toList.drop 67 = dktX13_leaving_3 := dk_seg dksX13_leaving_2 23 rfl rfl
theorem dX13_leaving_0 : decode cX13_leaving 0 = .ok (.aload_n 0, 1) := dk_42 (dk_at dksX13_leaving_0 0 rfl rfl)
theorem dX13_leaving_1 : decode cX13_leaving 1 = .ok (.getfield 27, 3) := dk_180 0 27 (dk_at dksX13_leaving_0 1 rfl rfl)
theorem dX13_leaving_4 : decode cX13_leaving 4 = .ok (.ifCond .ne 22, 3) := dk_154 0 22 (dk_at dksX13_leaving_0 4 rfl rfl)
theorem dX13_leaving_7 : decode cX13_leaving 7 = .ok (.aload_n 0, 1) := dk_42 (dk_at dksX13_leaving_0 7 rfl rfl)
theorem dX13_leaving_8 : decode cX13_leaving 8 = .ok (.getfield 19, 3) := dk_180 0 19 (dk_at dksX13_leaving_0 8 rfl rfl)
theorem dX13_leaving_11 : decode cX13_leaving 11 = .ok (.getfield 83, 3) := dk_180 0 83 (dk_at dksX13_leaving_0 11 rfl rfl)
theorem dX13_leaving_14 : decode cX13_leaving 14 = .ok (.iconst (-1), 1) := dk_2 (dk_at dksX13_leaving_0 14 rfl rfl)
theorem dX13_leaving_15 : decode cX13_leaving 15 = .ok (.if_icmp .eq 11, 3) := dk_159 0 11 (dk_at dksX13_leaving_0 15 rfl rfl)
theorem dX13_leaving_18 : decode cX13_leaving 18 = .ok (.aload_n 0, 1) := dk_42 (dk_at dksX13_leaving_0 18 rfl rfl)
theorem dX13_leaving_19 : decode cX13_leaving 19 = .ok (.getfield 19, 3) := dk_180 0 19 (dk_at dksX13_leaving_0 19 rfl rfl)
theorem dX13_leaving_22 : decode cX13_leaving 22 = .ok (.getfield 83, 3) := dk_180 0 83 (dk_at dksX13_leaving_1 0 rfl rfl)
theorem dX13_leaving_25 : decode cX13_leaving 25 = .ok (.ireturn, 1) := dk_172 (dk_at dksX13_leaving_1 3 rfl rfl)
theorem dX13_leaving_26 : decode cX13_leaving 26 = .ok (.aload_n 0, 1) := dk_42 (dk_at dksX13_leaving_1 4 rfl rfl)
theorem dX13_leaving_27 : decode cX13_leaving 27 = .ok (.getfield 27, 3) := dk_180 0 27 (dk_at dksX13_leaving_1 5 rfl rfl)
theorem dX13_leaving_30 : decode cX13_leaving 30 = .ok (.ifCond .ne 20, 3) := dk_154 0 20 (dk_at dksX13_leaving_1 8 rfl rfl)
theorem dX13_leaving_33 : decode cX13_leaving 33 = .ok (.aload_n 0, 1) := dk_42 (dk_at dksX13_leaving_1 11 rfl rfl)
theorem dX13_leaving_34 : decode cX13_leaving 34 = .ok (.getfield 40, 3) := dk_180 0 40 (dk_at dksX13_leaving_1 12 rfl rfl)
theorem dX13_leaving_37 : decode cX13_leaving 37 = .ok (.aload_n 0, 1) := dk_42 (dk_at dksX13_leaving_1 15 rfl rfl)
theorem dX13_leaving_38 : decode cX13_leaving 38 = .ok (.getfield 15, 3) := dk_180 0 15 (dk_at dksX13_leaving_1 16 rfl rfl)
theorem dX13_leaving_41 : decode cX13_leaving 41 = .ok (.getfield 86, 3) := dk_180 0 86 (dk_at dksX13_leaving_1 19 rfl rfl)
theorem dX13_leaving_44 : decode cX13_leaving 44 = .ok (.invokestatic 89, 3) := dk_184 0 89 (dk_at dksX13_leaving_2 0 rfl rfl)
theorem dX13_leaving_47 : decode cX13_leaving 47 = .ok (.goto 7, 3) := dk_167 0 7 (dk_at dksX13_leaving_2 3 rfl rfl)
theorem dX13_leaving_50 : decode cX13_leaving 50 = .ok (.aload_n 0, 1) := dk_42 (dk_at dksX13_leaving_2 6 rfl rfl)
theorem dX13_leaving_51 : decode cX13_leaving 51 = .ok (.getfield 40, 3) := dk_180 0 40 (dk_at dksX13_leaving_2 7 rfl rfl)
theorem dX13_leaving_54 : decode cX13_leaving 54 = .ok (.istore_n 1, 1) := dk_60 (dk_at dksX13_leaving_2 10 rfl rfl)
theorem dX13_leaving_55 : decode cX13_leaving 55 = .ok (.aload_n 0, 1) := dk_42 (dk_at dksX13_leaving_2 11 rfl rfl)
theorem dX13_leaving_56 : decode cX13_leaving 56 = .ok (.getfield 95, 3) := dk_180 0 95 (dk_at dksX13_leaving_2 12 rfl rfl)
theorem dX13_leaving_59 : decode cX13_leaving 59 = .ok (.getfield 99, 3) := dk_180 0 99 (dk_at dksX13_leaving_2 15 rfl rfl)
theorem dX13_leaving_62 : decode cX13_leaving 62 = .ok (.ifCond .eq 22, 3) := dk_153 0 22 (dk_at dksX13_leaving_2 18 rfl rfl)
theorem dX13_leaving_65 : decode cX13_leaving 65 = .ok (.iload_n 1, 1) := dk_27 (dk_at dksX13_leaving_2 21 rfl rfl)
theorem dX13_leaving_66 : decode cX13_leaving 66 = .ok (.aload_n 0, 1) := dk_42 (dk_at dksX13_leaving_2 22 rfl rfl)
theorem dX13_leaving_67 : decode cX13_leaving 67 = .ok (.getfield 104, 3) := dk_180 0 104 (dk_at dksX13_leaving_3 0 rfl rfl)
theorem dX13_leaving_70 : decode cX13_leaving 70 = .ok (.getfield 108, 3) := dk_180 0 108 (dk_at dksX13_leaving_3 3 rfl rfl)
theorem dX13_leaving_73 : decode cX13_leaving 73 = .ok (.aload_n 0, 1) := dk_42 (dk_at dksX13_leaving_3 6 rfl rfl)
theorem dX13_leaving_74 : decode cX13_leaving 74 = .ok (.getfield 111, 3) := dk_180 0 111 (dk_at dksX13_leaving_3 7 rfl rfl)
theorem dX13_leaving_77 : decode cX13_leaving 77 = .ok (.isub, 1) := dk_100 (dk_at dksX13_leaving_3 10 rfl rfl)
theorem dX13_leaving_78 : decode cX13_leaving 78 = .ok (.invokestatic 89, 3) := dk_184 0 89 (dk_at dksX13_leaving_3 11 rfl rfl)
theorem dX13_leaving_81 : decode cX13_leaving 81 = .ok (.goto 4, 3) := dk_167 0 4 (dk_at dksX13_leaving_3 14 rfl rfl)
theorem dX13_leaving_84 : decode cX13_leaving 84 = .ok (.iload_n 1, 1) := dk_27 (dk_at dksX13_leaving_3 17 rfl rfl)
theorem dX13_leaving_85 : decode cX13_leaving 85 = .ok (.ireturn, 1) := dk_172 (dk_at dksX13_leaving_3 18 rfl rfl)
abbrev cX13_minutesInAll : ByteArray := prog_21_method_8_code
def yX13_minutesInAll : MethodName := ⟨RX13, "minutesInAll", "()I"⟩
def dkwX13_minutesInAll_1 : List UInt8 := [172]
abbrev dktX13_minutesInAll_1 : List UInt8 := dkwX13_minutesInAll_1 ++ []
def dkwX13_minutesInAll_0 : List UInt8 := [3, 60, 42, 182, 0, 162, 153, 0, 17, 42, 182, 0, 166, 27, 42, 180, 0, 111, 96, 60, 167, 255, 238, 27]
abbrev dktX13_minutesInAll_0 : List UInt8 := dkwX13_minutesInAll_0 ++ dktX13_minutesInAll_1
theorem dksX13_minutesInAll_0 : cX13_minutesInAll.data.toList.drop 0 = dktX13_minutesInAll_0 := by decide +kernel
theorem dksX13_minutesInAll_1 : cX13_minutesInAll.data.toList.drop 24 = dktX13_minutesInAll_1 := dk_seg dksX13_minutesInAll_0 24 rfl rfl
theorem dX13_minutesInAll_0 : decode cX13_minutesInAll 0 = .ok (.iconst 0, 1) := dk_3 (dk_at dksX13_minutesInAll_0 0 rfl rfl)
theorem dX13_minutesInAll_1 : decode cX13_minutesInAll 1 = .ok (.istore_n 1, 1) := dk_60 (dk_at dksX13_minutesInAll_0 1 rfl rfl)
theorem dX13_minutesInAll_2 : decode cX13_minutesInAll 2 = .ok (.aload_n 0, 1) := dk_42 (dk_at dksX13_minutesInAll_0 2 rfl rfl)
theorem dX13_minutesInAll_3 : decode cX13_minutesInAll 3 = .ok (.invokevirtual 162, 3) := dk_182 0 162 (dk_at dksX13_minutesInAll_0 3 rfl rfl)
theorem dX13_minutesInAll_6 : decode cX13_minutesInAll 6 = .ok (.ifCond .eq 17, 3) := dk_153 0 17 (dk_at dksX13_minutesInAll_0 6 rfl rfl)
theorem dX13_minutesInAll_9 : decode cX13_minutesInAll 9 = .ok (.aload_n 0, 1) := dk_42 (dk_at dksX13_minutesInAll_0 9 rfl rfl)
theorem dX13_minutesInAll_10 : decode cX13_minutesInAll 10 = .ok (.invokevirtual 166, 3) := dk_182 0 166 (dk_at dksX13_minutesInAll_0 10 rfl rfl)
theorem dX13_minutesInAll_13 : decode cX13_minutesInAll 13 = .ok (.iload_n 1, 1) := dk_27 (dk_at dksX13_minutesInAll_0 13 rfl rfl)
theorem dX13_minutesInAll_14 : decode cX13_minutesInAll 14 = .ok (.aload_n 0, 1) := dk_42 (dk_at dksX13_minutesInAll_0 14 rfl rfl)
theorem dX13_minutesInAll_15 : decode cX13_minutesInAll 15 = .ok (.getfield 111, 3) := dk_180 0 111 (dk_at dksX13_minutesInAll_0 15 rfl rfl)
theorem dX13_minutesInAll_18 : decode cX13_minutesInAll 18 = .ok (.iadd, 1) := dk_96 (dk_at dksX13_minutesInAll_0 18 rfl rfl)
theorem dX13_minutesInAll_19 : decode cX13_minutesInAll 19 = .ok (.istore_n 1, 1) := dk_60 (dk_at dksX13_minutesInAll_0 19 rfl rfl)
theorem dX13_minutesInAll_20 : decode cX13_minutesInAll 20 = .ok (.goto (-18), 3) := dk_167 255 238 (dk_at dksX13_minutesInAll_0 20 rfl rfl)
theorem dX13_minutesInAll_23 : decode cX13_minutesInAll 23 = .ok (.iload_n 1, 1) := dk_27 (dk_at dksX13_minutesInAll_0 23 rfl rfl)
theorem dX13_minutesInAll_24 : decode cX13_minutesInAll 24 = .ok (.ireturn, 1) := dk_172 (dk_at dksX13_minutesInAll_1 0 rfl rfl)
abbrev cX13_goesOn : ByteArray := prog_21_method_3_code
def yX13_goesOn : MethodName := ⟨RX13, "goesOn", "()Z"⟩
def dkwX13_goesOn_0 : List UInt8 := [42, 180, 0, 27, 42, 180, 0, 23, 185, 0, 61, 1, 0, 162, 0, 7, 4, 167, 0, 4, 3, 172]
abbrev dktX13_goesOn_0 : List UInt8 := dkwX13_goesOn_0 ++ []
theorem dksX13_goesOn_0 : cX13_goesOn.data.toList.drop 0 = dktX13_goesOn_0 := by decide +kernel
theorem dX13_goesOn_0 : decode cX13_goesOn 0 = .ok (.aload_n 0, 1) := dk_42 (dk_at dksX13_goesOn_0 0 rfl rfl)
theorem dX13_goesOn_1 : decode cX13_goesOn 1 = .ok (.getfield 27, 3) := dk_180 0 27 (dk_at dksX13_goesOn_0 1 rfl rfl)
theorem dX13_goesOn_4 : decode cX13_goesOn 4 = .ok (.aload_n 0, 1) := dk_42 (dk_at dksX13_goesOn_0 4 rfl rfl)
theorem dX13_goesOn_5 : decode cX13_goesOn 5 = .ok (.getfield 23, 3) := dk_180 0 23 (dk_at dksX13_goesOn_0 5 rfl rfl)
theorem dX13_goesOn_8 : decode cX13_goesOn 8 = .ok (.invokeinterface 61 1, 5) := by decide +kernel
theorem dX13_goesOn_13 : decode cX13_goesOn 13 = .ok (.if_icmp .ge 7, 3) := dk_162 0 7 (dk_at dksX13_goesOn_0 13 rfl rfl)
theorem dX13_goesOn_16 : decode cX13_goesOn 16 = .ok (.iconst 1, 1) := dk_4 (dk_at dksX13_goesOn_0 16 rfl rfl)
theorem dX13_goesOn_17 : decode cX13_goesOn 17 = .ok (.goto 4, 3) := dk_167 0 4 (dk_at dksX13_goesOn_0 17 rfl rfl)
theorem dX13_goesOn_20 : decode cX13_goesOn 20 = .ok (.iconst 0, 1) := dk_3 (dk_at dksX13_goesOn_0 20 rfl rfl)
theorem dX13_goesOn_21 : decode cX13_goesOn 21 = .ok (.ireturn, 1) := dk_172 (dk_at dksX13_goesOn_0 21 rfl rfl)
abbrev cX13_keeps : ByteArray := prog_21_method_7_code
def yX13_keeps : MethodName := ⟨RX13, "keeps", "()Z"⟩
def dkwX13_keeps_2 : List UInt8 := [167, 0, 4, 3, 172]
abbrev dktX13_keeps_2 : List UInt8 := dkwX13_keeps_2 ++ []
def dkwX13_keeps_1 : List UInt8 := [185, 0, 172, 1, 0, 154, 0, 17, 42, 180, 0, 146, 42, 180, 0, 19, 180, 0, 175, 163, 0, 7, 4]
abbrev dktX13_keeps_1 : List UInt8 := dkwX13_keeps_1 ++ dktX13_keeps_2
def dkwX13_keeps_0 : List UInt8 := [42, 182, 0, 162, 153, 0, 16, 42, 182, 0, 166, 42, 182, 0, 169, 154, 255, 241, 3, 172, 42, 180, 0, 23]
abbrev dktX13_keeps_0 : List UInt8 := dkwX13_keeps_0 ++ dktX13_keeps_1
theorem dksX13_keeps_0 : cX13_keeps.data.toList.drop 0 = dktX13_keeps_0 := by decide +kernel
theorem dksX13_keeps_1 : cX13_keeps.data.toList.drop 24 = dktX13_keeps_1 := dk_seg dksX13_keeps_0 24 rfl rfl
theorem dksX13_keeps_2 : cX13_keeps.data.toList.drop 47 = dktX13_keeps_2 := dk_seg dksX13_keeps_1 23 rfl rfl
theorem dX13_keeps_0 : decode cX13_keeps 0 = .ok (.aload_n 0, 1) := dk_42 (dk_at dksX13_keeps_0 0 rfl rfl)
theorem dX13_keeps_1 : decode cX13_keeps 1 = .ok (.invokevirtual 162, 3) := dk_182 0 162 (dk_at dksX13_keeps_0 1 rfl rfl)
theorem dX13_keeps_4 : decode cX13_keeps 4 = .ok (.ifCond .eq 16, 3) := dk_153 0 16 (dk_at dksX13_keeps_0 4 rfl rfl)
theorem dX13_keeps_7 : decode cX13_keeps 7 = .ok (.aload_n 0, 1) := dk_42 (dk_at dksX13_keeps_0 7 rfl rfl)
theorem dX13_keeps_8 : decode cX13_keeps 8 = .ok (.invokevirtual 166, 3) := dk_182 0 166 (dk_at dksX13_keeps_0 8 rfl rfl)
theorem dX13_keeps_11 : decode cX13_keeps 11 = .ok (.aload_n 0, 1) := dk_42 (dk_at dksX13_keeps_0 11 rfl rfl)
theorem dX13_keeps_12 : decode cX13_keeps 12 = .ok (.invokevirtual 169, 3) := dk_182 0 169 (dk_at dksX13_keeps_0 12 rfl rfl)
theorem dX13_keeps_15 : decode cX13_keeps 15 = .ok (.ifCond .ne (-15), 3) := dk_154 255 241 (dk_at dksX13_keeps_0 15 rfl rfl)
theorem dX13_keeps_18 : decode cX13_keeps 18 = .ok (.iconst 0, 1) := dk_3 (dk_at dksX13_keeps_0 18 rfl rfl)
theorem dX13_keeps_19 : decode cX13_keeps 19 = .ok (.ireturn, 1) := dk_172 (dk_at dksX13_keeps_0 19 rfl rfl)
theorem dX13_keeps_20 : decode cX13_keeps 20 = .ok (.aload_n 0, 1) := dk_42 (dk_at dksX13_keeps_0 20 rfl rfl)
theorem dX13_keeps_21 : decode cX13_keeps 21 = .ok (.getfield 23, 3) := dk_180 0 23 (dk_at dksX13_keeps_0 21 rfl rfl)
theorem dX13_keeps_24 : decode cX13_keeps 24 = .ok (.invokeinterface 172 1, 5) := by decide +kernel
theorem dX13_keeps_29 : decode cX13_keeps 29 = .ok (.ifCond .ne 17, 3) := dk_154 0 17 (dk_at dksX13_keeps_1 5 rfl rfl)
theorem dX13_keeps_32 : decode cX13_keeps 32 = .ok (.aload_n 0, 1) := dk_42 (dk_at dksX13_keeps_1 8 rfl rfl)
theorem dX13_keeps_33 : decode cX13_keeps 33 = .ok (.getfield 146, 3) := dk_180 0 146 (dk_at dksX13_keeps_1 9 rfl rfl)
theorem dX13_keeps_36 : decode cX13_keeps 36 = .ok (.aload_n 0, 1) := dk_42 (dk_at dksX13_keeps_1 12 rfl rfl)
theorem dX13_keeps_37 : decode cX13_keeps 37 = .ok (.getfield 19, 3) := dk_180 0 19 (dk_at dksX13_keeps_1 13 rfl rfl)
theorem dX13_keeps_40 : decode cX13_keeps 40 = .ok (.getfield 175, 3) := dk_180 0 175 (dk_at dksX13_keeps_1 16 rfl rfl)
theorem dX13_keeps_43 : decode cX13_keeps 43 = .ok (.if_icmp .gt 7, 3) := dk_163 0 7 (dk_at dksX13_keeps_1 19 rfl rfl)
theorem dX13_keeps_46 : decode cX13_keeps 46 = .ok (.iconst 1, 1) := dk_4 (dk_at dksX13_keeps_1 22 rfl rfl)
theorem dX13_keeps_47 : decode cX13_keeps 47 = .ok (.goto 4, 3) := dk_167 0 4 (dk_at dksX13_keeps_2 0 rfl rfl)
theorem dX13_keeps_50 : decode cX13_keeps 50 = .ok (.iconst 0, 1) := dk_3 (dk_at dksX13_keeps_2 3 rfl rfl)
theorem dX13_keeps_51 : decode cX13_keeps 51 = .ok (.ireturn, 1) := dk_172 (dk_at dksX13_keeps_2 4 rfl rfl)
abbrev cX13_isWithin : ByteArray := prog_21_method_6_code
def yX13_isWithin : MethodName := ⟨RX13, "isWithin", "()Z"⟩
def dkwX13_isWithin_4 : List UInt8 := [180, 0, 15, 180, 0, 137, 8, 46, 163, 0, 7, 4, 167, 0, 4, 3, 172]
abbrev dktX13_isWithin_4 : List UInt8 := dkwX13_isWithin_4 ++ []
def dkwX13_isWithin_3 : List UInt8 := [27, 153, 0, 37, 42, 180, 0, 149, 42, 180, 0, 19, 180, 0, 159, 163, 0, 23, 42, 180, 0, 44, 42]
abbrev dktX13_isWithin_3 : List UInt8 := dkwX13_isWithin_3 ++ dktX13_isWithin_4
def dkwX13_isWithin_2 : List UInt8 := [100, 42, 180, 0, 104, 182, 0, 156, 163, 0, 7, 4, 167, 0, 4, 3, 60, 42, 180, 0, 54, 154, 0, 41]
abbrev dktX13_isWithin_2 : List UInt8 := dkwX13_isWithin_2 ++ dktX13_isWithin_3
def dkwX13_isWithin_1 : List UInt8 := [4, 167, 0, 39, 3, 167, 0, 35, 42, 180, 0, 140, 42, 180, 0, 9, 42, 180, 0, 95, 180, 0, 114, 46]
abbrev dktX13_isWithin_1 : List UInt8 := dkwX13_isWithin_1 ++ dktX13_isWithin_2
def dkwX13_isWithin_0 : List UInt8 := [42, 180, 0, 95, 180, 0, 99, 153, 0, 25, 42, 180, 0, 140, 42, 180, 0, 104, 180, 0, 153, 163, 0, 7]
abbrev dktX13_isWithin_0 : List UInt8 := dkwX13_isWithin_0 ++ dktX13_isWithin_1
theorem dksX13_isWithin_0 : cX13_isWithin.data.toList.drop 0 = dktX13_isWithin_0 := by decide +kernel
theorem dksX13_isWithin_1 : cX13_isWithin.data.toList.drop 24 = dktX13_isWithin_1 := dk_seg dksX13_isWithin_0 24 rfl rfl
theorem dksX13_isWithin_2 : cX13_isWithin.data.toList.drop 48 = dktX13_isWithin_2 := dk_seg dksX13_isWithin_1 24 rfl rfl
theorem dksX13_isWithin_3 : cX13_isWithin.data.toList.drop 72 = dktX13_isWithin_3 := dk_seg dksX13_isWithin_2 24 rfl rfl
theorem dksX13_isWithin_4 : cX13_isWithin.data.toList.drop 95 = dktX13_isWithin_4 := dk_seg dksX13_isWithin_3 23 rfl rfl
theorem dX13_isWithin_0 : decode cX13_isWithin 0 = .ok (.aload_n 0, 1) := dk_42 (dk_at dksX13_isWithin_0 0 rfl rfl)
theorem dX13_isWithin_1 : decode cX13_isWithin 1 = .ok (.getfield 95, 3) := dk_180 0 95 (dk_at dksX13_isWithin_0 1 rfl rfl)
theorem dX13_isWithin_4 : decode cX13_isWithin 4 = .ok (.getfield 99, 3) := dk_180 0 99 (dk_at dksX13_isWithin_0 4 rfl rfl)
theorem dX13_isWithin_7 : decode cX13_isWithin 7 = .ok (.ifCond .eq 25, 3) := dk_153 0 25 (dk_at dksX13_isWithin_0 7 rfl rfl)
theorem dX13_isWithin_10 : decode cX13_isWithin 10 = .ok (.aload_n 0, 1) := dk_42 (dk_at dksX13_isWithin_0 10 rfl rfl)
theorem dX13_isWithin_11 : decode cX13_isWithin 11 = .ok (.getfield 140, 3) := dk_180 0 140 (dk_at dksX13_isWithin_0 11 rfl rfl)
theorem dX13_isWithin_14 : decode cX13_isWithin 14 = .ok (.aload_n 0, 1) := dk_42 (dk_at dksX13_isWithin_0 14 rfl rfl)
theorem dX13_isWithin_15 : decode cX13_isWithin 15 = .ok (.getfield 104, 3) := dk_180 0 104 (dk_at dksX13_isWithin_0 15 rfl rfl)
theorem dX13_isWithin_18 : decode cX13_isWithin 18 = .ok (.getfield 153, 3) := dk_180 0 153 (dk_at dksX13_isWithin_0 18 rfl rfl)
theorem dX13_isWithin_21 : decode cX13_isWithin 21 = .ok (.if_icmp .gt 7, 3) := dk_163 0 7 (dk_at dksX13_isWithin_0 21 rfl rfl)
theorem dX13_isWithin_24 : decode cX13_isWithin 24 = .ok (.iconst 1, 1) := dk_4 (dk_at dksX13_isWithin_1 0 rfl rfl)
theorem dX13_isWithin_25 : decode cX13_isWithin 25 = .ok (.goto 39, 3) := dk_167 0 39 (dk_at dksX13_isWithin_1 1 rfl rfl)
theorem dX13_isWithin_28 : decode cX13_isWithin 28 = .ok (.iconst 0, 1) := dk_3 (dk_at dksX13_isWithin_1 4 rfl rfl)
theorem dX13_isWithin_29 : decode cX13_isWithin 29 = .ok (.goto 35, 3) := dk_167 0 35 (dk_at dksX13_isWithin_1 5 rfl rfl)
theorem dX13_isWithin_32 : decode cX13_isWithin 32 = .ok (.aload_n 0, 1) := dk_42 (dk_at dksX13_isWithin_1 8 rfl rfl)
theorem dX13_isWithin_33 : decode cX13_isWithin 33 = .ok (.getfield 140, 3) := dk_180 0 140 (dk_at dksX13_isWithin_1 9 rfl rfl)
theorem dX13_isWithin_36 : decode cX13_isWithin 36 = .ok (.aload_n 0, 1) := dk_42 (dk_at dksX13_isWithin_1 12 rfl rfl)
theorem dX13_isWithin_37 : decode cX13_isWithin 37 = .ok (.getfield 9, 3) := dk_180 0 9 (dk_at dksX13_isWithin_1 13 rfl rfl)
theorem dX13_isWithin_40 : decode cX13_isWithin 40 = .ok (.aload_n 0, 1) := dk_42 (dk_at dksX13_isWithin_1 16 rfl rfl)
theorem dX13_isWithin_41 : decode cX13_isWithin 41 = .ok (.getfield 95, 3) := dk_180 0 95 (dk_at dksX13_isWithin_1 17 rfl rfl)
theorem dX13_isWithin_44 : decode cX13_isWithin 44 = .ok (.getfield 114, 3) := dk_180 0 114 (dk_at dksX13_isWithin_1 20 rfl rfl)
theorem dX13_isWithin_47 : decode cX13_isWithin 47 = .ok (.iaload, 1) := dk_46 (dk_at dksX13_isWithin_1 23 rfl rfl)
theorem dX13_isWithin_48 : decode cX13_isWithin 48 = .ok (.isub, 1) := dk_100 (dk_at dksX13_isWithin_2 0 rfl rfl)
theorem dX13_isWithin_49 : decode cX13_isWithin 49 = .ok (.aload_n 0, 1) := dk_42 (dk_at dksX13_isWithin_2 1 rfl rfl)
theorem dX13_isWithin_50 : decode cX13_isWithin 50 = .ok (.getfield 104, 3) := dk_180 0 104 (dk_at dksX13_isWithin_2 2 rfl rfl)
theorem dX13_isWithin_53 : decode cX13_isWithin 53 = .ok (.invokevirtual 156, 3) := dk_182 0 156 (dk_at dksX13_isWithin_2 5 rfl rfl)
theorem dX13_isWithin_56 : decode cX13_isWithin 56 = .ok (.if_icmp .gt 7, 3) := dk_163 0 7 (dk_at dksX13_isWithin_2 8 rfl rfl)
theorem dX13_isWithin_59 : decode cX13_isWithin 59 = .ok (.iconst 1, 1) := dk_4 (dk_at dksX13_isWithin_2 11 rfl rfl)
theorem dX13_isWithin_60 : decode cX13_isWithin 60 = .ok (.goto 4, 3) := dk_167 0 4 (dk_at dksX13_isWithin_2 12 rfl rfl)
theorem dX13_isWithin_63 : decode cX13_isWithin 63 = .ok (.iconst 0, 1) := dk_3 (dk_at dksX13_isWithin_2 15 rfl rfl)
theorem dX13_isWithin_64 : decode cX13_isWithin 64 = .ok (.istore_n 1, 1) := dk_60 (dk_at dksX13_isWithin_2 16 rfl rfl)
theorem dX13_isWithin_65 : decode cX13_isWithin 65 = .ok (.aload_n 0, 1) := dk_42 (dk_at dksX13_isWithin_2 17 rfl rfl)
theorem dX13_isWithin_66 : decode cX13_isWithin 66 = .ok (.getfield 54, 3) := dk_180 0 54 (dk_at dksX13_isWithin_2 18 rfl rfl)
theorem dX13_isWithin_69 : decode cX13_isWithin 69 = .ok (.ifCond .ne 41, 3) := dk_154 0 41 (dk_at dksX13_isWithin_2 21 rfl rfl)
theorem dX13_isWithin_72 : decode cX13_isWithin 72 = .ok (.iload_n 1, 1) := dk_27 (dk_at dksX13_isWithin_3 0 rfl rfl)
theorem dX13_isWithin_73 : decode cX13_isWithin 73 = .ok (.ifCond .eq 37, 3) := dk_153 0 37 (dk_at dksX13_isWithin_3 1 rfl rfl)
theorem dX13_isWithin_76 : decode cX13_isWithin 76 = .ok (.aload_n 0, 1) := dk_42 (dk_at dksX13_isWithin_3 4 rfl rfl)
theorem dX13_isWithin_77 : decode cX13_isWithin 77 = .ok (.getfield 149, 3) := dk_180 0 149 (dk_at dksX13_isWithin_3 5 rfl rfl)
theorem dX13_isWithin_80 : decode cX13_isWithin 80 = .ok (.aload_n 0, 1) := dk_42 (dk_at dksX13_isWithin_3 8 rfl rfl)
theorem dX13_isWithin_81 : decode cX13_isWithin 81 = .ok (.getfield 19, 3) := dk_180 0 19 (dk_at dksX13_isWithin_3 9 rfl rfl)
theorem dX13_isWithin_84 : decode cX13_isWithin 84 = .ok (.getfield 159, 3) := dk_180 0 159 (dk_at dksX13_isWithin_3 12 rfl rfl)
theorem dX13_isWithin_87 : decode cX13_isWithin 87 = .ok (.if_icmp .gt 23, 3) := dk_163 0 23 (dk_at dksX13_isWithin_3 15 rfl rfl)
theorem dX13_isWithin_90 : decode cX13_isWithin 90 = .ok (.aload_n 0, 1) := dk_42 (dk_at dksX13_isWithin_3 18 rfl rfl)
theorem dX13_isWithin_91 : decode cX13_isWithin 91 = .ok (.getfield 44, 3) := dk_180 0 44 (dk_at dksX13_isWithin_3 19 rfl rfl)
theorem dX13_isWithin_94 : decode cX13_isWithin 94 = .ok (.aload_n 0, 1) := dk_42 (dk_at dksX13_isWithin_3 22 rfl rfl)
theorem dX13_isWithin_95 : decode cX13_isWithin 95 = .ok (.getfield 15, 3) := dk_180 0 15 (dk_at dksX13_isWithin_4 0 rfl rfl)
theorem dX13_isWithin_98 : decode cX13_isWithin 98 = .ok (.getfield 137, 3) := dk_180 0 137 (dk_at dksX13_isWithin_4 3 rfl rfl)
theorem dX13_isWithin_101 : decode cX13_isWithin 101 = .ok (.iconst 5, 1) := dk_8 (dk_at dksX13_isWithin_4 6 rfl rfl)
theorem dX13_isWithin_102 : decode cX13_isWithin 102 = .ok (.iaload, 1) := dk_46 (dk_at dksX13_isWithin_4 7 rfl rfl)
theorem dX13_isWithin_103 : decode cX13_isWithin 103 = .ok (.if_icmp .gt 7, 3) := dk_163 0 7 (dk_at dksX13_isWithin_4 8 rfl rfl)
theorem dX13_isWithin_106 : decode cX13_isWithin 106 = .ok (.iconst 1, 1) := dk_4 (dk_at dksX13_isWithin_4 11 rfl rfl)
theorem dX13_isWithin_107 : decode cX13_isWithin 107 = .ok (.goto 4, 3) := dk_167 0 4 (dk_at dksX13_isWithin_4 12 rfl rfl)
theorem dX13_isWithin_110 : decode cX13_isWithin 110 = .ok (.iconst 0, 1) := dk_3 (dk_at dksX13_isWithin_4 15 rfl rfl)
theorem dX13_isWithin_111 : decode cX13_isWithin 111 = .ok (.ireturn, 1) := dk_172 (dk_at dksX13_isWithin_4 16 rfl rfl)
abbrev cX14_init : ByteArray := prog_11_method_1_code
def yX14_init : MethodName := ⟨RX14, "<init>", "(LSharedTaxis$State;)V"⟩
def dkwX14_init_1 : List UInt8 := [89, 43, 183, 0, 24, 181, 0, 27, 177]
abbrev dktX14_init_1 : List UInt8 := dkwX14_init_1 ++ []
def dkwX14_init_0 : List UInt8 := [42, 183, 0, 3, 42, 187, 0, 9, 89, 183, 0, 11, 181, 0, 12, 42, 43, 181, 0, 18, 42, 187, 0, 22]
abbrev dktX14_init_0 : List UInt8 := dkwX14_init_0 ++ dktX14_init_1
theorem dksX14_init_0 : cX14_init.data.toList.drop 0 = dktX14_init_0 := by decide +kernel
theorem dksX14_init_1 : cX14_init.data.toList.drop 24 = dktX14_init_1 := dk_seg dksX14_init_0 24 rfl rfl
theorem dX14_init_0 : decode cX14_init 0 = .ok (.aload_n 0, 1) := dk_42 (dk_at dksX14_init_0 0 rfl rfl)
theorem dX14_init_1 : decode cX14_init 1 = .ok (.invokespecial 3, 3) := dk_183 0 3 (dk_at dksX14_init_0 1 rfl rfl)
theorem dX14_init_4 : decode cX14_init 4 = .ok (.aload_n 0, 1) := dk_42 (dk_at dksX14_init_0 4 rfl rfl)
theorem dX14_init_5 : decode cX14_init 5 = .ok (.new 9, 3) := dk_187 0 9 (dk_at dksX14_init_0 5 rfl rfl)
theorem dX14_init_8 : decode cX14_init 8 = .ok (.dup, 1) := dk_89 (dk_at dksX14_init_0 8 rfl rfl)
theorem dX14_init_9 : decode cX14_init 9 = .ok (.invokespecial 11, 3) := dk_183 0 11 (dk_at dksX14_init_0 9 rfl rfl)
theorem dX14_init_12 : decode cX14_init 12 = .ok (.putfield 12, 3) := dk_181 0 12 (dk_at dksX14_init_0 12 rfl rfl)
theorem dX14_init_15 : decode cX14_init 15 = .ok (.aload_n 0, 1) := dk_42 (dk_at dksX14_init_0 15 rfl rfl)
theorem dX14_init_16 : decode cX14_init 16 = .ok (.aload_n 1, 1) := dk_43 (dk_at dksX14_init_0 16 rfl rfl)
theorem dX14_init_17 : decode cX14_init 17 = .ok (.putfield 18, 3) := dk_181 0 18 (dk_at dksX14_init_0 17 rfl rfl)
theorem dX14_init_20 : decode cX14_init 20 = .ok (.aload_n 0, 1) := dk_42 (dk_at dksX14_init_0 20 rfl rfl)
theorem dX14_init_21 : decode cX14_init 21 = .ok (.new 22, 3) := dk_187 0 22 (dk_at dksX14_init_0 21 rfl rfl)
theorem dX14_init_24 : decode cX14_init 24 = .ok (.dup, 1) := dk_89 (dk_at dksX14_init_1 0 rfl rfl)
theorem dX14_init_25 : decode cX14_init 25 = .ok (.aload_n 1, 1) := dk_43 (dk_at dksX14_init_1 1 rfl rfl)
theorem dX14_init_26 : decode cX14_init 26 = .ok (.invokespecial 24, 3) := dk_183 0 24 (dk_at dksX14_init_1 2 rfl rfl)
theorem dX14_init_29 : decode cX14_init 29 = .ok (.putfield 27, 3) := dk_181 0 27 (dk_at dksX14_init_1 5 rfl rfl)
theorem dX14_init_32 : decode cX14_init 32 = .ok (.return_, 1) := dk_177 (dk_at dksX14_init_1 8 rfl rfl)
abbrev cX14_find : ByteArray := prog_11_method_6_code
def yX14_find : MethodName := ⟨RX14, "find", "(LSharedTaxis$Taxi;I)Z"⟩
def dkwX14_find_7 : List UInt8 := [159, 0, 7, 4, 167, 0, 4, 3, 172]
abbrev dktX14_find_7 : List UInt8 := dkwX14_find_7 ++ []
def dkwX14_find_6 : List UInt8 := [182, 0, 112, 181, 0, 116, 132, 8, 1, 167, 255, 197, 132, 7, 1, 167, 255, 171, 42, 180, 0, 83, 2]
abbrev dktX14_find_6 : List UInt8 := dkwX14_find_6 ++ dktX14_find_7
def dkwX14_find_5 : List UInt8 := [182, 0, 102, 153, 0, 26, 42, 21, 7, 181, 0, 106, 42, 21, 8, 181, 0, 109, 42, 42, 43, 25, 5]
abbrev dktX14_find_5 : List UInt8 := dkwX14_find_5 ++ dktX14_find_6
def dkwX14_find_4 : List UInt8 := [96, 163, 0, 57, 42, 43, 25, 4, 25, 5, 21, 7, 21, 8, 182, 0, 98, 42, 43, 25, 4, 21, 6]
abbrev dktX14_find_4 : List UInt8 := dkwX14_find_4 ++ dktX14_find_5
def dkwX14_find_3 : List UInt8 := [21, 7, 29, 163, 0, 85, 29, 5, 96, 16, 12, 163, 0, 77, 21, 7, 4, 96, 54, 8, 21, 8, 29, 4]
abbrev dktX14_find_3 : List UInt8 := dkwX14_find_3 ++ dktX14_find_4
def dkwX14_find_2 : List UInt8 := [182, 0, 58, 182, 0, 92, 54, 6, 43, 180, 0, 95, 2, 160, 0, 7, 3, 167, 0, 4, 4, 54, 7]
abbrev dktX14_find_2 : List UInt8 := dkwX14_find_2 ++ dktX14_find_3
def dkwX14_find_1 : List UInt8 := [58, 4, 187, 0, 53, 89, 28, 3, 183, 0, 89, 58, 5, 42, 180, 0, 27, 43, 43, 180, 0, 36]
abbrev dktX14_find_1 : List UInt8 := dkwX14_find_1 ++ dktX14_find_2
def dkwX14_find_0 : List UInt8 := [42, 2, 181, 0, 83, 43, 180, 0, 36, 185, 0, 41, 1, 0, 62, 187, 0, 53, 89, 28, 4, 183, 0, 89]
abbrev dktX14_find_0 : List UInt8 := dkwX14_find_0 ++ dktX14_find_1
theorem dksX14_find_0 : cX14_find.data.toList.drop 0 = dktX14_find_0 := by decide +kernel
theorem dksX14_find_1 : cX14_find.data.toList.drop 24 = dktX14_find_1 := dk_seg dksX14_find_0 24 rfl rfl
theorem dksX14_find_2 : cX14_find.data.toList.drop 46 = dktX14_find_2 := dk_seg dksX14_find_1 22 rfl rfl
theorem dksX14_find_3 : cX14_find.data.toList.drop 69 = dktX14_find_3 := dk_seg dksX14_find_2 23 rfl rfl
theorem dksX14_find_4 : cX14_find.data.toList.drop 93 = dktX14_find_4 := dk_seg dksX14_find_3 24 rfl rfl
theorem dksX14_find_5 : cX14_find.data.toList.drop 116 = dktX14_find_5 := dk_seg dksX14_find_4 23 rfl rfl
theorem dksX14_find_6 : cX14_find.data.toList.drop 139 = dktX14_find_6 := dk_seg dksX14_find_5 23 rfl rfl
theorem dksX14_find_7 : cX14_find.data.toList.drop 162 = dktX14_find_7 := dk_seg dksX14_find_6 23 rfl rfl
theorem dX14_find_0 : decode cX14_find 0 = .ok (.aload_n 0, 1) := dk_42 (dk_at dksX14_find_0 0 rfl rfl)
theorem dX14_find_1 : decode cX14_find 1 = .ok (.iconst (-1), 1) := dk_2 (dk_at dksX14_find_0 1 rfl rfl)
theorem dX14_find_2 : decode cX14_find 2 = .ok (.putfield 83, 3) := dk_181 0 83 (dk_at dksX14_find_0 2 rfl rfl)
theorem dX14_find_5 : decode cX14_find 5 = .ok (.aload_n 1, 1) := dk_43 (dk_at dksX14_find_0 5 rfl rfl)
theorem dX14_find_6 : decode cX14_find 6 = .ok (.getfield 36, 3) := dk_180 0 36 (dk_at dksX14_find_0 6 rfl rfl)
theorem dX14_find_9 : decode cX14_find 9 = .ok (.invokeinterface 41 1, 5) := by decide +kernel
theorem dX14_find_14 : decode cX14_find 14 = .ok (.istore_n 3, 1) := dk_62 (dk_at dksX14_find_0 14 rfl rfl)
theorem dX14_find_15 : decode cX14_find 15 = .ok (.new 53, 3) := dk_187 0 53 (dk_at dksX14_find_0 15 rfl rfl)
theorem dX14_find_18 : decode cX14_find 18 = .ok (.dup, 1) := dk_89 (dk_at dksX14_find_0 18 rfl rfl)
theorem dX14_find_19 : decode cX14_find 19 = .ok (.iload_n 2, 1) := dk_28 (dk_at dksX14_find_0 19 rfl rfl)
theorem dX14_find_20 : decode cX14_find 20 = .ok (.iconst 1, 1) := dk_4 (dk_at dksX14_find_0 20 rfl rfl)
theorem dX14_find_21 : decode cX14_find 21 = .ok (.invokespecial 89, 3) := dk_183 0 89 (dk_at dksX14_find_0 21 rfl rfl)
theorem dX14_find_24 : decode cX14_find 24 = .ok (.astore 4, 2) := dk_58 4 (dk_at dksX14_find_1 0 rfl rfl)
theorem dX14_find_26 : decode cX14_find 26 = .ok (.new 53, 3) := dk_187 0 53 (dk_at dksX14_find_1 2 rfl rfl)
theorem dX14_find_29 : decode cX14_find 29 = .ok (.dup, 1) := dk_89 (dk_at dksX14_find_1 5 rfl rfl)
theorem dX14_find_30 : decode cX14_find 30 = .ok (.iload_n 2, 1) := dk_28 (dk_at dksX14_find_1 6 rfl rfl)
theorem dX14_find_31 : decode cX14_find 31 = .ok (.iconst 0, 1) := dk_3 (dk_at dksX14_find_1 7 rfl rfl)
theorem dX14_find_32 : decode cX14_find 32 = .ok (.invokespecial 89, 3) := dk_183 0 89 (dk_at dksX14_find_1 8 rfl rfl)
theorem dX14_find_35 : decode cX14_find 35 = .ok (.astore 5, 2) := dk_58 5 (dk_at dksX14_find_1 11 rfl rfl)
theorem dX14_find_37 : decode cX14_find 37 = .ok (.aload_n 0, 1) := dk_42 (dk_at dksX14_find_1 13 rfl rfl)
theorem dX14_find_38 : decode cX14_find 38 = .ok (.getfield 27, 3) := dk_180 0 27 (dk_at dksX14_find_1 14 rfl rfl)
theorem dX14_find_41 : decode cX14_find 41 = .ok (.aload_n 1, 1) := dk_43 (dk_at dksX14_find_1 17 rfl rfl)
theorem dX14_find_42 : decode cX14_find 42 = .ok (.aload_n 1, 1) := dk_43 (dk_at dksX14_find_1 18 rfl rfl)
theorem dX14_find_43 : decode cX14_find 43 = .ok (.getfield 36, 3) := dk_180 0 36 (dk_at dksX14_find_1 19 rfl rfl)
theorem dX14_find_46 : decode cX14_find 46 = .ok (.invokevirtual 58, 3) := dk_182 0 58 (dk_at dksX14_find_2 0 rfl rfl)
theorem dX14_find_49 : decode cX14_find 49 = .ok (.invokevirtual 92, 3) := dk_182 0 92 (dk_at dksX14_find_2 3 rfl rfl)
theorem dX14_find_52 : decode cX14_find 52 = .ok (.istore 6, 2) := dk_54 6 (dk_at dksX14_find_2 6 rfl rfl)
theorem dX14_find_54 : decode cX14_find 54 = .ok (.aload_n 1, 1) := dk_43 (dk_at dksX14_find_2 8 rfl rfl)
theorem dX14_find_55 : decode cX14_find 55 = .ok (.getfield 95, 3) := dk_180 0 95 (dk_at dksX14_find_2 9 rfl rfl)
theorem dX14_find_58 : decode cX14_find 58 = .ok (.iconst (-1), 1) := dk_2 (dk_at dksX14_find_2 12 rfl rfl)
theorem dX14_find_59 : decode cX14_find 59 = .ok (.if_icmp .ne 7, 3) := dk_160 0 7 (dk_at dksX14_find_2 13 rfl rfl)
theorem dX14_find_62 : decode cX14_find 62 = .ok (.iconst 0, 1) := dk_3 (dk_at dksX14_find_2 16 rfl rfl)
theorem dX14_find_63 : decode cX14_find 63 = .ok (.goto 4, 3) := dk_167 0 4 (dk_at dksX14_find_2 17 rfl rfl)
theorem dX14_find_66 : decode cX14_find 66 = .ok (.iconst 1, 1) := dk_4 (dk_at dksX14_find_2 20 rfl rfl)
theorem dX14_find_67 : decode cX14_find 67 = .ok (.istore 7, 2) := dk_54 7 (dk_at dksX14_find_2 21 rfl rfl)
theorem dX14_find_69 : decode cX14_find 69 = .ok (.iload 7, 2) := dk_21 7 (dk_at dksX14_find_3 0 rfl rfl)
theorem dX14_find_71 : decode cX14_find 71 = .ok (.iload_n 3, 1) := dk_29 (dk_at dksX14_find_3 2 rfl rfl)
theorem dX14_find_72 : decode cX14_find 72 = .ok (.if_icmp .gt 85, 3) := dk_163 0 85 (dk_at dksX14_find_3 3 rfl rfl)
theorem dX14_find_75 : decode cX14_find 75 = .ok (.iload_n 3, 1) := dk_29 (dk_at dksX14_find_3 6 rfl rfl)
theorem dX14_find_76 : decode cX14_find 76 = .ok (.iconst 2, 1) := dk_5 (dk_at dksX14_find_3 7 rfl rfl)
theorem dX14_find_77 : decode cX14_find 77 = .ok (.iadd, 1) := dk_96 (dk_at dksX14_find_3 8 rfl rfl)
theorem dX14_find_78 : decode cX14_find 78 = .ok (.bipush 12, 2) := dk_16 12 (dk_at dksX14_find_3 9 rfl rfl)
theorem dX14_find_80 : decode cX14_find 80 = .ok (.if_icmp .gt 77, 3) := dk_163 0 77 (dk_at dksX14_find_3 11 rfl rfl)
theorem dX14_find_83 : decode cX14_find 83 = .ok (.iload 7, 2) := dk_21 7 (dk_at dksX14_find_3 14 rfl rfl)
theorem dX14_find_85 : decode cX14_find 85 = .ok (.iconst 1, 1) := dk_4 (dk_at dksX14_find_3 16 rfl rfl)
theorem dX14_find_86 : decode cX14_find 86 = .ok (.iadd, 1) := dk_96 (dk_at dksX14_find_3 17 rfl rfl)
theorem dX14_find_87 : decode cX14_find 87 = .ok (.istore 8, 2) := dk_54 8 (dk_at dksX14_find_3 18 rfl rfl)
theorem dX14_find_89 : decode cX14_find 89 = .ok (.iload 8, 2) := dk_21 8 (dk_at dksX14_find_3 20 rfl rfl)
theorem dX14_find_91 : decode cX14_find 91 = .ok (.iload_n 3, 1) := dk_29 (dk_at dksX14_find_3 22 rfl rfl)
theorem dX14_find_92 : decode cX14_find 92 = .ok (.iconst 1, 1) := dk_4 (dk_at dksX14_find_3 23 rfl rfl)
theorem dX14_find_93 : decode cX14_find 93 = .ok (.iadd, 1) := dk_96 (dk_at dksX14_find_4 0 rfl rfl)
theorem dX14_find_94 : decode cX14_find 94 = .ok (.if_icmp .gt 57, 3) := dk_163 0 57 (dk_at dksX14_find_4 1 rfl rfl)
theorem dX14_find_97 : decode cX14_find 97 = .ok (.aload_n 0, 1) := dk_42 (dk_at dksX14_find_4 4 rfl rfl)
theorem dX14_find_98 : decode cX14_find 98 = .ok (.aload_n 1, 1) := dk_43 (dk_at dksX14_find_4 5 rfl rfl)
theorem dX14_find_99 : decode cX14_find 99 = .ok (.aload 4, 2) := dk_25 4 (dk_at dksX14_find_4 6 rfl rfl)
theorem dX14_find_101 : decode cX14_find 101 = .ok (.aload 5, 2) := dk_25 5 (dk_at dksX14_find_4 8 rfl rfl)
theorem dX14_find_103 : decode cX14_find 103 = .ok (.iload 7, 2) := dk_21 7 (dk_at dksX14_find_4 10 rfl rfl)
theorem dX14_find_105 : decode cX14_find 105 = .ok (.iload 8, 2) := dk_21 8 (dk_at dksX14_find_4 12 rfl rfl)
theorem dX14_find_107 : decode cX14_find 107 = .ok (.invokevirtual 98, 3) := dk_182 0 98 (dk_at dksX14_find_4 14 rfl rfl)
theorem dX14_find_110 : decode cX14_find 110 = .ok (.aload_n 0, 1) := dk_42 (dk_at dksX14_find_4 17 rfl rfl)
theorem dX14_find_111 : decode cX14_find 111 = .ok (.aload_n 1, 1) := dk_43 (dk_at dksX14_find_4 18 rfl rfl)
theorem dX14_find_112 : decode cX14_find 112 = .ok (.aload 4, 2) := dk_25 4 (dk_at dksX14_find_4 19 rfl rfl)
theorem dX14_find_114 : decode cX14_find 114 = .ok (.iload 6, 2) := dk_21 6 (dk_at dksX14_find_4 21 rfl rfl)
theorem dX14_find_116 : decode cX14_find 116 = .ok (.invokevirtual 102, 3) := dk_182 0 102 (dk_at dksX14_find_5 0 rfl rfl)
theorem dX14_find_119 : decode cX14_find 119 = .ok (.ifCond .eq 26, 3) := dk_153 0 26 (dk_at dksX14_find_5 3 rfl rfl)
theorem dX14_find_122 : decode cX14_find 122 = .ok (.aload_n 0, 1) := dk_42 (dk_at dksX14_find_5 6 rfl rfl)
theorem dX14_find_123 : decode cX14_find 123 = .ok (.iload 7, 2) := dk_21 7 (dk_at dksX14_find_5 7 rfl rfl)
theorem dX14_find_125 : decode cX14_find 125 = .ok (.putfield 106, 3) := dk_181 0 106 (dk_at dksX14_find_5 9 rfl rfl)
theorem dX14_find_128 : decode cX14_find 128 = .ok (.aload_n 0, 1) := dk_42 (dk_at dksX14_find_5 12 rfl rfl)
theorem dX14_find_129 : decode cX14_find 129 = .ok (.iload 8, 2) := dk_21 8 (dk_at dksX14_find_5 13 rfl rfl)
theorem dX14_find_131 : decode cX14_find 131 = .ok (.putfield 109, 3) := dk_181 0 109 (dk_at dksX14_find_5 15 rfl rfl)
theorem dX14_find_134 : decode cX14_find 134 = .ok (.aload_n 0, 1) := dk_42 (dk_at dksX14_find_5 18 rfl rfl)
theorem dX14_find_135 : decode cX14_find 135 = .ok (.aload_n 0, 1) := dk_42 (dk_at dksX14_find_5 19 rfl rfl)
theorem dX14_find_136 : decode cX14_find 136 = .ok (.aload_n 1, 1) := dk_43 (dk_at dksX14_find_5 20 rfl rfl)
theorem dX14_find_137 : decode cX14_find 137 = .ok (.aload 5, 2) := dk_25 5 (dk_at dksX14_find_5 21 rfl rfl)
theorem dX14_find_139 : decode cX14_find 139 = .ok (.invokevirtual 112, 3) := dk_182 0 112 (dk_at dksX14_find_6 0 rfl rfl)
theorem dX14_find_142 : decode cX14_find 142 = .ok (.putfield 116, 3) := dk_181 0 116 (dk_at dksX14_find_6 3 rfl rfl)
theorem dX14_find_145 : decode cX14_find 145 = .ok (.iinc 8 1, 3) := dk_132 8 1 (dk_at dksX14_find_6 6 rfl rfl)
theorem dX14_find_148 : decode cX14_find 148 = .ok (.goto (-59), 3) := dk_167 255 197 (dk_at dksX14_find_6 9 rfl rfl)
theorem dX14_find_151 : decode cX14_find 151 = .ok (.iinc 7 1, 3) := dk_132 7 1 (dk_at dksX14_find_6 12 rfl rfl)
theorem dX14_find_154 : decode cX14_find 154 = .ok (.goto (-85), 3) := dk_167 255 171 (dk_at dksX14_find_6 15 rfl rfl)
theorem dX14_find_157 : decode cX14_find 157 = .ok (.aload_n 0, 1) := dk_42 (dk_at dksX14_find_6 18 rfl rfl)
theorem dX14_find_158 : decode cX14_find 158 = .ok (.getfield 83, 3) := dk_180 0 83 (dk_at dksX14_find_6 19 rfl rfl)
theorem dX14_find_161 : decode cX14_find 161 = .ok (.iconst (-1), 1) := dk_2 (dk_at dksX14_find_6 22 rfl rfl)
theorem dX14_find_162 : decode cX14_find 162 = .ok (.if_icmp .eq 7, 3) := dk_159 0 7 (dk_at dksX14_find_7 0 rfl rfl)
theorem dX14_find_165 : decode cX14_find 165 = .ok (.iconst 1, 1) := dk_4 (dk_at dksX14_find_7 3 rfl rfl)
theorem dX14_find_166 : decode cX14_find 166 = .ok (.goto 4, 3) := dk_167 0 4 (dk_at dksX14_find_7 4 rfl rfl)
theorem dX14_find_169 : decode cX14_find 169 = .ok (.iconst 0, 1) := dk_3 (dk_at dksX14_find_7 7 rfl rfl)
theorem dX14_find_170 : decode cX14_find 170 = .ok (.ireturn, 1) := dk_172 (dk_at dksX14_find_7 8 rfl rfl)
abbrev cX14_lay : ByteArray := prog_11_method_2_code
def yX14_lay : MethodName := ⟨RX14, "lay", "(LSharedTaxis$Taxi;LSharedTaxis$Stop;LSharedTaxis$Stop;II)V"⟩
def dkwX14_lay_4 : List UInt8 := [177]
abbrev dktX14_lay_4 : List UInt8 := dkwX14_lay_4 ++ []
def dkwX14_lay_3 : List UInt8 := [167, 255, 201, 42, 44, 21, 4, 182, 0, 45, 42, 45, 21, 5, 182, 0, 45, 42, 45, 21, 5, 182, 0, 45]
abbrev dktX14_lay_3 : List UInt8 := dkwX14_lay_3 ++ dktX14_lay_4
def dkwX14_lay_2 : List UInt8 := [180, 0, 36, 21, 6, 185, 0, 49, 2, 0, 192, 0, 53, 185, 0, 55, 2, 0, 87, 132, 6, 1]
abbrev dktX14_lay_2 : List UInt8 := dkwX14_lay_2 ++ dktX14_lay_3
def dkwX14_lay_1 : List UInt8 := [162, 0, 47, 42, 44, 21, 4, 182, 0, 45, 42, 45, 21, 5, 182, 0, 45, 42, 180, 0, 12, 43]
abbrev dktX14_lay_1 : List UInt8 := dkwX14_lay_1 ++ dktX14_lay_2
def dkwX14_lay_0 : List UInt8 := [42, 180, 0, 12, 185, 0, 31, 1, 0, 3, 54, 6, 21, 6, 43, 180, 0, 36, 185, 0, 41, 1, 0]
abbrev dktX14_lay_0 : List UInt8 := dkwX14_lay_0 ++ dktX14_lay_1
theorem dksX14_lay_0 : cX14_lay.data.toList.drop 0 = dktX14_lay_0 := by decide +kernel
theorem dksX14_lay_1 : cX14_lay.data.toList.drop 23 = dktX14_lay_1 := dk_seg dksX14_lay_0 23 rfl rfl
theorem dksX14_lay_2 : cX14_lay.data.toList.drop 45 = dktX14_lay_2 := dk_seg dksX14_lay_1 22 rfl rfl
theorem dksX14_lay_3 : cX14_lay.data.toList.drop 67 = dktX14_lay_3 := dk_seg dksX14_lay_2 22 rfl rfl
theorem dksX14_lay_4 : cX14_lay.data.toList.drop 91 = dktX14_lay_4 := dk_seg dksX14_lay_3 24 rfl rfl
theorem dX14_lay_0 : decode cX14_lay 0 = .ok (.aload_n 0, 1) := dk_42 (dk_at dksX14_lay_0 0 rfl rfl)
theorem dX14_lay_1 : decode cX14_lay 1 = .ok (.getfield 12, 3) := dk_180 0 12 (dk_at dksX14_lay_0 1 rfl rfl)
theorem dX14_lay_4 : decode cX14_lay 4 = .ok (.invokeinterface 31 1, 5) := by decide +kernel
theorem dX14_lay_9 : decode cX14_lay 9 = .ok (.iconst 0, 1) := dk_3 (dk_at dksX14_lay_0 9 rfl rfl)
theorem dX14_lay_10 : decode cX14_lay 10 = .ok (.istore 6, 2) := dk_54 6 (dk_at dksX14_lay_0 10 rfl rfl)
theorem dX14_lay_12 : decode cX14_lay 12 = .ok (.iload 6, 2) := dk_21 6 (dk_at dksX14_lay_0 12 rfl rfl)
theorem dX14_lay_14 : decode cX14_lay 14 = .ok (.aload_n 1, 1) := dk_43 (dk_at dksX14_lay_0 14 rfl rfl)
theorem dX14_lay_15 : decode cX14_lay 15 = .ok (.getfield 36, 3) := dk_180 0 36 (dk_at dksX14_lay_0 15 rfl rfl)
theorem dX14_lay_18 : decode cX14_lay 18 = .ok (.invokeinterface 41 1, 5) := by decide +kernel
theorem dX14_lay_23 : decode cX14_lay 23 = .ok (.if_icmp .ge 47, 3) := dk_162 0 47 (dk_at dksX14_lay_1 0 rfl rfl)
theorem dX14_lay_26 : decode cX14_lay 26 = .ok (.aload_n 0, 1) := dk_42 (dk_at dksX14_lay_1 3 rfl rfl)
theorem dX14_lay_27 : decode cX14_lay 27 = .ok (.aload_n 2, 1) := dk_44 (dk_at dksX14_lay_1 4 rfl rfl)
theorem dX14_lay_28 : decode cX14_lay 28 = .ok (.iload 4, 2) := dk_21 4 (dk_at dksX14_lay_1 5 rfl rfl)
theorem dX14_lay_30 : decode cX14_lay 30 = .ok (.invokevirtual 45, 3) := dk_182 0 45 (dk_at dksX14_lay_1 7 rfl rfl)
theorem dX14_lay_33 : decode cX14_lay 33 = .ok (.aload_n 0, 1) := dk_42 (dk_at dksX14_lay_1 10 rfl rfl)
theorem dX14_lay_34 : decode cX14_lay 34 = .ok (.aload_n 3, 1) := dk_45 (dk_at dksX14_lay_1 11 rfl rfl)
theorem dX14_lay_35 : decode cX14_lay 35 = .ok (.iload 5, 2) := dk_21 5 (dk_at dksX14_lay_1 12 rfl rfl)
theorem dX14_lay_37 : decode cX14_lay 37 = .ok (.invokevirtual 45, 3) := dk_182 0 45 (dk_at dksX14_lay_1 14 rfl rfl)
theorem dX14_lay_40 : decode cX14_lay 40 = .ok (.aload_n 0, 1) := dk_42 (dk_at dksX14_lay_1 17 rfl rfl)
theorem dX14_lay_41 : decode cX14_lay 41 = .ok (.getfield 12, 3) := dk_180 0 12 (dk_at dksX14_lay_1 18 rfl rfl)
theorem dX14_lay_44 : decode cX14_lay 44 = .ok (.aload_n 1, 1) := dk_43 (dk_at dksX14_lay_1 21 rfl rfl)
theorem dX14_lay_45 : decode cX14_lay 45 = .ok (.getfield 36, 3) := dk_180 0 36 (dk_at dksX14_lay_2 0 rfl rfl)
theorem dX14_lay_48 : decode cX14_lay 48 = .ok (.iload 6, 2) := dk_21 6 (dk_at dksX14_lay_2 3 rfl rfl)
theorem dX14_lay_50 : decode cX14_lay 50 = .ok (.invokeinterface 49 2, 5) := by decide +kernel
theorem dX14_lay_55 : decode cX14_lay 55 = .ok (.checkcast 53, 3) := dk_192 0 53 (dk_at dksX14_lay_2 10 rfl rfl)
theorem dX14_lay_58 : decode cX14_lay 58 = .ok (.invokeinterface 55 2, 5) := by decide +kernel
theorem dX14_lay_63 : decode cX14_lay 63 = .ok (.pop, 1) := dk_87 (dk_at dksX14_lay_2 18 rfl rfl)
theorem dX14_lay_64 : decode cX14_lay 64 = .ok (.iinc 6 1, 3) := dk_132 6 1 (dk_at dksX14_lay_2 19 rfl rfl)
theorem dX14_lay_67 : decode cX14_lay 67 = .ok (.goto (-55), 3) := dk_167 255 201 (dk_at dksX14_lay_3 0 rfl rfl)
theorem dX14_lay_70 : decode cX14_lay 70 = .ok (.aload_n 0, 1) := dk_42 (dk_at dksX14_lay_3 3 rfl rfl)
theorem dX14_lay_71 : decode cX14_lay 71 = .ok (.aload_n 2, 1) := dk_44 (dk_at dksX14_lay_3 4 rfl rfl)
theorem dX14_lay_72 : decode cX14_lay 72 = .ok (.iload 4, 2) := dk_21 4 (dk_at dksX14_lay_3 5 rfl rfl)
theorem dX14_lay_74 : decode cX14_lay 74 = .ok (.invokevirtual 45, 3) := dk_182 0 45 (dk_at dksX14_lay_3 7 rfl rfl)
theorem dX14_lay_77 : decode cX14_lay 77 = .ok (.aload_n 0, 1) := dk_42 (dk_at dksX14_lay_3 10 rfl rfl)
theorem dX14_lay_78 : decode cX14_lay 78 = .ok (.aload_n 3, 1) := dk_45 (dk_at dksX14_lay_3 11 rfl rfl)
theorem dX14_lay_79 : decode cX14_lay 79 = .ok (.iload 5, 2) := dk_21 5 (dk_at dksX14_lay_3 12 rfl rfl)
theorem dX14_lay_81 : decode cX14_lay 81 = .ok (.invokevirtual 45, 3) := dk_182 0 45 (dk_at dksX14_lay_3 14 rfl rfl)
theorem dX14_lay_84 : decode cX14_lay 84 = .ok (.aload_n 0, 1) := dk_42 (dk_at dksX14_lay_3 17 rfl rfl)
theorem dX14_lay_85 : decode cX14_lay 85 = .ok (.aload_n 3, 1) := dk_45 (dk_at dksX14_lay_3 18 rfl rfl)
theorem dX14_lay_86 : decode cX14_lay 86 = .ok (.iload 5, 2) := dk_21 5 (dk_at dksX14_lay_3 19 rfl rfl)
theorem dX14_lay_88 : decode cX14_lay 88 = .ok (.invokevirtual 45, 3) := dk_182 0 45 (dk_at dksX14_lay_3 21 rfl rfl)
theorem dX14_lay_91 : decode cX14_lay 91 = .ok (.return_, 1) := dk_177 (dk_at dksX14_lay_4 0 rfl rfl)
abbrev cX14_add : ByteArray := prog_11_method_3_code
def yX14_add : MethodName := ⟨RX14, "add", "(LSharedTaxis$Stop;I)V"⟩
def dkwX14_add_1 : List UInt8 := [177]
abbrev dktX14_add_1 : List UInt8 := dkwX14_add_1 ++ []
def dkwX14_add_0 : List UInt8 := [42, 180, 0, 12, 185, 0, 41, 1, 0, 28, 160, 0, 14, 42, 180, 0, 12, 43, 185, 0, 55, 2, 0, 87]
abbrev dktX14_add_0 : List UInt8 := dkwX14_add_0 ++ dktX14_add_1
theorem dksX14_add_0 : cX14_add.data.toList.drop 0 = dktX14_add_0 := by decide +kernel
theorem dksX14_add_1 : cX14_add.data.toList.drop 24 = dktX14_add_1 := dk_seg dksX14_add_0 24 rfl rfl
theorem dX14_add_0 : decode cX14_add 0 = .ok (.aload_n 0, 1) := dk_42 (dk_at dksX14_add_0 0 rfl rfl)
theorem dX14_add_1 : decode cX14_add 1 = .ok (.getfield 12, 3) := dk_180 0 12 (dk_at dksX14_add_0 1 rfl rfl)
theorem dX14_add_4 : decode cX14_add 4 = .ok (.invokeinterface 41 1, 5) := by decide +kernel
theorem dX14_add_9 : decode cX14_add 9 = .ok (.iload_n 2, 1) := dk_28 (dk_at dksX14_add_0 9 rfl rfl)
theorem dX14_add_10 : decode cX14_add 10 = .ok (.if_icmp .ne 14, 3) := dk_160 0 14 (dk_at dksX14_add_0 10 rfl rfl)
theorem dX14_add_13 : decode cX14_add 13 = .ok (.aload_n 0, 1) := dk_42 (dk_at dksX14_add_0 13 rfl rfl)
theorem dX14_add_14 : decode cX14_add 14 = .ok (.getfield 12, 3) := dk_180 0 12 (dk_at dksX14_add_0 14 rfl rfl)
theorem dX14_add_17 : decode cX14_add 17 = .ok (.aload_n 1, 1) := dk_43 (dk_at dksX14_add_0 17 rfl rfl)
theorem dX14_add_18 : decode cX14_add 18 = .ok (.invokeinterface 55 2, 5) := by decide +kernel
theorem dX14_add_23 : decode cX14_add 23 = .ok (.pop, 1) := dk_87 (dk_at dksX14_add_0 23 rfl rfl)
theorem dX14_add_24 : decode cX14_add 24 = .ok (.return_, 1) := dk_177 (dk_at dksX14_add_1 0 rfl rfl)
abbrev cX14_isBetter : ByteArray := prog_11_method_4_code
def yX14_isBetter : MethodName := ⟨RX14, "isBetter", "(LSharedTaxis$Taxi;LSharedTaxis$Stop;I)Z"⟩
def dkwX14_isBetter_6 : List UInt8 := [54, 6, 21, 6, 153, 0, 17, 42, 21, 4, 29, 100, 181, 0, 83, 42, 21, 5, 181, 0, 86, 21, 6, 172]
abbrev dktX14_isBetter_6 : List UInt8 := dkwX14_isBetter_6 ++ []
def dkwX14_isBetter_5 : List UInt8 := [29, 100, 42, 180, 0, 83, 160, 0, 16, 21, 5, 42, 180, 0, 86, 162, 0, 7, 4, 167, 0, 4, 3]
abbrev dktX14_isBetter_5 : List UInt8 := dkwX14_isBetter_5 ++ dktX14_isBetter_6
def dkwX14_isBetter_4 : List UInt8 := [167, 255, 202, 42, 180, 0, 83, 2, 159, 0, 34, 21, 4, 29, 100, 42, 180, 0, 83, 161, 0, 23, 21, 4]
abbrev dktX14_isBetter_4 : List UInt8 := dkwX14_isBetter_4 ++ dktX14_isBetter_5
def dkwX14_isBetter_3 : List UInt8 := [180, 0, 27, 180, 0, 76, 44, 166, 0, 13, 42, 180, 0, 27, 180, 0, 80, 167, 0, 5, 21, 5, 54, 5]
abbrev dktX14_isBetter_3 : List UInt8 := dkwX14_isBetter_3 ++ dktX14_isBetter_4
def dkwX14_isBetter_2 : List UInt8 := [153, 0, 50, 42, 180, 0, 27, 182, 0, 69, 21, 4, 42, 180, 0, 27, 180, 0, 72, 96, 54, 4, 42]
abbrev dktX14_isBetter_2 : List UInt8 := dkwX14_isBetter_2 ++ dktX14_isBetter_3
def dkwX14_isBetter_1 : List UInt8 := [54, 5, 42, 180, 0, 27, 43, 42, 180, 0, 12, 182, 0, 58, 87, 42, 180, 0, 27, 182, 0, 66]
abbrev dktX14_isBetter_1 : List UInt8 := dkwX14_isBetter_1 ++ dktX14_isBetter_2
def dkwX14_isBetter_0 : List UInt8 := [42, 180, 0, 27, 43, 42, 180, 0, 12, 182, 0, 58, 182, 0, 62, 154, 0, 5, 3, 172, 3, 54, 4, 3]
abbrev dktX14_isBetter_0 : List UInt8 := dkwX14_isBetter_0 ++ dktX14_isBetter_1
theorem dksX14_isBetter_0 : cX14_isBetter.data.toList.drop 0 = dktX14_isBetter_0 := by decide +kernel
theorem dksX14_isBetter_1 : cX14_isBetter.data.toList.drop 24 = dktX14_isBetter_1 := dk_seg dksX14_isBetter_0 24 rfl rfl
theorem dksX14_isBetter_2 : cX14_isBetter.data.toList.drop 46 = dktX14_isBetter_2 := dk_seg dksX14_isBetter_1 22 rfl rfl
theorem dksX14_isBetter_3 : cX14_isBetter.data.toList.drop 69 = dktX14_isBetter_3 := dk_seg dksX14_isBetter_2 23 rfl rfl
theorem dksX14_isBetter_4 : cX14_isBetter.data.toList.drop 93 = dktX14_isBetter_4 := dk_seg dksX14_isBetter_3 24 rfl rfl
theorem dksX14_isBetter_5 : cX14_isBetter.data.toList.drop 117 = dktX14_isBetter_5 := dk_seg dksX14_isBetter_4 24 rfl rfl
theorem dksX14_isBetter_6 : cX14_isBetter.data.toList.drop 140 = dktX14_isBetter_6 := dk_seg dksX14_isBetter_5 23 rfl rfl
theorem dX14_isBetter_0 : decode cX14_isBetter 0 = .ok (.aload_n 0, 1) := dk_42 (dk_at dksX14_isBetter_0 0 rfl rfl)
theorem dX14_isBetter_1 : decode cX14_isBetter 1 = .ok (.getfield 27, 3) := dk_180 0 27 (dk_at dksX14_isBetter_0 1 rfl rfl)
theorem dX14_isBetter_4 : decode cX14_isBetter 4 = .ok (.aload_n 1, 1) := dk_43 (dk_at dksX14_isBetter_0 4 rfl rfl)
theorem dX14_isBetter_5 : decode cX14_isBetter 5 = .ok (.aload_n 0, 1) := dk_42 (dk_at dksX14_isBetter_0 5 rfl rfl)
theorem dX14_isBetter_6 : decode cX14_isBetter 6 = .ok (.getfield 12, 3) := dk_180 0 12 (dk_at dksX14_isBetter_0 6 rfl rfl)
theorem dX14_isBetter_9 : decode cX14_isBetter 9 = .ok (.invokevirtual 58, 3) := dk_182 0 58 (dk_at dksX14_isBetter_0 9 rfl rfl)
theorem dX14_isBetter_12 : decode cX14_isBetter 12 = .ok (.invokevirtual 62, 3) := dk_182 0 62 (dk_at dksX14_isBetter_0 12 rfl rfl)
theorem dX14_isBetter_15 : decode cX14_isBetter 15 = .ok (.ifCond .ne 5, 3) := dk_154 0 5 (dk_at dksX14_isBetter_0 15 rfl rfl)
theorem dX14_isBetter_18 : decode cX14_isBetter 18 = .ok (.iconst 0, 1) := dk_3 (dk_at dksX14_isBetter_0 18 rfl rfl)
theorem dX14_isBetter_19 : decode cX14_isBetter 19 = .ok (.ireturn, 1) := dk_172 (dk_at dksX14_isBetter_0 19 rfl rfl)
theorem dX14_isBetter_20 : decode cX14_isBetter 20 = .ok (.iconst 0, 1) := dk_3 (dk_at dksX14_isBetter_0 20 rfl rfl)
theorem dX14_isBetter_21 : decode cX14_isBetter 21 = .ok (.istore 4, 2) := dk_54 4 (dk_at dksX14_isBetter_0 21 rfl rfl)
theorem dX14_isBetter_23 : decode cX14_isBetter 23 = .ok (.iconst 0, 1) := dk_3 (dk_at dksX14_isBetter_0 23 rfl rfl)
theorem dX14_isBetter_24 : decode cX14_isBetter 24 = .ok (.istore 5, 2) := dk_54 5 (dk_at dksX14_isBetter_1 0 rfl rfl)
theorem dX14_isBetter_26 : decode cX14_isBetter 26 = .ok (.aload_n 0, 1) := dk_42 (dk_at dksX14_isBetter_1 2 rfl rfl)
theorem dX14_isBetter_27 : decode cX14_isBetter 27 = .ok (.getfield 27, 3) := dk_180 0 27 (dk_at dksX14_isBetter_1 3 rfl rfl)
theorem dX14_isBetter_30 : decode cX14_isBetter 30 = .ok (.aload_n 1, 1) := dk_43 (dk_at dksX14_isBetter_1 6 rfl rfl)
theorem dX14_isBetter_31 : decode cX14_isBetter 31 = .ok (.aload_n 0, 1) := dk_42 (dk_at dksX14_isBetter_1 7 rfl rfl)
theorem dX14_isBetter_32 : decode cX14_isBetter 32 = .ok (.getfield 12, 3) := dk_180 0 12 (dk_at dksX14_isBetter_1 8 rfl rfl)
theorem dX14_isBetter_35 : decode cX14_isBetter 35 = .ok (.invokevirtual 58, 3) := dk_182 0 58 (dk_at dksX14_isBetter_1 11 rfl rfl)
theorem dX14_isBetter_38 : decode cX14_isBetter 38 = .ok (.pop, 1) := dk_87 (dk_at dksX14_isBetter_1 14 rfl rfl)
theorem dX14_isBetter_39 : decode cX14_isBetter 39 = .ok (.aload_n 0, 1) := dk_42 (dk_at dksX14_isBetter_1 15 rfl rfl)
theorem dX14_isBetter_40 : decode cX14_isBetter 40 = .ok (.getfield 27, 3) := dk_180 0 27 (dk_at dksX14_isBetter_1 16 rfl rfl)
theorem dX14_isBetter_43 : decode cX14_isBetter 43 = .ok (.invokevirtual 66, 3) := dk_182 0 66 (dk_at dksX14_isBetter_1 19 rfl rfl)
theorem dX14_isBetter_46 : decode cX14_isBetter 46 = .ok (.ifCond .eq 50, 3) := dk_153 0 50 (dk_at dksX14_isBetter_2 0 rfl rfl)
theorem dX14_isBetter_49 : decode cX14_isBetter 49 = .ok (.aload_n 0, 1) := dk_42 (dk_at dksX14_isBetter_2 3 rfl rfl)
theorem dX14_isBetter_50 : decode cX14_isBetter 50 = .ok (.getfield 27, 3) := dk_180 0 27 (dk_at dksX14_isBetter_2 4 rfl rfl)
theorem dX14_isBetter_53 : decode cX14_isBetter 53 = .ok (.invokevirtual 69, 3) := dk_182 0 69 (dk_at dksX14_isBetter_2 7 rfl rfl)
theorem dX14_isBetter_56 : decode cX14_isBetter 56 = .ok (.iload 4, 2) := dk_21 4 (dk_at dksX14_isBetter_2 10 rfl rfl)
theorem dX14_isBetter_58 : decode cX14_isBetter 58 = .ok (.aload_n 0, 1) := dk_42 (dk_at dksX14_isBetter_2 12 rfl rfl)
theorem dX14_isBetter_59 : decode cX14_isBetter 59 = .ok (.getfield 27, 3) := dk_180 0 27 (dk_at dksX14_isBetter_2 13 rfl rfl)
theorem dX14_isBetter_62 : decode cX14_isBetter 62 = .ok (.getfield 72, 3) := dk_180 0 72 (dk_at dksX14_isBetter_2 16 rfl rfl)
theorem dX14_isBetter_65 : decode cX14_isBetter 65 = .ok (.iadd, 1) := dk_96 (dk_at dksX14_isBetter_2 19 rfl rfl)
theorem dX14_isBetter_66 : decode cX14_isBetter 66 = .ok (.istore 4, 2) := dk_54 4 (dk_at dksX14_isBetter_2 20 rfl rfl)
theorem dX14_isBetter_68 : decode cX14_isBetter 68 = .ok (.aload_n 0, 1) := dk_42 (dk_at dksX14_isBetter_2 22 rfl rfl)
theorem dX14_isBetter_69 : decode cX14_isBetter 69 = .ok (.getfield 27, 3) := dk_180 0 27 (dk_at dksX14_isBetter_3 0 rfl rfl)
theorem dX14_isBetter_72 : decode cX14_isBetter 72 = .ok (.getfield 76, 3) := dk_180 0 76 (dk_at dksX14_isBetter_3 3 rfl rfl)
theorem dX14_isBetter_75 : decode cX14_isBetter 75 = .ok (.aload_n 2, 1) := dk_44 (dk_at dksX14_isBetter_3 6 rfl rfl)
theorem dX14_isBetter_76 : decode cX14_isBetter 76 = .ok (.if_acmp .ne 13, 3) := dk_166 0 13 (dk_at dksX14_isBetter_3 7 rfl rfl)
theorem dX14_isBetter_79 : decode cX14_isBetter 79 = .ok (.aload_n 0, 1) := dk_42 (dk_at dksX14_isBetter_3 10 rfl rfl)
theorem dX14_isBetter_80 : decode cX14_isBetter 80 = .ok (.getfield 27, 3) := dk_180 0 27 (dk_at dksX14_isBetter_3 11 rfl rfl)
theorem dX14_isBetter_83 : decode cX14_isBetter 83 = .ok (.getfield 80, 3) := dk_180 0 80 (dk_at dksX14_isBetter_3 14 rfl rfl)
theorem dX14_isBetter_86 : decode cX14_isBetter 86 = .ok (.goto 5, 3) := dk_167 0 5 (dk_at dksX14_isBetter_3 17 rfl rfl)
theorem dX14_isBetter_89 : decode cX14_isBetter 89 = .ok (.iload 5, 2) := dk_21 5 (dk_at dksX14_isBetter_3 20 rfl rfl)
theorem dX14_isBetter_91 : decode cX14_isBetter 91 = .ok (.istore 5, 2) := dk_54 5 (dk_at dksX14_isBetter_3 22 rfl rfl)
theorem dX14_isBetter_93 : decode cX14_isBetter 93 = .ok (.goto (-54), 3) := dk_167 255 202 (dk_at dksX14_isBetter_4 0 rfl rfl)
theorem dX14_isBetter_96 : decode cX14_isBetter 96 = .ok (.aload_n 0, 1) := dk_42 (dk_at dksX14_isBetter_4 3 rfl rfl)
theorem dX14_isBetter_97 : decode cX14_isBetter 97 = .ok (.getfield 83, 3) := dk_180 0 83 (dk_at dksX14_isBetter_4 4 rfl rfl)
theorem dX14_isBetter_100 : decode cX14_isBetter 100 = .ok (.iconst (-1), 1) := dk_2 (dk_at dksX14_isBetter_4 7 rfl rfl)
theorem dX14_isBetter_101 : decode cX14_isBetter 101 = .ok (.if_icmp .eq 34, 3) := dk_159 0 34 (dk_at dksX14_isBetter_4 8 rfl rfl)
theorem dX14_isBetter_104 : decode cX14_isBetter 104 = .ok (.iload 4, 2) := dk_21 4 (dk_at dksX14_isBetter_4 11 rfl rfl)
theorem dX14_isBetter_106 : decode cX14_isBetter 106 = .ok (.iload_n 3, 1) := dk_29 (dk_at dksX14_isBetter_4 13 rfl rfl)
theorem dX14_isBetter_107 : decode cX14_isBetter 107 = .ok (.isub, 1) := dk_100 (dk_at dksX14_isBetter_4 14 rfl rfl)
theorem dX14_isBetter_108 : decode cX14_isBetter 108 = .ok (.aload_n 0, 1) := dk_42 (dk_at dksX14_isBetter_4 15 rfl rfl)
theorem dX14_isBetter_109 : decode cX14_isBetter 109 = .ok (.getfield 83, 3) := dk_180 0 83 (dk_at dksX14_isBetter_4 16 rfl rfl)
theorem dX14_isBetter_112 : decode cX14_isBetter 112 = .ok (.if_icmp .lt 23, 3) := dk_161 0 23 (dk_at dksX14_isBetter_4 19 rfl rfl)
theorem dX14_isBetter_115 : decode cX14_isBetter 115 = .ok (.iload 4, 2) := dk_21 4 (dk_at dksX14_isBetter_4 22 rfl rfl)
theorem dX14_isBetter_117 : decode cX14_isBetter 117 = .ok (.iload_n 3, 1) := dk_29 (dk_at dksX14_isBetter_5 0 rfl rfl)
theorem dX14_isBetter_118 : decode cX14_isBetter 118 = .ok (.isub, 1) := dk_100 (dk_at dksX14_isBetter_5 1 rfl rfl)
theorem dX14_isBetter_119 : decode cX14_isBetter 119 = .ok (.aload_n 0, 1) := dk_42 (dk_at dksX14_isBetter_5 2 rfl rfl)
theorem dX14_isBetter_120 : decode cX14_isBetter 120 = .ok (.getfield 83, 3) := dk_180 0 83 (dk_at dksX14_isBetter_5 3 rfl rfl)
theorem dX14_isBetter_123 : decode cX14_isBetter 123 = .ok (.if_icmp .ne 16, 3) := dk_160 0 16 (dk_at dksX14_isBetter_5 6 rfl rfl)
theorem dX14_isBetter_126 : decode cX14_isBetter 126 = .ok (.iload 5, 2) := dk_21 5 (dk_at dksX14_isBetter_5 9 rfl rfl)
theorem dX14_isBetter_128 : decode cX14_isBetter 128 = .ok (.aload_n 0, 1) := dk_42 (dk_at dksX14_isBetter_5 11 rfl rfl)
theorem dX14_isBetter_129 : decode cX14_isBetter 129 = .ok (.getfield 86, 3) := dk_180 0 86 (dk_at dksX14_isBetter_5 12 rfl rfl)
theorem dX14_isBetter_132 : decode cX14_isBetter 132 = .ok (.if_icmp .ge 7, 3) := dk_162 0 7 (dk_at dksX14_isBetter_5 15 rfl rfl)
theorem dX14_isBetter_135 : decode cX14_isBetter 135 = .ok (.iconst 1, 1) := dk_4 (dk_at dksX14_isBetter_5 18 rfl rfl)
theorem dX14_isBetter_136 : decode cX14_isBetter 136 = .ok (.goto 4, 3) := dk_167 0 4 (dk_at dksX14_isBetter_5 19 rfl rfl)
theorem dX14_isBetter_139 : decode cX14_isBetter 139 = .ok (.iconst 0, 1) := dk_3 (dk_at dksX14_isBetter_5 22 rfl rfl)
theorem dX14_isBetter_140 : decode cX14_isBetter 140 = .ok (.istore 6, 2) := dk_54 6 (dk_at dksX14_isBetter_6 0 rfl rfl)
theorem dX14_isBetter_142 : decode cX14_isBetter 142 = .ok (.iload 6, 2) := dk_21 6 (dk_at dksX14_isBetter_6 2 rfl rfl)
theorem dX14_isBetter_144 : decode cX14_isBetter 144 = .ok (.ifCond .eq 17, 3) := dk_153 0 17 (dk_at dksX14_isBetter_6 4 rfl rfl)
theorem dX14_isBetter_147 : decode cX14_isBetter 147 = .ok (.aload_n 0, 1) := dk_42 (dk_at dksX14_isBetter_6 7 rfl rfl)
theorem dX14_isBetter_148 : decode cX14_isBetter 148 = .ok (.iload 4, 2) := dk_21 4 (dk_at dksX14_isBetter_6 8 rfl rfl)
theorem dX14_isBetter_150 : decode cX14_isBetter 150 = .ok (.iload_n 3, 1) := dk_29 (dk_at dksX14_isBetter_6 10 rfl rfl)
theorem dX14_isBetter_151 : decode cX14_isBetter 151 = .ok (.isub, 1) := dk_100 (dk_at dksX14_isBetter_6 11 rfl rfl)
theorem dX14_isBetter_152 : decode cX14_isBetter 152 = .ok (.putfield 83, 3) := dk_181 0 83 (dk_at dksX14_isBetter_6 12 rfl rfl)
theorem dX14_isBetter_155 : decode cX14_isBetter 155 = .ok (.aload_n 0, 1) := dk_42 (dk_at dksX14_isBetter_6 15 rfl rfl)
theorem dX14_isBetter_156 : decode cX14_isBetter 156 = .ok (.iload 5, 2) := dk_21 5 (dk_at dksX14_isBetter_6 16 rfl rfl)
theorem dX14_isBetter_158 : decode cX14_isBetter 158 = .ok (.putfield 86, 3) := dk_181 0 86 (dk_at dksX14_isBetter_6 18 rfl rfl)
theorem dX14_isBetter_161 : decode cX14_isBetter 161 = .ok (.iload 6, 2) := dk_21 6 (dk_at dksX14_isBetter_6 21 rfl rfl)
theorem dX14_isBetter_163 : decode cX14_isBetter 163 = .ok (.ireturn, 1) := dk_172 (dk_at dksX14_isBetter_6 23 rfl rfl)
abbrev cX14_arrival : ByteArray := prog_11_method_5_code
def yX14_arrival : MethodName := ⟨RX14, "arrival", "(LSharedTaxis$Taxi;LSharedTaxis$Stop;)I"⟩
def dkwX14_arrival_1 : List UInt8 := [180, 0, 76, 44, 166, 255, 241, 42, 180, 0, 27, 180, 0, 80, 172]
abbrev dktX14_arrival_1 : List UInt8 := dkwX14_arrival_1 ++ []
def dkwX14_arrival_0 : List UInt8 := [42, 180, 0, 27, 43, 42, 180, 0, 12, 182, 0, 58, 87, 42, 180, 0, 27, 182, 0, 69, 42, 180, 0, 27]
abbrev dktX14_arrival_0 : List UInt8 := dkwX14_arrival_0 ++ dktX14_arrival_1
theorem dksX14_arrival_0 : cX14_arrival.data.toList.drop 0 = dktX14_arrival_0 := by decide +kernel
theorem dksX14_arrival_1 : cX14_arrival.data.toList.drop 24 = dktX14_arrival_1 := dk_seg dksX14_arrival_0 24 rfl rfl
theorem dX14_arrival_0 : decode cX14_arrival 0 = .ok (.aload_n 0, 1) := dk_42 (dk_at dksX14_arrival_0 0 rfl rfl)
theorem dX14_arrival_1 : decode cX14_arrival 1 = .ok (.getfield 27, 3) := dk_180 0 27 (dk_at dksX14_arrival_0 1 rfl rfl)
theorem dX14_arrival_4 : decode cX14_arrival 4 = .ok (.aload_n 1, 1) := dk_43 (dk_at dksX14_arrival_0 4 rfl rfl)
theorem dX14_arrival_5 : decode cX14_arrival 5 = .ok (.aload_n 0, 1) := dk_42 (dk_at dksX14_arrival_0 5 rfl rfl)
theorem dX14_arrival_6 : decode cX14_arrival 6 = .ok (.getfield 12, 3) := dk_180 0 12 (dk_at dksX14_arrival_0 6 rfl rfl)
theorem dX14_arrival_9 : decode cX14_arrival 9 = .ok (.invokevirtual 58, 3) := dk_182 0 58 (dk_at dksX14_arrival_0 9 rfl rfl)
theorem dX14_arrival_12 : decode cX14_arrival 12 = .ok (.pop, 1) := dk_87 (dk_at dksX14_arrival_0 12 rfl rfl)
theorem dX14_arrival_13 : decode cX14_arrival 13 = .ok (.aload_n 0, 1) := dk_42 (dk_at dksX14_arrival_0 13 rfl rfl)
theorem dX14_arrival_14 : decode cX14_arrival 14 = .ok (.getfield 27, 3) := dk_180 0 27 (dk_at dksX14_arrival_0 14 rfl rfl)
theorem dX14_arrival_17 : decode cX14_arrival 17 = .ok (.invokevirtual 69, 3) := dk_182 0 69 (dk_at dksX14_arrival_0 17 rfl rfl)
theorem dX14_arrival_20 : decode cX14_arrival 20 = .ok (.aload_n 0, 1) := dk_42 (dk_at dksX14_arrival_0 20 rfl rfl)
theorem dX14_arrival_21 : decode cX14_arrival 21 = .ok (.getfield 27, 3) := dk_180 0 27 (dk_at dksX14_arrival_0 21 rfl rfl)
theorem dX14_arrival_24 : decode cX14_arrival 24 = .ok (.getfield 76, 3) := dk_180 0 76 (dk_at dksX14_arrival_1 0 rfl rfl)
theorem dX14_arrival_27 : decode cX14_arrival 27 = .ok (.aload_n 2, 1) := dk_44 (dk_at dksX14_arrival_1 3 rfl rfl)
theorem dX14_arrival_28 : decode cX14_arrival 28 = .ok (.if_acmp .ne (-15), 3) := dk_166 255 241 (dk_at dksX14_arrival_1 4 rfl rfl)
theorem dX14_arrival_31 : decode cX14_arrival 31 = .ok (.aload_n 0, 1) := dk_42 (dk_at dksX14_arrival_1 7 rfl rfl)
theorem dX14_arrival_32 : decode cX14_arrival 32 = .ok (.getfield 27, 3) := dk_180 0 27 (dk_at dksX14_arrival_1 8 rfl rfl)
theorem dX14_arrival_35 : decode cX14_arrival 35 = .ok (.getfield 80, 3) := dk_180 0 80 (dk_at dksX14_arrival_1 11 rfl rfl)
theorem dX14_arrival_38 : decode cX14_arrival 38 = .ok (.ireturn, 1) := dk_172 (dk_at dksX14_arrival_1 14 rfl rfl)
abbrev cX14_offer : ByteArray := prog_11_method_8_code
def yX14_offer : MethodName := ⟨RX14, "offer", "(I)LSharedTaxis$Offer;"⟩
def dkwX14_offer_5 : List UInt8 := [176]
abbrev dktX14_offer_5 : List UInt8 := dkwX14_offer_5 ++ []
def dkwX14_offer_4 : List UInt8 := [180, 0, 135, 42, 180, 0, 18, 180, 0, 138, 5, 46, 96, 183, 0, 142, 77, 132, 3, 1, 167, 255, 149, 44]
abbrev dktX14_offer_4 : List UInt8 := dkwX14_offer_4 ++ dktX14_offer_5
def dkwX14_offer_3 : List UInt8 := [160, 0, 41, 42, 180, 0, 86, 44, 180, 0, 134, 162, 0, 30, 187, 0, 132, 89, 29, 42, 42, 180, 0, 18]
abbrev dktX14_offer_3 : List UInt8 := dkwX14_offer_3 ++ dktX14_offer_4
def dkwX14_offer_2 : List UInt8 := [198, 0, 36, 42, 180, 0, 83, 44, 180, 0, 131, 161, 0, 25, 42, 180, 0, 83, 44, 180, 0, 131]
abbrev dktX14_offer_2 : List UInt8 := dkwX14_offer_2 ++ dktX14_offer_3
def dkwX14_offer_1 : List UInt8 := [180, 0, 18, 180, 0, 122, 29, 185, 0, 49, 2, 0, 192, 0, 37, 27, 182, 0, 127, 153, 0, 67, 44]
abbrev dktX14_offer_1 : List UInt8 := dkwX14_offer_1 ++ dktX14_offer_2
def dkwX14_offer_0 : List UInt8 := [1, 77, 3, 62, 29, 42, 180, 0, 18, 180, 0, 122, 185, 0, 41, 1, 0, 162, 0, 97, 42, 42]
abbrev dktX14_offer_0 : List UInt8 := dkwX14_offer_0 ++ dktX14_offer_1
theorem dksX14_offer_0 : cX14_offer.data.toList.drop 0 = dktX14_offer_0 := by decide +kernel
theorem dksX14_offer_1 : cX14_offer.data.toList.drop 22 = dktX14_offer_1 := dk_seg dksX14_offer_0 22 rfl rfl
theorem dksX14_offer_2 : cX14_offer.data.toList.drop 45 = dktX14_offer_2 := dk_seg dksX14_offer_1 23 rfl rfl
theorem dksX14_offer_3 : cX14_offer.data.toList.drop 67 = dktX14_offer_3 := dk_seg dksX14_offer_2 22 rfl rfl
theorem dksX14_offer_4 : cX14_offer.data.toList.drop 91 = dktX14_offer_4 := dk_seg dksX14_offer_3 24 rfl rfl
theorem dksX14_offer_5 : cX14_offer.data.toList.drop 115 = dktX14_offer_5 := dk_seg dksX14_offer_4 24 rfl rfl
theorem dX14_offer_0 : decode cX14_offer 0 = .ok (.aconst_null, 1) := dk_1 (dk_at dksX14_offer_0 0 rfl rfl)
theorem dX14_offer_1 : decode cX14_offer 1 = .ok (.astore_n 2, 1) := dk_77 (dk_at dksX14_offer_0 1 rfl rfl)
theorem dX14_offer_2 : decode cX14_offer 2 = .ok (.iconst 0, 1) := dk_3 (dk_at dksX14_offer_0 2 rfl rfl)
theorem dX14_offer_3 : decode cX14_offer 3 = .ok (.istore_n 3, 1) := dk_62 (dk_at dksX14_offer_0 3 rfl rfl)
theorem dX14_offer_4 : decode cX14_offer 4 = .ok (.iload_n 3, 1) := dk_29 (dk_at dksX14_offer_0 4 rfl rfl)
theorem dX14_offer_5 : decode cX14_offer 5 = .ok (.aload_n 0, 1) := dk_42 (dk_at dksX14_offer_0 5 rfl rfl)
theorem dX14_offer_6 : decode cX14_offer 6 = .ok (.getfield 18, 3) := dk_180 0 18 (dk_at dksX14_offer_0 6 rfl rfl)
theorem dX14_offer_9 : decode cX14_offer 9 = .ok (.getfield 122, 3) := dk_180 0 122 (dk_at dksX14_offer_0 9 rfl rfl)
theorem dX14_offer_12 : decode cX14_offer 12 = .ok (.invokeinterface 41 1, 5) := by decide +kernel
theorem dX14_offer_17 : decode cX14_offer 17 = .ok (.if_icmp .ge 97, 3) := dk_162 0 97 (dk_at dksX14_offer_0 17 rfl rfl)
theorem dX14_offer_20 : decode cX14_offer 20 = .ok (.aload_n 0, 1) := dk_42 (dk_at dksX14_offer_0 20 rfl rfl)
theorem dX14_offer_21 : decode cX14_offer 21 = .ok (.aload_n 0, 1) := dk_42 (dk_at dksX14_offer_0 21 rfl rfl)
theorem dX14_offer_22 : decode cX14_offer 22 = .ok (.getfield 18, 3) := dk_180 0 18 (dk_at dksX14_offer_1 0 rfl rfl)
theorem dX14_offer_25 : decode cX14_offer 25 = .ok (.getfield 122, 3) := dk_180 0 122 (dk_at dksX14_offer_1 3 rfl rfl)
theorem dX14_offer_28 : decode cX14_offer 28 = .ok (.iload_n 3, 1) := dk_29 (dk_at dksX14_offer_1 6 rfl rfl)
theorem dX14_offer_29 : decode cX14_offer 29 = .ok (.invokeinterface 49 2, 5) := by decide +kernel
theorem dX14_offer_34 : decode cX14_offer 34 = .ok (.checkcast 37, 3) := dk_192 0 37 (dk_at dksX14_offer_1 12 rfl rfl)
theorem dX14_offer_37 : decode cX14_offer 37 = .ok (.iload_n 1, 1) := dk_27 (dk_at dksX14_offer_1 15 rfl rfl)
theorem dX14_offer_38 : decode cX14_offer 38 = .ok (.invokevirtual 127, 3) := dk_182 0 127 (dk_at dksX14_offer_1 16 rfl rfl)
theorem dX14_offer_41 : decode cX14_offer 41 = .ok (.ifCond .eq 67, 3) := dk_153 0 67 (dk_at dksX14_offer_1 19 rfl rfl)
theorem dX14_offer_44 : decode cX14_offer 44 = .ok (.aload_n 2, 1) := dk_44 (dk_at dksX14_offer_1 22 rfl rfl)
theorem dX14_offer_45 : decode cX14_offer 45 = .ok (.ifnull 36, 3) := dk_198 0 36 (dk_at dksX14_offer_2 0 rfl rfl)
theorem dX14_offer_48 : decode cX14_offer 48 = .ok (.aload_n 0, 1) := dk_42 (dk_at dksX14_offer_2 3 rfl rfl)
theorem dX14_offer_49 : decode cX14_offer 49 = .ok (.getfield 83, 3) := dk_180 0 83 (dk_at dksX14_offer_2 4 rfl rfl)
theorem dX14_offer_52 : decode cX14_offer 52 = .ok (.aload_n 2, 1) := dk_44 (dk_at dksX14_offer_2 7 rfl rfl)
theorem dX14_offer_53 : decode cX14_offer 53 = .ok (.getfield 131, 3) := dk_180 0 131 (dk_at dksX14_offer_2 8 rfl rfl)
theorem dX14_offer_56 : decode cX14_offer 56 = .ok (.if_icmp .lt 25, 3) := dk_161 0 25 (dk_at dksX14_offer_2 11 rfl rfl)
theorem dX14_offer_59 : decode cX14_offer 59 = .ok (.aload_n 0, 1) := dk_42 (dk_at dksX14_offer_2 14 rfl rfl)
theorem dX14_offer_60 : decode cX14_offer 60 = .ok (.getfield 83, 3) := dk_180 0 83 (dk_at dksX14_offer_2 15 rfl rfl)
theorem dX14_offer_63 : decode cX14_offer 63 = .ok (.aload_n 2, 1) := dk_44 (dk_at dksX14_offer_2 18 rfl rfl)
theorem dX14_offer_64 : decode cX14_offer 64 = .ok (.getfield 131, 3) := dk_180 0 131 (dk_at dksX14_offer_2 19 rfl rfl)
theorem dX14_offer_67 : decode cX14_offer 67 = .ok (.if_icmp .ne 41, 3) := dk_160 0 41 (dk_at dksX14_offer_3 0 rfl rfl)
theorem dX14_offer_70 : decode cX14_offer 70 = .ok (.aload_n 0, 1) := dk_42 (dk_at dksX14_offer_3 3 rfl rfl)
theorem dX14_offer_71 : decode cX14_offer 71 = .ok (.getfield 86, 3) := dk_180 0 86 (dk_at dksX14_offer_3 4 rfl rfl)
theorem dX14_offer_74 : decode cX14_offer 74 = .ok (.aload_n 2, 1) := dk_44 (dk_at dksX14_offer_3 7 rfl rfl)
theorem dX14_offer_75 : decode cX14_offer 75 = .ok (.getfield 134, 3) := dk_180 0 134 (dk_at dksX14_offer_3 8 rfl rfl)
theorem dX14_offer_78 : decode cX14_offer 78 = .ok (.if_icmp .ge 30, 3) := dk_162 0 30 (dk_at dksX14_offer_3 11 rfl rfl)
theorem dX14_offer_81 : decode cX14_offer 81 = .ok (.new 132, 3) := dk_187 0 132 (dk_at dksX14_offer_3 14 rfl rfl)
theorem dX14_offer_84 : decode cX14_offer 84 = .ok (.dup, 1) := dk_89 (dk_at dksX14_offer_3 17 rfl rfl)
theorem dX14_offer_85 : decode cX14_offer 85 = .ok (.iload_n 3, 1) := dk_29 (dk_at dksX14_offer_3 18 rfl rfl)
theorem dX14_offer_86 : decode cX14_offer 86 = .ok (.aload_n 0, 1) := dk_42 (dk_at dksX14_offer_3 19 rfl rfl)
theorem dX14_offer_87 : decode cX14_offer 87 = .ok (.aload_n 0, 1) := dk_42 (dk_at dksX14_offer_3 20 rfl rfl)
theorem dX14_offer_88 : decode cX14_offer 88 = .ok (.getfield 18, 3) := dk_180 0 18 (dk_at dksX14_offer_3 21 rfl rfl)
theorem dX14_offer_91 : decode cX14_offer 91 = .ok (.getfield 135, 3) := dk_180 0 135 (dk_at dksX14_offer_4 0 rfl rfl)
theorem dX14_offer_94 : decode cX14_offer 94 = .ok (.aload_n 0, 1) := dk_42 (dk_at dksX14_offer_4 3 rfl rfl)
theorem dX14_offer_95 : decode cX14_offer 95 = .ok (.getfield 18, 3) := dk_180 0 18 (dk_at dksX14_offer_4 4 rfl rfl)
theorem dX14_offer_98 : decode cX14_offer 98 = .ok (.getfield 138, 3) := dk_180 0 138 (dk_at dksX14_offer_4 7 rfl rfl)
theorem dX14_offer_101 : decode cX14_offer 101 = .ok (.iconst 2, 1) := dk_5 (dk_at dksX14_offer_4 10 rfl rfl)
theorem dX14_offer_102 : decode cX14_offer 102 = .ok (.iaload, 1) := dk_46 (dk_at dksX14_offer_4 11 rfl rfl)
theorem dX14_offer_103 : decode cX14_offer 103 = .ok (.iadd, 1) := dk_96 (dk_at dksX14_offer_4 12 rfl rfl)
theorem dX14_offer_104 : decode cX14_offer 104 = .ok (.invokespecial 142, 3) := dk_183 0 142 (dk_at dksX14_offer_4 13 rfl rfl)
theorem dX14_offer_107 : decode cX14_offer 107 = .ok (.astore_n 2, 1) := dk_77 (dk_at dksX14_offer_4 16 rfl rfl)
theorem dX14_offer_108 : decode cX14_offer 108 = .ok (.iinc 3 1, 3) := dk_132 3 1 (dk_at dksX14_offer_4 17 rfl rfl)
theorem dX14_offer_111 : decode cX14_offer 111 = .ok (.goto (-107), 3) := dk_167 255 149 (dk_at dksX14_offer_4 20 rfl rfl)
theorem dX14_offer_114 : decode cX14_offer 114 = .ok (.aload_n 2, 1) := dk_44 (dk_at dksX14_offer_4 23 rfl rfl)
theorem dX14_offer_115 : decode cX14_offer 115 = .ok (.areturn, 1) := dk_176 (dk_at dksX14_offer_5 0 rfl rfl)
abbrev cX14_insert : ByteArray := prog_11_method_7_code
def yX14_insert : MethodName := ⟨RX14, "insert", "(LSharedTaxis$Taxi;I)V"⟩
def dkwX14_insert_1 : List UInt8 := [180, 0, 36, 42, 180, 0, 109, 187, 0, 53, 89, 28, 3, 183, 0, 89, 185, 0, 119, 3, 0, 177]
abbrev dktX14_insert_1 : List UInt8 := dkwX14_insert_1 ++ []
def dkwX14_insert_0 : List UInt8 := [43, 180, 0, 36, 42, 180, 0, 106, 187, 0, 53, 89, 28, 4, 183, 0, 89, 185, 0, 119, 3, 0, 43]
abbrev dktX14_insert_0 : List UInt8 := dkwX14_insert_0 ++ dktX14_insert_1
theorem dksX14_insert_0 : cX14_insert.data.toList.drop 0 = dktX14_insert_0 := by decide +kernel
theorem dksX14_insert_1 : cX14_insert.data.toList.drop 23 = dktX14_insert_1 := dk_seg dksX14_insert_0 23 rfl rfl
theorem dX14_insert_0 : decode cX14_insert 0 = .ok (.aload_n 1, 1) := dk_43 (dk_at dksX14_insert_0 0 rfl rfl)
theorem dX14_insert_1 : decode cX14_insert 1 = .ok (.getfield 36, 3) := dk_180 0 36 (dk_at dksX14_insert_0 1 rfl rfl)
theorem dX14_insert_4 : decode cX14_insert 4 = .ok (.aload_n 0, 1) := dk_42 (dk_at dksX14_insert_0 4 rfl rfl)
theorem dX14_insert_5 : decode cX14_insert 5 = .ok (.getfield 106, 3) := dk_180 0 106 (dk_at dksX14_insert_0 5 rfl rfl)
theorem dX14_insert_8 : decode cX14_insert 8 = .ok (.new 53, 3) := dk_187 0 53 (dk_at dksX14_insert_0 8 rfl rfl)
theorem dX14_insert_11 : decode cX14_insert 11 = .ok (.dup, 1) := dk_89 (dk_at dksX14_insert_0 11 rfl rfl)
theorem dX14_insert_12 : decode cX14_insert 12 = .ok (.iload_n 2, 1) := dk_28 (dk_at dksX14_insert_0 12 rfl rfl)
theorem dX14_insert_13 : decode cX14_insert 13 = .ok (.iconst 1, 1) := dk_4 (dk_at dksX14_insert_0 13 rfl rfl)
theorem dX14_insert_14 : decode cX14_insert 14 = .ok (.invokespecial 89, 3) := dk_183 0 89 (dk_at dksX14_insert_0 14 rfl rfl)
theorem dX14_insert_17 : decode cX14_insert 17 = .ok (.invokeinterface 119 3, 5) := by decide +kernel
theorem dX14_insert_22 : decode cX14_insert 22 = .ok (.aload_n 1, 1) := dk_43 (dk_at dksX14_insert_0 22 rfl rfl)
theorem dX14_insert_23 : decode cX14_insert 23 = .ok (.getfield 36, 3) := dk_180 0 36 (dk_at dksX14_insert_1 0 rfl rfl)
theorem dX14_insert_26 : decode cX14_insert 26 = .ok (.aload_n 0, 1) := dk_42 (dk_at dksX14_insert_1 3 rfl rfl)
theorem dX14_insert_27 : decode cX14_insert 27 = .ok (.getfield 109, 3) := dk_180 0 109 (dk_at dksX14_insert_1 4 rfl rfl)
theorem dX14_insert_30 : decode cX14_insert 30 = .ok (.new 53, 3) := dk_187 0 53 (dk_at dksX14_insert_1 7 rfl rfl)
theorem dX14_insert_33 : decode cX14_insert 33 = .ok (.dup, 1) := dk_89 (dk_at dksX14_insert_1 10 rfl rfl)
theorem dX14_insert_34 : decode cX14_insert 34 = .ok (.iload_n 2, 1) := dk_28 (dk_at dksX14_insert_1 11 rfl rfl)
theorem dX14_insert_35 : decode cX14_insert 35 = .ok (.iconst 0, 1) := dk_3 (dk_at dksX14_insert_1 12 rfl rfl)
theorem dX14_insert_36 : decode cX14_insert 36 = .ok (.invokespecial 89, 3) := dk_183 0 89 (dk_at dksX14_insert_1 13 rfl rfl)
theorem dX14_insert_39 : decode cX14_insert 39 = .ok (.invokeinterface 119 3, 5) := by decide +kernel
theorem dX14_insert_44 : decode cX14_insert 44 = .ok (.return_, 1) := dk_177 (dk_at dksX14_insert_1 21 rfl rfl)
abbrev cX15_init : ByteArray := prog_13_method_1_code
def yX15_init : MethodName := ⟨RX15, "<init>", "(IZ)V"⟩
def dkwX15_init_0 : List UInt8 := [42, 183, 0, 1, 42, 27, 181, 0, 7, 42, 28, 181, 0, 13, 177]
abbrev dktX15_init_0 : List UInt8 := dkwX15_init_0 ++ []
theorem dksX15_init_0 : cX15_init.data.toList.drop 0 = dktX15_init_0 := by decide +kernel
theorem dX15_init_0 : decode cX15_init 0 = .ok (.aload_n 0, 1) := dk_42 (dk_at dksX15_init_0 0 rfl rfl)
theorem dX15_init_1 : decode cX15_init 1 = .ok (.invokespecial 1, 3) := dk_183 0 1 (dk_at dksX15_init_0 1 rfl rfl)
theorem dX15_init_4 : decode cX15_init 4 = .ok (.aload_n 0, 1) := dk_42 (dk_at dksX15_init_0 4 rfl rfl)
theorem dX15_init_5 : decode cX15_init 5 = .ok (.iload_n 1, 1) := dk_27 (dk_at dksX15_init_0 5 rfl rfl)
theorem dX15_init_6 : decode cX15_init 6 = .ok (.putfield 7, 3) := dk_181 0 7 (dk_at dksX15_init_0 6 rfl rfl)
theorem dX15_init_9 : decode cX15_init 9 = .ok (.aload_n 0, 1) := dk_42 (dk_at dksX15_init_0 9 rfl rfl)
theorem dX15_init_10 : decode cX15_init 10 = .ok (.iload_n 2, 1) := dk_28 (dk_at dksX15_init_0 10 rfl rfl)
theorem dX15_init_11 : decode cX15_init 11 = .ok (.putfield 13, 3) := dk_181 0 13 (dk_at dksX15_init_0 11 rfl rfl)
theorem dX15_init_14 : decode cX15_init 14 = .ok (.return_, 1) := dk_177 (dk_at dksX15_init_0 14 rfl rfl)
abbrev cX16_copy : ByteArray := prog_9_method_3_code
def yX16_copy : MethodName := ⟨RX16, "copy", "()LSharedTaxis$Ride;"⟩
def dkwX16_copy_0 : List UInt8 := [187, 0, 10, 89, 42, 183, 0, 62, 176]
abbrev dktX16_copy_0 : List UInt8 := dkwX16_copy_0 ++ []
theorem dksX16_copy_0 : cX16_copy.data.toList.drop 0 = dktX16_copy_0 := by decide +kernel
theorem dX16_copy_0 : decode cX16_copy 0 = .ok (.new 10, 3) := dk_187 0 10 (dk_at dksX16_copy_0 0 rfl rfl)
theorem dX16_copy_3 : decode cX16_copy 3 = .ok (.dup, 1) := dk_89 (dk_at dksX16_copy_0 3 rfl rfl)
theorem dX16_copy_4 : decode cX16_copy 4 = .ok (.aload_n 0, 1) := dk_42 (dk_at dksX16_copy_0 4 rfl rfl)
theorem dX16_copy_5 : decode cX16_copy 5 = .ok (.invokespecial 62, 3) := dk_183 0 62 (dk_at dksX16_copy_0 5 rfl rfl)
theorem dX16_copy_8 : decode cX16_copy 8 = .ok (.areturn, 1) := dk_176 (dk_at dksX16_copy_0 8 rfl rfl)
abbrev cX16_init : ByteArray := prog_9_method_2_code
def yX16_init : MethodName := ⟨RX16, "<init>", "(LSharedTaxis$Ride;)V"⟩
def dkwX16_init_3 : List UInt8 := [180, 0, 51, 181, 0, 51, 42, 43, 180, 0, 54, 181, 0, 54, 42, 43, 180, 0, 58, 181, 0, 58, 177]
abbrev dktX16_init_3 : List UInt8 := dkwX16_init_3 ++ []
def dkwX16_init_2 : List UInt8 := [180, 0, 9, 181, 0, 9, 42, 43, 180, 0, 15, 181, 0, 15, 42, 43, 180, 0, 18, 181, 0, 18, 42, 43]
abbrev dktX16_init_2 : List UInt8 := dkwX16_init_2 ++ dktX16_init_3
def dkwX16_init_1 : List UInt8 := [180, 0, 36, 43, 180, 0, 39, 43, 180, 0, 42, 183, 0, 45, 42, 43, 180, 0, 48, 181, 0, 48, 42, 43]
abbrev dktX16_init_1 : List UInt8 := dkwX16_init_1 ++ dktX16_init_2
def dkwX16_init_0 : List UInt8 := [42, 43, 180, 0, 21, 43, 180, 0, 24, 43, 180, 0, 27, 43, 180, 0, 30, 43, 180, 0, 33, 43]
abbrev dktX16_init_0 : List UInt8 := dkwX16_init_0 ++ dktX16_init_1
theorem dksX16_init_0 : cX16_init.data.toList.drop 0 = dktX16_init_0 := by decide +kernel
theorem dksX16_init_1 : cX16_init.data.toList.drop 22 = dktX16_init_1 := dk_seg dksX16_init_0 22 rfl rfl
theorem dksX16_init_2 : cX16_init.data.toList.drop 46 = dktX16_init_2 := dk_seg dksX16_init_1 24 rfl rfl
theorem dksX16_init_3 : cX16_init.data.toList.drop 70 = dktX16_init_3 := dk_seg dksX16_init_2 24 rfl rfl
theorem dX16_init_0 : decode cX16_init 0 = .ok (.aload_n 0, 1) := dk_42 (dk_at dksX16_init_0 0 rfl rfl)
theorem dX16_init_1 : decode cX16_init 1 = .ok (.aload_n 1, 1) := dk_43 (dk_at dksX16_init_0 1 rfl rfl)
theorem dX16_init_2 : decode cX16_init 2 = .ok (.getfield 21, 3) := dk_180 0 21 (dk_at dksX16_init_0 2 rfl rfl)
theorem dX16_init_5 : decode cX16_init 5 = .ok (.aload_n 1, 1) := dk_43 (dk_at dksX16_init_0 5 rfl rfl)
theorem dX16_init_6 : decode cX16_init 6 = .ok (.getfield 24, 3) := dk_180 0 24 (dk_at dksX16_init_0 6 rfl rfl)
theorem dX16_init_9 : decode cX16_init 9 = .ok (.aload_n 1, 1) := dk_43 (dk_at dksX16_init_0 9 rfl rfl)
theorem dX16_init_10 : decode cX16_init 10 = .ok (.getfield 27, 3) := dk_180 0 27 (dk_at dksX16_init_0 10 rfl rfl)
theorem dX16_init_13 : decode cX16_init 13 = .ok (.aload_n 1, 1) := dk_43 (dk_at dksX16_init_0 13 rfl rfl)
theorem dX16_init_14 : decode cX16_init 14 = .ok (.getfield 30, 3) := dk_180 0 30 (dk_at dksX16_init_0 14 rfl rfl)
theorem dX16_init_17 : decode cX16_init 17 = .ok (.aload_n 1, 1) := dk_43 (dk_at dksX16_init_0 17 rfl rfl)
theorem dX16_init_18 : decode cX16_init 18 = .ok (.getfield 33, 3) := dk_180 0 33 (dk_at dksX16_init_0 18 rfl rfl)
theorem dX16_init_21 : decode cX16_init 21 = .ok (.aload_n 1, 1) := dk_43 (dk_at dksX16_init_0 21 rfl rfl)
theorem dX16_init_22 : decode cX16_init 22 = .ok (.getfield 36, 3) := dk_180 0 36 (dk_at dksX16_init_1 0 rfl rfl)
theorem dX16_init_25 : decode cX16_init 25 = .ok (.aload_n 1, 1) := dk_43 (dk_at dksX16_init_1 3 rfl rfl)
theorem dX16_init_26 : decode cX16_init 26 = .ok (.getfield 39, 3) := dk_180 0 39 (dk_at dksX16_init_1 4 rfl rfl)
theorem dX16_init_29 : decode cX16_init 29 = .ok (.aload_n 1, 1) := dk_43 (dk_at dksX16_init_1 7 rfl rfl)
theorem dX16_init_30 : decode cX16_init 30 = .ok (.getfield 42, 3) := dk_180 0 42 (dk_at dksX16_init_1 8 rfl rfl)
theorem dX16_init_33 : decode cX16_init 33 = .ok (.invokespecial 45, 3) := dk_183 0 45 (dk_at dksX16_init_1 11 rfl rfl)
theorem dX16_init_36 : decode cX16_init 36 = .ok (.aload_n 0, 1) := dk_42 (dk_at dksX16_init_1 14 rfl rfl)
theorem dX16_init_37 : decode cX16_init 37 = .ok (.aload_n 1, 1) := dk_43 (dk_at dksX16_init_1 15 rfl rfl)
theorem dX16_init_38 : decode cX16_init 38 = .ok (.getfield 48, 3) := dk_180 0 48 (dk_at dksX16_init_1 16 rfl rfl)
theorem dX16_init_41 : decode cX16_init 41 = .ok (.putfield 48, 3) := dk_181 0 48 (dk_at dksX16_init_1 19 rfl rfl)
theorem dX16_init_44 : decode cX16_init 44 = .ok (.aload_n 0, 1) := dk_42 (dk_at dksX16_init_1 22 rfl rfl)
theorem dX16_init_45 : decode cX16_init 45 = .ok (.aload_n 1, 1) := dk_43 (dk_at dksX16_init_1 23 rfl rfl)
theorem dX16_init_46 : decode cX16_init 46 = .ok (.getfield 9, 3) := dk_180 0 9 (dk_at dksX16_init_2 0 rfl rfl)
theorem dX16_init_49 : decode cX16_init 49 = .ok (.putfield 9, 3) := dk_181 0 9 (dk_at dksX16_init_2 3 rfl rfl)
theorem dX16_init_52 : decode cX16_init 52 = .ok (.aload_n 0, 1) := dk_42 (dk_at dksX16_init_2 6 rfl rfl)
theorem dX16_init_53 : decode cX16_init 53 = .ok (.aload_n 1, 1) := dk_43 (dk_at dksX16_init_2 7 rfl rfl)
theorem dX16_init_54 : decode cX16_init 54 = .ok (.getfield 15, 3) := dk_180 0 15 (dk_at dksX16_init_2 8 rfl rfl)
theorem dX16_init_57 : decode cX16_init 57 = .ok (.putfield 15, 3) := dk_181 0 15 (dk_at dksX16_init_2 11 rfl rfl)
theorem dX16_init_60 : decode cX16_init 60 = .ok (.aload_n 0, 1) := dk_42 (dk_at dksX16_init_2 14 rfl rfl)
theorem dX16_init_61 : decode cX16_init 61 = .ok (.aload_n 1, 1) := dk_43 (dk_at dksX16_init_2 15 rfl rfl)
theorem dX16_init_62 : decode cX16_init 62 = .ok (.getfield 18, 3) := dk_180 0 18 (dk_at dksX16_init_2 16 rfl rfl)
theorem dX16_init_65 : decode cX16_init 65 = .ok (.putfield 18, 3) := dk_181 0 18 (dk_at dksX16_init_2 19 rfl rfl)
theorem dX16_init_68 : decode cX16_init 68 = .ok (.aload_n 0, 1) := dk_42 (dk_at dksX16_init_2 22 rfl rfl)
theorem dX16_init_69 : decode cX16_init 69 = .ok (.aload_n 1, 1) := dk_43 (dk_at dksX16_init_2 23 rfl rfl)
theorem dX16_init_70 : decode cX16_init 70 = .ok (.getfield 51, 3) := dk_180 0 51 (dk_at dksX16_init_3 0 rfl rfl)
theorem dX16_init_73 : decode cX16_init 73 = .ok (.putfield 51, 3) := dk_181 0 51 (dk_at dksX16_init_3 3 rfl rfl)
theorem dX16_init_76 : decode cX16_init 76 = .ok (.aload_n 0, 1) := dk_42 (dk_at dksX16_init_3 6 rfl rfl)
theorem dX16_init_77 : decode cX16_init 77 = .ok (.aload_n 1, 1) := dk_43 (dk_at dksX16_init_3 7 rfl rfl)
theorem dX16_init_78 : decode cX16_init 78 = .ok (.getfield 54, 3) := dk_180 0 54 (dk_at dksX16_init_3 8 rfl rfl)
theorem dX16_init_81 : decode cX16_init 81 = .ok (.putfield 54, 3) := dk_181 0 54 (dk_at dksX16_init_3 11 rfl rfl)
theorem dX16_init_84 : decode cX16_init 84 = .ok (.aload_n 0, 1) := dk_42 (dk_at dksX16_init_3 14 rfl rfl)
theorem dX16_init_85 : decode cX16_init 85 = .ok (.aload_n 1, 1) := dk_43 (dk_at dksX16_init_3 15 rfl rfl)
theorem dX16_init_86 : decode cX16_init 86 = .ok (.getfield 58, 3) := dk_180 0 58 (dk_at dksX16_init_3 16 rfl rfl)
theorem dX16_init_89 : decode cX16_init 89 = .ok (.putfield 58, 3) := dk_181 0 58 (dk_at dksX16_init_3 19 rfl rfl)
theorem dX16_init_92 : decode cX16_init 92 = .ok (.return_, 1) := dk_177 (dk_at dksX16_init_3 22 rfl rfl)
abbrev cX16_init_2 : ByteArray := prog_9_method_1_code
def yX16_init_2 : MethodName := ⟨RX16, "<init>", "(IIIIIIII)V"⟩
def dkwX16_init_2_2 : List UInt8 := [21, 6, 181, 0, 36, 42, 21, 7, 181, 0, 39, 42, 21, 8, 181, 0, 42, 177]
abbrev dktX16_init_2_2 : List UInt8 := dkwX16_init_2_2 ++ []
def dkwX16_init_2_1 : List UInt8 := [42, 28, 181, 0, 24, 42, 29, 181, 0, 27, 42, 21, 4, 181, 0, 30, 42, 21, 5, 181, 0, 33, 42]
abbrev dktX16_init_2_1 : List UInt8 := dkwX16_init_2_1 ++ dktX16_init_2_2
def dkwX16_init_2_0 : List UInt8 := [42, 183, 0, 3, 42, 2, 181, 0, 9, 42, 2, 181, 0, 15, 42, 2, 181, 0, 18, 42, 27, 181, 0, 21]
abbrev dktX16_init_2_0 : List UInt8 := dkwX16_init_2_0 ++ dktX16_init_2_1
theorem dksX16_init_2_0 : cX16_init_2.data.toList.drop 0 = dktX16_init_2_0 := by decide +kernel
theorem dksX16_init_2_1 : cX16_init_2.data.toList.drop 24 = dktX16_init_2_1 := dk_seg dksX16_init_2_0 24 rfl rfl
theorem dksX16_init_2_2 : cX16_init_2.data.toList.drop 47 = dktX16_init_2_2 := dk_seg dksX16_init_2_1 23 rfl rfl
theorem dX16_init_2_0 : decode cX16_init_2 0 = .ok (.aload_n 0, 1) := dk_42 (dk_at dksX16_init_2_0 0 rfl rfl)
theorem dX16_init_2_1 : decode cX16_init_2 1 = .ok (.invokespecial 3, 3) := dk_183 0 3 (dk_at dksX16_init_2_0 1 rfl rfl)
theorem dX16_init_2_4 : decode cX16_init_2 4 = .ok (.aload_n 0, 1) := dk_42 (dk_at dksX16_init_2_0 4 rfl rfl)
theorem dX16_init_2_5 : decode cX16_init_2 5 = .ok (.iconst (-1), 1) := dk_2 (dk_at dksX16_init_2_0 5 rfl rfl)
theorem dX16_init_2_6 : decode cX16_init_2 6 = .ok (.putfield 9, 3) := dk_181 0 9 (dk_at dksX16_init_2_0 6 rfl rfl)
theorem dX16_init_2_9 : decode cX16_init_2 9 = .ok (.aload_n 0, 1) := dk_42 (dk_at dksX16_init_2_0 9 rfl rfl)
theorem dX16_init_2_10 : decode cX16_init_2 10 = .ok (.iconst (-1), 1) := dk_2 (dk_at dksX16_init_2_0 10 rfl rfl)
theorem dX16_init_2_11 : decode cX16_init_2 11 = .ok (.putfield 15, 3) := dk_181 0 15 (dk_at dksX16_init_2_0 11 rfl rfl)
theorem dX16_init_2_14 : decode cX16_init_2 14 = .ok (.aload_n 0, 1) := dk_42 (dk_at dksX16_init_2_0 14 rfl rfl)
theorem dX16_init_2_15 : decode cX16_init_2 15 = .ok (.iconst (-1), 1) := dk_2 (dk_at dksX16_init_2_0 15 rfl rfl)
theorem dX16_init_2_16 : decode cX16_init_2 16 = .ok (.putfield 18, 3) := dk_181 0 18 (dk_at dksX16_init_2_0 16 rfl rfl)
theorem dX16_init_2_19 : decode cX16_init_2 19 = .ok (.aload_n 0, 1) := dk_42 (dk_at dksX16_init_2_0 19 rfl rfl)
theorem dX16_init_2_20 : decode cX16_init_2 20 = .ok (.iload_n 1, 1) := dk_27 (dk_at dksX16_init_2_0 20 rfl rfl)
theorem dX16_init_2_21 : decode cX16_init_2 21 = .ok (.putfield 21, 3) := dk_181 0 21 (dk_at dksX16_init_2_0 21 rfl rfl)
theorem dX16_init_2_24 : decode cX16_init_2 24 = .ok (.aload_n 0, 1) := dk_42 (dk_at dksX16_init_2_1 0 rfl rfl)
theorem dX16_init_2_25 : decode cX16_init_2 25 = .ok (.iload_n 2, 1) := dk_28 (dk_at dksX16_init_2_1 1 rfl rfl)
theorem dX16_init_2_26 : decode cX16_init_2 26 = .ok (.putfield 24, 3) := dk_181 0 24 (dk_at dksX16_init_2_1 2 rfl rfl)
theorem dX16_init_2_29 : decode cX16_init_2 29 = .ok (.aload_n 0, 1) := dk_42 (dk_at dksX16_init_2_1 5 rfl rfl)
theorem dX16_init_2_30 : decode cX16_init_2 30 = .ok (.iload_n 3, 1) := dk_29 (dk_at dksX16_init_2_1 6 rfl rfl)
theorem dX16_init_2_31 : decode cX16_init_2 31 = .ok (.putfield 27, 3) := dk_181 0 27 (dk_at dksX16_init_2_1 7 rfl rfl)
theorem dX16_init_2_34 : decode cX16_init_2 34 = .ok (.aload_n 0, 1) := dk_42 (dk_at dksX16_init_2_1 10 rfl rfl)
theorem dX16_init_2_35 : decode cX16_init_2 35 = .ok (.iload 4, 2) := dk_21 4 (dk_at dksX16_init_2_1 11 rfl rfl)
theorem dX16_init_2_37 : decode cX16_init_2 37 = .ok (.putfield 30, 3) := dk_181 0 30 (dk_at dksX16_init_2_1 13 rfl rfl)
theorem dX16_init_2_40 : decode cX16_init_2 40 = .ok (.aload_n 0, 1) := dk_42 (dk_at dksX16_init_2_1 16 rfl rfl)
theorem dX16_init_2_41 : decode cX16_init_2 41 = .ok (.iload 5, 2) := dk_21 5 (dk_at dksX16_init_2_1 17 rfl rfl)
theorem dX16_init_2_43 : decode cX16_init_2 43 = .ok (.putfield 33, 3) := dk_181 0 33 (dk_at dksX16_init_2_1 19 rfl rfl)
theorem dX16_init_2_46 : decode cX16_init_2 46 = .ok (.aload_n 0, 1) := dk_42 (dk_at dksX16_init_2_1 22 rfl rfl)
theorem dX16_init_2_47 : decode cX16_init_2 47 = .ok (.iload 6, 2) := dk_21 6 (dk_at dksX16_init_2_2 0 rfl rfl)
theorem dX16_init_2_49 : decode cX16_init_2 49 = .ok (.putfield 36, 3) := dk_181 0 36 (dk_at dksX16_init_2_2 2 rfl rfl)
theorem dX16_init_2_52 : decode cX16_init_2 52 = .ok (.aload_n 0, 1) := dk_42 (dk_at dksX16_init_2_2 5 rfl rfl)
theorem dX16_init_2_53 : decode cX16_init_2 53 = .ok (.iload 7, 2) := dk_21 7 (dk_at dksX16_init_2_2 6 rfl rfl)
theorem dX16_init_2_55 : decode cX16_init_2 55 = .ok (.putfield 39, 3) := dk_181 0 39 (dk_at dksX16_init_2_2 8 rfl rfl)
theorem dX16_init_2_58 : decode cX16_init_2 58 = .ok (.aload_n 0, 1) := dk_42 (dk_at dksX16_init_2_2 11 rfl rfl)
theorem dX16_init_2_59 : decode cX16_init_2 59 = .ok (.iload 8, 2) := dk_21 8 (dk_at dksX16_init_2_2 12 rfl rfl)
theorem dX16_init_2_61 : decode cX16_init_2 61 = .ok (.putfield 42, 3) := dk_181 0 42 (dk_at dksX16_init_2_2 14 rfl rfl)
theorem dX16_init_2_64 : decode cX16_init_2 64 = .ok (.return_, 1) := dk_177 (dk_at dksX16_init_2_2 17 rfl rfl)
abbrev cX16_most : ByteArray := prog_9_method_4_code
def yX16_most : MethodName := ⟨RX16, "most", "()I"⟩
def dkwX16_most_1 : List UInt8 := [16, 100, 108, 172]
abbrev dktX16_most_1 : List UInt8 := dkwX16_most_1 ++ []
def dkwX16_most_0 : List UInt8 := [42, 180, 0, 42, 2, 160, 0, 7, 2, 167, 0, 18, 42, 180, 0, 42, 16, 100, 42, 180, 0, 39, 96, 104]
abbrev dktX16_most_0 : List UInt8 := dkwX16_most_0 ++ dktX16_most_1
theorem dksX16_most_0 : cX16_most.data.toList.drop 0 = dktX16_most_0 := by decide +kernel
theorem dksX16_most_1 : cX16_most.data.toList.drop 24 = dktX16_most_1 := dk_seg dksX16_most_0 24 rfl rfl
theorem dX16_most_0 : decode cX16_most 0 = .ok (.aload_n 0, 1) := dk_42 (dk_at dksX16_most_0 0 rfl rfl)
theorem dX16_most_1 : decode cX16_most 1 = .ok (.getfield 42, 3) := dk_180 0 42 (dk_at dksX16_most_0 1 rfl rfl)
theorem dX16_most_4 : decode cX16_most 4 = .ok (.iconst (-1), 1) := dk_2 (dk_at dksX16_most_0 4 rfl rfl)
theorem dX16_most_5 : decode cX16_most 5 = .ok (.if_icmp .ne 7, 3) := dk_160 0 7 (dk_at dksX16_most_0 5 rfl rfl)
theorem dX16_most_8 : decode cX16_most 8 = .ok (.iconst (-1), 1) := dk_2 (dk_at dksX16_most_0 8 rfl rfl)
theorem dX16_most_9 : decode cX16_most 9 = .ok (.goto 18, 3) := dk_167 0 18 (dk_at dksX16_most_0 9 rfl rfl)
theorem dX16_most_12 : decode cX16_most 12 = .ok (.aload_n 0, 1) := dk_42 (dk_at dksX16_most_0 12 rfl rfl)
theorem dX16_most_13 : decode cX16_most 13 = .ok (.getfield 42, 3) := dk_180 0 42 (dk_at dksX16_most_0 13 rfl rfl)
theorem dX16_most_16 : decode cX16_most 16 = .ok (.bipush 100, 2) := dk_16 100 (dk_at dksX16_most_0 16 rfl rfl)
theorem dX16_most_18 : decode cX16_most 18 = .ok (.aload_n 0, 1) := dk_42 (dk_at dksX16_most_0 18 rfl rfl)
theorem dX16_most_19 : decode cX16_most 19 = .ok (.getfield 39, 3) := dk_180 0 39 (dk_at dksX16_most_0 19 rfl rfl)
theorem dX16_most_22 : decode cX16_most 22 = .ok (.iadd, 1) := dk_96 (dk_at dksX16_most_0 22 rfl rfl)
theorem dX16_most_23 : decode cX16_most 23 = .ok (.imul, 1) := dk_104 (dk_at dksX16_most_0 23 rfl rfl)
theorem dX16_most_24 : decode cX16_most 24 = .ok (.bipush 100, 2) := dk_16 100 (dk_at dksX16_most_1 0 rfl rfl)
theorem dX16_most_26 : decode cX16_most 26 = .ok (.idiv, 1) := dk_108 (dk_at dksX16_most_1 2 rfl rfl)
theorem dX16_most_27 : decode cX16_most 27 = .ok (.ireturn, 1) := dk_172 (dk_at dksX16_most_1 3 rfl rfl)
abbrev cX17_part : ByteArray := prog_4_method_2_code
def yX17_part : MethodName := ⟨RX17, "part", "(I)I"⟩
def dkwX17_part_3 : List UInt8 := [180, 0, 26, 167, 0, 7, 42, 180, 0, 27, 172]
abbrev dktX17_part_3 : List UInt8 := dkwX17_part_3 ++ []
def dkwX17_part_2 : List UInt8 := [42, 180, 0, 7, 167, 0, 28, 42, 180, 0, 18, 167, 0, 21, 42, 180, 0, 22, 167, 0, 14, 42]
abbrev dktX17_part_2 : List UInt8 := dkwX17_part_2 ++ dktX17_part_3
def dkwX17_part_1 : List UInt8 := [170, 0, 0, 0, 0, 0, 59, 0, 0, 0, 0, 0, 0, 0, 3, 0, 0, 0, 31, 0, 0, 0, 38, 0, 0, 0, 45, 0, 0, 0, 52]
abbrev dktX17_part_1 : List UInt8 := dkwX17_part_1 ++ dktX17_part_2
def dkwX17_part_0 : List UInt8 := [27]
abbrev dktX17_part_0 : List UInt8 := dkwX17_part_0 ++ dktX17_part_1
theorem dksX17_part_0 : cX17_part.data.toList.drop 0 = dktX17_part_0 := by decide +kernel
theorem dksX17_part_1 : cX17_part.data.toList.drop 1 = dktX17_part_1 := dk_seg dksX17_part_0 1 rfl rfl
theorem dksX17_part_2 : cX17_part.data.toList.drop 32 = dktX17_part_2 := dk_seg dksX17_part_1 31 rfl rfl
theorem dksX17_part_3 : cX17_part.data.toList.drop 54 = dktX17_part_3 := dk_seg dksX17_part_2 22 rfl rfl
theorem dX17_part_0 : decode cX17_part 0 = .ok (.iload_n 1, 1) := dk_27 (dk_at dksX17_part_0 0 rfl rfl)
theorem dX17_part_1 : decode cX17_part 1 = .ok (.tableswitch 59 0 3 #[31, 38, 45, 52], 31) := by decide +kernel
theorem dX17_part_32 : decode cX17_part 32 = .ok (.aload_n 0, 1) := dk_42 (dk_at dksX17_part_2 0 rfl rfl)
theorem dX17_part_33 : decode cX17_part 33 = .ok (.getfield 7, 3) := dk_180 0 7 (dk_at dksX17_part_2 1 rfl rfl)
theorem dX17_part_36 : decode cX17_part 36 = .ok (.goto 28, 3) := dk_167 0 28 (dk_at dksX17_part_2 4 rfl rfl)
theorem dX17_part_39 : decode cX17_part 39 = .ok (.aload_n 0, 1) := dk_42 (dk_at dksX17_part_2 7 rfl rfl)
theorem dX17_part_40 : decode cX17_part 40 = .ok (.getfield 18, 3) := dk_180 0 18 (dk_at dksX17_part_2 8 rfl rfl)
theorem dX17_part_43 : decode cX17_part 43 = .ok (.goto 21, 3) := dk_167 0 21 (dk_at dksX17_part_2 11 rfl rfl)
theorem dX17_part_46 : decode cX17_part 46 = .ok (.aload_n 0, 1) := dk_42 (dk_at dksX17_part_2 14 rfl rfl)
theorem dX17_part_47 : decode cX17_part 47 = .ok (.getfield 22, 3) := dk_180 0 22 (dk_at dksX17_part_2 15 rfl rfl)
theorem dX17_part_50 : decode cX17_part 50 = .ok (.goto 14, 3) := dk_167 0 14 (dk_at dksX17_part_2 18 rfl rfl)
theorem dX17_part_53 : decode cX17_part 53 = .ok (.aload_n 0, 1) := dk_42 (dk_at dksX17_part_2 21 rfl rfl)
theorem dX17_part_54 : decode cX17_part 54 = .ok (.getfield 26, 3) := dk_180 0 26 (dk_at dksX17_part_3 0 rfl rfl)
theorem dX17_part_57 : decode cX17_part 57 = .ok (.goto 7, 3) := dk_167 0 7 (dk_at dksX17_part_3 3 rfl rfl)
theorem dX17_part_60 : decode cX17_part 60 = .ok (.aload_n 0, 1) := dk_42 (dk_at dksX17_part_3 6 rfl rfl)
theorem dX17_part_61 : decode cX17_part 61 = .ok (.getfield 27, 3) := dk_180 0 27 (dk_at dksX17_part_3 7 rfl rfl)
theorem dX17_part_64 : decode cX17_part 64 = .ok (.ireturn, 1) := dk_172 (dk_at dksX17_part_3 10 rfl rfl)
abbrev cX17_init : ByteArray := prog_4_method_1_code
def yX17_init : MethodName := ⟨RX17, "<init>", "(ILSharedTaxis$Search;I)V"⟩
def dkwX17_init_1 : List UInt8 := [181, 0, 22, 42, 44, 180, 0, 23, 181, 0, 26, 42, 29, 181, 0, 27, 177]
abbrev dktX17_init_1 : List UInt8 := dkwX17_init_1 ++ []
def dkwX17_init_0 : List UInt8 := [42, 183, 0, 1, 42, 27, 181, 0, 7, 42, 44, 180, 0, 13, 181, 0, 18, 42, 44, 180, 0, 19]
abbrev dktX17_init_0 : List UInt8 := dkwX17_init_0 ++ dktX17_init_1
theorem dksX17_init_0 : cX17_init.data.toList.drop 0 = dktX17_init_0 := by decide +kernel
theorem dksX17_init_1 : cX17_init.data.toList.drop 22 = dktX17_init_1 := dk_seg dksX17_init_0 22 rfl rfl
theorem dX17_init_0 : decode cX17_init 0 = .ok (.aload_n 0, 1) := dk_42 (dk_at dksX17_init_0 0 rfl rfl)
theorem dX17_init_1 : decode cX17_init 1 = .ok (.invokespecial 1, 3) := dk_183 0 1 (dk_at dksX17_init_0 1 rfl rfl)
theorem dX17_init_4 : decode cX17_init 4 = .ok (.aload_n 0, 1) := dk_42 (dk_at dksX17_init_0 4 rfl rfl)
theorem dX17_init_5 : decode cX17_init 5 = .ok (.iload_n 1, 1) := dk_27 (dk_at dksX17_init_0 5 rfl rfl)
theorem dX17_init_6 : decode cX17_init 6 = .ok (.putfield 7, 3) := dk_181 0 7 (dk_at dksX17_init_0 6 rfl rfl)
theorem dX17_init_9 : decode cX17_init 9 = .ok (.aload_n 0, 1) := dk_42 (dk_at dksX17_init_0 9 rfl rfl)
theorem dX17_init_10 : decode cX17_init 10 = .ok (.aload_n 2, 1) := dk_44 (dk_at dksX17_init_0 10 rfl rfl)
theorem dX17_init_11 : decode cX17_init 11 = .ok (.getfield 13, 3) := dk_180 0 13 (dk_at dksX17_init_0 11 rfl rfl)
theorem dX17_init_14 : decode cX17_init 14 = .ok (.putfield 18, 3) := dk_181 0 18 (dk_at dksX17_init_0 14 rfl rfl)
theorem dX17_init_17 : decode cX17_init 17 = .ok (.aload_n 0, 1) := dk_42 (dk_at dksX17_init_0 17 rfl rfl)
theorem dX17_init_18 : decode cX17_init 18 = .ok (.aload_n 2, 1) := dk_44 (dk_at dksX17_init_0 18 rfl rfl)
theorem dX17_init_19 : decode cX17_init 19 = .ok (.getfield 19, 3) := dk_180 0 19 (dk_at dksX17_init_0 19 rfl rfl)
theorem dX17_init_22 : decode cX17_init 22 = .ok (.putfield 22, 3) := dk_181 0 22 (dk_at dksX17_init_1 0 rfl rfl)
theorem dX17_init_25 : decode cX17_init 25 = .ok (.aload_n 0, 1) := dk_42 (dk_at dksX17_init_1 3 rfl rfl)
theorem dX17_init_26 : decode cX17_init 26 = .ok (.aload_n 2, 1) := dk_44 (dk_at dksX17_init_1 4 rfl rfl)
theorem dX17_init_27 : decode cX17_init 27 = .ok (.getfield 23, 3) := dk_180 0 23 (dk_at dksX17_init_1 5 rfl rfl)
theorem dX17_init_30 : decode cX17_init 30 = .ok (.putfield 26, 3) := dk_181 0 26 (dk_at dksX17_init_1 8 rfl rfl)
theorem dX17_init_33 : decode cX17_init 33 = .ok (.aload_n 0, 1) := dk_42 (dk_at dksX17_init_1 11 rfl rfl)
theorem dX17_init_34 : decode cX17_init 34 = .ok (.iload_n 3, 1) := dk_29 (dk_at dksX17_init_1 12 rfl rfl)
theorem dX17_init_35 : decode cX17_init 35 = .ok (.putfield 27, 3) := dk_181 0 27 (dk_at dksX17_init_1 13 rfl rfl)
theorem dX17_init_38 : decode cX17_init 38 = .ok (.return_, 1) := dk_177 (dk_at dksX17_init_1 16 rfl rfl)
abbrev cX18_init : ByteArray := prog_5_method_1_code
def yX18_init : MethodName := ⟨RX18, "<init>", "(LSharedTaxis$State;I)V"⟩
def dkwX18_init_0 : List UInt8 := [42, 183, 0, 3, 42, 43, 181, 0, 9, 42, 43, 180, 0, 15, 28, 96, 181, 0, 21, 177]
abbrev dktX18_init_0 : List UInt8 := dkwX18_init_0 ++ []
theorem dksX18_init_0 : cX18_init.data.toList.drop 0 = dktX18_init_0 := by decide +kernel
theorem dX18_init_0 : decode cX18_init 0 = .ok (.aload_n 0, 1) := dk_42 (dk_at dksX18_init_0 0 rfl rfl)
theorem dX18_init_1 : decode cX18_init 1 = .ok (.invokespecial 3, 3) := dk_183 0 3 (dk_at dksX18_init_0 1 rfl rfl)
theorem dX18_init_4 : decode cX18_init 4 = .ok (.aload_n 0, 1) := dk_42 (dk_at dksX18_init_0 4 rfl rfl)
theorem dX18_init_5 : decode cX18_init 5 = .ok (.aload_n 1, 1) := dk_43 (dk_at dksX18_init_0 5 rfl rfl)
theorem dX18_init_6 : decode cX18_init 6 = .ok (.putfield 9, 3) := dk_181 0 9 (dk_at dksX18_init_0 6 rfl rfl)
theorem dX18_init_9 : decode cX18_init 9 = .ok (.aload_n 0, 1) := dk_42 (dk_at dksX18_init_0 9 rfl rfl)
theorem dX18_init_10 : decode cX18_init 10 = .ok (.aload_n 1, 1) := dk_43 (dk_at dksX18_init_0 10 rfl rfl)
theorem dX18_init_11 : decode cX18_init 11 = .ok (.getfield 15, 3) := dk_180 0 15 (dk_at dksX18_init_0 11 rfl rfl)
theorem dX18_init_14 : decode cX18_init 14 = .ok (.iload_n 2, 1) := dk_28 (dk_at dksX18_init_0 14 rfl rfl)
theorem dX18_init_15 : decode cX18_init 15 = .ok (.iadd, 1) := dk_96 (dk_at dksX18_init_0 15 rfl rfl)
theorem dX18_init_16 : decode cX18_init 16 = .ok (.putfield 21, 3) := dk_181 0 21 (dk_at dksX18_init_0 16 rfl rfl)
theorem dX18_init_19 : decode cX18_init 19 = .ok (.return_, 1) := dk_177 (dk_at dksX18_init_0 19 rfl rfl)
abbrev cX18_all : ByteArray := prog_5_method_7_code
def yX18_all : MethodName := ⟨RX18, "all", "()I"⟩
def dkwX18_all_5 : List UInt8 := [181, 0, 87, 132, 1, 1, 167, 255, 194, 42, 180, 0, 163, 172]
abbrev dktX18_all_5 : List UInt8 := dkwX18_all_5 ++ []
def dkwX18_all_4 : List UInt8 := [77, 44, 180, 0, 87, 154, 0, 22, 44, 180, 0, 194, 180, 0, 198, 42, 180, 0, 21, 162, 0, 8, 44, 7]
abbrev dktX18_all_4 : List UInt8 := dkwX18_all_4 ++ dktX18_all_5
def dkwX18_all_3 : List UInt8 := [185, 0, 38, 1, 0, 162, 0, 52, 42, 180, 0, 9, 180, 0, 60, 27, 185, 0, 63, 2, 0, 192, 0, 30]
abbrev dktX18_all_3 : List UInt8 := dkwX18_all_3 ++ dktX18_all_4
def dkwX18_all_2 : List UInt8 := [180, 0, 9, 42, 180, 0, 21, 181, 0, 15, 3, 60, 27, 42, 180, 0, 9, 180, 0, 60]
abbrev dktX18_all_2 : List UInt8 := dkwX18_all_2 ++ dktX18_all_3
def dkwX18_all_1 : List UInt8 := [180, 0, 187, 27, 185, 0, 63, 2, 0, 192, 0, 25, 182, 0, 190, 132, 1, 1, 167, 255, 217, 42]
abbrev dktX18_all_1 : List UInt8 := dkwX18_all_1 ++ dktX18_all_2
def dkwX18_all_0 : List UInt8 := [3, 60, 27, 42, 180, 0, 9, 180, 0, 187, 185, 0, 38, 1, 0, 162, 0, 29, 42, 42, 180, 0, 9]
abbrev dktX18_all_0 : List UInt8 := dkwX18_all_0 ++ dktX18_all_1
theorem dksX18_all_0 : cX18_all.data.toList.drop 0 = dktX18_all_0 := by decide +kernel
theorem dksX18_all_1 : cX18_all.data.toList.drop 23 = dktX18_all_1 := dk_seg dksX18_all_0 23 rfl rfl
theorem dksX18_all_2 : cX18_all.data.toList.drop 45 = dktX18_all_2 := dk_seg dksX18_all_1 22 rfl rfl
theorem dksX18_all_3 : cX18_all.data.toList.drop 65 = dktX18_all_3 := dk_seg dksX18_all_2 20 rfl rfl
theorem dksX18_all_4 : cX18_all.data.toList.drop 89 = dktX18_all_4 := dk_seg dksX18_all_3 24 rfl rfl
theorem dksX18_all_5 : cX18_all.data.toList.drop 113 = dktX18_all_5 := dk_seg dksX18_all_4 24 rfl rfl
theorem dX18_all_0 : decode cX18_all 0 = .ok (.iconst 0, 1) := dk_3 (dk_at dksX18_all_0 0 rfl rfl)
theorem dX18_all_1 : decode cX18_all 1 = .ok (.istore_n 1, 1) := dk_60 (dk_at dksX18_all_0 1 rfl rfl)
theorem dX18_all_2 : decode cX18_all 2 = .ok (.iload_n 1, 1) := dk_27 (dk_at dksX18_all_0 2 rfl rfl)
theorem dX18_all_3 : decode cX18_all 3 = .ok (.aload_n 0, 1) := dk_42 (dk_at dksX18_all_0 3 rfl rfl)
theorem dX18_all_4 : decode cX18_all 4 = .ok (.getfield 9, 3) := dk_180 0 9 (dk_at dksX18_all_0 4 rfl rfl)
theorem dX18_all_7 : decode cX18_all 7 = .ok (.getfield 187, 3) := dk_180 0 187 (dk_at dksX18_all_0 7 rfl rfl)
theorem dX18_all_10 : decode cX18_all 10 = .ok (.invokeinterface 38 1, 5) := by decide +kernel
theorem dX18_all_15 : decode cX18_all 15 = .ok (.if_icmp .ge 29, 3) := dk_162 0 29 (dk_at dksX18_all_0 15 rfl rfl)
theorem dX18_all_18 : decode cX18_all 18 = .ok (.aload_n 0, 1) := dk_42 (dk_at dksX18_all_0 18 rfl rfl)
theorem dX18_all_19 : decode cX18_all 19 = .ok (.aload_n 0, 1) := dk_42 (dk_at dksX18_all_0 19 rfl rfl)
theorem dX18_all_20 : decode cX18_all 20 = .ok (.getfield 9, 3) := dk_180 0 9 (dk_at dksX18_all_0 20 rfl rfl)
theorem dX18_all_23 : decode cX18_all 23 = .ok (.getfield 187, 3) := dk_180 0 187 (dk_at dksX18_all_1 0 rfl rfl)
theorem dX18_all_26 : decode cX18_all 26 = .ok (.iload_n 1, 1) := dk_27 (dk_at dksX18_all_1 3 rfl rfl)
theorem dX18_all_27 : decode cX18_all 27 = .ok (.invokeinterface 63 2, 5) := by decide +kernel
theorem dX18_all_32 : decode cX18_all 32 = .ok (.checkcast 25, 3) := dk_192 0 25 (dk_at dksX18_all_1 9 rfl rfl)
theorem dX18_all_35 : decode cX18_all 35 = .ok (.invokevirtual 190, 3) := dk_182 0 190 (dk_at dksX18_all_1 12 rfl rfl)
theorem dX18_all_38 : decode cX18_all 38 = .ok (.iinc 1 1, 3) := dk_132 1 1 (dk_at dksX18_all_1 15 rfl rfl)
theorem dX18_all_41 : decode cX18_all 41 = .ok (.goto (-39), 3) := dk_167 255 217 (dk_at dksX18_all_1 18 rfl rfl)
theorem dX18_all_44 : decode cX18_all 44 = .ok (.aload_n 0, 1) := dk_42 (dk_at dksX18_all_1 21 rfl rfl)
theorem dX18_all_45 : decode cX18_all 45 = .ok (.getfield 9, 3) := dk_180 0 9 (dk_at dksX18_all_2 0 rfl rfl)
theorem dX18_all_48 : decode cX18_all 48 = .ok (.aload_n 0, 1) := dk_42 (dk_at dksX18_all_2 3 rfl rfl)
theorem dX18_all_49 : decode cX18_all 49 = .ok (.getfield 21, 3) := dk_180 0 21 (dk_at dksX18_all_2 4 rfl rfl)
theorem dX18_all_52 : decode cX18_all 52 = .ok (.putfield 15, 3) := dk_181 0 15 (dk_at dksX18_all_2 7 rfl rfl)
theorem dX18_all_55 : decode cX18_all 55 = .ok (.iconst 0, 1) := dk_3 (dk_at dksX18_all_2 10 rfl rfl)
theorem dX18_all_56 : decode cX18_all 56 = .ok (.istore_n 1, 1) := dk_60 (dk_at dksX18_all_2 11 rfl rfl)
theorem dX18_all_57 : decode cX18_all 57 = .ok (.iload_n 1, 1) := dk_27 (dk_at dksX18_all_2 12 rfl rfl)
theorem dX18_all_58 : decode cX18_all 58 = .ok (.aload_n 0, 1) := dk_42 (dk_at dksX18_all_2 13 rfl rfl)
theorem dX18_all_59 : decode cX18_all 59 = .ok (.getfield 9, 3) := dk_180 0 9 (dk_at dksX18_all_2 14 rfl rfl)
theorem dX18_all_62 : decode cX18_all 62 = .ok (.getfield 60, 3) := dk_180 0 60 (dk_at dksX18_all_2 17 rfl rfl)
theorem dX18_all_65 : decode cX18_all 65 = .ok (.invokeinterface 38 1, 5) := by decide +kernel
theorem dX18_all_70 : decode cX18_all 70 = .ok (.if_icmp .ge 52, 3) := dk_162 0 52 (dk_at dksX18_all_3 5 rfl rfl)
theorem dX18_all_73 : decode cX18_all 73 = .ok (.aload_n 0, 1) := dk_42 (dk_at dksX18_all_3 8 rfl rfl)
theorem dX18_all_74 : decode cX18_all 74 = .ok (.getfield 9, 3) := dk_180 0 9 (dk_at dksX18_all_3 9 rfl rfl)
theorem dX18_all_77 : decode cX18_all 77 = .ok (.getfield 60, 3) := dk_180 0 60 (dk_at dksX18_all_3 12 rfl rfl)
theorem dX18_all_80 : decode cX18_all 80 = .ok (.iload_n 1, 1) := dk_27 (dk_at dksX18_all_3 15 rfl rfl)
theorem dX18_all_81 : decode cX18_all 81 = .ok (.invokeinterface 63 2, 5) := by decide +kernel
theorem dX18_all_86 : decode cX18_all 86 = .ok (.checkcast 30, 3) := dk_192 0 30 (dk_at dksX18_all_3 21 rfl rfl)
theorem dX18_all_89 : decode cX18_all 89 = .ok (.astore_n 2, 1) := dk_77 (dk_at dksX18_all_4 0 rfl rfl)
theorem dX18_all_90 : decode cX18_all 90 = .ok (.aload_n 2, 1) := dk_44 (dk_at dksX18_all_4 1 rfl rfl)
theorem dX18_all_91 : decode cX18_all 91 = .ok (.getfield 87, 3) := dk_180 0 87 (dk_at dksX18_all_4 2 rfl rfl)
theorem dX18_all_94 : decode cX18_all 94 = .ok (.ifCond .ne 22, 3) := dk_154 0 22 (dk_at dksX18_all_4 5 rfl rfl)
theorem dX18_all_97 : decode cX18_all 97 = .ok (.aload_n 2, 1) := dk_44 (dk_at dksX18_all_4 8 rfl rfl)
theorem dX18_all_98 : decode cX18_all 98 = .ok (.getfield 194, 3) := dk_180 0 194 (dk_at dksX18_all_4 9 rfl rfl)
theorem dX18_all_101 : decode cX18_all 101 = .ok (.getfield 198, 3) := dk_180 0 198 (dk_at dksX18_all_4 12 rfl rfl)
theorem dX18_all_104 : decode cX18_all 104 = .ok (.aload_n 0, 1) := dk_42 (dk_at dksX18_all_4 15 rfl rfl)
theorem dX18_all_105 : decode cX18_all 105 = .ok (.getfield 21, 3) := dk_180 0 21 (dk_at dksX18_all_4 16 rfl rfl)
theorem dX18_all_108 : decode cX18_all 108 = .ok (.if_icmp .ge 8, 3) := dk_162 0 8 (dk_at dksX18_all_4 19 rfl rfl)
theorem dX18_all_111 : decode cX18_all 111 = .ok (.aload_n 2, 1) := dk_44 (dk_at dksX18_all_4 22 rfl rfl)
theorem dX18_all_112 : decode cX18_all 112 = .ok (.iconst 4, 1) := dk_7 (dk_at dksX18_all_4 23 rfl rfl)
theorem dX18_all_113 : decode cX18_all 113 = .ok (.putfield 87, 3) := dk_181 0 87 (dk_at dksX18_all_5 0 rfl rfl)
theorem dX18_all_116 : decode cX18_all 116 = .ok (.iinc 1 1, 3) := dk_132 1 1 (dk_at dksX18_all_5 3 rfl rfl)
theorem dX18_all_119 : decode cX18_all 119 = .ok (.goto (-62), 3) := dk_167 255 194 (dk_at dksX18_all_5 6 rfl rfl)
theorem dX18_all_122 : decode cX18_all 122 = .ok (.aload_n 0, 1) := dk_42 (dk_at dksX18_all_5 9 rfl rfl)
theorem dX18_all_123 : decode cX18_all 123 = .ok (.getfield 163, 3) := dk_180 0 163 (dk_at dksX18_all_5 10 rfl rfl)
theorem dX18_all_126 : decode cX18_all 126 = .ok (.ireturn, 1) := dk_172 (dk_at dksX18_all_5 13 rfl rfl)
abbrev cX18_run : ByteArray := prog_5_method_6_code
def yX18_run : MethodName := ⟨RX18, "run", "(LSharedTaxis$Taxi;)V"⟩
def dkwX18_run_3 : List UInt8 := [43, 44, 182, 0, 183, 167, 255, 191, 177]
abbrev dktX18_run_3 : List UInt8 := dkwX18_run_3 ++ []
def dkwX18_run_2 : List UInt8 := [44, 180, 0, 180, 42, 180, 0, 21, 162, 0, 10, 44, 180, 0, 180, 167, 0, 4, 2, 181, 0, 155, 177, 42]
abbrev dktX18_run_2 : List UInt8 := dkwX18_run_2 ++ dktX18_run_3
def dkwX18_run_1 : List UInt8 := [44, 43, 43, 180, 0, 158, 182, 0, 173, 182, 0, 177, 44, 180, 0, 129, 42, 180, 0, 21, 164, 0, 27, 43]
abbrev dktX18_run_1 : List UInt8 := dkwX18_run_1 ++ dktX18_run_2
def dkwX18_run_0 : List UInt8 := [187, 0, 108, 89, 42, 180, 0, 9, 183, 0, 166, 77, 43, 180, 0, 158, 185, 0, 169, 1, 0, 154, 0, 59]
abbrev dktX18_run_0 : List UInt8 := dkwX18_run_0 ++ dktX18_run_1
theorem dksX18_run_0 : cX18_run.data.toList.drop 0 = dktX18_run_0 := by decide +kernel
theorem dksX18_run_1 : cX18_run.data.toList.drop 24 = dktX18_run_1 := dk_seg dksX18_run_0 24 rfl rfl
theorem dksX18_run_2 : cX18_run.data.toList.drop 48 = dktX18_run_2 := dk_seg dksX18_run_1 24 rfl rfl
theorem dksX18_run_3 : cX18_run.data.toList.drop 72 = dktX18_run_3 := dk_seg dksX18_run_2 24 rfl rfl
theorem dX18_run_0 : decode cX18_run 0 = .ok (.new 108, 3) := dk_187 0 108 (dk_at dksX18_run_0 0 rfl rfl)
theorem dX18_run_3 : decode cX18_run 3 = .ok (.dup, 1) := dk_89 (dk_at dksX18_run_0 3 rfl rfl)
theorem dX18_run_4 : decode cX18_run 4 = .ok (.aload_n 0, 1) := dk_42 (dk_at dksX18_run_0 4 rfl rfl)
theorem dX18_run_5 : decode cX18_run 5 = .ok (.getfield 9, 3) := dk_180 0 9 (dk_at dksX18_run_0 5 rfl rfl)
theorem dX18_run_8 : decode cX18_run 8 = .ok (.invokespecial 166, 3) := dk_183 0 166 (dk_at dksX18_run_0 8 rfl rfl)
theorem dX18_run_11 : decode cX18_run 11 = .ok (.astore_n 2, 1) := dk_77 (dk_at dksX18_run_0 11 rfl rfl)
theorem dX18_run_12 : decode cX18_run 12 = .ok (.aload_n 1, 1) := dk_43 (dk_at dksX18_run_0 12 rfl rfl)
theorem dX18_run_13 : decode cX18_run 13 = .ok (.getfield 158, 3) := dk_180 0 158 (dk_at dksX18_run_0 13 rfl rfl)
theorem dX18_run_16 : decode cX18_run 16 = .ok (.invokeinterface 169 1, 5) := by decide +kernel
theorem dX18_run_21 : decode cX18_run 21 = .ok (.ifCond .ne 59, 3) := dk_154 0 59 (dk_at dksX18_run_0 21 rfl rfl)
theorem dX18_run_24 : decode cX18_run 24 = .ok (.aload_n 2, 1) := dk_44 (dk_at dksX18_run_1 0 rfl rfl)
theorem dX18_run_25 : decode cX18_run 25 = .ok (.aload_n 1, 1) := dk_43 (dk_at dksX18_run_1 1 rfl rfl)
theorem dX18_run_26 : decode cX18_run 26 = .ok (.aload_n 1, 1) := dk_43 (dk_at dksX18_run_1 2 rfl rfl)
theorem dX18_run_27 : decode cX18_run 27 = .ok (.getfield 158, 3) := dk_180 0 158 (dk_at dksX18_run_1 3 rfl rfl)
theorem dX18_run_30 : decode cX18_run 30 = .ok (.invokevirtual 173, 3) := dk_182 0 173 (dk_at dksX18_run_1 6 rfl rfl)
theorem dX18_run_33 : decode cX18_run 33 = .ok (.invokevirtual 177, 3) := dk_182 0 177 (dk_at dksX18_run_1 9 rfl rfl)
theorem dX18_run_36 : decode cX18_run 36 = .ok (.aload_n 2, 1) := dk_44 (dk_at dksX18_run_1 12 rfl rfl)
theorem dX18_run_37 : decode cX18_run 37 = .ok (.getfield 129, 3) := dk_180 0 129 (dk_at dksX18_run_1 13 rfl rfl)
theorem dX18_run_40 : decode cX18_run 40 = .ok (.aload_n 0, 1) := dk_42 (dk_at dksX18_run_1 16 rfl rfl)
theorem dX18_run_41 : decode cX18_run 41 = .ok (.getfield 21, 3) := dk_180 0 21 (dk_at dksX18_run_1 17 rfl rfl)
theorem dX18_run_44 : decode cX18_run 44 = .ok (.if_icmp .le 27, 3) := dk_164 0 27 (dk_at dksX18_run_1 20 rfl rfl)
theorem dX18_run_47 : decode cX18_run 47 = .ok (.aload_n 1, 1) := dk_43 (dk_at dksX18_run_1 23 rfl rfl)
theorem dX18_run_48 : decode cX18_run 48 = .ok (.aload_n 2, 1) := dk_44 (dk_at dksX18_run_2 0 rfl rfl)
theorem dX18_run_49 : decode cX18_run 49 = .ok (.getfield 180, 3) := dk_180 0 180 (dk_at dksX18_run_2 1 rfl rfl)
theorem dX18_run_52 : decode cX18_run 52 = .ok (.aload_n 0, 1) := dk_42 (dk_at dksX18_run_2 4 rfl rfl)
theorem dX18_run_53 : decode cX18_run 53 = .ok (.getfield 21, 3) := dk_180 0 21 (dk_at dksX18_run_2 5 rfl rfl)
theorem dX18_run_56 : decode cX18_run 56 = .ok (.if_icmp .ge 10, 3) := dk_162 0 10 (dk_at dksX18_run_2 8 rfl rfl)
theorem dX18_run_59 : decode cX18_run 59 = .ok (.aload_n 2, 1) := dk_44 (dk_at dksX18_run_2 11 rfl rfl)
theorem dX18_run_60 : decode cX18_run 60 = .ok (.getfield 180, 3) := dk_180 0 180 (dk_at dksX18_run_2 12 rfl rfl)
theorem dX18_run_63 : decode cX18_run 63 = .ok (.goto 4, 3) := dk_167 0 4 (dk_at dksX18_run_2 15 rfl rfl)
theorem dX18_run_66 : decode cX18_run 66 = .ok (.iconst (-1), 1) := dk_2 (dk_at dksX18_run_2 18 rfl rfl)
theorem dX18_run_67 : decode cX18_run 67 = .ok (.putfield 155, 3) := dk_181 0 155 (dk_at dksX18_run_2 19 rfl rfl)
theorem dX18_run_70 : decode cX18_run 70 = .ok (.return_, 1) := dk_177 (dk_at dksX18_run_2 22 rfl rfl)
theorem dX18_run_71 : decode cX18_run 71 = .ok (.aload_n 0, 1) := dk_42 (dk_at dksX18_run_2 23 rfl rfl)
theorem dX18_run_72 : decode cX18_run 72 = .ok (.aload_n 1, 1) := dk_43 (dk_at dksX18_run_3 0 rfl rfl)
theorem dX18_run_73 : decode cX18_run 73 = .ok (.aload_n 2, 1) := dk_44 (dk_at dksX18_run_3 1 rfl rfl)
theorem dX18_run_74 : decode cX18_run 74 = .ok (.invokevirtual 183, 3) := dk_182 0 183 (dk_at dksX18_run_3 2 rfl rfl)
theorem dX18_run_77 : decode cX18_run 77 = .ok (.goto (-65), 3) := dk_167 255 191 (dk_at dksX18_run_3 5 rfl rfl)
theorem dX18_run_80 : decode cX18_run 80 = .ok (.return_, 1) := dk_177 (dk_at dksX18_run_3 8 rfl rfl)
abbrev cX18_happen : ByteArray := prog_5_method_5_code
def yX18_happen : MethodName := ⟨RX18, "happen", "(LSharedTaxis$Taxi;LSharedTaxis$Walk;)V"⟩
def dkwX18_happen_5 : List UInt8 := [180, 0, 163, 4, 96, 181, 0, 163, 177]
abbrev dktX18_happen_5 : List UInt8 := dkwX18_happen_5 ++ []
def dkwX18_happen_4 : List UInt8 := [180, 0, 151, 181, 0, 154, 43, 2, 181, 0, 155, 43, 180, 0, 158, 3, 185, 0, 161, 2, 0, 87, 42, 89]
abbrev dktX18_happen_4 : List UInt8 := dkwX18_happen_4 ++ dktX18_happen_5
def dkwX18_happen_3 : List UInt8 := [185, 0, 141, 2, 0, 87, 43, 44, 180, 0, 144, 181, 0, 147, 43, 44, 180, 0, 129, 181, 0, 148, 43, 44]
abbrev dktX18_happen_3 : List UInt8 := dkwX18_happen_3 ++ dktX18_happen_4
def dkwX18_happen_2 : List UInt8 := [180, 0, 125, 44, 180, 0, 135, 181, 0, 138, 43, 180, 0, 34, 44, 180, 0, 125, 180, 0, 96, 184, 0, 99]
abbrev dktX18_happen_2 : List UInt8 := dkwX18_happen_2 ++ dktX18_happen_3
def dkwX18_happen_1 : List UInt8 := [180, 0, 125, 44, 180, 0, 129, 182, 0, 132, 167, 0, 42, 44, 180, 0, 125, 6, 181, 0, 87, 44]
abbrev dktX18_happen_1 : List UInt8 := dkwX18_happen_1 ++ dktX18_happen_2
def dkwX18_happen_0 : List UInt8 := [42, 43, 44, 180, 0, 107, 182, 0, 112, 44, 180, 0, 116, 180, 0, 120, 153, 0, 19, 42, 43, 44]
abbrev dktX18_happen_0 : List UInt8 := dkwX18_happen_0 ++ dktX18_happen_1
theorem dksX18_happen_0 : cX18_happen.data.toList.drop 0 = dktX18_happen_0 := by decide +kernel
theorem dksX18_happen_1 : cX18_happen.data.toList.drop 22 = dktX18_happen_1 := dk_seg dksX18_happen_0 22 rfl rfl
theorem dksX18_happen_2 : cX18_happen.data.toList.drop 44 = dktX18_happen_2 := dk_seg dksX18_happen_1 22 rfl rfl
theorem dksX18_happen_3 : cX18_happen.data.toList.drop 68 = dktX18_happen_3 := dk_seg dksX18_happen_2 24 rfl rfl
theorem dksX18_happen_4 : cX18_happen.data.toList.drop 92 = dktX18_happen_4 := dk_seg dksX18_happen_3 24 rfl rfl
theorem dksX18_happen_5 : cX18_happen.data.toList.drop 116 = dktX18_happen_5 := dk_seg dksX18_happen_4 24 rfl rfl
theorem dX18_happen_0 : decode cX18_happen 0 = .ok (.aload_n 0, 1) := dk_42 (dk_at dksX18_happen_0 0 rfl rfl)
theorem dX18_happen_1 : decode cX18_happen 1 = .ok (.aload_n 1, 1) := dk_43 (dk_at dksX18_happen_0 1 rfl rfl)
theorem dX18_happen_2 : decode cX18_happen 2 = .ok (.aload_n 2, 1) := dk_44 (dk_at dksX18_happen_0 2 rfl rfl)
theorem dX18_happen_3 : decode cX18_happen 3 = .ok (.getfield 107, 3) := dk_180 0 107 (dk_at dksX18_happen_0 3 rfl rfl)
theorem dX18_happen_6 : decode cX18_happen 6 = .ok (.invokevirtual 112, 3) := dk_182 0 112 (dk_at dksX18_happen_0 6 rfl rfl)
theorem dX18_happen_9 : decode cX18_happen 9 = .ok (.aload_n 2, 1) := dk_44 (dk_at dksX18_happen_0 9 rfl rfl)
theorem dX18_happen_10 : decode cX18_happen 10 = .ok (.getfield 116, 3) := dk_180 0 116 (dk_at dksX18_happen_0 10 rfl rfl)
theorem dX18_happen_13 : decode cX18_happen 13 = .ok (.getfield 120, 3) := dk_180 0 120 (dk_at dksX18_happen_0 13 rfl rfl)
theorem dX18_happen_16 : decode cX18_happen 16 = .ok (.ifCond .eq 19, 3) := dk_153 0 19 (dk_at dksX18_happen_0 16 rfl rfl)
theorem dX18_happen_19 : decode cX18_happen 19 = .ok (.aload_n 0, 1) := dk_42 (dk_at dksX18_happen_0 19 rfl rfl)
theorem dX18_happen_20 : decode cX18_happen 20 = .ok (.aload_n 1, 1) := dk_43 (dk_at dksX18_happen_0 20 rfl rfl)
theorem dX18_happen_21 : decode cX18_happen 21 = .ok (.aload_n 2, 1) := dk_44 (dk_at dksX18_happen_0 21 rfl rfl)
theorem dX18_happen_22 : decode cX18_happen 22 = .ok (.getfield 125, 3) := dk_180 0 125 (dk_at dksX18_happen_1 0 rfl rfl)
theorem dX18_happen_25 : decode cX18_happen 25 = .ok (.aload_n 2, 1) := dk_44 (dk_at dksX18_happen_1 3 rfl rfl)
theorem dX18_happen_26 : decode cX18_happen 26 = .ok (.getfield 129, 3) := dk_180 0 129 (dk_at dksX18_happen_1 4 rfl rfl)
theorem dX18_happen_29 : decode cX18_happen 29 = .ok (.invokevirtual 132, 3) := dk_182 0 132 (dk_at dksX18_happen_1 7 rfl rfl)
theorem dX18_happen_32 : decode cX18_happen 32 = .ok (.goto 42, 3) := dk_167 0 42 (dk_at dksX18_happen_1 10 rfl rfl)
theorem dX18_happen_35 : decode cX18_happen 35 = .ok (.aload_n 2, 1) := dk_44 (dk_at dksX18_happen_1 13 rfl rfl)
theorem dX18_happen_36 : decode cX18_happen 36 = .ok (.getfield 125, 3) := dk_180 0 125 (dk_at dksX18_happen_1 14 rfl rfl)
theorem dX18_happen_39 : decode cX18_happen 39 = .ok (.iconst 3, 1) := dk_6 (dk_at dksX18_happen_1 17 rfl rfl)
theorem dX18_happen_40 : decode cX18_happen 40 = .ok (.putfield 87, 3) := dk_181 0 87 (dk_at dksX18_happen_1 18 rfl rfl)
theorem dX18_happen_43 : decode cX18_happen 43 = .ok (.aload_n 2, 1) := dk_44 (dk_at dksX18_happen_1 21 rfl rfl)
theorem dX18_happen_44 : decode cX18_happen 44 = .ok (.getfield 125, 3) := dk_180 0 125 (dk_at dksX18_happen_2 0 rfl rfl)
theorem dX18_happen_47 : decode cX18_happen 47 = .ok (.aload_n 2, 1) := dk_44 (dk_at dksX18_happen_2 3 rfl rfl)
theorem dX18_happen_48 : decode cX18_happen 48 = .ok (.getfield 135, 3) := dk_180 0 135 (dk_at dksX18_happen_2 4 rfl rfl)
theorem dX18_happen_51 : decode cX18_happen 51 = .ok (.putfield 138, 3) := dk_181 0 138 (dk_at dksX18_happen_2 7 rfl rfl)
theorem dX18_happen_54 : decode cX18_happen 54 = .ok (.aload_n 1, 1) := dk_43 (dk_at dksX18_happen_2 10 rfl rfl)
theorem dX18_happen_55 : decode cX18_happen 55 = .ok (.getfield 34, 3) := dk_180 0 34 (dk_at dksX18_happen_2 11 rfl rfl)
theorem dX18_happen_58 : decode cX18_happen 58 = .ok (.aload_n 2, 1) := dk_44 (dk_at dksX18_happen_2 14 rfl rfl)
theorem dX18_happen_59 : decode cX18_happen 59 = .ok (.getfield 125, 3) := dk_180 0 125 (dk_at dksX18_happen_2 15 rfl rfl)
theorem dX18_happen_62 : decode cX18_happen 62 = .ok (.getfield 96, 3) := dk_180 0 96 (dk_at dksX18_happen_2 18 rfl rfl)
theorem dX18_happen_65 : decode cX18_happen 65 = .ok (.invokestatic 99, 3) := dk_184 0 99 (dk_at dksX18_happen_2 21 rfl rfl)
theorem dX18_happen_68 : decode cX18_happen 68 = .ok (.invokeinterface 141 2, 5) := by decide +kernel
theorem dX18_happen_73 : decode cX18_happen 73 = .ok (.pop, 1) := dk_87 (dk_at dksX18_happen_3 5 rfl rfl)
theorem dX18_happen_74 : decode cX18_happen 74 = .ok (.aload_n 1, 1) := dk_43 (dk_at dksX18_happen_3 6 rfl rfl)
theorem dX18_happen_75 : decode cX18_happen 75 = .ok (.aload_n 2, 1) := dk_44 (dk_at dksX18_happen_3 7 rfl rfl)
theorem dX18_happen_76 : decode cX18_happen 76 = .ok (.getfield 144, 3) := dk_180 0 144 (dk_at dksX18_happen_3 8 rfl rfl)
theorem dX18_happen_79 : decode cX18_happen 79 = .ok (.putfield 147, 3) := dk_181 0 147 (dk_at dksX18_happen_3 11 rfl rfl)
theorem dX18_happen_82 : decode cX18_happen 82 = .ok (.aload_n 1, 1) := dk_43 (dk_at dksX18_happen_3 14 rfl rfl)
theorem dX18_happen_83 : decode cX18_happen 83 = .ok (.aload_n 2, 1) := dk_44 (dk_at dksX18_happen_3 15 rfl rfl)
theorem dX18_happen_84 : decode cX18_happen 84 = .ok (.getfield 129, 3) := dk_180 0 129 (dk_at dksX18_happen_3 16 rfl rfl)
theorem dX18_happen_87 : decode cX18_happen 87 = .ok (.putfield 148, 3) := dk_181 0 148 (dk_at dksX18_happen_3 19 rfl rfl)
theorem dX18_happen_90 : decode cX18_happen 90 = .ok (.aload_n 1, 1) := dk_43 (dk_at dksX18_happen_3 22 rfl rfl)
theorem dX18_happen_91 : decode cX18_happen 91 = .ok (.aload_n 2, 1) := dk_44 (dk_at dksX18_happen_3 23 rfl rfl)
theorem dX18_happen_92 : decode cX18_happen 92 = .ok (.getfield 151, 3) := dk_180 0 151 (dk_at dksX18_happen_4 0 rfl rfl)
theorem dX18_happen_95 : decode cX18_happen 95 = .ok (.putfield 154, 3) := dk_181 0 154 (dk_at dksX18_happen_4 3 rfl rfl)
theorem dX18_happen_98 : decode cX18_happen 98 = .ok (.aload_n 1, 1) := dk_43 (dk_at dksX18_happen_4 6 rfl rfl)
theorem dX18_happen_99 : decode cX18_happen 99 = .ok (.iconst (-1), 1) := dk_2 (dk_at dksX18_happen_4 7 rfl rfl)
theorem dX18_happen_100 : decode cX18_happen 100 = .ok (.putfield 155, 3) := dk_181 0 155 (dk_at dksX18_happen_4 8 rfl rfl)
theorem dX18_happen_103 : decode cX18_happen 103 = .ok (.aload_n 1, 1) := dk_43 (dk_at dksX18_happen_4 11 rfl rfl)
theorem dX18_happen_104 : decode cX18_happen 104 = .ok (.getfield 158, 3) := dk_180 0 158 (dk_at dksX18_happen_4 12 rfl rfl)
theorem dX18_happen_107 : decode cX18_happen 107 = .ok (.iconst 0, 1) := dk_3 (dk_at dksX18_happen_4 15 rfl rfl)
theorem dX18_happen_108 : decode cX18_happen 108 = .ok (.invokeinterface 161 2, 5) := by decide +kernel
theorem dX18_happen_113 : decode cX18_happen 113 = .ok (.pop, 1) := dk_87 (dk_at dksX18_happen_4 21 rfl rfl)
theorem dX18_happen_114 : decode cX18_happen 114 = .ok (.aload_n 0, 1) := dk_42 (dk_at dksX18_happen_4 22 rfl rfl)
theorem dX18_happen_115 : decode cX18_happen 115 = .ok (.dup, 1) := dk_89 (dk_at dksX18_happen_4 23 rfl rfl)
theorem dX18_happen_116 : decode cX18_happen 116 = .ok (.getfield 163, 3) := dk_180 0 163 (dk_at dksX18_happen_5 0 rfl rfl)
theorem dX18_happen_119 : decode cX18_happen 119 = .ok (.iconst 1, 1) := dk_4 (dk_at dksX18_happen_5 3 rfl rfl)
theorem dX18_happen_120 : decode cX18_happen 120 = .ok (.iadd, 1) := dk_96 (dk_at dksX18_happen_5 4 rfl rfl)
theorem dX18_happen_121 : decode cX18_happen 121 = .ok (.putfield 163, 3) := dk_181 0 163 (dk_at dksX18_happen_5 5 rfl rfl)
theorem dX18_happen_124 : decode cX18_happen 124 = .ok (.return_, 1) := dk_177 (dk_at dksX18_happen_5 8 rfl rfl)
abbrev cX18_pay : ByteArray := prog_5_method_3_code
def yX18_pay : MethodName := ⟨RX18, "pay", "(LSharedTaxis$Taxi;I)V"⟩
def dkwX18_pay_6 : List UInt8 := [177]
abbrev dktX18_pay_6 : List UInt8 := dkwX18_pay_6 ++ []
def dkwX18_pay_5 : List UInt8 := [192, 0, 30, 42, 180, 0, 9, 21, 4, 29, 21, 5, 182, 0, 72, 182, 0, 76, 132, 5, 1, 167, 255, 198]
abbrev dktX18_pay_5 : List UInt8 := dkwX18_pay_5 ++ dktX18_pay_6
def dkwX18_pay_4 : List UInt8 := [43, 180, 0, 34, 21, 5, 185, 0, 63, 2, 0, 192, 0, 67, 182, 0, 69, 185, 0, 63, 2, 0]
abbrev dktX18_pay_4 : List UInt8 := dkwX18_pay_4 ++ dktX18_pay_5
def dkwX18_pay_3 : List UInt8 := [21, 4, 96, 181, 0, 57, 3, 54, 5, 21, 5, 29, 162, 0, 58, 42, 43, 42, 180, 0, 9, 180, 0, 60]
abbrev dktX18_pay_3 : List UInt8 := dkwX18_pay_3 ++ dktX18_pay_4
def dkwX18_pay_2 : List UInt8 := [167, 0, 4, 3, 96, 181, 0, 50, 42, 180, 0, 9, 28, 29, 182, 0, 53, 54, 4, 43, 89, 180, 0, 57]
abbrev dktX18_pay_2 : List UInt8 := dkwX18_pay_2 ++ dktX18_pay_3
def dkwX18_pay_1 : List UInt8 := [177, 43, 89, 180, 0, 47, 28, 96, 181, 0, 47, 43, 89, 180, 0, 50, 29, 4, 164, 0, 7, 28]
abbrev dktX18_pay_1 : List UInt8 := dkwX18_pay_1 ++ dktX18_pay_2
def dkwX18_pay_0 : List UInt8 := [43, 180, 0, 34, 185, 0, 38, 1, 0, 62, 43, 89, 180, 0, 44, 28, 96, 181, 0, 44, 29, 154, 0, 4]
abbrev dktX18_pay_0 : List UInt8 := dkwX18_pay_0 ++ dktX18_pay_1
theorem dksX18_pay_0 : cX18_pay.data.toList.drop 0 = dktX18_pay_0 := by decide +kernel
theorem dksX18_pay_1 : cX18_pay.data.toList.drop 24 = dktX18_pay_1 := dk_seg dksX18_pay_0 24 rfl rfl
theorem dksX18_pay_2 : cX18_pay.data.toList.drop 46 = dktX18_pay_2 := dk_seg dksX18_pay_1 22 rfl rfl
theorem dksX18_pay_3 : cX18_pay.data.toList.drop 70 = dktX18_pay_3 := dk_seg dksX18_pay_2 24 rfl rfl
theorem dksX18_pay_4 : cX18_pay.data.toList.drop 94 = dktX18_pay_4 := dk_seg dksX18_pay_3 24 rfl rfl
theorem dksX18_pay_5 : cX18_pay.data.toList.drop 116 = dktX18_pay_5 := dk_seg dksX18_pay_4 22 rfl rfl
theorem dksX18_pay_6 : cX18_pay.data.toList.drop 140 = dktX18_pay_6 := dk_seg dksX18_pay_5 24 rfl rfl
theorem dX18_pay_0 : decode cX18_pay 0 = .ok (.aload_n 1, 1) := dk_43 (dk_at dksX18_pay_0 0 rfl rfl)
theorem dX18_pay_1 : decode cX18_pay 1 = .ok (.getfield 34, 3) := dk_180 0 34 (dk_at dksX18_pay_0 1 rfl rfl)
theorem dX18_pay_4 : decode cX18_pay 4 = .ok (.invokeinterface 38 1, 5) := by decide +kernel
theorem dX18_pay_9 : decode cX18_pay 9 = .ok (.istore_n 3, 1) := dk_62 (dk_at dksX18_pay_0 9 rfl rfl)
theorem dX18_pay_10 : decode cX18_pay 10 = .ok (.aload_n 1, 1) := dk_43 (dk_at dksX18_pay_0 10 rfl rfl)
theorem dX18_pay_11 : decode cX18_pay 11 = .ok (.dup, 1) := dk_89 (dk_at dksX18_pay_0 11 rfl rfl)
theorem dX18_pay_12 : decode cX18_pay 12 = .ok (.getfield 44, 3) := dk_180 0 44 (dk_at dksX18_pay_0 12 rfl rfl)
theorem dX18_pay_15 : decode cX18_pay 15 = .ok (.iload_n 2, 1) := dk_28 (dk_at dksX18_pay_0 15 rfl rfl)
theorem dX18_pay_16 : decode cX18_pay 16 = .ok (.iadd, 1) := dk_96 (dk_at dksX18_pay_0 16 rfl rfl)
theorem dX18_pay_17 : decode cX18_pay 17 = .ok (.putfield 44, 3) := dk_181 0 44 (dk_at dksX18_pay_0 17 rfl rfl)
theorem dX18_pay_20 : decode cX18_pay 20 = .ok (.iload_n 3, 1) := dk_29 (dk_at dksX18_pay_0 20 rfl rfl)
theorem dX18_pay_21 : decode cX18_pay 21 = .ok (.ifCond .ne 4, 3) := dk_154 0 4 (dk_at dksX18_pay_0 21 rfl rfl)
theorem dX18_pay_24 : decode cX18_pay 24 = .ok (.return_, 1) := dk_177 (dk_at dksX18_pay_1 0 rfl rfl)
theorem dX18_pay_25 : decode cX18_pay 25 = .ok (.aload_n 1, 1) := dk_43 (dk_at dksX18_pay_1 1 rfl rfl)
theorem dX18_pay_26 : decode cX18_pay 26 = .ok (.dup, 1) := dk_89 (dk_at dksX18_pay_1 2 rfl rfl)
theorem dX18_pay_27 : decode cX18_pay 27 = .ok (.getfield 47, 3) := dk_180 0 47 (dk_at dksX18_pay_1 3 rfl rfl)
theorem dX18_pay_30 : decode cX18_pay 30 = .ok (.iload_n 2, 1) := dk_28 (dk_at dksX18_pay_1 6 rfl rfl)
theorem dX18_pay_31 : decode cX18_pay 31 = .ok (.iadd, 1) := dk_96 (dk_at dksX18_pay_1 7 rfl rfl)
theorem dX18_pay_32 : decode cX18_pay 32 = .ok (.putfield 47, 3) := dk_181 0 47 (dk_at dksX18_pay_1 8 rfl rfl)
theorem dX18_pay_35 : decode cX18_pay 35 = .ok (.aload_n 1, 1) := dk_43 (dk_at dksX18_pay_1 11 rfl rfl)
theorem dX18_pay_36 : decode cX18_pay 36 = .ok (.dup, 1) := dk_89 (dk_at dksX18_pay_1 12 rfl rfl)
theorem dX18_pay_37 : decode cX18_pay 37 = .ok (.getfield 50, 3) := dk_180 0 50 (dk_at dksX18_pay_1 13 rfl rfl)
theorem dX18_pay_40 : decode cX18_pay 40 = .ok (.iload_n 3, 1) := dk_29 (dk_at dksX18_pay_1 16 rfl rfl)
theorem dX18_pay_41 : decode cX18_pay 41 = .ok (.iconst 1, 1) := dk_4 (dk_at dksX18_pay_1 17 rfl rfl)
theorem dX18_pay_42 : decode cX18_pay 42 = .ok (.if_icmp .le 7, 3) := dk_164 0 7 (dk_at dksX18_pay_1 18 rfl rfl)
theorem dX18_pay_45 : decode cX18_pay 45 = .ok (.iload_n 2, 1) := dk_28 (dk_at dksX18_pay_1 21 rfl rfl)
theorem dX18_pay_46 : decode cX18_pay 46 = .ok (.goto 4, 3) := dk_167 0 4 (dk_at dksX18_pay_2 0 rfl rfl)
theorem dX18_pay_49 : decode cX18_pay 49 = .ok (.iconst 0, 1) := dk_3 (dk_at dksX18_pay_2 3 rfl rfl)
theorem dX18_pay_50 : decode cX18_pay 50 = .ok (.iadd, 1) := dk_96 (dk_at dksX18_pay_2 4 rfl rfl)
theorem dX18_pay_51 : decode cX18_pay 51 = .ok (.putfield 50, 3) := dk_181 0 50 (dk_at dksX18_pay_2 5 rfl rfl)
theorem dX18_pay_54 : decode cX18_pay 54 = .ok (.aload_n 0, 1) := dk_42 (dk_at dksX18_pay_2 8 rfl rfl)
theorem dX18_pay_55 : decode cX18_pay 55 = .ok (.getfield 9, 3) := dk_180 0 9 (dk_at dksX18_pay_2 9 rfl rfl)
theorem dX18_pay_58 : decode cX18_pay 58 = .ok (.iload_n 2, 1) := dk_28 (dk_at dksX18_pay_2 12 rfl rfl)
theorem dX18_pay_59 : decode cX18_pay 59 = .ok (.iload_n 3, 1) := dk_29 (dk_at dksX18_pay_2 13 rfl rfl)
theorem dX18_pay_60 : decode cX18_pay 60 = .ok (.invokevirtual 53, 3) := dk_182 0 53 (dk_at dksX18_pay_2 14 rfl rfl)
theorem dX18_pay_63 : decode cX18_pay 63 = .ok (.istore 4, 2) := dk_54 4 (dk_at dksX18_pay_2 17 rfl rfl)
theorem dX18_pay_65 : decode cX18_pay 65 = .ok (.aload_n 1, 1) := dk_43 (dk_at dksX18_pay_2 19 rfl rfl)
theorem dX18_pay_66 : decode cX18_pay 66 = .ok (.dup, 1) := dk_89 (dk_at dksX18_pay_2 20 rfl rfl)
theorem dX18_pay_67 : decode cX18_pay 67 = .ok (.getfield 57, 3) := dk_180 0 57 (dk_at dksX18_pay_2 21 rfl rfl)
theorem dX18_pay_70 : decode cX18_pay 70 = .ok (.iload 4, 2) := dk_21 4 (dk_at dksX18_pay_3 0 rfl rfl)
theorem dX18_pay_72 : decode cX18_pay 72 = .ok (.iadd, 1) := dk_96 (dk_at dksX18_pay_3 2 rfl rfl)
theorem dX18_pay_73 : decode cX18_pay 73 = .ok (.putfield 57, 3) := dk_181 0 57 (dk_at dksX18_pay_3 3 rfl rfl)
theorem dX18_pay_76 : decode cX18_pay 76 = .ok (.iconst 0, 1) := dk_3 (dk_at dksX18_pay_3 6 rfl rfl)
theorem dX18_pay_77 : decode cX18_pay 77 = .ok (.istore 5, 2) := dk_54 5 (dk_at dksX18_pay_3 7 rfl rfl)
theorem dX18_pay_79 : decode cX18_pay 79 = .ok (.iload 5, 2) := dk_21 5 (dk_at dksX18_pay_3 9 rfl rfl)
theorem dX18_pay_81 : decode cX18_pay 81 = .ok (.iload_n 3, 1) := dk_29 (dk_at dksX18_pay_3 11 rfl rfl)
theorem dX18_pay_82 : decode cX18_pay 82 = .ok (.if_icmp .ge 58, 3) := dk_162 0 58 (dk_at dksX18_pay_3 12 rfl rfl)
theorem dX18_pay_85 : decode cX18_pay 85 = .ok (.aload_n 0, 1) := dk_42 (dk_at dksX18_pay_3 15 rfl rfl)
theorem dX18_pay_86 : decode cX18_pay 86 = .ok (.aload_n 1, 1) := dk_43 (dk_at dksX18_pay_3 16 rfl rfl)
theorem dX18_pay_87 : decode cX18_pay 87 = .ok (.aload_n 0, 1) := dk_42 (dk_at dksX18_pay_3 17 rfl rfl)
theorem dX18_pay_88 : decode cX18_pay 88 = .ok (.getfield 9, 3) := dk_180 0 9 (dk_at dksX18_pay_3 18 rfl rfl)
theorem dX18_pay_91 : decode cX18_pay 91 = .ok (.getfield 60, 3) := dk_180 0 60 (dk_at dksX18_pay_3 21 rfl rfl)
theorem dX18_pay_94 : decode cX18_pay 94 = .ok (.aload_n 1, 1) := dk_43 (dk_at dksX18_pay_4 0 rfl rfl)
theorem dX18_pay_95 : decode cX18_pay 95 = .ok (.getfield 34, 3) := dk_180 0 34 (dk_at dksX18_pay_4 1 rfl rfl)
theorem dX18_pay_98 : decode cX18_pay 98 = .ok (.iload 5, 2) := dk_21 5 (dk_at dksX18_pay_4 4 rfl rfl)
theorem dX18_pay_100 : decode cX18_pay 100 = .ok (.invokeinterface 63 2, 5) := by decide +kernel
theorem dX18_pay_105 : decode cX18_pay 105 = .ok (.checkcast 67, 3) := dk_192 0 67 (dk_at dksX18_pay_4 11 rfl rfl)
theorem dX18_pay_108 : decode cX18_pay 108 = .ok (.invokevirtual 69, 3) := dk_182 0 69 (dk_at dksX18_pay_4 14 rfl rfl)
theorem dX18_pay_111 : decode cX18_pay 111 = .ok (.invokeinterface 63 2, 5) := by decide +kernel
theorem dX18_pay_116 : decode cX18_pay 116 = .ok (.checkcast 30, 3) := dk_192 0 30 (dk_at dksX18_pay_5 0 rfl rfl)
theorem dX18_pay_119 : decode cX18_pay 119 = .ok (.aload_n 0, 1) := dk_42 (dk_at dksX18_pay_5 3 rfl rfl)
theorem dX18_pay_120 : decode cX18_pay 120 = .ok (.getfield 9, 3) := dk_180 0 9 (dk_at dksX18_pay_5 4 rfl rfl)
theorem dX18_pay_123 : decode cX18_pay 123 = .ok (.iload 4, 2) := dk_21 4 (dk_at dksX18_pay_5 7 rfl rfl)
theorem dX18_pay_125 : decode cX18_pay 125 = .ok (.iload_n 3, 1) := dk_29 (dk_at dksX18_pay_5 9 rfl rfl)
theorem dX18_pay_126 : decode cX18_pay 126 = .ok (.iload 5, 2) := dk_21 5 (dk_at dksX18_pay_5 10 rfl rfl)
theorem dX18_pay_128 : decode cX18_pay 128 = .ok (.invokevirtual 72, 3) := dk_182 0 72 (dk_at dksX18_pay_5 12 rfl rfl)
theorem dX18_pay_131 : decode cX18_pay 131 = .ok (.invokevirtual 76, 3) := dk_182 0 76 (dk_at dksX18_pay_5 15 rfl rfl)
theorem dX18_pay_134 : decode cX18_pay 134 = .ok (.iinc 5 1, 3) := dk_132 5 1 (dk_at dksX18_pay_5 18 rfl rfl)
theorem dX18_pay_137 : decode cX18_pay 137 = .ok (.goto (-58), 3) := dk_167 255 198 (dk_at dksX18_pay_5 21 rfl rfl)
theorem dX18_pay_140 : decode cX18_pay 140 = .ok (.return_, 1) := dk_177 (dk_at dksX18_pay_6 0 rfl rfl)
abbrev cX18_charge : ByteArray := prog_5_method_2_code
def yX18_charge : MethodName := ⟨RX18, "charge", "(LSharedTaxis$Taxi;LSharedTaxis$Ride;I)V"⟩
def dkwX18_charge_0 : List UInt8 := [43, 89, 180, 0, 24, 29, 96, 181, 0, 24, 44, 89, 180, 0, 29, 29, 96, 181, 0, 29, 177]
abbrev dktX18_charge_0 : List UInt8 := dkwX18_charge_0 ++ []
theorem dksX18_charge_0 : cX18_charge.data.toList.drop 0 = dktX18_charge_0 := by decide +kernel
theorem dX18_charge_0 : decode cX18_charge 0 = .ok (.aload_n 1, 1) := dk_43 (dk_at dksX18_charge_0 0 rfl rfl)
theorem dX18_charge_1 : decode cX18_charge 1 = .ok (.dup, 1) := dk_89 (dk_at dksX18_charge_0 1 rfl rfl)
theorem dX18_charge_2 : decode cX18_charge 2 = .ok (.getfield 24, 3) := dk_180 0 24 (dk_at dksX18_charge_0 2 rfl rfl)
theorem dX18_charge_5 : decode cX18_charge 5 = .ok (.iload_n 3, 1) := dk_29 (dk_at dksX18_charge_0 5 rfl rfl)
theorem dX18_charge_6 : decode cX18_charge 6 = .ok (.iadd, 1) := dk_96 (dk_at dksX18_charge_0 6 rfl rfl)
theorem dX18_charge_7 : decode cX18_charge 7 = .ok (.putfield 24, 3) := dk_181 0 24 (dk_at dksX18_charge_0 7 rfl rfl)
theorem dX18_charge_10 : decode cX18_charge 10 = .ok (.aload_n 2, 1) := dk_44 (dk_at dksX18_charge_0 10 rfl rfl)
theorem dX18_charge_11 : decode cX18_charge 11 = .ok (.dup, 1) := dk_89 (dk_at dksX18_charge_0 11 rfl rfl)
theorem dX18_charge_12 : decode cX18_charge 12 = .ok (.getfield 29, 3) := dk_180 0 29 (dk_at dksX18_charge_0 12 rfl rfl)
theorem dX18_charge_15 : decode cX18_charge 15 = .ok (.iload_n 3, 1) := dk_29 (dk_at dksX18_charge_0 15 rfl rfl)
theorem dX18_charge_16 : decode cX18_charge 16 = .ok (.iadd, 1) := dk_96 (dk_at dksX18_charge_0 16 rfl rfl)
theorem dX18_charge_17 : decode cX18_charge 17 = .ok (.putfield 29, 3) := dk_181 0 29 (dk_at dksX18_charge_0 17 rfl rfl)
theorem dX18_charge_20 : decode cX18_charge 20 = .ok (.return_, 1) := dk_177 (dk_at dksX18_charge_0 20 rfl rfl)
abbrev cX18_pick : ByteArray := prog_5_method_4_code
def yX18_pick : MethodName := ⟨RX18, "pick", "(LSharedTaxis$Taxi;LSharedTaxis$Ride;I)V"⟩
def dkwX18_pick_3 : List UInt8 := [185, 0, 103, 2, 0, 87, 177]
abbrev dktX18_pick_3 : List UInt8 := dkwX18_pick_3 ++ []
def dkwX18_pick_2 : List UInt8 := [180, 0, 93, 182, 0, 76, 44, 180, 0, 83, 154, 0, 20, 43, 180, 0, 34, 44, 180, 0, 96, 184, 0, 99]
abbrev dktX18_pick_2 : List UInt8 := dkwX18_pick_2 ++ dktX18_pick_3
def dkwX18_pick_1 : List UInt8 := [44, 180, 0, 83, 153, 0, 15, 42, 180, 0, 9, 180, 0, 89, 7, 46, 167, 0, 10, 42, 180, 0, 9]
abbrev dktX18_pick_1 : List UInt8 := dkwX18_pick_1 ++ dktX18_pick_2
def dkwX18_pick_0 : List UInt8 := [44, 29, 181, 0, 80, 44, 44, 180, 0, 83, 153, 0, 7, 8, 167, 0, 4, 5, 181, 0, 87, 42, 43, 44]
abbrev dktX18_pick_0 : List UInt8 := dkwX18_pick_0 ++ dktX18_pick_1
theorem dksX18_pick_0 : cX18_pick.data.toList.drop 0 = dktX18_pick_0 := by decide +kernel
theorem dksX18_pick_1 : cX18_pick.data.toList.drop 24 = dktX18_pick_1 := dk_seg dksX18_pick_0 24 rfl rfl
theorem dksX18_pick_2 : cX18_pick.data.toList.drop 47 = dktX18_pick_2 := dk_seg dksX18_pick_1 23 rfl rfl
theorem dksX18_pick_3 : cX18_pick.data.toList.drop 71 = dktX18_pick_3 := dk_seg dksX18_pick_2 24 rfl rfl
theorem dX18_pick_0 : decode cX18_pick 0 = .ok (.aload_n 2, 1) := dk_44 (dk_at dksX18_pick_0 0 rfl rfl)
theorem dX18_pick_1 : decode cX18_pick 1 = .ok (.iload_n 3, 1) := dk_29 (dk_at dksX18_pick_0 1 rfl rfl)
theorem dX18_pick_2 : decode cX18_pick 2 = .ok (.putfield 80, 3) := dk_181 0 80 (dk_at dksX18_pick_0 2 rfl rfl)
theorem dX18_pick_5 : decode cX18_pick 5 = .ok (.aload_n 2, 1) := dk_44 (dk_at dksX18_pick_0 5 rfl rfl)
theorem dX18_pick_6 : decode cX18_pick 6 = .ok (.aload_n 2, 1) := dk_44 (dk_at dksX18_pick_0 6 rfl rfl)
theorem dX18_pick_7 : decode cX18_pick 7 = .ok (.getfield 83, 3) := dk_180 0 83 (dk_at dksX18_pick_0 7 rfl rfl)
theorem dX18_pick_10 : decode cX18_pick 10 = .ok (.ifCond .eq 7, 3) := dk_153 0 7 (dk_at dksX18_pick_0 10 rfl rfl)
theorem dX18_pick_13 : decode cX18_pick 13 = .ok (.iconst 5, 1) := dk_8 (dk_at dksX18_pick_0 13 rfl rfl)
theorem dX18_pick_14 : decode cX18_pick 14 = .ok (.goto 4, 3) := dk_167 0 4 (dk_at dksX18_pick_0 14 rfl rfl)
theorem dX18_pick_17 : decode cX18_pick 17 = .ok (.iconst 2, 1) := dk_5 (dk_at dksX18_pick_0 17 rfl rfl)
theorem dX18_pick_18 : decode cX18_pick 18 = .ok (.putfield 87, 3) := dk_181 0 87 (dk_at dksX18_pick_0 18 rfl rfl)
theorem dX18_pick_21 : decode cX18_pick 21 = .ok (.aload_n 0, 1) := dk_42 (dk_at dksX18_pick_0 21 rfl rfl)
theorem dX18_pick_22 : decode cX18_pick 22 = .ok (.aload_n 1, 1) := dk_43 (dk_at dksX18_pick_0 22 rfl rfl)
theorem dX18_pick_23 : decode cX18_pick 23 = .ok (.aload_n 2, 1) := dk_44 (dk_at dksX18_pick_0 23 rfl rfl)
theorem dX18_pick_24 : decode cX18_pick 24 = .ok (.aload_n 2, 1) := dk_44 (dk_at dksX18_pick_1 0 rfl rfl)
theorem dX18_pick_25 : decode cX18_pick 25 = .ok (.getfield 83, 3) := dk_180 0 83 (dk_at dksX18_pick_1 1 rfl rfl)
theorem dX18_pick_28 : decode cX18_pick 28 = .ok (.ifCond .eq 15, 3) := dk_153 0 15 (dk_at dksX18_pick_1 4 rfl rfl)
theorem dX18_pick_31 : decode cX18_pick 31 = .ok (.aload_n 0, 1) := dk_42 (dk_at dksX18_pick_1 7 rfl rfl)
theorem dX18_pick_32 : decode cX18_pick 32 = .ok (.getfield 9, 3) := dk_180 0 9 (dk_at dksX18_pick_1 8 rfl rfl)
theorem dX18_pick_35 : decode cX18_pick 35 = .ok (.getfield 89, 3) := dk_180 0 89 (dk_at dksX18_pick_1 11 rfl rfl)
theorem dX18_pick_38 : decode cX18_pick 38 = .ok (.iconst 4, 1) := dk_7 (dk_at dksX18_pick_1 14 rfl rfl)
theorem dX18_pick_39 : decode cX18_pick 39 = .ok (.iaload, 1) := dk_46 (dk_at dksX18_pick_1 15 rfl rfl)
theorem dX18_pick_40 : decode cX18_pick 40 = .ok (.goto 10, 3) := dk_167 0 10 (dk_at dksX18_pick_1 16 rfl rfl)
theorem dX18_pick_43 : decode cX18_pick 43 = .ok (.aload_n 0, 1) := dk_42 (dk_at dksX18_pick_1 19 rfl rfl)
theorem dX18_pick_44 : decode cX18_pick 44 = .ok (.getfield 9, 3) := dk_180 0 9 (dk_at dksX18_pick_1 20 rfl rfl)
theorem dX18_pick_47 : decode cX18_pick 47 = .ok (.getfield 93, 3) := dk_180 0 93 (dk_at dksX18_pick_2 0 rfl rfl)
theorem dX18_pick_50 : decode cX18_pick 50 = .ok (.invokevirtual 76, 3) := dk_182 0 76 (dk_at dksX18_pick_2 3 rfl rfl)
theorem dX18_pick_53 : decode cX18_pick 53 = .ok (.aload_n 2, 1) := dk_44 (dk_at dksX18_pick_2 6 rfl rfl)
theorem dX18_pick_54 : decode cX18_pick 54 = .ok (.getfield 83, 3) := dk_180 0 83 (dk_at dksX18_pick_2 7 rfl rfl)
theorem dX18_pick_57 : decode cX18_pick 57 = .ok (.ifCond .ne 20, 3) := dk_154 0 20 (dk_at dksX18_pick_2 10 rfl rfl)
theorem dX18_pick_60 : decode cX18_pick 60 = .ok (.aload_n 1, 1) := dk_43 (dk_at dksX18_pick_2 13 rfl rfl)
theorem dX18_pick_61 : decode cX18_pick 61 = .ok (.getfield 34, 3) := dk_180 0 34 (dk_at dksX18_pick_2 14 rfl rfl)
theorem dX18_pick_64 : decode cX18_pick 64 = .ok (.aload_n 2, 1) := dk_44 (dk_at dksX18_pick_2 17 rfl rfl)
theorem dX18_pick_65 : decode cX18_pick 65 = .ok (.getfield 96, 3) := dk_180 0 96 (dk_at dksX18_pick_2 18 rfl rfl)
theorem dX18_pick_68 : decode cX18_pick 68 = .ok (.invokestatic 99, 3) := dk_184 0 99 (dk_at dksX18_pick_2 21 rfl rfl)
theorem dX18_pick_71 : decode cX18_pick 71 = .ok (.invokeinterface 103 2, 5) := by decide +kernel
theorem dX18_pick_76 : decode cX18_pick 76 = .ok (.pop, 1) := dk_87 (dk_at dksX18_pick_3 5 rfl rfl)
theorem dX18_pick_77 : decode cX18_pick 77 = .ok (.return_, 1) := dk_177 (dk_at dksX18_pick_3 6 rfl rfl)
abbrev cX19_init : ByteArray := prog_22_method_1_code
def yX19_init : MethodName := ⟨RX19, "<init>", "(LSharedTaxis;LSharedTaxis$Taxi;)V"⟩
def dkwX19_init_0 : List UInt8 := [42, 43, 181, 0, 1, 42, 183, 0, 7, 42, 44, 181, 0, 13, 177]
abbrev dktX19_init_0 : List UInt8 := dkwX19_init_0 ++ []
theorem dksX19_init_0 : cX19_init.data.toList.drop 0 = dktX19_init_0 := by decide +kernel
theorem dX19_init_0 : decode cX19_init 0 = .ok (.aload_n 0, 1) := dk_42 (dk_at dksX19_init_0 0 rfl rfl)
theorem dX19_init_1 : decode cX19_init 1 = .ok (.aload_n 1, 1) := dk_43 (dk_at dksX19_init_0 1 rfl rfl)
theorem dX19_init_2 : decode cX19_init 2 = .ok (.putfield 1, 3) := dk_181 0 1 (dk_at dksX19_init_0 2 rfl rfl)
theorem dX19_init_5 : decode cX19_init 5 = .ok (.aload_n 0, 1) := dk_42 (dk_at dksX19_init_0 5 rfl rfl)
theorem dX19_init_6 : decode cX19_init 6 = .ok (.invokespecial 7, 3) := dk_183 0 7 (dk_at dksX19_init_0 6 rfl rfl)
theorem dX19_init_9 : decode cX19_init 9 = .ok (.aload_n 0, 1) := dk_42 (dk_at dksX19_init_0 9 rfl rfl)
theorem dX19_init_10 : decode cX19_init 10 = .ok (.aload_n 2, 1) := dk_44 (dk_at dksX19_init_0 10 rfl rfl)
theorem dX19_init_11 : decode cX19_init 11 = .ok (.putfield 13, 3) := dk_181 0 13 (dk_at dksX19_init_0 11 rfl rfl)
theorem dX19_init_14 : decode cX19_init 14 = .ok (.return_, 1) := dk_177 (dk_at dksX19_init_0 14 rfl rfl)
abbrev cX19_iterator : ByteArray := prog_22_method_2_code
def yX19_iterator : MethodName := ⟨RX19, "iterator", "()Ljava/util/Iterator;"⟩
def dkwX19_iterator_0 : List UInt8 := [187, 0, 17, 89, 42, 183, 0, 19, 176]
abbrev dktX19_iterator_0 : List UInt8 := dkwX19_iterator_0 ++ []
theorem dksX19_iterator_0 : cX19_iterator.data.toList.drop 0 = dktX19_iterator_0 := by decide +kernel
theorem dX19_iterator_0 : decode cX19_iterator 0 = .ok (.new 17, 3) := dk_187 0 17 (dk_at dksX19_iterator_0 0 rfl rfl)
theorem dX19_iterator_3 : decode cX19_iterator 3 = .ok (.dup, 1) := dk_89 (dk_at dksX19_iterator_0 3 rfl rfl)
theorem dX19_iterator_4 : decode cX19_iterator 4 = .ok (.aload_n 0, 1) := dk_42 (dk_at dksX19_iterator_0 4 rfl rfl)
theorem dX19_iterator_5 : decode cX19_iterator 5 = .ok (.invokespecial 19, 3) := dk_183 0 19 (dk_at dksX19_iterator_0 5 rfl rfl)
theorem dX19_iterator_8 : decode cX19_iterator 8 = .ok (.areturn, 1) := dk_176 (dk_at dksX19_iterator_0 8 rfl rfl)
abbrev cX2_init : ByteArray := prog_12_method_1_code
def yX2_init : MethodName := ⟨RX2, "<init>", "(LSharedTaxis$Town;)V"⟩
def dkwX2_init_3 : List UInt8 := [187, 0, 15, 89, 183, 0, 17, 181, 0, 22, 42, 43, 181, 0, 25, 177]
abbrev dktX2_init_3 : List UInt8 := dkwX2_init_3 ++ []
def dkwX2_init_2 : List UInt8 := [16, 8, 3, 79, 89, 16, 9, 3, 79, 181, 0, 9, 42, 187, 0, 15, 89, 183, 0, 17, 181, 0, 18, 42]
abbrev dktX2_init_2 : List UInt8 := dkwX2_init_2 ++ dktX2_init_3
def dkwX2_init_1 : List UInt8 := [6, 79, 89, 7, 3, 79, 89, 8, 17, 0, 240, 79, 89, 16, 6, 16, 30, 79, 89, 16, 7, 3, 79, 89]
abbrev dktX2_init_1 : List UInt8 := dkwX2_init_1 ++ dktX2_init_2
def dkwX2_init_0 : List UInt8 := [42, 183, 0, 3, 42, 16, 10, 188, 10, 89, 3, 16, 15, 79, 89, 4, 4, 79, 89, 5, 8, 79, 89, 6]
abbrev dktX2_init_0 : List UInt8 := dkwX2_init_0 ++ dktX2_init_1
theorem dksX2_init_0 : cX2_init.data.toList.drop 0 = dktX2_init_0 := by decide +kernel
theorem dksX2_init_1 : cX2_init.data.toList.drop 24 = dktX2_init_1 := dk_seg dksX2_init_0 24 rfl rfl
theorem dksX2_init_2 : cX2_init.data.toList.drop 48 = dktX2_init_2 := dk_seg dksX2_init_1 24 rfl rfl
theorem dksX2_init_3 : cX2_init.data.toList.drop 72 = dktX2_init_3 := dk_seg dksX2_init_2 24 rfl rfl
theorem dX2_init_0 : decode cX2_init 0 = .ok (.aload_n 0, 1) := dk_42 (dk_at dksX2_init_0 0 rfl rfl)
theorem dX2_init_1 : decode cX2_init 1 = .ok (.invokespecial 3, 3) := dk_183 0 3 (dk_at dksX2_init_0 1 rfl rfl)
theorem dX2_init_4 : decode cX2_init 4 = .ok (.aload_n 0, 1) := dk_42 (dk_at dksX2_init_0 4 rfl rfl)
theorem dX2_init_5 : decode cX2_init 5 = .ok (.bipush 10, 2) := dk_16 10 (dk_at dksX2_init_0 5 rfl rfl)
theorem dX2_init_7 : decode cX2_init 7 = .ok (.newarray .int, 2) := dk_188_10 (dk_at dksX2_init_0 7 rfl rfl)
theorem dX2_init_9 : decode cX2_init 9 = .ok (.dup, 1) := dk_89 (dk_at dksX2_init_0 9 rfl rfl)
theorem dX2_init_10 : decode cX2_init 10 = .ok (.iconst 0, 1) := dk_3 (dk_at dksX2_init_0 10 rfl rfl)
theorem dX2_init_11 : decode cX2_init 11 = .ok (.bipush 15, 2) := dk_16 15 (dk_at dksX2_init_0 11 rfl rfl)
theorem dX2_init_13 : decode cX2_init 13 = .ok (.iastore, 1) := dk_79 (dk_at dksX2_init_0 13 rfl rfl)
theorem dX2_init_14 : decode cX2_init 14 = .ok (.dup, 1) := dk_89 (dk_at dksX2_init_0 14 rfl rfl)
theorem dX2_init_15 : decode cX2_init 15 = .ok (.iconst 1, 1) := dk_4 (dk_at dksX2_init_0 15 rfl rfl)
theorem dX2_init_16 : decode cX2_init 16 = .ok (.iconst 1, 1) := dk_4 (dk_at dksX2_init_0 16 rfl rfl)
theorem dX2_init_17 : decode cX2_init 17 = .ok (.iastore, 1) := dk_79 (dk_at dksX2_init_0 17 rfl rfl)
theorem dX2_init_18 : decode cX2_init 18 = .ok (.dup, 1) := dk_89 (dk_at dksX2_init_0 18 rfl rfl)
theorem dX2_init_19 : decode cX2_init 19 = .ok (.iconst 2, 1) := dk_5 (dk_at dksX2_init_0 19 rfl rfl)
theorem dX2_init_20 : decode cX2_init 20 = .ok (.iconst 5, 1) := dk_8 (dk_at dksX2_init_0 20 rfl rfl)
theorem dX2_init_21 : decode cX2_init 21 = .ok (.iastore, 1) := dk_79 (dk_at dksX2_init_0 21 rfl rfl)
theorem dX2_init_22 : decode cX2_init 22 = .ok (.dup, 1) := dk_89 (dk_at dksX2_init_0 22 rfl rfl)
theorem dX2_init_23 : decode cX2_init 23 = .ok (.iconst 3, 1) := dk_6 (dk_at dksX2_init_0 23 rfl rfl)
theorem dX2_init_24 : decode cX2_init 24 = .ok (.iconst 3, 1) := dk_6 (dk_at dksX2_init_1 0 rfl rfl)
theorem dX2_init_25 : decode cX2_init 25 = .ok (.iastore, 1) := dk_79 (dk_at dksX2_init_1 1 rfl rfl)
theorem dX2_init_26 : decode cX2_init 26 = .ok (.dup, 1) := dk_89 (dk_at dksX2_init_1 2 rfl rfl)
theorem dX2_init_27 : decode cX2_init 27 = .ok (.iconst 4, 1) := dk_7 (dk_at dksX2_init_1 3 rfl rfl)
theorem dX2_init_28 : decode cX2_init 28 = .ok (.iconst 0, 1) := dk_3 (dk_at dksX2_init_1 4 rfl rfl)
theorem dX2_init_29 : decode cX2_init 29 = .ok (.iastore, 1) := dk_79 (dk_at dksX2_init_1 5 rfl rfl)
theorem dX2_init_30 : decode cX2_init 30 = .ok (.dup, 1) := dk_89 (dk_at dksX2_init_1 6 rfl rfl)
theorem dX2_init_31 : decode cX2_init 31 = .ok (.iconst 5, 1) := dk_8 (dk_at dksX2_init_1 7 rfl rfl)
theorem dX2_init_32 : decode cX2_init 32 = .ok (.sipush 240, 3) := dk_17 0 240 (dk_at dksX2_init_1 8 rfl rfl)
theorem dX2_init_35 : decode cX2_init 35 = .ok (.iastore, 1) := dk_79 (dk_at dksX2_init_1 11 rfl rfl)
theorem dX2_init_36 : decode cX2_init 36 = .ok (.dup, 1) := dk_89 (dk_at dksX2_init_1 12 rfl rfl)
theorem dX2_init_37 : decode cX2_init 37 = .ok (.bipush 6, 2) := dk_16 6 (dk_at dksX2_init_1 13 rfl rfl)
theorem dX2_init_39 : decode cX2_init 39 = .ok (.bipush 30, 2) := dk_16 30 (dk_at dksX2_init_1 15 rfl rfl)
theorem dX2_init_41 : decode cX2_init 41 = .ok (.iastore, 1) := dk_79 (dk_at dksX2_init_1 17 rfl rfl)
theorem dX2_init_42 : decode cX2_init 42 = .ok (.dup, 1) := dk_89 (dk_at dksX2_init_1 18 rfl rfl)
theorem dX2_init_43 : decode cX2_init 43 = .ok (.bipush 7, 2) := dk_16 7 (dk_at dksX2_init_1 19 rfl rfl)
theorem dX2_init_45 : decode cX2_init 45 = .ok (.iconst 0, 1) := dk_3 (dk_at dksX2_init_1 21 rfl rfl)
theorem dX2_init_46 : decode cX2_init 46 = .ok (.iastore, 1) := dk_79 (dk_at dksX2_init_1 22 rfl rfl)
theorem dX2_init_47 : decode cX2_init 47 = .ok (.dup, 1) := dk_89 (dk_at dksX2_init_1 23 rfl rfl)
theorem dX2_init_48 : decode cX2_init 48 = .ok (.bipush 8, 2) := dk_16 8 (dk_at dksX2_init_2 0 rfl rfl)
theorem dX2_init_50 : decode cX2_init 50 = .ok (.iconst 0, 1) := dk_3 (dk_at dksX2_init_2 2 rfl rfl)
theorem dX2_init_51 : decode cX2_init 51 = .ok (.iastore, 1) := dk_79 (dk_at dksX2_init_2 3 rfl rfl)
theorem dX2_init_52 : decode cX2_init 52 = .ok (.dup, 1) := dk_89 (dk_at dksX2_init_2 4 rfl rfl)
theorem dX2_init_53 : decode cX2_init 53 = .ok (.bipush 9, 2) := dk_16 9 (dk_at dksX2_init_2 5 rfl rfl)
theorem dX2_init_55 : decode cX2_init 55 = .ok (.iconst 0, 1) := dk_3 (dk_at dksX2_init_2 7 rfl rfl)
theorem dX2_init_56 : decode cX2_init 56 = .ok (.iastore, 1) := dk_79 (dk_at dksX2_init_2 8 rfl rfl)
theorem dX2_init_57 : decode cX2_init 57 = .ok (.putfield 9, 3) := dk_181 0 9 (dk_at dksX2_init_2 9 rfl rfl)
theorem dX2_init_60 : decode cX2_init 60 = .ok (.aload_n 0, 1) := dk_42 (dk_at dksX2_init_2 12 rfl rfl)
theorem dX2_init_61 : decode cX2_init 61 = .ok (.new 15, 3) := dk_187 0 15 (dk_at dksX2_init_2 13 rfl rfl)
theorem dX2_init_64 : decode cX2_init 64 = .ok (.dup, 1) := dk_89 (dk_at dksX2_init_2 16 rfl rfl)
theorem dX2_init_65 : decode cX2_init 65 = .ok (.invokespecial 17, 3) := dk_183 0 17 (dk_at dksX2_init_2 17 rfl rfl)
theorem dX2_init_68 : decode cX2_init 68 = .ok (.putfield 18, 3) := dk_181 0 18 (dk_at dksX2_init_2 20 rfl rfl)
theorem dX2_init_71 : decode cX2_init 71 = .ok (.aload_n 0, 1) := dk_42 (dk_at dksX2_init_2 23 rfl rfl)
theorem dX2_init_72 : decode cX2_init 72 = .ok (.new 15, 3) := dk_187 0 15 (dk_at dksX2_init_3 0 rfl rfl)
theorem dX2_init_75 : decode cX2_init 75 = .ok (.dup, 1) := dk_89 (dk_at dksX2_init_3 3 rfl rfl)
theorem dX2_init_76 : decode cX2_init 76 = .ok (.invokespecial 17, 3) := dk_183 0 17 (dk_at dksX2_init_3 4 rfl rfl)
theorem dX2_init_79 : decode cX2_init 79 = .ok (.putfield 22, 3) := dk_181 0 22 (dk_at dksX2_init_3 7 rfl rfl)
theorem dX2_init_82 : decode cX2_init 82 = .ok (.aload_n 0, 1) := dk_42 (dk_at dksX2_init_3 10 rfl rfl)
theorem dX2_init_83 : decode cX2_init 83 = .ok (.aload_n 1, 1) := dk_43 (dk_at dksX2_init_3 11 rfl rfl)
theorem dX2_init_84 : decode cX2_init 84 = .ok (.putfield 25, 3) := dk_181 0 25 (dk_at dksX2_init_3 12 rfl rfl)
theorem dX2_init_87 : decode cX2_init 87 = .ok (.return_, 1) := dk_177 (dk_at dksX2_init_3 15 rfl rfl)
abbrev cX2_copy : ByteArray := prog_12_method_3_code
def yX2_copy : MethodName := ⟨RX2, "copy", "()LSharedTaxis$State;"⟩
def dkwX2_copy_0 : List UInt8 := [187, 0, 10, 89, 42, 183, 0, 73, 176]
abbrev dktX2_copy_0 : List UInt8 := dkwX2_copy_0 ++ []
theorem dksX2_copy_0 : cX2_copy.data.toList.drop 0 = dktX2_copy_0 := by decide +kernel
theorem dX2_copy_0 : decode cX2_copy 0 = .ok (.new 10, 3) := dk_187 0 10 (dk_at dksX2_copy_0 0 rfl rfl)
theorem dX2_copy_3 : decode cX2_copy 3 = .ok (.dup, 1) := dk_89 (dk_at dksX2_copy_0 3 rfl rfl)
theorem dX2_copy_4 : decode cX2_copy 4 = .ok (.aload_n 0, 1) := dk_42 (dk_at dksX2_copy_0 4 rfl rfl)
theorem dX2_copy_5 : decode cX2_copy 5 = .ok (.invokespecial 73, 3) := dk_183 0 73 (dk_at dksX2_copy_0 5 rfl rfl)
theorem dX2_copy_8 : decode cX2_copy 8 = .ok (.areturn, 1) := dk_176 (dk_at dksX2_copy_0 8 rfl rfl)
abbrev cX2_init_2 : ByteArray := prog_12_method_2_code
def yX2_init_2 : MethodName := ⟨RX2, "<init>", "(LSharedTaxis$State;)V"⟩
def dkwX2_init_2_5 : List UInt8 := [185, 0, 54, 2, 0, 192, 0, 68, 182, 0, 70, 185, 0, 64, 2, 0, 87, 132, 2, 1, 167, 255, 214, 177]
abbrev dktX2_init_2_5 : List UInt8 := dkwX2_init_2_5 ++ []
def dkwX2_init_2_4 : List UInt8 := [61, 28, 43, 180, 0, 22, 185, 0, 48, 1, 0, 162, 0, 35, 42, 180, 0, 22, 43, 180, 0, 22, 28]
abbrev dktX2_init_2_4 : List UInt8 := dkwX2_init_2_4 ++ dktX2_init_2_5
def dkwX2_init_2_3 : List UInt8 := [185, 0, 54, 2, 0, 192, 0, 58, 182, 0, 60, 185, 0, 64, 2, 0, 87, 132, 2, 1, 167, 255, 214, 3]
abbrev dktX2_init_2_3 : List UInt8 := dkwX2_init_2_3 ++ dktX2_init_2_4
def dkwX2_init_2_2 : List UInt8 := [61, 28, 43, 180, 0, 18, 185, 0, 48, 1, 0, 162, 0, 35, 42, 180, 0, 18, 43, 180, 0, 18, 28]
abbrev dktX2_init_2_2 : List UInt8 := dkwX2_init_2_2 ++ dktX2_init_2_3
def dkwX2_init_2_1 : List UInt8 := [43, 180, 0, 38, 181, 0, 38, 42, 43, 180, 0, 42, 181, 0, 42, 42, 43, 180, 0, 45, 181, 0, 45, 3]
abbrev dktX2_init_2_1 : List UInt8 := dkwX2_init_2_1 ++ dktX2_init_2_2
def dkwX2_init_2_0 : List UInt8 := [42, 43, 180, 0, 25, 183, 0, 29, 43, 180, 0, 9, 3, 42, 180, 0, 9, 3, 16, 10, 184, 0, 32, 42]
abbrev dktX2_init_2_0 : List UInt8 := dkwX2_init_2_0 ++ dktX2_init_2_1
theorem dksX2_init_2_0 : cX2_init_2.data.toList.drop 0 = dktX2_init_2_0 := by decide +kernel
theorem dksX2_init_2_1 : cX2_init_2.data.toList.drop 24 = dktX2_init_2_1 := dk_seg dksX2_init_2_0 24 rfl rfl
theorem dksX2_init_2_2 : cX2_init_2.data.toList.drop 48 = dktX2_init_2_2 := dk_seg dksX2_init_2_1 24 rfl rfl
theorem dksX2_init_2_3 : cX2_init_2.data.toList.drop 71 = dktX2_init_2_3 := dk_seg dksX2_init_2_2 23 rfl rfl
theorem dksX2_init_2_4 : cX2_init_2.data.toList.drop 95 = dktX2_init_2_4 := dk_seg dksX2_init_2_3 24 rfl rfl
theorem dksX2_init_2_5 : cX2_init_2.data.toList.drop 118 = dktX2_init_2_5 := dk_seg dksX2_init_2_4 23 rfl rfl
theorem dX2_init_2_0 : decode cX2_init_2 0 = .ok (.aload_n 0, 1) := dk_42 (dk_at dksX2_init_2_0 0 rfl rfl)
theorem dX2_init_2_1 : decode cX2_init_2 1 = .ok (.aload_n 1, 1) := dk_43 (dk_at dksX2_init_2_0 1 rfl rfl)
theorem dX2_init_2_2 : decode cX2_init_2 2 = .ok (.getfield 25, 3) := dk_180 0 25 (dk_at dksX2_init_2_0 2 rfl rfl)
theorem dX2_init_2_5 : decode cX2_init_2 5 = .ok (.invokespecial 29, 3) := dk_183 0 29 (dk_at dksX2_init_2_0 5 rfl rfl)
theorem dX2_init_2_8 : decode cX2_init_2 8 = .ok (.aload_n 1, 1) := dk_43 (dk_at dksX2_init_2_0 8 rfl rfl)
theorem dX2_init_2_9 : decode cX2_init_2 9 = .ok (.getfield 9, 3) := dk_180 0 9 (dk_at dksX2_init_2_0 9 rfl rfl)
theorem dX2_init_2_12 : decode cX2_init_2 12 = .ok (.iconst 0, 1) := dk_3 (dk_at dksX2_init_2_0 12 rfl rfl)
theorem dX2_init_2_13 : decode cX2_init_2 13 = .ok (.aload_n 0, 1) := dk_42 (dk_at dksX2_init_2_0 13 rfl rfl)
theorem dX2_init_2_14 : decode cX2_init_2 14 = .ok (.getfield 9, 3) := dk_180 0 9 (dk_at dksX2_init_2_0 14 rfl rfl)
theorem dX2_init_2_17 : decode cX2_init_2 17 = .ok (.iconst 0, 1) := dk_3 (dk_at dksX2_init_2_0 17 rfl rfl)
theorem dX2_init_2_18 : decode cX2_init_2 18 = .ok (.bipush 10, 2) := dk_16 10 (dk_at dksX2_init_2_0 18 rfl rfl)
theorem dX2_init_2_20 : decode cX2_init_2 20 = .ok (.invokestatic 32, 3) := dk_184 0 32 (dk_at dksX2_init_2_0 20 rfl rfl)
theorem dX2_init_2_23 : decode cX2_init_2 23 = .ok (.aload_n 0, 1) := dk_42 (dk_at dksX2_init_2_0 23 rfl rfl)
theorem dX2_init_2_24 : decode cX2_init_2 24 = .ok (.aload_n 1, 1) := dk_43 (dk_at dksX2_init_2_1 0 rfl rfl)
theorem dX2_init_2_25 : decode cX2_init_2 25 = .ok (.getfield 38, 3) := dk_180 0 38 (dk_at dksX2_init_2_1 1 rfl rfl)
theorem dX2_init_2_28 : decode cX2_init_2 28 = .ok (.putfield 38, 3) := dk_181 0 38 (dk_at dksX2_init_2_1 4 rfl rfl)
theorem dX2_init_2_31 : decode cX2_init_2 31 = .ok (.aload_n 0, 1) := dk_42 (dk_at dksX2_init_2_1 7 rfl rfl)
theorem dX2_init_2_32 : decode cX2_init_2 32 = .ok (.aload_n 1, 1) := dk_43 (dk_at dksX2_init_2_1 8 rfl rfl)
theorem dX2_init_2_33 : decode cX2_init_2 33 = .ok (.getfield 42, 3) := dk_180 0 42 (dk_at dksX2_init_2_1 9 rfl rfl)
theorem dX2_init_2_36 : decode cX2_init_2 36 = .ok (.putfield 42, 3) := dk_181 0 42 (dk_at dksX2_init_2_1 12 rfl rfl)
theorem dX2_init_2_39 : decode cX2_init_2 39 = .ok (.aload_n 0, 1) := dk_42 (dk_at dksX2_init_2_1 15 rfl rfl)
theorem dX2_init_2_40 : decode cX2_init_2 40 = .ok (.aload_n 1, 1) := dk_43 (dk_at dksX2_init_2_1 16 rfl rfl)
theorem dX2_init_2_41 : decode cX2_init_2 41 = .ok (.getfield 45, 3) := dk_180 0 45 (dk_at dksX2_init_2_1 17 rfl rfl)
theorem dX2_init_2_44 : decode cX2_init_2 44 = .ok (.putfield 45, 3) := dk_181 0 45 (dk_at dksX2_init_2_1 20 rfl rfl)
theorem dX2_init_2_47 : decode cX2_init_2 47 = .ok (.iconst 0, 1) := dk_3 (dk_at dksX2_init_2_1 23 rfl rfl)
theorem dX2_init_2_48 : decode cX2_init_2 48 = .ok (.istore_n 2, 1) := dk_61 (dk_at dksX2_init_2_2 0 rfl rfl)
theorem dX2_init_2_49 : decode cX2_init_2 49 = .ok (.iload_n 2, 1) := dk_28 (dk_at dksX2_init_2_2 1 rfl rfl)
theorem dX2_init_2_50 : decode cX2_init_2 50 = .ok (.aload_n 1, 1) := dk_43 (dk_at dksX2_init_2_2 2 rfl rfl)
theorem dX2_init_2_51 : decode cX2_init_2 51 = .ok (.getfield 18, 3) := dk_180 0 18 (dk_at dksX2_init_2_2 3 rfl rfl)
theorem dX2_init_2_54 : decode cX2_init_2 54 = .ok (.invokeinterface 48 1, 5) := by decide +kernel
theorem dX2_init_2_59 : decode cX2_init_2 59 = .ok (.if_icmp .ge 35, 3) := dk_162 0 35 (dk_at dksX2_init_2_2 11 rfl rfl)
theorem dX2_init_2_62 : decode cX2_init_2 62 = .ok (.aload_n 0, 1) := dk_42 (dk_at dksX2_init_2_2 14 rfl rfl)
theorem dX2_init_2_63 : decode cX2_init_2 63 = .ok (.getfield 18, 3) := dk_180 0 18 (dk_at dksX2_init_2_2 15 rfl rfl)
theorem dX2_init_2_66 : decode cX2_init_2 66 = .ok (.aload_n 1, 1) := dk_43 (dk_at dksX2_init_2_2 18 rfl rfl)
theorem dX2_init_2_67 : decode cX2_init_2 67 = .ok (.getfield 18, 3) := dk_180 0 18 (dk_at dksX2_init_2_2 19 rfl rfl)
theorem dX2_init_2_70 : decode cX2_init_2 70 = .ok (.iload_n 2, 1) := dk_28 (dk_at dksX2_init_2_2 22 rfl rfl)
theorem dX2_init_2_71 : decode cX2_init_2 71 = .ok (.invokeinterface 54 2, 5) := by decide +kernel
theorem dX2_init_2_76 : decode cX2_init_2 76 = .ok (.checkcast 58, 3) := dk_192 0 58 (dk_at dksX2_init_2_3 5 rfl rfl)
theorem dX2_init_2_79 : decode cX2_init_2 79 = .ok (.invokevirtual 60, 3) := dk_182 0 60 (dk_at dksX2_init_2_3 8 rfl rfl)
theorem dX2_init_2_82 : decode cX2_init_2 82 = .ok (.invokeinterface 64 2, 5) := by decide +kernel
theorem dX2_init_2_87 : decode cX2_init_2 87 = .ok (.pop, 1) := dk_87 (dk_at dksX2_init_2_3 16 rfl rfl)
theorem dX2_init_2_88 : decode cX2_init_2 88 = .ok (.iinc 2 1, 3) := dk_132 2 1 (dk_at dksX2_init_2_3 17 rfl rfl)
theorem dX2_init_2_91 : decode cX2_init_2 91 = .ok (.goto (-42), 3) := dk_167 255 214 (dk_at dksX2_init_2_3 20 rfl rfl)
theorem dX2_init_2_94 : decode cX2_init_2 94 = .ok (.iconst 0, 1) := dk_3 (dk_at dksX2_init_2_3 23 rfl rfl)
theorem dX2_init_2_95 : decode cX2_init_2 95 = .ok (.istore_n 2, 1) := dk_61 (dk_at dksX2_init_2_4 0 rfl rfl)
theorem dX2_init_2_96 : decode cX2_init_2 96 = .ok (.iload_n 2, 1) := dk_28 (dk_at dksX2_init_2_4 1 rfl rfl)
theorem dX2_init_2_97 : decode cX2_init_2 97 = .ok (.aload_n 1, 1) := dk_43 (dk_at dksX2_init_2_4 2 rfl rfl)
theorem dX2_init_2_98 : decode cX2_init_2 98 = .ok (.getfield 22, 3) := dk_180 0 22 (dk_at dksX2_init_2_4 3 rfl rfl)
theorem dX2_init_2_101 : decode cX2_init_2 101 = .ok (.invokeinterface 48 1, 5) := by decide +kernel
theorem dX2_init_2_106 : decode cX2_init_2 106 = .ok (.if_icmp .ge 35, 3) := dk_162 0 35 (dk_at dksX2_init_2_4 11 rfl rfl)
theorem dX2_init_2_109 : decode cX2_init_2 109 = .ok (.aload_n 0, 1) := dk_42 (dk_at dksX2_init_2_4 14 rfl rfl)
theorem dX2_init_2_110 : decode cX2_init_2 110 = .ok (.getfield 22, 3) := dk_180 0 22 (dk_at dksX2_init_2_4 15 rfl rfl)
theorem dX2_init_2_113 : decode cX2_init_2 113 = .ok (.aload_n 1, 1) := dk_43 (dk_at dksX2_init_2_4 18 rfl rfl)
theorem dX2_init_2_114 : decode cX2_init_2 114 = .ok (.getfield 22, 3) := dk_180 0 22 (dk_at dksX2_init_2_4 19 rfl rfl)
theorem dX2_init_2_117 : decode cX2_init_2 117 = .ok (.iload_n 2, 1) := dk_28 (dk_at dksX2_init_2_4 22 rfl rfl)
theorem dX2_init_2_118 : decode cX2_init_2 118 = .ok (.invokeinterface 54 2, 5) := by decide +kernel
theorem dX2_init_2_123 : decode cX2_init_2 123 = .ok (.checkcast 68, 3) := dk_192 0 68 (dk_at dksX2_init_2_5 5 rfl rfl)
theorem dX2_init_2_126 : decode cX2_init_2 126 = .ok (.invokevirtual 70, 3) := dk_182 0 70 (dk_at dksX2_init_2_5 8 rfl rfl)
theorem dX2_init_2_129 : decode cX2_init_2 129 = .ok (.invokeinterface 64 2, 5) := by decide +kernel
theorem dX2_init_2_134 : decode cX2_init_2 134 = .ok (.pop, 1) := dk_87 (dk_at dksX2_init_2_5 16 rfl rfl)
theorem dX2_init_2_135 : decode cX2_init_2 135 = .ok (.iinc 2 1, 3) := dk_132 2 1 (dk_at dksX2_init_2_5 17 rfl rfl)
theorem dX2_init_2_138 : decode cX2_init_2 138 = .ok (.goto (-42), 3) := dk_167 255 214 (dk_at dksX2_init_2_5 20 rfl rfl)
theorem dX2_init_2_141 : decode cX2_init_2 141 = .ok (.return_, 1) := dk_177 (dk_at dksX2_init_2_5 23 rfl rfl)
abbrev cX2_ridesIn : ByteArray := prog_12_method_6_code
def yX2_ridesIn : MethodName := ⟨RX2, "ridesIn", "(I)I"⟩
def dkwX2_ridesIn_2 : List UInt8 := [132, 3, 1, 167, 255, 212, 28, 172]
abbrev dktX2_ridesIn_2 : List UInt8 := dkwX2_ridesIn_2 ++ []
def dkwX2_ridesIn_1 : List UInt8 := [185, 0, 54, 2, 0, 192, 0, 68, 180, 0, 82, 27, 160, 0, 7, 4, 167, 0, 4, 3, 96, 61]
abbrev dktX2_ridesIn_1 : List UInt8 := dkwX2_ridesIn_1 ++ dktX2_ridesIn_2
def dkwX2_ridesIn_0 : List UInt8 := [3, 61, 3, 62, 29, 42, 180, 0, 22, 185, 0, 48, 1, 0, 162, 0, 37, 28, 42, 180, 0, 22, 29]
abbrev dktX2_ridesIn_0 : List UInt8 := dkwX2_ridesIn_0 ++ dktX2_ridesIn_1
theorem dksX2_ridesIn_0 : cX2_ridesIn.data.toList.drop 0 = dktX2_ridesIn_0 := by decide +kernel
theorem dksX2_ridesIn_1 : cX2_ridesIn.data.toList.drop 23 = dktX2_ridesIn_1 := dk_seg dksX2_ridesIn_0 23 rfl rfl
theorem dksX2_ridesIn_2 : cX2_ridesIn.data.toList.drop 45 = dktX2_ridesIn_2 := dk_seg dksX2_ridesIn_1 22 rfl rfl
theorem dX2_ridesIn_0 : decode cX2_ridesIn 0 = .ok (.iconst 0, 1) := dk_3 (dk_at dksX2_ridesIn_0 0 rfl rfl)
theorem dX2_ridesIn_1 : decode cX2_ridesIn 1 = .ok (.istore_n 2, 1) := dk_61 (dk_at dksX2_ridesIn_0 1 rfl rfl)
theorem dX2_ridesIn_2 : decode cX2_ridesIn 2 = .ok (.iconst 0, 1) := dk_3 (dk_at dksX2_ridesIn_0 2 rfl rfl)
theorem dX2_ridesIn_3 : decode cX2_ridesIn 3 = .ok (.istore_n 3, 1) := dk_62 (dk_at dksX2_ridesIn_0 3 rfl rfl)
theorem dX2_ridesIn_4 : decode cX2_ridesIn 4 = .ok (.iload_n 3, 1) := dk_29 (dk_at dksX2_ridesIn_0 4 rfl rfl)
theorem dX2_ridesIn_5 : decode cX2_ridesIn 5 = .ok (.aload_n 0, 1) := dk_42 (dk_at dksX2_ridesIn_0 5 rfl rfl)
theorem dX2_ridesIn_6 : decode cX2_ridesIn 6 = .ok (.getfield 22, 3) := dk_180 0 22 (dk_at dksX2_ridesIn_0 6 rfl rfl)
theorem dX2_ridesIn_9 : decode cX2_ridesIn 9 = .ok (.invokeinterface 48 1, 5) := by decide +kernel
theorem dX2_ridesIn_14 : decode cX2_ridesIn 14 = .ok (.if_icmp .ge 37, 3) := dk_162 0 37 (dk_at dksX2_ridesIn_0 14 rfl rfl)
theorem dX2_ridesIn_17 : decode cX2_ridesIn 17 = .ok (.iload_n 2, 1) := dk_28 (dk_at dksX2_ridesIn_0 17 rfl rfl)
theorem dX2_ridesIn_18 : decode cX2_ridesIn 18 = .ok (.aload_n 0, 1) := dk_42 (dk_at dksX2_ridesIn_0 18 rfl rfl)
theorem dX2_ridesIn_19 : decode cX2_ridesIn 19 = .ok (.getfield 22, 3) := dk_180 0 22 (dk_at dksX2_ridesIn_0 19 rfl rfl)
theorem dX2_ridesIn_22 : decode cX2_ridesIn 22 = .ok (.iload_n 3, 1) := dk_29 (dk_at dksX2_ridesIn_0 22 rfl rfl)
theorem dX2_ridesIn_23 : decode cX2_ridesIn 23 = .ok (.invokeinterface 54 2, 5) := by decide +kernel
theorem dX2_ridesIn_28 : decode cX2_ridesIn 28 = .ok (.checkcast 68, 3) := dk_192 0 68 (dk_at dksX2_ridesIn_1 5 rfl rfl)
theorem dX2_ridesIn_31 : decode cX2_ridesIn 31 = .ok (.getfield 82, 3) := dk_180 0 82 (dk_at dksX2_ridesIn_1 8 rfl rfl)
theorem dX2_ridesIn_34 : decode cX2_ridesIn 34 = .ok (.iload_n 1, 1) := dk_27 (dk_at dksX2_ridesIn_1 11 rfl rfl)
theorem dX2_ridesIn_35 : decode cX2_ridesIn 35 = .ok (.if_icmp .ne 7, 3) := dk_160 0 7 (dk_at dksX2_ridesIn_1 12 rfl rfl)
theorem dX2_ridesIn_38 : decode cX2_ridesIn 38 = .ok (.iconst 1, 1) := dk_4 (dk_at dksX2_ridesIn_1 15 rfl rfl)
theorem dX2_ridesIn_39 : decode cX2_ridesIn 39 = .ok (.goto 4, 3) := dk_167 0 4 (dk_at dksX2_ridesIn_1 16 rfl rfl)
theorem dX2_ridesIn_42 : decode cX2_ridesIn 42 = .ok (.iconst 0, 1) := dk_3 (dk_at dksX2_ridesIn_1 19 rfl rfl)
theorem dX2_ridesIn_43 : decode cX2_ridesIn 43 = .ok (.iadd, 1) := dk_96 (dk_at dksX2_ridesIn_1 20 rfl rfl)
theorem dX2_ridesIn_44 : decode cX2_ridesIn 44 = .ok (.istore_n 2, 1) := dk_61 (dk_at dksX2_ridesIn_1 21 rfl rfl)
theorem dX2_ridesIn_45 : decode cX2_ridesIn 45 = .ok (.iinc 3 1, 3) := dk_132 3 1 (dk_at dksX2_ridesIn_2 0 rfl rfl)
theorem dX2_ridesIn_48 : decode cX2_ridesIn 48 = .ok (.goto (-44), 3) := dk_167 255 212 (dk_at dksX2_ridesIn_2 3 rfl rfl)
theorem dX2_ridesIn_51 : decode cX2_ridesIn 51 = .ok (.iload_n 2, 1) := dk_28 (dk_at dksX2_ridesIn_2 6 rfl rfl)
theorem dX2_ridesIn_52 : decode cX2_ridesIn 52 = .ok (.ireturn, 1) := dk_172 (dk_at dksX2_ridesIn_2 7 rfl rfl)
abbrev cX2_personsIn : ByteArray := prog_12_method_7_code
def yX2_personsIn : MethodName := ⟨RX2, "personsIn", "(LSharedTaxis$Taxi;)I"⟩
def dkwX2_personsIn_2 : List UInt8 := [180, 0, 93, 96, 61, 132, 3, 1, 167, 255, 206, 28, 172]
abbrev dktX2_personsIn_2 : List UInt8 := dkwX2_personsIn_2 ++ []
def dkwX2_personsIn_1 : List UInt8 := [180, 0, 85, 29, 185, 0, 54, 2, 0, 192, 0, 88, 182, 0, 90, 185, 0, 54, 2, 0, 192, 0, 68]
abbrev dktX2_personsIn_1 : List UInt8 := dkwX2_personsIn_1 ++ dktX2_personsIn_2
def dkwX2_personsIn_0 : List UInt8 := [3, 61, 3, 62, 29, 43, 180, 0, 85, 185, 0, 48, 1, 0, 162, 0, 43, 28, 42, 180, 0, 22, 43]
abbrev dktX2_personsIn_0 : List UInt8 := dkwX2_personsIn_0 ++ dktX2_personsIn_1
theorem dksX2_personsIn_0 : cX2_personsIn.data.toList.drop 0 = dktX2_personsIn_0 := by decide +kernel
theorem dksX2_personsIn_1 : cX2_personsIn.data.toList.drop 23 = dktX2_personsIn_1 := dk_seg dksX2_personsIn_0 23 rfl rfl
theorem dksX2_personsIn_2 : cX2_personsIn.data.toList.drop 46 = dktX2_personsIn_2 := dk_seg dksX2_personsIn_1 23 rfl rfl
theorem dX2_personsIn_0 : decode cX2_personsIn 0 = .ok (.iconst 0, 1) := dk_3 (dk_at dksX2_personsIn_0 0 rfl rfl)
theorem dX2_personsIn_1 : decode cX2_personsIn 1 = .ok (.istore_n 2, 1) := dk_61 (dk_at dksX2_personsIn_0 1 rfl rfl)
theorem dX2_personsIn_2 : decode cX2_personsIn 2 = .ok (.iconst 0, 1) := dk_3 (dk_at dksX2_personsIn_0 2 rfl rfl)
theorem dX2_personsIn_3 : decode cX2_personsIn 3 = .ok (.istore_n 3, 1) := dk_62 (dk_at dksX2_personsIn_0 3 rfl rfl)
theorem dX2_personsIn_4 : decode cX2_personsIn 4 = .ok (.iload_n 3, 1) := dk_29 (dk_at dksX2_personsIn_0 4 rfl rfl)
theorem dX2_personsIn_5 : decode cX2_personsIn 5 = .ok (.aload_n 1, 1) := dk_43 (dk_at dksX2_personsIn_0 5 rfl rfl)
theorem dX2_personsIn_6 : decode cX2_personsIn 6 = .ok (.getfield 85, 3) := dk_180 0 85 (dk_at dksX2_personsIn_0 6 rfl rfl)
theorem dX2_personsIn_9 : decode cX2_personsIn 9 = .ok (.invokeinterface 48 1, 5) := by decide +kernel
theorem dX2_personsIn_14 : decode cX2_personsIn 14 = .ok (.if_icmp .ge 43, 3) := dk_162 0 43 (dk_at dksX2_personsIn_0 14 rfl rfl)
theorem dX2_personsIn_17 : decode cX2_personsIn 17 = .ok (.iload_n 2, 1) := dk_28 (dk_at dksX2_personsIn_0 17 rfl rfl)
theorem dX2_personsIn_18 : decode cX2_personsIn 18 = .ok (.aload_n 0, 1) := dk_42 (dk_at dksX2_personsIn_0 18 rfl rfl)
theorem dX2_personsIn_19 : decode cX2_personsIn 19 = .ok (.getfield 22, 3) := dk_180 0 22 (dk_at dksX2_personsIn_0 19 rfl rfl)
theorem dX2_personsIn_22 : decode cX2_personsIn 22 = .ok (.aload_n 1, 1) := dk_43 (dk_at dksX2_personsIn_0 22 rfl rfl)
theorem dX2_personsIn_23 : decode cX2_personsIn 23 = .ok (.getfield 85, 3) := dk_180 0 85 (dk_at dksX2_personsIn_1 0 rfl rfl)
theorem dX2_personsIn_26 : decode cX2_personsIn 26 = .ok (.iload_n 3, 1) := dk_29 (dk_at dksX2_personsIn_1 3 rfl rfl)
theorem dX2_personsIn_27 : decode cX2_personsIn 27 = .ok (.invokeinterface 54 2, 5) := by decide +kernel
theorem dX2_personsIn_32 : decode cX2_personsIn 32 = .ok (.checkcast 88, 3) := dk_192 0 88 (dk_at dksX2_personsIn_1 9 rfl rfl)
theorem dX2_personsIn_35 : decode cX2_personsIn 35 = .ok (.invokevirtual 90, 3) := dk_182 0 90 (dk_at dksX2_personsIn_1 12 rfl rfl)
theorem dX2_personsIn_38 : decode cX2_personsIn 38 = .ok (.invokeinterface 54 2, 5) := by decide +kernel
theorem dX2_personsIn_43 : decode cX2_personsIn 43 = .ok (.checkcast 68, 3) := dk_192 0 68 (dk_at dksX2_personsIn_1 20 rfl rfl)
theorem dX2_personsIn_46 : decode cX2_personsIn 46 = .ok (.getfield 93, 3) := dk_180 0 93 (dk_at dksX2_personsIn_2 0 rfl rfl)
theorem dX2_personsIn_49 : decode cX2_personsIn 49 = .ok (.iadd, 1) := dk_96 (dk_at dksX2_personsIn_2 3 rfl rfl)
theorem dX2_personsIn_50 : decode cX2_personsIn 50 = .ok (.istore_n 2, 1) := dk_61 (dk_at dksX2_personsIn_2 4 rfl rfl)
theorem dX2_personsIn_51 : decode cX2_personsIn 51 = .ok (.iinc 3 1, 3) := dk_132 3 1 (dk_at dksX2_personsIn_2 5 rfl rfl)
theorem dX2_personsIn_54 : decode cX2_personsIn 54 = .ok (.goto (-50), 3) := dk_167 255 206 (dk_at dksX2_personsIn_2 8 rfl rfl)
theorem dX2_personsIn_57 : decode cX2_personsIn 57 = .ok (.iload_n 2, 1) := dk_28 (dk_at dksX2_personsIn_2 11 rfl rfl)
theorem dX2_personsIn_58 : decode cX2_personsIn 58 = .ok (.ireturn, 1) := dk_172 (dk_at dksX2_personsIn_2 12 rfl rfl)
abbrev cX2_amount : ByteArray := prog_12_method_4_code
def yX2_amount : MethodName := ⟨RX2, "amount", "(II)I"⟩
def dkwX2_amount_1 : List UInt8 := [184, 0, 76, 96, 5, 100, 46, 54, 4, 29, 29, 21, 4, 104, 16, 100, 108, 100, 172]
abbrev dktX2_amount_1 : List UInt8 := dkwX2_amount_1 ++ []
def dkwX2_amount_0 : List UInt8 := [27, 42, 180, 0, 42, 104, 62, 28, 5, 162, 0, 7, 3, 167, 0, 18, 42, 180, 0, 9, 16, 7, 28, 7]
abbrev dktX2_amount_0 : List UInt8 := dkwX2_amount_0 ++ dktX2_amount_1
theorem dksX2_amount_0 : cX2_amount.data.toList.drop 0 = dktX2_amount_0 := by decide +kernel
theorem dksX2_amount_1 : cX2_amount.data.toList.drop 24 = dktX2_amount_1 := dk_seg dksX2_amount_0 24 rfl rfl
theorem dX2_amount_0 : decode cX2_amount 0 = .ok (.iload_n 1, 1) := dk_27 (dk_at dksX2_amount_0 0 rfl rfl)
theorem dX2_amount_1 : decode cX2_amount 1 = .ok (.aload_n 0, 1) := dk_42 (dk_at dksX2_amount_0 1 rfl rfl)
theorem dX2_amount_2 : decode cX2_amount 2 = .ok (.getfield 42, 3) := dk_180 0 42 (dk_at dksX2_amount_0 2 rfl rfl)
theorem dX2_amount_5 : decode cX2_amount 5 = .ok (.imul, 1) := dk_104 (dk_at dksX2_amount_0 5 rfl rfl)
theorem dX2_amount_6 : decode cX2_amount 6 = .ok (.istore_n 3, 1) := dk_62 (dk_at dksX2_amount_0 6 rfl rfl)
theorem dX2_amount_7 : decode cX2_amount 7 = .ok (.iload_n 2, 1) := dk_28 (dk_at dksX2_amount_0 7 rfl rfl)
theorem dX2_amount_8 : decode cX2_amount 8 = .ok (.iconst 2, 1) := dk_5 (dk_at dksX2_amount_0 8 rfl rfl)
theorem dX2_amount_9 : decode cX2_amount 9 = .ok (.if_icmp .ge 7, 3) := dk_162 0 7 (dk_at dksX2_amount_0 9 rfl rfl)
theorem dX2_amount_12 : decode cX2_amount 12 = .ok (.iconst 0, 1) := dk_3 (dk_at dksX2_amount_0 12 rfl rfl)
theorem dX2_amount_13 : decode cX2_amount 13 = .ok (.goto 18, 3) := dk_167 0 18 (dk_at dksX2_amount_0 13 rfl rfl)
theorem dX2_amount_16 : decode cX2_amount 16 = .ok (.aload_n 0, 1) := dk_42 (dk_at dksX2_amount_0 16 rfl rfl)
theorem dX2_amount_17 : decode cX2_amount 17 = .ok (.getfield 9, 3) := dk_180 0 9 (dk_at dksX2_amount_0 17 rfl rfl)
theorem dX2_amount_20 : decode cX2_amount 20 = .ok (.bipush 7, 2) := dk_16 7 (dk_at dksX2_amount_0 20 rfl rfl)
theorem dX2_amount_22 : decode cX2_amount 22 = .ok (.iload_n 2, 1) := dk_28 (dk_at dksX2_amount_0 22 rfl rfl)
theorem dX2_amount_23 : decode cX2_amount 23 = .ok (.iconst 4, 1) := dk_7 (dk_at dksX2_amount_0 23 rfl rfl)
theorem dX2_amount_24 : decode cX2_amount 24 = .ok (.invokestatic 76, 3) := dk_184 0 76 (dk_at dksX2_amount_1 0 rfl rfl)
theorem dX2_amount_27 : decode cX2_amount 27 = .ok (.iadd, 1) := dk_96 (dk_at dksX2_amount_1 3 rfl rfl)
theorem dX2_amount_28 : decode cX2_amount 28 = .ok (.iconst 2, 1) := dk_5 (dk_at dksX2_amount_1 4 rfl rfl)
theorem dX2_amount_29 : decode cX2_amount 29 = .ok (.isub, 1) := dk_100 (dk_at dksX2_amount_1 5 rfl rfl)
theorem dX2_amount_30 : decode cX2_amount 30 = .ok (.iaload, 1) := dk_46 (dk_at dksX2_amount_1 6 rfl rfl)
theorem dX2_amount_31 : decode cX2_amount 31 = .ok (.istore 4, 2) := dk_54 4 (dk_at dksX2_amount_1 7 rfl rfl)
theorem dX2_amount_33 : decode cX2_amount 33 = .ok (.iload_n 3, 1) := dk_29 (dk_at dksX2_amount_1 9 rfl rfl)
theorem dX2_amount_34 : decode cX2_amount 34 = .ok (.iload_n 3, 1) := dk_29 (dk_at dksX2_amount_1 10 rfl rfl)
theorem dX2_amount_35 : decode cX2_amount 35 = .ok (.iload 4, 2) := dk_21 4 (dk_at dksX2_amount_1 11 rfl rfl)
theorem dX2_amount_37 : decode cX2_amount 37 = .ok (.imul, 1) := dk_104 (dk_at dksX2_amount_1 13 rfl rfl)
theorem dX2_amount_38 : decode cX2_amount 38 = .ok (.bipush 100, 2) := dk_16 100 (dk_at dksX2_amount_1 14 rfl rfl)
theorem dX2_amount_40 : decode cX2_amount 40 = .ok (.idiv, 1) := dk_108 (dk_at dksX2_amount_1 16 rfl rfl)
theorem dX2_amount_41 : decode cX2_amount 41 = .ok (.isub, 1) := dk_100 (dk_at dksX2_amount_1 17 rfl rfl)
theorem dX2_amount_42 : decode cX2_amount 42 = .ok (.ireturn, 1) := dk_172 (dk_at dksX2_amount_1 18 rfl rfl)
abbrev cX2_part : ByteArray := prog_12_method_5_code
def yX2_part : MethodName := ⟨RX2, "part", "(III)I"⟩
def dkwX2_part_0 : List UInt8 := [27, 28, 108, 29, 27, 28, 112, 162, 0, 7, 4, 167, 0, 4, 3, 96, 172]
abbrev dktX2_part_0 : List UInt8 := dkwX2_part_0 ++ []
theorem dksX2_part_0 : cX2_part.data.toList.drop 0 = dktX2_part_0 := by decide +kernel
theorem dX2_part_0 : decode cX2_part 0 = .ok (.iload_n 1, 1) := dk_27 (dk_at dksX2_part_0 0 rfl rfl)
theorem dX2_part_1 : decode cX2_part 1 = .ok (.iload_n 2, 1) := dk_28 (dk_at dksX2_part_0 1 rfl rfl)
theorem dX2_part_2 : decode cX2_part 2 = .ok (.idiv, 1) := dk_108 (dk_at dksX2_part_0 2 rfl rfl)
theorem dX2_part_3 : decode cX2_part 3 = .ok (.iload_n 3, 1) := dk_29 (dk_at dksX2_part_0 3 rfl rfl)
theorem dX2_part_4 : decode cX2_part 4 = .ok (.iload_n 1, 1) := dk_27 (dk_at dksX2_part_0 4 rfl rfl)
theorem dX2_part_5 : decode cX2_part 5 = .ok (.iload_n 2, 1) := dk_28 (dk_at dksX2_part_0 5 rfl rfl)
theorem dX2_part_6 : decode cX2_part 6 = .ok (.irem, 1) := dk_112 (dk_at dksX2_part_0 6 rfl rfl)
theorem dX2_part_7 : decode cX2_part 7 = .ok (.if_icmp .ge 7, 3) := dk_162 0 7 (dk_at dksX2_part_0 7 rfl rfl)
theorem dX2_part_10 : decode cX2_part 10 = .ok (.iconst 1, 1) := dk_4 (dk_at dksX2_part_0 10 rfl rfl)
theorem dX2_part_11 : decode cX2_part 11 = .ok (.goto 4, 3) := dk_167 0 4 (dk_at dksX2_part_0 11 rfl rfl)
theorem dX2_part_14 : decode cX2_part 14 = .ok (.iconst 0, 1) := dk_3 (dk_at dksX2_part_0 14 rfl rfl)
theorem dX2_part_15 : decode cX2_part 15 = .ok (.iadd, 1) := dk_96 (dk_at dksX2_part_0 15 rfl rfl)
theorem dX2_part_16 : decode cX2_part 16 = .ok (.ireturn, 1) := dk_172 (dk_at dksX2_part_0 16 rfl rfl)
abbrev cX20_hasNext : ByteArray := prog_23_method_2_code
def yX20_hasNext : MethodName := ⟨RX20, "hasNext", "()Z"⟩
def dkwX20_hasNext_1 : List UInt8 := [167, 0, 4, 3, 172]
abbrev dktX20_hasNext_1 : List UInt8 := dkwX20_hasNext_1 ++ []
def dkwX20_hasNext_0 : List UInt8 := [42, 180, 0, 13, 42, 180, 0, 1, 180, 0, 17, 180, 0, 23, 185, 0, 29, 1, 0, 162, 0, 7, 4]
abbrev dktX20_hasNext_0 : List UInt8 := dkwX20_hasNext_0 ++ dktX20_hasNext_1
theorem dksX20_hasNext_0 : cX20_hasNext.data.toList.drop 0 = dktX20_hasNext_0 := by decide +kernel
theorem dksX20_hasNext_1 : cX20_hasNext.data.toList.drop 23 = dktX20_hasNext_1 := dk_seg dksX20_hasNext_0 23 rfl rfl
theorem dX20_hasNext_0 : decode cX20_hasNext 0 = .ok (.aload_n 0, 1) := dk_42 (dk_at dksX20_hasNext_0 0 rfl rfl)
theorem dX20_hasNext_1 : decode cX20_hasNext 1 = .ok (.getfield 13, 3) := dk_180 0 13 (dk_at dksX20_hasNext_0 1 rfl rfl)
theorem dX20_hasNext_4 : decode cX20_hasNext 4 = .ok (.aload_n 0, 1) := dk_42 (dk_at dksX20_hasNext_0 4 rfl rfl)
theorem dX20_hasNext_5 : decode cX20_hasNext 5 = .ok (.getfield 1, 3) := dk_180 0 1 (dk_at dksX20_hasNext_0 5 rfl rfl)
theorem dX20_hasNext_8 : decode cX20_hasNext 8 = .ok (.getfield 17, 3) := dk_180 0 17 (dk_at dksX20_hasNext_0 8 rfl rfl)
theorem dX20_hasNext_11 : decode cX20_hasNext 11 = .ok (.getfield 23, 3) := dk_180 0 23 (dk_at dksX20_hasNext_0 11 rfl rfl)
theorem dX20_hasNext_14 : decode cX20_hasNext 14 = .ok (.invokeinterface 29 1, 5) := by decide +kernel
theorem dX20_hasNext_19 : decode cX20_hasNext 19 = .ok (.if_icmp .ge 7, 3) := dk_162 0 7 (dk_at dksX20_hasNext_0 19 rfl rfl)
theorem dX20_hasNext_22 : decode cX20_hasNext 22 = .ok (.iconst 1, 1) := dk_4 (dk_at dksX20_hasNext_0 22 rfl rfl)
theorem dX20_hasNext_23 : decode cX20_hasNext 23 = .ok (.goto 4, 3) := dk_167 0 4 (dk_at dksX20_hasNext_1 0 rfl rfl)
theorem dX20_hasNext_26 : decode cX20_hasNext 26 = .ok (.iconst 0, 1) := dk_3 (dk_at dksX20_hasNext_1 3 rfl rfl)
theorem dX20_hasNext_27 : decode cX20_hasNext 27 = .ok (.ireturn, 1) := dk_172 (dk_at dksX20_hasNext_1 4 rfl rfl)
abbrev cX20_next : ByteArray := prog_23_method_4_code
def yX20_next : MethodName := ⟨RX20, "next", "()Ljava/lang/Object;"⟩
theorem dX20_next_0 : decode cX20_next 0 = .ok (.aload_n 0, 1) := by decide +kernel
theorem dX20_next_1 : decode cX20_next 1 = .ok (.invokevirtual 99, 3) := by decide +kernel
theorem dX20_next_4 : decode cX20_next 4 = .ok (.areturn, 1) := by decide +kernel
abbrev cX20_next_2 : ByteArray := prog_23_method_3_code
def yX20_next_2 : MethodName := ⟨RX20, "next", "()Ljava/lang/String;"⟩
def dkwX20_next_2_5 : List UInt8 := [167, 0, 7, 44, 180, 0, 92, 182, 0, 84, 182, 0, 95, 176]
abbrev dktX20_next_2_5 : List UInt8 := dkwX20_next_2_5 ++ []
def dkwX20_next_2_4 : List UInt8 := [43, 180, 0, 64, 182, 0, 84, 18, 87, 182, 0, 80, 43, 180, 0, 72, 153, 0, 10, 44, 180, 0, 89]
abbrev dktX20_next_2_4 : List UInt8 := dkwX20_next_2_4 ++ dktX20_next_2_5
def dkwX20_next_2_3 : List UInt8 := [187, 0, 69, 89, 183, 0, 71, 43, 180, 0, 72, 153, 0, 8, 18, 76, 167, 0, 5, 18, 78, 182, 0, 80]
abbrev dktX20_next_2_3 : List UInt8 := dkwX20_next_2_3 ++ dktX20_next_2_4
def dkwX20_next_2_2 : List UInt8 := [180, 0, 64, 185, 0, 45, 2, 0, 192, 0, 67, 77, 42, 89, 180, 0, 13, 4, 96, 181, 0, 13]
abbrev dktX20_next_2_2 : List UInt8 := dkwX20_next_2_2 ++ dktX20_next_2_3
def dkwX20_next_2_1 : List UInt8 := [185, 0, 45, 2, 0, 192, 0, 49, 76, 42, 180, 0, 1, 180, 0, 51, 180, 0, 55, 180, 0, 59, 43]
abbrev dktX20_next_2_1 : List UInt8 := dkwX20_next_2_1 ++ dktX20_next_2_2
def dkwX20_next_2_0 : List UInt8 := [42, 182, 0, 35, 184, 0, 39, 42, 180, 0, 1, 180, 0, 17, 180, 0, 23, 42, 180, 0, 13]
abbrev dktX20_next_2_0 : List UInt8 := dkwX20_next_2_0 ++ dktX20_next_2_1
theorem dksX20_next_2_0 : cX20_next_2.data.toList.drop 0 = dktX20_next_2_0 := by decide +kernel
theorem dksX20_next_2_1 : cX20_next_2.data.toList.drop 21 = dktX20_next_2_1 := dk_seg dksX20_next_2_0 21 rfl rfl
theorem dksX20_next_2_2 : cX20_next_2.data.toList.drop 44 = dktX20_next_2_2 := dk_seg dksX20_next_2_1 23 rfl rfl
theorem dksX20_next_2_3 : cX20_next_2.data.toList.drop 66 = dktX20_next_2_3 := dk_seg dksX20_next_2_2 22 rfl rfl
theorem dksX20_next_2_4 : cX20_next_2.data.toList.drop 90 = dktX20_next_2_4 := dk_seg dksX20_next_2_3 24 rfl rfl
theorem dksX20_next_2_5 : cX20_next_2.data.toList.drop 113 = dktX20_next_2_5 := dk_seg dksX20_next_2_4 23 rfl rfl
theorem dX20_next_2_0 : decode cX20_next_2 0 = .ok (.aload_n 0, 1) := dk_42 (dk_at dksX20_next_2_0 0 rfl rfl)
theorem dX20_next_2_1 : decode cX20_next_2 1 = .ok (.invokevirtual 35, 3) := dk_182 0 35 (dk_at dksX20_next_2_0 1 rfl rfl)
theorem dX20_next_2_4 : decode cX20_next_2 4 = .ok (.invokestatic 39, 3) := dk_184 0 39 (dk_at dksX20_next_2_0 4 rfl rfl)
theorem dX20_next_2_7 : decode cX20_next_2 7 = .ok (.aload_n 0, 1) := dk_42 (dk_at dksX20_next_2_0 7 rfl rfl)
theorem dX20_next_2_8 : decode cX20_next_2 8 = .ok (.getfield 1, 3) := dk_180 0 1 (dk_at dksX20_next_2_0 8 rfl rfl)
theorem dX20_next_2_11 : decode cX20_next_2 11 = .ok (.getfield 17, 3) := dk_180 0 17 (dk_at dksX20_next_2_0 11 rfl rfl)
theorem dX20_next_2_14 : decode cX20_next_2 14 = .ok (.getfield 23, 3) := dk_180 0 23 (dk_at dksX20_next_2_0 14 rfl rfl)
theorem dX20_next_2_17 : decode cX20_next_2 17 = .ok (.aload_n 0, 1) := dk_42 (dk_at dksX20_next_2_0 17 rfl rfl)
theorem dX20_next_2_18 : decode cX20_next_2 18 = .ok (.getfield 13, 3) := dk_180 0 13 (dk_at dksX20_next_2_0 18 rfl rfl)
theorem dX20_next_2_21 : decode cX20_next_2 21 = .ok (.invokeinterface 45 2, 5) := by decide +kernel
theorem dX20_next_2_26 : decode cX20_next_2 26 = .ok (.checkcast 49, 3) := dk_192 0 49 (dk_at dksX20_next_2_1 5 rfl rfl)
theorem dX20_next_2_29 : decode cX20_next_2 29 = .ok (.astore_n 1, 1) := dk_76 (dk_at dksX20_next_2_1 8 rfl rfl)
theorem dX20_next_2_30 : decode cX20_next_2 30 = .ok (.aload_n 0, 1) := dk_42 (dk_at dksX20_next_2_1 9 rfl rfl)
theorem dX20_next_2_31 : decode cX20_next_2 31 = .ok (.getfield 1, 3) := dk_180 0 1 (dk_at dksX20_next_2_1 10 rfl rfl)
theorem dX20_next_2_34 : decode cX20_next_2 34 = .ok (.getfield 51, 3) := dk_180 0 51 (dk_at dksX20_next_2_1 13 rfl rfl)
theorem dX20_next_2_37 : decode cX20_next_2 37 = .ok (.getfield 55, 3) := dk_180 0 55 (dk_at dksX20_next_2_1 16 rfl rfl)
theorem dX20_next_2_40 : decode cX20_next_2 40 = .ok (.getfield 59, 3) := dk_180 0 59 (dk_at dksX20_next_2_1 19 rfl rfl)
theorem dX20_next_2_43 : decode cX20_next_2 43 = .ok (.aload_n 1, 1) := dk_43 (dk_at dksX20_next_2_1 22 rfl rfl)
theorem dX20_next_2_44 : decode cX20_next_2 44 = .ok (.getfield 64, 3) := dk_180 0 64 (dk_at dksX20_next_2_2 0 rfl rfl)
theorem dX20_next_2_47 : decode cX20_next_2 47 = .ok (.invokeinterface 45 2, 5) := by decide +kernel
theorem dX20_next_2_52 : decode cX20_next_2 52 = .ok (.checkcast 67, 3) := dk_192 0 67 (dk_at dksX20_next_2_2 8 rfl rfl)
theorem dX20_next_2_55 : decode cX20_next_2 55 = .ok (.astore_n 2, 1) := dk_77 (dk_at dksX20_next_2_2 11 rfl rfl)
theorem dX20_next_2_56 : decode cX20_next_2 56 = .ok (.aload_n 0, 1) := dk_42 (dk_at dksX20_next_2_2 12 rfl rfl)
theorem dX20_next_2_57 : decode cX20_next_2 57 = .ok (.dup, 1) := dk_89 (dk_at dksX20_next_2_2 13 rfl rfl)
theorem dX20_next_2_58 : decode cX20_next_2 58 = .ok (.getfield 13, 3) := dk_180 0 13 (dk_at dksX20_next_2_2 14 rfl rfl)
theorem dX20_next_2_61 : decode cX20_next_2 61 = .ok (.iconst 1, 1) := dk_4 (dk_at dksX20_next_2_2 17 rfl rfl)
theorem dX20_next_2_62 : decode cX20_next_2 62 = .ok (.iadd, 1) := dk_96 (dk_at dksX20_next_2_2 18 rfl rfl)
theorem dX20_next_2_63 : decode cX20_next_2 63 = .ok (.putfield 13, 3) := dk_181 0 13 (dk_at dksX20_next_2_2 19 rfl rfl)
theorem dX20_next_2_66 : decode cX20_next_2 66 = .ok (.new 69, 3) := dk_187 0 69 (dk_at dksX20_next_2_3 0 rfl rfl)
theorem dX20_next_2_69 : decode cX20_next_2 69 = .ok (.dup, 1) := dk_89 (dk_at dksX20_next_2_3 3 rfl rfl)
theorem dX20_next_2_70 : decode cX20_next_2 70 = .ok (.invokespecial 71, 3) := dk_183 0 71 (dk_at dksX20_next_2_3 4 rfl rfl)
theorem dX20_next_2_73 : decode cX20_next_2 73 = .ok (.aload_n 1, 1) := dk_43 (dk_at dksX20_next_2_3 7 rfl rfl)
theorem dX20_next_2_74 : decode cX20_next_2 74 = .ok (.getfield 72, 3) := dk_180 0 72 (dk_at dksX20_next_2_3 8 rfl rfl)
theorem dX20_next_2_77 : decode cX20_next_2 77 = .ok (.ifCond .eq 8, 3) := dk_153 0 8 (dk_at dksX20_next_2_3 11 rfl rfl)
theorem dX20_next_2_80 : decode cX20_next_2 80 = .ok (.ldc 76, 2) := dk_18 76 (dk_at dksX20_next_2_3 14 rfl rfl)
theorem dX20_next_2_82 : decode cX20_next_2 82 = .ok (.goto 5, 3) := dk_167 0 5 (dk_at dksX20_next_2_3 16 rfl rfl)
theorem dX20_next_2_85 : decode cX20_next_2 85 = .ok (.ldc 78, 2) := dk_18 78 (dk_at dksX20_next_2_3 19 rfl rfl)
theorem dX20_next_2_87 : decode cX20_next_2 87 = .ok (.invokevirtual 80, 3) := dk_182 0 80 (dk_at dksX20_next_2_3 21 rfl rfl)
theorem dX20_next_2_90 : decode cX20_next_2 90 = .ok (.aload_n 1, 1) := dk_43 (dk_at dksX20_next_2_4 0 rfl rfl)
theorem dX20_next_2_91 : decode cX20_next_2 91 = .ok (.getfield 64, 3) := dk_180 0 64 (dk_at dksX20_next_2_4 1 rfl rfl)
theorem dX20_next_2_94 : decode cX20_next_2 94 = .ok (.invokevirtual 84, 3) := dk_182 0 84 (dk_at dksX20_next_2_4 4 rfl rfl)
theorem dX20_next_2_97 : decode cX20_next_2 97 = .ok (.ldc 87, 2) := dk_18 87 (dk_at dksX20_next_2_4 7 rfl rfl)
theorem dX20_next_2_99 : decode cX20_next_2 99 = .ok (.invokevirtual 80, 3) := dk_182 0 80 (dk_at dksX20_next_2_4 9 rfl rfl)
theorem dX20_next_2_102 : decode cX20_next_2 102 = .ok (.aload_n 1, 1) := dk_43 (dk_at dksX20_next_2_4 12 rfl rfl)
theorem dX20_next_2_103 : decode cX20_next_2 103 = .ok (.getfield 72, 3) := dk_180 0 72 (dk_at dksX20_next_2_4 13 rfl rfl)
theorem dX20_next_2_106 : decode cX20_next_2 106 = .ok (.ifCond .eq 10, 3) := dk_153 0 10 (dk_at dksX20_next_2_4 16 rfl rfl)
theorem dX20_next_2_109 : decode cX20_next_2 109 = .ok (.aload_n 2, 1) := dk_44 (dk_at dksX20_next_2_4 19 rfl rfl)
theorem dX20_next_2_110 : decode cX20_next_2 110 = .ok (.getfield 89, 3) := dk_180 0 89 (dk_at dksX20_next_2_4 20 rfl rfl)
theorem dX20_next_2_113 : decode cX20_next_2 113 = .ok (.goto 7, 3) := dk_167 0 7 (dk_at dksX20_next_2_5 0 rfl rfl)
theorem dX20_next_2_116 : decode cX20_next_2 116 = .ok (.aload_n 2, 1) := dk_44 (dk_at dksX20_next_2_5 3 rfl rfl)
theorem dX20_next_2_117 : decode cX20_next_2 117 = .ok (.getfield 92, 3) := dk_180 0 92 (dk_at dksX20_next_2_5 4 rfl rfl)
theorem dX20_next_2_120 : decode cX20_next_2 120 = .ok (.invokevirtual 84, 3) := dk_182 0 84 (dk_at dksX20_next_2_5 7 rfl rfl)
theorem dX20_next_2_123 : decode cX20_next_2 123 = .ok (.invokevirtual 95, 3) := dk_182 0 95 (dk_at dksX20_next_2_5 10 rfl rfl)
theorem dX20_next_2_126 : decode cX20_next_2 126 = .ok (.areturn, 1) := dk_176 (dk_at dksX20_next_2_5 13 rfl rfl)
abbrev cX20_init : ByteArray := prog_23_method_1_code
def yX20_init : MethodName := ⟨RX20, "<init>", "(LSharedTaxis$Words;)V"⟩
def dkwX20_init_0 : List UInt8 := [42, 43, 181, 0, 1, 42, 183, 0, 7, 177]
abbrev dktX20_init_0 : List UInt8 := dkwX20_init_0 ++ []
theorem dksX20_init_0 : cX20_init.data.toList.drop 0 = dktX20_init_0 := by decide +kernel
theorem dX20_init_0 : decode cX20_init 0 = .ok (.aload_n 0, 1) := dk_42 (dk_at dksX20_init_0 0 rfl rfl)
theorem dX20_init_1 : decode cX20_init 1 = .ok (.aload_n 1, 1) := dk_43 (dk_at dksX20_init_0 1 rfl rfl)
theorem dX20_init_2 : decode cX20_init 2 = .ok (.putfield 1, 3) := dk_181 0 1 (dk_at dksX20_init_0 2 rfl rfl)
theorem dX20_init_5 : decode cX20_init 5 = .ok (.aload_n 0, 1) := dk_42 (dk_at dksX20_init_0 5 rfl rfl)
theorem dX20_init_6 : decode cX20_init 6 = .ok (.invokespecial 7, 3) := dk_183 0 7 (dk_at dksX20_init_0 6 rfl rfl)
theorem dX20_init_9 : decode cX20_init 9 = .ok (.return_, 1) := dk_177 (dk_at dksX20_init_0 9 rfl rfl)
abbrev cX21_init : ByteArray := prog_6_method_1_code
def yX21_init : MethodName := ⟨RX21, "<init>", "(LSharedTaxis$Scanner;)V"⟩
def dkwX21_init_2 : List UInt8 := [182, 0, 35, 181, 0, 39, 43, 180, 0, 42, 153, 0, 8, 43, 182, 0, 28, 191, 177]
abbrev dktX21_init_2 : List UInt8 := dkwX21_init_2 ++ []
def dkwX21_init_1 : List UInt8 := [154, 0, 17, 43, 18, 26, 182, 0, 17, 154, 0, 8, 43, 182, 0, 28, 191, 43, 182, 0, 32, 42, 42]
abbrev dktX21_init_1 : List UInt8 := dkwX21_init_1 ++ dktX21_init_2
def dkwX21_init_0 : List UInt8 := [42, 183, 0, 3, 42, 43, 181, 0, 9, 42, 43, 18, 15, 182, 0, 17, 181, 0, 23, 42, 180, 0, 23]
abbrev dktX21_init_0 : List UInt8 := dkwX21_init_0 ++ dktX21_init_1
theorem dksX21_init_0 : cX21_init.data.toList.drop 0 = dktX21_init_0 := by decide +kernel
theorem dksX21_init_1 : cX21_init.data.toList.drop 23 = dktX21_init_1 := dk_seg dksX21_init_0 23 rfl rfl
theorem dksX21_init_2 : cX21_init.data.toList.drop 46 = dktX21_init_2 := dk_seg dksX21_init_1 23 rfl rfl
theorem dX21_init_0 : decode cX21_init 0 = .ok (.aload_n 0, 1) := dk_42 (dk_at dksX21_init_0 0 rfl rfl)
theorem dX21_init_1 : decode cX21_init 1 = .ok (.invokespecial 3, 3) := dk_183 0 3 (dk_at dksX21_init_0 1 rfl rfl)
theorem dX21_init_4 : decode cX21_init 4 = .ok (.aload_n 0, 1) := dk_42 (dk_at dksX21_init_0 4 rfl rfl)
theorem dX21_init_5 : decode cX21_init 5 = .ok (.aload_n 1, 1) := dk_43 (dk_at dksX21_init_0 5 rfl rfl)
theorem dX21_init_6 : decode cX21_init 6 = .ok (.putfield 9, 3) := dk_181 0 9 (dk_at dksX21_init_0 6 rfl rfl)
theorem dX21_init_9 : decode cX21_init 9 = .ok (.aload_n 0, 1) := dk_42 (dk_at dksX21_init_0 9 rfl rfl)
theorem dX21_init_10 : decode cX21_init 10 = .ok (.aload_n 1, 1) := dk_43 (dk_at dksX21_init_0 10 rfl rfl)
theorem dX21_init_11 : decode cX21_init 11 = .ok (.ldc 15, 2) := dk_18 15 (dk_at dksX21_init_0 11 rfl rfl)
theorem dX21_init_13 : decode cX21_init 13 = .ok (.invokevirtual 17, 3) := dk_182 0 17 (dk_at dksX21_init_0 13 rfl rfl)
theorem dX21_init_16 : decode cX21_init 16 = .ok (.putfield 23, 3) := dk_181 0 23 (dk_at dksX21_init_0 16 rfl rfl)
theorem dX21_init_19 : decode cX21_init 19 = .ok (.aload_n 0, 1) := dk_42 (dk_at dksX21_init_0 19 rfl rfl)
theorem dX21_init_20 : decode cX21_init 20 = .ok (.getfield 23, 3) := dk_180 0 23 (dk_at dksX21_init_0 20 rfl rfl)
theorem dX21_init_23 : decode cX21_init 23 = .ok (.ifCond .ne 17, 3) := dk_154 0 17 (dk_at dksX21_init_1 0 rfl rfl)
theorem dX21_init_26 : decode cX21_init 26 = .ok (.aload_n 1, 1) := dk_43 (dk_at dksX21_init_1 3 rfl rfl)
theorem dX21_init_27 : decode cX21_init 27 = .ok (.ldc 26, 2) := dk_18 26 (dk_at dksX21_init_1 4 rfl rfl)
theorem dX21_init_29 : decode cX21_init 29 = .ok (.invokevirtual 17, 3) := dk_182 0 17 (dk_at dksX21_init_1 6 rfl rfl)
theorem dX21_init_32 : decode cX21_init 32 = .ok (.ifCond .ne 8, 3) := dk_154 0 8 (dk_at dksX21_init_1 9 rfl rfl)
theorem dX21_init_35 : decode cX21_init 35 = .ok (.aload_n 1, 1) := dk_43 (dk_at dksX21_init_1 12 rfl rfl)
theorem dX21_init_36 : decode cX21_init 36 = .ok (.invokevirtual 28, 3) := dk_182 0 28 (dk_at dksX21_init_1 13 rfl rfl)
theorem dX21_init_39 : decode cX21_init 39 = .ok (.athrow, 1) := dk_191 (dk_at dksX21_init_1 16 rfl rfl)
theorem dX21_init_40 : decode cX21_init 40 = .ok (.aload_n 1, 1) := dk_43 (dk_at dksX21_init_1 17 rfl rfl)
theorem dX21_init_41 : decode cX21_init 41 = .ok (.invokevirtual 32, 3) := dk_182 0 32 (dk_at dksX21_init_1 18 rfl rfl)
theorem dX21_init_44 : decode cX21_init 44 = .ok (.aload_n 0, 1) := dk_42 (dk_at dksX21_init_1 21 rfl rfl)
theorem dX21_init_45 : decode cX21_init 45 = .ok (.aload_n 0, 1) := dk_42 (dk_at dksX21_init_1 22 rfl rfl)
theorem dX21_init_46 : decode cX21_init 46 = .ok (.invokevirtual 35, 3) := dk_182 0 35 (dk_at dksX21_init_2 0 rfl rfl)
theorem dX21_init_49 : decode cX21_init 49 = .ok (.putfield 39, 3) := dk_181 0 39 (dk_at dksX21_init_2 3 rfl rfl)
theorem dX21_init_52 : decode cX21_init 52 = .ok (.aload_n 1, 1) := dk_43 (dk_at dksX21_init_2 6 rfl rfl)
theorem dX21_init_53 : decode cX21_init 53 = .ok (.getfield 42, 3) := dk_180 0 42 (dk_at dksX21_init_2 7 rfl rfl)
theorem dX21_init_56 : decode cX21_init 56 = .ok (.ifCond .eq 8, 3) := dk_153 0 8 (dk_at dksX21_init_2 10 rfl rfl)
theorem dX21_init_59 : decode cX21_init 59 = .ok (.aload_n 1, 1) := dk_43 (dk_at dksX21_init_2 13 rfl rfl)
theorem dX21_init_60 : decode cX21_init 60 = .ok (.invokevirtual 28, 3) := dk_182 0 28 (dk_at dksX21_init_2 14 rfl rfl)
theorem dX21_init_63 : decode cX21_init 63 = .ok (.athrow, 1) := dk_191 (dk_at dksX21_init_2 17 rfl rfl)
theorem dX21_init_64 : decode cX21_init 64 = .ok (.return_, 1) := dk_177 (dk_at dksX21_init_2 18 rfl rfl)
abbrev cX21_test : ByteArray := prog_6_method_2_code
def yX21_test : MethodName := ⟨RX21, "test", "()LSharedTaxis$Test;"⟩
def dkwX21_test_1 : List UInt8 := [182, 0, 60, 154, 255, 239, 43, 176]
abbrev dktX21_test_1 : List UInt8 := dkwX21_test_1 ++ []
def dkwX21_test_0 : List UInt8 := [187, 0, 46, 89, 3, 183, 0, 48, 76, 43, 42, 182, 0, 51, 182, 0, 54, 42, 180, 0, 9, 18, 58]
abbrev dktX21_test_0 : List UInt8 := dkwX21_test_0 ++ dktX21_test_1
theorem dksX21_test_0 : cX21_test.data.toList.drop 0 = dktX21_test_0 := by decide +kernel
theorem dksX21_test_1 : cX21_test.data.toList.drop 23 = dktX21_test_1 := dk_seg dksX21_test_0 23 rfl rfl
theorem dX21_test_0 : decode cX21_test 0 = .ok (.new 46, 3) := dk_187 0 46 (dk_at dksX21_test_0 0 rfl rfl)
theorem dX21_test_3 : decode cX21_test 3 = .ok (.dup, 1) := dk_89 (dk_at dksX21_test_0 3 rfl rfl)
theorem dX21_test_4 : decode cX21_test 4 = .ok (.iconst 0, 1) := dk_3 (dk_at dksX21_test_0 4 rfl rfl)
theorem dX21_test_5 : decode cX21_test 5 = .ok (.invokespecial 48, 3) := dk_183 0 48 (dk_at dksX21_test_0 5 rfl rfl)
theorem dX21_test_8 : decode cX21_test 8 = .ok (.astore_n 1, 1) := dk_76 (dk_at dksX21_test_0 8 rfl rfl)
theorem dX21_test_9 : decode cX21_test 9 = .ok (.aload_n 1, 1) := dk_43 (dk_at dksX21_test_0 9 rfl rfl)
theorem dX21_test_10 : decode cX21_test 10 = .ok (.aload_n 0, 1) := dk_42 (dk_at dksX21_test_0 10 rfl rfl)
theorem dX21_test_11 : decode cX21_test 11 = .ok (.invokevirtual 51, 3) := dk_182 0 51 (dk_at dksX21_test_0 11 rfl rfl)
theorem dX21_test_14 : decode cX21_test 14 = .ok (.invokevirtual 54, 3) := dk_182 0 54 (dk_at dksX21_test_0 14 rfl rfl)
theorem dX21_test_17 : decode cX21_test 17 = .ok (.aload_n 0, 1) := dk_42 (dk_at dksX21_test_0 17 rfl rfl)
theorem dX21_test_18 : decode cX21_test 18 = .ok (.getfield 9, 3) := dk_180 0 9 (dk_at dksX21_test_0 18 rfl rfl)
theorem dX21_test_21 : decode cX21_test 21 = .ok (.ldc 58, 2) := dk_18 58 (dk_at dksX21_test_0 21 rfl rfl)
theorem dX21_test_23 : decode cX21_test 23 = .ok (.invokevirtual 60, 3) := dk_182 0 60 (dk_at dksX21_test_1 0 rfl rfl)
theorem dX21_test_26 : decode cX21_test 26 = .ok (.ifCond .ne (-17), 3) := dk_154 255 239 (dk_at dksX21_test_1 3 rfl rfl)
theorem dX21_test_29 : decode cX21_test 29 = .ok (.aload_n 1, 1) := dk_43 (dk_at dksX21_test_1 6 rfl rfl)
theorem dX21_test_30 : decode cX21_test 30 = .ok (.areturn, 1) := dk_176 (dk_at dksX21_test_1 7 rfl rfl)
abbrev cX21_conjunction : ByteArray := prog_6_method_3_code
def yX21_conjunction : MethodName := ⟨RX21, "conjunction", "()LSharedTaxis$Test;"⟩
def dkwX21_conjunction_1 : List UInt8 := [182, 0, 60, 154, 255, 239, 43, 176]
abbrev dktX21_conjunction_1 : List UInt8 := dkwX21_conjunction_1 ++ []
def dkwX21_conjunction_0 : List UInt8 := [187, 0, 46, 89, 4, 183, 0, 48, 76, 43, 42, 182, 0, 63, 182, 0, 54, 42, 180, 0, 9, 18, 66]
abbrev dktX21_conjunction_0 : List UInt8 := dkwX21_conjunction_0 ++ dktX21_conjunction_1
theorem dksX21_conjunction_0 : cX21_conjunction.data.toList.drop 0 = dktX21_conjunction_0 := by decide +kernel
theorem dksX21_conjunction_1 : cX21_conjunction.data.toList.drop 23 = dktX21_conjunction_1 := dk_seg dksX21_conjunction_0 23 rfl rfl
theorem dX21_conjunction_0 : decode cX21_conjunction 0 = .ok (.new 46, 3) := dk_187 0 46 (dk_at dksX21_conjunction_0 0 rfl rfl)
theorem dX21_conjunction_3 : decode cX21_conjunction 3 = .ok (.dup, 1) := dk_89 (dk_at dksX21_conjunction_0 3 rfl rfl)
theorem dX21_conjunction_4 : decode cX21_conjunction 4 = .ok (.iconst 1, 1) := dk_4 (dk_at dksX21_conjunction_0 4 rfl rfl)
theorem dX21_conjunction_5 : decode cX21_conjunction 5 = .ok (.invokespecial 48, 3) := dk_183 0 48 (dk_at dksX21_conjunction_0 5 rfl rfl)
theorem dX21_conjunction_8 : decode cX21_conjunction 8 = .ok (.astore_n 1, 1) := dk_76 (dk_at dksX21_conjunction_0 8 rfl rfl)
theorem dX21_conjunction_9 : decode cX21_conjunction 9 = .ok (.aload_n 1, 1) := dk_43 (dk_at dksX21_conjunction_0 9 rfl rfl)
theorem dX21_conjunction_10 : decode cX21_conjunction 10 = .ok (.aload_n 0, 1) := dk_42 (dk_at dksX21_conjunction_0 10 rfl rfl)
theorem dX21_conjunction_11 : decode cX21_conjunction 11 = .ok (.invokevirtual 63, 3) := dk_182 0 63 (dk_at dksX21_conjunction_0 11 rfl rfl)
theorem dX21_conjunction_14 : decode cX21_conjunction 14 = .ok (.invokevirtual 54, 3) := dk_182 0 54 (dk_at dksX21_conjunction_0 14 rfl rfl)
theorem dX21_conjunction_17 : decode cX21_conjunction 17 = .ok (.aload_n 0, 1) := dk_42 (dk_at dksX21_conjunction_0 17 rfl rfl)
theorem dX21_conjunction_18 : decode cX21_conjunction 18 = .ok (.getfield 9, 3) := dk_180 0 9 (dk_at dksX21_conjunction_0 18 rfl rfl)
theorem dX21_conjunction_21 : decode cX21_conjunction 21 = .ok (.ldc 66, 2) := dk_18 66 (dk_at dksX21_conjunction_0 21 rfl rfl)
theorem dX21_conjunction_23 : decode cX21_conjunction 23 = .ok (.invokevirtual 60, 3) := dk_182 0 60 (dk_at dksX21_conjunction_1 0 rfl rfl)
theorem dX21_conjunction_26 : decode cX21_conjunction 26 = .ok (.ifCond .ne (-17), 3) := dk_154 255 239 (dk_at dksX21_conjunction_1 3 rfl rfl)
theorem dX21_conjunction_29 : decode cX21_conjunction 29 = .ok (.aload_n 1, 1) := dk_43 (dk_at dksX21_conjunction_1 6 rfl rfl)
theorem dX21_conjunction_30 : decode cX21_conjunction 30 = .ok (.areturn, 1) := dk_176 (dk_at dksX21_conjunction_1 7 rfl rfl)
abbrev cX21_factor : ByteArray := prog_6_method_5_code
def yX21_factor : MethodName := ⟨RX21, "factor", "()LSharedTaxis$Test;"⟩
def dkwX21_factor_3 : List UInt8 := [180, 0, 68, 4, 100, 181, 0, 68, 43, 176, 42, 182, 0, 96, 176]
abbrev dktX21_factor_3 : List UInt8 := dkwX21_factor_3 ++ []
def dkwX21_factor_2 : List UInt8 := [153, 0, 33, 42, 182, 0, 81, 42, 182, 0, 35, 76, 42, 180, 0, 9, 16, 41, 182, 0, 92, 42, 89]
abbrev dktX21_factor_2 : List UInt8 := dkwX21_factor_2 ++ dktX21_factor_3
def dkwX21_factor_1 : List UInt8 := [180, 0, 68, 4, 100, 181, 0, 68, 43, 186, 0, 84, 0, 0, 176, 42, 180, 0, 9, 16, 40, 182, 0, 88]
abbrev dktX21_factor_1 : List UInt8 := dkwX21_factor_1 ++ dktX21_factor_2
def dkwX21_factor_0 : List UInt8 := [42, 180, 0, 9, 18, 79, 182, 0, 17, 153, 0, 29, 42, 182, 0, 81, 42, 182, 0, 63, 76, 42, 89]
abbrev dktX21_factor_0 : List UInt8 := dkwX21_factor_0 ++ dktX21_factor_1
theorem dksX21_factor_0 : cX21_factor.data.toList.drop 0 = dktX21_factor_0 := by decide +kernel
theorem dksX21_factor_1 : cX21_factor.data.toList.drop 23 = dktX21_factor_1 := dk_seg dksX21_factor_0 23 rfl rfl
theorem dksX21_factor_2 : cX21_factor.data.toList.drop 47 = dktX21_factor_2 := dk_seg dksX21_factor_1 24 rfl rfl
theorem dksX21_factor_3 : cX21_factor.data.toList.drop 70 = dktX21_factor_3 := dk_seg dksX21_factor_2 23 rfl rfl
theorem dX21_factor_0 : decode cX21_factor 0 = .ok (.aload_n 0, 1) := dk_42 (dk_at dksX21_factor_0 0 rfl rfl)
theorem dX21_factor_1 : decode cX21_factor 1 = .ok (.getfield 9, 3) := dk_180 0 9 (dk_at dksX21_factor_0 1 rfl rfl)
theorem dX21_factor_4 : decode cX21_factor 4 = .ok (.ldc 79, 2) := dk_18 79 (dk_at dksX21_factor_0 4 rfl rfl)
theorem dX21_factor_6 : decode cX21_factor 6 = .ok (.invokevirtual 17, 3) := dk_182 0 17 (dk_at dksX21_factor_0 6 rfl rfl)
theorem dX21_factor_9 : decode cX21_factor 9 = .ok (.ifCond .eq 29, 3) := dk_153 0 29 (dk_at dksX21_factor_0 9 rfl rfl)
theorem dX21_factor_12 : decode cX21_factor 12 = .ok (.aload_n 0, 1) := dk_42 (dk_at dksX21_factor_0 12 rfl rfl)
theorem dX21_factor_13 : decode cX21_factor 13 = .ok (.invokevirtual 81, 3) := dk_182 0 81 (dk_at dksX21_factor_0 13 rfl rfl)
theorem dX21_factor_16 : decode cX21_factor 16 = .ok (.aload_n 0, 1) := dk_42 (dk_at dksX21_factor_0 16 rfl rfl)
theorem dX21_factor_17 : decode cX21_factor 17 = .ok (.invokevirtual 63, 3) := dk_182 0 63 (dk_at dksX21_factor_0 17 rfl rfl)
theorem dX21_factor_20 : decode cX21_factor 20 = .ok (.astore_n 1, 1) := dk_76 (dk_at dksX21_factor_0 20 rfl rfl)
theorem dX21_factor_21 : decode cX21_factor 21 = .ok (.aload_n 0, 1) := dk_42 (dk_at dksX21_factor_0 21 rfl rfl)
theorem dX21_factor_22 : decode cX21_factor 22 = .ok (.dup, 1) := dk_89 (dk_at dksX21_factor_0 22 rfl rfl)
theorem dX21_factor_23 : decode cX21_factor 23 = .ok (.getfield 68, 3) := dk_180 0 68 (dk_at dksX21_factor_1 0 rfl rfl)
theorem dX21_factor_26 : decode cX21_factor 26 = .ok (.iconst 1, 1) := dk_4 (dk_at dksX21_factor_1 3 rfl rfl)
theorem dX21_factor_27 : decode cX21_factor 27 = .ok (.isub, 1) := dk_100 (dk_at dksX21_factor_1 4 rfl rfl)
theorem dX21_factor_28 : decode cX21_factor 28 = .ok (.putfield 68, 3) := dk_181 0 68 (dk_at dksX21_factor_1 5 rfl rfl)
theorem dX21_factor_31 : decode cX21_factor 31 = .ok (.aload_n 1, 1) := dk_43 (dk_at dksX21_factor_1 8 rfl rfl)
theorem dX21_factor_32 : decode cX21_factor 32 = .ok (.invokedynamic 84, 5) := by decide +kernel
theorem dX21_factor_37 : decode cX21_factor 37 = .ok (.areturn, 1) := dk_176 (dk_at dksX21_factor_1 14 rfl rfl)
theorem dX21_factor_38 : decode cX21_factor 38 = .ok (.aload_n 0, 1) := dk_42 (dk_at dksX21_factor_1 15 rfl rfl)
theorem dX21_factor_39 : decode cX21_factor 39 = .ok (.getfield 9, 3) := dk_180 0 9 (dk_at dksX21_factor_1 16 rfl rfl)
theorem dX21_factor_42 : decode cX21_factor 42 = .ok (.bipush 40, 2) := dk_16 40 (dk_at dksX21_factor_1 19 rfl rfl)
theorem dX21_factor_44 : decode cX21_factor 44 = .ok (.invokevirtual 88, 3) := dk_182 0 88 (dk_at dksX21_factor_1 21 rfl rfl)
theorem dX21_factor_47 : decode cX21_factor 47 = .ok (.ifCond .eq 33, 3) := dk_153 0 33 (dk_at dksX21_factor_2 0 rfl rfl)
theorem dX21_factor_50 : decode cX21_factor 50 = .ok (.aload_n 0, 1) := dk_42 (dk_at dksX21_factor_2 3 rfl rfl)
theorem dX21_factor_51 : decode cX21_factor 51 = .ok (.invokevirtual 81, 3) := dk_182 0 81 (dk_at dksX21_factor_2 4 rfl rfl)
theorem dX21_factor_54 : decode cX21_factor 54 = .ok (.aload_n 0, 1) := dk_42 (dk_at dksX21_factor_2 7 rfl rfl)
theorem dX21_factor_55 : decode cX21_factor 55 = .ok (.invokevirtual 35, 3) := dk_182 0 35 (dk_at dksX21_factor_2 8 rfl rfl)
theorem dX21_factor_58 : decode cX21_factor 58 = .ok (.astore_n 1, 1) := dk_76 (dk_at dksX21_factor_2 11 rfl rfl)
theorem dX21_factor_59 : decode cX21_factor 59 = .ok (.aload_n 0, 1) := dk_42 (dk_at dksX21_factor_2 12 rfl rfl)
theorem dX21_factor_60 : decode cX21_factor 60 = .ok (.getfield 9, 3) := dk_180 0 9 (dk_at dksX21_factor_2 13 rfl rfl)
theorem dX21_factor_63 : decode cX21_factor 63 = .ok (.bipush 41, 2) := dk_16 41 (dk_at dksX21_factor_2 16 rfl rfl)
theorem dX21_factor_65 : decode cX21_factor 65 = .ok (.invokevirtual 92, 3) := dk_182 0 92 (dk_at dksX21_factor_2 18 rfl rfl)
theorem dX21_factor_68 : decode cX21_factor 68 = .ok (.aload_n 0, 1) := dk_42 (dk_at dksX21_factor_2 21 rfl rfl)
theorem dX21_factor_69 : decode cX21_factor 69 = .ok (.dup, 1) := dk_89 (dk_at dksX21_factor_2 22 rfl rfl)
theorem dX21_factor_70 : decode cX21_factor 70 = .ok (.getfield 68, 3) := dk_180 0 68 (dk_at dksX21_factor_3 0 rfl rfl)
theorem dX21_factor_73 : decode cX21_factor 73 = .ok (.iconst 1, 1) := dk_4 (dk_at dksX21_factor_3 3 rfl rfl)
theorem dX21_factor_74 : decode cX21_factor 74 = .ok (.isub, 1) := dk_100 (dk_at dksX21_factor_3 4 rfl rfl)
theorem dX21_factor_75 : decode cX21_factor 75 = .ok (.putfield 68, 3) := dk_181 0 68 (dk_at dksX21_factor_3 5 rfl rfl)
theorem dX21_factor_78 : decode cX21_factor 78 = .ok (.aload_n 1, 1) := dk_43 (dk_at dksX21_factor_3 8 rfl rfl)
theorem dX21_factor_79 : decode cX21_factor 79 = .ok (.areturn, 1) := dk_176 (dk_at dksX21_factor_3 9 rfl rfl)
theorem dX21_factor_80 : decode cX21_factor 80 = .ok (.aload_n 0, 1) := dk_42 (dk_at dksX21_factor_3 10 rfl rfl)
theorem dX21_factor_81 : decode cX21_factor 81 = .ok (.invokevirtual 96, 3) := dk_182 0 96 (dk_at dksX21_factor_3 11 rfl rfl)
theorem dX21_factor_84 : decode cX21_factor 84 = .ok (.areturn, 1) := dk_176 (dk_at dksX21_factor_3 14 rfl rfl)
abbrev cX21_enter : ByteArray := prog_6_method_4_code
def yX21_enter : MethodName := ⟨RX21, "enter", "()V"⟩
def dkwX21_enter_1 : List UInt8 := [42, 89, 180, 0, 68, 4, 96, 181, 0, 68, 42, 180, 0, 9, 182, 0, 32, 177]
abbrev dktX21_enter_1 : List UInt8 := dkwX21_enter_1 ++ []
def dkwX21_enter_0 : List UInt8 := [42, 180, 0, 68, 16, 6, 160, 0, 18, 187, 0, 71, 89, 42, 180, 0, 9, 180, 0, 73, 183, 0, 76, 191]
abbrev dktX21_enter_0 : List UInt8 := dkwX21_enter_0 ++ dktX21_enter_1
theorem dksX21_enter_0 : cX21_enter.data.toList.drop 0 = dktX21_enter_0 := by decide +kernel
theorem dksX21_enter_1 : cX21_enter.data.toList.drop 24 = dktX21_enter_1 := dk_seg dksX21_enter_0 24 rfl rfl
theorem dX21_enter_0 : decode cX21_enter 0 = .ok (.aload_n 0, 1) := dk_42 (dk_at dksX21_enter_0 0 rfl rfl)
theorem dX21_enter_1 : decode cX21_enter 1 = .ok (.getfield 68, 3) := dk_180 0 68 (dk_at dksX21_enter_0 1 rfl rfl)
theorem dX21_enter_4 : decode cX21_enter 4 = .ok (.bipush 6, 2) := dk_16 6 (dk_at dksX21_enter_0 4 rfl rfl)
theorem dX21_enter_6 : decode cX21_enter 6 = .ok (.if_icmp .ne 18, 3) := dk_160 0 18 (dk_at dksX21_enter_0 6 rfl rfl)
theorem dX21_enter_9 : decode cX21_enter 9 = .ok (.new 71, 3) := dk_187 0 71 (dk_at dksX21_enter_0 9 rfl rfl)
theorem dX21_enter_12 : decode cX21_enter 12 = .ok (.dup, 1) := dk_89 (dk_at dksX21_enter_0 12 rfl rfl)
theorem dX21_enter_13 : decode cX21_enter 13 = .ok (.aload_n 0, 1) := dk_42 (dk_at dksX21_enter_0 13 rfl rfl)
theorem dX21_enter_14 : decode cX21_enter 14 = .ok (.getfield 9, 3) := dk_180 0 9 (dk_at dksX21_enter_0 14 rfl rfl)
theorem dX21_enter_17 : decode cX21_enter 17 = .ok (.getfield 73, 3) := dk_180 0 73 (dk_at dksX21_enter_0 17 rfl rfl)
theorem dX21_enter_20 : decode cX21_enter 20 = .ok (.invokespecial 76, 3) := dk_183 0 76 (dk_at dksX21_enter_0 20 rfl rfl)
theorem dX21_enter_23 : decode cX21_enter 23 = .ok (.athrow, 1) := dk_191 (dk_at dksX21_enter_0 23 rfl rfl)
theorem dX21_enter_24 : decode cX21_enter 24 = .ok (.aload_n 0, 1) := dk_42 (dk_at dksX21_enter_1 0 rfl rfl)
theorem dX21_enter_25 : decode cX21_enter 25 = .ok (.dup, 1) := dk_89 (dk_at dksX21_enter_1 1 rfl rfl)
theorem dX21_enter_26 : decode cX21_enter 26 = .ok (.getfield 68, 3) := dk_180 0 68 (dk_at dksX21_enter_1 2 rfl rfl)
theorem dX21_enter_29 : decode cX21_enter 29 = .ok (.iconst 1, 1) := dk_4 (dk_at dksX21_enter_1 5 rfl rfl)
theorem dX21_enter_30 : decode cX21_enter 30 = .ok (.iadd, 1) := dk_96 (dk_at dksX21_enter_1 6 rfl rfl)
theorem dX21_enter_31 : decode cX21_enter 31 = .ok (.putfield 68, 3) := dk_181 0 68 (dk_at dksX21_enter_1 7 rfl rfl)
theorem dX21_enter_34 : decode cX21_enter 34 = .ok (.aload_n 0, 1) := dk_42 (dk_at dksX21_enter_1 10 rfl rfl)
theorem dX21_enter_35 : decode cX21_enter 35 = .ok (.getfield 9, 3) := dk_180 0 9 (dk_at dksX21_enter_1 11 rfl rfl)
theorem dX21_enter_38 : decode cX21_enter 38 = .ok (.invokevirtual 32, 3) := dk_182 0 32 (dk_at dksX21_enter_1 14 rfl rfl)
theorem dX21_enter_41 : decode cX21_enter 41 = .ok (.return_, 1) := dk_177 (dk_at dksX21_enter_1 17 rfl rfl)
abbrev cX21_lambda_factor_0 : ByteArray := prog_6_method_10_code
def yX21_lambda_factor_0 : MethodName := ⟨RX21, "lambda$factor$0", "(LSharedTaxis$Test;LSharedTaxis$State;I)Z"⟩
def dkwX21_lambda_factor_0_0 : List UInt8 := [42, 43, 28, 185, 0, 128, 3, 0, 154, 0, 7, 4, 167, 0, 4, 3, 172]
abbrev dktX21_lambda_factor_0_0 : List UInt8 := dkwX21_lambda_factor_0_0 ++ []
theorem dksX21_lambda_factor_0_0 : cX21_lambda_factor_0.data.toList.drop 0 = dktX21_lambda_factor_0_0 := by decide +kernel
theorem dX21_lambda_factor_0_0 : decode cX21_lambda_factor_0 0 = .ok (.aload_n 0, 1) := dk_42 (dk_at dksX21_lambda_factor_0_0 0 rfl rfl)
theorem dX21_lambda_factor_0_1 : decode cX21_lambda_factor_0 1 = .ok (.aload_n 1, 1) := dk_43 (dk_at dksX21_lambda_factor_0_0 1 rfl rfl)
theorem dX21_lambda_factor_0_2 : decode cX21_lambda_factor_0 2 = .ok (.iload_n 2, 1) := dk_28 (dk_at dksX21_lambda_factor_0_0 2 rfl rfl)
theorem dX21_lambda_factor_0_3 : decode cX21_lambda_factor_0 3 = .ok (.invokeinterface 128 3, 5) := by decide +kernel
theorem dX21_lambda_factor_0_8 : decode cX21_lambda_factor_0 8 = .ok (.ifCond .ne 7, 3) := dk_154 0 7 (dk_at dksX21_lambda_factor_0_0 8 rfl rfl)
theorem dX21_lambda_factor_0_11 : decode cX21_lambda_factor_0 11 = .ok (.iconst 1, 1) := dk_4 (dk_at dksX21_lambda_factor_0_0 11 rfl rfl)
theorem dX21_lambda_factor_0_12 : decode cX21_lambda_factor_0 12 = .ok (.goto 4, 3) := dk_167 0 4 (dk_at dksX21_lambda_factor_0_0 12 rfl rfl)
theorem dX21_lambda_factor_0_15 : decode cX21_lambda_factor_0 15 = .ok (.iconst 0, 1) := dk_3 (dk_at dksX21_lambda_factor_0_0 15 rfl rfl)
theorem dX21_lambda_factor_0_16 : decode cX21_lambda_factor_0 16 = .ok (.ireturn, 1) := dk_172 (dk_at dksX21_lambda_factor_0_0 16 rfl rfl)
abbrev cX21_comparison : ByteArray := prog_6_method_6_code
def yX21_comparison : MethodName := ⟨RX21, "comparison", "()LSharedTaxis$Test;"⟩
def dkwX21_comparison_3 : List UInt8 := [29, 186, 0, 103, 0, 0, 176]
abbrev dktX21_comparison_3 : List UInt8 := dkwX21_comparison_3 ++ []
def dkwX21_comparison_2 : List UInt8 := [180, 0, 9, 182, 0, 28, 191, 42, 180, 0, 9, 182, 0, 32, 42, 182, 0, 99, 58, 4, 43, 25, 4, 28]
abbrev dktX21_comparison_2 : List UInt8 := dkwX21_comparison_2 ++ dktX21_comparison_3
def dkwX21_comparison_1 : List UInt8 := [62, 28, 154, 0, 27, 29, 154, 0, 23, 42, 180, 0, 9, 16, 62, 182, 0, 88, 154, 0, 11, 42]
abbrev dktX21_comparison_1 : List UInt8 := dkwX21_comparison_1 ++ dktX21_comparison_2
def dkwX21_comparison_0 : List UInt8 := [42, 182, 0, 99, 76, 42, 180, 0, 9, 16, 60, 182, 0, 88, 61, 42, 180, 0, 9, 16, 61, 182, 0, 88]
abbrev dktX21_comparison_0 : List UInt8 := dkwX21_comparison_0 ++ dktX21_comparison_1
theorem dksX21_comparison_0 : cX21_comparison.data.toList.drop 0 = dktX21_comparison_0 := by decide +kernel
theorem dksX21_comparison_1 : cX21_comparison.data.toList.drop 24 = dktX21_comparison_1 := dk_seg dksX21_comparison_0 24 rfl rfl
theorem dksX21_comparison_2 : cX21_comparison.data.toList.drop 46 = dktX21_comparison_2 := dk_seg dksX21_comparison_1 22 rfl rfl
theorem dksX21_comparison_3 : cX21_comparison.data.toList.drop 70 = dktX21_comparison_3 := dk_seg dksX21_comparison_2 24 rfl rfl
theorem dX21_comparison_0 : decode cX21_comparison 0 = .ok (.aload_n 0, 1) := dk_42 (dk_at dksX21_comparison_0 0 rfl rfl)
theorem dX21_comparison_1 : decode cX21_comparison 1 = .ok (.invokevirtual 99, 3) := dk_182 0 99 (dk_at dksX21_comparison_0 1 rfl rfl)
theorem dX21_comparison_4 : decode cX21_comparison 4 = .ok (.astore_n 1, 1) := dk_76 (dk_at dksX21_comparison_0 4 rfl rfl)
theorem dX21_comparison_5 : decode cX21_comparison 5 = .ok (.aload_n 0, 1) := dk_42 (dk_at dksX21_comparison_0 5 rfl rfl)
theorem dX21_comparison_6 : decode cX21_comparison 6 = .ok (.getfield 9, 3) := dk_180 0 9 (dk_at dksX21_comparison_0 6 rfl rfl)
theorem dX21_comparison_9 : decode cX21_comparison 9 = .ok (.bipush 60, 2) := dk_16 60 (dk_at dksX21_comparison_0 9 rfl rfl)
theorem dX21_comparison_11 : decode cX21_comparison 11 = .ok (.invokevirtual 88, 3) := dk_182 0 88 (dk_at dksX21_comparison_0 11 rfl rfl)
theorem dX21_comparison_14 : decode cX21_comparison 14 = .ok (.istore_n 2, 1) := dk_61 (dk_at dksX21_comparison_0 14 rfl rfl)
theorem dX21_comparison_15 : decode cX21_comparison 15 = .ok (.aload_n 0, 1) := dk_42 (dk_at dksX21_comparison_0 15 rfl rfl)
theorem dX21_comparison_16 : decode cX21_comparison 16 = .ok (.getfield 9, 3) := dk_180 0 9 (dk_at dksX21_comparison_0 16 rfl rfl)
theorem dX21_comparison_19 : decode cX21_comparison 19 = .ok (.bipush 61, 2) := dk_16 61 (dk_at dksX21_comparison_0 19 rfl rfl)
theorem dX21_comparison_21 : decode cX21_comparison 21 = .ok (.invokevirtual 88, 3) := dk_182 0 88 (dk_at dksX21_comparison_0 21 rfl rfl)
theorem dX21_comparison_24 : decode cX21_comparison 24 = .ok (.istore_n 3, 1) := dk_62 (dk_at dksX21_comparison_1 0 rfl rfl)
theorem dX21_comparison_25 : decode cX21_comparison 25 = .ok (.iload_n 2, 1) := dk_28 (dk_at dksX21_comparison_1 1 rfl rfl)
theorem dX21_comparison_26 : decode cX21_comparison 26 = .ok (.ifCond .ne 27, 3) := dk_154 0 27 (dk_at dksX21_comparison_1 2 rfl rfl)
theorem dX21_comparison_29 : decode cX21_comparison 29 = .ok (.iload_n 3, 1) := dk_29 (dk_at dksX21_comparison_1 5 rfl rfl)
theorem dX21_comparison_30 : decode cX21_comparison 30 = .ok (.ifCond .ne 23, 3) := dk_154 0 23 (dk_at dksX21_comparison_1 6 rfl rfl)
theorem dX21_comparison_33 : decode cX21_comparison 33 = .ok (.aload_n 0, 1) := dk_42 (dk_at dksX21_comparison_1 9 rfl rfl)
theorem dX21_comparison_34 : decode cX21_comparison 34 = .ok (.getfield 9, 3) := dk_180 0 9 (dk_at dksX21_comparison_1 10 rfl rfl)
theorem dX21_comparison_37 : decode cX21_comparison 37 = .ok (.bipush 62, 2) := dk_16 62 (dk_at dksX21_comparison_1 13 rfl rfl)
theorem dX21_comparison_39 : decode cX21_comparison 39 = .ok (.invokevirtual 88, 3) := dk_182 0 88 (dk_at dksX21_comparison_1 15 rfl rfl)
theorem dX21_comparison_42 : decode cX21_comparison 42 = .ok (.ifCond .ne 11, 3) := dk_154 0 11 (dk_at dksX21_comparison_1 18 rfl rfl)
theorem dX21_comparison_45 : decode cX21_comparison 45 = .ok (.aload_n 0, 1) := dk_42 (dk_at dksX21_comparison_1 21 rfl rfl)
theorem dX21_comparison_46 : decode cX21_comparison 46 = .ok (.getfield 9, 3) := dk_180 0 9 (dk_at dksX21_comparison_2 0 rfl rfl)
theorem dX21_comparison_49 : decode cX21_comparison 49 = .ok (.invokevirtual 28, 3) := dk_182 0 28 (dk_at dksX21_comparison_2 3 rfl rfl)
theorem dX21_comparison_52 : decode cX21_comparison 52 = .ok (.athrow, 1) := dk_191 (dk_at dksX21_comparison_2 6 rfl rfl)
theorem dX21_comparison_53 : decode cX21_comparison 53 = .ok (.aload_n 0, 1) := dk_42 (dk_at dksX21_comparison_2 7 rfl rfl)
theorem dX21_comparison_54 : decode cX21_comparison 54 = .ok (.getfield 9, 3) := dk_180 0 9 (dk_at dksX21_comparison_2 8 rfl rfl)
theorem dX21_comparison_57 : decode cX21_comparison 57 = .ok (.invokevirtual 32, 3) := dk_182 0 32 (dk_at dksX21_comparison_2 11 rfl rfl)
theorem dX21_comparison_60 : decode cX21_comparison 60 = .ok (.aload_n 0, 1) := dk_42 (dk_at dksX21_comparison_2 14 rfl rfl)
theorem dX21_comparison_61 : decode cX21_comparison 61 = .ok (.invokevirtual 99, 3) := dk_182 0 99 (dk_at dksX21_comparison_2 15 rfl rfl)
theorem dX21_comparison_64 : decode cX21_comparison 64 = .ok (.astore 4, 2) := dk_58 4 (dk_at dksX21_comparison_2 18 rfl rfl)
theorem dX21_comparison_66 : decode cX21_comparison 66 = .ok (.aload_n 1, 1) := dk_43 (dk_at dksX21_comparison_2 20 rfl rfl)
theorem dX21_comparison_67 : decode cX21_comparison 67 = .ok (.aload 4, 2) := dk_25 4 (dk_at dksX21_comparison_2 21 rfl rfl)
theorem dX21_comparison_69 : decode cX21_comparison 69 = .ok (.iload_n 2, 1) := dk_28 (dk_at dksX21_comparison_2 23 rfl rfl)
theorem dX21_comparison_70 : decode cX21_comparison 70 = .ok (.iload_n 3, 1) := dk_29 (dk_at dksX21_comparison_3 0 rfl rfl)
theorem dX21_comparison_71 : decode cX21_comparison 71 = .ok (.invokedynamic 103, 5) := by decide +kernel
theorem dX21_comparison_76 : decode cX21_comparison 76 = .ok (.areturn, 1) := dk_176 (dk_at dksX21_comparison_3 6 rfl rfl)
abbrev cX21_value : ByteArray := prog_6_method_7_code
def yX21_value : MethodName := ⟨RX21, "value", "()LSharedTaxis$Value;"⟩
def dkwX21_value_3 : List UInt8 := [182, 0, 32, 43, 176]
abbrev dktX21_value_3 : List UInt8 := dkwX21_value_3 ++ []
def dkwX21_value_2 : List UInt8 := [184, 0, 119, 167, 0, 4, 1, 76, 43, 199, 0, 11, 42, 180, 0, 9, 182, 0, 28, 191, 42, 180, 0, 9]
abbrev dktX21_value_2 : List UInt8 := dkwX21_value_2 ++ dktX21_value_3
def dkwX21_value_1 : List UInt8 := [186, 0, 111, 0, 0, 176, 42, 180, 0, 9, 180, 0, 42, 4, 160, 0, 16, 42, 180, 0, 9, 180, 0, 115]
abbrev dktX21_value_1 : List UInt8 := dkwX21_value_1 ++ dktX21_value_2
def dkwX21_value_0 : List UInt8 := [42, 180, 0, 9, 180, 0, 42, 5, 160, 0, 21, 42, 180, 0, 9, 3, 18, 106, 182, 0, 107, 60, 27]
abbrev dktX21_value_0 : List UInt8 := dkwX21_value_0 ++ dktX21_value_1
theorem dksX21_value_0 : cX21_value.data.toList.drop 0 = dktX21_value_0 := by decide +kernel
theorem dksX21_value_1 : cX21_value.data.toList.drop 23 = dktX21_value_1 := dk_seg dksX21_value_0 23 rfl rfl
theorem dksX21_value_2 : cX21_value.data.toList.drop 47 = dktX21_value_2 := dk_seg dksX21_value_1 24 rfl rfl
theorem dksX21_value_3 : cX21_value.data.toList.drop 71 = dktX21_value_3 := dk_seg dksX21_value_2 24 rfl rfl
theorem dX21_value_0 : decode cX21_value 0 = .ok (.aload_n 0, 1) := dk_42 (dk_at dksX21_value_0 0 rfl rfl)
theorem dX21_value_1 : decode cX21_value 1 = .ok (.getfield 9, 3) := dk_180 0 9 (dk_at dksX21_value_0 1 rfl rfl)
theorem dX21_value_4 : decode cX21_value 4 = .ok (.getfield 42, 3) := dk_180 0 42 (dk_at dksX21_value_0 4 rfl rfl)
theorem dX21_value_7 : decode cX21_value 7 = .ok (.iconst 2, 1) := dk_5 (dk_at dksX21_value_0 7 rfl rfl)
theorem dX21_value_8 : decode cX21_value 8 = .ok (.if_icmp .ne 21, 3) := dk_160 0 21 (dk_at dksX21_value_0 8 rfl rfl)
theorem dX21_value_11 : decode cX21_value 11 = .ok (.aload_n 0, 1) := dk_42 (dk_at dksX21_value_0 11 rfl rfl)
theorem dX21_value_12 : decode cX21_value 12 = .ok (.getfield 9, 3) := dk_180 0 9 (dk_at dksX21_value_0 12 rfl rfl)
theorem dX21_value_15 : decode cX21_value 15 = .ok (.iconst 0, 1) := dk_3 (dk_at dksX21_value_0 15 rfl rfl)
theorem dX21_value_16 : decode cX21_value 16 = .ok (.ldc 106, 2) := dk_18 106 (dk_at dksX21_value_0 16 rfl rfl)
theorem dX21_value_18 : decode cX21_value 18 = .ok (.invokevirtual 107, 3) := dk_182 0 107 (dk_at dksX21_value_0 18 rfl rfl)
theorem dX21_value_21 : decode cX21_value 21 = .ok (.istore_n 1, 1) := dk_60 (dk_at dksX21_value_0 21 rfl rfl)
theorem dX21_value_22 : decode cX21_value 22 = .ok (.iload_n 1, 1) := dk_27 (dk_at dksX21_value_0 22 rfl rfl)
theorem dX21_value_23 : decode cX21_value 23 = .ok (.invokedynamic 111, 5) := by decide +kernel
theorem dX21_value_28 : decode cX21_value 28 = .ok (.areturn, 1) := dk_176 (dk_at dksX21_value_1 5 rfl rfl)
theorem dX21_value_29 : decode cX21_value 29 = .ok (.aload_n 0, 1) := dk_42 (dk_at dksX21_value_1 6 rfl rfl)
theorem dX21_value_30 : decode cX21_value 30 = .ok (.getfield 9, 3) := dk_180 0 9 (dk_at dksX21_value_1 7 rfl rfl)
theorem dX21_value_33 : decode cX21_value 33 = .ok (.getfield 42, 3) := dk_180 0 42 (dk_at dksX21_value_1 10 rfl rfl)
theorem dX21_value_36 : decode cX21_value 36 = .ok (.iconst 1, 1) := dk_4 (dk_at dksX21_value_1 13 rfl rfl)
theorem dX21_value_37 : decode cX21_value 37 = .ok (.if_icmp .ne 16, 3) := dk_160 0 16 (dk_at dksX21_value_1 14 rfl rfl)
theorem dX21_value_40 : decode cX21_value 40 = .ok (.aload_n 0, 1) := dk_42 (dk_at dksX21_value_1 17 rfl rfl)
theorem dX21_value_41 : decode cX21_value 41 = .ok (.getfield 9, 3) := dk_180 0 9 (dk_at dksX21_value_1 18 rfl rfl)
theorem dX21_value_44 : decode cX21_value 44 = .ok (.getfield 115, 3) := dk_180 0 115 (dk_at dksX21_value_1 21 rfl rfl)
theorem dX21_value_47 : decode cX21_value 47 = .ok (.invokestatic 119, 3) := dk_184 0 119 (dk_at dksX21_value_2 0 rfl rfl)
theorem dX21_value_50 : decode cX21_value 50 = .ok (.goto 4, 3) := dk_167 0 4 (dk_at dksX21_value_2 3 rfl rfl)
theorem dX21_value_53 : decode cX21_value 53 = .ok (.aconst_null, 1) := dk_1 (dk_at dksX21_value_2 6 rfl rfl)
theorem dX21_value_54 : decode cX21_value 54 = .ok (.astore_n 1, 1) := dk_76 (dk_at dksX21_value_2 7 rfl rfl)
theorem dX21_value_55 : decode cX21_value 55 = .ok (.aload_n 1, 1) := dk_43 (dk_at dksX21_value_2 8 rfl rfl)
theorem dX21_value_56 : decode cX21_value 56 = .ok (.ifnonnull 11, 3) := dk_199 0 11 (dk_at dksX21_value_2 9 rfl rfl)
theorem dX21_value_59 : decode cX21_value 59 = .ok (.aload_n 0, 1) := dk_42 (dk_at dksX21_value_2 12 rfl rfl)
theorem dX21_value_60 : decode cX21_value 60 = .ok (.getfield 9, 3) := dk_180 0 9 (dk_at dksX21_value_2 13 rfl rfl)
theorem dX21_value_63 : decode cX21_value 63 = .ok (.invokevirtual 28, 3) := dk_182 0 28 (dk_at dksX21_value_2 16 rfl rfl)
theorem dX21_value_66 : decode cX21_value 66 = .ok (.athrow, 1) := dk_191 (dk_at dksX21_value_2 19 rfl rfl)
theorem dX21_value_67 : decode cX21_value 67 = .ok (.aload_n 0, 1) := dk_42 (dk_at dksX21_value_2 20 rfl rfl)
theorem dX21_value_68 : decode cX21_value 68 = .ok (.getfield 9, 3) := dk_180 0 9 (dk_at dksX21_value_2 21 rfl rfl)
theorem dX21_value_71 : decode cX21_value 71 = .ok (.invokevirtual 32, 3) := dk_182 0 32 (dk_at dksX21_value_3 0 rfl rfl)
theorem dX21_value_74 : decode cX21_value 74 = .ok (.aload_n 1, 1) := dk_43 (dk_at dksX21_value_3 3 rfl rfl)
theorem dX21_value_75 : decode cX21_value 75 = .ok (.areturn, 1) := dk_176 (dk_at dksX21_value_3 4 rfl rfl)
abbrev cX21_lambda_value_2 : ByteArray := prog_6_method_8_code
def yX21_lambda_value_2 : MethodName := ⟨RX21, "lambda$value$2", "(ILSharedTaxis$State;I)I"⟩
theorem dX21_lambda_value_2_0 : decode cX21_lambda_value_2 0 = .ok (.iload_n 0, 1) := by decide +kernel
theorem dX21_lambda_value_2_1 : decode cX21_lambda_value_2 1 = .ok (.ireturn, 1) := by decide +kernel
abbrev cX21_lambda_comparison_1 : ByteArray := prog_6_method_9_code
def yX21_lambda_comparison_1 : MethodName := ⟨RX21, "lambda$comparison$1", "(LSharedTaxis$Value;LSharedTaxis$Value;ZZLSharedTaxis$State;I)Z"⟩
def dkwX21_lambda_comparison_1_2 : List UInt8 := [154, 0, 7, 4, 167, 0, 17, 3, 167, 0, 13, 21, 6, 158, 0, 7, 4, 167, 0, 4, 3, 172]
abbrev dktX21_lambda_comparison_1_2 : List UInt8 := dkwX21_lambda_comparison_1_2 ++ []
def dkwX21_lambda_comparison_1_1 : List UInt8 := [153, 0, 16, 21, 6, 156, 0, 7, 4, 167, 0, 34, 3, 167, 0, 30, 29, 153, 0, 16, 21, 6]
abbrev dktX21_lambda_comparison_1_1 : List UInt8 := dkwX21_lambda_comparison_1_1 ++ dktX21_lambda_comparison_1_2
def dkwX21_lambda_comparison_1_0 : List UInt8 := [42, 25, 4, 21, 5, 185, 0, 123, 3, 0, 43, 25, 4, 21, 5, 185, 0, 123, 3, 0, 100, 54, 6, 28]
abbrev dktX21_lambda_comparison_1_0 : List UInt8 := dkwX21_lambda_comparison_1_0 ++ dktX21_lambda_comparison_1_1
theorem dksX21_lambda_comparison_1_0 : cX21_lambda_comparison_1.data.toList.drop 0 = dktX21_lambda_comparison_1_0 := by decide +kernel
theorem dksX21_lambda_comparison_1_1 : cX21_lambda_comparison_1.data.toList.drop 24 = dktX21_lambda_comparison_1_1 := dk_seg dksX21_lambda_comparison_1_0 24 rfl rfl
theorem dksX21_lambda_comparison_1_2 : cX21_lambda_comparison_1.data.toList.drop 46 = dktX21_lambda_comparison_1_2 := dk_seg dksX21_lambda_comparison_1_1 22 rfl rfl
theorem dX21_lambda_comparison_1_0 : decode cX21_lambda_comparison_1 0 = .ok (.aload_n 0, 1) := dk_42 (dk_at dksX21_lambda_comparison_1_0 0 rfl rfl)
theorem dX21_lambda_comparison_1_1 : decode cX21_lambda_comparison_1 1 = .ok (.aload 4, 2) := dk_25 4 (dk_at dksX21_lambda_comparison_1_0 1 rfl rfl)
theorem dX21_lambda_comparison_1_3 : decode cX21_lambda_comparison_1 3 = .ok (.iload 5, 2) := dk_21 5 (dk_at dksX21_lambda_comparison_1_0 3 rfl rfl)
theorem dX21_lambda_comparison_1_5 : decode cX21_lambda_comparison_1 5 = .ok (.invokeinterface 123 3, 5) := by decide +kernel
theorem dX21_lambda_comparison_1_10 : decode cX21_lambda_comparison_1 10 = .ok (.aload_n 1, 1) := dk_43 (dk_at dksX21_lambda_comparison_1_0 10 rfl rfl)
theorem dX21_lambda_comparison_1_11 : decode cX21_lambda_comparison_1 11 = .ok (.aload 4, 2) := dk_25 4 (dk_at dksX21_lambda_comparison_1_0 11 rfl rfl)
theorem dX21_lambda_comparison_1_13 : decode cX21_lambda_comparison_1 13 = .ok (.iload 5, 2) := dk_21 5 (dk_at dksX21_lambda_comparison_1_0 13 rfl rfl)
theorem dX21_lambda_comparison_1_15 : decode cX21_lambda_comparison_1 15 = .ok (.invokeinterface 123 3, 5) := by decide +kernel
theorem dX21_lambda_comparison_1_20 : decode cX21_lambda_comparison_1 20 = .ok (.isub, 1) := dk_100 (dk_at dksX21_lambda_comparison_1_0 20 rfl rfl)
theorem dX21_lambda_comparison_1_21 : decode cX21_lambda_comparison_1 21 = .ok (.istore 6, 2) := dk_54 6 (dk_at dksX21_lambda_comparison_1_0 21 rfl rfl)
theorem dX21_lambda_comparison_1_23 : decode cX21_lambda_comparison_1 23 = .ok (.iload_n 2, 1) := dk_28 (dk_at dksX21_lambda_comparison_1_0 23 rfl rfl)
theorem dX21_lambda_comparison_1_24 : decode cX21_lambda_comparison_1 24 = .ok (.ifCond .eq 16, 3) := dk_153 0 16 (dk_at dksX21_lambda_comparison_1_1 0 rfl rfl)
theorem dX21_lambda_comparison_1_27 : decode cX21_lambda_comparison_1 27 = .ok (.iload 6, 2) := dk_21 6 (dk_at dksX21_lambda_comparison_1_1 3 rfl rfl)
theorem dX21_lambda_comparison_1_29 : decode cX21_lambda_comparison_1 29 = .ok (.ifCond .ge 7, 3) := dk_156 0 7 (dk_at dksX21_lambda_comparison_1_1 5 rfl rfl)
theorem dX21_lambda_comparison_1_32 : decode cX21_lambda_comparison_1 32 = .ok (.iconst 1, 1) := dk_4 (dk_at dksX21_lambda_comparison_1_1 8 rfl rfl)
theorem dX21_lambda_comparison_1_33 : decode cX21_lambda_comparison_1 33 = .ok (.goto 34, 3) := dk_167 0 34 (dk_at dksX21_lambda_comparison_1_1 9 rfl rfl)
theorem dX21_lambda_comparison_1_36 : decode cX21_lambda_comparison_1 36 = .ok (.iconst 0, 1) := dk_3 (dk_at dksX21_lambda_comparison_1_1 12 rfl rfl)
theorem dX21_lambda_comparison_1_37 : decode cX21_lambda_comparison_1 37 = .ok (.goto 30, 3) := dk_167 0 30 (dk_at dksX21_lambda_comparison_1_1 13 rfl rfl)
theorem dX21_lambda_comparison_1_40 : decode cX21_lambda_comparison_1 40 = .ok (.iload_n 3, 1) := dk_29 (dk_at dksX21_lambda_comparison_1_1 16 rfl rfl)
theorem dX21_lambda_comparison_1_41 : decode cX21_lambda_comparison_1 41 = .ok (.ifCond .eq 16, 3) := dk_153 0 16 (dk_at dksX21_lambda_comparison_1_1 17 rfl rfl)
theorem dX21_lambda_comparison_1_44 : decode cX21_lambda_comparison_1 44 = .ok (.iload 6, 2) := dk_21 6 (dk_at dksX21_lambda_comparison_1_1 20 rfl rfl)
theorem dX21_lambda_comparison_1_46 : decode cX21_lambda_comparison_1 46 = .ok (.ifCond .ne 7, 3) := dk_154 0 7 (dk_at dksX21_lambda_comparison_1_2 0 rfl rfl)
theorem dX21_lambda_comparison_1_49 : decode cX21_lambda_comparison_1 49 = .ok (.iconst 1, 1) := dk_4 (dk_at dksX21_lambda_comparison_1_2 3 rfl rfl)
theorem dX21_lambda_comparison_1_50 : decode cX21_lambda_comparison_1 50 = .ok (.goto 17, 3) := dk_167 0 17 (dk_at dksX21_lambda_comparison_1_2 4 rfl rfl)
theorem dX21_lambda_comparison_1_53 : decode cX21_lambda_comparison_1 53 = .ok (.iconst 0, 1) := dk_3 (dk_at dksX21_lambda_comparison_1_2 7 rfl rfl)
theorem dX21_lambda_comparison_1_54 : decode cX21_lambda_comparison_1 54 = .ok (.goto 13, 3) := dk_167 0 13 (dk_at dksX21_lambda_comparison_1_2 8 rfl rfl)
theorem dX21_lambda_comparison_1_57 : decode cX21_lambda_comparison_1 57 = .ok (.iload 6, 2) := dk_21 6 (dk_at dksX21_lambda_comparison_1_2 11 rfl rfl)
theorem dX21_lambda_comparison_1_59 : decode cX21_lambda_comparison_1 59 = .ok (.ifCond .le 7, 3) := dk_158 0 7 (dk_at dksX21_lambda_comparison_1_2 13 rfl rfl)
theorem dX21_lambda_comparison_1_62 : decode cX21_lambda_comparison_1 62 = .ok (.iconst 1, 1) := dk_4 (dk_at dksX21_lambda_comparison_1_2 16 rfl rfl)
theorem dX21_lambda_comparison_1_63 : decode cX21_lambda_comparison_1 63 = .ok (.goto 4, 3) := dk_167 0 4 (dk_at dksX21_lambda_comparison_1_2 17 rfl rfl)
theorem dX21_lambda_comparison_1_66 : decode cX21_lambda_comparison_1 66 = .ok (.iconst 0, 1) := dk_3 (dk_at dksX21_lambda_comparison_1_2 20 rfl rfl)
theorem dX21_lambda_comparison_1_67 : decode cX21_lambda_comparison_1 67 = .ok (.ireturn, 1) := dk_172 (dk_at dksX21_lambda_comparison_1_2 21 rfl rfl)
abbrev cX22_init : ByteArray := prog_17_method_1_code
def yX22_init : MethodName := ⟨RX22, "<init>", "(Z)V"⟩
def dkwX22_init_0 : List UInt8 := [42, 183, 0, 1, 42, 5, 189, 0, 7, 181, 0, 9, 42, 27, 181, 0, 15, 177]
abbrev dktX22_init_0 : List UInt8 := dkwX22_init_0 ++ []
theorem dksX22_init_0 : cX22_init.data.toList.drop 0 = dktX22_init_0 := by decide +kernel
theorem dX22_init_0 : decode cX22_init 0 = .ok (.aload_n 0, 1) := dk_42 (dk_at dksX22_init_0 0 rfl rfl)
theorem dX22_init_1 : decode cX22_init 1 = .ok (.invokespecial 1, 3) := dk_183 0 1 (dk_at dksX22_init_0 1 rfl rfl)
theorem dX22_init_4 : decode cX22_init 4 = .ok (.aload_n 0, 1) := dk_42 (dk_at dksX22_init_0 4 rfl rfl)
theorem dX22_init_5 : decode cX22_init 5 = .ok (.iconst 2, 1) := dk_5 (dk_at dksX22_init_0 5 rfl rfl)
theorem dX22_init_6 : decode cX22_init 6 = .ok (.anewarray 7, 3) := dk_189 0 7 (dk_at dksX22_init_0 6 rfl rfl)
theorem dX22_init_9 : decode cX22_init 9 = .ok (.putfield 9, 3) := dk_181 0 9 (dk_at dksX22_init_0 9 rfl rfl)
theorem dX22_init_12 : decode cX22_init 12 = .ok (.aload_n 0, 1) := dk_42 (dk_at dksX22_init_0 12 rfl rfl)
theorem dX22_init_13 : decode cX22_init 13 = .ok (.iload_n 1, 1) := dk_27 (dk_at dksX22_init_0 13 rfl rfl)
theorem dX22_init_14 : decode cX22_init 14 = .ok (.putfield 15, 3) := dk_181 0 15 (dk_at dksX22_init_0 14 rfl rfl)
theorem dX22_init_17 : decode cX22_init 17 = .ok (.return_, 1) := dk_177 (dk_at dksX22_init_0 17 rfl rfl)
abbrev cX22_holds : ByteArray := prog_17_method_3_code
def yX22_holds : MethodName := ⟨RX22, "holds", "(LSharedTaxis$State;I)Z"⟩
def dkwX22_holds_2 : List UInt8 := [167, 255, 212, 42, 180, 0, 15, 172]
abbrev dktX22_holds_2 : List UInt8 := dkwX22_holds_2 ++ []
def dkwX22_holds_1 : List UInt8 := [180, 0, 15, 159, 0, 16, 42, 180, 0, 15, 154, 0, 7, 4, 167, 0, 4, 3, 172, 132, 3, 1]
abbrev dktX22_holds_1 : List UInt8 := dkwX22_holds_1 ++ dktX22_holds_2
def dkwX22_holds_0 : List UInt8 := [3, 62, 29, 42, 180, 0, 19, 162, 0, 42, 42, 180, 0, 9, 29, 50, 43, 28, 185, 0, 29, 3, 0, 42]
abbrev dktX22_holds_0 : List UInt8 := dkwX22_holds_0 ++ dktX22_holds_1
theorem dksX22_holds_0 : cX22_holds.data.toList.drop 0 = dktX22_holds_0 := by decide +kernel
theorem dksX22_holds_1 : cX22_holds.data.toList.drop 24 = dktX22_holds_1 := dk_seg dksX22_holds_0 24 rfl rfl
theorem dksX22_holds_2 : cX22_holds.data.toList.drop 46 = dktX22_holds_2 := dk_seg dksX22_holds_1 22 rfl rfl
theorem dX22_holds_0 : decode cX22_holds 0 = .ok (.iconst 0, 1) := dk_3 (dk_at dksX22_holds_0 0 rfl rfl)
theorem dX22_holds_1 : decode cX22_holds 1 = .ok (.istore_n 3, 1) := dk_62 (dk_at dksX22_holds_0 1 rfl rfl)
theorem dX22_holds_2 : decode cX22_holds 2 = .ok (.iload_n 3, 1) := dk_29 (dk_at dksX22_holds_0 2 rfl rfl)
theorem dX22_holds_3 : decode cX22_holds 3 = .ok (.aload_n 0, 1) := dk_42 (dk_at dksX22_holds_0 3 rfl rfl)
theorem dX22_holds_4 : decode cX22_holds 4 = .ok (.getfield 19, 3) := dk_180 0 19 (dk_at dksX22_holds_0 4 rfl rfl)
theorem dX22_holds_7 : decode cX22_holds 7 = .ok (.if_icmp .ge 42, 3) := dk_162 0 42 (dk_at dksX22_holds_0 7 rfl rfl)
theorem dX22_holds_10 : decode cX22_holds 10 = .ok (.aload_n 0, 1) := dk_42 (dk_at dksX22_holds_0 10 rfl rfl)
theorem dX22_holds_11 : decode cX22_holds 11 = .ok (.getfield 9, 3) := dk_180 0 9 (dk_at dksX22_holds_0 11 rfl rfl)
theorem dX22_holds_14 : decode cX22_holds 14 = .ok (.iload_n 3, 1) := dk_29 (dk_at dksX22_holds_0 14 rfl rfl)
theorem dX22_holds_15 : decode cX22_holds 15 = .ok (.aaload, 1) := dk_50 (dk_at dksX22_holds_0 15 rfl rfl)
theorem dX22_holds_16 : decode cX22_holds 16 = .ok (.aload_n 1, 1) := dk_43 (dk_at dksX22_holds_0 16 rfl rfl)
theorem dX22_holds_17 : decode cX22_holds 17 = .ok (.iload_n 2, 1) := dk_28 (dk_at dksX22_holds_0 17 rfl rfl)
theorem dX22_holds_18 : decode cX22_holds 18 = .ok (.invokeinterface 29 3, 5) := by decide +kernel
theorem dX22_holds_23 : decode cX22_holds 23 = .ok (.aload_n 0, 1) := dk_42 (dk_at dksX22_holds_0 23 rfl rfl)
theorem dX22_holds_24 : decode cX22_holds 24 = .ok (.getfield 15, 3) := dk_180 0 15 (dk_at dksX22_holds_1 0 rfl rfl)
theorem dX22_holds_27 : decode cX22_holds 27 = .ok (.if_icmp .eq 16, 3) := dk_159 0 16 (dk_at dksX22_holds_1 3 rfl rfl)
theorem dX22_holds_30 : decode cX22_holds 30 = .ok (.aload_n 0, 1) := dk_42 (dk_at dksX22_holds_1 6 rfl rfl)
theorem dX22_holds_31 : decode cX22_holds 31 = .ok (.getfield 15, 3) := dk_180 0 15 (dk_at dksX22_holds_1 7 rfl rfl)
theorem dX22_holds_34 : decode cX22_holds 34 = .ok (.ifCond .ne 7, 3) := dk_154 0 7 (dk_at dksX22_holds_1 10 rfl rfl)
theorem dX22_holds_37 : decode cX22_holds 37 = .ok (.iconst 1, 1) := dk_4 (dk_at dksX22_holds_1 13 rfl rfl)
theorem dX22_holds_38 : decode cX22_holds 38 = .ok (.goto 4, 3) := dk_167 0 4 (dk_at dksX22_holds_1 14 rfl rfl)
theorem dX22_holds_41 : decode cX22_holds 41 = .ok (.iconst 0, 1) := dk_3 (dk_at dksX22_holds_1 17 rfl rfl)
theorem dX22_holds_42 : decode cX22_holds 42 = .ok (.ireturn, 1) := dk_172 (dk_at dksX22_holds_1 18 rfl rfl)
theorem dX22_holds_43 : decode cX22_holds 43 = .ok (.iinc 3 1, 3) := dk_132 3 1 (dk_at dksX22_holds_1 19 rfl rfl)
theorem dX22_holds_46 : decode cX22_holds 46 = .ok (.goto (-44), 3) := dk_167 255 212 (dk_at dksX22_holds_2 0 rfl rfl)
theorem dX22_holds_49 : decode cX22_holds 49 = .ok (.aload_n 0, 1) := dk_42 (dk_at dksX22_holds_2 3 rfl rfl)
theorem dX22_holds_50 : decode cX22_holds 50 = .ok (.getfield 15, 3) := dk_180 0 15 (dk_at dksX22_holds_2 4 rfl rfl)
theorem dX22_holds_53 : decode cX22_holds 53 = .ok (.ireturn, 1) := dk_172 (dk_at dksX22_holds_2 7 rfl rfl)
abbrev cX22_add : ByteArray := prog_17_method_2_code
def yX22_add : MethodName := ⟨RX22, "add", "(LSharedTaxis$Test;)V"⟩
def dkwX22_add_2 : List UInt8 := [180, 0, 19, 43, 83, 42, 89, 180, 0, 19, 4, 96, 181, 0, 19, 177]
abbrev dktX22_add_2 : List UInt8 := dkwX22_add_2 ++ []
def dkwX22_add_1 : List UInt8 := [180, 0, 9, 3, 44, 3, 42, 180, 0, 19, 184, 0, 23, 42, 44, 181, 0, 9, 42, 180, 0, 9, 42]
abbrev dktX22_add_1 : List UInt8 := dkwX22_add_1 ++ dktX22_add_2
def dkwX22_add_0 : List UInt8 := [42, 180, 0, 19, 42, 180, 0, 9, 190, 160, 0, 32, 5, 42, 180, 0, 19, 104, 189, 0, 7, 77, 42]
abbrev dktX22_add_0 : List UInt8 := dkwX22_add_0 ++ dktX22_add_1
theorem dksX22_add_0 : cX22_add.data.toList.drop 0 = dktX22_add_0 := by decide +kernel
theorem dksX22_add_1 : cX22_add.data.toList.drop 23 = dktX22_add_1 := dk_seg dksX22_add_0 23 rfl rfl
theorem dksX22_add_2 : cX22_add.data.toList.drop 46 = dktX22_add_2 := dk_seg dksX22_add_1 23 rfl rfl
theorem dX22_add_0 : decode cX22_add 0 = .ok (.aload_n 0, 1) := dk_42 (dk_at dksX22_add_0 0 rfl rfl)
theorem dX22_add_1 : decode cX22_add 1 = .ok (.getfield 19, 3) := dk_180 0 19 (dk_at dksX22_add_0 1 rfl rfl)
theorem dX22_add_4 : decode cX22_add 4 = .ok (.aload_n 0, 1) := dk_42 (dk_at dksX22_add_0 4 rfl rfl)
theorem dX22_add_5 : decode cX22_add 5 = .ok (.getfield 9, 3) := dk_180 0 9 (dk_at dksX22_add_0 5 rfl rfl)
theorem dX22_add_8 : decode cX22_add 8 = .ok (.arraylength, 1) := dk_190 (dk_at dksX22_add_0 8 rfl rfl)
theorem dX22_add_9 : decode cX22_add 9 = .ok (.if_icmp .ne 32, 3) := dk_160 0 32 (dk_at dksX22_add_0 9 rfl rfl)
theorem dX22_add_12 : decode cX22_add 12 = .ok (.iconst 2, 1) := dk_5 (dk_at dksX22_add_0 12 rfl rfl)
theorem dX22_add_13 : decode cX22_add 13 = .ok (.aload_n 0, 1) := dk_42 (dk_at dksX22_add_0 13 rfl rfl)
theorem dX22_add_14 : decode cX22_add 14 = .ok (.getfield 19, 3) := dk_180 0 19 (dk_at dksX22_add_0 14 rfl rfl)
theorem dX22_add_17 : decode cX22_add 17 = .ok (.imul, 1) := dk_104 (dk_at dksX22_add_0 17 rfl rfl)
theorem dX22_add_18 : decode cX22_add 18 = .ok (.anewarray 7, 3) := dk_189 0 7 (dk_at dksX22_add_0 18 rfl rfl)
theorem dX22_add_21 : decode cX22_add 21 = .ok (.astore_n 2, 1) := dk_77 (dk_at dksX22_add_0 21 rfl rfl)
theorem dX22_add_22 : decode cX22_add 22 = .ok (.aload_n 0, 1) := dk_42 (dk_at dksX22_add_0 22 rfl rfl)
theorem dX22_add_23 : decode cX22_add 23 = .ok (.getfield 9, 3) := dk_180 0 9 (dk_at dksX22_add_1 0 rfl rfl)
theorem dX22_add_26 : decode cX22_add 26 = .ok (.iconst 0, 1) := dk_3 (dk_at dksX22_add_1 3 rfl rfl)
theorem dX22_add_27 : decode cX22_add 27 = .ok (.aload_n 2, 1) := dk_44 (dk_at dksX22_add_1 4 rfl rfl)
theorem dX22_add_28 : decode cX22_add 28 = .ok (.iconst 0, 1) := dk_3 (dk_at dksX22_add_1 5 rfl rfl)
theorem dX22_add_29 : decode cX22_add 29 = .ok (.aload_n 0, 1) := dk_42 (dk_at dksX22_add_1 6 rfl rfl)
theorem dX22_add_30 : decode cX22_add 30 = .ok (.getfield 19, 3) := dk_180 0 19 (dk_at dksX22_add_1 7 rfl rfl)
theorem dX22_add_33 : decode cX22_add 33 = .ok (.invokestatic 23, 3) := dk_184 0 23 (dk_at dksX22_add_1 10 rfl rfl)
theorem dX22_add_36 : decode cX22_add 36 = .ok (.aload_n 0, 1) := dk_42 (dk_at dksX22_add_1 13 rfl rfl)
theorem dX22_add_37 : decode cX22_add 37 = .ok (.aload_n 2, 1) := dk_44 (dk_at dksX22_add_1 14 rfl rfl)
theorem dX22_add_38 : decode cX22_add 38 = .ok (.putfield 9, 3) := dk_181 0 9 (dk_at dksX22_add_1 15 rfl rfl)
theorem dX22_add_41 : decode cX22_add 41 = .ok (.aload_n 0, 1) := dk_42 (dk_at dksX22_add_1 18 rfl rfl)
theorem dX22_add_42 : decode cX22_add 42 = .ok (.getfield 9, 3) := dk_180 0 9 (dk_at dksX22_add_1 19 rfl rfl)
theorem dX22_add_45 : decode cX22_add 45 = .ok (.aload_n 0, 1) := dk_42 (dk_at dksX22_add_1 22 rfl rfl)
theorem dX22_add_46 : decode cX22_add 46 = .ok (.getfield 19, 3) := dk_180 0 19 (dk_at dksX22_add_2 0 rfl rfl)
theorem dX22_add_49 : decode cX22_add 49 = .ok (.aload_n 1, 1) := dk_43 (dk_at dksX22_add_2 3 rfl rfl)
theorem dX22_add_50 : decode cX22_add 50 = .ok (.aastore, 1) := dk_83 (dk_at dksX22_add_2 4 rfl rfl)
theorem dX22_add_51 : decode cX22_add 51 = .ok (.aload_n 0, 1) := dk_42 (dk_at dksX22_add_2 5 rfl rfl)
theorem dX22_add_52 : decode cX22_add 52 = .ok (.dup, 1) := dk_89 (dk_at dksX22_add_2 6 rfl rfl)
theorem dX22_add_53 : decode cX22_add 53 = .ok (.getfield 19, 3) := dk_180 0 19 (dk_at dksX22_add_2 7 rfl rfl)
theorem dX22_add_56 : decode cX22_add 56 = .ok (.iconst 1, 1) := dk_4 (dk_at dksX22_add_2 10 rfl rfl)
theorem dX22_add_57 : decode cX22_add 57 = .ok (.iadd, 1) := dk_96 (dk_at dksX22_add_2 11 rfl rfl)
theorem dX22_add_58 : decode cX22_add 58 = .ok (.putfield 19, 3) := dk_181 0 19 (dk_at dksX22_add_2 12 rfl rfl)
theorem dX22_add_61 : decode cX22_add 61 = .ok (.return_, 1) := dk_177 (dk_at dksX22_add_2 15 rfl rfl)
abbrev cX3_init : ByteArray := prog_19_method_1_code
def yX3_init : MethodName := ⟨RX3, "<init>", "(I)V"⟩
def dkwX3_init_2 : List UInt8 := [167, 0, 4, 2, 79, 132, 3, 1, 167, 255, 230, 132, 2, 1, 167, 255, 217, 177]
abbrev dktX3_init_2 : List UInt8 := dkwX3_init_2 ++ []
def dkwX3_init_1 : List UInt8 := [162, 0, 40, 3, 62, 29, 27, 162, 0, 27, 42, 180, 0, 17, 28, 50, 29, 28, 29, 160, 0, 7, 3]
abbrev dktX3_init_1 : List UInt8 := dkwX3_init_1 ++ dktX3_init_2
def dkwX3_init_0 : List UInt8 := [42, 183, 0, 3, 42, 27, 181, 0, 9, 42, 27, 27, 197, 0, 15, 2, 181, 0, 17, 3, 61, 28, 27]
abbrev dktX3_init_0 : List UInt8 := dkwX3_init_0 ++ dktX3_init_1
theorem dksX3_init_0 : cX3_init.data.toList.drop 0 = dktX3_init_0 := by decide +kernel
theorem dksX3_init_1 : cX3_init.data.toList.drop 23 = dktX3_init_1 := dk_seg dksX3_init_0 23 rfl rfl
theorem dksX3_init_2 : cX3_init.data.toList.drop 46 = dktX3_init_2 := dk_seg dksX3_init_1 23 rfl rfl
theorem dX3_init_0 : decode cX3_init 0 = .ok (.aload_n 0, 1) := dk_42 (dk_at dksX3_init_0 0 rfl rfl)
theorem dX3_init_1 : decode cX3_init 1 = .ok (.invokespecial 3, 3) := dk_183 0 3 (dk_at dksX3_init_0 1 rfl rfl)
theorem dX3_init_4 : decode cX3_init 4 = .ok (.aload_n 0, 1) := dk_42 (dk_at dksX3_init_0 4 rfl rfl)
theorem dX3_init_5 : decode cX3_init 5 = .ok (.iload_n 1, 1) := dk_27 (dk_at dksX3_init_0 5 rfl rfl)
theorem dX3_init_6 : decode cX3_init 6 = .ok (.putfield 9, 3) := dk_181 0 9 (dk_at dksX3_init_0 6 rfl rfl)
theorem dX3_init_9 : decode cX3_init 9 = .ok (.aload_n 0, 1) := dk_42 (dk_at dksX3_init_0 9 rfl rfl)
theorem dX3_init_10 : decode cX3_init 10 = .ok (.iload_n 1, 1) := dk_27 (dk_at dksX3_init_0 10 rfl rfl)
theorem dX3_init_11 : decode cX3_init 11 = .ok (.iload_n 1, 1) := dk_27 (dk_at dksX3_init_0 11 rfl rfl)
theorem dX3_init_12 : decode cX3_init 12 = .ok (.multianewarray 15 2, 4) := by decide +kernel
theorem dX3_init_16 : decode cX3_init 16 = .ok (.putfield 17, 3) := dk_181 0 17 (dk_at dksX3_init_0 16 rfl rfl)
theorem dX3_init_19 : decode cX3_init 19 = .ok (.iconst 0, 1) := dk_3 (dk_at dksX3_init_0 19 rfl rfl)
theorem dX3_init_20 : decode cX3_init 20 = .ok (.istore_n 2, 1) := dk_61 (dk_at dksX3_init_0 20 rfl rfl)
theorem dX3_init_21 : decode cX3_init 21 = .ok (.iload_n 2, 1) := dk_28 (dk_at dksX3_init_0 21 rfl rfl)
theorem dX3_init_22 : decode cX3_init 22 = .ok (.iload_n 1, 1) := dk_27 (dk_at dksX3_init_0 22 rfl rfl)
theorem dX3_init_23 : decode cX3_init 23 = .ok (.if_icmp .ge 40, 3) := dk_162 0 40 (dk_at dksX3_init_1 0 rfl rfl)
theorem dX3_init_26 : decode cX3_init 26 = .ok (.iconst 0, 1) := dk_3 (dk_at dksX3_init_1 3 rfl rfl)
theorem dX3_init_27 : decode cX3_init 27 = .ok (.istore_n 3, 1) := dk_62 (dk_at dksX3_init_1 4 rfl rfl)
theorem dX3_init_28 : decode cX3_init 28 = .ok (.iload_n 3, 1) := dk_29 (dk_at dksX3_init_1 5 rfl rfl)
theorem dX3_init_29 : decode cX3_init 29 = .ok (.iload_n 1, 1) := dk_27 (dk_at dksX3_init_1 6 rfl rfl)
theorem dX3_init_30 : decode cX3_init 30 = .ok (.if_icmp .ge 27, 3) := dk_162 0 27 (dk_at dksX3_init_1 7 rfl rfl)
theorem dX3_init_33 : decode cX3_init 33 = .ok (.aload_n 0, 1) := dk_42 (dk_at dksX3_init_1 10 rfl rfl)
theorem dX3_init_34 : decode cX3_init 34 = .ok (.getfield 17, 3) := dk_180 0 17 (dk_at dksX3_init_1 11 rfl rfl)
theorem dX3_init_37 : decode cX3_init 37 = .ok (.iload_n 2, 1) := dk_28 (dk_at dksX3_init_1 14 rfl rfl)
theorem dX3_init_38 : decode cX3_init 38 = .ok (.aaload, 1) := dk_50 (dk_at dksX3_init_1 15 rfl rfl)
theorem dX3_init_39 : decode cX3_init 39 = .ok (.iload_n 3, 1) := dk_29 (dk_at dksX3_init_1 16 rfl rfl)
theorem dX3_init_40 : decode cX3_init 40 = .ok (.iload_n 2, 1) := dk_28 (dk_at dksX3_init_1 17 rfl rfl)
theorem dX3_init_41 : decode cX3_init 41 = .ok (.iload_n 3, 1) := dk_29 (dk_at dksX3_init_1 18 rfl rfl)
theorem dX3_init_42 : decode cX3_init 42 = .ok (.if_icmp .ne 7, 3) := dk_160 0 7 (dk_at dksX3_init_1 19 rfl rfl)
theorem dX3_init_45 : decode cX3_init 45 = .ok (.iconst 0, 1) := dk_3 (dk_at dksX3_init_1 22 rfl rfl)
theorem dX3_init_46 : decode cX3_init 46 = .ok (.goto 4, 3) := dk_167 0 4 (dk_at dksX3_init_2 0 rfl rfl)
theorem dX3_init_49 : decode cX3_init 49 = .ok (.iconst (-1), 1) := dk_2 (dk_at dksX3_init_2 3 rfl rfl)
theorem dX3_init_50 : decode cX3_init 50 = .ok (.iastore, 1) := dk_79 (dk_at dksX3_init_2 4 rfl rfl)
theorem dX3_init_51 : decode cX3_init 51 = .ok (.iinc 3 1, 3) := dk_132 3 1 (dk_at dksX3_init_2 5 rfl rfl)
theorem dX3_init_54 : decode cX3_init 54 = .ok (.goto (-26), 3) := dk_167 255 230 (dk_at dksX3_init_2 8 rfl rfl)
theorem dX3_init_57 : decode cX3_init 57 = .ok (.iinc 2 1, 3) := dk_132 2 1 (dk_at dksX3_init_2 11 rfl rfl)
theorem dX3_init_60 : decode cX3_init 60 = .ok (.goto (-39), 3) := dk_167 255 217 (dk_at dksX3_init_2 14 rfl rfl)
theorem dX3_init_63 : decode cX3_init 63 = .ok (.return_, 1) := dk_177 (dk_at dksX3_init_2 17 rfl rfl)
abbrev cX3_hasRoad : ByteArray := prog_19_method_2_code
def yX3_hasRoad : MethodName := ⟨RX3, "hasRoad", "(II)Z"⟩
def dkwX3_hasRoad_0 : List UInt8 := [42, 180, 0, 17, 27, 50, 28, 46, 2, 159, 0, 7, 4, 167, 0, 4, 3, 172]
abbrev dktX3_hasRoad_0 : List UInt8 := dkwX3_hasRoad_0 ++ []
theorem dksX3_hasRoad_0 : cX3_hasRoad.data.toList.drop 0 = dktX3_hasRoad_0 := by decide +kernel
theorem dX3_hasRoad_0 : decode cX3_hasRoad 0 = .ok (.aload_n 0, 1) := dk_42 (dk_at dksX3_hasRoad_0 0 rfl rfl)
theorem dX3_hasRoad_1 : decode cX3_hasRoad 1 = .ok (.getfield 17, 3) := dk_180 0 17 (dk_at dksX3_hasRoad_0 1 rfl rfl)
theorem dX3_hasRoad_4 : decode cX3_hasRoad 4 = .ok (.iload_n 1, 1) := dk_27 (dk_at dksX3_hasRoad_0 4 rfl rfl)
theorem dX3_hasRoad_5 : decode cX3_hasRoad 5 = .ok (.aaload, 1) := dk_50 (dk_at dksX3_hasRoad_0 5 rfl rfl)
theorem dX3_hasRoad_6 : decode cX3_hasRoad 6 = .ok (.iload_n 2, 1) := dk_28 (dk_at dksX3_hasRoad_0 6 rfl rfl)
theorem dX3_hasRoad_7 : decode cX3_hasRoad 7 = .ok (.iaload, 1) := dk_46 (dk_at dksX3_hasRoad_0 7 rfl rfl)
theorem dX3_hasRoad_8 : decode cX3_hasRoad 8 = .ok (.iconst (-1), 1) := dk_2 (dk_at dksX3_hasRoad_0 8 rfl rfl)
theorem dX3_hasRoad_9 : decode cX3_hasRoad 9 = .ok (.if_icmp .eq 7, 3) := dk_159 0 7 (dk_at dksX3_hasRoad_0 9 rfl rfl)
theorem dX3_hasRoad_12 : decode cX3_hasRoad 12 = .ok (.iconst 1, 1) := dk_4 (dk_at dksX3_hasRoad_0 12 rfl rfl)
theorem dX3_hasRoad_13 : decode cX3_hasRoad 13 = .ok (.goto 4, 3) := dk_167 0 4 (dk_at dksX3_hasRoad_0 13 rfl rfl)
theorem dX3_hasRoad_16 : decode cX3_hasRoad 16 = .ok (.iconst 0, 1) := dk_3 (dk_at dksX3_hasRoad_0 16 rfl rfl)
theorem dX3_hasRoad_17 : decode cX3_hasRoad 17 = .ok (.ireturn, 1) := dk_172 (dk_at dksX3_hasRoad_0 17 rfl rfl)
abbrev cX3_add : ByteArray := prog_19_method_3_code
def yX3_add : MethodName := ⟨RX3, "add", "(III)V"⟩
def dkwX3_add_1 : List UInt8 := [96, 181, 0, 20, 177]
abbrev dktX3_add_1 : List UInt8 := dkwX3_add_1 ++ []
def dkwX3_add_0 : List UInt8 := [42, 180, 0, 17, 27, 50, 28, 29, 79, 42, 180, 0, 17, 28, 50, 27, 29, 79, 42, 89, 180, 0, 20, 4]
abbrev dktX3_add_0 : List UInt8 := dkwX3_add_0 ++ dktX3_add_1
theorem dksX3_add_0 : cX3_add.data.toList.drop 0 = dktX3_add_0 := by decide +kernel
theorem dksX3_add_1 : cX3_add.data.toList.drop 24 = dktX3_add_1 := dk_seg dksX3_add_0 24 rfl rfl
theorem dX3_add_0 : decode cX3_add 0 = .ok (.aload_n 0, 1) := dk_42 (dk_at dksX3_add_0 0 rfl rfl)
theorem dX3_add_1 : decode cX3_add 1 = .ok (.getfield 17, 3) := dk_180 0 17 (dk_at dksX3_add_0 1 rfl rfl)
theorem dX3_add_4 : decode cX3_add 4 = .ok (.iload_n 1, 1) := dk_27 (dk_at dksX3_add_0 4 rfl rfl)
theorem dX3_add_5 : decode cX3_add 5 = .ok (.aaload, 1) := dk_50 (dk_at dksX3_add_0 5 rfl rfl)
theorem dX3_add_6 : decode cX3_add 6 = .ok (.iload_n 2, 1) := dk_28 (dk_at dksX3_add_0 6 rfl rfl)
theorem dX3_add_7 : decode cX3_add 7 = .ok (.iload_n 3, 1) := dk_29 (dk_at dksX3_add_0 7 rfl rfl)
theorem dX3_add_8 : decode cX3_add 8 = .ok (.iastore, 1) := dk_79 (dk_at dksX3_add_0 8 rfl rfl)
theorem dX3_add_9 : decode cX3_add 9 = .ok (.aload_n 0, 1) := dk_42 (dk_at dksX3_add_0 9 rfl rfl)
theorem dX3_add_10 : decode cX3_add 10 = .ok (.getfield 17, 3) := dk_180 0 17 (dk_at dksX3_add_0 10 rfl rfl)
theorem dX3_add_13 : decode cX3_add 13 = .ok (.iload_n 2, 1) := dk_28 (dk_at dksX3_add_0 13 rfl rfl)
theorem dX3_add_14 : decode cX3_add 14 = .ok (.aaload, 1) := dk_50 (dk_at dksX3_add_0 14 rfl rfl)
theorem dX3_add_15 : decode cX3_add 15 = .ok (.iload_n 1, 1) := dk_27 (dk_at dksX3_add_0 15 rfl rfl)
theorem dX3_add_16 : decode cX3_add 16 = .ok (.iload_n 3, 1) := dk_29 (dk_at dksX3_add_0 16 rfl rfl)
theorem dX3_add_17 : decode cX3_add 17 = .ok (.iastore, 1) := dk_79 (dk_at dksX3_add_0 17 rfl rfl)
theorem dX3_add_18 : decode cX3_add 18 = .ok (.aload_n 0, 1) := dk_42 (dk_at dksX3_add_0 18 rfl rfl)
theorem dX3_add_19 : decode cX3_add 19 = .ok (.dup, 1) := dk_89 (dk_at dksX3_add_0 19 rfl rfl)
theorem dX3_add_20 : decode cX3_add 20 = .ok (.getfield 20, 3) := dk_180 0 20 (dk_at dksX3_add_0 20 rfl rfl)
theorem dX3_add_23 : decode cX3_add 23 = .ok (.iconst 1, 1) := dk_4 (dk_at dksX3_add_0 23 rfl rfl)
theorem dX3_add_24 : decode cX3_add 24 = .ok (.iadd, 1) := dk_96 (dk_at dksX3_add_1 0 rfl rfl)
theorem dX3_add_25 : decode cX3_add 25 = .ok (.putfield 20, 3) := dk_181 0 20 (dk_at dksX3_add_1 1 rfl rfl)
theorem dX3_add_28 : decode cX3_add 28 = .ok (.return_, 1) := dk_177 (dk_at dksX3_add_1 4 rfl rfl)
abbrev cX3_finish : ByteArray := prog_19_method_4_code
def yX3_finish : MethodName := ⟨RX3, "finish", "()V"⟩
def dkwX3_finish_2 : List UInt8 := [167, 255, 222, 132, 1, 1, 167, 255, 206, 177]
abbrev dktX3_finish_2 : List UInt8 := dkwX3_finish_2 ++ []
def dkwX3_finish_1 : List UInt8 := [180, 0, 9, 162, 0, 16, 42, 28, 27, 29, 182, 0, 23, 132, 3, 1, 167, 255, 238, 132, 2, 1]
abbrev dktX3_finish_1 : List UInt8 := dkwX3_finish_1 ++ dktX3_finish_2
def dkwX3_finish_0 : List UInt8 := [3, 60, 27, 42, 180, 0, 9, 162, 0, 48, 3, 61, 28, 42, 180, 0, 9, 162, 0, 32, 3, 62, 29, 42]
abbrev dktX3_finish_0 : List UInt8 := dkwX3_finish_0 ++ dktX3_finish_1
theorem dksX3_finish_0 : cX3_finish.data.toList.drop 0 = dktX3_finish_0 := by decide +kernel
theorem dksX3_finish_1 : cX3_finish.data.toList.drop 24 = dktX3_finish_1 := dk_seg dksX3_finish_0 24 rfl rfl
theorem dksX3_finish_2 : cX3_finish.data.toList.drop 46 = dktX3_finish_2 := dk_seg dksX3_finish_1 22 rfl rfl
theorem dX3_finish_0 : decode cX3_finish 0 = .ok (.iconst 0, 1) := dk_3 (dk_at dksX3_finish_0 0 rfl rfl)
theorem dX3_finish_1 : decode cX3_finish 1 = .ok (.istore_n 1, 1) := dk_60 (dk_at dksX3_finish_0 1 rfl rfl)
theorem dX3_finish_2 : decode cX3_finish 2 = .ok (.iload_n 1, 1) := dk_27 (dk_at dksX3_finish_0 2 rfl rfl)
theorem dX3_finish_3 : decode cX3_finish 3 = .ok (.aload_n 0, 1) := dk_42 (dk_at dksX3_finish_0 3 rfl rfl)
theorem dX3_finish_4 : decode cX3_finish 4 = .ok (.getfield 9, 3) := dk_180 0 9 (dk_at dksX3_finish_0 4 rfl rfl)
theorem dX3_finish_7 : decode cX3_finish 7 = .ok (.if_icmp .ge 48, 3) := dk_162 0 48 (dk_at dksX3_finish_0 7 rfl rfl)
theorem dX3_finish_10 : decode cX3_finish 10 = .ok (.iconst 0, 1) := dk_3 (dk_at dksX3_finish_0 10 rfl rfl)
theorem dX3_finish_11 : decode cX3_finish 11 = .ok (.istore_n 2, 1) := dk_61 (dk_at dksX3_finish_0 11 rfl rfl)
theorem dX3_finish_12 : decode cX3_finish 12 = .ok (.iload_n 2, 1) := dk_28 (dk_at dksX3_finish_0 12 rfl rfl)
theorem dX3_finish_13 : decode cX3_finish 13 = .ok (.aload_n 0, 1) := dk_42 (dk_at dksX3_finish_0 13 rfl rfl)
theorem dX3_finish_14 : decode cX3_finish 14 = .ok (.getfield 9, 3) := dk_180 0 9 (dk_at dksX3_finish_0 14 rfl rfl)
theorem dX3_finish_17 : decode cX3_finish 17 = .ok (.if_icmp .ge 32, 3) := dk_162 0 32 (dk_at dksX3_finish_0 17 rfl rfl)
theorem dX3_finish_20 : decode cX3_finish 20 = .ok (.iconst 0, 1) := dk_3 (dk_at dksX3_finish_0 20 rfl rfl)
theorem dX3_finish_21 : decode cX3_finish 21 = .ok (.istore_n 3, 1) := dk_62 (dk_at dksX3_finish_0 21 rfl rfl)
theorem dX3_finish_22 : decode cX3_finish 22 = .ok (.iload_n 3, 1) := dk_29 (dk_at dksX3_finish_0 22 rfl rfl)
theorem dX3_finish_23 : decode cX3_finish 23 = .ok (.aload_n 0, 1) := dk_42 (dk_at dksX3_finish_0 23 rfl rfl)
theorem dX3_finish_24 : decode cX3_finish 24 = .ok (.getfield 9, 3) := dk_180 0 9 (dk_at dksX3_finish_1 0 rfl rfl)
theorem dX3_finish_27 : decode cX3_finish 27 = .ok (.if_icmp .ge 16, 3) := dk_162 0 16 (dk_at dksX3_finish_1 3 rfl rfl)
theorem dX3_finish_30 : decode cX3_finish 30 = .ok (.aload_n 0, 1) := dk_42 (dk_at dksX3_finish_1 6 rfl rfl)
theorem dX3_finish_31 : decode cX3_finish 31 = .ok (.iload_n 2, 1) := dk_28 (dk_at dksX3_finish_1 7 rfl rfl)
theorem dX3_finish_32 : decode cX3_finish 32 = .ok (.iload_n 1, 1) := dk_27 (dk_at dksX3_finish_1 8 rfl rfl)
theorem dX3_finish_33 : decode cX3_finish 33 = .ok (.iload_n 3, 1) := dk_29 (dk_at dksX3_finish_1 9 rfl rfl)
theorem dX3_finish_34 : decode cX3_finish 34 = .ok (.invokevirtual 23, 3) := dk_182 0 23 (dk_at dksX3_finish_1 10 rfl rfl)
theorem dX3_finish_37 : decode cX3_finish 37 = .ok (.iinc 3 1, 3) := dk_132 3 1 (dk_at dksX3_finish_1 13 rfl rfl)
theorem dX3_finish_40 : decode cX3_finish 40 = .ok (.goto (-18), 3) := dk_167 255 238 (dk_at dksX3_finish_1 16 rfl rfl)
theorem dX3_finish_43 : decode cX3_finish 43 = .ok (.iinc 2 1, 3) := dk_132 2 1 (dk_at dksX3_finish_1 19 rfl rfl)
theorem dX3_finish_46 : decode cX3_finish 46 = .ok (.goto (-34), 3) := dk_167 255 222 (dk_at dksX3_finish_2 0 rfl rfl)
theorem dX3_finish_49 : decode cX3_finish 49 = .ok (.iinc 1 1, 3) := dk_132 1 1 (dk_at dksX3_finish_2 3 rfl rfl)
theorem dX3_finish_52 : decode cX3_finish 52 = .ok (.goto (-50), 3) := dk_167 255 206 (dk_at dksX3_finish_2 6 rfl rfl)
theorem dX3_finish_55 : decode cX3_finish 55 = .ok (.return_, 1) := dk_177 (dk_at dksX3_finish_2 9 rfl rfl)
abbrev cX3_shorten : ByteArray := prog_19_method_5_code
def yX3_shorten : MethodName := ⟨RX3, "shorten", "(III)V"⟩
def dkwX3_shorten_3 : List UInt8 := [21, 5, 96, 79, 177]
abbrev dktX3_shorten_3 : List UInt8 := dkwX3_shorten_3 ++ []
def dkwX3_shorten_2 : List UInt8 := [21, 5, 96, 42, 180, 0, 17, 27, 50, 29, 46, 162, 0, 16, 42, 180, 0, 17, 27, 50, 29, 21, 4]
abbrev dktX3_shorten_2 : List UInt8 := dkwX3_shorten_2 ++ dktX3_shorten_3
def dkwX3_shorten_1 : List UInt8 := [159, 0, 50, 21, 5, 2, 159, 0, 44, 42, 180, 0, 17, 27, 50, 29, 46, 2, 159, 0, 19, 21, 4]
abbrev dktX3_shorten_1 : List UInt8 := dkwX3_shorten_1 ++ dktX3_shorten_2
def dkwX3_shorten_0 : List UInt8 := [42, 180, 0, 17, 27, 50, 28, 46, 54, 4, 42, 180, 0, 17, 28, 50, 29, 46, 54, 5, 21, 4, 2]
abbrev dktX3_shorten_0 : List UInt8 := dkwX3_shorten_0 ++ dktX3_shorten_1
theorem dksX3_shorten_0 : cX3_shorten.data.toList.drop 0 = dktX3_shorten_0 := by decide +kernel
theorem dksX3_shorten_1 : cX3_shorten.data.toList.drop 23 = dktX3_shorten_1 := dk_seg dksX3_shorten_0 23 rfl rfl
theorem dksX3_shorten_2 : cX3_shorten.data.toList.drop 46 = dktX3_shorten_2 := dk_seg dksX3_shorten_1 23 rfl rfl
theorem dksX3_shorten_3 : cX3_shorten.data.toList.drop 69 = dktX3_shorten_3 := dk_seg dksX3_shorten_2 23 rfl rfl
theorem dX3_shorten_0 : decode cX3_shorten 0 = .ok (.aload_n 0, 1) := dk_42 (dk_at dksX3_shorten_0 0 rfl rfl)
theorem dX3_shorten_1 : decode cX3_shorten 1 = .ok (.getfield 17, 3) := dk_180 0 17 (dk_at dksX3_shorten_0 1 rfl rfl)
theorem dX3_shorten_4 : decode cX3_shorten 4 = .ok (.iload_n 1, 1) := dk_27 (dk_at dksX3_shorten_0 4 rfl rfl)
theorem dX3_shorten_5 : decode cX3_shorten 5 = .ok (.aaload, 1) := dk_50 (dk_at dksX3_shorten_0 5 rfl rfl)
theorem dX3_shorten_6 : decode cX3_shorten 6 = .ok (.iload_n 2, 1) := dk_28 (dk_at dksX3_shorten_0 6 rfl rfl)
theorem dX3_shorten_7 : decode cX3_shorten 7 = .ok (.iaload, 1) := dk_46 (dk_at dksX3_shorten_0 7 rfl rfl)
theorem dX3_shorten_8 : decode cX3_shorten 8 = .ok (.istore 4, 2) := dk_54 4 (dk_at dksX3_shorten_0 8 rfl rfl)
theorem dX3_shorten_10 : decode cX3_shorten 10 = .ok (.aload_n 0, 1) := dk_42 (dk_at dksX3_shorten_0 10 rfl rfl)
theorem dX3_shorten_11 : decode cX3_shorten 11 = .ok (.getfield 17, 3) := dk_180 0 17 (dk_at dksX3_shorten_0 11 rfl rfl)
theorem dX3_shorten_14 : decode cX3_shorten 14 = .ok (.iload_n 2, 1) := dk_28 (dk_at dksX3_shorten_0 14 rfl rfl)
theorem dX3_shorten_15 : decode cX3_shorten 15 = .ok (.aaload, 1) := dk_50 (dk_at dksX3_shorten_0 15 rfl rfl)
theorem dX3_shorten_16 : decode cX3_shorten 16 = .ok (.iload_n 3, 1) := dk_29 (dk_at dksX3_shorten_0 16 rfl rfl)
theorem dX3_shorten_17 : decode cX3_shorten 17 = .ok (.iaload, 1) := dk_46 (dk_at dksX3_shorten_0 17 rfl rfl)
theorem dX3_shorten_18 : decode cX3_shorten 18 = .ok (.istore 5, 2) := dk_54 5 (dk_at dksX3_shorten_0 18 rfl rfl)
theorem dX3_shorten_20 : decode cX3_shorten 20 = .ok (.iload 4, 2) := dk_21 4 (dk_at dksX3_shorten_0 20 rfl rfl)
theorem dX3_shorten_22 : decode cX3_shorten 22 = .ok (.iconst (-1), 1) := dk_2 (dk_at dksX3_shorten_0 22 rfl rfl)
theorem dX3_shorten_23 : decode cX3_shorten 23 = .ok (.if_icmp .eq 50, 3) := dk_159 0 50 (dk_at dksX3_shorten_1 0 rfl rfl)
theorem dX3_shorten_26 : decode cX3_shorten 26 = .ok (.iload 5, 2) := dk_21 5 (dk_at dksX3_shorten_1 3 rfl rfl)
theorem dX3_shorten_28 : decode cX3_shorten 28 = .ok (.iconst (-1), 1) := dk_2 (dk_at dksX3_shorten_1 5 rfl rfl)
theorem dX3_shorten_29 : decode cX3_shorten 29 = .ok (.if_icmp .eq 44, 3) := dk_159 0 44 (dk_at dksX3_shorten_1 6 rfl rfl)
theorem dX3_shorten_32 : decode cX3_shorten 32 = .ok (.aload_n 0, 1) := dk_42 (dk_at dksX3_shorten_1 9 rfl rfl)
theorem dX3_shorten_33 : decode cX3_shorten 33 = .ok (.getfield 17, 3) := dk_180 0 17 (dk_at dksX3_shorten_1 10 rfl rfl)
theorem dX3_shorten_36 : decode cX3_shorten 36 = .ok (.iload_n 1, 1) := dk_27 (dk_at dksX3_shorten_1 13 rfl rfl)
theorem dX3_shorten_37 : decode cX3_shorten 37 = .ok (.aaload, 1) := dk_50 (dk_at dksX3_shorten_1 14 rfl rfl)
theorem dX3_shorten_38 : decode cX3_shorten 38 = .ok (.iload_n 3, 1) := dk_29 (dk_at dksX3_shorten_1 15 rfl rfl)
theorem dX3_shorten_39 : decode cX3_shorten 39 = .ok (.iaload, 1) := dk_46 (dk_at dksX3_shorten_1 16 rfl rfl)
theorem dX3_shorten_40 : decode cX3_shorten 40 = .ok (.iconst (-1), 1) := dk_2 (dk_at dksX3_shorten_1 17 rfl rfl)
theorem dX3_shorten_41 : decode cX3_shorten 41 = .ok (.if_icmp .eq 19, 3) := dk_159 0 19 (dk_at dksX3_shorten_1 18 rfl rfl)
theorem dX3_shorten_44 : decode cX3_shorten 44 = .ok (.iload 4, 2) := dk_21 4 (dk_at dksX3_shorten_1 21 rfl rfl)
theorem dX3_shorten_46 : decode cX3_shorten 46 = .ok (.iload 5, 2) := dk_21 5 (dk_at dksX3_shorten_2 0 rfl rfl)
theorem dX3_shorten_48 : decode cX3_shorten 48 = .ok (.iadd, 1) := dk_96 (dk_at dksX3_shorten_2 2 rfl rfl)
theorem dX3_shorten_49 : decode cX3_shorten 49 = .ok (.aload_n 0, 1) := dk_42 (dk_at dksX3_shorten_2 3 rfl rfl)
theorem dX3_shorten_50 : decode cX3_shorten 50 = .ok (.getfield 17, 3) := dk_180 0 17 (dk_at dksX3_shorten_2 4 rfl rfl)
theorem dX3_shorten_53 : decode cX3_shorten 53 = .ok (.iload_n 1, 1) := dk_27 (dk_at dksX3_shorten_2 7 rfl rfl)
theorem dX3_shorten_54 : decode cX3_shorten 54 = .ok (.aaload, 1) := dk_50 (dk_at dksX3_shorten_2 8 rfl rfl)
theorem dX3_shorten_55 : decode cX3_shorten 55 = .ok (.iload_n 3, 1) := dk_29 (dk_at dksX3_shorten_2 9 rfl rfl)
theorem dX3_shorten_56 : decode cX3_shorten 56 = .ok (.iaload, 1) := dk_46 (dk_at dksX3_shorten_2 10 rfl rfl)
theorem dX3_shorten_57 : decode cX3_shorten 57 = .ok (.if_icmp .ge 16, 3) := dk_162 0 16 (dk_at dksX3_shorten_2 11 rfl rfl)
theorem dX3_shorten_60 : decode cX3_shorten 60 = .ok (.aload_n 0, 1) := dk_42 (dk_at dksX3_shorten_2 14 rfl rfl)
theorem dX3_shorten_61 : decode cX3_shorten 61 = .ok (.getfield 17, 3) := dk_180 0 17 (dk_at dksX3_shorten_2 15 rfl rfl)
theorem dX3_shorten_64 : decode cX3_shorten 64 = .ok (.iload_n 1, 1) := dk_27 (dk_at dksX3_shorten_2 18 rfl rfl)
theorem dX3_shorten_65 : decode cX3_shorten 65 = .ok (.aaload, 1) := dk_50 (dk_at dksX3_shorten_2 19 rfl rfl)
theorem dX3_shorten_66 : decode cX3_shorten 66 = .ok (.iload_n 3, 1) := dk_29 (dk_at dksX3_shorten_2 20 rfl rfl)
theorem dX3_shorten_67 : decode cX3_shorten 67 = .ok (.iload 4, 2) := dk_21 4 (dk_at dksX3_shorten_2 21 rfl rfl)
theorem dX3_shorten_69 : decode cX3_shorten 69 = .ok (.iload 5, 2) := dk_21 5 (dk_at dksX3_shorten_3 0 rfl rfl)
theorem dX3_shorten_71 : decode cX3_shorten 71 = .ok (.iadd, 1) := dk_96 (dk_at dksX3_shorten_3 2 rfl rfl)
theorem dX3_shorten_72 : decode cX3_shorten 72 = .ok (.iastore, 1) := dk_79 (dk_at dksX3_shorten_3 3 rfl rfl)
theorem dX3_shorten_73 : decode cX3_shorten 73 = .ok (.return_, 1) := dk_177 (dk_at dksX3_shorten_3 4 rfl rfl)
abbrev cX5_init : ByteArray := prog_8_method_1_code
def yX5_init : MethodName := ⟨RX5, "<init>", "(LSharedTaxis$Scanner;)V"⟩
def dkwX5_init_0 : List UInt8 := [42, 183, 0, 3, 42, 43, 181, 0, 9, 177]
abbrev dktX5_init_0 : List UInt8 := dkwX5_init_0 ++ []
theorem dksX5_init_0 : cX5_init.data.toList.drop 0 = dktX5_init_0 := by decide +kernel
theorem dX5_init_0 : decode cX5_init 0 = .ok (.aload_n 0, 1) := dk_42 (dk_at dksX5_init_0 0 rfl rfl)
theorem dX5_init_1 : decode cX5_init 1 = .ok (.invokespecial 3, 3) := dk_183 0 3 (dk_at dksX5_init_0 1 rfl rfl)
theorem dX5_init_4 : decode cX5_init 4 = .ok (.aload_n 0, 1) := dk_42 (dk_at dksX5_init_0 4 rfl rfl)
theorem dX5_init_5 : decode cX5_init 5 = .ok (.aload_n 1, 1) := dk_43 (dk_at dksX5_init_0 5 rfl rfl)
theorem dX5_init_6 : decode cX5_init 6 = .ok (.putfield 9, 3) := dk_181 0 9 (dk_at dksX5_init_0 6 rfl rfl)
theorem dX5_init_9 : decode cX5_init 9 = .ok (.return_, 1) := dk_177 (dk_at dksX5_init_0 9 rfl rfl)
abbrev cX5_read : ByteArray := prog_8_method_8_code
def yX5_read : MethodName := ⟨RX5, "read", "()LSharedTaxis$State;"⟩
def dkwX5_read_3 : List UInt8 := [180, 0, 15, 182, 0, 151, 43, 176]
abbrev dktX5_read_3 : List UInt8 := dkwX5_read_3 ++ []
def dkwX5_read_2 : List UInt8 := [183, 0, 142, 76, 42, 180, 0, 9, 180, 0, 145, 153, 0, 11, 42, 43, 182, 0, 148, 167, 255, 241, 42]
abbrev dktX5_read_2 : List UInt8 := dkwX5_read_2 ++ dktX5_read_3
def dkwX5_read_1 : List UInt8 := [183, 0, 141, 181, 0, 15, 42, 180, 0, 9, 16, 59, 182, 0, 136, 187, 0, 62, 89, 42, 180, 0, 15]
abbrev dktX5_read_1 : List UInt8 := dkwX5_read_1 ++ dktX5_read_2
def dkwX5_read_0 : List UInt8 := [42, 180, 0, 9, 18, 140, 182, 0, 130, 42, 187, 0, 20, 89, 42, 180, 0, 9, 5, 16, 8, 182, 0, 25]
abbrev dktX5_read_0 : List UInt8 := dkwX5_read_0 ++ dktX5_read_1
theorem dksX5_read_0 : cX5_read.data.toList.drop 0 = dktX5_read_0 := by decide +kernel
theorem dksX5_read_1 : cX5_read.data.toList.drop 24 = dktX5_read_1 := dk_seg dksX5_read_0 24 rfl rfl
theorem dksX5_read_2 : cX5_read.data.toList.drop 47 = dktX5_read_2 := dk_seg dksX5_read_1 23 rfl rfl
theorem dksX5_read_3 : cX5_read.data.toList.drop 70 = dktX5_read_3 := dk_seg dksX5_read_2 23 rfl rfl
theorem dX5_read_0 : decode cX5_read 0 = .ok (.aload_n 0, 1) := dk_42 (dk_at dksX5_read_0 0 rfl rfl)
theorem dX5_read_1 : decode cX5_read 1 = .ok (.getfield 9, 3) := dk_180 0 9 (dk_at dksX5_read_0 1 rfl rfl)
theorem dX5_read_4 : decode cX5_read 4 = .ok (.ldc 140, 2) := dk_18 140 (dk_at dksX5_read_0 4 rfl rfl)
theorem dX5_read_6 : decode cX5_read 6 = .ok (.invokevirtual 130, 3) := dk_182 0 130 (dk_at dksX5_read_0 6 rfl rfl)
theorem dX5_read_9 : decode cX5_read 9 = .ok (.aload_n 0, 1) := dk_42 (dk_at dksX5_read_0 9 rfl rfl)
theorem dX5_read_10 : decode cX5_read 10 = .ok (.new 20, 3) := dk_187 0 20 (dk_at dksX5_read_0 10 rfl rfl)
theorem dX5_read_13 : decode cX5_read 13 = .ok (.dup, 1) := dk_89 (dk_at dksX5_read_0 13 rfl rfl)
theorem dX5_read_14 : decode cX5_read 14 = .ok (.aload_n 0, 1) := dk_42 (dk_at dksX5_read_0 14 rfl rfl)
theorem dX5_read_15 : decode cX5_read 15 = .ok (.getfield 9, 3) := dk_180 0 9 (dk_at dksX5_read_0 15 rfl rfl)
theorem dX5_read_18 : decode cX5_read 18 = .ok (.iconst 2, 1) := dk_5 (dk_at dksX5_read_0 18 rfl rfl)
theorem dX5_read_19 : decode cX5_read 19 = .ok (.bipush 8, 2) := dk_16 8 (dk_at dksX5_read_0 19 rfl rfl)
theorem dX5_read_21 : decode cX5_read 21 = .ok (.invokevirtual 25, 3) := dk_182 0 25 (dk_at dksX5_read_0 21 rfl rfl)
theorem dX5_read_24 : decode cX5_read 24 = .ok (.invokespecial 141, 3) := dk_183 0 141 (dk_at dksX5_read_1 0 rfl rfl)
theorem dX5_read_27 : decode cX5_read 27 = .ok (.putfield 15, 3) := dk_181 0 15 (dk_at dksX5_read_1 3 rfl rfl)
theorem dX5_read_30 : decode cX5_read 30 = .ok (.aload_n 0, 1) := dk_42 (dk_at dksX5_read_1 6 rfl rfl)
theorem dX5_read_31 : decode cX5_read 31 = .ok (.getfield 9, 3) := dk_180 0 9 (dk_at dksX5_read_1 7 rfl rfl)
theorem dX5_read_34 : decode cX5_read 34 = .ok (.bipush 59, 2) := dk_16 59 (dk_at dksX5_read_1 10 rfl rfl)
theorem dX5_read_36 : decode cX5_read 36 = .ok (.invokevirtual 136, 3) := dk_182 0 136 (dk_at dksX5_read_1 12 rfl rfl)
theorem dX5_read_39 : decode cX5_read 39 = .ok (.new 62, 3) := dk_187 0 62 (dk_at dksX5_read_1 15 rfl rfl)
theorem dX5_read_42 : decode cX5_read 42 = .ok (.dup, 1) := dk_89 (dk_at dksX5_read_1 18 rfl rfl)
theorem dX5_read_43 : decode cX5_read 43 = .ok (.aload_n 0, 1) := dk_42 (dk_at dksX5_read_1 19 rfl rfl)
theorem dX5_read_44 : decode cX5_read 44 = .ok (.getfield 15, 3) := dk_180 0 15 (dk_at dksX5_read_1 20 rfl rfl)
theorem dX5_read_47 : decode cX5_read 47 = .ok (.invokespecial 142, 3) := dk_183 0 142 (dk_at dksX5_read_2 0 rfl rfl)
theorem dX5_read_50 : decode cX5_read 50 = .ok (.astore_n 1, 1) := dk_76 (dk_at dksX5_read_2 3 rfl rfl)
theorem dX5_read_51 : decode cX5_read 51 = .ok (.aload_n 0, 1) := dk_42 (dk_at dksX5_read_2 4 rfl rfl)
theorem dX5_read_52 : decode cX5_read 52 = .ok (.getfield 9, 3) := dk_180 0 9 (dk_at dksX5_read_2 5 rfl rfl)
theorem dX5_read_55 : decode cX5_read 55 = .ok (.getfield 145, 3) := dk_180 0 145 (dk_at dksX5_read_2 8 rfl rfl)
theorem dX5_read_58 : decode cX5_read 58 = .ok (.ifCond .eq 11, 3) := dk_153 0 11 (dk_at dksX5_read_2 11 rfl rfl)
theorem dX5_read_61 : decode cX5_read 61 = .ok (.aload_n 0, 1) := dk_42 (dk_at dksX5_read_2 14 rfl rfl)
theorem dX5_read_62 : decode cX5_read 62 = .ok (.aload_n 1, 1) := dk_43 (dk_at dksX5_read_2 15 rfl rfl)
theorem dX5_read_63 : decode cX5_read 63 = .ok (.invokevirtual 148, 3) := dk_182 0 148 (dk_at dksX5_read_2 16 rfl rfl)
theorem dX5_read_66 : decode cX5_read 66 = .ok (.goto (-15), 3) := dk_167 255 241 (dk_at dksX5_read_2 19 rfl rfl)
theorem dX5_read_69 : decode cX5_read 69 = .ok (.aload_n 0, 1) := dk_42 (dk_at dksX5_read_2 22 rfl rfl)
theorem dX5_read_70 : decode cX5_read 70 = .ok (.getfield 15, 3) := dk_180 0 15 (dk_at dksX5_read_3 0 rfl rfl)
theorem dX5_read_73 : decode cX5_read 73 = .ok (.invokevirtual 151, 3) := dk_182 0 151 (dk_at dksX5_read_3 3 rfl rfl)
theorem dX5_read_76 : decode cX5_read 76 = .ok (.aload_n 1, 1) := dk_43 (dk_at dksX5_read_3 6 rfl rfl)
theorem dX5_read_77 : decode cX5_read 77 = .ok (.areturn, 1) := dk_176 (dk_at dksX5_read_3 7 rfl rfl)
abbrev cX5_clause : ByteArray := prog_8_method_7_code
def yX5_clause : MethodName := ⟨RX5, "clause", "(LSharedTaxis$State;)V"⟩
def dkwX5_clause_6 : List UInt8 := [182, 0, 134, 42, 180, 0, 9, 16, 59, 182, 0, 136, 177]
abbrev dktX5_clause_6 : List UInt8 := dkwX5_clause_6 ++ []
def dkwX5_clause_5 : List UInt8 := [3, 16, 7, 184, 0, 99, 182, 0, 25, 79, 167, 0, 17, 42, 180, 0, 9, 18, 128, 182, 0, 130, 42, 43]
abbrev dktX5_clause_5 : List UInt8 := dkwX5_clause_5 ++ dktX5_clause_6
def dkwX5_clause_4 : List UInt8 := [42, 180, 0, 9, 5, 7, 182, 0, 25, 61, 43, 180, 0, 91, 16, 7, 28, 96, 5, 100, 42, 180, 0, 9]
abbrev dktX5_clause_4 : List UInt8 := dkwX5_clause_4 ++ dktX5_clause_5
def dkwX5_clause_3 : List UInt8 := [17, 3, 231, 182, 0, 25, 181, 0, 123, 167, 0, 66, 42, 180, 0, 9, 18, 126, 182, 0, 87, 153, 0, 40]
abbrev dktX5_clause_3 : List UInt8 := dkwX5_clause_3 ++ dktX5_clause_4
def dkwX5_clause_2 : List UInt8 := [153, 0, 36, 43, 42, 180, 0, 9, 3, 17, 39, 15, 182, 0, 25, 181, 0, 120, 43, 42, 180, 0, 9, 3]
abbrev dktX5_clause_2 : List UInt8 := dkwX5_clause_2 ++ dktX5_clause_3
def dkwX5_clause_1 : List UInt8 := [18, 114, 182, 0, 87, 153, 0, 10, 42, 182, 0, 116, 167, 0, 111, 42, 180, 0, 9, 18, 118, 182, 0, 87]
abbrev dktX5_clause_1 : List UInt8 := dkwX5_clause_1 ++ dktX5_clause_2
def dkwX5_clause_0 : List UInt8 := [42, 180, 0, 9, 18, 106, 182, 0, 108, 153, 0, 11, 42, 43, 182, 0, 111, 167, 0, 130, 42, 180, 0, 9]
abbrev dktX5_clause_0 : List UInt8 := dkwX5_clause_0 ++ dktX5_clause_1
theorem dksX5_clause_0 : cX5_clause.data.toList.drop 0 = dktX5_clause_0 := by decide +kernel
theorem dksX5_clause_1 : cX5_clause.data.toList.drop 24 = dktX5_clause_1 := dk_seg dksX5_clause_0 24 rfl rfl
theorem dksX5_clause_2 : cX5_clause.data.toList.drop 48 = dktX5_clause_2 := dk_seg dksX5_clause_1 24 rfl rfl
theorem dksX5_clause_3 : cX5_clause.data.toList.drop 72 = dktX5_clause_3 := dk_seg dksX5_clause_2 24 rfl rfl
theorem dksX5_clause_4 : cX5_clause.data.toList.drop 96 = dktX5_clause_4 := dk_seg dksX5_clause_3 24 rfl rfl
theorem dksX5_clause_5 : cX5_clause.data.toList.drop 120 = dktX5_clause_5 := dk_seg dksX5_clause_4 24 rfl rfl
theorem dksX5_clause_6 : cX5_clause.data.toList.drop 144 = dktX5_clause_6 := dk_seg dksX5_clause_5 24 rfl rfl
theorem dX5_clause_0 : decode cX5_clause 0 = .ok (.aload_n 0, 1) := dk_42 (dk_at dksX5_clause_0 0 rfl rfl)
theorem dX5_clause_1 : decode cX5_clause 1 = .ok (.getfield 9, 3) := dk_180 0 9 (dk_at dksX5_clause_0 1 rfl rfl)
theorem dX5_clause_4 : decode cX5_clause 4 = .ok (.ldc 106, 2) := dk_18 106 (dk_at dksX5_clause_0 4 rfl rfl)
theorem dX5_clause_6 : decode cX5_clause 6 = .ok (.invokevirtual 108, 3) := dk_182 0 108 (dk_at dksX5_clause_0 6 rfl rfl)
theorem dX5_clause_9 : decode cX5_clause 9 = .ok (.ifCond .eq 11, 3) := dk_153 0 11 (dk_at dksX5_clause_0 9 rfl rfl)
theorem dX5_clause_12 : decode cX5_clause 12 = .ok (.aload_n 0, 1) := dk_42 (dk_at dksX5_clause_0 12 rfl rfl)
theorem dX5_clause_13 : decode cX5_clause 13 = .ok (.aload_n 1, 1) := dk_43 (dk_at dksX5_clause_0 13 rfl rfl)
theorem dX5_clause_14 : decode cX5_clause 14 = .ok (.invokevirtual 111, 3) := dk_182 0 111 (dk_at dksX5_clause_0 14 rfl rfl)
theorem dX5_clause_17 : decode cX5_clause 17 = .ok (.goto 130, 3) := dk_167 0 130 (dk_at dksX5_clause_0 17 rfl rfl)
theorem dX5_clause_20 : decode cX5_clause 20 = .ok (.aload_n 0, 1) := dk_42 (dk_at dksX5_clause_0 20 rfl rfl)
theorem dX5_clause_21 : decode cX5_clause 21 = .ok (.getfield 9, 3) := dk_180 0 9 (dk_at dksX5_clause_0 21 rfl rfl)
theorem dX5_clause_24 : decode cX5_clause 24 = .ok (.ldc 114, 2) := dk_18 114 (dk_at dksX5_clause_1 0 rfl rfl)
theorem dX5_clause_26 : decode cX5_clause 26 = .ok (.invokevirtual 87, 3) := dk_182 0 87 (dk_at dksX5_clause_1 2 rfl rfl)
theorem dX5_clause_29 : decode cX5_clause 29 = .ok (.ifCond .eq 10, 3) := dk_153 0 10 (dk_at dksX5_clause_1 5 rfl rfl)
theorem dX5_clause_32 : decode cX5_clause 32 = .ok (.aload_n 0, 1) := dk_42 (dk_at dksX5_clause_1 8 rfl rfl)
theorem dX5_clause_33 : decode cX5_clause 33 = .ok (.invokevirtual 116, 3) := dk_182 0 116 (dk_at dksX5_clause_1 9 rfl rfl)
theorem dX5_clause_36 : decode cX5_clause 36 = .ok (.goto 111, 3) := dk_167 0 111 (dk_at dksX5_clause_1 12 rfl rfl)
theorem dX5_clause_39 : decode cX5_clause 39 = .ok (.aload_n 0, 1) := dk_42 (dk_at dksX5_clause_1 15 rfl rfl)
theorem dX5_clause_40 : decode cX5_clause 40 = .ok (.getfield 9, 3) := dk_180 0 9 (dk_at dksX5_clause_1 16 rfl rfl)
theorem dX5_clause_43 : decode cX5_clause 43 = .ok (.ldc 118, 2) := dk_18 118 (dk_at dksX5_clause_1 19 rfl rfl)
theorem dX5_clause_45 : decode cX5_clause 45 = .ok (.invokevirtual 87, 3) := dk_182 0 87 (dk_at dksX5_clause_1 21 rfl rfl)
theorem dX5_clause_48 : decode cX5_clause 48 = .ok (.ifCond .eq 36, 3) := dk_153 0 36 (dk_at dksX5_clause_2 0 rfl rfl)
theorem dX5_clause_51 : decode cX5_clause 51 = .ok (.aload_n 1, 1) := dk_43 (dk_at dksX5_clause_2 3 rfl rfl)
theorem dX5_clause_52 : decode cX5_clause 52 = .ok (.aload_n 0, 1) := dk_42 (dk_at dksX5_clause_2 4 rfl rfl)
theorem dX5_clause_53 : decode cX5_clause 53 = .ok (.getfield 9, 3) := dk_180 0 9 (dk_at dksX5_clause_2 5 rfl rfl)
theorem dX5_clause_56 : decode cX5_clause 56 = .ok (.iconst 0, 1) := dk_3 (dk_at dksX5_clause_2 8 rfl rfl)
theorem dX5_clause_57 : decode cX5_clause 57 = .ok (.sipush 9999, 3) := dk_17 39 15 (dk_at dksX5_clause_2 9 rfl rfl)
theorem dX5_clause_60 : decode cX5_clause 60 = .ok (.invokevirtual 25, 3) := dk_182 0 25 (dk_at dksX5_clause_2 12 rfl rfl)
theorem dX5_clause_63 : decode cX5_clause 63 = .ok (.putfield 120, 3) := dk_181 0 120 (dk_at dksX5_clause_2 15 rfl rfl)
theorem dX5_clause_66 : decode cX5_clause 66 = .ok (.aload_n 1, 1) := dk_43 (dk_at dksX5_clause_2 18 rfl rfl)
theorem dX5_clause_67 : decode cX5_clause 67 = .ok (.aload_n 0, 1) := dk_42 (dk_at dksX5_clause_2 19 rfl rfl)
theorem dX5_clause_68 : decode cX5_clause 68 = .ok (.getfield 9, 3) := dk_180 0 9 (dk_at dksX5_clause_2 20 rfl rfl)
theorem dX5_clause_71 : decode cX5_clause 71 = .ok (.iconst 0, 1) := dk_3 (dk_at dksX5_clause_2 23 rfl rfl)
theorem dX5_clause_72 : decode cX5_clause 72 = .ok (.sipush 999, 3) := dk_17 3 231 (dk_at dksX5_clause_3 0 rfl rfl)
theorem dX5_clause_75 : decode cX5_clause 75 = .ok (.invokevirtual 25, 3) := dk_182 0 25 (dk_at dksX5_clause_3 3 rfl rfl)
theorem dX5_clause_78 : decode cX5_clause 78 = .ok (.putfield 123, 3) := dk_181 0 123 (dk_at dksX5_clause_3 6 rfl rfl)
theorem dX5_clause_81 : decode cX5_clause 81 = .ok (.goto 66, 3) := dk_167 0 66 (dk_at dksX5_clause_3 9 rfl rfl)
theorem dX5_clause_84 : decode cX5_clause 84 = .ok (.aload_n 0, 1) := dk_42 (dk_at dksX5_clause_3 12 rfl rfl)
theorem dX5_clause_85 : decode cX5_clause 85 = .ok (.getfield 9, 3) := dk_180 0 9 (dk_at dksX5_clause_3 13 rfl rfl)
theorem dX5_clause_88 : decode cX5_clause 88 = .ok (.ldc 126, 2) := dk_18 126 (dk_at dksX5_clause_3 16 rfl rfl)
theorem dX5_clause_90 : decode cX5_clause 90 = .ok (.invokevirtual 87, 3) := dk_182 0 87 (dk_at dksX5_clause_3 18 rfl rfl)
theorem dX5_clause_93 : decode cX5_clause 93 = .ok (.ifCond .eq 40, 3) := dk_153 0 40 (dk_at dksX5_clause_3 21 rfl rfl)
theorem dX5_clause_96 : decode cX5_clause 96 = .ok (.aload_n 0, 1) := dk_42 (dk_at dksX5_clause_4 0 rfl rfl)
theorem dX5_clause_97 : decode cX5_clause 97 = .ok (.getfield 9, 3) := dk_180 0 9 (dk_at dksX5_clause_4 1 rfl rfl)
theorem dX5_clause_100 : decode cX5_clause 100 = .ok (.iconst 2, 1) := dk_5 (dk_at dksX5_clause_4 4 rfl rfl)
theorem dX5_clause_101 : decode cX5_clause 101 = .ok (.iconst 4, 1) := dk_7 (dk_at dksX5_clause_4 5 rfl rfl)
theorem dX5_clause_102 : decode cX5_clause 102 = .ok (.invokevirtual 25, 3) := dk_182 0 25 (dk_at dksX5_clause_4 6 rfl rfl)
theorem dX5_clause_105 : decode cX5_clause 105 = .ok (.istore_n 2, 1) := dk_61 (dk_at dksX5_clause_4 9 rfl rfl)
theorem dX5_clause_106 : decode cX5_clause 106 = .ok (.aload_n 1, 1) := dk_43 (dk_at dksX5_clause_4 10 rfl rfl)
theorem dX5_clause_107 : decode cX5_clause 107 = .ok (.getfield 91, 3) := dk_180 0 91 (dk_at dksX5_clause_4 11 rfl rfl)
theorem dX5_clause_110 : decode cX5_clause 110 = .ok (.bipush 7, 2) := dk_16 7 (dk_at dksX5_clause_4 14 rfl rfl)
theorem dX5_clause_112 : decode cX5_clause 112 = .ok (.iload_n 2, 1) := dk_28 (dk_at dksX5_clause_4 16 rfl rfl)
theorem dX5_clause_113 : decode cX5_clause 113 = .ok (.iadd, 1) := dk_96 (dk_at dksX5_clause_4 17 rfl rfl)
theorem dX5_clause_114 : decode cX5_clause 114 = .ok (.iconst 2, 1) := dk_5 (dk_at dksX5_clause_4 18 rfl rfl)
theorem dX5_clause_115 : decode cX5_clause 115 = .ok (.isub, 1) := dk_100 (dk_at dksX5_clause_4 19 rfl rfl)
theorem dX5_clause_116 : decode cX5_clause 116 = .ok (.aload_n 0, 1) := dk_42 (dk_at dksX5_clause_4 20 rfl rfl)
theorem dX5_clause_117 : decode cX5_clause 117 = .ok (.getfield 9, 3) := dk_180 0 9 (dk_at dksX5_clause_4 21 rfl rfl)
theorem dX5_clause_120 : decode cX5_clause 120 = .ok (.iconst 0, 1) := dk_3 (dk_at dksX5_clause_5 0 rfl rfl)
theorem dX5_clause_121 : decode cX5_clause 121 = .ok (.bipush 7, 2) := dk_16 7 (dk_at dksX5_clause_5 1 rfl rfl)
theorem dX5_clause_123 : decode cX5_clause 123 = .ok (.invokestatic 99, 3) := dk_184 0 99 (dk_at dksX5_clause_5 3 rfl rfl)
theorem dX5_clause_126 : decode cX5_clause 126 = .ok (.invokevirtual 25, 3) := dk_182 0 25 (dk_at dksX5_clause_5 6 rfl rfl)
theorem dX5_clause_129 : decode cX5_clause 129 = .ok (.iastore, 1) := dk_79 (dk_at dksX5_clause_5 9 rfl rfl)
theorem dX5_clause_130 : decode cX5_clause 130 = .ok (.goto 17, 3) := dk_167 0 17 (dk_at dksX5_clause_5 10 rfl rfl)
theorem dX5_clause_133 : decode cX5_clause 133 = .ok (.aload_n 0, 1) := dk_42 (dk_at dksX5_clause_5 13 rfl rfl)
theorem dX5_clause_134 : decode cX5_clause 134 = .ok (.getfield 9, 3) := dk_180 0 9 (dk_at dksX5_clause_5 14 rfl rfl)
theorem dX5_clause_137 : decode cX5_clause 137 = .ok (.ldc 128, 2) := dk_18 128 (dk_at dksX5_clause_5 17 rfl rfl)
theorem dX5_clause_139 : decode cX5_clause 139 = .ok (.invokevirtual 130, 3) := dk_182 0 130 (dk_at dksX5_clause_5 19 rfl rfl)
theorem dX5_clause_142 : decode cX5_clause 142 = .ok (.aload_n 0, 1) := dk_42 (dk_at dksX5_clause_5 22 rfl rfl)
theorem dX5_clause_143 : decode cX5_clause 143 = .ok (.aload_n 1, 1) := dk_43 (dk_at dksX5_clause_5 23 rfl rfl)
theorem dX5_clause_144 : decode cX5_clause 144 = .ok (.invokevirtual 134, 3) := dk_182 0 134 (dk_at dksX5_clause_6 0 rfl rfl)
theorem dX5_clause_147 : decode cX5_clause 147 = .ok (.aload_n 0, 1) := dk_42 (dk_at dksX5_clause_6 3 rfl rfl)
theorem dX5_clause_148 : decode cX5_clause 148 = .ok (.getfield 9, 3) := dk_180 0 9 (dk_at dksX5_clause_6 4 rfl rfl)
theorem dX5_clause_151 : decode cX5_clause 151 = .ok (.bipush 59, 2) := dk_16 59 (dk_at dksX5_clause_6 7 rfl rfl)
theorem dX5_clause_153 : decode cX5_clause 153 = .ok (.invokevirtual 136, 3) := dk_182 0 136 (dk_at dksX5_clause_6 9 rfl rfl)
theorem dX5_clause_156 : decode cX5_clause 156 = .ok (.return_, 1) := dk_177 (dk_at dksX5_clause_6 12 rfl rfl)
abbrev cX5_taxi : ByteArray := prog_8_method_5_code
def yX5_taxi : MethodName := ⟨RX5, "taxi", "(LSharedTaxis$State;)V"⟩
def dkwX5_taxi_5 : List UInt8 := [185, 0, 80, 2, 0, 87, 177]
abbrev dktX5_taxi_5 : List UInt8 := dkwX5_taxi_5 ++ []
def dkwX5_taxi_4 : List UInt8 := [42, 180, 0, 9, 182, 0, 54, 43, 180, 0, 61, 187, 0, 75, 89, 28, 29, 21, 4, 21, 5, 183, 0, 77]
abbrev dktX5_taxi_4 : List UInt8 := dkwX5_taxi_4 ++ dktX5_taxi_5
def dkwX5_taxi_3 : List UInt8 := [17, 11, 63, 182, 0, 43, 54, 5, 42, 21, 5, 21, 4, 163, 0, 7, 4, 167, 0, 4, 3, 182, 0, 50]
abbrev dktX5_taxi_3 : List UInt8 := dkwX5_taxi_3 ++ dktX5_taxi_4
def dkwX5_taxi_2 : List UInt8 := [182, 0, 39, 62, 42, 180, 0, 9, 3, 17, 11, 63, 182, 0, 25, 54, 4, 42, 180, 0, 9, 3]
abbrev dktX5_taxi_2 : List UInt8 := dkwX5_taxi_2 ++ dktX5_taxi_3
def dkwX5_taxi_1 : List UInt8 := [183, 0, 74, 191, 42, 180, 0, 9, 182, 0, 54, 42, 180, 0, 9, 4, 16, 6, 182, 0, 25, 61, 42]
abbrev dktX5_taxi_1 : List UInt8 := dkwX5_taxi_1 ++ dktX5_taxi_2
def dkwX5_taxi_0 : List UInt8 := [43, 180, 0, 61, 185, 0, 67, 1, 0, 7, 160, 0, 18, 187, 0, 72, 89, 42, 180, 0, 9, 180, 0, 33]
abbrev dktX5_taxi_0 : List UInt8 := dkwX5_taxi_0 ++ dktX5_taxi_1
theorem dksX5_taxi_0 : cX5_taxi.data.toList.drop 0 = dktX5_taxi_0 := by decide +kernel
theorem dksX5_taxi_1 : cX5_taxi.data.toList.drop 24 = dktX5_taxi_1 := dk_seg dksX5_taxi_0 24 rfl rfl
theorem dksX5_taxi_2 : cX5_taxi.data.toList.drop 47 = dktX5_taxi_2 := dk_seg dksX5_taxi_1 23 rfl rfl
theorem dksX5_taxi_3 : cX5_taxi.data.toList.drop 69 = dktX5_taxi_3 := dk_seg dksX5_taxi_2 22 rfl rfl
theorem dksX5_taxi_4 : cX5_taxi.data.toList.drop 93 = dktX5_taxi_4 := dk_seg dksX5_taxi_3 24 rfl rfl
theorem dksX5_taxi_5 : cX5_taxi.data.toList.drop 117 = dktX5_taxi_5 := dk_seg dksX5_taxi_4 24 rfl rfl
theorem dX5_taxi_0 : decode cX5_taxi 0 = .ok (.aload_n 1, 1) := dk_43 (dk_at dksX5_taxi_0 0 rfl rfl)
theorem dX5_taxi_1 : decode cX5_taxi 1 = .ok (.getfield 61, 3) := dk_180 0 61 (dk_at dksX5_taxi_0 1 rfl rfl)
theorem dX5_taxi_4 : decode cX5_taxi 4 = .ok (.invokeinterface 67 1, 5) := by decide +kernel
theorem dX5_taxi_9 : decode cX5_taxi 9 = .ok (.iconst 4, 1) := dk_7 (dk_at dksX5_taxi_0 9 rfl rfl)
theorem dX5_taxi_10 : decode cX5_taxi 10 = .ok (.if_icmp .ne 18, 3) := dk_160 0 18 (dk_at dksX5_taxi_0 10 rfl rfl)
theorem dX5_taxi_13 : decode cX5_taxi 13 = .ok (.new 72, 3) := dk_187 0 72 (dk_at dksX5_taxi_0 13 rfl rfl)
theorem dX5_taxi_16 : decode cX5_taxi 16 = .ok (.dup, 1) := dk_89 (dk_at dksX5_taxi_0 16 rfl rfl)
theorem dX5_taxi_17 : decode cX5_taxi 17 = .ok (.aload_n 0, 1) := dk_42 (dk_at dksX5_taxi_0 17 rfl rfl)
theorem dX5_taxi_18 : decode cX5_taxi 18 = .ok (.getfield 9, 3) := dk_180 0 9 (dk_at dksX5_taxi_0 18 rfl rfl)
theorem dX5_taxi_21 : decode cX5_taxi 21 = .ok (.getfield 33, 3) := dk_180 0 33 (dk_at dksX5_taxi_0 21 rfl rfl)
theorem dX5_taxi_24 : decode cX5_taxi 24 = .ok (.invokespecial 74, 3) := dk_183 0 74 (dk_at dksX5_taxi_1 0 rfl rfl)
theorem dX5_taxi_27 : decode cX5_taxi 27 = .ok (.athrow, 1) := dk_191 (dk_at dksX5_taxi_1 3 rfl rfl)
theorem dX5_taxi_28 : decode cX5_taxi 28 = .ok (.aload_n 0, 1) := dk_42 (dk_at dksX5_taxi_1 4 rfl rfl)
theorem dX5_taxi_29 : decode cX5_taxi 29 = .ok (.getfield 9, 3) := dk_180 0 9 (dk_at dksX5_taxi_1 5 rfl rfl)
theorem dX5_taxi_32 : decode cX5_taxi 32 = .ok (.invokevirtual 54, 3) := dk_182 0 54 (dk_at dksX5_taxi_1 8 rfl rfl)
theorem dX5_taxi_35 : decode cX5_taxi 35 = .ok (.aload_n 0, 1) := dk_42 (dk_at dksX5_taxi_1 11 rfl rfl)
theorem dX5_taxi_36 : decode cX5_taxi 36 = .ok (.getfield 9, 3) := dk_180 0 9 (dk_at dksX5_taxi_1 12 rfl rfl)
theorem dX5_taxi_39 : decode cX5_taxi 39 = .ok (.iconst 1, 1) := dk_4 (dk_at dksX5_taxi_1 15 rfl rfl)
theorem dX5_taxi_40 : decode cX5_taxi 40 = .ok (.bipush 6, 2) := dk_16 6 (dk_at dksX5_taxi_1 16 rfl rfl)
theorem dX5_taxi_42 : decode cX5_taxi 42 = .ok (.invokevirtual 25, 3) := dk_182 0 25 (dk_at dksX5_taxi_1 18 rfl rfl)
theorem dX5_taxi_45 : decode cX5_taxi 45 = .ok (.istore_n 2, 1) := dk_61 (dk_at dksX5_taxi_1 21 rfl rfl)
theorem dX5_taxi_46 : decode cX5_taxi 46 = .ok (.aload_n 0, 1) := dk_42 (dk_at dksX5_taxi_1 22 rfl rfl)
theorem dX5_taxi_47 : decode cX5_taxi 47 = .ok (.invokevirtual 39, 3) := dk_182 0 39 (dk_at dksX5_taxi_2 0 rfl rfl)
theorem dX5_taxi_50 : decode cX5_taxi 50 = .ok (.istore_n 3, 1) := dk_62 (dk_at dksX5_taxi_2 3 rfl rfl)
theorem dX5_taxi_51 : decode cX5_taxi 51 = .ok (.aload_n 0, 1) := dk_42 (dk_at dksX5_taxi_2 4 rfl rfl)
theorem dX5_taxi_52 : decode cX5_taxi 52 = .ok (.getfield 9, 3) := dk_180 0 9 (dk_at dksX5_taxi_2 5 rfl rfl)
theorem dX5_taxi_55 : decode cX5_taxi 55 = .ok (.iconst 0, 1) := dk_3 (dk_at dksX5_taxi_2 8 rfl rfl)
theorem dX5_taxi_56 : decode cX5_taxi 56 = .ok (.sipush 2879, 3) := dk_17 11 63 (dk_at dksX5_taxi_2 9 rfl rfl)
theorem dX5_taxi_59 : decode cX5_taxi 59 = .ok (.invokevirtual 25, 3) := dk_182 0 25 (dk_at dksX5_taxi_2 12 rfl rfl)
theorem dX5_taxi_62 : decode cX5_taxi 62 = .ok (.istore 4, 2) := dk_54 4 (dk_at dksX5_taxi_2 15 rfl rfl)
theorem dX5_taxi_64 : decode cX5_taxi 64 = .ok (.aload_n 0, 1) := dk_42 (dk_at dksX5_taxi_2 17 rfl rfl)
theorem dX5_taxi_65 : decode cX5_taxi 65 = .ok (.getfield 9, 3) := dk_180 0 9 (dk_at dksX5_taxi_2 18 rfl rfl)
theorem dX5_taxi_68 : decode cX5_taxi 68 = .ok (.iconst 0, 1) := dk_3 (dk_at dksX5_taxi_2 21 rfl rfl)
theorem dX5_taxi_69 : decode cX5_taxi 69 = .ok (.sipush 2879, 3) := dk_17 11 63 (dk_at dksX5_taxi_3 0 rfl rfl)
theorem dX5_taxi_72 : decode cX5_taxi 72 = .ok (.invokevirtual 43, 3) := dk_182 0 43 (dk_at dksX5_taxi_3 3 rfl rfl)
theorem dX5_taxi_75 : decode cX5_taxi 75 = .ok (.istore 5, 2) := dk_54 5 (dk_at dksX5_taxi_3 6 rfl rfl)
theorem dX5_taxi_77 : decode cX5_taxi 77 = .ok (.aload_n 0, 1) := dk_42 (dk_at dksX5_taxi_3 8 rfl rfl)
theorem dX5_taxi_78 : decode cX5_taxi 78 = .ok (.iload 5, 2) := dk_21 5 (dk_at dksX5_taxi_3 9 rfl rfl)
theorem dX5_taxi_80 : decode cX5_taxi 80 = .ok (.iload 4, 2) := dk_21 4 (dk_at dksX5_taxi_3 11 rfl rfl)
theorem dX5_taxi_82 : decode cX5_taxi 82 = .ok (.if_icmp .gt 7, 3) := dk_163 0 7 (dk_at dksX5_taxi_3 13 rfl rfl)
theorem dX5_taxi_85 : decode cX5_taxi 85 = .ok (.iconst 1, 1) := dk_4 (dk_at dksX5_taxi_3 16 rfl rfl)
theorem dX5_taxi_86 : decode cX5_taxi 86 = .ok (.goto 4, 3) := dk_167 0 4 (dk_at dksX5_taxi_3 17 rfl rfl)
theorem dX5_taxi_89 : decode cX5_taxi 89 = .ok (.iconst 0, 1) := dk_3 (dk_at dksX5_taxi_3 20 rfl rfl)
theorem dX5_taxi_90 : decode cX5_taxi 90 = .ok (.invokevirtual 50, 3) := dk_182 0 50 (dk_at dksX5_taxi_3 21 rfl rfl)
theorem dX5_taxi_93 : decode cX5_taxi 93 = .ok (.aload_n 0, 1) := dk_42 (dk_at dksX5_taxi_4 0 rfl rfl)
theorem dX5_taxi_94 : decode cX5_taxi 94 = .ok (.getfield 9, 3) := dk_180 0 9 (dk_at dksX5_taxi_4 1 rfl rfl)
theorem dX5_taxi_97 : decode cX5_taxi 97 = .ok (.invokevirtual 54, 3) := dk_182 0 54 (dk_at dksX5_taxi_4 4 rfl rfl)
theorem dX5_taxi_100 : decode cX5_taxi 100 = .ok (.aload_n 1, 1) := dk_43 (dk_at dksX5_taxi_4 7 rfl rfl)
theorem dX5_taxi_101 : decode cX5_taxi 101 = .ok (.getfield 61, 3) := dk_180 0 61 (dk_at dksX5_taxi_4 8 rfl rfl)
theorem dX5_taxi_104 : decode cX5_taxi 104 = .ok (.new 75, 3) := dk_187 0 75 (dk_at dksX5_taxi_4 11 rfl rfl)
theorem dX5_taxi_107 : decode cX5_taxi 107 = .ok (.dup, 1) := dk_89 (dk_at dksX5_taxi_4 14 rfl rfl)
theorem dX5_taxi_108 : decode cX5_taxi 108 = .ok (.iload_n 2, 1) := dk_28 (dk_at dksX5_taxi_4 15 rfl rfl)
theorem dX5_taxi_109 : decode cX5_taxi 109 = .ok (.iload_n 3, 1) := dk_29 (dk_at dksX5_taxi_4 16 rfl rfl)
theorem dX5_taxi_110 : decode cX5_taxi 110 = .ok (.iload 4, 2) := dk_21 4 (dk_at dksX5_taxi_4 17 rfl rfl)
theorem dX5_taxi_112 : decode cX5_taxi 112 = .ok (.iload 5, 2) := dk_21 5 (dk_at dksX5_taxi_4 19 rfl rfl)
theorem dX5_taxi_114 : decode cX5_taxi 114 = .ok (.invokespecial 77, 3) := dk_183 0 77 (dk_at dksX5_taxi_4 21 rfl rfl)
theorem dX5_taxi_117 : decode cX5_taxi 117 = .ok (.invokeinterface 80 2, 5) := by decide +kernel
theorem dX5_taxi_122 : decode cX5_taxi 122 = .ok (.pop, 1) := dk_87 (dk_at dksX5_taxi_5 5 rfl rfl)
theorem dX5_taxi_123 : decode cX5_taxi 123 = .ok (.return_, 1) := dk_177 (dk_at dksX5_taxi_5 6 rfl rfl)
abbrev cX5_zone : ByteArray := prog_8_method_2_code
def yX5_zone : MethodName := ⟨RX5, "zone", "()I"⟩
def dkwX5_zone_0 : List UInt8 := [42, 180, 0, 9, 3, 42, 180, 0, 15, 180, 0, 19, 4, 100, 182, 0, 25, 172]
abbrev dktX5_zone_0 : List UInt8 := dkwX5_zone_0 ++ []
theorem dksX5_zone_0 : cX5_zone.data.toList.drop 0 = dktX5_zone_0 := by decide +kernel
theorem dX5_zone_0 : decode cX5_zone 0 = .ok (.aload_n 0, 1) := dk_42 (dk_at dksX5_zone_0 0 rfl rfl)
theorem dX5_zone_1 : decode cX5_zone 1 = .ok (.getfield 9, 3) := dk_180 0 9 (dk_at dksX5_zone_0 1 rfl rfl)
theorem dX5_zone_4 : decode cX5_zone 4 = .ok (.iconst 0, 1) := dk_3 (dk_at dksX5_zone_0 4 rfl rfl)
theorem dX5_zone_5 : decode cX5_zone 5 = .ok (.aload_n 0, 1) := dk_42 (dk_at dksX5_zone_0 5 rfl rfl)
theorem dX5_zone_6 : decode cX5_zone 6 = .ok (.getfield 15, 3) := dk_180 0 15 (dk_at dksX5_zone_0 6 rfl rfl)
theorem dX5_zone_9 : decode cX5_zone 9 = .ok (.getfield 19, 3) := dk_180 0 19 (dk_at dksX5_zone_0 9 rfl rfl)
theorem dX5_zone_12 : decode cX5_zone 12 = .ok (.iconst 1, 1) := dk_4 (dk_at dksX5_zone_0 12 rfl rfl)
theorem dX5_zone_13 : decode cX5_zone 13 = .ok (.isub, 1) := dk_100 (dk_at dksX5_zone_0 13 rfl rfl)
theorem dX5_zone_14 : decode cX5_zone 14 = .ok (.invokevirtual 25, 3) := dk_182 0 25 (dk_at dksX5_zone_0 14 rfl rfl)
theorem dX5_zone_17 : decode cX5_zone 17 = .ok (.ireturn, 1) := dk_172 (dk_at dksX5_zone_0 17 rfl rfl)
abbrev cX5_clash : ByteArray := prog_8_method_3_code
def yX5_clash : MethodName := ⟨RX5, "clash", "(Z)V"⟩
def dkwX5_clash_0 : List UInt8 := [27, 153, 0, 18, 187, 0, 31, 89, 42, 180, 0, 9, 180, 0, 33, 183, 0, 36, 191, 177]
abbrev dktX5_clash_0 : List UInt8 := dkwX5_clash_0 ++ []
theorem dksX5_clash_0 : cX5_clash.data.toList.drop 0 = dktX5_clash_0 := by decide +kernel
theorem dX5_clash_0 : decode cX5_clash 0 = .ok (.iload_n 1, 1) := dk_27 (dk_at dksX5_clash_0 0 rfl rfl)
theorem dX5_clash_1 : decode cX5_clash 1 = .ok (.ifCond .eq 18, 3) := dk_153 0 18 (dk_at dksX5_clash_0 1 rfl rfl)
theorem dX5_clash_4 : decode cX5_clash 4 = .ok (.new 31, 3) := dk_187 0 31 (dk_at dksX5_clash_0 4 rfl rfl)
theorem dX5_clash_7 : decode cX5_clash 7 = .ok (.dup, 1) := dk_89 (dk_at dksX5_clash_0 7 rfl rfl)
theorem dX5_clash_8 : decode cX5_clash 8 = .ok (.aload_n 0, 1) := dk_42 (dk_at dksX5_clash_0 8 rfl rfl)
theorem dX5_clash_9 : decode cX5_clash 9 = .ok (.getfield 9, 3) := dk_180 0 9 (dk_at dksX5_clash_0 9 rfl rfl)
theorem dX5_clash_12 : decode cX5_clash 12 = .ok (.getfield 33, 3) := dk_180 0 33 (dk_at dksX5_clash_0 12 rfl rfl)
theorem dX5_clash_15 : decode cX5_clash 15 = .ok (.invokespecial 36, 3) := dk_183 0 36 (dk_at dksX5_clash_0 15 rfl rfl)
theorem dX5_clash_18 : decode cX5_clash 18 = .ok (.athrow, 1) := dk_191 (dk_at dksX5_clash_0 18 rfl rfl)
theorem dX5_clash_19 : decode cX5_clash 19 = .ok (.return_, 1) := dk_177 (dk_at dksX5_clash_0 19 rfl rfl)
abbrev cX5_road : ByteArray := prog_8_method_4_code
def yX5_road : MethodName := ⟨RX5, "road", "()V"⟩
def dkwX5_road_3 : List UInt8 := [182, 0, 25, 182, 0, 57, 177]
abbrev dktX5_road_3 : List UInt8 := dkwX5_road_3 ++ []
def dkwX5_road_2 : List UInt8 := [182, 0, 50, 42, 180, 0, 9, 182, 0, 54, 42, 180, 0, 15, 27, 28, 42, 180, 0, 9, 4, 16, 99]
abbrev dktX5_road_2 : List UInt8 := dkwX5_road_2 ++ dktX5_road_3
def dkwX5_road_1 : List UInt8 := [27, 28, 159, 0, 15, 42, 180, 0, 15, 27, 28, 182, 0, 46, 153, 0, 7, 4, 167, 0, 4, 3]
abbrev dktX5_road_1 : List UInt8 := dkwX5_road_1 ++ dktX5_road_2
def dkwX5_road_0 : List UInt8 := [42, 182, 0, 39, 60, 42, 180, 0, 9, 3, 42, 180, 0, 15, 180, 0, 19, 4, 100, 182, 0, 43, 61, 42]
abbrev dktX5_road_0 : List UInt8 := dkwX5_road_0 ++ dktX5_road_1
theorem dksX5_road_0 : cX5_road.data.toList.drop 0 = dktX5_road_0 := by decide +kernel
theorem dksX5_road_1 : cX5_road.data.toList.drop 24 = dktX5_road_1 := dk_seg dksX5_road_0 24 rfl rfl
theorem dksX5_road_2 : cX5_road.data.toList.drop 46 = dktX5_road_2 := dk_seg dksX5_road_1 22 rfl rfl
theorem dksX5_road_3 : cX5_road.data.toList.drop 69 = dktX5_road_3 := dk_seg dksX5_road_2 23 rfl rfl
theorem dX5_road_0 : decode cX5_road 0 = .ok (.aload_n 0, 1) := dk_42 (dk_at dksX5_road_0 0 rfl rfl)
theorem dX5_road_1 : decode cX5_road 1 = .ok (.invokevirtual 39, 3) := dk_182 0 39 (dk_at dksX5_road_0 1 rfl rfl)
theorem dX5_road_4 : decode cX5_road 4 = .ok (.istore_n 1, 1) := dk_60 (dk_at dksX5_road_0 4 rfl rfl)
theorem dX5_road_5 : decode cX5_road 5 = .ok (.aload_n 0, 1) := dk_42 (dk_at dksX5_road_0 5 rfl rfl)
theorem dX5_road_6 : decode cX5_road 6 = .ok (.getfield 9, 3) := dk_180 0 9 (dk_at dksX5_road_0 6 rfl rfl)
theorem dX5_road_9 : decode cX5_road 9 = .ok (.iconst 0, 1) := dk_3 (dk_at dksX5_road_0 9 rfl rfl)
theorem dX5_road_10 : decode cX5_road 10 = .ok (.aload_n 0, 1) := dk_42 (dk_at dksX5_road_0 10 rfl rfl)
theorem dX5_road_11 : decode cX5_road 11 = .ok (.getfield 15, 3) := dk_180 0 15 (dk_at dksX5_road_0 11 rfl rfl)
theorem dX5_road_14 : decode cX5_road 14 = .ok (.getfield 19, 3) := dk_180 0 19 (dk_at dksX5_road_0 14 rfl rfl)
theorem dX5_road_17 : decode cX5_road 17 = .ok (.iconst 1, 1) := dk_4 (dk_at dksX5_road_0 17 rfl rfl)
theorem dX5_road_18 : decode cX5_road 18 = .ok (.isub, 1) := dk_100 (dk_at dksX5_road_0 18 rfl rfl)
theorem dX5_road_19 : decode cX5_road 19 = .ok (.invokevirtual 43, 3) := dk_182 0 43 (dk_at dksX5_road_0 19 rfl rfl)
theorem dX5_road_22 : decode cX5_road 22 = .ok (.istore_n 2, 1) := dk_61 (dk_at dksX5_road_0 22 rfl rfl)
theorem dX5_road_23 : decode cX5_road 23 = .ok (.aload_n 0, 1) := dk_42 (dk_at dksX5_road_0 23 rfl rfl)
theorem dX5_road_24 : decode cX5_road 24 = .ok (.iload_n 1, 1) := dk_27 (dk_at dksX5_road_1 0 rfl rfl)
theorem dX5_road_25 : decode cX5_road 25 = .ok (.iload_n 2, 1) := dk_28 (dk_at dksX5_road_1 1 rfl rfl)
theorem dX5_road_26 : decode cX5_road 26 = .ok (.if_icmp .eq 15, 3) := dk_159 0 15 (dk_at dksX5_road_1 2 rfl rfl)
theorem dX5_road_29 : decode cX5_road 29 = .ok (.aload_n 0, 1) := dk_42 (dk_at dksX5_road_1 5 rfl rfl)
theorem dX5_road_30 : decode cX5_road 30 = .ok (.getfield 15, 3) := dk_180 0 15 (dk_at dksX5_road_1 6 rfl rfl)
theorem dX5_road_33 : decode cX5_road 33 = .ok (.iload_n 1, 1) := dk_27 (dk_at dksX5_road_1 9 rfl rfl)
theorem dX5_road_34 : decode cX5_road 34 = .ok (.iload_n 2, 1) := dk_28 (dk_at dksX5_road_1 10 rfl rfl)
theorem dX5_road_35 : decode cX5_road 35 = .ok (.invokevirtual 46, 3) := dk_182 0 46 (dk_at dksX5_road_1 11 rfl rfl)
theorem dX5_road_38 : decode cX5_road 38 = .ok (.ifCond .eq 7, 3) := dk_153 0 7 (dk_at dksX5_road_1 14 rfl rfl)
theorem dX5_road_41 : decode cX5_road 41 = .ok (.iconst 1, 1) := dk_4 (dk_at dksX5_road_1 17 rfl rfl)
theorem dX5_road_42 : decode cX5_road 42 = .ok (.goto 4, 3) := dk_167 0 4 (dk_at dksX5_road_1 18 rfl rfl)
theorem dX5_road_45 : decode cX5_road 45 = .ok (.iconst 0, 1) := dk_3 (dk_at dksX5_road_1 21 rfl rfl)
theorem dX5_road_46 : decode cX5_road 46 = .ok (.invokevirtual 50, 3) := dk_182 0 50 (dk_at dksX5_road_2 0 rfl rfl)
theorem dX5_road_49 : decode cX5_road 49 = .ok (.aload_n 0, 1) := dk_42 (dk_at dksX5_road_2 3 rfl rfl)
theorem dX5_road_50 : decode cX5_road 50 = .ok (.getfield 9, 3) := dk_180 0 9 (dk_at dksX5_road_2 4 rfl rfl)
theorem dX5_road_53 : decode cX5_road 53 = .ok (.invokevirtual 54, 3) := dk_182 0 54 (dk_at dksX5_road_2 7 rfl rfl)
theorem dX5_road_56 : decode cX5_road 56 = .ok (.aload_n 0, 1) := dk_42 (dk_at dksX5_road_2 10 rfl rfl)
theorem dX5_road_57 : decode cX5_road 57 = .ok (.getfield 15, 3) := dk_180 0 15 (dk_at dksX5_road_2 11 rfl rfl)
theorem dX5_road_60 : decode cX5_road 60 = .ok (.iload_n 1, 1) := dk_27 (dk_at dksX5_road_2 14 rfl rfl)
theorem dX5_road_61 : decode cX5_road 61 = .ok (.iload_n 2, 1) := dk_28 (dk_at dksX5_road_2 15 rfl rfl)
theorem dX5_road_62 : decode cX5_road 62 = .ok (.aload_n 0, 1) := dk_42 (dk_at dksX5_road_2 16 rfl rfl)
theorem dX5_road_63 : decode cX5_road 63 = .ok (.getfield 9, 3) := dk_180 0 9 (dk_at dksX5_road_2 17 rfl rfl)
theorem dX5_road_66 : decode cX5_road 66 = .ok (.iconst 1, 1) := dk_4 (dk_at dksX5_road_2 20 rfl rfl)
theorem dX5_road_67 : decode cX5_road 67 = .ok (.bipush 99, 2) := dk_16 99 (dk_at dksX5_road_2 21 rfl rfl)
theorem dX5_road_69 : decode cX5_road 69 = .ok (.invokevirtual 25, 3) := dk_182 0 25 (dk_at dksX5_road_3 0 rfl rfl)
theorem dX5_road_72 : decode cX5_road 72 = .ok (.invokevirtual 57, 3) := dk_182 0 57 (dk_at dksX5_road_3 3 rfl rfl)
theorem dX5_road_75 : decode cX5_road 75 = .ok (.return_, 1) := dk_177 (dk_at dksX5_road_3 6 rfl rfl)
abbrev cX5_rule : ByteArray := prog_8_method_6_code
def yX5_rule : MethodName := ⟨RX5, "rule", "(LSharedTaxis$State;)V"⟩
def dkwX5_rule_2 : List UInt8 := [167, 255, 211, 42, 180, 0, 9, 182, 0, 102, 191]
abbrev dktX5_rule_2 : List UInt8 := dkwX5_rule_2 ++ []
def dkwX5_rule_1 : List UInt8 := [180, 0, 91, 28, 42, 180, 0, 9, 28, 184, 0, 95, 28, 184, 0, 99, 182, 0, 25, 79, 177, 132, 2, 1]
abbrev dktX5_rule_1 : List UInt8 := dkwX5_rule_1 ++ dktX5_rule_2
def dkwX5_rule_0 : List UInt8 := [3, 61, 28, 16, 7, 162, 0, 45, 42, 180, 0, 9, 28, 184, 0, 83, 182, 0, 87, 153, 0, 25, 43]
abbrev dktX5_rule_0 : List UInt8 := dkwX5_rule_0 ++ dktX5_rule_1
theorem dksX5_rule_0 : cX5_rule.data.toList.drop 0 = dktX5_rule_0 := by decide +kernel
theorem dksX5_rule_1 : cX5_rule.data.toList.drop 23 = dktX5_rule_1 := dk_seg dksX5_rule_0 23 rfl rfl
theorem dksX5_rule_2 : cX5_rule.data.toList.drop 47 = dktX5_rule_2 := dk_seg dksX5_rule_1 24 rfl rfl
theorem dX5_rule_0 : decode cX5_rule 0 = .ok (.iconst 0, 1) := dk_3 (dk_at dksX5_rule_0 0 rfl rfl)
theorem dX5_rule_1 : decode cX5_rule 1 = .ok (.istore_n 2, 1) := dk_61 (dk_at dksX5_rule_0 1 rfl rfl)
theorem dX5_rule_2 : decode cX5_rule 2 = .ok (.iload_n 2, 1) := dk_28 (dk_at dksX5_rule_0 2 rfl rfl)
theorem dX5_rule_3 : decode cX5_rule 3 = .ok (.bipush 7, 2) := dk_16 7 (dk_at dksX5_rule_0 3 rfl rfl)
theorem dX5_rule_5 : decode cX5_rule 5 = .ok (.if_icmp .ge 45, 3) := dk_162 0 45 (dk_at dksX5_rule_0 5 rfl rfl)
theorem dX5_rule_8 : decode cX5_rule 8 = .ok (.aload_n 0, 1) := dk_42 (dk_at dksX5_rule_0 8 rfl rfl)
theorem dX5_rule_9 : decode cX5_rule 9 = .ok (.getfield 9, 3) := dk_180 0 9 (dk_at dksX5_rule_0 9 rfl rfl)
theorem dX5_rule_12 : decode cX5_rule 12 = .ok (.iload_n 2, 1) := dk_28 (dk_at dksX5_rule_0 12 rfl rfl)
theorem dX5_rule_13 : decode cX5_rule 13 = .ok (.invokestatic 83, 3) := dk_184 0 83 (dk_at dksX5_rule_0 13 rfl rfl)
theorem dX5_rule_16 : decode cX5_rule 16 = .ok (.invokevirtual 87, 3) := dk_182 0 87 (dk_at dksX5_rule_0 16 rfl rfl)
theorem dX5_rule_19 : decode cX5_rule 19 = .ok (.ifCond .eq 25, 3) := dk_153 0 25 (dk_at dksX5_rule_0 19 rfl rfl)
theorem dX5_rule_22 : decode cX5_rule 22 = .ok (.aload_n 1, 1) := dk_43 (dk_at dksX5_rule_0 22 rfl rfl)
theorem dX5_rule_23 : decode cX5_rule 23 = .ok (.getfield 91, 3) := dk_180 0 91 (dk_at dksX5_rule_1 0 rfl rfl)
theorem dX5_rule_26 : decode cX5_rule 26 = .ok (.iload_n 2, 1) := dk_28 (dk_at dksX5_rule_1 3 rfl rfl)
theorem dX5_rule_27 : decode cX5_rule 27 = .ok (.aload_n 0, 1) := dk_42 (dk_at dksX5_rule_1 4 rfl rfl)
theorem dX5_rule_28 : decode cX5_rule 28 = .ok (.getfield 9, 3) := dk_180 0 9 (dk_at dksX5_rule_1 5 rfl rfl)
theorem dX5_rule_31 : decode cX5_rule 31 = .ok (.iload_n 2, 1) := dk_28 (dk_at dksX5_rule_1 8 rfl rfl)
theorem dX5_rule_32 : decode cX5_rule 32 = .ok (.invokestatic 95, 3) := dk_184 0 95 (dk_at dksX5_rule_1 9 rfl rfl)
theorem dX5_rule_35 : decode cX5_rule 35 = .ok (.iload_n 2, 1) := dk_28 (dk_at dksX5_rule_1 12 rfl rfl)
theorem dX5_rule_36 : decode cX5_rule 36 = .ok (.invokestatic 99, 3) := dk_184 0 99 (dk_at dksX5_rule_1 13 rfl rfl)
theorem dX5_rule_39 : decode cX5_rule 39 = .ok (.invokevirtual 25, 3) := dk_182 0 25 (dk_at dksX5_rule_1 16 rfl rfl)
theorem dX5_rule_42 : decode cX5_rule 42 = .ok (.iastore, 1) := dk_79 (dk_at dksX5_rule_1 19 rfl rfl)
theorem dX5_rule_43 : decode cX5_rule 43 = .ok (.return_, 1) := dk_177 (dk_at dksX5_rule_1 20 rfl rfl)
theorem dX5_rule_44 : decode cX5_rule 44 = .ok (.iinc 2 1, 3) := dk_132 2 1 (dk_at dksX5_rule_1 21 rfl rfl)
theorem dX5_rule_47 : decode cX5_rule 47 = .ok (.goto (-45), 3) := dk_167 255 211 (dk_at dksX5_rule_2 0 rfl rfl)
theorem dX5_rule_50 : decode cX5_rule 50 = .ok (.aload_n 0, 1) := dk_42 (dk_at dksX5_rule_2 3 rfl rfl)
theorem dX5_rule_51 : decode cX5_rule 51 = .ok (.getfield 9, 3) := dk_180 0 9 (dk_at dksX5_rule_2 4 rfl rfl)
theorem dX5_rule_54 : decode cX5_rule 54 = .ok (.invokevirtual 102, 3) := dk_182 0 102 (dk_at dksX5_rule_2 7 rfl rfl)
theorem dX5_rule_57 : decode cX5_rule 57 = .ok (.athrow, 1) := dk_191 (dk_at dksX5_rule_2 10 rfl rfl)
abbrev cX6_init : ByteArray := prog_10_method_1_code
def yX6_init : MethodName := ⟨RX6, "<init>", "([BILjava/lang/String;)V"⟩
def dkwX6_init_1 : List UInt8 := [181, 0, 23, 42, 182, 0, 26, 177]
abbrev dktX6_init_1 : List UInt8 := dkwX6_init_1 ++ []
def dkwX6_init_0 : List UInt8 := [42, 183, 0, 1, 42, 18, 7, 181, 0, 9, 42, 43, 181, 0, 15, 42, 28, 181, 0, 19, 42, 45]
abbrev dktX6_init_0 : List UInt8 := dkwX6_init_0 ++ dktX6_init_1
theorem dksX6_init_0 : cX6_init.data.toList.drop 0 = dktX6_init_0 := by decide +kernel
theorem dksX6_init_1 : cX6_init.data.toList.drop 22 = dktX6_init_1 := dk_seg dksX6_init_0 22 rfl rfl
theorem dX6_init_0 : decode cX6_init 0 = .ok (.aload_n 0, 1) := dk_42 (dk_at dksX6_init_0 0 rfl rfl)
theorem dX6_init_1 : decode cX6_init 1 = .ok (.invokespecial 1, 3) := dk_183 0 1 (dk_at dksX6_init_0 1 rfl rfl)
theorem dX6_init_4 : decode cX6_init 4 = .ok (.aload_n 0, 1) := dk_42 (dk_at dksX6_init_0 4 rfl rfl)
theorem dX6_init_5 : decode cX6_init 5 = .ok (.ldc 7, 2) := dk_18 7 (dk_at dksX6_init_0 5 rfl rfl)
theorem dX6_init_7 : decode cX6_init 7 = .ok (.putfield 9, 3) := dk_181 0 9 (dk_at dksX6_init_0 7 rfl rfl)
theorem dX6_init_10 : decode cX6_init 10 = .ok (.aload_n 0, 1) := dk_42 (dk_at dksX6_init_0 10 rfl rfl)
theorem dX6_init_11 : decode cX6_init 11 = .ok (.aload_n 1, 1) := dk_43 (dk_at dksX6_init_0 11 rfl rfl)
theorem dX6_init_12 : decode cX6_init 12 = .ok (.putfield 15, 3) := dk_181 0 15 (dk_at dksX6_init_0 12 rfl rfl)
theorem dX6_init_15 : decode cX6_init 15 = .ok (.aload_n 0, 1) := dk_42 (dk_at dksX6_init_0 15 rfl rfl)
theorem dX6_init_16 : decode cX6_init 16 = .ok (.iload_n 2, 1) := dk_28 (dk_at dksX6_init_0 16 rfl rfl)
theorem dX6_init_17 : decode cX6_init 17 = .ok (.putfield 19, 3) := dk_181 0 19 (dk_at dksX6_init_0 17 rfl rfl)
theorem dX6_init_20 : decode cX6_init 20 = .ok (.aload_n 0, 1) := dk_42 (dk_at dksX6_init_0 20 rfl rfl)
theorem dX6_init_21 : decode cX6_init 21 = .ok (.aload_n 3, 1) := dk_45 (dk_at dksX6_init_0 21 rfl rfl)
theorem dX6_init_22 : decode cX6_init 22 = .ok (.putfield 23, 3) := dk_181 0 23 (dk_at dksX6_init_1 0 rfl rfl)
theorem dX6_init_25 : decode cX6_init 25 = .ok (.aload_n 0, 1) := dk_42 (dk_at dksX6_init_1 3 rfl rfl)
theorem dX6_init_26 : decode cX6_init 26 = .ok (.invokevirtual 26, 3) := dk_182 0 26 (dk_at dksX6_init_1 4 rfl rfl)
theorem dX6_init_29 : decode cX6_init 29 = .ok (.return_, 1) := dk_177 (dk_at dksX6_init_1 7 rfl rfl)
abbrev cX6_advance : ByteArray := prog_10_method_3_code
def yX6_advance : MethodName := ⟨RX6, "advance", "()V"⟩
def dkwX6_advance_7 : List UInt8 := [180, 0, 15, 42, 180, 0, 32, 51, 182, 0, 53, 155, 0, 7, 6, 167, 0, 4, 7, 181, 0, 35, 177]
abbrev dktX6_advance_7 : List UInt8 := dkwX6_advance_7 ++ []
def dkwX6_advance_6 : List UInt8 := [181, 0, 50, 167, 0, 41, 42, 89, 180, 0, 29, 4, 96, 181, 0, 29, 42, 42, 180, 0, 23, 42]
abbrev dktX6_advance_6 : List UInt8 := dkwX6_advance_6 ++ dktX6_advance_7
def dkwX6_advance_5 : List UInt8 := [180, 0, 32, 16, 48, 16, 57, 182, 0, 38, 153, 0, 19, 42, 5, 181, 0, 35, 42, 42, 182, 0, 46]
abbrev dktX6_advance_5 : List UInt8 := dkwX6_advance_5 ++ dktX6_advance_6
def dkwX6_advance_4 : List UInt8 := [182, 0, 38, 153, 0, 19, 42, 4, 181, 0, 35, 42, 42, 182, 0, 42, 181, 0, 9, 167, 0, 72, 42, 42]
abbrev dktX6_advance_4 : List UInt8 := dkwX6_advance_4 ++ dktX6_advance_5
def dkwX6_advance_3 : List UInt8 := [42, 180, 0, 19, 160, 0, 11, 42, 3, 181, 0, 35, 167, 0, 103, 42, 42, 180, 0, 32, 16, 97, 16, 122]
abbrev dktX6_advance_3 : List UInt8 := dkwX6_advance_3 ++ dktX6_advance_4
def dkwX6_advance_2 : List UInt8 := [89, 180, 0, 32, 4, 96, 181, 0, 32, 167, 255, 207, 42, 42, 180, 0, 32, 181, 0, 29, 42, 180, 0, 32]
abbrev dktX6_advance_2 : List UInt8 := dkwX6_advance_2 ++ dktX6_advance_3
def dkwX6_advance_1 : List UInt8 := [180, 0, 32, 51, 16, 32, 159, 0, 17, 42, 180, 0, 15, 42, 180, 0, 32, 51, 16, 10, 160, 0, 16, 42]
abbrev dktX6_advance_1 : List UInt8 := dkwX6_advance_1 ++ dktX6_advance_2
def dkwX6_advance_0 : List UInt8 := [42, 42, 180, 0, 29, 181, 0, 32, 42, 180, 0, 32, 42, 180, 0, 19, 162, 0, 44, 42, 180, 0, 15, 42]
abbrev dktX6_advance_0 : List UInt8 := dkwX6_advance_0 ++ dktX6_advance_1
theorem dksX6_advance_0 : cX6_advance.data.toList.drop 0 = dktX6_advance_0 := by decide +kernel
theorem dksX6_advance_1 : cX6_advance.data.toList.drop 24 = dktX6_advance_1 := dk_seg dksX6_advance_0 24 rfl rfl
theorem dksX6_advance_2 : cX6_advance.data.toList.drop 48 = dktX6_advance_2 := dk_seg dksX6_advance_1 24 rfl rfl
theorem dksX6_advance_3 : cX6_advance.data.toList.drop 72 = dktX6_advance_3 := dk_seg dksX6_advance_2 24 rfl rfl
theorem dksX6_advance_4 : cX6_advance.data.toList.drop 96 = dktX6_advance_4 := dk_seg dksX6_advance_3 24 rfl rfl
theorem dksX6_advance_5 : cX6_advance.data.toList.drop 120 = dktX6_advance_5 := dk_seg dksX6_advance_4 24 rfl rfl
theorem dksX6_advance_6 : cX6_advance.data.toList.drop 143 = dktX6_advance_6 := dk_seg dksX6_advance_5 23 rfl rfl
theorem dksX6_advance_7 : cX6_advance.data.toList.drop 165 = dktX6_advance_7 := dk_seg dksX6_advance_6 22 rfl rfl
theorem dX6_advance_0 : decode cX6_advance 0 = .ok (.aload_n 0, 1) := dk_42 (dk_at dksX6_advance_0 0 rfl rfl)
theorem dX6_advance_1 : decode cX6_advance 1 = .ok (.aload_n 0, 1) := dk_42 (dk_at dksX6_advance_0 1 rfl rfl)
theorem dX6_advance_2 : decode cX6_advance 2 = .ok (.getfield 29, 3) := dk_180 0 29 (dk_at dksX6_advance_0 2 rfl rfl)
theorem dX6_advance_5 : decode cX6_advance 5 = .ok (.putfield 32, 3) := dk_181 0 32 (dk_at dksX6_advance_0 5 rfl rfl)
theorem dX6_advance_8 : decode cX6_advance 8 = .ok (.aload_n 0, 1) := dk_42 (dk_at dksX6_advance_0 8 rfl rfl)
theorem dX6_advance_9 : decode cX6_advance 9 = .ok (.getfield 32, 3) := dk_180 0 32 (dk_at dksX6_advance_0 9 rfl rfl)
theorem dX6_advance_12 : decode cX6_advance 12 = .ok (.aload_n 0, 1) := dk_42 (dk_at dksX6_advance_0 12 rfl rfl)
theorem dX6_advance_13 : decode cX6_advance 13 = .ok (.getfield 19, 3) := dk_180 0 19 (dk_at dksX6_advance_0 13 rfl rfl)
theorem dX6_advance_16 : decode cX6_advance 16 = .ok (.if_icmp .ge 44, 3) := dk_162 0 44 (dk_at dksX6_advance_0 16 rfl rfl)
theorem dX6_advance_19 : decode cX6_advance 19 = .ok (.aload_n 0, 1) := dk_42 (dk_at dksX6_advance_0 19 rfl rfl)
theorem dX6_advance_20 : decode cX6_advance 20 = .ok (.getfield 15, 3) := dk_180 0 15 (dk_at dksX6_advance_0 20 rfl rfl)
theorem dX6_advance_23 : decode cX6_advance 23 = .ok (.aload_n 0, 1) := dk_42 (dk_at dksX6_advance_0 23 rfl rfl)
theorem dX6_advance_24 : decode cX6_advance 24 = .ok (.getfield 32, 3) := dk_180 0 32 (dk_at dksX6_advance_1 0 rfl rfl)
theorem dX6_advance_27 : decode cX6_advance 27 = .ok (.baload, 1) := dk_51 (dk_at dksX6_advance_1 3 rfl rfl)
theorem dX6_advance_28 : decode cX6_advance 28 = .ok (.bipush 32, 2) := dk_16 32 (dk_at dksX6_advance_1 4 rfl rfl)
theorem dX6_advance_30 : decode cX6_advance 30 = .ok (.if_icmp .eq 17, 3) := dk_159 0 17 (dk_at dksX6_advance_1 6 rfl rfl)
theorem dX6_advance_33 : decode cX6_advance 33 = .ok (.aload_n 0, 1) := dk_42 (dk_at dksX6_advance_1 9 rfl rfl)
theorem dX6_advance_34 : decode cX6_advance 34 = .ok (.getfield 15, 3) := dk_180 0 15 (dk_at dksX6_advance_1 10 rfl rfl)
theorem dX6_advance_37 : decode cX6_advance 37 = .ok (.aload_n 0, 1) := dk_42 (dk_at dksX6_advance_1 13 rfl rfl)
theorem dX6_advance_38 : decode cX6_advance 38 = .ok (.getfield 32, 3) := dk_180 0 32 (dk_at dksX6_advance_1 14 rfl rfl)
theorem dX6_advance_41 : decode cX6_advance 41 = .ok (.baload, 1) := dk_51 (dk_at dksX6_advance_1 17 rfl rfl)
theorem dX6_advance_42 : decode cX6_advance 42 = .ok (.bipush 10, 2) := dk_16 10 (dk_at dksX6_advance_1 18 rfl rfl)
theorem dX6_advance_44 : decode cX6_advance 44 = .ok (.if_icmp .ne 16, 3) := dk_160 0 16 (dk_at dksX6_advance_1 20 rfl rfl)
theorem dX6_advance_47 : decode cX6_advance 47 = .ok (.aload_n 0, 1) := dk_42 (dk_at dksX6_advance_1 23 rfl rfl)
theorem dX6_advance_48 : decode cX6_advance 48 = .ok (.dup, 1) := dk_89 (dk_at dksX6_advance_2 0 rfl rfl)
theorem dX6_advance_49 : decode cX6_advance 49 = .ok (.getfield 32, 3) := dk_180 0 32 (dk_at dksX6_advance_2 1 rfl rfl)
theorem dX6_advance_52 : decode cX6_advance 52 = .ok (.iconst 1, 1) := dk_4 (dk_at dksX6_advance_2 4 rfl rfl)
theorem dX6_advance_53 : decode cX6_advance 53 = .ok (.iadd, 1) := dk_96 (dk_at dksX6_advance_2 5 rfl rfl)
theorem dX6_advance_54 : decode cX6_advance 54 = .ok (.putfield 32, 3) := dk_181 0 32 (dk_at dksX6_advance_2 6 rfl rfl)
theorem dX6_advance_57 : decode cX6_advance 57 = .ok (.goto (-49), 3) := dk_167 255 207 (dk_at dksX6_advance_2 9 rfl rfl)
theorem dX6_advance_60 : decode cX6_advance 60 = .ok (.aload_n 0, 1) := dk_42 (dk_at dksX6_advance_2 12 rfl rfl)
theorem dX6_advance_61 : decode cX6_advance 61 = .ok (.aload_n 0, 1) := dk_42 (dk_at dksX6_advance_2 13 rfl rfl)
theorem dX6_advance_62 : decode cX6_advance 62 = .ok (.getfield 32, 3) := dk_180 0 32 (dk_at dksX6_advance_2 14 rfl rfl)
theorem dX6_advance_65 : decode cX6_advance 65 = .ok (.putfield 29, 3) := dk_181 0 29 (dk_at dksX6_advance_2 17 rfl rfl)
theorem dX6_advance_68 : decode cX6_advance 68 = .ok (.aload_n 0, 1) := dk_42 (dk_at dksX6_advance_2 20 rfl rfl)
theorem dX6_advance_69 : decode cX6_advance 69 = .ok (.getfield 32, 3) := dk_180 0 32 (dk_at dksX6_advance_2 21 rfl rfl)
theorem dX6_advance_72 : decode cX6_advance 72 = .ok (.aload_n 0, 1) := dk_42 (dk_at dksX6_advance_3 0 rfl rfl)
theorem dX6_advance_73 : decode cX6_advance 73 = .ok (.getfield 19, 3) := dk_180 0 19 (dk_at dksX6_advance_3 1 rfl rfl)
theorem dX6_advance_76 : decode cX6_advance 76 = .ok (.if_icmp .ne 11, 3) := dk_160 0 11 (dk_at dksX6_advance_3 4 rfl rfl)
theorem dX6_advance_79 : decode cX6_advance 79 = .ok (.aload_n 0, 1) := dk_42 (dk_at dksX6_advance_3 7 rfl rfl)
theorem dX6_advance_80 : decode cX6_advance 80 = .ok (.iconst 0, 1) := dk_3 (dk_at dksX6_advance_3 8 rfl rfl)
theorem dX6_advance_81 : decode cX6_advance 81 = .ok (.putfield 35, 3) := dk_181 0 35 (dk_at dksX6_advance_3 9 rfl rfl)
theorem dX6_advance_84 : decode cX6_advance 84 = .ok (.goto 103, 3) := dk_167 0 103 (dk_at dksX6_advance_3 12 rfl rfl)
theorem dX6_advance_87 : decode cX6_advance 87 = .ok (.aload_n 0, 1) := dk_42 (dk_at dksX6_advance_3 15 rfl rfl)
theorem dX6_advance_88 : decode cX6_advance 88 = .ok (.aload_n 0, 1) := dk_42 (dk_at dksX6_advance_3 16 rfl rfl)
theorem dX6_advance_89 : decode cX6_advance 89 = .ok (.getfield 32, 3) := dk_180 0 32 (dk_at dksX6_advance_3 17 rfl rfl)
theorem dX6_advance_92 : decode cX6_advance 92 = .ok (.bipush 97, 2) := dk_16 97 (dk_at dksX6_advance_3 20 rfl rfl)
theorem dX6_advance_94 : decode cX6_advance 94 = .ok (.bipush 122, 2) := dk_16 122 (dk_at dksX6_advance_3 22 rfl rfl)
theorem dX6_advance_96 : decode cX6_advance 96 = .ok (.invokevirtual 38, 3) := dk_182 0 38 (dk_at dksX6_advance_4 0 rfl rfl)
theorem dX6_advance_99 : decode cX6_advance 99 = .ok (.ifCond .eq 19, 3) := dk_153 0 19 (dk_at dksX6_advance_4 3 rfl rfl)
theorem dX6_advance_102 : decode cX6_advance 102 = .ok (.aload_n 0, 1) := dk_42 (dk_at dksX6_advance_4 6 rfl rfl)
theorem dX6_advance_103 : decode cX6_advance 103 = .ok (.iconst 1, 1) := dk_4 (dk_at dksX6_advance_4 7 rfl rfl)
theorem dX6_advance_104 : decode cX6_advance 104 = .ok (.putfield 35, 3) := dk_181 0 35 (dk_at dksX6_advance_4 8 rfl rfl)
theorem dX6_advance_107 : decode cX6_advance 107 = .ok (.aload_n 0, 1) := dk_42 (dk_at dksX6_advance_4 11 rfl rfl)
theorem dX6_advance_108 : decode cX6_advance 108 = .ok (.aload_n 0, 1) := dk_42 (dk_at dksX6_advance_4 12 rfl rfl)
theorem dX6_advance_109 : decode cX6_advance 109 = .ok (.invokevirtual 42, 3) := dk_182 0 42 (dk_at dksX6_advance_4 13 rfl rfl)
theorem dX6_advance_112 : decode cX6_advance 112 = .ok (.putfield 9, 3) := dk_181 0 9 (dk_at dksX6_advance_4 16 rfl rfl)
theorem dX6_advance_115 : decode cX6_advance 115 = .ok (.goto 72, 3) := dk_167 0 72 (dk_at dksX6_advance_4 19 rfl rfl)
theorem dX6_advance_118 : decode cX6_advance 118 = .ok (.aload_n 0, 1) := dk_42 (dk_at dksX6_advance_4 22 rfl rfl)
theorem dX6_advance_119 : decode cX6_advance 119 = .ok (.aload_n 0, 1) := dk_42 (dk_at dksX6_advance_4 23 rfl rfl)
theorem dX6_advance_120 : decode cX6_advance 120 = .ok (.getfield 32, 3) := dk_180 0 32 (dk_at dksX6_advance_5 0 rfl rfl)
theorem dX6_advance_123 : decode cX6_advance 123 = .ok (.bipush 48, 2) := dk_16 48 (dk_at dksX6_advance_5 3 rfl rfl)
theorem dX6_advance_125 : decode cX6_advance 125 = .ok (.bipush 57, 2) := dk_16 57 (dk_at dksX6_advance_5 5 rfl rfl)
theorem dX6_advance_127 : decode cX6_advance 127 = .ok (.invokevirtual 38, 3) := dk_182 0 38 (dk_at dksX6_advance_5 7 rfl rfl)
theorem dX6_advance_130 : decode cX6_advance 130 = .ok (.ifCond .eq 19, 3) := dk_153 0 19 (dk_at dksX6_advance_5 10 rfl rfl)
theorem dX6_advance_133 : decode cX6_advance 133 = .ok (.aload_n 0, 1) := dk_42 (dk_at dksX6_advance_5 13 rfl rfl)
theorem dX6_advance_134 : decode cX6_advance 134 = .ok (.iconst 2, 1) := dk_5 (dk_at dksX6_advance_5 14 rfl rfl)
theorem dX6_advance_135 : decode cX6_advance 135 = .ok (.putfield 35, 3) := dk_181 0 35 (dk_at dksX6_advance_5 15 rfl rfl)
theorem dX6_advance_138 : decode cX6_advance 138 = .ok (.aload_n 0, 1) := dk_42 (dk_at dksX6_advance_5 18 rfl rfl)
theorem dX6_advance_139 : decode cX6_advance 139 = .ok (.aload_n 0, 1) := dk_42 (dk_at dksX6_advance_5 19 rfl rfl)
theorem dX6_advance_140 : decode cX6_advance 140 = .ok (.invokevirtual 46, 3) := dk_182 0 46 (dk_at dksX6_advance_5 20 rfl rfl)
theorem dX6_advance_143 : decode cX6_advance 143 = .ok (.putfield 50, 3) := dk_181 0 50 (dk_at dksX6_advance_6 0 rfl rfl)
theorem dX6_advance_146 : decode cX6_advance 146 = .ok (.goto 41, 3) := dk_167 0 41 (dk_at dksX6_advance_6 3 rfl rfl)
theorem dX6_advance_149 : decode cX6_advance 149 = .ok (.aload_n 0, 1) := dk_42 (dk_at dksX6_advance_6 6 rfl rfl)
theorem dX6_advance_150 : decode cX6_advance 150 = .ok (.dup, 1) := dk_89 (dk_at dksX6_advance_6 7 rfl rfl)
theorem dX6_advance_151 : decode cX6_advance 151 = .ok (.getfield 29, 3) := dk_180 0 29 (dk_at dksX6_advance_6 8 rfl rfl)
theorem dX6_advance_154 : decode cX6_advance 154 = .ok (.iconst 1, 1) := dk_4 (dk_at dksX6_advance_6 11 rfl rfl)
theorem dX6_advance_155 : decode cX6_advance 155 = .ok (.iadd, 1) := dk_96 (dk_at dksX6_advance_6 12 rfl rfl)
theorem dX6_advance_156 : decode cX6_advance 156 = .ok (.putfield 29, 3) := dk_181 0 29 (dk_at dksX6_advance_6 13 rfl rfl)
theorem dX6_advance_159 : decode cX6_advance 159 = .ok (.aload_n 0, 1) := dk_42 (dk_at dksX6_advance_6 16 rfl rfl)
theorem dX6_advance_160 : decode cX6_advance 160 = .ok (.aload_n 0, 1) := dk_42 (dk_at dksX6_advance_6 17 rfl rfl)
theorem dX6_advance_161 : decode cX6_advance 161 = .ok (.getfield 23, 3) := dk_180 0 23 (dk_at dksX6_advance_6 18 rfl rfl)
theorem dX6_advance_164 : decode cX6_advance 164 = .ok (.aload_n 0, 1) := dk_42 (dk_at dksX6_advance_6 21 rfl rfl)
theorem dX6_advance_165 : decode cX6_advance 165 = .ok (.getfield 15, 3) := dk_180 0 15 (dk_at dksX6_advance_7 0 rfl rfl)
theorem dX6_advance_168 : decode cX6_advance 168 = .ok (.aload_n 0, 1) := dk_42 (dk_at dksX6_advance_7 3 rfl rfl)
theorem dX6_advance_169 : decode cX6_advance 169 = .ok (.getfield 32, 3) := dk_180 0 32 (dk_at dksX6_advance_7 4 rfl rfl)
theorem dX6_advance_172 : decode cX6_advance 172 = .ok (.baload, 1) := dk_51 (dk_at dksX6_advance_7 7 rfl rfl)
theorem dX6_advance_173 : decode cX6_advance 173 = .ok (.invokevirtual 53, 3) := dk_182 0 53 (dk_at dksX6_advance_7 8 rfl rfl)
theorem dX6_advance_176 : decode cX6_advance 176 = .ok (.ifCond .lt 7, 3) := dk_155 0 7 (dk_at dksX6_advance_7 11 rfl rfl)
theorem dX6_advance_179 : decode cX6_advance 179 = .ok (.iconst 3, 1) := dk_6 (dk_at dksX6_advance_7 14 rfl rfl)
theorem dX6_advance_180 : decode cX6_advance 180 = .ok (.goto 4, 3) := dk_167 0 4 (dk_at dksX6_advance_7 15 rfl rfl)
theorem dX6_advance_183 : decode cX6_advance 183 = .ok (.iconst 4, 1) := dk_7 (dk_at dksX6_advance_7 18 rfl rfl)
theorem dX6_advance_184 : decode cX6_advance 184 = .ok (.putfield 35, 3) := dk_181 0 35 (dk_at dksX6_advance_7 19 rfl rfl)
theorem dX6_advance_187 : decode cX6_advance 187 = .ok (.return_, 1) := dk_177 (dk_at dksX6_advance_7 22 rfl rfl)
abbrev cX6_isBetween : ByteArray := prog_10_method_2_code
def yX6_isBetween : MethodName := ⟨RX6, "isBetween", "(III)Z"⟩
def dkwX6_isBetween_1 : List UInt8 := [29, 163, 0, 7, 4, 167, 0, 4, 3, 172]
abbrev dktX6_isBetween_1 : List UInt8 := dkwX6_isBetween_1 ++ []
def dkwX6_isBetween_0 : List UInt8 := [27, 42, 180, 0, 19, 162, 0, 27, 42, 180, 0, 15, 27, 51, 28, 161, 0, 17, 42, 180, 0, 15, 27, 51]
abbrev dktX6_isBetween_0 : List UInt8 := dkwX6_isBetween_0 ++ dktX6_isBetween_1
theorem dksX6_isBetween_0 : cX6_isBetween.data.toList.drop 0 = dktX6_isBetween_0 := by decide +kernel
theorem dksX6_isBetween_1 : cX6_isBetween.data.toList.drop 24 = dktX6_isBetween_1 := dk_seg dksX6_isBetween_0 24 rfl rfl
theorem dX6_isBetween_0 : decode cX6_isBetween 0 = .ok (.iload_n 1, 1) := dk_27 (dk_at dksX6_isBetween_0 0 rfl rfl)
theorem dX6_isBetween_1 : decode cX6_isBetween 1 = .ok (.aload_n 0, 1) := dk_42 (dk_at dksX6_isBetween_0 1 rfl rfl)
theorem dX6_isBetween_2 : decode cX6_isBetween 2 = .ok (.getfield 19, 3) := dk_180 0 19 (dk_at dksX6_isBetween_0 2 rfl rfl)
theorem dX6_isBetween_5 : decode cX6_isBetween 5 = .ok (.if_icmp .ge 27, 3) := dk_162 0 27 (dk_at dksX6_isBetween_0 5 rfl rfl)
theorem dX6_isBetween_8 : decode cX6_isBetween 8 = .ok (.aload_n 0, 1) := dk_42 (dk_at dksX6_isBetween_0 8 rfl rfl)
theorem dX6_isBetween_9 : decode cX6_isBetween 9 = .ok (.getfield 15, 3) := dk_180 0 15 (dk_at dksX6_isBetween_0 9 rfl rfl)
theorem dX6_isBetween_12 : decode cX6_isBetween 12 = .ok (.iload_n 1, 1) := dk_27 (dk_at dksX6_isBetween_0 12 rfl rfl)
theorem dX6_isBetween_13 : decode cX6_isBetween 13 = .ok (.baload, 1) := dk_51 (dk_at dksX6_isBetween_0 13 rfl rfl)
theorem dX6_isBetween_14 : decode cX6_isBetween 14 = .ok (.iload_n 2, 1) := dk_28 (dk_at dksX6_isBetween_0 14 rfl rfl)
theorem dX6_isBetween_15 : decode cX6_isBetween 15 = .ok (.if_icmp .lt 17, 3) := dk_161 0 17 (dk_at dksX6_isBetween_0 15 rfl rfl)
theorem dX6_isBetween_18 : decode cX6_isBetween 18 = .ok (.aload_n 0, 1) := dk_42 (dk_at dksX6_isBetween_0 18 rfl rfl)
theorem dX6_isBetween_19 : decode cX6_isBetween 19 = .ok (.getfield 15, 3) := dk_180 0 15 (dk_at dksX6_isBetween_0 19 rfl rfl)
theorem dX6_isBetween_22 : decode cX6_isBetween 22 = .ok (.iload_n 1, 1) := dk_27 (dk_at dksX6_isBetween_0 22 rfl rfl)
theorem dX6_isBetween_23 : decode cX6_isBetween 23 = .ok (.baload, 1) := dk_51 (dk_at dksX6_isBetween_0 23 rfl rfl)
theorem dX6_isBetween_24 : decode cX6_isBetween 24 = .ok (.iload_n 3, 1) := dk_29 (dk_at dksX6_isBetween_1 0 rfl rfl)
theorem dX6_isBetween_25 : decode cX6_isBetween 25 = .ok (.if_icmp .gt 7, 3) := dk_163 0 7 (dk_at dksX6_isBetween_1 1 rfl rfl)
theorem dX6_isBetween_28 : decode cX6_isBetween 28 = .ok (.iconst 1, 1) := dk_4 (dk_at dksX6_isBetween_1 4 rfl rfl)
theorem dX6_isBetween_29 : decode cX6_isBetween 29 = .ok (.goto 4, 3) := dk_167 0 4 (dk_at dksX6_isBetween_1 5 rfl rfl)
theorem dX6_isBetween_32 : decode cX6_isBetween 32 = .ok (.iconst 0, 1) := dk_3 (dk_at dksX6_isBetween_1 8 rfl rfl)
theorem dX6_isBetween_33 : decode cX6_isBetween 33 = .ok (.ireturn, 1) := dk_172 (dk_at dksX6_isBetween_1 9 rfl rfl)
abbrev cX6_letters : ByteArray := prog_10_method_4_code
def yX6_letters : MethodName := ⟨RX6, "letters", "()Ljava/lang/String;"⟩
def dkwX6_letters_2 : List UInt8 := [167, 255, 216, 43, 182, 0, 66, 176]
abbrev dktX6_letters_2 : List UInt8 := dkwX6_letters_2 ++ []
def dkwX6_letters_1 : List UInt8 := [42, 180, 0, 15, 42, 180, 0, 29, 51, 146, 182, 0, 62, 87, 42, 89, 180, 0, 29, 4, 96, 181, 0, 29]
abbrev dktX6_letters_1 : List UInt8 := dkwX6_letters_1 ++ dktX6_letters_2
def dkwX6_letters_0 : List UInt8 := [187, 0, 59, 89, 183, 0, 61, 76, 42, 42, 180, 0, 29, 16, 97, 16, 122, 182, 0, 38, 153, 0, 31, 43]
abbrev dktX6_letters_0 : List UInt8 := dkwX6_letters_0 ++ dktX6_letters_1
theorem dksX6_letters_0 : cX6_letters.data.toList.drop 0 = dktX6_letters_0 := by decide +kernel
theorem dksX6_letters_1 : cX6_letters.data.toList.drop 24 = dktX6_letters_1 := dk_seg dksX6_letters_0 24 rfl rfl
theorem dksX6_letters_2 : cX6_letters.data.toList.drop 48 = dktX6_letters_2 := dk_seg dksX6_letters_1 24 rfl rfl
theorem dX6_letters_0 : decode cX6_letters 0 = .ok (.new 59, 3) := dk_187 0 59 (dk_at dksX6_letters_0 0 rfl rfl)
theorem dX6_letters_3 : decode cX6_letters 3 = .ok (.dup, 1) := dk_89 (dk_at dksX6_letters_0 3 rfl rfl)
theorem dX6_letters_4 : decode cX6_letters 4 = .ok (.invokespecial 61, 3) := dk_183 0 61 (dk_at dksX6_letters_0 4 rfl rfl)
theorem dX6_letters_7 : decode cX6_letters 7 = .ok (.astore_n 1, 1) := dk_76 (dk_at dksX6_letters_0 7 rfl rfl)
theorem dX6_letters_8 : decode cX6_letters 8 = .ok (.aload_n 0, 1) := dk_42 (dk_at dksX6_letters_0 8 rfl rfl)
theorem dX6_letters_9 : decode cX6_letters 9 = .ok (.aload_n 0, 1) := dk_42 (dk_at dksX6_letters_0 9 rfl rfl)
theorem dX6_letters_10 : decode cX6_letters 10 = .ok (.getfield 29, 3) := dk_180 0 29 (dk_at dksX6_letters_0 10 rfl rfl)
theorem dX6_letters_13 : decode cX6_letters 13 = .ok (.bipush 97, 2) := dk_16 97 (dk_at dksX6_letters_0 13 rfl rfl)
theorem dX6_letters_15 : decode cX6_letters 15 = .ok (.bipush 122, 2) := dk_16 122 (dk_at dksX6_letters_0 15 rfl rfl)
theorem dX6_letters_17 : decode cX6_letters 17 = .ok (.invokevirtual 38, 3) := dk_182 0 38 (dk_at dksX6_letters_0 17 rfl rfl)
theorem dX6_letters_20 : decode cX6_letters 20 = .ok (.ifCond .eq 31, 3) := dk_153 0 31 (dk_at dksX6_letters_0 20 rfl rfl)
theorem dX6_letters_23 : decode cX6_letters 23 = .ok (.aload_n 1, 1) := dk_43 (dk_at dksX6_letters_0 23 rfl rfl)
theorem dX6_letters_24 : decode cX6_letters 24 = .ok (.aload_n 0, 1) := dk_42 (dk_at dksX6_letters_1 0 rfl rfl)
theorem dX6_letters_25 : decode cX6_letters 25 = .ok (.getfield 15, 3) := dk_180 0 15 (dk_at dksX6_letters_1 1 rfl rfl)
theorem dX6_letters_28 : decode cX6_letters 28 = .ok (.aload_n 0, 1) := dk_42 (dk_at dksX6_letters_1 4 rfl rfl)
theorem dX6_letters_29 : decode cX6_letters 29 = .ok (.getfield 29, 3) := dk_180 0 29 (dk_at dksX6_letters_1 5 rfl rfl)
theorem dX6_letters_32 : decode cX6_letters 32 = .ok (.baload, 1) := dk_51 (dk_at dksX6_letters_1 8 rfl rfl)
theorem dX6_letters_33 : decode cX6_letters 33 = .ok (.i2c, 1) := dk_146 (dk_at dksX6_letters_1 9 rfl rfl)
theorem dX6_letters_34 : decode cX6_letters 34 = .ok (.invokevirtual 62, 3) := dk_182 0 62 (dk_at dksX6_letters_1 10 rfl rfl)
theorem dX6_letters_37 : decode cX6_letters 37 = .ok (.pop, 1) := dk_87 (dk_at dksX6_letters_1 13 rfl rfl)
theorem dX6_letters_38 : decode cX6_letters 38 = .ok (.aload_n 0, 1) := dk_42 (dk_at dksX6_letters_1 14 rfl rfl)
theorem dX6_letters_39 : decode cX6_letters 39 = .ok (.dup, 1) := dk_89 (dk_at dksX6_letters_1 15 rfl rfl)
theorem dX6_letters_40 : decode cX6_letters 40 = .ok (.getfield 29, 3) := dk_180 0 29 (dk_at dksX6_letters_1 16 rfl rfl)
theorem dX6_letters_43 : decode cX6_letters 43 = .ok (.iconst 1, 1) := dk_4 (dk_at dksX6_letters_1 19 rfl rfl)
theorem dX6_letters_44 : decode cX6_letters 44 = .ok (.iadd, 1) := dk_96 (dk_at dksX6_letters_1 20 rfl rfl)
theorem dX6_letters_45 : decode cX6_letters 45 = .ok (.putfield 29, 3) := dk_181 0 29 (dk_at dksX6_letters_1 21 rfl rfl)
theorem dX6_letters_48 : decode cX6_letters 48 = .ok (.goto (-40), 3) := dk_167 255 216 (dk_at dksX6_letters_2 0 rfl rfl)
theorem dX6_letters_51 : decode cX6_letters 51 = .ok (.aload_n 1, 1) := dk_43 (dk_at dksX6_letters_2 3 rfl rfl)
theorem dX6_letters_52 : decode cX6_letters 52 = .ok (.invokevirtual 66, 3) := dk_182 0 66 (dk_at dksX6_letters_2 4 rfl rfl)
theorem dX6_letters_55 : decode cX6_letters 55 = .ok (.areturn, 1) := dk_176 (dk_at dksX6_letters_2 7 rfl rfl)
abbrev cX6_digits : ByteArray := prog_10_method_5_code
def yX6_digits : MethodName := ⟨RX6, "digits", "()I"⟩
def dkwX6_digits_2 : List UInt8 := [181, 0, 29, 167, 255, 208, 27, 172]
abbrev dktX6_digits_2 : List UInt8 := dkwX6_digits_2 ++ []
def dkwX6_digits_1 : List UInt8 := [180, 0, 15, 42, 180, 0, 29, 51, 96, 16, 48, 100, 184, 0, 70, 60, 42, 89, 180, 0, 29, 4, 96]
abbrev dktX6_digits_1 : List UInt8 := dkwX6_digits_1 ++ dktX6_digits_2
def dkwX6_digits_0 : List UInt8 := [3, 60, 42, 42, 180, 0, 29, 16, 48, 16, 57, 182, 0, 38, 153, 0, 39, 18, 69, 16, 10, 27, 104, 42]
abbrev dktX6_digits_0 : List UInt8 := dkwX6_digits_0 ++ dktX6_digits_1
theorem dksX6_digits_0 : cX6_digits.data.toList.drop 0 = dktX6_digits_0 := by decide +kernel
theorem dksX6_digits_1 : cX6_digits.data.toList.drop 24 = dktX6_digits_1 := dk_seg dksX6_digits_0 24 rfl rfl
theorem dksX6_digits_2 : cX6_digits.data.toList.drop 47 = dktX6_digits_2 := dk_seg dksX6_digits_1 23 rfl rfl
theorem dX6_digits_0 : decode cX6_digits 0 = .ok (.iconst 0, 1) := dk_3 (dk_at dksX6_digits_0 0 rfl rfl)
theorem dX6_digits_1 : decode cX6_digits 1 = .ok (.istore_n 1, 1) := dk_60 (dk_at dksX6_digits_0 1 rfl rfl)
theorem dX6_digits_2 : decode cX6_digits 2 = .ok (.aload_n 0, 1) := dk_42 (dk_at dksX6_digits_0 2 rfl rfl)
theorem dX6_digits_3 : decode cX6_digits 3 = .ok (.aload_n 0, 1) := dk_42 (dk_at dksX6_digits_0 3 rfl rfl)
theorem dX6_digits_4 : decode cX6_digits 4 = .ok (.getfield 29, 3) := dk_180 0 29 (dk_at dksX6_digits_0 4 rfl rfl)
theorem dX6_digits_7 : decode cX6_digits 7 = .ok (.bipush 48, 2) := dk_16 48 (dk_at dksX6_digits_0 7 rfl rfl)
theorem dX6_digits_9 : decode cX6_digits 9 = .ok (.bipush 57, 2) := dk_16 57 (dk_at dksX6_digits_0 9 rfl rfl)
theorem dX6_digits_11 : decode cX6_digits 11 = .ok (.invokevirtual 38, 3) := dk_182 0 38 (dk_at dksX6_digits_0 11 rfl rfl)
theorem dX6_digits_14 : decode cX6_digits 14 = .ok (.ifCond .eq 39, 3) := dk_153 0 39 (dk_at dksX6_digits_0 14 rfl rfl)
theorem dX6_digits_17 : decode cX6_digits 17 = .ok (.ldc 69, 2) := dk_18 69 (dk_at dksX6_digits_0 17 rfl rfl)
theorem dX6_digits_19 : decode cX6_digits 19 = .ok (.bipush 10, 2) := dk_16 10 (dk_at dksX6_digits_0 19 rfl rfl)
theorem dX6_digits_21 : decode cX6_digits 21 = .ok (.iload_n 1, 1) := dk_27 (dk_at dksX6_digits_0 21 rfl rfl)
theorem dX6_digits_22 : decode cX6_digits 22 = .ok (.imul, 1) := dk_104 (dk_at dksX6_digits_0 22 rfl rfl)
theorem dX6_digits_23 : decode cX6_digits 23 = .ok (.aload_n 0, 1) := dk_42 (dk_at dksX6_digits_0 23 rfl rfl)
theorem dX6_digits_24 : decode cX6_digits 24 = .ok (.getfield 15, 3) := dk_180 0 15 (dk_at dksX6_digits_1 0 rfl rfl)
theorem dX6_digits_27 : decode cX6_digits 27 = .ok (.aload_n 0, 1) := dk_42 (dk_at dksX6_digits_1 3 rfl rfl)
theorem dX6_digits_28 : decode cX6_digits 28 = .ok (.getfield 29, 3) := dk_180 0 29 (dk_at dksX6_digits_1 4 rfl rfl)
theorem dX6_digits_31 : decode cX6_digits 31 = .ok (.baload, 1) := dk_51 (dk_at dksX6_digits_1 7 rfl rfl)
theorem dX6_digits_32 : decode cX6_digits 32 = .ok (.iadd, 1) := dk_96 (dk_at dksX6_digits_1 8 rfl rfl)
theorem dX6_digits_33 : decode cX6_digits 33 = .ok (.bipush 48, 2) := dk_16 48 (dk_at dksX6_digits_1 9 rfl rfl)
theorem dX6_digits_35 : decode cX6_digits 35 = .ok (.isub, 1) := dk_100 (dk_at dksX6_digits_1 11 rfl rfl)
theorem dX6_digits_36 : decode cX6_digits 36 = .ok (.invokestatic 70, 3) := dk_184 0 70 (dk_at dksX6_digits_1 12 rfl rfl)
theorem dX6_digits_39 : decode cX6_digits 39 = .ok (.istore_n 1, 1) := dk_60 (dk_at dksX6_digits_1 15 rfl rfl)
theorem dX6_digits_40 : decode cX6_digits 40 = .ok (.aload_n 0, 1) := dk_42 (dk_at dksX6_digits_1 16 rfl rfl)
theorem dX6_digits_41 : decode cX6_digits 41 = .ok (.dup, 1) := dk_89 (dk_at dksX6_digits_1 17 rfl rfl)
theorem dX6_digits_42 : decode cX6_digits 42 = .ok (.getfield 29, 3) := dk_180 0 29 (dk_at dksX6_digits_1 18 rfl rfl)
theorem dX6_digits_45 : decode cX6_digits 45 = .ok (.iconst 1, 1) := dk_4 (dk_at dksX6_digits_1 21 rfl rfl)
theorem dX6_digits_46 : decode cX6_digits 46 = .ok (.iadd, 1) := dk_96 (dk_at dksX6_digits_1 22 rfl rfl)
theorem dX6_digits_47 : decode cX6_digits 47 = .ok (.putfield 29, 3) := dk_181 0 29 (dk_at dksX6_digits_2 0 rfl rfl)
theorem dX6_digits_50 : decode cX6_digits 50 = .ok (.goto (-48), 3) := dk_167 255 208 (dk_at dksX6_digits_2 3 rfl rfl)
theorem dX6_digits_53 : decode cX6_digits 53 = .ok (.iload_n 1, 1) := dk_27 (dk_at dksX6_digits_2 6 rfl rfl)
theorem dX6_digits_54 : decode cX6_digits 54 = .ok (.ireturn, 1) := dk_172 (dk_at dksX6_digits_2 7 rfl rfl)
abbrev cX6_expectWord : ByteArray := prog_10_method_11_code
def yX6_expectWord : MethodName := ⟨RX6, "expectWord", "(Ljava/lang/String;)V"⟩
def dkwX6_expectWord_0 : List UInt8 := [42, 43, 182, 0, 97, 154, 0, 8, 42, 182, 0, 93, 191, 177]
abbrev dktX6_expectWord_0 : List UInt8 := dkwX6_expectWord_0 ++ []
theorem dksX6_expectWord_0 : cX6_expectWord.data.toList.drop 0 = dktX6_expectWord_0 := by decide +kernel
theorem dX6_expectWord_0 : decode cX6_expectWord 0 = .ok (.aload_n 0, 1) := dk_42 (dk_at dksX6_expectWord_0 0 rfl rfl)
theorem dX6_expectWord_1 : decode cX6_expectWord 1 = .ok (.aload_n 1, 1) := dk_43 (dk_at dksX6_expectWord_0 1 rfl rfl)
theorem dX6_expectWord_2 : decode cX6_expectWord 2 = .ok (.invokevirtual 97, 3) := dk_182 0 97 (dk_at dksX6_expectWord_0 2 rfl rfl)
theorem dX6_expectWord_5 : decode cX6_expectWord 5 = .ok (.ifCond .ne 8, 3) := dk_154 0 8 (dk_at dksX6_expectWord_0 5 rfl rfl)
theorem dX6_expectWord_8 : decode cX6_expectWord 8 = .ok (.aload_n 0, 1) := dk_42 (dk_at dksX6_expectWord_0 8 rfl rfl)
theorem dX6_expectWord_9 : decode cX6_expectWord 9 = .ok (.invokevirtual 93, 3) := dk_182 0 93 (dk_at dksX6_expectWord_0 9 rfl rfl)
theorem dX6_expectWord_12 : decode cX6_expectWord 12 = .ok (.athrow, 1) := dk_191 (dk_at dksX6_expectWord_0 12 rfl rfl)
theorem dX6_expectWord_13 : decode cX6_expectWord 13 = .ok (.return_, 1) := dk_177 (dk_at dksX6_expectWord_0 13 rfl rfl)
abbrev cX6_accept : ByteArray := prog_10_method_9_code
def yX6_accept : MethodName := ⟨RX6, "accept", "(Ljava/lang/String;)Z"⟩
def dkwX6_accept_0 : List UInt8 := [42, 43, 182, 0, 85, 61, 28, 153, 0, 7, 42, 182, 0, 26, 28, 172]
abbrev dktX6_accept_0 : List UInt8 := dkwX6_accept_0 ++ []
theorem dksX6_accept_0 : cX6_accept.data.toList.drop 0 = dktX6_accept_0 := by decide +kernel
theorem dX6_accept_0 : decode cX6_accept 0 = .ok (.aload_n 0, 1) := dk_42 (dk_at dksX6_accept_0 0 rfl rfl)
theorem dX6_accept_1 : decode cX6_accept 1 = .ok (.aload_n 1, 1) := dk_43 (dk_at dksX6_accept_0 1 rfl rfl)
theorem dX6_accept_2 : decode cX6_accept 2 = .ok (.invokevirtual 85, 3) := dk_182 0 85 (dk_at dksX6_accept_0 2 rfl rfl)
theorem dX6_accept_5 : decode cX6_accept 5 = .ok (.istore_n 2, 1) := dk_61 (dk_at dksX6_accept_0 5 rfl rfl)
theorem dX6_accept_6 : decode cX6_accept 6 = .ok (.iload_n 2, 1) := dk_28 (dk_at dksX6_accept_0 6 rfl rfl)
theorem dX6_accept_7 : decode cX6_accept 7 = .ok (.ifCond .eq 7, 3) := dk_153 0 7 (dk_at dksX6_accept_0 7 rfl rfl)
theorem dX6_accept_10 : decode cX6_accept 10 = .ok (.aload_n 0, 1) := dk_42 (dk_at dksX6_accept_0 10 rfl rfl)
theorem dX6_accept_11 : decode cX6_accept 11 = .ok (.invokevirtual 26, 3) := dk_182 0 26 (dk_at dksX6_accept_0 11 rfl rfl)
theorem dX6_accept_14 : decode cX6_accept 14 = .ok (.iload_n 2, 1) := dk_28 (dk_at dksX6_accept_0 14 rfl rfl)
theorem dX6_accept_15 : decode cX6_accept 15 = .ok (.ireturn, 1) := dk_172 (dk_at dksX6_accept_0 15 rfl rfl)
abbrev cX6_isWord : ByteArray := prog_10_method_8_code
def yX6_isWord : MethodName := ⟨RX6, "isWord", "(Ljava/lang/String;)Z"⟩
def dkwX6_isWord_1 : List UInt8 := [172]
abbrev dktX6_isWord_1 : List UInt8 := dkwX6_isWord_1 ++ []
def dkwX6_isWord_0 : List UInt8 := [42, 180, 0, 35, 4, 160, 0, 18, 42, 180, 0, 9, 43, 182, 0, 81, 153, 0, 7, 4, 167, 0, 4, 3]
abbrev dktX6_isWord_0 : List UInt8 := dkwX6_isWord_0 ++ dktX6_isWord_1
theorem dksX6_isWord_0 : cX6_isWord.data.toList.drop 0 = dktX6_isWord_0 := by decide +kernel
theorem dksX6_isWord_1 : cX6_isWord.data.toList.drop 24 = dktX6_isWord_1 := dk_seg dksX6_isWord_0 24 rfl rfl
theorem dX6_isWord_0 : decode cX6_isWord 0 = .ok (.aload_n 0, 1) := dk_42 (dk_at dksX6_isWord_0 0 rfl rfl)
theorem dX6_isWord_1 : decode cX6_isWord 1 = .ok (.getfield 35, 3) := dk_180 0 35 (dk_at dksX6_isWord_0 1 rfl rfl)
theorem dX6_isWord_4 : decode cX6_isWord 4 = .ok (.iconst 1, 1) := dk_4 (dk_at dksX6_isWord_0 4 rfl rfl)
theorem dX6_isWord_5 : decode cX6_isWord 5 = .ok (.if_icmp .ne 18, 3) := dk_160 0 18 (dk_at dksX6_isWord_0 5 rfl rfl)
theorem dX6_isWord_8 : decode cX6_isWord 8 = .ok (.aload_n 0, 1) := dk_42 (dk_at dksX6_isWord_0 8 rfl rfl)
theorem dX6_isWord_9 : decode cX6_isWord 9 = .ok (.getfield 9, 3) := dk_180 0 9 (dk_at dksX6_isWord_0 9 rfl rfl)
theorem dX6_isWord_12 : decode cX6_isWord 12 = .ok (.aload_n 1, 1) := dk_43 (dk_at dksX6_isWord_0 12 rfl rfl)
theorem dX6_isWord_13 : decode cX6_isWord 13 = .ok (.invokevirtual 81, 3) := dk_182 0 81 (dk_at dksX6_isWord_0 13 rfl rfl)
theorem dX6_isWord_16 : decode cX6_isWord 16 = .ok (.ifCond .eq 7, 3) := dk_153 0 7 (dk_at dksX6_isWord_0 16 rfl rfl)
theorem dX6_isWord_19 : decode cX6_isWord 19 = .ok (.iconst 1, 1) := dk_4 (dk_at dksX6_isWord_0 19 rfl rfl)
theorem dX6_isWord_20 : decode cX6_isWord 20 = .ok (.goto 4, 3) := dk_167 0 4 (dk_at dksX6_isWord_0 20 rfl rfl)
theorem dX6_isWord_23 : decode cX6_isWord 23 = .ok (.iconst 0, 1) := dk_3 (dk_at dksX6_isWord_0 23 rfl rfl)
theorem dX6_isWord_24 : decode cX6_isWord 24 = .ok (.ireturn, 1) := dk_172 (dk_at dksX6_isWord_1 0 rfl rfl)
abbrev cX6_wrong : ByteArray := prog_10_method_6_code
def yX6_wrong : MethodName := ⟨RX6, "wrong", "()LSharedTaxis$SyntaxException;"⟩
def dkwX6_wrong_0 : List UInt8 := [187, 0, 76, 89, 42, 180, 0, 32, 183, 0, 78, 176]
abbrev dktX6_wrong_0 : List UInt8 := dkwX6_wrong_0 ++ []
theorem dksX6_wrong_0 : cX6_wrong.data.toList.drop 0 = dktX6_wrong_0 := by decide +kernel
theorem dX6_wrong_0 : decode cX6_wrong 0 = .ok (.new 76, 3) := dk_187 0 76 (dk_at dksX6_wrong_0 0 rfl rfl)
theorem dX6_wrong_3 : decode cX6_wrong 3 = .ok (.dup, 1) := dk_89 (dk_at dksX6_wrong_0 3 rfl rfl)
theorem dX6_wrong_4 : decode cX6_wrong 4 = .ok (.aload_n 0, 1) := dk_42 (dk_at dksX6_wrong_0 4 rfl rfl)
theorem dX6_wrong_5 : decode cX6_wrong 5 = .ok (.getfield 32, 3) := dk_180 0 32 (dk_at dksX6_wrong_0 5 rfl rfl)
theorem dX6_wrong_8 : decode cX6_wrong 8 = .ok (.invokespecial 78, 3) := dk_183 0 78 (dk_at dksX6_wrong_0 8 rfl rfl)
theorem dX6_wrong_11 : decode cX6_wrong 11 = .ok (.areturn, 1) := dk_176 (dk_at dksX6_wrong_0 11 rfl rfl)
abbrev cX6_number : ByteArray := prog_10_method_13_code
def yX6_number : MethodName := ⟨RX6, "number", "(II)I"⟩
def dkwX6_number_0 : List UInt8 := [42, 27, 28, 182, 0, 103, 62, 42, 182, 0, 26, 29, 172]
abbrev dktX6_number_0 : List UInt8 := dkwX6_number_0 ++ []
theorem dksX6_number_0 : cX6_number.data.toList.drop 0 = dktX6_number_0 := by decide +kernel
theorem dX6_number_0 : decode cX6_number 0 = .ok (.aload_n 0, 1) := dk_42 (dk_at dksX6_number_0 0 rfl rfl)
theorem dX6_number_1 : decode cX6_number 1 = .ok (.iload_n 1, 1) := dk_27 (dk_at dksX6_number_0 1 rfl rfl)
theorem dX6_number_2 : decode cX6_number 2 = .ok (.iload_n 2, 1) := dk_28 (dk_at dksX6_number_0 2 rfl rfl)
theorem dX6_number_3 : decode cX6_number 3 = .ok (.invokevirtual 103, 3) := dk_182 0 103 (dk_at dksX6_number_0 3 rfl rfl)
theorem dX6_number_6 : decode cX6_number 6 = .ok (.istore_n 3, 1) := dk_62 (dk_at dksX6_number_0 6 rfl rfl)
theorem dX6_number_7 : decode cX6_number 7 = .ok (.aload_n 0, 1) := dk_42 (dk_at dksX6_number_0 7 rfl rfl)
theorem dX6_number_8 : decode cX6_number 8 = .ok (.invokevirtual 26, 3) := dk_182 0 26 (dk_at dksX6_number_0 8 rfl rfl)
theorem dX6_number_11 : decode cX6_number 11 = .ok (.iload_n 3, 1) := dk_29 (dk_at dksX6_number_0 11 rfl rfl)
theorem dX6_number_12 : decode cX6_number 12 = .ok (.ireturn, 1) := dk_172 (dk_at dksX6_number_0 12 rfl rfl)
abbrev cX6_look : ByteArray := prog_10_method_12_code
def yX6_look : MethodName := ⟨RX6, "look", "(II)I"⟩
def dkwX6_look_1 : List UInt8 := [180, 0, 50, 28, 164, 0, 15, 187, 0, 100, 89, 42, 180, 0, 32, 183, 0, 102, 191, 42, 180, 0, 50, 172]
abbrev dktX6_look_1 : List UInt8 := dkwX6_look_1 ++ []
def dkwX6_look_0 : List UInt8 := [42, 180, 0, 35, 5, 159, 0, 8, 42, 182, 0, 93, 191, 42, 180, 0, 50, 27, 161, 0, 11, 42]
abbrev dktX6_look_0 : List UInt8 := dkwX6_look_0 ++ dktX6_look_1
theorem dksX6_look_0 : cX6_look.data.toList.drop 0 = dktX6_look_0 := by decide +kernel
theorem dksX6_look_1 : cX6_look.data.toList.drop 22 = dktX6_look_1 := dk_seg dksX6_look_0 22 rfl rfl
theorem dX6_look_0 : decode cX6_look 0 = .ok (.aload_n 0, 1) := dk_42 (dk_at dksX6_look_0 0 rfl rfl)
theorem dX6_look_1 : decode cX6_look 1 = .ok (.getfield 35, 3) := dk_180 0 35 (dk_at dksX6_look_0 1 rfl rfl)
theorem dX6_look_4 : decode cX6_look 4 = .ok (.iconst 2, 1) := dk_5 (dk_at dksX6_look_0 4 rfl rfl)
theorem dX6_look_5 : decode cX6_look 5 = .ok (.if_icmp .eq 8, 3) := dk_159 0 8 (dk_at dksX6_look_0 5 rfl rfl)
theorem dX6_look_8 : decode cX6_look 8 = .ok (.aload_n 0, 1) := dk_42 (dk_at dksX6_look_0 8 rfl rfl)
theorem dX6_look_9 : decode cX6_look 9 = .ok (.invokevirtual 93, 3) := dk_182 0 93 (dk_at dksX6_look_0 9 rfl rfl)
theorem dX6_look_12 : decode cX6_look 12 = .ok (.athrow, 1) := dk_191 (dk_at dksX6_look_0 12 rfl rfl)
theorem dX6_look_13 : decode cX6_look 13 = .ok (.aload_n 0, 1) := dk_42 (dk_at dksX6_look_0 13 rfl rfl)
theorem dX6_look_14 : decode cX6_look 14 = .ok (.getfield 50, 3) := dk_180 0 50 (dk_at dksX6_look_0 14 rfl rfl)
theorem dX6_look_17 : decode cX6_look 17 = .ok (.iload_n 1, 1) := dk_27 (dk_at dksX6_look_0 17 rfl rfl)
theorem dX6_look_18 : decode cX6_look 18 = .ok (.if_icmp .lt 11, 3) := dk_161 0 11 (dk_at dksX6_look_0 18 rfl rfl)
theorem dX6_look_21 : decode cX6_look 21 = .ok (.aload_n 0, 1) := dk_42 (dk_at dksX6_look_0 21 rfl rfl)
theorem dX6_look_22 : decode cX6_look 22 = .ok (.getfield 50, 3) := dk_180 0 50 (dk_at dksX6_look_1 0 rfl rfl)
theorem dX6_look_25 : decode cX6_look 25 = .ok (.iload_n 2, 1) := dk_28 (dk_at dksX6_look_1 3 rfl rfl)
theorem dX6_look_26 : decode cX6_look 26 = .ok (.if_icmp .le 15, 3) := dk_164 0 15 (dk_at dksX6_look_1 4 rfl rfl)
theorem dX6_look_29 : decode cX6_look 29 = .ok (.new 100, 3) := dk_187 0 100 (dk_at dksX6_look_1 7 rfl rfl)
theorem dX6_look_32 : decode cX6_look 32 = .ok (.dup, 1) := dk_89 (dk_at dksX6_look_1 10 rfl rfl)
theorem dX6_look_33 : decode cX6_look 33 = .ok (.aload_n 0, 1) := dk_42 (dk_at dksX6_look_1 11 rfl rfl)
theorem dX6_look_34 : decode cX6_look 34 = .ok (.getfield 32, 3) := dk_180 0 32 (dk_at dksX6_look_1 12 rfl rfl)
theorem dX6_look_37 : decode cX6_look 37 = .ok (.invokespecial 102, 3) := dk_183 0 102 (dk_at dksX6_look_1 15 rfl rfl)
theorem dX6_look_40 : decode cX6_look 40 = .ok (.athrow, 1) := dk_191 (dk_at dksX6_look_1 18 rfl rfl)
theorem dX6_look_41 : decode cX6_look 41 = .ok (.aload_n 0, 1) := dk_42 (dk_at dksX6_look_1 19 rfl rfl)
theorem dX6_look_42 : decode cX6_look 42 = .ok (.getfield 50, 3) := dk_180 0 50 (dk_at dksX6_look_1 20 rfl rfl)
theorem dX6_look_45 : decode cX6_look 45 = .ok (.ireturn, 1) := dk_172 (dk_at dksX6_look_1 23 rfl rfl)
abbrev cX6_expect : ByteArray := prog_10_method_10_code
def yX6_expect : MethodName := ⟨RX6, "expect", "(C)V"⟩
def dkwX6_expect_0 : List UInt8 := [42, 27, 182, 0, 89, 154, 0, 8, 42, 182, 0, 93, 191, 42, 182, 0, 26, 177]
abbrev dktX6_expect_0 : List UInt8 := dkwX6_expect_0 ++ []
theorem dksX6_expect_0 : cX6_expect.data.toList.drop 0 = dktX6_expect_0 := by decide +kernel
theorem dX6_expect_0 : decode cX6_expect 0 = .ok (.aload_n 0, 1) := dk_42 (dk_at dksX6_expect_0 0 rfl rfl)
theorem dX6_expect_1 : decode cX6_expect 1 = .ok (.iload_n 1, 1) := dk_27 (dk_at dksX6_expect_0 1 rfl rfl)
theorem dX6_expect_2 : decode cX6_expect 2 = .ok (.invokevirtual 89, 3) := dk_182 0 89 (dk_at dksX6_expect_0 2 rfl rfl)
theorem dX6_expect_5 : decode cX6_expect 5 = .ok (.ifCond .ne 8, 3) := dk_154 0 8 (dk_at dksX6_expect_0 5 rfl rfl)
theorem dX6_expect_8 : decode cX6_expect 8 = .ok (.aload_n 0, 1) := dk_42 (dk_at dksX6_expect_0 8 rfl rfl)
theorem dX6_expect_9 : decode cX6_expect 9 = .ok (.invokevirtual 93, 3) := dk_182 0 93 (dk_at dksX6_expect_0 9 rfl rfl)
theorem dX6_expect_12 : decode cX6_expect 12 = .ok (.athrow, 1) := dk_191 (dk_at dksX6_expect_0 12 rfl rfl)
theorem dX6_expect_13 : decode cX6_expect 13 = .ok (.aload_n 0, 1) := dk_42 (dk_at dksX6_expect_0 13 rfl rfl)
theorem dX6_expect_14 : decode cX6_expect 14 = .ok (.invokevirtual 26, 3) := dk_182 0 26 (dk_at dksX6_expect_0 14 rfl rfl)
theorem dX6_expect_17 : decode cX6_expect 17 = .ok (.return_, 1) := dk_177 (dk_at dksX6_expect_0 17 rfl rfl)
abbrev cX6_isAt : ByteArray := prog_10_method_7_code
def yX6_isAt : MethodName := ⟨RX6, "isAt", "(C)Z"⟩
def dkwX6_isAt_1 : List UInt8 := [167, 0, 4, 3, 172]
abbrev dktX6_isAt_1 : List UInt8 := dkwX6_isAt_1 ++ []
def dkwX6_isAt_0 : List UInt8 := [42, 180, 0, 35, 6, 160, 0, 20, 42, 180, 0, 15, 42, 180, 0, 32, 51, 27, 160, 0, 7, 4]
abbrev dktX6_isAt_0 : List UInt8 := dkwX6_isAt_0 ++ dktX6_isAt_1
theorem dksX6_isAt_0 : cX6_isAt.data.toList.drop 0 = dktX6_isAt_0 := by decide +kernel
theorem dksX6_isAt_1 : cX6_isAt.data.toList.drop 22 = dktX6_isAt_1 := dk_seg dksX6_isAt_0 22 rfl rfl
theorem dX6_isAt_0 : decode cX6_isAt 0 = .ok (.aload_n 0, 1) := dk_42 (dk_at dksX6_isAt_0 0 rfl rfl)
theorem dX6_isAt_1 : decode cX6_isAt 1 = .ok (.getfield 35, 3) := dk_180 0 35 (dk_at dksX6_isAt_0 1 rfl rfl)
theorem dX6_isAt_4 : decode cX6_isAt 4 = .ok (.iconst 3, 1) := dk_6 (dk_at dksX6_isAt_0 4 rfl rfl)
theorem dX6_isAt_5 : decode cX6_isAt 5 = .ok (.if_icmp .ne 20, 3) := dk_160 0 20 (dk_at dksX6_isAt_0 5 rfl rfl)
theorem dX6_isAt_8 : decode cX6_isAt 8 = .ok (.aload_n 0, 1) := dk_42 (dk_at dksX6_isAt_0 8 rfl rfl)
theorem dX6_isAt_9 : decode cX6_isAt 9 = .ok (.getfield 15, 3) := dk_180 0 15 (dk_at dksX6_isAt_0 9 rfl rfl)
theorem dX6_isAt_12 : decode cX6_isAt 12 = .ok (.aload_n 0, 1) := dk_42 (dk_at dksX6_isAt_0 12 rfl rfl)
theorem dX6_isAt_13 : decode cX6_isAt 13 = .ok (.getfield 32, 3) := dk_180 0 32 (dk_at dksX6_isAt_0 13 rfl rfl)
theorem dX6_isAt_16 : decode cX6_isAt 16 = .ok (.baload, 1) := dk_51 (dk_at dksX6_isAt_0 16 rfl rfl)
theorem dX6_isAt_17 : decode cX6_isAt 17 = .ok (.iload_n 1, 1) := dk_27 (dk_at dksX6_isAt_0 17 rfl rfl)
theorem dX6_isAt_18 : decode cX6_isAt 18 = .ok (.if_icmp .ne 7, 3) := dk_160 0 7 (dk_at dksX6_isAt_0 18 rfl rfl)
theorem dX6_isAt_21 : decode cX6_isAt 21 = .ok (.iconst 1, 1) := dk_4 (dk_at dksX6_isAt_0 21 rfl rfl)
theorem dX6_isAt_22 : decode cX6_isAt 22 = .ok (.goto 4, 3) := dk_167 0 4 (dk_at dksX6_isAt_1 0 rfl rfl)
theorem dX6_isAt_25 : decode cX6_isAt 25 = .ok (.iconst 0, 1) := dk_3 (dk_at dksX6_isAt_1 3 rfl rfl)
theorem dX6_isAt_26 : decode cX6_isAt 26 = .ok (.ireturn, 1) := dk_172 (dk_at dksX6_isAt_1 4 rfl rfl)
abbrev cX7_init : ByteArray := prog_18_method_1_code
def yX7_init : MethodName := ⟨RX7, "<init>", "(I)V"⟩
def dkwX7_init_0 : List UInt8 := [42, 1, 1, 3, 3, 183, 0, 1, 42, 27, 181, 0, 7, 177]
abbrev dktX7_init_0 : List UInt8 := dkwX7_init_0 ++ []
theorem dksX7_init_0 : cX7_init.data.toList.drop 0 = dktX7_init_0 := by decide +kernel
theorem dX7_init_0 : decode cX7_init 0 = .ok (.aload_n 0, 1) := dk_42 (dk_at dksX7_init_0 0 rfl rfl)
theorem dX7_init_1 : decode cX7_init 1 = .ok (.aconst_null, 1) := dk_1 (dk_at dksX7_init_0 1 rfl rfl)
theorem dX7_init_2 : decode cX7_init 2 = .ok (.aconst_null, 1) := dk_1 (dk_at dksX7_init_0 2 rfl rfl)
theorem dX7_init_3 : decode cX7_init 3 = .ok (.iconst 0, 1) := dk_3 (dk_at dksX7_init_0 3 rfl rfl)
theorem dX7_init_4 : decode cX7_init 4 = .ok (.iconst 0, 1) := dk_3 (dk_at dksX7_init_0 4 rfl rfl)
theorem dX7_init_5 : decode cX7_init 5 = .ok (.invokespecial 1, 3) := dk_183 0 1 (dk_at dksX7_init_0 5 rfl rfl)
theorem dX7_init_8 : decode cX7_init 8 = .ok (.aload_n 0, 1) := dk_42 (dk_at dksX7_init_0 8 rfl rfl)
theorem dX7_init_9 : decode cX7_init 9 = .ok (.iload_n 1, 1) := dk_27 (dk_at dksX7_init_0 9 rfl rfl)
theorem dX7_init_10 : decode cX7_init 10 = .ok (.putfield 7, 3) := dk_181 0 7 (dk_at dksX7_init_0 10 rfl rfl)
theorem dX7_init_13 : decode cX7_init 13 = .ok (.return_, 1) := dk_177 (dk_at dksX7_init_0 13 rfl rfl)
abbrev cX8_init : ByteArray := prog_14_method_1_code
def yX8_init : MethodName := ⟨RX8, "<init>", "(I)V"⟩
def dkwX8_init_0 : List UInt8 := [42, 27, 183, 0, 1, 177]
abbrev dktX8_init_0 : List UInt8 := dkwX8_init_0 ++ []
theorem dksX8_init_0 : cX8_init.data.toList.drop 0 = dktX8_init_0 := by decide +kernel
theorem dX8_init_0 : decode cX8_init 0 = .ok (.aload_n 0, 1) := dk_42 (dk_at dksX8_init_0 0 rfl rfl)
theorem dX8_init_1 : decode cX8_init 1 = .ok (.iload_n 1, 1) := dk_27 (dk_at dksX8_init_0 1 rfl rfl)
theorem dX8_init_2 : decode cX8_init 2 = .ok (.invokespecial 1, 3) := dk_183 0 1 (dk_at dksX8_init_0 2 rfl rfl)
theorem dX8_init_5 : decode cX8_init 5 = .ok (.return_, 1) := dk_177 (dk_at dksX8_init_0 5 rfl rfl)
abbrev cX8_code : ByteArray := prog_14_method_2_code
def yX8_code : MethodName := ⟨RX8, "code", "()I"⟩
theorem dX8_code_0 : decode cX8_code 0 = .ok (.iconst 1, 1) := by decide +kernel
theorem dX8_code_1 : decode cX8_code 1 = .ok (.ireturn, 1) := by decide +kernel
abbrev cX9_init : ByteArray := prog_7_method_1_code
def yX9_init : MethodName := ⟨RX9, "<init>", "(I)V"⟩
def dkwX9_init_0 : List UInt8 := [42, 27, 183, 0, 1, 177]
abbrev dktX9_init_0 : List UInt8 := dkwX9_init_0 ++ []
theorem dksX9_init_0 : cX9_init.data.toList.drop 0 = dktX9_init_0 := by decide +kernel
theorem dX9_init_0 : decode cX9_init 0 = .ok (.aload_n 0, 1) := dk_42 (dk_at dksX9_init_0 0 rfl rfl)
theorem dX9_init_1 : decode cX9_init 1 = .ok (.iload_n 1, 1) := dk_27 (dk_at dksX9_init_0 1 rfl rfl)
theorem dX9_init_2 : decode cX9_init 2 = .ok (.invokespecial 1, 3) := dk_183 0 1 (dk_at dksX9_init_0 2 rfl rfl)
theorem dX9_init_5 : decode cX9_init 5 = .ok (.return_, 1) := dk_177 (dk_at dksX9_init_0 5 rfl rfl)
abbrev cX9_code : ByteArray := prog_7_method_2_code
def yX9_code : MethodName := ⟨RX9, "code", "()I"⟩
theorem dX9_code_0 : decode cX9_code 0 = .ok (.iconst 2, 1) := by decide +kernel
theorem dX9_code_1 : decode cX9_code 1 = .ok (.ireturn, 1) := by decide +kernel
