/-! RideDeskLaw -/
set_option maxRecDepth 100000
def RX0 : String := "RideDeskLaw"
abbrev cX0_load : ByteArray := method_3_code
def yX0_load : MethodName := ⟨RX0, "load", "(LRideDesk;I[J)I"⟩
def dkwX0_load_0 : List UInt8 := [44, 3, 42, 27, 182, 0, 7, 133, 80, 167, 0, 9, 78, 4, 172, 78, 5, 172, 3, 172]
abbrev dktX0_load_0 : List UInt8 := dkwX0_load_0 ++ []
theorem dksX0_load_0 : cX0_load.data.toList.drop 0 = dktX0_load_0 := by decide +kernel
theorem dX0_load_0 : decode cX0_load 0 = .ok (.aload_n 2, 1) := dk_44 (dk_at dksX0_load_0 0 rfl rfl)
theorem dX0_load_1 : decode cX0_load 1 = .ok (.iconst 0, 1) := dk_3 (dk_at dksX0_load_0 1 rfl rfl)
theorem dX0_load_2 : decode cX0_load 2 = .ok (.aload_n 0, 1) := dk_42 (dk_at dksX0_load_0 2 rfl rfl)
theorem dX0_load_3 : decode cX0_load 3 = .ok (.iload_n 1, 1) := dk_27 (dk_at dksX0_load_0 3 rfl rfl)
theorem dX0_load_4 : decode cX0_load 4 = .ok (.invokevirtual 7, 3) := dk_182 0 7 (dk_at dksX0_load_0 4 rfl rfl)
theorem dX0_load_7 : decode cX0_load 7 = .ok (.i2l, 1) := dk_133 (dk_at dksX0_load_0 7 rfl rfl)
theorem dX0_load_8 : decode cX0_load 8 = .ok (.lastore, 1) := dk_80 (dk_at dksX0_load_0 8 rfl rfl)
theorem dX0_load_9 : decode cX0_load 9 = .ok (.goto 9, 3) := dk_167 0 9 (dk_at dksX0_load_0 9 rfl rfl)
theorem dX0_load_12 : decode cX0_load 12 = .ok (.astore_n 3, 1) := dk_78 (dk_at dksX0_load_0 12 rfl rfl)
theorem dX0_load_13 : decode cX0_load 13 = .ok (.iconst 1, 1) := dk_4 (dk_at dksX0_load_0 13 rfl rfl)
theorem dX0_load_14 : decode cX0_load 14 = .ok (.ireturn, 1) := dk_172 (dk_at dksX0_load_0 14 rfl rfl)
theorem dX0_load_15 : decode cX0_load 15 = .ok (.astore_n 3, 1) := dk_78 (dk_at dksX0_load_0 15 rfl rfl)
theorem dX0_load_16 : decode cX0_load 16 = .ok (.iconst 2, 1) := dk_5 (dk_at dksX0_load_0 16 rfl rfl)
theorem dX0_load_17 : decode cX0_load 17 = .ok (.ireturn, 1) := dk_172 (dk_at dksX0_load_0 17 rfl rfl)
theorem dX0_load_18 : decode cX0_load 18 = .ok (.iconst 0, 1) := dk_3 (dk_at dksX0_load_0 18 rfl rfl)
theorem dX0_load_19 : decode cX0_load 19 = .ok (.ireturn, 1) := dk_172 (dk_at dksX0_load_0 19 rfl rfl)
abbrev cX0_until : ByteArray := method_4_code
def yX0_until : MethodName := ⟨RX0, "until", "(LRideDesk;I[J)I"⟩
def dkwX0_until_0 : List UInt8 := [44, 3, 42, 27, 182, 0, 17, 133, 80, 167, 0, 9, 78, 4, 172, 78, 5, 172, 3, 172]
abbrev dktX0_until_0 : List UInt8 := dkwX0_until_0 ++ []
theorem dksX0_until_0 : cX0_until.data.toList.drop 0 = dktX0_until_0 := by decide +kernel
theorem dX0_until_0 : decode cX0_until 0 = .ok (.aload_n 2, 1) := dk_44 (dk_at dksX0_until_0 0 rfl rfl)
theorem dX0_until_1 : decode cX0_until 1 = .ok (.iconst 0, 1) := dk_3 (dk_at dksX0_until_0 1 rfl rfl)
theorem dX0_until_2 : decode cX0_until 2 = .ok (.aload_n 0, 1) := dk_42 (dk_at dksX0_until_0 2 rfl rfl)
theorem dX0_until_3 : decode cX0_until 3 = .ok (.iload_n 1, 1) := dk_27 (dk_at dksX0_until_0 3 rfl rfl)
theorem dX0_until_4 : decode cX0_until 4 = .ok (.invokevirtual 17, 3) := dk_182 0 17 (dk_at dksX0_until_0 4 rfl rfl)
theorem dX0_until_7 : decode cX0_until 7 = .ok (.i2l, 1) := dk_133 (dk_at dksX0_until_0 7 rfl rfl)
theorem dX0_until_8 : decode cX0_until 8 = .ok (.lastore, 1) := dk_80 (dk_at dksX0_until_0 8 rfl rfl)
theorem dX0_until_9 : decode cX0_until 9 = .ok (.goto 9, 3) := dk_167 0 9 (dk_at dksX0_until_0 9 rfl rfl)
theorem dX0_until_12 : decode cX0_until 12 = .ok (.astore_n 3, 1) := dk_78 (dk_at dksX0_until_0 12 rfl rfl)
theorem dX0_until_13 : decode cX0_until 13 = .ok (.iconst 1, 1) := dk_4 (dk_at dksX0_until_0 13 rfl rfl)
theorem dX0_until_14 : decode cX0_until 14 = .ok (.ireturn, 1) := dk_172 (dk_at dksX0_until_0 14 rfl rfl)
theorem dX0_until_15 : decode cX0_until 15 = .ok (.astore_n 3, 1) := dk_78 (dk_at dksX0_until_0 15 rfl rfl)
theorem dX0_until_16 : decode cX0_until 16 = .ok (.iconst 2, 1) := dk_5 (dk_at dksX0_until_0 16 rfl rfl)
theorem dX0_until_17 : decode cX0_until 17 = .ok (.ireturn, 1) := dk_172 (dk_at dksX0_until_0 17 rfl rfl)
theorem dX0_until_18 : decode cX0_until 18 = .ok (.iconst 0, 1) := dk_3 (dk_at dksX0_until_0 18 rfl rfl)
theorem dX0_until_19 : decode cX0_until 19 = .ok (.ireturn, 1) := dk_172 (dk_at dksX0_until_0 19 rfl rfl)
abbrev cX0_minutesBetween : ByteArray := method_5_code
def yX0_minutesBetween : MethodName := ⟨RX0, "minutesBetween", "(LRideDesk;IIII[J)I"⟩
def dkwX0_minutesBetween_1 : List UInt8 := [172, 3, 172]
abbrev dktX0_minutesBetween_1 : List UInt8 := dkwX0_minutesBetween_1 ++ []
def dkwX0_minutesBetween_0 : List UInt8 := [25, 5, 3, 42, 27, 28, 29, 21, 4, 182, 0, 22, 133, 80, 167, 0, 11, 58, 6, 4, 172, 58, 6, 5]
abbrev dktX0_minutesBetween_0 : List UInt8 := dkwX0_minutesBetween_0 ++ dktX0_minutesBetween_1
theorem dksX0_minutesBetween_0 : cX0_minutesBetween.data.toList.drop 0 = dktX0_minutesBetween_0 := by decide +kernel
theorem dksX0_minutesBetween_1 : cX0_minutesBetween.data.toList.drop 24 = dktX0_minutesBetween_1 := dk_seg dksX0_minutesBetween_0 24 rfl rfl
theorem dX0_minutesBetween_0 : decode cX0_minutesBetween 0 = .ok (.aload 5, 2) := dk_25 5 (dk_at dksX0_minutesBetween_0 0 rfl rfl)
theorem dX0_minutesBetween_2 : decode cX0_minutesBetween 2 = .ok (.iconst 0, 1) := dk_3 (dk_at dksX0_minutesBetween_0 2 rfl rfl)
theorem dX0_minutesBetween_3 : decode cX0_minutesBetween 3 = .ok (.aload_n 0, 1) := dk_42 (dk_at dksX0_minutesBetween_0 3 rfl rfl)
theorem dX0_minutesBetween_4 : decode cX0_minutesBetween 4 = .ok (.iload_n 1, 1) := dk_27 (dk_at dksX0_minutesBetween_0 4 rfl rfl)
theorem dX0_minutesBetween_5 : decode cX0_minutesBetween 5 = .ok (.iload_n 2, 1) := dk_28 (dk_at dksX0_minutesBetween_0 5 rfl rfl)
theorem dX0_minutesBetween_6 : decode cX0_minutesBetween 6 = .ok (.iload_n 3, 1) := dk_29 (dk_at dksX0_minutesBetween_0 6 rfl rfl)
theorem dX0_minutesBetween_7 : decode cX0_minutesBetween 7 = .ok (.iload 4, 2) := dk_21 4 (dk_at dksX0_minutesBetween_0 7 rfl rfl)
theorem dX0_minutesBetween_9 : decode cX0_minutesBetween 9 = .ok (.invokevirtual 22, 3) := dk_182 0 22 (dk_at dksX0_minutesBetween_0 9 rfl rfl)
theorem dX0_minutesBetween_12 : decode cX0_minutesBetween 12 = .ok (.i2l, 1) := dk_133 (dk_at dksX0_minutesBetween_0 12 rfl rfl)
theorem dX0_minutesBetween_13 : decode cX0_minutesBetween 13 = .ok (.lastore, 1) := dk_80 (dk_at dksX0_minutesBetween_0 13 rfl rfl)
theorem dX0_minutesBetween_14 : decode cX0_minutesBetween 14 = .ok (.goto 11, 3) := dk_167 0 11 (dk_at dksX0_minutesBetween_0 14 rfl rfl)
theorem dX0_minutesBetween_17 : decode cX0_minutesBetween 17 = .ok (.astore 6, 2) := dk_58 6 (dk_at dksX0_minutesBetween_0 17 rfl rfl)
theorem dX0_minutesBetween_19 : decode cX0_minutesBetween 19 = .ok (.iconst 1, 1) := dk_4 (dk_at dksX0_minutesBetween_0 19 rfl rfl)
theorem dX0_minutesBetween_20 : decode cX0_minutesBetween 20 = .ok (.ireturn, 1) := dk_172 (dk_at dksX0_minutesBetween_0 20 rfl rfl)
theorem dX0_minutesBetween_21 : decode cX0_minutesBetween 21 = .ok (.astore 6, 2) := dk_58 6 (dk_at dksX0_minutesBetween_0 21 rfl rfl)
theorem dX0_minutesBetween_23 : decode cX0_minutesBetween 23 = .ok (.iconst 2, 1) := dk_5 (dk_at dksX0_minutesBetween_0 23 rfl rfl)
theorem dX0_minutesBetween_24 : decode cX0_minutesBetween 24 = .ok (.ireturn, 1) := dk_172 (dk_at dksX0_minutesBetween_1 0 rfl rfl)
theorem dX0_minutesBetween_25 : decode cX0_minutesBetween 25 = .ok (.iconst 0, 1) := dk_3 (dk_at dksX0_minutesBetween_1 1 rfl rfl)
theorem dX0_minutesBetween_26 : decode cX0_minutesBetween 26 = .ok (.ireturn, 1) := dk_172 (dk_at dksX0_minutesBetween_1 2 rfl rfl)
abbrev cX0_stops : ByteArray := method_6_code
def yX0_stops : MethodName := ⟨RX0, "stops", "(LRideDesk;I[J)I"⟩
def dkwX0_stops_0 : List UInt8 := [44, 3, 42, 27, 182, 0, 26, 133, 80, 167, 0, 9, 78, 4, 172, 78, 5, 172, 3, 172]
abbrev dktX0_stops_0 : List UInt8 := dkwX0_stops_0 ++ []
theorem dksX0_stops_0 : cX0_stops.data.toList.drop 0 = dktX0_stops_0 := by decide +kernel
theorem dX0_stops_0 : decode cX0_stops 0 = .ok (.aload_n 2, 1) := dk_44 (dk_at dksX0_stops_0 0 rfl rfl)
theorem dX0_stops_1 : decode cX0_stops 1 = .ok (.iconst 0, 1) := dk_3 (dk_at dksX0_stops_0 1 rfl rfl)
theorem dX0_stops_2 : decode cX0_stops 2 = .ok (.aload_n 0, 1) := dk_42 (dk_at dksX0_stops_0 2 rfl rfl)
theorem dX0_stops_3 : decode cX0_stops 3 = .ok (.iload_n 1, 1) := dk_27 (dk_at dksX0_stops_0 3 rfl rfl)
theorem dX0_stops_4 : decode cX0_stops 4 = .ok (.invokevirtual 26, 3) := dk_182 0 26 (dk_at dksX0_stops_0 4 rfl rfl)
theorem dX0_stops_7 : decode cX0_stops 7 = .ok (.i2l, 1) := dk_133 (dk_at dksX0_stops_0 7 rfl rfl)
theorem dX0_stops_8 : decode cX0_stops 8 = .ok (.lastore, 1) := dk_80 (dk_at dksX0_stops_0 8 rfl rfl)
theorem dX0_stops_9 : decode cX0_stops 9 = .ok (.goto 9, 3) := dk_167 0 9 (dk_at dksX0_stops_0 9 rfl rfl)
theorem dX0_stops_12 : decode cX0_stops 12 = .ok (.astore_n 3, 1) := dk_78 (dk_at dksX0_stops_0 12 rfl rfl)
theorem dX0_stops_13 : decode cX0_stops 13 = .ok (.iconst 1, 1) := dk_4 (dk_at dksX0_stops_0 13 rfl rfl)
theorem dX0_stops_14 : decode cX0_stops 14 = .ok (.ireturn, 1) := dk_172 (dk_at dksX0_stops_0 14 rfl rfl)
theorem dX0_stops_15 : decode cX0_stops 15 = .ok (.astore_n 3, 1) := dk_78 (dk_at dksX0_stops_0 15 rfl rfl)
theorem dX0_stops_16 : decode cX0_stops 16 = .ok (.iconst 2, 1) := dk_5 (dk_at dksX0_stops_0 16 rfl rfl)
theorem dX0_stops_17 : decode cX0_stops 17 = .ok (.ireturn, 1) := dk_172 (dk_at dksX0_stops_0 17 rfl rfl)
theorem dX0_stops_18 : decode cX0_stops 18 = .ok (.iconst 0, 1) := dk_3 (dk_at dksX0_stops_0 18 rfl rfl)
theorem dX0_stops_19 : decode cX0_stops 19 = .ok (.ireturn, 1) := dk_172 (dk_at dksX0_stops_0 19 rfl rfl)
abbrev cX0_fixedStops : ByteArray := method_7_code
def yX0_fixedStops : MethodName := ⟨RX0, "fixedStops", "(LRideDesk;I[J)I"⟩
def dkwX0_fixedStops_0 : List UInt8 := [44, 3, 42, 27, 182, 0, 29, 133, 80, 167, 0, 9, 78, 4, 172, 78, 5, 172, 3, 172]
abbrev dktX0_fixedStops_0 : List UInt8 := dkwX0_fixedStops_0 ++ []
theorem dksX0_fixedStops_0 : cX0_fixedStops.data.toList.drop 0 = dktX0_fixedStops_0 := by decide +kernel
theorem dX0_fixedStops_0 : decode cX0_fixedStops 0 = .ok (.aload_n 2, 1) := dk_44 (dk_at dksX0_fixedStops_0 0 rfl rfl)
theorem dX0_fixedStops_1 : decode cX0_fixedStops 1 = .ok (.iconst 0, 1) := dk_3 (dk_at dksX0_fixedStops_0 1 rfl rfl)
theorem dX0_fixedStops_2 : decode cX0_fixedStops 2 = .ok (.aload_n 0, 1) := dk_42 (dk_at dksX0_fixedStops_0 2 rfl rfl)
theorem dX0_fixedStops_3 : decode cX0_fixedStops 3 = .ok (.iload_n 1, 1) := dk_27 (dk_at dksX0_fixedStops_0 3 rfl rfl)
theorem dX0_fixedStops_4 : decode cX0_fixedStops 4 = .ok (.invokevirtual 29, 3) := dk_182 0 29 (dk_at dksX0_fixedStops_0 4 rfl rfl)
theorem dX0_fixedStops_7 : decode cX0_fixedStops 7 = .ok (.i2l, 1) := dk_133 (dk_at dksX0_fixedStops_0 7 rfl rfl)
theorem dX0_fixedStops_8 : decode cX0_fixedStops 8 = .ok (.lastore, 1) := dk_80 (dk_at dksX0_fixedStops_0 8 rfl rfl)
theorem dX0_fixedStops_9 : decode cX0_fixedStops 9 = .ok (.goto 9, 3) := dk_167 0 9 (dk_at dksX0_fixedStops_0 9 rfl rfl)
theorem dX0_fixedStops_12 : decode cX0_fixedStops 12 = .ok (.astore_n 3, 1) := dk_78 (dk_at dksX0_fixedStops_0 12 rfl rfl)
theorem dX0_fixedStops_13 : decode cX0_fixedStops 13 = .ok (.iconst 1, 1) := dk_4 (dk_at dksX0_fixedStops_0 13 rfl rfl)
theorem dX0_fixedStops_14 : decode cX0_fixedStops 14 = .ok (.ireturn, 1) := dk_172 (dk_at dksX0_fixedStops_0 14 rfl rfl)
theorem dX0_fixedStops_15 : decode cX0_fixedStops 15 = .ok (.astore_n 3, 1) := dk_78 (dk_at dksX0_fixedStops_0 15 rfl rfl)
theorem dX0_fixedStops_16 : decode cX0_fixedStops 16 = .ok (.iconst 2, 1) := dk_5 (dk_at dksX0_fixedStops_0 16 rfl rfl)
theorem dX0_fixedStops_17 : decode cX0_fixedStops 17 = .ok (.ireturn, 1) := dk_172 (dk_at dksX0_fixedStops_0 17 rfl rfl)
theorem dX0_fixedStops_18 : decode cX0_fixedStops 18 = .ok (.iconst 0, 1) := dk_3 (dk_at dksX0_fixedStops_0 18 rfl rfl)
theorem dX0_fixedStops_19 : decode cX0_fixedStops 19 = .ok (.ireturn, 1) := dk_172 (dk_at dksX0_fixedStops_0 19 rfl rfl)
abbrev cX0_callAt : ByteArray := method_8_code
def yX0_callAt : MethodName := ⟨RX0, "callAt", "(LRideDesk;II[J)I"⟩
def dkwX0_callAt_0 : List UInt8 := [45, 3, 42, 27, 28, 182, 0, 32, 133, 80, 167, 0, 11, 58, 4, 4, 172, 58, 4, 5, 172, 3, 172]
abbrev dktX0_callAt_0 : List UInt8 := dkwX0_callAt_0 ++ []
theorem dksX0_callAt_0 : cX0_callAt.data.toList.drop 0 = dktX0_callAt_0 := by decide +kernel
theorem dX0_callAt_0 : decode cX0_callAt 0 = .ok (.aload_n 3, 1) := dk_45 (dk_at dksX0_callAt_0 0 rfl rfl)
theorem dX0_callAt_1 : decode cX0_callAt 1 = .ok (.iconst 0, 1) := dk_3 (dk_at dksX0_callAt_0 1 rfl rfl)
theorem dX0_callAt_2 : decode cX0_callAt 2 = .ok (.aload_n 0, 1) := dk_42 (dk_at dksX0_callAt_0 2 rfl rfl)
theorem dX0_callAt_3 : decode cX0_callAt 3 = .ok (.iload_n 1, 1) := dk_27 (dk_at dksX0_callAt_0 3 rfl rfl)
theorem dX0_callAt_4 : decode cX0_callAt 4 = .ok (.iload_n 2, 1) := dk_28 (dk_at dksX0_callAt_0 4 rfl rfl)
theorem dX0_callAt_5 : decode cX0_callAt 5 = .ok (.invokevirtual 32, 3) := dk_182 0 32 (dk_at dksX0_callAt_0 5 rfl rfl)
theorem dX0_callAt_8 : decode cX0_callAt 8 = .ok (.i2l, 1) := dk_133 (dk_at dksX0_callAt_0 8 rfl rfl)
theorem dX0_callAt_9 : decode cX0_callAt 9 = .ok (.lastore, 1) := dk_80 (dk_at dksX0_callAt_0 9 rfl rfl)
theorem dX0_callAt_10 : decode cX0_callAt 10 = .ok (.goto 11, 3) := dk_167 0 11 (dk_at dksX0_callAt_0 10 rfl rfl)
theorem dX0_callAt_13 : decode cX0_callAt 13 = .ok (.astore 4, 2) := dk_58 4 (dk_at dksX0_callAt_0 13 rfl rfl)
theorem dX0_callAt_15 : decode cX0_callAt 15 = .ok (.iconst 1, 1) := dk_4 (dk_at dksX0_callAt_0 15 rfl rfl)
theorem dX0_callAt_16 : decode cX0_callAt 16 = .ok (.ireturn, 1) := dk_172 (dk_at dksX0_callAt_0 16 rfl rfl)
theorem dX0_callAt_17 : decode cX0_callAt 17 = .ok (.astore 4, 2) := dk_58 4 (dk_at dksX0_callAt_0 17 rfl rfl)
theorem dX0_callAt_19 : decode cX0_callAt 19 = .ok (.iconst 2, 1) := dk_5 (dk_at dksX0_callAt_0 19 rfl rfl)
theorem dX0_callAt_20 : decode cX0_callAt 20 = .ok (.ireturn, 1) := dk_172 (dk_at dksX0_callAt_0 20 rfl rfl)
theorem dX0_callAt_21 : decode cX0_callAt 21 = .ok (.iconst 0, 1) := dk_3 (dk_at dksX0_callAt_0 21 rfl rfl)
theorem dX0_callAt_22 : decode cX0_callAt 22 = .ok (.ireturn, 1) := dk_172 (dk_at dksX0_callAt_0 22 rfl rfl)
abbrev cX0_isPickup : ByteArray := method_9_code
def yX0_isPickup : MethodName := ⟨RX0, "isPickup", "(LRideDesk;II[J)I"⟩
def dkwX0_isPickup_1 : List UInt8 := [58, 4, 5, 172, 3, 172]
abbrev dktX0_isPickup_1 : List UInt8 := dkwX0_isPickup_1 ++ []
def dkwX0_isPickup_0 : List UInt8 := [45, 3, 42, 27, 28, 182, 0, 36, 153, 0, 7, 10, 167, 0, 4, 9, 80, 167, 0, 11, 58, 4, 4, 172]
abbrev dktX0_isPickup_0 : List UInt8 := dkwX0_isPickup_0 ++ dktX0_isPickup_1
theorem dksX0_isPickup_0 : cX0_isPickup.data.toList.drop 0 = dktX0_isPickup_0 := by decide +kernel
theorem dksX0_isPickup_1 : cX0_isPickup.data.toList.drop 24 = dktX0_isPickup_1 := dk_seg dksX0_isPickup_0 24 rfl rfl
theorem dX0_isPickup_0 : decode cX0_isPickup 0 = .ok (.aload_n 3, 1) := dk_45 (dk_at dksX0_isPickup_0 0 rfl rfl)
theorem dX0_isPickup_1 : decode cX0_isPickup 1 = .ok (.iconst 0, 1) := dk_3 (dk_at dksX0_isPickup_0 1 rfl rfl)
theorem dX0_isPickup_2 : decode cX0_isPickup 2 = .ok (.aload_n 0, 1) := dk_42 (dk_at dksX0_isPickup_0 2 rfl rfl)
theorem dX0_isPickup_3 : decode cX0_isPickup 3 = .ok (.iload_n 1, 1) := dk_27 (dk_at dksX0_isPickup_0 3 rfl rfl)
theorem dX0_isPickup_4 : decode cX0_isPickup 4 = .ok (.iload_n 2, 1) := dk_28 (dk_at dksX0_isPickup_0 4 rfl rfl)
theorem dX0_isPickup_5 : decode cX0_isPickup 5 = .ok (.invokevirtual 36, 3) := dk_182 0 36 (dk_at dksX0_isPickup_0 5 rfl rfl)
theorem dX0_isPickup_8 : decode cX0_isPickup 8 = .ok (.ifCond .eq 7, 3) := dk_153 0 7 (dk_at dksX0_isPickup_0 8 rfl rfl)
theorem dX0_isPickup_11 : decode cX0_isPickup 11 = .ok (.lconst 1, 1) := dk_10 (dk_at dksX0_isPickup_0 11 rfl rfl)
theorem dX0_isPickup_12 : decode cX0_isPickup 12 = .ok (.goto 4, 3) := dk_167 0 4 (dk_at dksX0_isPickup_0 12 rfl rfl)
theorem dX0_isPickup_15 : decode cX0_isPickup 15 = .ok (.lconst 0, 1) := dk_9 (dk_at dksX0_isPickup_0 15 rfl rfl)
theorem dX0_isPickup_16 : decode cX0_isPickup 16 = .ok (.lastore, 1) := dk_80 (dk_at dksX0_isPickup_0 16 rfl rfl)
theorem dX0_isPickup_17 : decode cX0_isPickup 17 = .ok (.goto 11, 3) := dk_167 0 11 (dk_at dksX0_isPickup_0 17 rfl rfl)
theorem dX0_isPickup_20 : decode cX0_isPickup 20 = .ok (.astore 4, 2) := dk_58 4 (dk_at dksX0_isPickup_0 20 rfl rfl)
theorem dX0_isPickup_22 : decode cX0_isPickup 22 = .ok (.iconst 1, 1) := dk_4 (dk_at dksX0_isPickup_0 22 rfl rfl)
theorem dX0_isPickup_23 : decode cX0_isPickup 23 = .ok (.ireturn, 1) := dk_172 (dk_at dksX0_isPickup_0 23 rfl rfl)
theorem dX0_isPickup_24 : decode cX0_isPickup 24 = .ok (.astore 4, 2) := dk_58 4 (dk_at dksX0_isPickup_1 0 rfl rfl)
theorem dX0_isPickup_26 : decode cX0_isPickup 26 = .ok (.iconst 2, 1) := dk_5 (dk_at dksX0_isPickup_1 2 rfl rfl)
theorem dX0_isPickup_27 : decode cX0_isPickup 27 = .ok (.ireturn, 1) := dk_172 (dk_at dksX0_isPickup_1 3 rfl rfl)
theorem dX0_isPickup_28 : decode cX0_isPickup 28 = .ok (.iconst 0, 1) := dk_3 (dk_at dksX0_isPickup_1 4 rfl rfl)
theorem dX0_isPickup_29 : decode cX0_isPickup 29 = .ok (.ireturn, 1) := dk_172 (dk_at dksX0_isPickup_1 5 rfl rfl)
abbrev cX0_departureOf : ByteArray := method_10_code
def yX0_departureOf : MethodName := ⟨RX0, "departureOf", "(LRideDesk;II[J)I"⟩
def dkwX0_departureOf_0 : List UInt8 := [45, 3, 42, 27, 28, 182, 0, 40, 133, 80, 167, 0, 11, 58, 4, 4, 172, 58, 4, 5, 172, 3, 172]
abbrev dktX0_departureOf_0 : List UInt8 := dkwX0_departureOf_0 ++ []
theorem dksX0_departureOf_0 : cX0_departureOf.data.toList.drop 0 = dktX0_departureOf_0 := by decide +kernel
theorem dX0_departureOf_0 : decode cX0_departureOf 0 = .ok (.aload_n 3, 1) := dk_45 (dk_at dksX0_departureOf_0 0 rfl rfl)
theorem dX0_departureOf_1 : decode cX0_departureOf 1 = .ok (.iconst 0, 1) := dk_3 (dk_at dksX0_departureOf_0 1 rfl rfl)
theorem dX0_departureOf_2 : decode cX0_departureOf 2 = .ok (.aload_n 0, 1) := dk_42 (dk_at dksX0_departureOf_0 2 rfl rfl)
theorem dX0_departureOf_3 : decode cX0_departureOf 3 = .ok (.iload_n 1, 1) := dk_27 (dk_at dksX0_departureOf_0 3 rfl rfl)
theorem dX0_departureOf_4 : decode cX0_departureOf 4 = .ok (.iload_n 2, 1) := dk_28 (dk_at dksX0_departureOf_0 4 rfl rfl)
theorem dX0_departureOf_5 : decode cX0_departureOf 5 = .ok (.invokevirtual 40, 3) := dk_182 0 40 (dk_at dksX0_departureOf_0 5 rfl rfl)
theorem dX0_departureOf_8 : decode cX0_departureOf 8 = .ok (.i2l, 1) := dk_133 (dk_at dksX0_departureOf_0 8 rfl rfl)
theorem dX0_departureOf_9 : decode cX0_departureOf 9 = .ok (.lastore, 1) := dk_80 (dk_at dksX0_departureOf_0 9 rfl rfl)
theorem dX0_departureOf_10 : decode cX0_departureOf 10 = .ok (.goto 11, 3) := dk_167 0 11 (dk_at dksX0_departureOf_0 10 rfl rfl)
theorem dX0_departureOf_13 : decode cX0_departureOf 13 = .ok (.astore 4, 2) := dk_58 4 (dk_at dksX0_departureOf_0 13 rfl rfl)
theorem dX0_departureOf_15 : decode cX0_departureOf 15 = .ok (.iconst 1, 1) := dk_4 (dk_at dksX0_departureOf_0 15 rfl rfl)
theorem dX0_departureOf_16 : decode cX0_departureOf 16 = .ok (.ireturn, 1) := dk_172 (dk_at dksX0_departureOf_0 16 rfl rfl)
theorem dX0_departureOf_17 : decode cX0_departureOf 17 = .ok (.astore 4, 2) := dk_58 4 (dk_at dksX0_departureOf_0 17 rfl rfl)
theorem dX0_departureOf_19 : decode cX0_departureOf 19 = .ok (.iconst 2, 1) := dk_5 (dk_at dksX0_departureOf_0 19 rfl rfl)
theorem dX0_departureOf_20 : decode cX0_departureOf 20 = .ok (.ireturn, 1) := dk_172 (dk_at dksX0_departureOf_0 20 rfl rfl)
theorem dX0_departureOf_21 : decode cX0_departureOf 21 = .ok (.iconst 0, 1) := dk_3 (dk_at dksX0_departureOf_0 21 rfl rfl)
theorem dX0_departureOf_22 : decode cX0_departureOf 22 = .ok (.ireturn, 1) := dk_172 (dk_at dksX0_departureOf_0 22 rfl rfl)
abbrev cX0_beginOf : ByteArray := method_11_code
def yX0_beginOf : MethodName := ⟨RX0, "beginOf", "(LRideDesk;II[J)I"⟩
def dkwX0_beginOf_0 : List UInt8 := [45, 3, 42, 27, 28, 182, 0, 43, 133, 80, 167, 0, 11, 58, 4, 4, 172, 58, 4, 5, 172, 3, 172]
abbrev dktX0_beginOf_0 : List UInt8 := dkwX0_beginOf_0 ++ []
theorem dksX0_beginOf_0 : cX0_beginOf.data.toList.drop 0 = dktX0_beginOf_0 := by decide +kernel
theorem dX0_beginOf_0 : decode cX0_beginOf 0 = .ok (.aload_n 3, 1) := dk_45 (dk_at dksX0_beginOf_0 0 rfl rfl)
theorem dX0_beginOf_1 : decode cX0_beginOf 1 = .ok (.iconst 0, 1) := dk_3 (dk_at dksX0_beginOf_0 1 rfl rfl)
theorem dX0_beginOf_2 : decode cX0_beginOf 2 = .ok (.aload_n 0, 1) := dk_42 (dk_at dksX0_beginOf_0 2 rfl rfl)
theorem dX0_beginOf_3 : decode cX0_beginOf 3 = .ok (.iload_n 1, 1) := dk_27 (dk_at dksX0_beginOf_0 3 rfl rfl)
theorem dX0_beginOf_4 : decode cX0_beginOf 4 = .ok (.iload_n 2, 1) := dk_28 (dk_at dksX0_beginOf_0 4 rfl rfl)
theorem dX0_beginOf_5 : decode cX0_beginOf 5 = .ok (.invokevirtual 43, 3) := dk_182 0 43 (dk_at dksX0_beginOf_0 5 rfl rfl)
theorem dX0_beginOf_8 : decode cX0_beginOf 8 = .ok (.i2l, 1) := dk_133 (dk_at dksX0_beginOf_0 8 rfl rfl)
theorem dX0_beginOf_9 : decode cX0_beginOf 9 = .ok (.lastore, 1) := dk_80 (dk_at dksX0_beginOf_0 9 rfl rfl)
theorem dX0_beginOf_10 : decode cX0_beginOf 10 = .ok (.goto 11, 3) := dk_167 0 11 (dk_at dksX0_beginOf_0 10 rfl rfl)
theorem dX0_beginOf_13 : decode cX0_beginOf 13 = .ok (.astore 4, 2) := dk_58 4 (dk_at dksX0_beginOf_0 13 rfl rfl)
theorem dX0_beginOf_15 : decode cX0_beginOf 15 = .ok (.iconst 1, 1) := dk_4 (dk_at dksX0_beginOf_0 15 rfl rfl)
theorem dX0_beginOf_16 : decode cX0_beginOf 16 = .ok (.ireturn, 1) := dk_172 (dk_at dksX0_beginOf_0 16 rfl rfl)
theorem dX0_beginOf_17 : decode cX0_beginOf 17 = .ok (.astore 4, 2) := dk_58 4 (dk_at dksX0_beginOf_0 17 rfl rfl)
theorem dX0_beginOf_19 : decode cX0_beginOf 19 = .ok (.iconst 2, 1) := dk_5 (dk_at dksX0_beginOf_0 19 rfl rfl)
theorem dX0_beginOf_20 : decode cX0_beginOf 20 = .ok (.ireturn, 1) := dk_172 (dk_at dksX0_beginOf_0 20 rfl rfl)
theorem dX0_beginOf_21 : decode cX0_beginOf 21 = .ok (.iconst 0, 1) := dk_3 (dk_at dksX0_beginOf_0 21 rfl rfl)
theorem dX0_beginOf_22 : decode cX0_beginOf 22 = .ok (.ireturn, 1) := dk_172 (dk_at dksX0_beginOf_0 22 rfl rfl)
abbrev cX0_freeSeats : ByteArray := method_12_code
def yX0_freeSeats : MethodName := ⟨RX0, "freeSeats", "(LRideDesk;II[J)I"⟩
def dkwX0_freeSeats_0 : List UInt8 := [45, 3, 42, 27, 28, 182, 0, 46, 133, 80, 167, 0, 11, 58, 4, 4, 172, 58, 4, 5, 172, 3, 172]
abbrev dktX0_freeSeats_0 : List UInt8 := dkwX0_freeSeats_0 ++ []
theorem dksX0_freeSeats_0 : cX0_freeSeats.data.toList.drop 0 = dktX0_freeSeats_0 := by decide +kernel
theorem dX0_freeSeats_0 : decode cX0_freeSeats 0 = .ok (.aload_n 3, 1) := dk_45 (dk_at dksX0_freeSeats_0 0 rfl rfl)
theorem dX0_freeSeats_1 : decode cX0_freeSeats 1 = .ok (.iconst 0, 1) := dk_3 (dk_at dksX0_freeSeats_0 1 rfl rfl)
theorem dX0_freeSeats_2 : decode cX0_freeSeats 2 = .ok (.aload_n 0, 1) := dk_42 (dk_at dksX0_freeSeats_0 2 rfl rfl)
theorem dX0_freeSeats_3 : decode cX0_freeSeats 3 = .ok (.iload_n 1, 1) := dk_27 (dk_at dksX0_freeSeats_0 3 rfl rfl)
theorem dX0_freeSeats_4 : decode cX0_freeSeats 4 = .ok (.iload_n 2, 1) := dk_28 (dk_at dksX0_freeSeats_0 4 rfl rfl)
theorem dX0_freeSeats_5 : decode cX0_freeSeats 5 = .ok (.invokevirtual 46, 3) := dk_182 0 46 (dk_at dksX0_freeSeats_0 5 rfl rfl)
theorem dX0_freeSeats_8 : decode cX0_freeSeats 8 = .ok (.i2l, 1) := dk_133 (dk_at dksX0_freeSeats_0 8 rfl rfl)
theorem dX0_freeSeats_9 : decode cX0_freeSeats 9 = .ok (.lastore, 1) := dk_80 (dk_at dksX0_freeSeats_0 9 rfl rfl)
theorem dX0_freeSeats_10 : decode cX0_freeSeats 10 = .ok (.goto 11, 3) := dk_167 0 11 (dk_at dksX0_freeSeats_0 10 rfl rfl)
theorem dX0_freeSeats_13 : decode cX0_freeSeats 13 = .ok (.astore 4, 2) := dk_58 4 (dk_at dksX0_freeSeats_0 13 rfl rfl)
theorem dX0_freeSeats_15 : decode cX0_freeSeats 15 = .ok (.iconst 1, 1) := dk_4 (dk_at dksX0_freeSeats_0 15 rfl rfl)
theorem dX0_freeSeats_16 : decode cX0_freeSeats 16 = .ok (.ireturn, 1) := dk_172 (dk_at dksX0_freeSeats_0 16 rfl rfl)
theorem dX0_freeSeats_17 : decode cX0_freeSeats 17 = .ok (.astore 4, 2) := dk_58 4 (dk_at dksX0_freeSeats_0 17 rfl rfl)
theorem dX0_freeSeats_19 : decode cX0_freeSeats 19 = .ok (.iconst 2, 1) := dk_5 (dk_at dksX0_freeSeats_0 19 rfl rfl)
theorem dX0_freeSeats_20 : decode cX0_freeSeats 20 = .ok (.ireturn, 1) := dk_172 (dk_at dksX0_freeSeats_0 20 rfl rfl)
theorem dX0_freeSeats_21 : decode cX0_freeSeats 21 = .ok (.iconst 0, 1) := dk_3 (dk_at dksX0_freeSeats_0 21 rfl rfl)
theorem dX0_freeSeats_22 : decode cX0_freeSeats 22 = .ok (.ireturn, 1) := dk_172 (dk_at dksX0_freeSeats_0 22 rfl rfl)
abbrev cX0_freeWheels : ByteArray := method_13_code
def yX0_freeWheels : MethodName := ⟨RX0, "freeWheels", "(LRideDesk;II[J)I"⟩
def dkwX0_freeWheels_0 : List UInt8 := [45, 3, 42, 27, 28, 182, 0, 49, 133, 80, 167, 0, 11, 58, 4, 4, 172, 58, 4, 5, 172, 3, 172]
abbrev dktX0_freeWheels_0 : List UInt8 := dkwX0_freeWheels_0 ++ []
theorem dksX0_freeWheels_0 : cX0_freeWheels.data.toList.drop 0 = dktX0_freeWheels_0 := by decide +kernel
theorem dX0_freeWheels_0 : decode cX0_freeWheels 0 = .ok (.aload_n 3, 1) := dk_45 (dk_at dksX0_freeWheels_0 0 rfl rfl)
theorem dX0_freeWheels_1 : decode cX0_freeWheels 1 = .ok (.iconst 0, 1) := dk_3 (dk_at dksX0_freeWheels_0 1 rfl rfl)
theorem dX0_freeWheels_2 : decode cX0_freeWheels 2 = .ok (.aload_n 0, 1) := dk_42 (dk_at dksX0_freeWheels_0 2 rfl rfl)
theorem dX0_freeWheels_3 : decode cX0_freeWheels 3 = .ok (.iload_n 1, 1) := dk_27 (dk_at dksX0_freeWheels_0 3 rfl rfl)
theorem dX0_freeWheels_4 : decode cX0_freeWheels 4 = .ok (.iload_n 2, 1) := dk_28 (dk_at dksX0_freeWheels_0 4 rfl rfl)
theorem dX0_freeWheels_5 : decode cX0_freeWheels 5 = .ok (.invokevirtual 49, 3) := dk_182 0 49 (dk_at dksX0_freeWheels_0 5 rfl rfl)
theorem dX0_freeWheels_8 : decode cX0_freeWheels 8 = .ok (.i2l, 1) := dk_133 (dk_at dksX0_freeWheels_0 8 rfl rfl)
theorem dX0_freeWheels_9 : decode cX0_freeWheels 9 = .ok (.lastore, 1) := dk_80 (dk_at dksX0_freeWheels_0 9 rfl rfl)
theorem dX0_freeWheels_10 : decode cX0_freeWheels 10 = .ok (.goto 11, 3) := dk_167 0 11 (dk_at dksX0_freeWheels_0 10 rfl rfl)
theorem dX0_freeWheels_13 : decode cX0_freeWheels 13 = .ok (.astore 4, 2) := dk_58 4 (dk_at dksX0_freeWheels_0 13 rfl rfl)
theorem dX0_freeWheels_15 : decode cX0_freeWheels 15 = .ok (.iconst 1, 1) := dk_4 (dk_at dksX0_freeWheels_0 15 rfl rfl)
theorem dX0_freeWheels_16 : decode cX0_freeWheels 16 = .ok (.ireturn, 1) := dk_172 (dk_at dksX0_freeWheels_0 16 rfl rfl)
theorem dX0_freeWheels_17 : decode cX0_freeWheels 17 = .ok (.astore 4, 2) := dk_58 4 (dk_at dksX0_freeWheels_0 17 rfl rfl)
theorem dX0_freeWheels_19 : decode cX0_freeWheels 19 = .ok (.iconst 2, 1) := dk_5 (dk_at dksX0_freeWheels_0 19 rfl rfl)
theorem dX0_freeWheels_20 : decode cX0_freeWheels 20 = .ok (.ireturn, 1) := dk_172 (dk_at dksX0_freeWheels_0 20 rfl rfl)
theorem dX0_freeWheels_21 : decode cX0_freeWheels 21 = .ok (.iconst 0, 1) := dk_3 (dk_at dksX0_freeWheels_0 21 rfl rfl)
theorem dX0_freeWheels_22 : decode cX0_freeWheels 22 = .ok (.ireturn, 1) := dk_172 (dk_at dksX0_freeWheels_0 22 rfl rfl)
abbrev cX0_slack : ByteArray := method_14_code
def yX0_slack : MethodName := ⟨RX0, "slack", "(LRideDesk;II[J)I"⟩
def dkwX0_slack_0 : List UInt8 := [45, 3, 42, 27, 28, 182, 0, 52, 133, 80, 167, 0, 11, 58, 4, 4, 172, 58, 4, 5, 172, 3, 172]
abbrev dktX0_slack_0 : List UInt8 := dkwX0_slack_0 ++ []
theorem dksX0_slack_0 : cX0_slack.data.toList.drop 0 = dktX0_slack_0 := by decide +kernel
theorem dX0_slack_0 : decode cX0_slack 0 = .ok (.aload_n 3, 1) := dk_45 (dk_at dksX0_slack_0 0 rfl rfl)
theorem dX0_slack_1 : decode cX0_slack 1 = .ok (.iconst 0, 1) := dk_3 (dk_at dksX0_slack_0 1 rfl rfl)
theorem dX0_slack_2 : decode cX0_slack 2 = .ok (.aload_n 0, 1) := dk_42 (dk_at dksX0_slack_0 2 rfl rfl)
theorem dX0_slack_3 : decode cX0_slack 3 = .ok (.iload_n 1, 1) := dk_27 (dk_at dksX0_slack_0 3 rfl rfl)
theorem dX0_slack_4 : decode cX0_slack 4 = .ok (.iload_n 2, 1) := dk_28 (dk_at dksX0_slack_0 4 rfl rfl)
theorem dX0_slack_5 : decode cX0_slack 5 = .ok (.invokevirtual 52, 3) := dk_182 0 52 (dk_at dksX0_slack_0 5 rfl rfl)
theorem dX0_slack_8 : decode cX0_slack 8 = .ok (.i2l, 1) := dk_133 (dk_at dksX0_slack_0 8 rfl rfl)
theorem dX0_slack_9 : decode cX0_slack 9 = .ok (.lastore, 1) := dk_80 (dk_at dksX0_slack_0 9 rfl rfl)
theorem dX0_slack_10 : decode cX0_slack 10 = .ok (.goto 11, 3) := dk_167 0 11 (dk_at dksX0_slack_0 10 rfl rfl)
theorem dX0_slack_13 : decode cX0_slack 13 = .ok (.astore 4, 2) := dk_58 4 (dk_at dksX0_slack_0 13 rfl rfl)
theorem dX0_slack_15 : decode cX0_slack 15 = .ok (.iconst 1, 1) := dk_4 (dk_at dksX0_slack_0 15 rfl rfl)
theorem dX0_slack_16 : decode cX0_slack 16 = .ok (.ireturn, 1) := dk_172 (dk_at dksX0_slack_0 16 rfl rfl)
theorem dX0_slack_17 : decode cX0_slack 17 = .ok (.astore 4, 2) := dk_58 4 (dk_at dksX0_slack_0 17 rfl rfl)
theorem dX0_slack_19 : decode cX0_slack 19 = .ok (.iconst 2, 1) := dk_5 (dk_at dksX0_slack_0 19 rfl rfl)
theorem dX0_slack_20 : decode cX0_slack 20 = .ok (.ireturn, 1) := dk_172 (dk_at dksX0_slack_0 20 rfl rfl)
theorem dX0_slack_21 : decode cX0_slack 21 = .ok (.iconst 0, 1) := dk_3 (dk_at dksX0_slack_0 21 rfl rfl)
theorem dX0_slack_22 : decode cX0_slack 22 = .ok (.ireturn, 1) := dk_172 (dk_at dksX0_slack_0 22 rfl rfl)
abbrev cX0_endOf : ByteArray := method_15_code
def yX0_endOf : MethodName := ⟨RX0, "endOf", "(LRideDesk;I[J)I"⟩
def dkwX0_endOf_0 : List UInt8 := [44, 3, 42, 27, 182, 0, 55, 133, 80, 167, 0, 9, 78, 4, 172, 78, 5, 172, 3, 172]
abbrev dktX0_endOf_0 : List UInt8 := dkwX0_endOf_0 ++ []
theorem dksX0_endOf_0 : cX0_endOf.data.toList.drop 0 = dktX0_endOf_0 := by decide +kernel
theorem dX0_endOf_0 : decode cX0_endOf 0 = .ok (.aload_n 2, 1) := dk_44 (dk_at dksX0_endOf_0 0 rfl rfl)
theorem dX0_endOf_1 : decode cX0_endOf 1 = .ok (.iconst 0, 1) := dk_3 (dk_at dksX0_endOf_0 1 rfl rfl)
theorem dX0_endOf_2 : decode cX0_endOf 2 = .ok (.aload_n 0, 1) := dk_42 (dk_at dksX0_endOf_0 2 rfl rfl)
theorem dX0_endOf_3 : decode cX0_endOf 3 = .ok (.iload_n 1, 1) := dk_27 (dk_at dksX0_endOf_0 3 rfl rfl)
theorem dX0_endOf_4 : decode cX0_endOf 4 = .ok (.invokevirtual 55, 3) := dk_182 0 55 (dk_at dksX0_endOf_0 4 rfl rfl)
theorem dX0_endOf_7 : decode cX0_endOf 7 = .ok (.i2l, 1) := dk_133 (dk_at dksX0_endOf_0 7 rfl rfl)
theorem dX0_endOf_8 : decode cX0_endOf 8 = .ok (.lastore, 1) := dk_80 (dk_at dksX0_endOf_0 8 rfl rfl)
theorem dX0_endOf_9 : decode cX0_endOf 9 = .ok (.goto 9, 3) := dk_167 0 9 (dk_at dksX0_endOf_0 9 rfl rfl)
theorem dX0_endOf_12 : decode cX0_endOf 12 = .ok (.astore_n 3, 1) := dk_78 (dk_at dksX0_endOf_0 12 rfl rfl)
theorem dX0_endOf_13 : decode cX0_endOf 13 = .ok (.iconst 1, 1) := dk_4 (dk_at dksX0_endOf_0 13 rfl rfl)
theorem dX0_endOf_14 : decode cX0_endOf 14 = .ok (.ireturn, 1) := dk_172 (dk_at dksX0_endOf_0 14 rfl rfl)
theorem dX0_endOf_15 : decode cX0_endOf 15 = .ok (.astore_n 3, 1) := dk_78 (dk_at dksX0_endOf_0 15 rfl rfl)
theorem dX0_endOf_16 : decode cX0_endOf 16 = .ok (.iconst 2, 1) := dk_5 (dk_at dksX0_endOf_0 16 rfl rfl)
theorem dX0_endOf_17 : decode cX0_endOf 17 = .ok (.ireturn, 1) := dk_172 (dk_at dksX0_endOf_0 17 rfl rfl)
theorem dX0_endOf_18 : decode cX0_endOf 18 = .ok (.iconst 0, 1) := dk_3 (dk_at dksX0_endOf_0 18 rfl rfl)
theorem dX0_endOf_19 : decode cX0_endOf 19 = .ok (.ireturn, 1) := dk_172 (dk_at dksX0_endOf_0 19 rfl rfl)
abbrev cX0_driving : ByteArray := method_16_code
def yX0_driving : MethodName := ⟨RX0, "driving", "(LRideDesk;I[J)I"⟩
def dkwX0_driving_0 : List UInt8 := [44, 3, 42, 27, 182, 0, 58, 133, 80, 167, 0, 9, 78, 4, 172, 78, 5, 172, 3, 172]
abbrev dktX0_driving_0 : List UInt8 := dkwX0_driving_0 ++ []
theorem dksX0_driving_0 : cX0_driving.data.toList.drop 0 = dktX0_driving_0 := by decide +kernel
theorem dX0_driving_0 : decode cX0_driving 0 = .ok (.aload_n 2, 1) := dk_44 (dk_at dksX0_driving_0 0 rfl rfl)
theorem dX0_driving_1 : decode cX0_driving 1 = .ok (.iconst 0, 1) := dk_3 (dk_at dksX0_driving_0 1 rfl rfl)
theorem dX0_driving_2 : decode cX0_driving 2 = .ok (.aload_n 0, 1) := dk_42 (dk_at dksX0_driving_0 2 rfl rfl)
theorem dX0_driving_3 : decode cX0_driving 3 = .ok (.iload_n 1, 1) := dk_27 (dk_at dksX0_driving_0 3 rfl rfl)
theorem dX0_driving_4 : decode cX0_driving 4 = .ok (.invokevirtual 58, 3) := dk_182 0 58 (dk_at dksX0_driving_0 4 rfl rfl)
theorem dX0_driving_7 : decode cX0_driving 7 = .ok (.i2l, 1) := dk_133 (dk_at dksX0_driving_0 7 rfl rfl)
theorem dX0_driving_8 : decode cX0_driving 8 = .ok (.lastore, 1) := dk_80 (dk_at dksX0_driving_0 8 rfl rfl)
theorem dX0_driving_9 : decode cX0_driving 9 = .ok (.goto 9, 3) := dk_167 0 9 (dk_at dksX0_driving_0 9 rfl rfl)
theorem dX0_driving_12 : decode cX0_driving 12 = .ok (.astore_n 3, 1) := dk_78 (dk_at dksX0_driving_0 12 rfl rfl)
theorem dX0_driving_13 : decode cX0_driving 13 = .ok (.iconst 1, 1) := dk_4 (dk_at dksX0_driving_0 13 rfl rfl)
theorem dX0_driving_14 : decode cX0_driving 14 = .ok (.ireturn, 1) := dk_172 (dk_at dksX0_driving_0 14 rfl rfl)
theorem dX0_driving_15 : decode cX0_driving 15 = .ok (.astore_n 3, 1) := dk_78 (dk_at dksX0_driving_0 15 rfl rfl)
theorem dX0_driving_16 : decode cX0_driving 16 = .ok (.iconst 2, 1) := dk_5 (dk_at dksX0_driving_0 16 rfl rfl)
theorem dX0_driving_17 : decode cX0_driving 17 = .ok (.ireturn, 1) := dk_172 (dk_at dksX0_driving_0 17 rfl rfl)
theorem dX0_driving_18 : decode cX0_driving 18 = .ok (.iconst 0, 1) := dk_3 (dk_at dksX0_driving_0 18 rfl rfl)
theorem dX0_driving_19 : decode cX0_driving 19 = .ok (.ireturn, 1) := dk_172 (dk_at dksX0_driving_0 19 rfl rfl)
abbrev cX0_busiest : ByteArray := method_17_code
def yX0_busiest : MethodName := ⟨RX0, "busiest", "(LRideDesk;I[J)I"⟩
def dkwX0_busiest_0 : List UInt8 := [44, 3, 42, 27, 182, 0, 61, 133, 80, 167, 0, 9, 78, 4, 172, 78, 5, 172, 3, 172]
abbrev dktX0_busiest_0 : List UInt8 := dkwX0_busiest_0 ++ []
theorem dksX0_busiest_0 : cX0_busiest.data.toList.drop 0 = dktX0_busiest_0 := by decide +kernel
theorem dX0_busiest_0 : decode cX0_busiest 0 = .ok (.aload_n 2, 1) := dk_44 (dk_at dksX0_busiest_0 0 rfl rfl)
theorem dX0_busiest_1 : decode cX0_busiest 1 = .ok (.iconst 0, 1) := dk_3 (dk_at dksX0_busiest_0 1 rfl rfl)
theorem dX0_busiest_2 : decode cX0_busiest 2 = .ok (.aload_n 0, 1) := dk_42 (dk_at dksX0_busiest_0 2 rfl rfl)
theorem dX0_busiest_3 : decode cX0_busiest 3 = .ok (.iload_n 1, 1) := dk_27 (dk_at dksX0_busiest_0 3 rfl rfl)
theorem dX0_busiest_4 : decode cX0_busiest 4 = .ok (.invokevirtual 61, 3) := dk_182 0 61 (dk_at dksX0_busiest_0 4 rfl rfl)
theorem dX0_busiest_7 : decode cX0_busiest 7 = .ok (.i2l, 1) := dk_133 (dk_at dksX0_busiest_0 7 rfl rfl)
theorem dX0_busiest_8 : decode cX0_busiest 8 = .ok (.lastore, 1) := dk_80 (dk_at dksX0_busiest_0 8 rfl rfl)
theorem dX0_busiest_9 : decode cX0_busiest 9 = .ok (.goto 9, 3) := dk_167 0 9 (dk_at dksX0_busiest_0 9 rfl rfl)
theorem dX0_busiest_12 : decode cX0_busiest 12 = .ok (.astore_n 3, 1) := dk_78 (dk_at dksX0_busiest_0 12 rfl rfl)
theorem dX0_busiest_13 : decode cX0_busiest 13 = .ok (.iconst 1, 1) := dk_4 (dk_at dksX0_busiest_0 13 rfl rfl)
theorem dX0_busiest_14 : decode cX0_busiest 14 = .ok (.ireturn, 1) := dk_172 (dk_at dksX0_busiest_0 14 rfl rfl)
theorem dX0_busiest_15 : decode cX0_busiest 15 = .ok (.astore_n 3, 1) := dk_78 (dk_at dksX0_busiest_0 15 rfl rfl)
theorem dX0_busiest_16 : decode cX0_busiest 16 = .ok (.iconst 2, 1) := dk_5 (dk_at dksX0_busiest_0 16 rfl rfl)
theorem dX0_busiest_17 : decode cX0_busiest 17 = .ok (.ireturn, 1) := dk_172 (dk_at dksX0_busiest_0 17 rfl rfl)
theorem dX0_busiest_18 : decode cX0_busiest 18 = .ok (.iconst 0, 1) := dk_3 (dk_at dksX0_busiest_0 18 rfl rfl)
theorem dX0_busiest_19 : decode cX0_busiest 19 = .ok (.ireturn, 1) := dk_172 (dk_at dksX0_busiest_0 19 rfl rfl)
abbrev cX0_stateOf : ByteArray := method_18_code
def yX0_stateOf : MethodName := ⟨RX0, "stateOf", "(LRideDesk;I[J)I"⟩
def dkwX0_stateOf_0 : List UInt8 := [44, 3, 42, 27, 182, 0, 64, 133, 80, 167, 0, 9, 78, 4, 172, 78, 5, 172, 3, 172]
abbrev dktX0_stateOf_0 : List UInt8 := dkwX0_stateOf_0 ++ []
theorem dksX0_stateOf_0 : cX0_stateOf.data.toList.drop 0 = dktX0_stateOf_0 := by decide +kernel
theorem dX0_stateOf_0 : decode cX0_stateOf 0 = .ok (.aload_n 2, 1) := dk_44 (dk_at dksX0_stateOf_0 0 rfl rfl)
theorem dX0_stateOf_1 : decode cX0_stateOf 1 = .ok (.iconst 0, 1) := dk_3 (dk_at dksX0_stateOf_0 1 rfl rfl)
theorem dX0_stateOf_2 : decode cX0_stateOf 2 = .ok (.aload_n 0, 1) := dk_42 (dk_at dksX0_stateOf_0 2 rfl rfl)
theorem dX0_stateOf_3 : decode cX0_stateOf 3 = .ok (.iload_n 1, 1) := dk_27 (dk_at dksX0_stateOf_0 3 rfl rfl)
theorem dX0_stateOf_4 : decode cX0_stateOf 4 = .ok (.invokevirtual 64, 3) := dk_182 0 64 (dk_at dksX0_stateOf_0 4 rfl rfl)
theorem dX0_stateOf_7 : decode cX0_stateOf 7 = .ok (.i2l, 1) := dk_133 (dk_at dksX0_stateOf_0 7 rfl rfl)
theorem dX0_stateOf_8 : decode cX0_stateOf 8 = .ok (.lastore, 1) := dk_80 (dk_at dksX0_stateOf_0 8 rfl rfl)
theorem dX0_stateOf_9 : decode cX0_stateOf 9 = .ok (.goto 9, 3) := dk_167 0 9 (dk_at dksX0_stateOf_0 9 rfl rfl)
theorem dX0_stateOf_12 : decode cX0_stateOf 12 = .ok (.astore_n 3, 1) := dk_78 (dk_at dksX0_stateOf_0 12 rfl rfl)
theorem dX0_stateOf_13 : decode cX0_stateOf 13 = .ok (.iconst 1, 1) := dk_4 (dk_at dksX0_stateOf_0 13 rfl rfl)
theorem dX0_stateOf_14 : decode cX0_stateOf 14 = .ok (.ireturn, 1) := dk_172 (dk_at dksX0_stateOf_0 14 rfl rfl)
theorem dX0_stateOf_15 : decode cX0_stateOf 15 = .ok (.astore_n 3, 1) := dk_78 (dk_at dksX0_stateOf_0 15 rfl rfl)
theorem dX0_stateOf_16 : decode cX0_stateOf 16 = .ok (.iconst 2, 1) := dk_5 (dk_at dksX0_stateOf_0 16 rfl rfl)
theorem dX0_stateOf_17 : decode cX0_stateOf 17 = .ok (.ireturn, 1) := dk_172 (dk_at dksX0_stateOf_0 17 rfl rfl)
theorem dX0_stateOf_18 : decode cX0_stateOf 18 = .ok (.iconst 0, 1) := dk_3 (dk_at dksX0_stateOf_0 18 rfl rfl)
theorem dX0_stateOf_19 : decode cX0_stateOf 19 = .ok (.ireturn, 1) := dk_172 (dk_at dksX0_stateOf_0 19 rfl rfl)
abbrev cX0_vanOf : ByteArray := method_19_code
def yX0_vanOf : MethodName := ⟨RX0, "vanOf", "(LRideDesk;I[J)I"⟩
def dkwX0_vanOf_0 : List UInt8 := [44, 3, 42, 27, 182, 0, 67, 133, 80, 167, 0, 9, 78, 4, 172, 78, 5, 172, 3, 172]
abbrev dktX0_vanOf_0 : List UInt8 := dkwX0_vanOf_0 ++ []
theorem dksX0_vanOf_0 : cX0_vanOf.data.toList.drop 0 = dktX0_vanOf_0 := by decide +kernel
theorem dX0_vanOf_0 : decode cX0_vanOf 0 = .ok (.aload_n 2, 1) := dk_44 (dk_at dksX0_vanOf_0 0 rfl rfl)
theorem dX0_vanOf_1 : decode cX0_vanOf 1 = .ok (.iconst 0, 1) := dk_3 (dk_at dksX0_vanOf_0 1 rfl rfl)
theorem dX0_vanOf_2 : decode cX0_vanOf 2 = .ok (.aload_n 0, 1) := dk_42 (dk_at dksX0_vanOf_0 2 rfl rfl)
theorem dX0_vanOf_3 : decode cX0_vanOf 3 = .ok (.iload_n 1, 1) := dk_27 (dk_at dksX0_vanOf_0 3 rfl rfl)
theorem dX0_vanOf_4 : decode cX0_vanOf 4 = .ok (.invokevirtual 67, 3) := dk_182 0 67 (dk_at dksX0_vanOf_0 4 rfl rfl)
theorem dX0_vanOf_7 : decode cX0_vanOf 7 = .ok (.i2l, 1) := dk_133 (dk_at dksX0_vanOf_0 7 rfl rfl)
theorem dX0_vanOf_8 : decode cX0_vanOf 8 = .ok (.lastore, 1) := dk_80 (dk_at dksX0_vanOf_0 8 rfl rfl)
theorem dX0_vanOf_9 : decode cX0_vanOf 9 = .ok (.goto 9, 3) := dk_167 0 9 (dk_at dksX0_vanOf_0 9 rfl rfl)
theorem dX0_vanOf_12 : decode cX0_vanOf 12 = .ok (.astore_n 3, 1) := dk_78 (dk_at dksX0_vanOf_0 12 rfl rfl)
theorem dX0_vanOf_13 : decode cX0_vanOf 13 = .ok (.iconst 1, 1) := dk_4 (dk_at dksX0_vanOf_0 13 rfl rfl)
theorem dX0_vanOf_14 : decode cX0_vanOf 14 = .ok (.ireturn, 1) := dk_172 (dk_at dksX0_vanOf_0 14 rfl rfl)
theorem dX0_vanOf_15 : decode cX0_vanOf 15 = .ok (.astore_n 3, 1) := dk_78 (dk_at dksX0_vanOf_0 15 rfl rfl)
theorem dX0_vanOf_16 : decode cX0_vanOf 16 = .ok (.iconst 2, 1) := dk_5 (dk_at dksX0_vanOf_0 16 rfl rfl)
theorem dX0_vanOf_17 : decode cX0_vanOf 17 = .ok (.ireturn, 1) := dk_172 (dk_at dksX0_vanOf_0 17 rfl rfl)
theorem dX0_vanOf_18 : decode cX0_vanOf 18 = .ok (.iconst 0, 1) := dk_3 (dk_at dksX0_vanOf_0 18 rfl rfl)
theorem dX0_vanOf_19 : decode cX0_vanOf 19 = .ok (.ireturn, 1) := dk_172 (dk_at dksX0_vanOf_0 19 rfl rfl)
abbrev cX0_pickupTime : ByteArray := method_20_code
def yX0_pickupTime : MethodName := ⟨RX0, "pickupTime", "(LRideDesk;I[J)I"⟩
def dkwX0_pickupTime_0 : List UInt8 := [44, 3, 42, 27, 182, 0, 70, 133, 80, 167, 0, 9, 78, 4, 172, 78, 5, 172, 3, 172]
abbrev dktX0_pickupTime_0 : List UInt8 := dkwX0_pickupTime_0 ++ []
theorem dksX0_pickupTime_0 : cX0_pickupTime.data.toList.drop 0 = dktX0_pickupTime_0 := by decide +kernel
theorem dX0_pickupTime_0 : decode cX0_pickupTime 0 = .ok (.aload_n 2, 1) := dk_44 (dk_at dksX0_pickupTime_0 0 rfl rfl)
theorem dX0_pickupTime_1 : decode cX0_pickupTime 1 = .ok (.iconst 0, 1) := dk_3 (dk_at dksX0_pickupTime_0 1 rfl rfl)
theorem dX0_pickupTime_2 : decode cX0_pickupTime 2 = .ok (.aload_n 0, 1) := dk_42 (dk_at dksX0_pickupTime_0 2 rfl rfl)
theorem dX0_pickupTime_3 : decode cX0_pickupTime 3 = .ok (.iload_n 1, 1) := dk_27 (dk_at dksX0_pickupTime_0 3 rfl rfl)
theorem dX0_pickupTime_4 : decode cX0_pickupTime 4 = .ok (.invokevirtual 70, 3) := dk_182 0 70 (dk_at dksX0_pickupTime_0 4 rfl rfl)
theorem dX0_pickupTime_7 : decode cX0_pickupTime 7 = .ok (.i2l, 1) := dk_133 (dk_at dksX0_pickupTime_0 7 rfl rfl)
theorem dX0_pickupTime_8 : decode cX0_pickupTime 8 = .ok (.lastore, 1) := dk_80 (dk_at dksX0_pickupTime_0 8 rfl rfl)
theorem dX0_pickupTime_9 : decode cX0_pickupTime 9 = .ok (.goto 9, 3) := dk_167 0 9 (dk_at dksX0_pickupTime_0 9 rfl rfl)
theorem dX0_pickupTime_12 : decode cX0_pickupTime 12 = .ok (.astore_n 3, 1) := dk_78 (dk_at dksX0_pickupTime_0 12 rfl rfl)
theorem dX0_pickupTime_13 : decode cX0_pickupTime 13 = .ok (.iconst 1, 1) := dk_4 (dk_at dksX0_pickupTime_0 13 rfl rfl)
theorem dX0_pickupTime_14 : decode cX0_pickupTime 14 = .ok (.ireturn, 1) := dk_172 (dk_at dksX0_pickupTime_0 14 rfl rfl)
theorem dX0_pickupTime_15 : decode cX0_pickupTime 15 = .ok (.astore_n 3, 1) := dk_78 (dk_at dksX0_pickupTime_0 15 rfl rfl)
theorem dX0_pickupTime_16 : decode cX0_pickupTime 16 = .ok (.iconst 2, 1) := dk_5 (dk_at dksX0_pickupTime_0 16 rfl rfl)
theorem dX0_pickupTime_17 : decode cX0_pickupTime 17 = .ok (.ireturn, 1) := dk_172 (dk_at dksX0_pickupTime_0 17 rfl rfl)
theorem dX0_pickupTime_18 : decode cX0_pickupTime 18 = .ok (.iconst 0, 1) := dk_3 (dk_at dksX0_pickupTime_0 18 rfl rfl)
theorem dX0_pickupTime_19 : decode cX0_pickupTime 19 = .ok (.ireturn, 1) := dk_172 (dk_at dksX0_pickupTime_0 19 rfl rfl)
abbrev cX0_dropTime : ByteArray := method_21_code
def yX0_dropTime : MethodName := ⟨RX0, "dropTime", "(LRideDesk;I[J)I"⟩
def dkwX0_dropTime_0 : List UInt8 := [44, 3, 42, 27, 182, 0, 73, 133, 80, 167, 0, 9, 78, 4, 172, 78, 5, 172, 3, 172]
abbrev dktX0_dropTime_0 : List UInt8 := dkwX0_dropTime_0 ++ []
theorem dksX0_dropTime_0 : cX0_dropTime.data.toList.drop 0 = dktX0_dropTime_0 := by decide +kernel
theorem dX0_dropTime_0 : decode cX0_dropTime 0 = .ok (.aload_n 2, 1) := dk_44 (dk_at dksX0_dropTime_0 0 rfl rfl)
theorem dX0_dropTime_1 : decode cX0_dropTime 1 = .ok (.iconst 0, 1) := dk_3 (dk_at dksX0_dropTime_0 1 rfl rfl)
theorem dX0_dropTime_2 : decode cX0_dropTime 2 = .ok (.aload_n 0, 1) := dk_42 (dk_at dksX0_dropTime_0 2 rfl rfl)
theorem dX0_dropTime_3 : decode cX0_dropTime 3 = .ok (.iload_n 1, 1) := dk_27 (dk_at dksX0_dropTime_0 3 rfl rfl)
theorem dX0_dropTime_4 : decode cX0_dropTime 4 = .ok (.invokevirtual 73, 3) := dk_182 0 73 (dk_at dksX0_dropTime_0 4 rfl rfl)
theorem dX0_dropTime_7 : decode cX0_dropTime 7 = .ok (.i2l, 1) := dk_133 (dk_at dksX0_dropTime_0 7 rfl rfl)
theorem dX0_dropTime_8 : decode cX0_dropTime 8 = .ok (.lastore, 1) := dk_80 (dk_at dksX0_dropTime_0 8 rfl rfl)
theorem dX0_dropTime_9 : decode cX0_dropTime 9 = .ok (.goto 9, 3) := dk_167 0 9 (dk_at dksX0_dropTime_0 9 rfl rfl)
theorem dX0_dropTime_12 : decode cX0_dropTime 12 = .ok (.astore_n 3, 1) := dk_78 (dk_at dksX0_dropTime_0 12 rfl rfl)
theorem dX0_dropTime_13 : decode cX0_dropTime 13 = .ok (.iconst 1, 1) := dk_4 (dk_at dksX0_dropTime_0 13 rfl rfl)
theorem dX0_dropTime_14 : decode cX0_dropTime 14 = .ok (.ireturn, 1) := dk_172 (dk_at dksX0_dropTime_0 14 rfl rfl)
theorem dX0_dropTime_15 : decode cX0_dropTime 15 = .ok (.astore_n 3, 1) := dk_78 (dk_at dksX0_dropTime_0 15 rfl rfl)
theorem dX0_dropTime_16 : decode cX0_dropTime 16 = .ok (.iconst 2, 1) := dk_5 (dk_at dksX0_dropTime_0 16 rfl rfl)
theorem dX0_dropTime_17 : decode cX0_dropTime 17 = .ok (.ireturn, 1) := dk_172 (dk_at dksX0_dropTime_0 17 rfl rfl)
theorem dX0_dropTime_18 : decode cX0_dropTime 18 = .ok (.iconst 0, 1) := dk_3 (dk_at dksX0_dropTime_0 18 rfl rfl)
theorem dX0_dropTime_19 : decode cX0_dropTime 19 = .ok (.ireturn, 1) := dk_172 (dk_at dksX0_dropTime_0 19 rfl rfl)
abbrev cX0_rideOf : ByteArray := method_22_code
def yX0_rideOf : MethodName := ⟨RX0, "rideOf", "(LRideDesk;I[J)I"⟩
def dkwX0_rideOf_0 : List UInt8 := [44, 3, 42, 27, 182, 0, 76, 133, 80, 167, 0, 9, 78, 4, 172, 78, 5, 172, 3, 172]
abbrev dktX0_rideOf_0 : List UInt8 := dkwX0_rideOf_0 ++ []
theorem dksX0_rideOf_0 : cX0_rideOf.data.toList.drop 0 = dktX0_rideOf_0 := by decide +kernel
theorem dX0_rideOf_0 : decode cX0_rideOf 0 = .ok (.aload_n 2, 1) := dk_44 (dk_at dksX0_rideOf_0 0 rfl rfl)
theorem dX0_rideOf_1 : decode cX0_rideOf 1 = .ok (.iconst 0, 1) := dk_3 (dk_at dksX0_rideOf_0 1 rfl rfl)
theorem dX0_rideOf_2 : decode cX0_rideOf 2 = .ok (.aload_n 0, 1) := dk_42 (dk_at dksX0_rideOf_0 2 rfl rfl)
theorem dX0_rideOf_3 : decode cX0_rideOf 3 = .ok (.iload_n 1, 1) := dk_27 (dk_at dksX0_rideOf_0 3 rfl rfl)
theorem dX0_rideOf_4 : decode cX0_rideOf 4 = .ok (.invokevirtual 76, 3) := dk_182 0 76 (dk_at dksX0_rideOf_0 4 rfl rfl)
theorem dX0_rideOf_7 : decode cX0_rideOf 7 = .ok (.i2l, 1) := dk_133 (dk_at dksX0_rideOf_0 7 rfl rfl)
theorem dX0_rideOf_8 : decode cX0_rideOf 8 = .ok (.lastore, 1) := dk_80 (dk_at dksX0_rideOf_0 8 rfl rfl)
theorem dX0_rideOf_9 : decode cX0_rideOf 9 = .ok (.goto 9, 3) := dk_167 0 9 (dk_at dksX0_rideOf_0 9 rfl rfl)
theorem dX0_rideOf_12 : decode cX0_rideOf 12 = .ok (.astore_n 3, 1) := dk_78 (dk_at dksX0_rideOf_0 12 rfl rfl)
theorem dX0_rideOf_13 : decode cX0_rideOf 13 = .ok (.iconst 1, 1) := dk_4 (dk_at dksX0_rideOf_0 13 rfl rfl)
theorem dX0_rideOf_14 : decode cX0_rideOf 14 = .ok (.ireturn, 1) := dk_172 (dk_at dksX0_rideOf_0 14 rfl rfl)
theorem dX0_rideOf_15 : decode cX0_rideOf 15 = .ok (.astore_n 3, 1) := dk_78 (dk_at dksX0_rideOf_0 15 rfl rfl)
theorem dX0_rideOf_16 : decode cX0_rideOf 16 = .ok (.iconst 2, 1) := dk_5 (dk_at dksX0_rideOf_0 16 rfl rfl)
theorem dX0_rideOf_17 : decode cX0_rideOf 17 = .ok (.ireturn, 1) := dk_172 (dk_at dksX0_rideOf_0 17 rfl rfl)
theorem dX0_rideOf_18 : decode cX0_rideOf 18 = .ok (.iconst 0, 1) := dk_3 (dk_at dksX0_rideOf_0 18 rfl rfl)
theorem dX0_rideOf_19 : decode cX0_rideOf 19 = .ok (.ireturn, 1) := dk_172 (dk_at dksX0_rideOf_0 19 rfl rfl)
abbrev cX0_rideLimit : ByteArray := method_23_code
def yX0_rideLimit : MethodName := ⟨RX0, "rideLimit", "(LRideDesk;I[J)I"⟩
def dkwX0_rideLimit_0 : List UInt8 := [44, 3, 42, 27, 182, 0, 79, 133, 80, 167, 0, 9, 78, 4, 172, 78, 5, 172, 3, 172]
abbrev dktX0_rideLimit_0 : List UInt8 := dkwX0_rideLimit_0 ++ []
theorem dksX0_rideLimit_0 : cX0_rideLimit.data.toList.drop 0 = dktX0_rideLimit_0 := by decide +kernel
theorem dX0_rideLimit_0 : decode cX0_rideLimit 0 = .ok (.aload_n 2, 1) := dk_44 (dk_at dksX0_rideLimit_0 0 rfl rfl)
theorem dX0_rideLimit_1 : decode cX0_rideLimit 1 = .ok (.iconst 0, 1) := dk_3 (dk_at dksX0_rideLimit_0 1 rfl rfl)
theorem dX0_rideLimit_2 : decode cX0_rideLimit 2 = .ok (.aload_n 0, 1) := dk_42 (dk_at dksX0_rideLimit_0 2 rfl rfl)
theorem dX0_rideLimit_3 : decode cX0_rideLimit 3 = .ok (.iload_n 1, 1) := dk_27 (dk_at dksX0_rideLimit_0 3 rfl rfl)
theorem dX0_rideLimit_4 : decode cX0_rideLimit 4 = .ok (.invokevirtual 79, 3) := dk_182 0 79 (dk_at dksX0_rideLimit_0 4 rfl rfl)
theorem dX0_rideLimit_7 : decode cX0_rideLimit 7 = .ok (.i2l, 1) := dk_133 (dk_at dksX0_rideLimit_0 7 rfl rfl)
theorem dX0_rideLimit_8 : decode cX0_rideLimit 8 = .ok (.lastore, 1) := dk_80 (dk_at dksX0_rideLimit_0 8 rfl rfl)
theorem dX0_rideLimit_9 : decode cX0_rideLimit 9 = .ok (.goto 9, 3) := dk_167 0 9 (dk_at dksX0_rideLimit_0 9 rfl rfl)
theorem dX0_rideLimit_12 : decode cX0_rideLimit 12 = .ok (.astore_n 3, 1) := dk_78 (dk_at dksX0_rideLimit_0 12 rfl rfl)
theorem dX0_rideLimit_13 : decode cX0_rideLimit 13 = .ok (.iconst 1, 1) := dk_4 (dk_at dksX0_rideLimit_0 13 rfl rfl)
theorem dX0_rideLimit_14 : decode cX0_rideLimit 14 = .ok (.ireturn, 1) := dk_172 (dk_at dksX0_rideLimit_0 14 rfl rfl)
theorem dX0_rideLimit_15 : decode cX0_rideLimit 15 = .ok (.astore_n 3, 1) := dk_78 (dk_at dksX0_rideLimit_0 15 rfl rfl)
theorem dX0_rideLimit_16 : decode cX0_rideLimit 16 = .ok (.iconst 2, 1) := dk_5 (dk_at dksX0_rideLimit_0 16 rfl rfl)
theorem dX0_rideLimit_17 : decode cX0_rideLimit 17 = .ok (.ireturn, 1) := dk_172 (dk_at dksX0_rideLimit_0 17 rfl rfl)
theorem dX0_rideLimit_18 : decode cX0_rideLimit 18 = .ok (.iconst 0, 1) := dk_3 (dk_at dksX0_rideLimit_0 18 rfl rfl)
theorem dX0_rideLimit_19 : decode cX0_rideLimit 19 = .ok (.ireturn, 1) := dk_172 (dk_at dksX0_rideLimit_0 19 rfl rfl)
abbrev cX0_readyOf : ByteArray := method_24_code
def yX0_readyOf : MethodName := ⟨RX0, "readyOf", "(LRideDesk;I[J)I"⟩
def dkwX0_readyOf_0 : List UInt8 := [44, 3, 42, 27, 182, 0, 82, 133, 80, 167, 0, 9, 78, 4, 172, 78, 5, 172, 3, 172]
abbrev dktX0_readyOf_0 : List UInt8 := dkwX0_readyOf_0 ++ []
theorem dksX0_readyOf_0 : cX0_readyOf.data.toList.drop 0 = dktX0_readyOf_0 := by decide +kernel
theorem dX0_readyOf_0 : decode cX0_readyOf 0 = .ok (.aload_n 2, 1) := dk_44 (dk_at dksX0_readyOf_0 0 rfl rfl)
theorem dX0_readyOf_1 : decode cX0_readyOf 1 = .ok (.iconst 0, 1) := dk_3 (dk_at dksX0_readyOf_0 1 rfl rfl)
theorem dX0_readyOf_2 : decode cX0_readyOf 2 = .ok (.aload_n 0, 1) := dk_42 (dk_at dksX0_readyOf_0 2 rfl rfl)
theorem dX0_readyOf_3 : decode cX0_readyOf 3 = .ok (.iload_n 1, 1) := dk_27 (dk_at dksX0_readyOf_0 3 rfl rfl)
theorem dX0_readyOf_4 : decode cX0_readyOf 4 = .ok (.invokevirtual 82, 3) := dk_182 0 82 (dk_at dksX0_readyOf_0 4 rfl rfl)
theorem dX0_readyOf_7 : decode cX0_readyOf 7 = .ok (.i2l, 1) := dk_133 (dk_at dksX0_readyOf_0 7 rfl rfl)
theorem dX0_readyOf_8 : decode cX0_readyOf 8 = .ok (.lastore, 1) := dk_80 (dk_at dksX0_readyOf_0 8 rfl rfl)
theorem dX0_readyOf_9 : decode cX0_readyOf 9 = .ok (.goto 9, 3) := dk_167 0 9 (dk_at dksX0_readyOf_0 9 rfl rfl)
theorem dX0_readyOf_12 : decode cX0_readyOf 12 = .ok (.astore_n 3, 1) := dk_78 (dk_at dksX0_readyOf_0 12 rfl rfl)
theorem dX0_readyOf_13 : decode cX0_readyOf 13 = .ok (.iconst 1, 1) := dk_4 (dk_at dksX0_readyOf_0 13 rfl rfl)
theorem dX0_readyOf_14 : decode cX0_readyOf 14 = .ok (.ireturn, 1) := dk_172 (dk_at dksX0_readyOf_0 14 rfl rfl)
theorem dX0_readyOf_15 : decode cX0_readyOf 15 = .ok (.astore_n 3, 1) := dk_78 (dk_at dksX0_readyOf_0 15 rfl rfl)
theorem dX0_readyOf_16 : decode cX0_readyOf 16 = .ok (.iconst 2, 1) := dk_5 (dk_at dksX0_readyOf_0 16 rfl rfl)
theorem dX0_readyOf_17 : decode cX0_readyOf 17 = .ok (.ireturn, 1) := dk_172 (dk_at dksX0_readyOf_0 17 rfl rfl)
theorem dX0_readyOf_18 : decode cX0_readyOf 18 = .ok (.iconst 0, 1) := dk_3 (dk_at dksX0_readyOf_0 18 rfl rfl)
theorem dX0_readyOf_19 : decode cX0_readyOf 19 = .ok (.ireturn, 1) := dk_172 (dk_at dksX0_readyOf_0 19 rfl rfl)
abbrev cX0_promiseOf : ByteArray := method_25_code
def yX0_promiseOf : MethodName := ⟨RX0, "promiseOf", "(LRideDesk;I[J)I"⟩
def dkwX0_promiseOf_0 : List UInt8 := [44, 3, 42, 27, 182, 0, 85, 133, 80, 167, 0, 9, 78, 4, 172, 78, 5, 172, 3, 172]
abbrev dktX0_promiseOf_0 : List UInt8 := dkwX0_promiseOf_0 ++ []
theorem dksX0_promiseOf_0 : cX0_promiseOf.data.toList.drop 0 = dktX0_promiseOf_0 := by decide +kernel
theorem dX0_promiseOf_0 : decode cX0_promiseOf 0 = .ok (.aload_n 2, 1) := dk_44 (dk_at dksX0_promiseOf_0 0 rfl rfl)
theorem dX0_promiseOf_1 : decode cX0_promiseOf 1 = .ok (.iconst 0, 1) := dk_3 (dk_at dksX0_promiseOf_0 1 rfl rfl)
theorem dX0_promiseOf_2 : decode cX0_promiseOf 2 = .ok (.aload_n 0, 1) := dk_42 (dk_at dksX0_promiseOf_0 2 rfl rfl)
theorem dX0_promiseOf_3 : decode cX0_promiseOf 3 = .ok (.iload_n 1, 1) := dk_27 (dk_at dksX0_promiseOf_0 3 rfl rfl)
theorem dX0_promiseOf_4 : decode cX0_promiseOf 4 = .ok (.invokevirtual 85, 3) := dk_182 0 85 (dk_at dksX0_promiseOf_0 4 rfl rfl)
theorem dX0_promiseOf_7 : decode cX0_promiseOf 7 = .ok (.i2l, 1) := dk_133 (dk_at dksX0_promiseOf_0 7 rfl rfl)
theorem dX0_promiseOf_8 : decode cX0_promiseOf 8 = .ok (.lastore, 1) := dk_80 (dk_at dksX0_promiseOf_0 8 rfl rfl)
theorem dX0_promiseOf_9 : decode cX0_promiseOf 9 = .ok (.goto 9, 3) := dk_167 0 9 (dk_at dksX0_promiseOf_0 9 rfl rfl)
theorem dX0_promiseOf_12 : decode cX0_promiseOf 12 = .ok (.astore_n 3, 1) := dk_78 (dk_at dksX0_promiseOf_0 12 rfl rfl)
theorem dX0_promiseOf_13 : decode cX0_promiseOf 13 = .ok (.iconst 1, 1) := dk_4 (dk_at dksX0_promiseOf_0 13 rfl rfl)
theorem dX0_promiseOf_14 : decode cX0_promiseOf 14 = .ok (.ireturn, 1) := dk_172 (dk_at dksX0_promiseOf_0 14 rfl rfl)
theorem dX0_promiseOf_15 : decode cX0_promiseOf 15 = .ok (.astore_n 3, 1) := dk_78 (dk_at dksX0_promiseOf_0 15 rfl rfl)
theorem dX0_promiseOf_16 : decode cX0_promiseOf 16 = .ok (.iconst 2, 1) := dk_5 (dk_at dksX0_promiseOf_0 16 rfl rfl)
theorem dX0_promiseOf_17 : decode cX0_promiseOf 17 = .ok (.ireturn, 1) := dk_172 (dk_at dksX0_promiseOf_0 17 rfl rfl)
theorem dX0_promiseOf_18 : decode cX0_promiseOf 18 = .ok (.iconst 0, 1) := dk_3 (dk_at dksX0_promiseOf_0 18 rfl rfl)
theorem dX0_promiseOf_19 : decode cX0_promiseOf 19 = .ok (.ireturn, 1) := dk_172 (dk_at dksX0_promiseOf_0 19 rfl rfl)
abbrev cX0_creditOf : ByteArray := method_26_code
def yX0_creditOf : MethodName := ⟨RX0, "creditOf", "(LRideDesk;I[J)I"⟩
def dkwX0_creditOf_0 : List UInt8 := [44, 3, 42, 27, 182, 0, 88, 133, 80, 167, 0, 9, 78, 4, 172, 78, 5, 172, 3, 172]
abbrev dktX0_creditOf_0 : List UInt8 := dkwX0_creditOf_0 ++ []
theorem dksX0_creditOf_0 : cX0_creditOf.data.toList.drop 0 = dktX0_creditOf_0 := by decide +kernel
theorem dX0_creditOf_0 : decode cX0_creditOf 0 = .ok (.aload_n 2, 1) := dk_44 (dk_at dksX0_creditOf_0 0 rfl rfl)
theorem dX0_creditOf_1 : decode cX0_creditOf 1 = .ok (.iconst 0, 1) := dk_3 (dk_at dksX0_creditOf_0 1 rfl rfl)
theorem dX0_creditOf_2 : decode cX0_creditOf 2 = .ok (.aload_n 0, 1) := dk_42 (dk_at dksX0_creditOf_0 2 rfl rfl)
theorem dX0_creditOf_3 : decode cX0_creditOf 3 = .ok (.iload_n 1, 1) := dk_27 (dk_at dksX0_creditOf_0 3 rfl rfl)
theorem dX0_creditOf_4 : decode cX0_creditOf 4 = .ok (.invokevirtual 88, 3) := dk_182 0 88 (dk_at dksX0_creditOf_0 4 rfl rfl)
theorem dX0_creditOf_7 : decode cX0_creditOf 7 = .ok (.i2l, 1) := dk_133 (dk_at dksX0_creditOf_0 7 rfl rfl)
theorem dX0_creditOf_8 : decode cX0_creditOf 8 = .ok (.lastore, 1) := dk_80 (dk_at dksX0_creditOf_0 8 rfl rfl)
theorem dX0_creditOf_9 : decode cX0_creditOf 9 = .ok (.goto 9, 3) := dk_167 0 9 (dk_at dksX0_creditOf_0 9 rfl rfl)
theorem dX0_creditOf_12 : decode cX0_creditOf 12 = .ok (.astore_n 3, 1) := dk_78 (dk_at dksX0_creditOf_0 12 rfl rfl)
theorem dX0_creditOf_13 : decode cX0_creditOf 13 = .ok (.iconst 1, 1) := dk_4 (dk_at dksX0_creditOf_0 13 rfl rfl)
theorem dX0_creditOf_14 : decode cX0_creditOf 14 = .ok (.ireturn, 1) := dk_172 (dk_at dksX0_creditOf_0 14 rfl rfl)
theorem dX0_creditOf_15 : decode cX0_creditOf 15 = .ok (.astore_n 3, 1) := dk_78 (dk_at dksX0_creditOf_0 15 rfl rfl)
theorem dX0_creditOf_16 : decode cX0_creditOf 16 = .ok (.iconst 2, 1) := dk_5 (dk_at dksX0_creditOf_0 16 rfl rfl)
theorem dX0_creditOf_17 : decode cX0_creditOf 17 = .ok (.ireturn, 1) := dk_172 (dk_at dksX0_creditOf_0 17 rfl rfl)
theorem dX0_creditOf_18 : decode cX0_creditOf 18 = .ok (.iconst 0, 1) := dk_3 (dk_at dksX0_creditOf_0 18 rfl rfl)
theorem dX0_creditOf_19 : decode cX0_creditOf 19 = .ok (.ireturn, 1) := dk_172 (dk_at dksX0_creditOf_0 19 rfl rfl)
abbrev cX0_callsIn : ByteArray := method_27_code
def yX0_callsIn : MethodName := ⟨RX0, "callsIn", "(LRideDesk;I[J)I"⟩
def dkwX0_callsIn_0 : List UInt8 := [44, 3, 42, 27, 182, 0, 91, 133, 80, 167, 0, 9, 78, 4, 172, 78, 5, 172, 3, 172]
abbrev dktX0_callsIn_0 : List UInt8 := dkwX0_callsIn_0 ++ []
theorem dksX0_callsIn_0 : cX0_callsIn.data.toList.drop 0 = dktX0_callsIn_0 := by decide +kernel
theorem dX0_callsIn_0 : decode cX0_callsIn 0 = .ok (.aload_n 2, 1) := dk_44 (dk_at dksX0_callsIn_0 0 rfl rfl)
theorem dX0_callsIn_1 : decode cX0_callsIn 1 = .ok (.iconst 0, 1) := dk_3 (dk_at dksX0_callsIn_0 1 rfl rfl)
theorem dX0_callsIn_2 : decode cX0_callsIn 2 = .ok (.aload_n 0, 1) := dk_42 (dk_at dksX0_callsIn_0 2 rfl rfl)
theorem dX0_callsIn_3 : decode cX0_callsIn 3 = .ok (.iload_n 1, 1) := dk_27 (dk_at dksX0_callsIn_0 3 rfl rfl)
theorem dX0_callsIn_4 : decode cX0_callsIn 4 = .ok (.invokevirtual 91, 3) := dk_182 0 91 (dk_at dksX0_callsIn_0 4 rfl rfl)
theorem dX0_callsIn_7 : decode cX0_callsIn 7 = .ok (.i2l, 1) := dk_133 (dk_at dksX0_callsIn_0 7 rfl rfl)
theorem dX0_callsIn_8 : decode cX0_callsIn 8 = .ok (.lastore, 1) := dk_80 (dk_at dksX0_callsIn_0 8 rfl rfl)
theorem dX0_callsIn_9 : decode cX0_callsIn 9 = .ok (.goto 9, 3) := dk_167 0 9 (dk_at dksX0_callsIn_0 9 rfl rfl)
theorem dX0_callsIn_12 : decode cX0_callsIn 12 = .ok (.astore_n 3, 1) := dk_78 (dk_at dksX0_callsIn_0 12 rfl rfl)
theorem dX0_callsIn_13 : decode cX0_callsIn 13 = .ok (.iconst 1, 1) := dk_4 (dk_at dksX0_callsIn_0 13 rfl rfl)
theorem dX0_callsIn_14 : decode cX0_callsIn 14 = .ok (.ireturn, 1) := dk_172 (dk_at dksX0_callsIn_0 14 rfl rfl)
theorem dX0_callsIn_15 : decode cX0_callsIn 15 = .ok (.astore_n 3, 1) := dk_78 (dk_at dksX0_callsIn_0 15 rfl rfl)
theorem dX0_callsIn_16 : decode cX0_callsIn 16 = .ok (.iconst 2, 1) := dk_5 (dk_at dksX0_callsIn_0 16 rfl rfl)
theorem dX0_callsIn_17 : decode cX0_callsIn 17 = .ok (.ireturn, 1) := dk_172 (dk_at dksX0_callsIn_0 17 rfl rfl)
theorem dX0_callsIn_18 : decode cX0_callsIn 18 = .ok (.iconst 0, 1) := dk_3 (dk_at dksX0_callsIn_0 18 rfl rfl)
theorem dX0_callsIn_19 : decode cX0_callsIn 19 = .ok (.ireturn, 1) := dk_172 (dk_at dksX0_callsIn_0 19 rfl rfl)
abbrev cX0_meanDetour : ByteArray := method_28_code
def yX0_meanDetour : MethodName := ⟨RX0, "meanDetour", "(LRideDesk;[D)I"⟩
def dkwX0_meanDetour_0 : List UInt8 := [43, 3, 42, 182, 0, 94, 141, 82, 167, 0, 6, 77, 4, 172, 3, 172]
abbrev dktX0_meanDetour_0 : List UInt8 := dkwX0_meanDetour_0 ++ []
theorem dksX0_meanDetour_0 : cX0_meanDetour.data.toList.drop 0 = dktX0_meanDetour_0 := by decide +kernel
theorem dX0_meanDetour_0 : decode cX0_meanDetour 0 = .ok (.aload_n 1, 1) := dk_43 (dk_at dksX0_meanDetour_0 0 rfl rfl)
theorem dX0_meanDetour_1 : decode cX0_meanDetour 1 = .ok (.iconst 0, 1) := dk_3 (dk_at dksX0_meanDetour_0 1 rfl rfl)
theorem dX0_meanDetour_2 : decode cX0_meanDetour 2 = .ok (.aload_n 0, 1) := dk_42 (dk_at dksX0_meanDetour_0 2 rfl rfl)
theorem dX0_meanDetour_3 : decode cX0_meanDetour 3 = .ok (.invokevirtual 94, 3) := dk_182 0 94 (dk_at dksX0_meanDetour_0 3 rfl rfl)
theorem dX0_meanDetour_6 : decode cX0_meanDetour 6 = .ok (.f2d, 1) := dk_141 (dk_at dksX0_meanDetour_0 6 rfl rfl)
theorem dX0_meanDetour_7 : decode cX0_meanDetour 7 = .ok (.dastore, 1) := dk_82 (dk_at dksX0_meanDetour_0 7 rfl rfl)
theorem dX0_meanDetour_8 : decode cX0_meanDetour 8 = .ok (.goto 6, 3) := dk_167 0 6 (dk_at dksX0_meanDetour_0 8 rfl rfl)
theorem dX0_meanDetour_11 : decode cX0_meanDetour 11 = .ok (.astore_n 2, 1) := dk_77 (dk_at dksX0_meanDetour_0 11 rfl rfl)
theorem dX0_meanDetour_12 : decode cX0_meanDetour 12 = .ok (.iconst 1, 1) := dk_4 (dk_at dksX0_meanDetour_0 12 rfl rfl)
theorem dX0_meanDetour_13 : decode cX0_meanDetour 13 = .ok (.ireturn, 1) := dk_172 (dk_at dksX0_meanDetour_0 13 rfl rfl)
theorem dX0_meanDetour_14 : decode cX0_meanDetour 14 = .ok (.iconst 0, 1) := dk_3 (dk_at dksX0_meanDetour_0 14 rfl rfl)
theorem dX0_meanDetour_15 : decode cX0_meanDetour 15 = .ok (.ireturn, 1) := dk_172 (dk_at dksX0_meanDetour_0 15 rfl rfl)
abbrev cX0_occupancy : ByteArray := method_29_code
def yX0_occupancy : MethodName := ⟨RX0, "occupancy", "(LRideDesk;I[D)I"⟩
def dkwX0_occupancy_0 : List UInt8 := [44, 3, 42, 27, 182, 0, 98, 141, 82, 167, 0, 9, 78, 4, 172, 78, 5, 172, 3, 172]
abbrev dktX0_occupancy_0 : List UInt8 := dkwX0_occupancy_0 ++ []
theorem dksX0_occupancy_0 : cX0_occupancy.data.toList.drop 0 = dktX0_occupancy_0 := by decide +kernel
theorem dX0_occupancy_0 : decode cX0_occupancy 0 = .ok (.aload_n 2, 1) := dk_44 (dk_at dksX0_occupancy_0 0 rfl rfl)
theorem dX0_occupancy_1 : decode cX0_occupancy 1 = .ok (.iconst 0, 1) := dk_3 (dk_at dksX0_occupancy_0 1 rfl rfl)
theorem dX0_occupancy_2 : decode cX0_occupancy 2 = .ok (.aload_n 0, 1) := dk_42 (dk_at dksX0_occupancy_0 2 rfl rfl)
theorem dX0_occupancy_3 : decode cX0_occupancy 3 = .ok (.iload_n 1, 1) := dk_27 (dk_at dksX0_occupancy_0 3 rfl rfl)
theorem dX0_occupancy_4 : decode cX0_occupancy 4 = .ok (.invokevirtual 98, 3) := dk_182 0 98 (dk_at dksX0_occupancy_0 4 rfl rfl)
theorem dX0_occupancy_7 : decode cX0_occupancy 7 = .ok (.f2d, 1) := dk_141 (dk_at dksX0_occupancy_0 7 rfl rfl)
theorem dX0_occupancy_8 : decode cX0_occupancy 8 = .ok (.dastore, 1) := dk_82 (dk_at dksX0_occupancy_0 8 rfl rfl)
theorem dX0_occupancy_9 : decode cX0_occupancy 9 = .ok (.goto 9, 3) := dk_167 0 9 (dk_at dksX0_occupancy_0 9 rfl rfl)
theorem dX0_occupancy_12 : decode cX0_occupancy 12 = .ok (.astore_n 3, 1) := dk_78 (dk_at dksX0_occupancy_0 12 rfl rfl)
theorem dX0_occupancy_13 : decode cX0_occupancy 13 = .ok (.iconst 1, 1) := dk_4 (dk_at dksX0_occupancy_0 13 rfl rfl)
theorem dX0_occupancy_14 : decode cX0_occupancy 14 = .ok (.ireturn, 1) := dk_172 (dk_at dksX0_occupancy_0 14 rfl rfl)
theorem dX0_occupancy_15 : decode cX0_occupancy 15 = .ok (.astore_n 3, 1) := dk_78 (dk_at dksX0_occupancy_0 15 rfl rfl)
theorem dX0_occupancy_16 : decode cX0_occupancy 16 = .ok (.iconst 2, 1) := dk_5 (dk_at dksX0_occupancy_0 16 rfl rfl)
theorem dX0_occupancy_17 : decode cX0_occupancy 17 = .ok (.ireturn, 1) := dk_172 (dk_at dksX0_occupancy_0 17 rfl rfl)
theorem dX0_occupancy_18 : decode cX0_occupancy 18 = .ok (.iconst 0, 1) := dk_3 (dk_at dksX0_occupancy_0 18 rfl rfl)
theorem dX0_occupancy_19 : decode cX0_occupancy 19 = .ok (.ireturn, 1) := dk_172 (dk_at dksX0_occupancy_0 19 rfl rfl)
abbrev cX0_offer : ByteArray := method_30_code
def yX0_offer : MethodName := ⟨RX0, "offer", "(LRideDesk;IIIIII[J)I"⟩
def dkwX0_offer_1 : List UInt8 := [172, 58, 8, 5, 172, 3, 172]
abbrev dktX0_offer_1 : List UInt8 := dkwX0_offer_1 ++ []
def dkwX0_offer_0 : List UInt8 := [25, 7, 3, 42, 27, 28, 29, 21, 4, 21, 5, 21, 6, 182, 0, 102, 133, 80, 167, 0, 11, 58, 8, 4]
abbrev dktX0_offer_0 : List UInt8 := dkwX0_offer_0 ++ dktX0_offer_1
theorem dksX0_offer_0 : cX0_offer.data.toList.drop 0 = dktX0_offer_0 := by decide +kernel
theorem dksX0_offer_1 : cX0_offer.data.toList.drop 24 = dktX0_offer_1 := dk_seg dksX0_offer_0 24 rfl rfl
theorem dX0_offer_0 : decode cX0_offer 0 = .ok (.aload 7, 2) := dk_25 7 (dk_at dksX0_offer_0 0 rfl rfl)
theorem dX0_offer_2 : decode cX0_offer 2 = .ok (.iconst 0, 1) := dk_3 (dk_at dksX0_offer_0 2 rfl rfl)
theorem dX0_offer_3 : decode cX0_offer 3 = .ok (.aload_n 0, 1) := dk_42 (dk_at dksX0_offer_0 3 rfl rfl)
theorem dX0_offer_4 : decode cX0_offer 4 = .ok (.iload_n 1, 1) := dk_27 (dk_at dksX0_offer_0 4 rfl rfl)
theorem dX0_offer_5 : decode cX0_offer 5 = .ok (.iload_n 2, 1) := dk_28 (dk_at dksX0_offer_0 5 rfl rfl)
theorem dX0_offer_6 : decode cX0_offer 6 = .ok (.iload_n 3, 1) := dk_29 (dk_at dksX0_offer_0 6 rfl rfl)
theorem dX0_offer_7 : decode cX0_offer 7 = .ok (.iload 4, 2) := dk_21 4 (dk_at dksX0_offer_0 7 rfl rfl)
theorem dX0_offer_9 : decode cX0_offer 9 = .ok (.iload 5, 2) := dk_21 5 (dk_at dksX0_offer_0 9 rfl rfl)
theorem dX0_offer_11 : decode cX0_offer 11 = .ok (.iload 6, 2) := dk_21 6 (dk_at dksX0_offer_0 11 rfl rfl)
theorem dX0_offer_13 : decode cX0_offer 13 = .ok (.invokevirtual 102, 3) := dk_182 0 102 (dk_at dksX0_offer_0 13 rfl rfl)
theorem dX0_offer_16 : decode cX0_offer 16 = .ok (.i2l, 1) := dk_133 (dk_at dksX0_offer_0 16 rfl rfl)
theorem dX0_offer_17 : decode cX0_offer 17 = .ok (.lastore, 1) := dk_80 (dk_at dksX0_offer_0 17 rfl rfl)
theorem dX0_offer_18 : decode cX0_offer 18 = .ok (.goto 11, 3) := dk_167 0 11 (dk_at dksX0_offer_0 18 rfl rfl)
theorem dX0_offer_21 : decode cX0_offer 21 = .ok (.astore 8, 2) := dk_58 8 (dk_at dksX0_offer_0 21 rfl rfl)
theorem dX0_offer_23 : decode cX0_offer 23 = .ok (.iconst 1, 1) := dk_4 (dk_at dksX0_offer_0 23 rfl rfl)
theorem dX0_offer_24 : decode cX0_offer 24 = .ok (.ireturn, 1) := dk_172 (dk_at dksX0_offer_1 0 rfl rfl)
theorem dX0_offer_25 : decode cX0_offer 25 = .ok (.astore 8, 2) := dk_58 8 (dk_at dksX0_offer_1 1 rfl rfl)
theorem dX0_offer_27 : decode cX0_offer 27 = .ok (.iconst 2, 1) := dk_5 (dk_at dksX0_offer_1 3 rfl rfl)
theorem dX0_offer_28 : decode cX0_offer 28 = .ok (.ireturn, 1) := dk_172 (dk_at dksX0_offer_1 4 rfl rfl)
theorem dX0_offer_29 : decode cX0_offer 29 = .ok (.iconst 0, 1) := dk_3 (dk_at dksX0_offer_1 5 rfl rfl)
theorem dX0_offer_30 : decode cX0_offer 30 = .ok (.ireturn, 1) := dk_172 (dk_at dksX0_offer_1 6 rfl rfl)
abbrev cX0_offeredVan : ByteArray := method_31_code
def yX0_offeredVan : MethodName := ⟨RX0, "offeredVan", "(LRideDesk;IIIIII[J)I"⟩
def dkwX0_offeredVan_1 : List UInt8 := [172, 58, 8, 5, 172, 3, 172]
abbrev dktX0_offeredVan_1 : List UInt8 := dkwX0_offeredVan_1 ++ []
def dkwX0_offeredVan_0 : List UInt8 := [25, 7, 3, 42, 27, 28, 29, 21, 4, 21, 5, 21, 6, 182, 0, 106, 133, 80, 167, 0, 11, 58, 8, 4]
abbrev dktX0_offeredVan_0 : List UInt8 := dkwX0_offeredVan_0 ++ dktX0_offeredVan_1
theorem dksX0_offeredVan_0 : cX0_offeredVan.data.toList.drop 0 = dktX0_offeredVan_0 := by decide +kernel
theorem dksX0_offeredVan_1 : cX0_offeredVan.data.toList.drop 24 = dktX0_offeredVan_1 := dk_seg dksX0_offeredVan_0 24 rfl rfl
theorem dX0_offeredVan_0 : decode cX0_offeredVan 0 = .ok (.aload 7, 2) := dk_25 7 (dk_at dksX0_offeredVan_0 0 rfl rfl)
theorem dX0_offeredVan_2 : decode cX0_offeredVan 2 = .ok (.iconst 0, 1) := dk_3 (dk_at dksX0_offeredVan_0 2 rfl rfl)
theorem dX0_offeredVan_3 : decode cX0_offeredVan 3 = .ok (.aload_n 0, 1) := dk_42 (dk_at dksX0_offeredVan_0 3 rfl rfl)
theorem dX0_offeredVan_4 : decode cX0_offeredVan 4 = .ok (.iload_n 1, 1) := dk_27 (dk_at dksX0_offeredVan_0 4 rfl rfl)
theorem dX0_offeredVan_5 : decode cX0_offeredVan 5 = .ok (.iload_n 2, 1) := dk_28 (dk_at dksX0_offeredVan_0 5 rfl rfl)
theorem dX0_offeredVan_6 : decode cX0_offeredVan 6 = .ok (.iload_n 3, 1) := dk_29 (dk_at dksX0_offeredVan_0 6 rfl rfl)
theorem dX0_offeredVan_7 : decode cX0_offeredVan 7 = .ok (.iload 4, 2) := dk_21 4 (dk_at dksX0_offeredVan_0 7 rfl rfl)
theorem dX0_offeredVan_9 : decode cX0_offeredVan 9 = .ok (.iload 5, 2) := dk_21 5 (dk_at dksX0_offeredVan_0 9 rfl rfl)
theorem dX0_offeredVan_11 : decode cX0_offeredVan 11 = .ok (.iload 6, 2) := dk_21 6 (dk_at dksX0_offeredVan_0 11 rfl rfl)
theorem dX0_offeredVan_13 : decode cX0_offeredVan 13 = .ok (.invokevirtual 106, 3) := dk_182 0 106 (dk_at dksX0_offeredVan_0 13 rfl rfl)
theorem dX0_offeredVan_16 : decode cX0_offeredVan 16 = .ok (.i2l, 1) := dk_133 (dk_at dksX0_offeredVan_0 16 rfl rfl)
theorem dX0_offeredVan_17 : decode cX0_offeredVan 17 = .ok (.lastore, 1) := dk_80 (dk_at dksX0_offeredVan_0 17 rfl rfl)
theorem dX0_offeredVan_18 : decode cX0_offeredVan 18 = .ok (.goto 11, 3) := dk_167 0 11 (dk_at dksX0_offeredVan_0 18 rfl rfl)
theorem dX0_offeredVan_21 : decode cX0_offeredVan 21 = .ok (.astore 8, 2) := dk_58 8 (dk_at dksX0_offeredVan_0 21 rfl rfl)
theorem dX0_offeredVan_23 : decode cX0_offeredVan 23 = .ok (.iconst 1, 1) := dk_4 (dk_at dksX0_offeredVan_0 23 rfl rfl)
theorem dX0_offeredVan_24 : decode cX0_offeredVan 24 = .ok (.ireturn, 1) := dk_172 (dk_at dksX0_offeredVan_1 0 rfl rfl)
theorem dX0_offeredVan_25 : decode cX0_offeredVan 25 = .ok (.astore 8, 2) := dk_58 8 (dk_at dksX0_offeredVan_1 1 rfl rfl)
theorem dX0_offeredVan_27 : decode cX0_offeredVan 27 = .ok (.iconst 2, 1) := dk_5 (dk_at dksX0_offeredVan_1 3 rfl rfl)
theorem dX0_offeredVan_28 : decode cX0_offeredVan 28 = .ok (.ireturn, 1) := dk_172 (dk_at dksX0_offeredVan_1 4 rfl rfl)
theorem dX0_offeredVan_29 : decode cX0_offeredVan 29 = .ok (.iconst 0, 1) := dk_3 (dk_at dksX0_offeredVan_1 5 rfl rfl)
theorem dX0_offeredVan_30 : decode cX0_offeredVan 30 = .ok (.ireturn, 1) := dk_172 (dk_at dksX0_offeredVan_1 6 rfl rfl)
abbrev cX0_soonest : ByteArray := method_32_code
def yX0_soonest : MethodName := ⟨RX0, "soonest", "(LRideDesk;IIIIII[J)I"⟩
def dkwX0_soonest_1 : List UInt8 := [172, 58, 8, 5, 172, 3, 172]
abbrev dktX0_soonest_1 : List UInt8 := dkwX0_soonest_1 ++ []
def dkwX0_soonest_0 : List UInt8 := [25, 7, 3, 42, 27, 28, 29, 21, 4, 21, 5, 21, 6, 182, 0, 109, 133, 80, 167, 0, 11, 58, 8, 4]
abbrev dktX0_soonest_0 : List UInt8 := dkwX0_soonest_0 ++ dktX0_soonest_1
theorem dksX0_soonest_0 : cX0_soonest.data.toList.drop 0 = dktX0_soonest_0 := by decide +kernel
theorem dksX0_soonest_1 : cX0_soonest.data.toList.drop 24 = dktX0_soonest_1 := dk_seg dksX0_soonest_0 24 rfl rfl
theorem dX0_soonest_0 : decode cX0_soonest 0 = .ok (.aload 7, 2) := dk_25 7 (dk_at dksX0_soonest_0 0 rfl rfl)
theorem dX0_soonest_2 : decode cX0_soonest 2 = .ok (.iconst 0, 1) := dk_3 (dk_at dksX0_soonest_0 2 rfl rfl)
theorem dX0_soonest_3 : decode cX0_soonest 3 = .ok (.aload_n 0, 1) := dk_42 (dk_at dksX0_soonest_0 3 rfl rfl)
theorem dX0_soonest_4 : decode cX0_soonest 4 = .ok (.iload_n 1, 1) := dk_27 (dk_at dksX0_soonest_0 4 rfl rfl)
theorem dX0_soonest_5 : decode cX0_soonest 5 = .ok (.iload_n 2, 1) := dk_28 (dk_at dksX0_soonest_0 5 rfl rfl)
theorem dX0_soonest_6 : decode cX0_soonest 6 = .ok (.iload_n 3, 1) := dk_29 (dk_at dksX0_soonest_0 6 rfl rfl)
theorem dX0_soonest_7 : decode cX0_soonest 7 = .ok (.iload 4, 2) := dk_21 4 (dk_at dksX0_soonest_0 7 rfl rfl)
theorem dX0_soonest_9 : decode cX0_soonest 9 = .ok (.iload 5, 2) := dk_21 5 (dk_at dksX0_soonest_0 9 rfl rfl)
theorem dX0_soonest_11 : decode cX0_soonest 11 = .ok (.iload 6, 2) := dk_21 6 (dk_at dksX0_soonest_0 11 rfl rfl)
theorem dX0_soonest_13 : decode cX0_soonest 13 = .ok (.invokevirtual 109, 3) := dk_182 0 109 (dk_at dksX0_soonest_0 13 rfl rfl)
theorem dX0_soonest_16 : decode cX0_soonest 16 = .ok (.i2l, 1) := dk_133 (dk_at dksX0_soonest_0 16 rfl rfl)
theorem dX0_soonest_17 : decode cX0_soonest 17 = .ok (.lastore, 1) := dk_80 (dk_at dksX0_soonest_0 17 rfl rfl)
theorem dX0_soonest_18 : decode cX0_soonest 18 = .ok (.goto 11, 3) := dk_167 0 11 (dk_at dksX0_soonest_0 18 rfl rfl)
theorem dX0_soonest_21 : decode cX0_soonest 21 = .ok (.astore 8, 2) := dk_58 8 (dk_at dksX0_soonest_0 21 rfl rfl)
theorem dX0_soonest_23 : decode cX0_soonest 23 = .ok (.iconst 1, 1) := dk_4 (dk_at dksX0_soonest_0 23 rfl rfl)
theorem dX0_soonest_24 : decode cX0_soonest 24 = .ok (.ireturn, 1) := dk_172 (dk_at dksX0_soonest_1 0 rfl rfl)
theorem dX0_soonest_25 : decode cX0_soonest 25 = .ok (.astore 8, 2) := dk_58 8 (dk_at dksX0_soonest_1 1 rfl rfl)
theorem dX0_soonest_27 : decode cX0_soonest 27 = .ok (.iconst 2, 1) := dk_5 (dk_at dksX0_soonest_1 3 rfl rfl)
theorem dX0_soonest_28 : decode cX0_soonest 28 = .ok (.ireturn, 1) := dk_172 (dk_at dksX0_soonest_1 4 rfl rfl)
theorem dX0_soonest_29 : decode cX0_soonest 29 = .ok (.iconst 0, 1) := dk_3 (dk_at dksX0_soonest_1 5 rfl rfl)
theorem dX0_soonest_30 : decode cX0_soonest 30 = .ok (.ireturn, 1) := dk_172 (dk_at dksX0_soonest_1 6 rfl rfl)
abbrev cX0_lateCalls : ByteArray := method_33_code
def yX0_lateCalls : MethodName := ⟨RX0, "lateCalls", "(LRideDesk;[J)I"⟩
def dkwX0_lateCalls_0 : List UInt8 := [43, 3, 42, 182, 0, 112, 133, 80, 167, 0, 6, 77, 4, 172, 3, 172]
abbrev dktX0_lateCalls_0 : List UInt8 := dkwX0_lateCalls_0 ++ []
theorem dksX0_lateCalls_0 : cX0_lateCalls.data.toList.drop 0 = dktX0_lateCalls_0 := by decide +kernel
theorem dX0_lateCalls_0 : decode cX0_lateCalls 0 = .ok (.aload_n 1, 1) := dk_43 (dk_at dksX0_lateCalls_0 0 rfl rfl)
theorem dX0_lateCalls_1 : decode cX0_lateCalls 1 = .ok (.iconst 0, 1) := dk_3 (dk_at dksX0_lateCalls_0 1 rfl rfl)
theorem dX0_lateCalls_2 : decode cX0_lateCalls 2 = .ok (.aload_n 0, 1) := dk_42 (dk_at dksX0_lateCalls_0 2 rfl rfl)
theorem dX0_lateCalls_3 : decode cX0_lateCalls 3 = .ok (.invokevirtual 112, 3) := dk_182 0 112 (dk_at dksX0_lateCalls_0 3 rfl rfl)
theorem dX0_lateCalls_6 : decode cX0_lateCalls 6 = .ok (.i2l, 1) := dk_133 (dk_at dksX0_lateCalls_0 6 rfl rfl)
theorem dX0_lateCalls_7 : decode cX0_lateCalls 7 = .ok (.lastore, 1) := dk_80 (dk_at dksX0_lateCalls_0 7 rfl rfl)
theorem dX0_lateCalls_8 : decode cX0_lateCalls 8 = .ok (.goto 6, 3) := dk_167 0 6 (dk_at dksX0_lateCalls_0 8 rfl rfl)
theorem dX0_lateCalls_11 : decode cX0_lateCalls 11 = .ok (.astore_n 2, 1) := dk_77 (dk_at dksX0_lateCalls_0 11 rfl rfl)
theorem dX0_lateCalls_12 : decode cX0_lateCalls 12 = .ok (.iconst 1, 1) := dk_4 (dk_at dksX0_lateCalls_0 12 rfl rfl)
theorem dX0_lateCalls_13 : decode cX0_lateCalls 13 = .ok (.ireturn, 1) := dk_172 (dk_at dksX0_lateCalls_0 13 rfl rfl)
theorem dX0_lateCalls_14 : decode cX0_lateCalls 14 = .ok (.iconst 0, 1) := dk_3 (dk_at dksX0_lateCalls_0 14 rfl rfl)
theorem dX0_lateCalls_15 : decode cX0_lateCalls 15 = .ok (.ireturn, 1) := dk_172 (dk_at dksX0_lateCalls_0 15 rfl rfl)
abbrev cX0_expectedCredits : ByteArray := method_34_code
def yX0_expectedCredits : MethodName := ⟨RX0, "expectedCredits", "(LRideDesk;[J)I"⟩
def dkwX0_expectedCredits_0 : List UInt8 := [43, 3, 42, 182, 0, 116, 133, 80, 167, 0, 6, 77, 4, 172, 3, 172]
abbrev dktX0_expectedCredits_0 : List UInt8 := dkwX0_expectedCredits_0 ++ []
theorem dksX0_expectedCredits_0 : cX0_expectedCredits.data.toList.drop 0 = dktX0_expectedCredits_0 := by decide +kernel
theorem dX0_expectedCredits_0 : decode cX0_expectedCredits 0 = .ok (.aload_n 1, 1) := dk_43 (dk_at dksX0_expectedCredits_0 0 rfl rfl)
theorem dX0_expectedCredits_1 : decode cX0_expectedCredits 1 = .ok (.iconst 0, 1) := dk_3 (dk_at dksX0_expectedCredits_0 1 rfl rfl)
theorem dX0_expectedCredits_2 : decode cX0_expectedCredits 2 = .ok (.aload_n 0, 1) := dk_42 (dk_at dksX0_expectedCredits_0 2 rfl rfl)
theorem dX0_expectedCredits_3 : decode cX0_expectedCredits 3 = .ok (.invokevirtual 116, 3) := dk_182 0 116 (dk_at dksX0_expectedCredits_0 3 rfl rfl)
theorem dX0_expectedCredits_6 : decode cX0_expectedCredits 6 = .ok (.i2l, 1) := dk_133 (dk_at dksX0_expectedCredits_0 6 rfl rfl)
theorem dX0_expectedCredits_7 : decode cX0_expectedCredits 7 = .ok (.lastore, 1) := dk_80 (dk_at dksX0_expectedCredits_0 7 rfl rfl)
theorem dX0_expectedCredits_8 : decode cX0_expectedCredits 8 = .ok (.goto 6, 3) := dk_167 0 6 (dk_at dksX0_expectedCredits_0 8 rfl rfl)
theorem dX0_expectedCredits_11 : decode cX0_expectedCredits 11 = .ok (.astore_n 2, 1) := dk_77 (dk_at dksX0_expectedCredits_0 11 rfl rfl)
theorem dX0_expectedCredits_12 : decode cX0_expectedCredits 12 = .ok (.iconst 1, 1) := dk_4 (dk_at dksX0_expectedCredits_0 12 rfl rfl)
theorem dX0_expectedCredits_13 : decode cX0_expectedCredits 13 = .ok (.ireturn, 1) := dk_172 (dk_at dksX0_expectedCredits_0 13 rfl rfl)
theorem dX0_expectedCredits_14 : decode cX0_expectedCredits 14 = .ok (.iconst 0, 1) := dk_3 (dk_at dksX0_expectedCredits_0 14 rfl rfl)
theorem dX0_expectedCredits_15 : decode cX0_expectedCredits 15 = .ok (.ireturn, 1) := dk_172 (dk_at dksX0_expectedCredits_0 15 rfl rfl)
abbrev cX0_freeVan : ByteArray := method_35_code
def yX0_freeVan : MethodName := ⟨RX0, "freeVan", "(LRideDesk;II[J)I"⟩
def dkwX0_freeVan_0 : List UInt8 := [45, 3, 42, 27, 28, 182, 0, 119, 133, 80, 167, 0, 11, 58, 4, 4, 172, 58, 4, 5, 172, 3, 172]
abbrev dktX0_freeVan_0 : List UInt8 := dkwX0_freeVan_0 ++ []
theorem dksX0_freeVan_0 : cX0_freeVan.data.toList.drop 0 = dktX0_freeVan_0 := by decide +kernel
theorem dX0_freeVan_0 : decode cX0_freeVan 0 = .ok (.aload_n 3, 1) := dk_45 (dk_at dksX0_freeVan_0 0 rfl rfl)
theorem dX0_freeVan_1 : decode cX0_freeVan 1 = .ok (.iconst 0, 1) := dk_3 (dk_at dksX0_freeVan_0 1 rfl rfl)
theorem dX0_freeVan_2 : decode cX0_freeVan 2 = .ok (.aload_n 0, 1) := dk_42 (dk_at dksX0_freeVan_0 2 rfl rfl)
theorem dX0_freeVan_3 : decode cX0_freeVan 3 = .ok (.iload_n 1, 1) := dk_27 (dk_at dksX0_freeVan_0 3 rfl rfl)
theorem dX0_freeVan_4 : decode cX0_freeVan 4 = .ok (.iload_n 2, 1) := dk_28 (dk_at dksX0_freeVan_0 4 rfl rfl)
theorem dX0_freeVan_5 : decode cX0_freeVan 5 = .ok (.invokevirtual 119, 3) := dk_182 0 119 (dk_at dksX0_freeVan_0 5 rfl rfl)
theorem dX0_freeVan_8 : decode cX0_freeVan 8 = .ok (.i2l, 1) := dk_133 (dk_at dksX0_freeVan_0 8 rfl rfl)
theorem dX0_freeVan_9 : decode cX0_freeVan 9 = .ok (.lastore, 1) := dk_80 (dk_at dksX0_freeVan_0 9 rfl rfl)
theorem dX0_freeVan_10 : decode cX0_freeVan 10 = .ok (.goto 11, 3) := dk_167 0 11 (dk_at dksX0_freeVan_0 10 rfl rfl)
theorem dX0_freeVan_13 : decode cX0_freeVan 13 = .ok (.astore 4, 2) := dk_58 4 (dk_at dksX0_freeVan_0 13 rfl rfl)
theorem dX0_freeVan_15 : decode cX0_freeVan 15 = .ok (.iconst 1, 1) := dk_4 (dk_at dksX0_freeVan_0 15 rfl rfl)
theorem dX0_freeVan_16 : decode cX0_freeVan 16 = .ok (.ireturn, 1) := dk_172 (dk_at dksX0_freeVan_0 16 rfl rfl)
theorem dX0_freeVan_17 : decode cX0_freeVan 17 = .ok (.astore 4, 2) := dk_58 4 (dk_at dksX0_freeVan_0 17 rfl rfl)
theorem dX0_freeVan_19 : decode cX0_freeVan 19 = .ok (.iconst 2, 1) := dk_5 (dk_at dksX0_freeVan_0 19 rfl rfl)
theorem dX0_freeVan_20 : decode cX0_freeVan 20 = .ok (.ireturn, 1) := dk_172 (dk_at dksX0_freeVan_0 20 rfl rfl)
theorem dX0_freeVan_21 : decode cX0_freeVan 21 = .ok (.iconst 0, 1) := dk_3 (dk_at dksX0_freeVan_0 21 rfl rfl)
theorem dX0_freeVan_22 : decode cX0_freeVan 22 = .ok (.ireturn, 1) := dk_172 (dk_at dksX0_freeVan_0 22 rfl rfl)
abbrev cX0_savings : ByteArray := method_36_code
def yX0_savings : MethodName := ⟨RX0, "savings", "(LRideDesk;I[J)I"⟩
def dkwX0_savings_0 : List UInt8 := [44, 3, 42, 27, 182, 0, 122, 133, 80, 167, 0, 12, 78, 4, 172, 78, 5, 172, 78, 6, 172, 3, 172]
abbrev dktX0_savings_0 : List UInt8 := dkwX0_savings_0 ++ []
theorem dksX0_savings_0 : cX0_savings.data.toList.drop 0 = dktX0_savings_0 := by decide +kernel
theorem dX0_savings_0 : decode cX0_savings 0 = .ok (.aload_n 2, 1) := dk_44 (dk_at dksX0_savings_0 0 rfl rfl)
theorem dX0_savings_1 : decode cX0_savings 1 = .ok (.iconst 0, 1) := dk_3 (dk_at dksX0_savings_0 1 rfl rfl)
theorem dX0_savings_2 : decode cX0_savings 2 = .ok (.aload_n 0, 1) := dk_42 (dk_at dksX0_savings_0 2 rfl rfl)
theorem dX0_savings_3 : decode cX0_savings 3 = .ok (.iload_n 1, 1) := dk_27 (dk_at dksX0_savings_0 3 rfl rfl)
theorem dX0_savings_4 : decode cX0_savings 4 = .ok (.invokevirtual 122, 3) := dk_182 0 122 (dk_at dksX0_savings_0 4 rfl rfl)
theorem dX0_savings_7 : decode cX0_savings 7 = .ok (.i2l, 1) := dk_133 (dk_at dksX0_savings_0 7 rfl rfl)
theorem dX0_savings_8 : decode cX0_savings 8 = .ok (.lastore, 1) := dk_80 (dk_at dksX0_savings_0 8 rfl rfl)
theorem dX0_savings_9 : decode cX0_savings 9 = .ok (.goto 12, 3) := dk_167 0 12 (dk_at dksX0_savings_0 9 rfl rfl)
theorem dX0_savings_12 : decode cX0_savings 12 = .ok (.astore_n 3, 1) := dk_78 (dk_at dksX0_savings_0 12 rfl rfl)
theorem dX0_savings_13 : decode cX0_savings 13 = .ok (.iconst 1, 1) := dk_4 (dk_at dksX0_savings_0 13 rfl rfl)
theorem dX0_savings_14 : decode cX0_savings 14 = .ok (.ireturn, 1) := dk_172 (dk_at dksX0_savings_0 14 rfl rfl)
theorem dX0_savings_15 : decode cX0_savings 15 = .ok (.astore_n 3, 1) := dk_78 (dk_at dksX0_savings_0 15 rfl rfl)
theorem dX0_savings_16 : decode cX0_savings 16 = .ok (.iconst 2, 1) := dk_5 (dk_at dksX0_savings_0 16 rfl rfl)
theorem dX0_savings_17 : decode cX0_savings 17 = .ok (.ireturn, 1) := dk_172 (dk_at dksX0_savings_0 17 rfl rfl)
theorem dX0_savings_18 : decode cX0_savings 18 = .ok (.astore_n 3, 1) := dk_78 (dk_at dksX0_savings_0 18 rfl rfl)
theorem dX0_savings_19 : decode cX0_savings 19 = .ok (.iconst 3, 1) := dk_6 (dk_at dksX0_savings_0 19 rfl rfl)
theorem dX0_savings_20 : decode cX0_savings 20 = .ok (.ireturn, 1) := dk_172 (dk_at dksX0_savings_0 20 rfl rfl)
theorem dX0_savings_21 : decode cX0_savings 21 = .ok (.iconst 0, 1) := dk_3 (dk_at dksX0_savings_0 21 rfl rfl)
theorem dX0_savings_22 : decode cX0_savings 22 = .ok (.ireturn, 1) := dk_172 (dk_at dksX0_savings_0 22 rfl rfl)
abbrev cX0_manifest : ByteArray := method_37_code
def yX0_manifest : MethodName := ⟨RX0, "manifest", "(LRideDesk;I[J)I"⟩
def dkwX0_manifest_0 : List UInt8 := [44, 3, 42, 27, 182, 0, 125, 133, 80, 167, 0, 9, 78, 4, 172, 78, 5, 172, 3, 172]
abbrev dktX0_manifest_0 : List UInt8 := dkwX0_manifest_0 ++ []
theorem dksX0_manifest_0 : cX0_manifest.data.toList.drop 0 = dktX0_manifest_0 := by decide +kernel
theorem dX0_manifest_0 : decode cX0_manifest 0 = .ok (.aload_n 2, 1) := dk_44 (dk_at dksX0_manifest_0 0 rfl rfl)
theorem dX0_manifest_1 : decode cX0_manifest 1 = .ok (.iconst 0, 1) := dk_3 (dk_at dksX0_manifest_0 1 rfl rfl)
theorem dX0_manifest_2 : decode cX0_manifest 2 = .ok (.aload_n 0, 1) := dk_42 (dk_at dksX0_manifest_0 2 rfl rfl)
theorem dX0_manifest_3 : decode cX0_manifest 3 = .ok (.iload_n 1, 1) := dk_27 (dk_at dksX0_manifest_0 3 rfl rfl)
theorem dX0_manifest_4 : decode cX0_manifest 4 = .ok (.invokevirtual 125, 3) := dk_182 0 125 (dk_at dksX0_manifest_0 4 rfl rfl)
theorem dX0_manifest_7 : decode cX0_manifest 7 = .ok (.i2l, 1) := dk_133 (dk_at dksX0_manifest_0 7 rfl rfl)
theorem dX0_manifest_8 : decode cX0_manifest 8 = .ok (.lastore, 1) := dk_80 (dk_at dksX0_manifest_0 8 rfl rfl)
theorem dX0_manifest_9 : decode cX0_manifest 9 = .ok (.goto 9, 3) := dk_167 0 9 (dk_at dksX0_manifest_0 9 rfl rfl)
theorem dX0_manifest_12 : decode cX0_manifest 12 = .ok (.astore_n 3, 1) := dk_78 (dk_at dksX0_manifest_0 12 rfl rfl)
theorem dX0_manifest_13 : decode cX0_manifest 13 = .ok (.iconst 1, 1) := dk_4 (dk_at dksX0_manifest_0 13 rfl rfl)
theorem dX0_manifest_14 : decode cX0_manifest 14 = .ok (.ireturn, 1) := dk_172 (dk_at dksX0_manifest_0 14 rfl rfl)
theorem dX0_manifest_15 : decode cX0_manifest 15 = .ok (.astore_n 3, 1) := dk_78 (dk_at dksX0_manifest_0 15 rfl rfl)
theorem dX0_manifest_16 : decode cX0_manifest 16 = .ok (.iconst 2, 1) := dk_5 (dk_at dksX0_manifest_0 16 rfl rfl)
theorem dX0_manifest_17 : decode cX0_manifest 17 = .ok (.ireturn, 1) := dk_172 (dk_at dksX0_manifest_0 17 rfl rfl)
theorem dX0_manifest_18 : decode cX0_manifest 18 = .ok (.iconst 0, 1) := dk_3 (dk_at dksX0_manifest_0 18 rfl rfl)
theorem dX0_manifest_19 : decode cX0_manifest 19 = .ok (.ireturn, 1) := dk_172 (dk_at dksX0_manifest_0 19 rfl rfl)
abbrev cX0_manifestByte : ByteArray := method_38_code
def yX0_manifestByte : MethodName := ⟨RX0, "manifestByte", "(LRideDesk;I[J)I"⟩
def dkwX0_manifestByte_0 : List UInt8 := [44, 3, 42, 27, 182, 0, 128, 133, 80, 167, 0, 6, 78, 4, 172, 3, 172]
abbrev dktX0_manifestByte_0 : List UInt8 := dkwX0_manifestByte_0 ++ []
theorem dksX0_manifestByte_0 : cX0_manifestByte.data.toList.drop 0 = dktX0_manifestByte_0 := by decide +kernel
theorem dX0_manifestByte_0 : decode cX0_manifestByte 0 = .ok (.aload_n 2, 1) := dk_44 (dk_at dksX0_manifestByte_0 0 rfl rfl)
theorem dX0_manifestByte_1 : decode cX0_manifestByte 1 = .ok (.iconst 0, 1) := dk_3 (dk_at dksX0_manifestByte_0 1 rfl rfl)
theorem dX0_manifestByte_2 : decode cX0_manifestByte 2 = .ok (.aload_n 0, 1) := dk_42 (dk_at dksX0_manifestByte_0 2 rfl rfl)
theorem dX0_manifestByte_3 : decode cX0_manifestByte 3 = .ok (.iload_n 1, 1) := dk_27 (dk_at dksX0_manifestByte_0 3 rfl rfl)
theorem dX0_manifestByte_4 : decode cX0_manifestByte 4 = .ok (.invokevirtual 128, 3) := dk_182 0 128 (dk_at dksX0_manifestByte_0 4 rfl rfl)
theorem dX0_manifestByte_7 : decode cX0_manifestByte 7 = .ok (.i2l, 1) := dk_133 (dk_at dksX0_manifestByte_0 7 rfl rfl)
theorem dX0_manifestByte_8 : decode cX0_manifestByte 8 = .ok (.lastore, 1) := dk_80 (dk_at dksX0_manifestByte_0 8 rfl rfl)
theorem dX0_manifestByte_9 : decode cX0_manifestByte 9 = .ok (.goto 6, 3) := dk_167 0 6 (dk_at dksX0_manifestByte_0 9 rfl rfl)
theorem dX0_manifestByte_12 : decode cX0_manifestByte 12 = .ok (.astore_n 3, 1) := dk_78 (dk_at dksX0_manifestByte_0 12 rfl rfl)
theorem dX0_manifestByte_13 : decode cX0_manifestByte 13 = .ok (.iconst 1, 1) := dk_4 (dk_at dksX0_manifestByte_0 13 rfl rfl)
theorem dX0_manifestByte_14 : decode cX0_manifestByte 14 = .ok (.ireturn, 1) := dk_172 (dk_at dksX0_manifestByte_0 14 rfl rfl)
theorem dX0_manifestByte_15 : decode cX0_manifestByte 15 = .ok (.iconst 0, 1) := dk_3 (dk_at dksX0_manifestByte_0 15 rfl rfl)
theorem dX0_manifestByte_16 : decode cX0_manifestByte 16 = .ok (.ireturn, 1) := dk_172 (dk_at dksX0_manifestByte_0 16 rfl rfl)
abbrev cX0_request : ByteArray := method_39_code
def yX0_request : MethodName := ⟨RX0, "request", "(LRideDesk;IIIIII[J)I"⟩
def dkwX0_request_1 : List UInt8 := [172, 58, 8, 5, 172, 3, 172]
abbrev dktX0_request_1 : List UInt8 := dkwX0_request_1 ++ []
def dkwX0_request_0 : List UInt8 := [25, 7, 3, 42, 27, 28, 29, 21, 4, 21, 5, 21, 6, 182, 0, 131, 133, 80, 167, 0, 11, 58, 8, 4]
abbrev dktX0_request_0 : List UInt8 := dkwX0_request_0 ++ dktX0_request_1
theorem dksX0_request_0 : cX0_request.data.toList.drop 0 = dktX0_request_0 := by decide +kernel
theorem dksX0_request_1 : cX0_request.data.toList.drop 24 = dktX0_request_1 := dk_seg dksX0_request_0 24 rfl rfl
theorem dX0_request_0 : decode cX0_request 0 = .ok (.aload 7, 2) := dk_25 7 (dk_at dksX0_request_0 0 rfl rfl)
theorem dX0_request_2 : decode cX0_request 2 = .ok (.iconst 0, 1) := dk_3 (dk_at dksX0_request_0 2 rfl rfl)
theorem dX0_request_3 : decode cX0_request 3 = .ok (.aload_n 0, 1) := dk_42 (dk_at dksX0_request_0 3 rfl rfl)
theorem dX0_request_4 : decode cX0_request 4 = .ok (.iload_n 1, 1) := dk_27 (dk_at dksX0_request_0 4 rfl rfl)
theorem dX0_request_5 : decode cX0_request 5 = .ok (.iload_n 2, 1) := dk_28 (dk_at dksX0_request_0 5 rfl rfl)
theorem dX0_request_6 : decode cX0_request 6 = .ok (.iload_n 3, 1) := dk_29 (dk_at dksX0_request_0 6 rfl rfl)
theorem dX0_request_7 : decode cX0_request 7 = .ok (.iload 4, 2) := dk_21 4 (dk_at dksX0_request_0 7 rfl rfl)
theorem dX0_request_9 : decode cX0_request 9 = .ok (.iload 5, 2) := dk_21 5 (dk_at dksX0_request_0 9 rfl rfl)
theorem dX0_request_11 : decode cX0_request 11 = .ok (.iload 6, 2) := dk_21 6 (dk_at dksX0_request_0 11 rfl rfl)
theorem dX0_request_13 : decode cX0_request 13 = .ok (.invokevirtual 131, 3) := dk_182 0 131 (dk_at dksX0_request_0 13 rfl rfl)
theorem dX0_request_16 : decode cX0_request 16 = .ok (.i2l, 1) := dk_133 (dk_at dksX0_request_0 16 rfl rfl)
theorem dX0_request_17 : decode cX0_request 17 = .ok (.lastore, 1) := dk_80 (dk_at dksX0_request_0 17 rfl rfl)
theorem dX0_request_18 : decode cX0_request 18 = .ok (.goto 11, 3) := dk_167 0 11 (dk_at dksX0_request_0 18 rfl rfl)
theorem dX0_request_21 : decode cX0_request 21 = .ok (.astore 8, 2) := dk_58 8 (dk_at dksX0_request_0 21 rfl rfl)
theorem dX0_request_23 : decode cX0_request 23 = .ok (.iconst 1, 1) := dk_4 (dk_at dksX0_request_0 23 rfl rfl)
theorem dX0_request_24 : decode cX0_request 24 = .ok (.ireturn, 1) := dk_172 (dk_at dksX0_request_1 0 rfl rfl)
theorem dX0_request_25 : decode cX0_request 25 = .ok (.astore 8, 2) := dk_58 8 (dk_at dksX0_request_1 1 rfl rfl)
theorem dX0_request_27 : decode cX0_request 27 = .ok (.iconst 2, 1) := dk_5 (dk_at dksX0_request_1 3 rfl rfl)
theorem dX0_request_28 : decode cX0_request 28 = .ok (.ireturn, 1) := dk_172 (dk_at dksX0_request_1 4 rfl rfl)
theorem dX0_request_29 : decode cX0_request 29 = .ok (.iconst 0, 1) := dk_3 (dk_at dksX0_request_1 5 rfl rfl)
theorem dX0_request_30 : decode cX0_request 30 = .ok (.ireturn, 1) := dk_172 (dk_at dksX0_request_1 6 rfl rfl)
abbrev cX0_cancel : ByteArray := method_40_code
def yX0_cancel : MethodName := ⟨RX0, "cancel", "(LRideDesk;I[J)I"⟩
def dkwX0_cancel_0 : List UInt8 := [44, 3, 42, 27, 182, 0, 134, 133, 80, 167, 0, 12, 78, 4, 172, 78, 5, 172, 78, 6, 172, 3, 172]
abbrev dktX0_cancel_0 : List UInt8 := dkwX0_cancel_0 ++ []
theorem dksX0_cancel_0 : cX0_cancel.data.toList.drop 0 = dktX0_cancel_0 := by decide +kernel
theorem dX0_cancel_0 : decode cX0_cancel 0 = .ok (.aload_n 2, 1) := dk_44 (dk_at dksX0_cancel_0 0 rfl rfl)
theorem dX0_cancel_1 : decode cX0_cancel 1 = .ok (.iconst 0, 1) := dk_3 (dk_at dksX0_cancel_0 1 rfl rfl)
theorem dX0_cancel_2 : decode cX0_cancel 2 = .ok (.aload_n 0, 1) := dk_42 (dk_at dksX0_cancel_0 2 rfl rfl)
theorem dX0_cancel_3 : decode cX0_cancel 3 = .ok (.iload_n 1, 1) := dk_27 (dk_at dksX0_cancel_0 3 rfl rfl)
theorem dX0_cancel_4 : decode cX0_cancel 4 = .ok (.invokevirtual 134, 3) := dk_182 0 134 (dk_at dksX0_cancel_0 4 rfl rfl)
theorem dX0_cancel_7 : decode cX0_cancel 7 = .ok (.i2l, 1) := dk_133 (dk_at dksX0_cancel_0 7 rfl rfl)
theorem dX0_cancel_8 : decode cX0_cancel 8 = .ok (.lastore, 1) := dk_80 (dk_at dksX0_cancel_0 8 rfl rfl)
theorem dX0_cancel_9 : decode cX0_cancel 9 = .ok (.goto 12, 3) := dk_167 0 12 (dk_at dksX0_cancel_0 9 rfl rfl)
theorem dX0_cancel_12 : decode cX0_cancel 12 = .ok (.astore_n 3, 1) := dk_78 (dk_at dksX0_cancel_0 12 rfl rfl)
theorem dX0_cancel_13 : decode cX0_cancel 13 = .ok (.iconst 1, 1) := dk_4 (dk_at dksX0_cancel_0 13 rfl rfl)
theorem dX0_cancel_14 : decode cX0_cancel 14 = .ok (.ireturn, 1) := dk_172 (dk_at dksX0_cancel_0 14 rfl rfl)
theorem dX0_cancel_15 : decode cX0_cancel 15 = .ok (.astore_n 3, 1) := dk_78 (dk_at dksX0_cancel_0 15 rfl rfl)
theorem dX0_cancel_16 : decode cX0_cancel 16 = .ok (.iconst 2, 1) := dk_5 (dk_at dksX0_cancel_0 16 rfl rfl)
theorem dX0_cancel_17 : decode cX0_cancel 17 = .ok (.ireturn, 1) := dk_172 (dk_at dksX0_cancel_0 17 rfl rfl)
theorem dX0_cancel_18 : decode cX0_cancel 18 = .ok (.astore_n 3, 1) := dk_78 (dk_at dksX0_cancel_0 18 rfl rfl)
theorem dX0_cancel_19 : decode cX0_cancel 19 = .ok (.iconst 3, 1) := dk_6 (dk_at dksX0_cancel_0 19 rfl rfl)
theorem dX0_cancel_20 : decode cX0_cancel 20 = .ok (.ireturn, 1) := dk_172 (dk_at dksX0_cancel_0 20 rfl rfl)
theorem dX0_cancel_21 : decode cX0_cancel 21 = .ok (.iconst 0, 1) := dk_3 (dk_at dksX0_cancel_0 21 rfl rfl)
theorem dX0_cancel_22 : decode cX0_cancel 22 = .ok (.ireturn, 1) := dk_172 (dk_at dksX0_cancel_0 22 rfl rfl)
abbrev cX0_postpone : ByteArray := method_41_code
def yX0_postpone : MethodName := ⟨RX0, "postpone", "(LRideDesk;II[J)I"⟩
def dkwX0_postpone_1 : List UInt8 := [172, 3, 172]
abbrev dktX0_postpone_1 : List UInt8 := dkwX0_postpone_1 ++ []
def dkwX0_postpone_0 : List UInt8 := [45, 3, 42, 27, 28, 182, 0, 137, 133, 80, 167, 0, 15, 58, 4, 4, 172, 58, 4, 5, 172, 58, 4, 6]
abbrev dktX0_postpone_0 : List UInt8 := dkwX0_postpone_0 ++ dktX0_postpone_1
theorem dksX0_postpone_0 : cX0_postpone.data.toList.drop 0 = dktX0_postpone_0 := by decide +kernel
theorem dksX0_postpone_1 : cX0_postpone.data.toList.drop 24 = dktX0_postpone_1 := dk_seg dksX0_postpone_0 24 rfl rfl
theorem dX0_postpone_0 : decode cX0_postpone 0 = .ok (.aload_n 3, 1) := dk_45 (dk_at dksX0_postpone_0 0 rfl rfl)
theorem dX0_postpone_1 : decode cX0_postpone 1 = .ok (.iconst 0, 1) := dk_3 (dk_at dksX0_postpone_0 1 rfl rfl)
theorem dX0_postpone_2 : decode cX0_postpone 2 = .ok (.aload_n 0, 1) := dk_42 (dk_at dksX0_postpone_0 2 rfl rfl)
theorem dX0_postpone_3 : decode cX0_postpone 3 = .ok (.iload_n 1, 1) := dk_27 (dk_at dksX0_postpone_0 3 rfl rfl)
theorem dX0_postpone_4 : decode cX0_postpone 4 = .ok (.iload_n 2, 1) := dk_28 (dk_at dksX0_postpone_0 4 rfl rfl)
theorem dX0_postpone_5 : decode cX0_postpone 5 = .ok (.invokevirtual 137, 3) := dk_182 0 137 (dk_at dksX0_postpone_0 5 rfl rfl)
theorem dX0_postpone_8 : decode cX0_postpone 8 = .ok (.i2l, 1) := dk_133 (dk_at dksX0_postpone_0 8 rfl rfl)
theorem dX0_postpone_9 : decode cX0_postpone 9 = .ok (.lastore, 1) := dk_80 (dk_at dksX0_postpone_0 9 rfl rfl)
theorem dX0_postpone_10 : decode cX0_postpone 10 = .ok (.goto 15, 3) := dk_167 0 15 (dk_at dksX0_postpone_0 10 rfl rfl)
theorem dX0_postpone_13 : decode cX0_postpone 13 = .ok (.astore 4, 2) := dk_58 4 (dk_at dksX0_postpone_0 13 rfl rfl)
theorem dX0_postpone_15 : decode cX0_postpone 15 = .ok (.iconst 1, 1) := dk_4 (dk_at dksX0_postpone_0 15 rfl rfl)
theorem dX0_postpone_16 : decode cX0_postpone 16 = .ok (.ireturn, 1) := dk_172 (dk_at dksX0_postpone_0 16 rfl rfl)
theorem dX0_postpone_17 : decode cX0_postpone 17 = .ok (.astore 4, 2) := dk_58 4 (dk_at dksX0_postpone_0 17 rfl rfl)
theorem dX0_postpone_19 : decode cX0_postpone 19 = .ok (.iconst 2, 1) := dk_5 (dk_at dksX0_postpone_0 19 rfl rfl)
theorem dX0_postpone_20 : decode cX0_postpone 20 = .ok (.ireturn, 1) := dk_172 (dk_at dksX0_postpone_0 20 rfl rfl)
theorem dX0_postpone_21 : decode cX0_postpone 21 = .ok (.astore 4, 2) := dk_58 4 (dk_at dksX0_postpone_0 21 rfl rfl)
theorem dX0_postpone_23 : decode cX0_postpone 23 = .ok (.iconst 3, 1) := dk_6 (dk_at dksX0_postpone_0 23 rfl rfl)
theorem dX0_postpone_24 : decode cX0_postpone 24 = .ok (.ireturn, 1) := dk_172 (dk_at dksX0_postpone_1 0 rfl rfl)
theorem dX0_postpone_25 : decode cX0_postpone 25 = .ok (.iconst 0, 1) := dk_3 (dk_at dksX0_postpone_1 1 rfl rfl)
theorem dX0_postpone_26 : decode cX0_postpone 26 = .ok (.ireturn, 1) := dk_172 (dk_at dksX0_postpone_1 2 rfl rfl)
abbrev cX0_setUntil : ByteArray := method_42_code
def yX0_setUntil : MethodName := ⟨RX0, "setUntil", "(LRideDesk;II[J)I"⟩
def dkwX0_setUntil_1 : List UInt8 := [172, 3, 172]
abbrev dktX0_setUntil_1 : List UInt8 := dkwX0_setUntil_1 ++ []
def dkwX0_setUntil_0 : List UInt8 := [45, 3, 42, 27, 28, 182, 0, 140, 133, 80, 167, 0, 15, 58, 4, 4, 172, 58, 4, 5, 172, 58, 4, 6]
abbrev dktX0_setUntil_0 : List UInt8 := dkwX0_setUntil_0 ++ dktX0_setUntil_1
theorem dksX0_setUntil_0 : cX0_setUntil.data.toList.drop 0 = dktX0_setUntil_0 := by decide +kernel
theorem dksX0_setUntil_1 : cX0_setUntil.data.toList.drop 24 = dktX0_setUntil_1 := dk_seg dksX0_setUntil_0 24 rfl rfl
theorem dX0_setUntil_0 : decode cX0_setUntil 0 = .ok (.aload_n 3, 1) := dk_45 (dk_at dksX0_setUntil_0 0 rfl rfl)
theorem dX0_setUntil_1 : decode cX0_setUntil 1 = .ok (.iconst 0, 1) := dk_3 (dk_at dksX0_setUntil_0 1 rfl rfl)
theorem dX0_setUntil_2 : decode cX0_setUntil 2 = .ok (.aload_n 0, 1) := dk_42 (dk_at dksX0_setUntil_0 2 rfl rfl)
theorem dX0_setUntil_3 : decode cX0_setUntil 3 = .ok (.iload_n 1, 1) := dk_27 (dk_at dksX0_setUntil_0 3 rfl rfl)
theorem dX0_setUntil_4 : decode cX0_setUntil 4 = .ok (.iload_n 2, 1) := dk_28 (dk_at dksX0_setUntil_0 4 rfl rfl)
theorem dX0_setUntil_5 : decode cX0_setUntil 5 = .ok (.invokevirtual 140, 3) := dk_182 0 140 (dk_at dksX0_setUntil_0 5 rfl rfl)
theorem dX0_setUntil_8 : decode cX0_setUntil 8 = .ok (.i2l, 1) := dk_133 (dk_at dksX0_setUntil_0 8 rfl rfl)
theorem dX0_setUntil_9 : decode cX0_setUntil 9 = .ok (.lastore, 1) := dk_80 (dk_at dksX0_setUntil_0 9 rfl rfl)
theorem dX0_setUntil_10 : decode cX0_setUntil 10 = .ok (.goto 15, 3) := dk_167 0 15 (dk_at dksX0_setUntil_0 10 rfl rfl)
theorem dX0_setUntil_13 : decode cX0_setUntil 13 = .ok (.astore 4, 2) := dk_58 4 (dk_at dksX0_setUntil_0 13 rfl rfl)
theorem dX0_setUntil_15 : decode cX0_setUntil 15 = .ok (.iconst 1, 1) := dk_4 (dk_at dksX0_setUntil_0 15 rfl rfl)
theorem dX0_setUntil_16 : decode cX0_setUntil 16 = .ok (.ireturn, 1) := dk_172 (dk_at dksX0_setUntil_0 16 rfl rfl)
theorem dX0_setUntil_17 : decode cX0_setUntil 17 = .ok (.astore 4, 2) := dk_58 4 (dk_at dksX0_setUntil_0 17 rfl rfl)
theorem dX0_setUntil_19 : decode cX0_setUntil 19 = .ok (.iconst 2, 1) := dk_5 (dk_at dksX0_setUntil_0 19 rfl rfl)
theorem dX0_setUntil_20 : decode cX0_setUntil 20 = .ok (.ireturn, 1) := dk_172 (dk_at dksX0_setUntil_0 20 rfl rfl)
theorem dX0_setUntil_21 : decode cX0_setUntil 21 = .ok (.astore 4, 2) := dk_58 4 (dk_at dksX0_setUntil_0 21 rfl rfl)
theorem dX0_setUntil_23 : decode cX0_setUntil 23 = .ok (.iconst 3, 1) := dk_6 (dk_at dksX0_setUntil_0 23 rfl rfl)
theorem dX0_setUntil_24 : decode cX0_setUntil 24 = .ok (.ireturn, 1) := dk_172 (dk_at dksX0_setUntil_1 0 rfl rfl)
theorem dX0_setUntil_25 : decode cX0_setUntil 25 = .ok (.iconst 0, 1) := dk_3 (dk_at dksX0_setUntil_1 1 rfl rfl)
theorem dX0_setUntil_26 : decode cX0_setUntil 26 = .ok (.ireturn, 1) := dk_172 (dk_at dksX0_setUntil_1 2 rfl rfl)
abbrev cX0_improve : ByteArray := method_43_code
def yX0_improve : MethodName := ⟨RX0, "improve", "(LRideDesk;[J)I"⟩
def dkwX0_improve_0 : List UInt8 := [43, 3, 42, 182, 0, 143, 133, 80, 167, 0, 6, 77, 4, 172, 3, 172]
abbrev dktX0_improve_0 : List UInt8 := dkwX0_improve_0 ++ []
theorem dksX0_improve_0 : cX0_improve.data.toList.drop 0 = dktX0_improve_0 := by decide +kernel
theorem dX0_improve_0 : decode cX0_improve 0 = .ok (.aload_n 1, 1) := dk_43 (dk_at dksX0_improve_0 0 rfl rfl)
theorem dX0_improve_1 : decode cX0_improve 1 = .ok (.iconst 0, 1) := dk_3 (dk_at dksX0_improve_0 1 rfl rfl)
theorem dX0_improve_2 : decode cX0_improve 2 = .ok (.aload_n 0, 1) := dk_42 (dk_at dksX0_improve_0 2 rfl rfl)
theorem dX0_improve_3 : decode cX0_improve 3 = .ok (.invokevirtual 143, 3) := dk_182 0 143 (dk_at dksX0_improve_0 3 rfl rfl)
theorem dX0_improve_6 : decode cX0_improve 6 = .ok (.i2l, 1) := dk_133 (dk_at dksX0_improve_0 6 rfl rfl)
theorem dX0_improve_7 : decode cX0_improve 7 = .ok (.lastore, 1) := dk_80 (dk_at dksX0_improve_0 7 rfl rfl)
theorem dX0_improve_8 : decode cX0_improve 8 = .ok (.goto 6, 3) := dk_167 0 6 (dk_at dksX0_improve_0 8 rfl rfl)
theorem dX0_improve_11 : decode cX0_improve 11 = .ok (.astore_n 2, 1) := dk_77 (dk_at dksX0_improve_0 11 rfl rfl)
theorem dX0_improve_12 : decode cX0_improve 12 = .ok (.iconst 1, 1) := dk_4 (dk_at dksX0_improve_0 12 rfl rfl)
theorem dX0_improve_13 : decode cX0_improve 13 = .ok (.ireturn, 1) := dk_172 (dk_at dksX0_improve_0 13 rfl rfl)
theorem dX0_improve_14 : decode cX0_improve 14 = .ok (.iconst 0, 1) := dk_3 (dk_at dksX0_improve_0 14 rfl rfl)
theorem dX0_improve_15 : decode cX0_improve 15 = .ok (.ireturn, 1) := dk_172 (dk_at dksX0_improve_0 15 rfl rfl)
abbrev cX0_advance : ByteArray := method_44_code
def yX0_advance : MethodName := ⟨RX0, "advance", "(LRideDesk;I[J)I"⟩
def dkwX0_advance_0 : List UInt8 := [44, 3, 42, 27, 182, 0, 146, 133, 80, 167, 0, 9, 78, 4, 172, 78, 5, 172, 3, 172]
abbrev dktX0_advance_0 : List UInt8 := dkwX0_advance_0 ++ []
theorem dksX0_advance_0 : cX0_advance.data.toList.drop 0 = dktX0_advance_0 := by decide +kernel
theorem dX0_advance_0 : decode cX0_advance 0 = .ok (.aload_n 2, 1) := dk_44 (dk_at dksX0_advance_0 0 rfl rfl)
theorem dX0_advance_1 : decode cX0_advance 1 = .ok (.iconst 0, 1) := dk_3 (dk_at dksX0_advance_0 1 rfl rfl)
theorem dX0_advance_2 : decode cX0_advance 2 = .ok (.aload_n 0, 1) := dk_42 (dk_at dksX0_advance_0 2 rfl rfl)
theorem dX0_advance_3 : decode cX0_advance 3 = .ok (.iload_n 1, 1) := dk_27 (dk_at dksX0_advance_0 3 rfl rfl)
theorem dX0_advance_4 : decode cX0_advance 4 = .ok (.invokevirtual 146, 3) := dk_182 0 146 (dk_at dksX0_advance_0 4 rfl rfl)
theorem dX0_advance_7 : decode cX0_advance 7 = .ok (.i2l, 1) := dk_133 (dk_at dksX0_advance_0 7 rfl rfl)
theorem dX0_advance_8 : decode cX0_advance 8 = .ok (.lastore, 1) := dk_80 (dk_at dksX0_advance_0 8 rfl rfl)
theorem dX0_advance_9 : decode cX0_advance 9 = .ok (.goto 9, 3) := dk_167 0 9 (dk_at dksX0_advance_0 9 rfl rfl)
theorem dX0_advance_12 : decode cX0_advance 12 = .ok (.astore_n 3, 1) := dk_78 (dk_at dksX0_advance_0 12 rfl rfl)
theorem dX0_advance_13 : decode cX0_advance 13 = .ok (.iconst 1, 1) := dk_4 (dk_at dksX0_advance_0 13 rfl rfl)
theorem dX0_advance_14 : decode cX0_advance 14 = .ok (.ireturn, 1) := dk_172 (dk_at dksX0_advance_0 14 rfl rfl)
theorem dX0_advance_15 : decode cX0_advance 15 = .ok (.astore_n 3, 1) := dk_78 (dk_at dksX0_advance_0 15 rfl rfl)
theorem dX0_advance_16 : decode cX0_advance 16 = .ok (.iconst 2, 1) := dk_5 (dk_at dksX0_advance_0 16 rfl rfl)
theorem dX0_advance_17 : decode cX0_advance 17 = .ok (.ireturn, 1) := dk_172 (dk_at dksX0_advance_0 17 rfl rfl)
theorem dX0_advance_18 : decode cX0_advance 18 = .ok (.iconst 0, 1) := dk_3 (dk_at dksX0_advance_0 18 rfl rfl)
theorem dX0_advance_19 : decode cX0_advance 19 = .ok (.ireturn, 1) := dk_172 (dk_at dksX0_advance_0 19 rfl rfl)
abbrev cX0_undo : ByteArray := method_45_code
def yX0_undo : MethodName := ⟨RX0, "undo", "(LRideDesk;[J)I"⟩
def dkwX0_undo_0 : List UInt8 := [43, 3, 42, 182, 0, 149, 133, 80, 167, 0, 6, 77, 4, 172, 3, 172]
abbrev dktX0_undo_0 : List UInt8 := dkwX0_undo_0 ++ []
theorem dksX0_undo_0 : cX0_undo.data.toList.drop 0 = dktX0_undo_0 := by decide +kernel
theorem dX0_undo_0 : decode cX0_undo 0 = .ok (.aload_n 1, 1) := dk_43 (dk_at dksX0_undo_0 0 rfl rfl)
theorem dX0_undo_1 : decode cX0_undo 1 = .ok (.iconst 0, 1) := dk_3 (dk_at dksX0_undo_0 1 rfl rfl)
theorem dX0_undo_2 : decode cX0_undo 2 = .ok (.aload_n 0, 1) := dk_42 (dk_at dksX0_undo_0 2 rfl rfl)
theorem dX0_undo_3 : decode cX0_undo 3 = .ok (.invokevirtual 149, 3) := dk_182 0 149 (dk_at dksX0_undo_0 3 rfl rfl)
theorem dX0_undo_6 : decode cX0_undo 6 = .ok (.i2l, 1) := dk_133 (dk_at dksX0_undo_0 6 rfl rfl)
theorem dX0_undo_7 : decode cX0_undo 7 = .ok (.lastore, 1) := dk_80 (dk_at dksX0_undo_0 7 rfl rfl)
theorem dX0_undo_8 : decode cX0_undo 8 = .ok (.goto 6, 3) := dk_167 0 6 (dk_at dksX0_undo_0 8 rfl rfl)
theorem dX0_undo_11 : decode cX0_undo 11 = .ok (.astore_n 2, 1) := dk_77 (dk_at dksX0_undo_0 11 rfl rfl)
theorem dX0_undo_12 : decode cX0_undo 12 = .ok (.iconst 1, 1) := dk_4 (dk_at dksX0_undo_0 12 rfl rfl)
theorem dX0_undo_13 : decode cX0_undo 13 = .ok (.ireturn, 1) := dk_172 (dk_at dksX0_undo_0 13 rfl rfl)
theorem dX0_undo_14 : decode cX0_undo 14 = .ok (.iconst 0, 1) := dk_3 (dk_at dksX0_undo_0 14 rfl rfl)
theorem dX0_undo_15 : decode cX0_undo 15 = .ok (.ireturn, 1) := dk_172 (dk_at dksX0_undo_0 15 rfl rfl)
abbrev cX0_save : ByteArray := method_46_code
def yX0_save : MethodName := ⟨RX0, "save", "(LRideDesk;I[J)I"⟩
def dkwX0_save_0 : List UInt8 := [44, 3, 42, 27, 182, 0, 152, 133, 80, 167, 0, 9, 78, 4, 172, 78, 5, 172, 3, 172]
abbrev dktX0_save_0 : List UInt8 := dkwX0_save_0 ++ []
theorem dksX0_save_0 : cX0_save.data.toList.drop 0 = dktX0_save_0 := by decide +kernel
theorem dX0_save_0 : decode cX0_save 0 = .ok (.aload_n 2, 1) := dk_44 (dk_at dksX0_save_0 0 rfl rfl)
theorem dX0_save_1 : decode cX0_save 1 = .ok (.iconst 0, 1) := dk_3 (dk_at dksX0_save_0 1 rfl rfl)
theorem dX0_save_2 : decode cX0_save 2 = .ok (.aload_n 0, 1) := dk_42 (dk_at dksX0_save_0 2 rfl rfl)
theorem dX0_save_3 : decode cX0_save 3 = .ok (.iload_n 1, 1) := dk_27 (dk_at dksX0_save_0 3 rfl rfl)
theorem dX0_save_4 : decode cX0_save 4 = .ok (.invokevirtual 152, 3) := dk_182 0 152 (dk_at dksX0_save_0 4 rfl rfl)
theorem dX0_save_7 : decode cX0_save 7 = .ok (.i2l, 1) := dk_133 (dk_at dksX0_save_0 7 rfl rfl)
theorem dX0_save_8 : decode cX0_save 8 = .ok (.lastore, 1) := dk_80 (dk_at dksX0_save_0 8 rfl rfl)
theorem dX0_save_9 : decode cX0_save 9 = .ok (.goto 9, 3) := dk_167 0 9 (dk_at dksX0_save_0 9 rfl rfl)
theorem dX0_save_12 : decode cX0_save 12 = .ok (.astore_n 3, 1) := dk_78 (dk_at dksX0_save_0 12 rfl rfl)
theorem dX0_save_13 : decode cX0_save 13 = .ok (.iconst 1, 1) := dk_4 (dk_at dksX0_save_0 13 rfl rfl)
theorem dX0_save_14 : decode cX0_save 14 = .ok (.ireturn, 1) := dk_172 (dk_at dksX0_save_0 14 rfl rfl)
theorem dX0_save_15 : decode cX0_save 15 = .ok (.astore_n 3, 1) := dk_78 (dk_at dksX0_save_0 15 rfl rfl)
theorem dX0_save_16 : decode cX0_save 16 = .ok (.iconst 2, 1) := dk_5 (dk_at dksX0_save_0 16 rfl rfl)
theorem dX0_save_17 : decode cX0_save 17 = .ok (.ireturn, 1) := dk_172 (dk_at dksX0_save_0 17 rfl rfl)
theorem dX0_save_18 : decode cX0_save 18 = .ok (.iconst 0, 1) := dk_3 (dk_at dksX0_save_0 18 rfl rfl)
theorem dX0_save_19 : decode cX0_save 19 = .ok (.ireturn, 1) := dk_172 (dk_at dksX0_save_0 19 rfl rfl)
abbrev cX0_restore : ByteArray := method_47_code
def yX0_restore : MethodName := ⟨RX0, "restore", "(LRideDesk;I[J)I"⟩
def dkwX0_restore_0 : List UInt8 := [44, 3, 42, 27, 182, 0, 155, 133, 80, 167, 0, 9, 78, 4, 172, 78, 5, 172, 3, 172]
abbrev dktX0_restore_0 : List UInt8 := dkwX0_restore_0 ++ []
theorem dksX0_restore_0 : cX0_restore.data.toList.drop 0 = dktX0_restore_0 := by decide +kernel
theorem dX0_restore_0 : decode cX0_restore 0 = .ok (.aload_n 2, 1) := dk_44 (dk_at dksX0_restore_0 0 rfl rfl)
theorem dX0_restore_1 : decode cX0_restore 1 = .ok (.iconst 0, 1) := dk_3 (dk_at dksX0_restore_0 1 rfl rfl)
theorem dX0_restore_2 : decode cX0_restore 2 = .ok (.aload_n 0, 1) := dk_42 (dk_at dksX0_restore_0 2 rfl rfl)
theorem dX0_restore_3 : decode cX0_restore 3 = .ok (.iload_n 1, 1) := dk_27 (dk_at dksX0_restore_0 3 rfl rfl)
theorem dX0_restore_4 : decode cX0_restore 4 = .ok (.invokevirtual 155, 3) := dk_182 0 155 (dk_at dksX0_restore_0 4 rfl rfl)
theorem dX0_restore_7 : decode cX0_restore 7 = .ok (.i2l, 1) := dk_133 (dk_at dksX0_restore_0 7 rfl rfl)
theorem dX0_restore_8 : decode cX0_restore 8 = .ok (.lastore, 1) := dk_80 (dk_at dksX0_restore_0 8 rfl rfl)
theorem dX0_restore_9 : decode cX0_restore 9 = .ok (.goto 9, 3) := dk_167 0 9 (dk_at dksX0_restore_0 9 rfl rfl)
theorem dX0_restore_12 : decode cX0_restore 12 = .ok (.astore_n 3, 1) := dk_78 (dk_at dksX0_restore_0 12 rfl rfl)
theorem dX0_restore_13 : decode cX0_restore 13 = .ok (.iconst 1, 1) := dk_4 (dk_at dksX0_restore_0 13 rfl rfl)
theorem dX0_restore_14 : decode cX0_restore 14 = .ok (.ireturn, 1) := dk_172 (dk_at dksX0_restore_0 14 rfl rfl)
theorem dX0_restore_15 : decode cX0_restore 15 = .ok (.astore_n 3, 1) := dk_78 (dk_at dksX0_restore_0 15 rfl rfl)
theorem dX0_restore_16 : decode cX0_restore 16 = .ok (.iconst 2, 1) := dk_5 (dk_at dksX0_restore_0 16 rfl rfl)
theorem dX0_restore_17 : decode cX0_restore 17 = .ok (.ireturn, 1) := dk_172 (dk_at dksX0_restore_0 17 rfl rfl)
theorem dX0_restore_18 : decode cX0_restore 18 = .ok (.iconst 0, 1) := dk_3 (dk_at dksX0_restore_0 18 rfl rfl)
theorem dX0_restore_19 : decode cX0_restore 19 = .ok (.ireturn, 1) := dk_172 (dk_at dksX0_restore_0 19 rfl rfl)
theorem q146 : (Jvm.Cond.initialized "RideDeskLaw") ∈ lw_all := lw_g (lw_at lw_m1 0 rfl) rfl
theorem q192 : (Jvm.Cond.classLink "RideDeskLaw" (8 : Nat) "RideDesk") ∈ lw_all := lw_g (lw_at lw_m1 46 rfl) rfl
theorem q194 : (Jvm.Cond.methodLink "RideDeskLaw" (158 : Nat) ({ cls := "RideDesk", name := "<init>", desc := "()V" } : Jvm.MethodName)) ∈ lw_all := lw_g (lw_at lw_m1 48 rfl) rfl
theorem q308 : (Jvm.Cond.methodLink "RideDeskLaw" (162 : Nat) ({ cls := "RideDesk", name := "append", desc := "(IIIII)I" } : Jvm.MethodName)) ∈ lw_all := lw_g (lw_at lw_m1 162 rfl) rfl
theorem q312 : (Jvm.Cond.methodLink "RideDeskLaw" (176 : Nat) ({ cls := "RideDesk", name := "parseError", desc := "()I" } : Jvm.MethodName)) ∈ lw_all := lw_g (lw_at lw_m1 166 rfl) rfl
theorem q316 : (Jvm.Cond.methodLink "RideDeskLaw" (180 : Nat) ({ cls := "RideDesk", name := "errorPosition", desc := "()I" } : Jvm.MethodName)) ∈ lw_all := lw_g (lw_at lw_m1 170 rfl) rfl
theorem q320 : (Jvm.Cond.methodLink "RideDeskLaw" (184 : Nat) ({ cls := "RideDesk", name := "buffered", desc := "()I" } : Jvm.MethodName)) ∈ lw_all := lw_g (lw_at lw_m1 174 rfl) rfl
theorem q324 : (Jvm.Cond.methodLink "RideDeskLaw" (188 : Nat) ({ cls := "RideDesk", name := "vans", desc := "()I" } : Jvm.MethodName)) ∈ lw_all := lw_g (lw_at lw_m1 178 rfl) rfl
theorem q338 : (Jvm.Cond.methodLink "RideDeskLaw" (192 : Nat) ({ cls := "RideDesk", name := "clock", desc := "()I" } : Jvm.MethodName)) ∈ lw_all := lw_g (lw_at lw_m1 192 rfl) rfl
theorem q342 : (Jvm.Cond.methodLink "RideDeskLaw" (240 : Nat) ({ cls := "RideDesk", name := "calls", desc := "()I" } : Jvm.MethodName)) ∈ lw_all := lw_g (lw_at lw_m1 196 rfl) rfl
theorem q346 : (Jvm.Cond.methodLink "RideDeskLaw" (274 : Nat) ({ cls := "RideDesk", name := "credits", desc := "()I" } : Jvm.MethodName)) ∈ lw_all := lw_g (lw_at lw_m1 200 rfl) rfl
theorem q350 : (Jvm.Cond.methodLink "RideDeskLaw" (278 : Nat) ({ cls := "RideDesk", name := "drivingAll", desc := "()I" } : Jvm.MethodName)) ∈ lw_all := lw_g (lw_at lw_m1 204 rfl) rfl
theorem q406 : (Jvm.Cond.methodLink "RideDeskLaw" (340 : Nat) ({ cls := "RideDesk", name := "undoable", desc := "()I" } : Jvm.MethodName)) ∈ lw_all := lw_g (lw_at lw_m2 20 rfl) rfl
theorem q423 : (Jvm.Cond.methodLink "RideDeskLaw" (167 : Nat) ({ cls := "RideDeskLaw", name := "load", desc := "(LRideDesk;I[J)I" } : Jvm.MethodName)) ∈ lw_all := lw_g (lw_at lw_m2 37 rfl) rfl
theorem q424 : (Jvm.Cond.static ({ cls := "RideDeskLaw", name := "load", desc := "(LRideDesk;I[J)I" } : Jvm.MethodName)) ∈ lw_all := lw_g (lw_at lw_m2 38 rfl) rfl
theorem q425 : (Jvm.Cond.codeWith ({ cls := "RideDeskLaw", name := "load", desc := "(LRideDesk;I[J)I" } : Jvm.MethodName) method_3_code (4 : Nat) (Option.some Jvm.ClassFile.FieldType.int) [((0 : Nat), (9 : Nat), (12 : Nat), (13 : Nat)), ((0 : Nat), (9 : Nat), (15 : Nat), (15 : Nat))]) ∈ lw_all := lw_g (lw_at lw_m2 39 rfl) rfl
theorem q426 : (Jvm.Cond.classLink "RideDeskLaw" (13 : Nat) "java/lang/IndexOutOfBoundsException") ∈ lw_all := lw_g (lw_at lw_m2 40 rfl) rfl
theorem q504 : (Jvm.Cond.classLink "RideDeskLaw" (15 : Nat) "java/lang/IllegalArgumentException") ∈ lw_all := lw_g (lw_at lw_m2 118 rfl) rfl
theorem q505 : (Jvm.Cond.methodLink "RideDeskLaw" (7 : Nat) ({ cls := "RideDesk", name := "load", desc := "(I)I" } : Jvm.MethodName)) ∈ lw_all := lw_g (lw_at lw_m2 119 rfl) rfl
theorem q1541 : (Jvm.Cond.methodLink "RideDeskLaw" (196 : Nat) ({ cls := "RideDeskLaw", name := "until", desc := "(LRideDesk;I[J)I" } : Jvm.MethodName)) ∈ lw_all := lw_g (lw_at lw_m6 195 rfl) rfl
theorem q1542 : (Jvm.Cond.static ({ cls := "RideDeskLaw", name := "until", desc := "(LRideDesk;I[J)I" } : Jvm.MethodName)) ∈ lw_all := lw_g (lw_at lw_m6 196 rfl) rfl
theorem q1543 : (Jvm.Cond.codeWith ({ cls := "RideDeskLaw", name := "until", desc := "(LRideDesk;I[J)I" } : Jvm.MethodName) method_4_code (4 : Nat) (Option.some Jvm.ClassFile.FieldType.int) [((0 : Nat), (9 : Nat), (12 : Nat), (20 : Nat)), ((0 : Nat), (9 : Nat), (15 : Nat), (13 : Nat))]) ∈ lw_all := lw_g (lw_at lw_m6 197 rfl) rfl
theorem q1544 : (Jvm.Cond.classLink "RideDeskLaw" (20 : Nat) "java/lang/IllegalStateException") ∈ lw_all := lw_g (lw_at lw_m6 198 rfl) rfl
theorem q1545 : (Jvm.Cond.methodLink "RideDeskLaw" (17 : Nat) ({ cls := "RideDesk", name := "until", desc := "(I)I" } : Jvm.MethodName)) ∈ lw_all := lw_g (lw_at lw_m6 199 rfl) rfl
theorem q1572 : (Jvm.Cond.methodLink "RideDeskLaw" (199 : Nat) ({ cls := "RideDeskLaw", name := "minutesBetween", desc := "(LRideDesk;IIII[J)I" } : Jvm.MethodName)) ∈ lw_all := lw_g (lw_at lw_m6 226 rfl) rfl
theorem q1573 : (Jvm.Cond.static ({ cls := "RideDeskLaw", name := "minutesBetween", desc := "(LRideDesk;IIII[J)I" } : Jvm.MethodName)) ∈ lw_all := lw_g (lw_at lw_m6 227 rfl) rfl
theorem q1574 : (Jvm.Cond.codeWith ({ cls := "RideDeskLaw", name := "minutesBetween", desc := "(LRideDesk;IIII[J)I" } : Jvm.MethodName) method_5_code (7 : Nat) (Option.some Jvm.ClassFile.FieldType.int) [((0 : Nat), (14 : Nat), (17 : Nat), (20 : Nat)), ((0 : Nat), (14 : Nat), (21 : Nat), (15 : Nat))]) ∈ lw_all := lw_g (lw_at lw_m6 228 rfl) rfl
theorem q1575 : (Jvm.Cond.methodLink "RideDeskLaw" (22 : Nat) ({ cls := "RideDesk", name := "minutesBetween", desc := "(IIII)I" } : Jvm.MethodName)) ∈ lw_all := lw_g (lw_at lw_m6 229 rfl) rfl
theorem q1587 : (Jvm.Cond.methodLink "RideDeskLaw" (203 : Nat) ({ cls := "RideDeskLaw", name := "stops", desc := "(LRideDesk;I[J)I" } : Jvm.MethodName)) ∈ lw_all := lw_g (lw_at lw_m7 1 rfl) rfl
theorem q1588 : (Jvm.Cond.static ({ cls := "RideDeskLaw", name := "stops", desc := "(LRideDesk;I[J)I" } : Jvm.MethodName)) ∈ lw_all := lw_g (lw_at lw_m7 2 rfl) rfl
theorem q1589 : (Jvm.Cond.codeWith ({ cls := "RideDeskLaw", name := "stops", desc := "(LRideDesk;I[J)I" } : Jvm.MethodName) method_6_code (4 : Nat) (Option.some Jvm.ClassFile.FieldType.int) [((0 : Nat), (9 : Nat), (12 : Nat), (20 : Nat)), ((0 : Nat), (9 : Nat), (15 : Nat), (13 : Nat))]) ∈ lw_all := lw_g (lw_at lw_m7 3 rfl) rfl
theorem q1590 : (Jvm.Cond.methodLink "RideDeskLaw" (26 : Nat) ({ cls := "RideDesk", name := "stops", desc := "(I)I" } : Jvm.MethodName)) ∈ lw_all := lw_g (lw_at lw_m7 4 rfl) rfl
theorem q1594 : (Jvm.Cond.methodLink "RideDeskLaw" (206 : Nat) ({ cls := "RideDeskLaw", name := "fixedStops", desc := "(LRideDesk;I[J)I" } : Jvm.MethodName)) ∈ lw_all := lw_g (lw_at lw_m7 8 rfl) rfl
theorem q1595 : (Jvm.Cond.static ({ cls := "RideDeskLaw", name := "fixedStops", desc := "(LRideDesk;I[J)I" } : Jvm.MethodName)) ∈ lw_all := lw_g (lw_at lw_m7 9 rfl) rfl
theorem q1596 : (Jvm.Cond.codeWith ({ cls := "RideDeskLaw", name := "fixedStops", desc := "(LRideDesk;I[J)I" } : Jvm.MethodName) method_7_code (4 : Nat) (Option.some Jvm.ClassFile.FieldType.int) [((0 : Nat), (9 : Nat), (12 : Nat), (20 : Nat)), ((0 : Nat), (9 : Nat), (15 : Nat), (13 : Nat))]) ∈ lw_all := lw_g (lw_at lw_m7 10 rfl) rfl
theorem q1597 : (Jvm.Cond.methodLink "RideDeskLaw" (29 : Nat) ({ cls := "RideDesk", name := "fixedStops", desc := "(I)I" } : Jvm.MethodName)) ∈ lw_all := lw_g (lw_at lw_m7 11 rfl) rfl
theorem q1601 : (Jvm.Cond.methodLink "RideDeskLaw" (209 : Nat) ({ cls := "RideDeskLaw", name := "callAt", desc := "(LRideDesk;II[J)I" } : Jvm.MethodName)) ∈ lw_all := lw_g (lw_at lw_m7 15 rfl) rfl
theorem q1602 : (Jvm.Cond.static ({ cls := "RideDeskLaw", name := "callAt", desc := "(LRideDesk;II[J)I" } : Jvm.MethodName)) ∈ lw_all := lw_g (lw_at lw_m7 16 rfl) rfl
theorem q1603 : (Jvm.Cond.codeWith ({ cls := "RideDeskLaw", name := "callAt", desc := "(LRideDesk;II[J)I" } : Jvm.MethodName) method_8_code (5 : Nat) (Option.some Jvm.ClassFile.FieldType.int) [((0 : Nat), (10 : Nat), (13 : Nat), (20 : Nat)), ((0 : Nat), (10 : Nat), (17 : Nat), (13 : Nat))]) ∈ lw_all := lw_g (lw_at lw_m7 17 rfl) rfl
theorem q1604 : (Jvm.Cond.methodLink "RideDeskLaw" (32 : Nat) ({ cls := "RideDesk", name := "callAt", desc := "(II)I" } : Jvm.MethodName)) ∈ lw_all := lw_g (lw_at lw_m7 18 rfl) rfl
theorem q1612 : (Jvm.Cond.methodLink "RideDeskLaw" (213 : Nat) ({ cls := "RideDeskLaw", name := "isPickup", desc := "(LRideDesk;II[J)I" } : Jvm.MethodName)) ∈ lw_all := lw_g (lw_at lw_m7 26 rfl) rfl
theorem q1613 : (Jvm.Cond.static ({ cls := "RideDeskLaw", name := "isPickup", desc := "(LRideDesk;II[J)I" } : Jvm.MethodName)) ∈ lw_all := lw_g (lw_at lw_m7 27 rfl) rfl
theorem q1614 : (Jvm.Cond.codeWith ({ cls := "RideDeskLaw", name := "isPickup", desc := "(LRideDesk;II[J)I" } : Jvm.MethodName) method_9_code (5 : Nat) (Option.some Jvm.ClassFile.FieldType.int) [((0 : Nat), (17 : Nat), (20 : Nat), (20 : Nat)), ((0 : Nat), (17 : Nat), (24 : Nat), (13 : Nat))]) ∈ lw_all := lw_g (lw_at lw_m7 28 rfl) rfl
theorem q1615 : (Jvm.Cond.methodLink "RideDeskLaw" (36 : Nat) ({ cls := "RideDesk", name := "isPickup", desc := "(II)Z" } : Jvm.MethodName)) ∈ lw_all := lw_g (lw_at lw_m7 29 rfl) rfl
theorem q1619 : (Jvm.Cond.methodLink "RideDeskLaw" (216 : Nat) ({ cls := "RideDeskLaw", name := "departureOf", desc := "(LRideDesk;II[J)I" } : Jvm.MethodName)) ∈ lw_all := lw_g (lw_at lw_m7 33 rfl) rfl
theorem q1620 : (Jvm.Cond.static ({ cls := "RideDeskLaw", name := "departureOf", desc := "(LRideDesk;II[J)I" } : Jvm.MethodName)) ∈ lw_all := lw_g (lw_at lw_m7 34 rfl) rfl
theorem q1621 : (Jvm.Cond.codeWith ({ cls := "RideDeskLaw", name := "departureOf", desc := "(LRideDesk;II[J)I" } : Jvm.MethodName) method_10_code (5 : Nat) (Option.some Jvm.ClassFile.FieldType.int) [((0 : Nat), (10 : Nat), (13 : Nat), (20 : Nat)), ((0 : Nat), (10 : Nat), (17 : Nat), (13 : Nat))]) ∈ lw_all := lw_g (lw_at lw_m7 35 rfl) rfl
theorem q1622 : (Jvm.Cond.methodLink "RideDeskLaw" (40 : Nat) ({ cls := "RideDesk", name := "departureOf", desc := "(II)I" } : Jvm.MethodName)) ∈ lw_all := lw_g (lw_at lw_m7 36 rfl) rfl
theorem q1626 : (Jvm.Cond.methodLink "RideDeskLaw" (219 : Nat) ({ cls := "RideDeskLaw", name := "beginOf", desc := "(LRideDesk;II[J)I" } : Jvm.MethodName)) ∈ lw_all := lw_g (lw_at lw_m7 40 rfl) rfl
theorem q1627 : (Jvm.Cond.static ({ cls := "RideDeskLaw", name := "beginOf", desc := "(LRideDesk;II[J)I" } : Jvm.MethodName)) ∈ lw_all := lw_g (lw_at lw_m7 41 rfl) rfl
theorem q1628 : (Jvm.Cond.codeWith ({ cls := "RideDeskLaw", name := "beginOf", desc := "(LRideDesk;II[J)I" } : Jvm.MethodName) method_11_code (5 : Nat) (Option.some Jvm.ClassFile.FieldType.int) [((0 : Nat), (10 : Nat), (13 : Nat), (20 : Nat)), ((0 : Nat), (10 : Nat), (17 : Nat), (13 : Nat))]) ∈ lw_all := lw_g (lw_at lw_m7 42 rfl) rfl
theorem q1629 : (Jvm.Cond.methodLink "RideDeskLaw" (43 : Nat) ({ cls := "RideDesk", name := "beginOf", desc := "(II)I" } : Jvm.MethodName)) ∈ lw_all := lw_g (lw_at lw_m7 43 rfl) rfl
theorem q1633 : (Jvm.Cond.methodLink "RideDeskLaw" (222 : Nat) ({ cls := "RideDeskLaw", name := "freeSeats", desc := "(LRideDesk;II[J)I" } : Jvm.MethodName)) ∈ lw_all := lw_g (lw_at lw_m7 47 rfl) rfl
theorem q1634 : (Jvm.Cond.static ({ cls := "RideDeskLaw", name := "freeSeats", desc := "(LRideDesk;II[J)I" } : Jvm.MethodName)) ∈ lw_all := lw_g (lw_at lw_m7 48 rfl) rfl
theorem q1635 : (Jvm.Cond.codeWith ({ cls := "RideDeskLaw", name := "freeSeats", desc := "(LRideDesk;II[J)I" } : Jvm.MethodName) method_12_code (5 : Nat) (Option.some Jvm.ClassFile.FieldType.int) [((0 : Nat), (10 : Nat), (13 : Nat), (20 : Nat)), ((0 : Nat), (10 : Nat), (17 : Nat), (13 : Nat))]) ∈ lw_all := lw_g (lw_at lw_m7 49 rfl) rfl
theorem q1636 : (Jvm.Cond.methodLink "RideDeskLaw" (46 : Nat) ({ cls := "RideDesk", name := "freeSeats", desc := "(II)I" } : Jvm.MethodName)) ∈ lw_all := lw_g (lw_at lw_m7 50 rfl) rfl
theorem q1644 : (Jvm.Cond.methodLink "RideDeskLaw" (225 : Nat) ({ cls := "RideDeskLaw", name := "freeWheels", desc := "(LRideDesk;II[J)I" } : Jvm.MethodName)) ∈ lw_all := lw_g (lw_at lw_m7 58 rfl) rfl
theorem q1645 : (Jvm.Cond.static ({ cls := "RideDeskLaw", name := "freeWheels", desc := "(LRideDesk;II[J)I" } : Jvm.MethodName)) ∈ lw_all := lw_g (lw_at lw_m7 59 rfl) rfl
theorem q1646 : (Jvm.Cond.codeWith ({ cls := "RideDeskLaw", name := "freeWheels", desc := "(LRideDesk;II[J)I" } : Jvm.MethodName) method_13_code (5 : Nat) (Option.some Jvm.ClassFile.FieldType.int) [((0 : Nat), (10 : Nat), (13 : Nat), (20 : Nat)), ((0 : Nat), (10 : Nat), (17 : Nat), (13 : Nat))]) ∈ lw_all := lw_g (lw_at lw_m7 60 rfl) rfl
theorem q1647 : (Jvm.Cond.methodLink "RideDeskLaw" (49 : Nat) ({ cls := "RideDesk", name := "freeWheels", desc := "(II)I" } : Jvm.MethodName)) ∈ lw_all := lw_g (lw_at lw_m7 61 rfl) rfl
theorem q1651 : (Jvm.Cond.methodLink "RideDeskLaw" (228 : Nat) ({ cls := "RideDeskLaw", name := "slack", desc := "(LRideDesk;II[J)I" } : Jvm.MethodName)) ∈ lw_all := lw_g (lw_at lw_m7 65 rfl) rfl
theorem q1652 : (Jvm.Cond.static ({ cls := "RideDeskLaw", name := "slack", desc := "(LRideDesk;II[J)I" } : Jvm.MethodName)) ∈ lw_all := lw_g (lw_at lw_m7 66 rfl) rfl
theorem q1653 : (Jvm.Cond.codeWith ({ cls := "RideDeskLaw", name := "slack", desc := "(LRideDesk;II[J)I" } : Jvm.MethodName) method_14_code (5 : Nat) (Option.some Jvm.ClassFile.FieldType.int) [((0 : Nat), (10 : Nat), (13 : Nat), (20 : Nat)), ((0 : Nat), (10 : Nat), (17 : Nat), (13 : Nat))]) ∈ lw_all := lw_g (lw_at lw_m7 67 rfl) rfl
theorem q1654 : (Jvm.Cond.methodLink "RideDeskLaw" (52 : Nat) ({ cls := "RideDesk", name := "slack", desc := "(II)I" } : Jvm.MethodName)) ∈ lw_all := lw_g (lw_at lw_m7 68 rfl) rfl
theorem q1662 : (Jvm.Cond.methodLink "RideDeskLaw" (231 : Nat) ({ cls := "RideDeskLaw", name := "endOf", desc := "(LRideDesk;I[J)I" } : Jvm.MethodName)) ∈ lw_all := lw_g (lw_at lw_m7 76 rfl) rfl
theorem q1663 : (Jvm.Cond.static ({ cls := "RideDeskLaw", name := "endOf", desc := "(LRideDesk;I[J)I" } : Jvm.MethodName)) ∈ lw_all := lw_g (lw_at lw_m7 77 rfl) rfl
theorem q1664 : (Jvm.Cond.codeWith ({ cls := "RideDeskLaw", name := "endOf", desc := "(LRideDesk;I[J)I" } : Jvm.MethodName) method_15_code (4 : Nat) (Option.some Jvm.ClassFile.FieldType.int) [((0 : Nat), (9 : Nat), (12 : Nat), (20 : Nat)), ((0 : Nat), (9 : Nat), (15 : Nat), (13 : Nat))]) ∈ lw_all := lw_g (lw_at lw_m7 78 rfl) rfl
theorem q1665 : (Jvm.Cond.methodLink "RideDeskLaw" (55 : Nat) ({ cls := "RideDesk", name := "endOf", desc := "(I)I" } : Jvm.MethodName)) ∈ lw_all := lw_g (lw_at lw_m7 79 rfl) rfl
theorem q1669 : (Jvm.Cond.methodLink "RideDeskLaw" (234 : Nat) ({ cls := "RideDeskLaw", name := "driving", desc := "(LRideDesk;I[J)I" } : Jvm.MethodName)) ∈ lw_all := lw_g (lw_at lw_m7 83 rfl) rfl
theorem q1670 : (Jvm.Cond.static ({ cls := "RideDeskLaw", name := "driving", desc := "(LRideDesk;I[J)I" } : Jvm.MethodName)) ∈ lw_all := lw_g (lw_at lw_m7 84 rfl) rfl
theorem q1671 : (Jvm.Cond.codeWith ({ cls := "RideDeskLaw", name := "driving", desc := "(LRideDesk;I[J)I" } : Jvm.MethodName) method_16_code (4 : Nat) (Option.some Jvm.ClassFile.FieldType.int) [((0 : Nat), (9 : Nat), (12 : Nat), (20 : Nat)), ((0 : Nat), (9 : Nat), (15 : Nat), (13 : Nat))]) ∈ lw_all := lw_g (lw_at lw_m7 85 rfl) rfl
theorem q1672 : (Jvm.Cond.methodLink "RideDeskLaw" (58 : Nat) ({ cls := "RideDesk", name := "driving", desc := "(I)I" } : Jvm.MethodName)) ∈ lw_all := lw_g (lw_at lw_m7 86 rfl) rfl
theorem q1676 : (Jvm.Cond.methodLink "RideDeskLaw" (237 : Nat) ({ cls := "RideDeskLaw", name := "busiest", desc := "(LRideDesk;I[J)I" } : Jvm.MethodName)) ∈ lw_all := lw_g (lw_at lw_m7 90 rfl) rfl
theorem q1677 : (Jvm.Cond.static ({ cls := "RideDeskLaw", name := "busiest", desc := "(LRideDesk;I[J)I" } : Jvm.MethodName)) ∈ lw_all := lw_g (lw_at lw_m7 91 rfl) rfl
theorem q1678 : (Jvm.Cond.codeWith ({ cls := "RideDeskLaw", name := "busiest", desc := "(LRideDesk;I[J)I" } : Jvm.MethodName) method_17_code (4 : Nat) (Option.some Jvm.ClassFile.FieldType.int) [((0 : Nat), (9 : Nat), (12 : Nat), (20 : Nat)), ((0 : Nat), (9 : Nat), (15 : Nat), (13 : Nat))]) ∈ lw_all := lw_g (lw_at lw_m7 92 rfl) rfl
theorem q1679 : (Jvm.Cond.methodLink "RideDeskLaw" (61 : Nat) ({ cls := "RideDesk", name := "busiest", desc := "(I)I" } : Jvm.MethodName)) ∈ lw_all := lw_g (lw_at lw_m7 93 rfl) rfl
theorem q1687 : (Jvm.Cond.methodLink "RideDeskLaw" (244 : Nat) ({ cls := "RideDeskLaw", name := "stateOf", desc := "(LRideDesk;I[J)I" } : Jvm.MethodName)) ∈ lw_all := lw_g (lw_at lw_m7 101 rfl) rfl
theorem q1688 : (Jvm.Cond.static ({ cls := "RideDeskLaw", name := "stateOf", desc := "(LRideDesk;I[J)I" } : Jvm.MethodName)) ∈ lw_all := lw_g (lw_at lw_m7 102 rfl) rfl
theorem q1689 : (Jvm.Cond.codeWith ({ cls := "RideDeskLaw", name := "stateOf", desc := "(LRideDesk;I[J)I" } : Jvm.MethodName) method_18_code (4 : Nat) (Option.some Jvm.ClassFile.FieldType.int) [((0 : Nat), (9 : Nat), (12 : Nat), (20 : Nat)), ((0 : Nat), (9 : Nat), (15 : Nat), (13 : Nat))]) ∈ lw_all := lw_g (lw_at lw_m7 103 rfl) rfl
theorem q1690 : (Jvm.Cond.methodLink "RideDeskLaw" (64 : Nat) ({ cls := "RideDesk", name := "stateOf", desc := "(I)I" } : Jvm.MethodName)) ∈ lw_all := lw_g (lw_at lw_m7 104 rfl) rfl
theorem q1698 : (Jvm.Cond.methodLink "RideDeskLaw" (247 : Nat) ({ cls := "RideDeskLaw", name := "vanOf", desc := "(LRideDesk;I[J)I" } : Jvm.MethodName)) ∈ lw_all := lw_g (lw_at lw_m7 112 rfl) rfl
theorem q1699 : (Jvm.Cond.static ({ cls := "RideDeskLaw", name := "vanOf", desc := "(LRideDesk;I[J)I" } : Jvm.MethodName)) ∈ lw_all := lw_g (lw_at lw_m7 113 rfl) rfl
theorem q1700 : (Jvm.Cond.codeWith ({ cls := "RideDeskLaw", name := "vanOf", desc := "(LRideDesk;I[J)I" } : Jvm.MethodName) method_19_code (4 : Nat) (Option.some Jvm.ClassFile.FieldType.int) [((0 : Nat), (9 : Nat), (12 : Nat), (20 : Nat)), ((0 : Nat), (9 : Nat), (15 : Nat), (13 : Nat))]) ∈ lw_all := lw_g (lw_at lw_m7 114 rfl) rfl
theorem q1701 : (Jvm.Cond.methodLink "RideDeskLaw" (67 : Nat) ({ cls := "RideDesk", name := "vanOf", desc := "(I)I" } : Jvm.MethodName)) ∈ lw_all := lw_g (lw_at lw_m7 115 rfl) rfl
theorem q1709 : (Jvm.Cond.methodLink "RideDeskLaw" (250 : Nat) ({ cls := "RideDeskLaw", name := "pickupTime", desc := "(LRideDesk;I[J)I" } : Jvm.MethodName)) ∈ lw_all := lw_g (lw_at lw_m7 123 rfl) rfl
theorem q1710 : (Jvm.Cond.static ({ cls := "RideDeskLaw", name := "pickupTime", desc := "(LRideDesk;I[J)I" } : Jvm.MethodName)) ∈ lw_all := lw_g (lw_at lw_m7 124 rfl) rfl
theorem q1711 : (Jvm.Cond.codeWith ({ cls := "RideDeskLaw", name := "pickupTime", desc := "(LRideDesk;I[J)I" } : Jvm.MethodName) method_20_code (4 : Nat) (Option.some Jvm.ClassFile.FieldType.int) [((0 : Nat), (9 : Nat), (12 : Nat), (20 : Nat)), ((0 : Nat), (9 : Nat), (15 : Nat), (13 : Nat))]) ∈ lw_all := lw_g (lw_at lw_m7 125 rfl) rfl
theorem q1712 : (Jvm.Cond.methodLink "RideDeskLaw" (70 : Nat) ({ cls := "RideDesk", name := "pickupTime", desc := "(I)I" } : Jvm.MethodName)) ∈ lw_all := lw_g (lw_at lw_m7 126 rfl) rfl
theorem q1720 : (Jvm.Cond.methodLink "RideDeskLaw" (253 : Nat) ({ cls := "RideDeskLaw", name := "dropTime", desc := "(LRideDesk;I[J)I" } : Jvm.MethodName)) ∈ lw_all := lw_g (lw_at lw_m7 134 rfl) rfl
theorem q1721 : (Jvm.Cond.static ({ cls := "RideDeskLaw", name := "dropTime", desc := "(LRideDesk;I[J)I" } : Jvm.MethodName)) ∈ lw_all := lw_g (lw_at lw_m7 135 rfl) rfl
theorem q1722 : (Jvm.Cond.codeWith ({ cls := "RideDeskLaw", name := "dropTime", desc := "(LRideDesk;I[J)I" } : Jvm.MethodName) method_21_code (4 : Nat) (Option.some Jvm.ClassFile.FieldType.int) [((0 : Nat), (9 : Nat), (12 : Nat), (20 : Nat)), ((0 : Nat), (9 : Nat), (15 : Nat), (13 : Nat))]) ∈ lw_all := lw_g (lw_at lw_m7 136 rfl) rfl
theorem q1723 : (Jvm.Cond.methodLink "RideDeskLaw" (73 : Nat) ({ cls := "RideDesk", name := "dropTime", desc := "(I)I" } : Jvm.MethodName)) ∈ lw_all := lw_g (lw_at lw_m7 137 rfl) rfl
theorem q1727 : (Jvm.Cond.methodLink "RideDeskLaw" (256 : Nat) ({ cls := "RideDeskLaw", name := "rideOf", desc := "(LRideDesk;I[J)I" } : Jvm.MethodName)) ∈ lw_all := lw_g (lw_at lw_m7 141 rfl) rfl
theorem q1728 : (Jvm.Cond.static ({ cls := "RideDeskLaw", name := "rideOf", desc := "(LRideDesk;I[J)I" } : Jvm.MethodName)) ∈ lw_all := lw_g (lw_at lw_m7 142 rfl) rfl
theorem q1729 : (Jvm.Cond.codeWith ({ cls := "RideDeskLaw", name := "rideOf", desc := "(LRideDesk;I[J)I" } : Jvm.MethodName) method_22_code (4 : Nat) (Option.some Jvm.ClassFile.FieldType.int) [((0 : Nat), (9 : Nat), (12 : Nat), (20 : Nat)), ((0 : Nat), (9 : Nat), (15 : Nat), (13 : Nat))]) ∈ lw_all := lw_g (lw_at lw_m7 143 rfl) rfl
theorem q1730 : (Jvm.Cond.methodLink "RideDeskLaw" (76 : Nat) ({ cls := "RideDesk", name := "rideOf", desc := "(I)I" } : Jvm.MethodName)) ∈ lw_all := lw_g (lw_at lw_m7 144 rfl) rfl
theorem q1738 : (Jvm.Cond.methodLink "RideDeskLaw" (259 : Nat) ({ cls := "RideDeskLaw", name := "rideLimit", desc := "(LRideDesk;I[J)I" } : Jvm.MethodName)) ∈ lw_all := lw_g (lw_at lw_m7 152 rfl) rfl
theorem q1739 : (Jvm.Cond.static ({ cls := "RideDeskLaw", name := "rideLimit", desc := "(LRideDesk;I[J)I" } : Jvm.MethodName)) ∈ lw_all := lw_g (lw_at lw_m7 153 rfl) rfl
theorem q1740 : (Jvm.Cond.codeWith ({ cls := "RideDeskLaw", name := "rideLimit", desc := "(LRideDesk;I[J)I" } : Jvm.MethodName) method_23_code (4 : Nat) (Option.some Jvm.ClassFile.FieldType.int) [((0 : Nat), (9 : Nat), (12 : Nat), (20 : Nat)), ((0 : Nat), (9 : Nat), (15 : Nat), (13 : Nat))]) ∈ lw_all := lw_g (lw_at lw_m7 154 rfl) rfl
theorem q1741 : (Jvm.Cond.methodLink "RideDeskLaw" (79 : Nat) ({ cls := "RideDesk", name := "rideLimit", desc := "(I)I" } : Jvm.MethodName)) ∈ lw_all := lw_g (lw_at lw_m7 155 rfl) rfl
theorem q1745 : (Jvm.Cond.methodLink "RideDeskLaw" (262 : Nat) ({ cls := "RideDeskLaw", name := "readyOf", desc := "(LRideDesk;I[J)I" } : Jvm.MethodName)) ∈ lw_all := lw_g (lw_at lw_m7 159 rfl) rfl
theorem q1746 : (Jvm.Cond.static ({ cls := "RideDeskLaw", name := "readyOf", desc := "(LRideDesk;I[J)I" } : Jvm.MethodName)) ∈ lw_all := lw_g (lw_at lw_m7 160 rfl) rfl
theorem q1747 : (Jvm.Cond.codeWith ({ cls := "RideDeskLaw", name := "readyOf", desc := "(LRideDesk;I[J)I" } : Jvm.MethodName) method_24_code (4 : Nat) (Option.some Jvm.ClassFile.FieldType.int) [((0 : Nat), (9 : Nat), (12 : Nat), (20 : Nat)), ((0 : Nat), (9 : Nat), (15 : Nat), (13 : Nat))]) ∈ lw_all := lw_g (lw_at lw_m7 161 rfl) rfl
theorem q1748 : (Jvm.Cond.methodLink "RideDeskLaw" (82 : Nat) ({ cls := "RideDesk", name := "readyOf", desc := "(I)I" } : Jvm.MethodName)) ∈ lw_all := lw_g (lw_at lw_m7 162 rfl) rfl
theorem q1752 : (Jvm.Cond.methodLink "RideDeskLaw" (265 : Nat) ({ cls := "RideDeskLaw", name := "promiseOf", desc := "(LRideDesk;I[J)I" } : Jvm.MethodName)) ∈ lw_all := lw_g (lw_at lw_m7 166 rfl) rfl
theorem q1753 : (Jvm.Cond.static ({ cls := "RideDeskLaw", name := "promiseOf", desc := "(LRideDesk;I[J)I" } : Jvm.MethodName)) ∈ lw_all := lw_g (lw_at lw_m7 167 rfl) rfl
theorem q1754 : (Jvm.Cond.codeWith ({ cls := "RideDeskLaw", name := "promiseOf", desc := "(LRideDesk;I[J)I" } : Jvm.MethodName) method_25_code (4 : Nat) (Option.some Jvm.ClassFile.FieldType.int) [((0 : Nat), (9 : Nat), (12 : Nat), (20 : Nat)), ((0 : Nat), (9 : Nat), (15 : Nat), (13 : Nat))]) ∈ lw_all := lw_g (lw_at lw_m7 168 rfl) rfl
theorem q1755 : (Jvm.Cond.methodLink "RideDeskLaw" (85 : Nat) ({ cls := "RideDesk", name := "promiseOf", desc := "(I)I" } : Jvm.MethodName)) ∈ lw_all := lw_g (lw_at lw_m7 169 rfl) rfl
theorem q1759 : (Jvm.Cond.methodLink "RideDeskLaw" (268 : Nat) ({ cls := "RideDeskLaw", name := "creditOf", desc := "(LRideDesk;I[J)I" } : Jvm.MethodName)) ∈ lw_all := lw_g (lw_at lw_m7 173 rfl) rfl
theorem q1760 : (Jvm.Cond.static ({ cls := "RideDeskLaw", name := "creditOf", desc := "(LRideDesk;I[J)I" } : Jvm.MethodName)) ∈ lw_all := lw_g (lw_at lw_m7 174 rfl) rfl
theorem q1761 : (Jvm.Cond.codeWith ({ cls := "RideDeskLaw", name := "creditOf", desc := "(LRideDesk;I[J)I" } : Jvm.MethodName) method_26_code (4 : Nat) (Option.some Jvm.ClassFile.FieldType.int) [((0 : Nat), (9 : Nat), (12 : Nat), (20 : Nat)), ((0 : Nat), (9 : Nat), (15 : Nat), (13 : Nat))]) ∈ lw_all := lw_g (lw_at lw_m7 175 rfl) rfl
theorem q1762 : (Jvm.Cond.methodLink "RideDeskLaw" (88 : Nat) ({ cls := "RideDesk", name := "creditOf", desc := "(I)I" } : Jvm.MethodName)) ∈ lw_all := lw_g (lw_at lw_m7 176 rfl) rfl
theorem q1766 : (Jvm.Cond.methodLink "RideDeskLaw" (271 : Nat) ({ cls := "RideDeskLaw", name := "callsIn", desc := "(LRideDesk;I[J)I" } : Jvm.MethodName)) ∈ lw_all := lw_g (lw_at lw_m7 180 rfl) rfl
theorem q1767 : (Jvm.Cond.static ({ cls := "RideDeskLaw", name := "callsIn", desc := "(LRideDesk;I[J)I" } : Jvm.MethodName)) ∈ lw_all := lw_g (lw_at lw_m7 181 rfl) rfl
theorem q1768 : (Jvm.Cond.codeWith ({ cls := "RideDeskLaw", name := "callsIn", desc := "(LRideDesk;I[J)I" } : Jvm.MethodName) method_27_code (4 : Nat) (Option.some Jvm.ClassFile.FieldType.int) [((0 : Nat), (9 : Nat), (12 : Nat), (20 : Nat)), ((0 : Nat), (9 : Nat), (15 : Nat), (15 : Nat))]) ∈ lw_all := lw_g (lw_at lw_m7 182 rfl) rfl
theorem q1769 : (Jvm.Cond.methodLink "RideDeskLaw" (91 : Nat) ({ cls := "RideDesk", name := "callsIn", desc := "(I)I" } : Jvm.MethodName)) ∈ lw_all := lw_g (lw_at lw_m7 183 rfl) rfl
theorem q1773 : (Jvm.Cond.methodLink "RideDeskLaw" (282 : Nat) ({ cls := "RideDeskLaw", name := "meanDetour", desc := "(LRideDesk;[D)I" } : Jvm.MethodName)) ∈ lw_all := lw_g (lw_at lw_m7 187 rfl) rfl
theorem q1774 : (Jvm.Cond.static ({ cls := "RideDeskLaw", name := "meanDetour", desc := "(LRideDesk;[D)I" } : Jvm.MethodName)) ∈ lw_all := lw_g (lw_at lw_m7 188 rfl) rfl
theorem q1775 : (Jvm.Cond.codeWith ({ cls := "RideDeskLaw", name := "meanDetour", desc := "(LRideDesk;[D)I" } : Jvm.MethodName) method_28_code (3 : Nat) (Option.some Jvm.ClassFile.FieldType.int) [((0 : Nat), (8 : Nat), (11 : Nat), (20 : Nat))]) ∈ lw_all := lw_g (lw_at lw_m7 189 rfl) rfl
theorem q1776 : (Jvm.Cond.methodLink "RideDeskLaw" (94 : Nat) ({ cls := "RideDesk", name := "meanDetour", desc := "()F" } : Jvm.MethodName)) ∈ lw_all := lw_g (lw_at lw_m7 190 rfl) rfl
theorem q1780 : (Jvm.Cond.methodLink "RideDeskLaw" (286 : Nat) ({ cls := "RideDeskLaw", name := "occupancy", desc := "(LRideDesk;I[D)I" } : Jvm.MethodName)) ∈ lw_all := lw_g (lw_at lw_m7 194 rfl) rfl
theorem q1781 : (Jvm.Cond.static ({ cls := "RideDeskLaw", name := "occupancy", desc := "(LRideDesk;I[D)I" } : Jvm.MethodName)) ∈ lw_all := lw_g (lw_at lw_m7 195 rfl) rfl
theorem q1782 : (Jvm.Cond.codeWith ({ cls := "RideDeskLaw", name := "occupancy", desc := "(LRideDesk;I[D)I" } : Jvm.MethodName) method_29_code (4 : Nat) (Option.some Jvm.ClassFile.FieldType.int) [((0 : Nat), (9 : Nat), (12 : Nat), (20 : Nat)), ((0 : Nat), (9 : Nat), (15 : Nat), (13 : Nat))]) ∈ lw_all := lw_g (lw_at lw_m7 196 rfl) rfl
theorem q1783 : (Jvm.Cond.methodLink "RideDeskLaw" (98 : Nat) ({ cls := "RideDesk", name := "occupancy", desc := "(I)F" } : Jvm.MethodName)) ∈ lw_all := lw_g (lw_at lw_m7 197 rfl) rfl
theorem q1843 : (Jvm.Cond.methodLink "RideDeskLaw" (290 : Nat) ({ cls := "RideDeskLaw", name := "offer", desc := "(LRideDesk;IIIIII[J)I" } : Jvm.MethodName)) ∈ lw_all := lw_g (lw_at lw_m8 17 rfl) rfl
theorem q1844 : (Jvm.Cond.static ({ cls := "RideDeskLaw", name := "offer", desc := "(LRideDesk;IIIIII[J)I" } : Jvm.MethodName)) ∈ lw_all := lw_g (lw_at lw_m8 18 rfl) rfl
theorem q1845 : (Jvm.Cond.codeWith ({ cls := "RideDeskLaw", name := "offer", desc := "(LRideDesk;IIIIII[J)I" } : Jvm.MethodName) method_30_code (9 : Nat) (Option.some Jvm.ClassFile.FieldType.int) [((0 : Nat), (18 : Nat), (21 : Nat), (20 : Nat)), ((0 : Nat), (18 : Nat), (25 : Nat), (15 : Nat))]) ∈ lw_all := lw_g (lw_at lw_m8 19 rfl) rfl
theorem q1846 : (Jvm.Cond.methodLink "RideDeskLaw" (102 : Nat) ({ cls := "RideDesk", name := "offer", desc := "(IIIIII)I" } : Jvm.MethodName)) ∈ lw_all := lw_g (lw_at lw_m8 20 rfl) rfl
theorem q1874 : (Jvm.Cond.methodLink "RideDeskLaw" (294 : Nat) ({ cls := "RideDeskLaw", name := "offeredVan", desc := "(LRideDesk;IIIIII[J)I" } : Jvm.MethodName)) ∈ lw_all := lw_g (lw_at lw_m8 48 rfl) rfl
theorem q1875 : (Jvm.Cond.static ({ cls := "RideDeskLaw", name := "offeredVan", desc := "(LRideDesk;IIIIII[J)I" } : Jvm.MethodName)) ∈ lw_all := lw_g (lw_at lw_m8 49 rfl) rfl
theorem q1876 : (Jvm.Cond.codeWith ({ cls := "RideDeskLaw", name := "offeredVan", desc := "(LRideDesk;IIIIII[J)I" } : Jvm.MethodName) method_31_code (9 : Nat) (Option.some Jvm.ClassFile.FieldType.int) [((0 : Nat), (18 : Nat), (21 : Nat), (20 : Nat)), ((0 : Nat), (18 : Nat), (25 : Nat), (15 : Nat))]) ∈ lw_all := lw_g (lw_at lw_m8 50 rfl) rfl
theorem q1877 : (Jvm.Cond.methodLink "RideDeskLaw" (106 : Nat) ({ cls := "RideDesk", name := "offeredVan", desc := "(IIIIII)I" } : Jvm.MethodName)) ∈ lw_all := lw_g (lw_at lw_m8 51 rfl) rfl
theorem q1881 : (Jvm.Cond.methodLink "RideDeskLaw" (297 : Nat) ({ cls := "RideDeskLaw", name := "soonest", desc := "(LRideDesk;IIIIII[J)I" } : Jvm.MethodName)) ∈ lw_all := lw_g (lw_at lw_m8 55 rfl) rfl
theorem q1882 : (Jvm.Cond.static ({ cls := "RideDeskLaw", name := "soonest", desc := "(LRideDesk;IIIIII[J)I" } : Jvm.MethodName)) ∈ lw_all := lw_g (lw_at lw_m8 56 rfl) rfl
theorem q1883 : (Jvm.Cond.codeWith ({ cls := "RideDeskLaw", name := "soonest", desc := "(LRideDesk;IIIIII[J)I" } : Jvm.MethodName) method_32_code (9 : Nat) (Option.some Jvm.ClassFile.FieldType.int) [((0 : Nat), (18 : Nat), (21 : Nat), (20 : Nat)), ((0 : Nat), (18 : Nat), (25 : Nat), (15 : Nat))]) ∈ lw_all := lw_g (lw_at lw_m8 57 rfl) rfl
theorem q1884 : (Jvm.Cond.methodLink "RideDeskLaw" (109 : Nat) ({ cls := "RideDesk", name := "soonest", desc := "(IIIIII)I" } : Jvm.MethodName)) ∈ lw_all := lw_g (lw_at lw_m8 58 rfl) rfl
theorem q1889 : (Jvm.Cond.methodLink "RideDeskLaw" (300 : Nat) ({ cls := "RideDeskLaw", name := "lateCalls", desc := "(LRideDesk;[J)I" } : Jvm.MethodName)) ∈ lw_all := lw_g (lw_at lw_m8 63 rfl) rfl
theorem q1890 : (Jvm.Cond.static ({ cls := "RideDeskLaw", name := "lateCalls", desc := "(LRideDesk;[J)I" } : Jvm.MethodName)) ∈ lw_all := lw_g (lw_at lw_m8 64 rfl) rfl
theorem q1891 : (Jvm.Cond.codeWith ({ cls := "RideDeskLaw", name := "lateCalls", desc := "(LRideDesk;[J)I" } : Jvm.MethodName) method_33_code (3 : Nat) (Option.some Jvm.ClassFile.FieldType.int) [((0 : Nat), (8 : Nat), (11 : Nat), (20 : Nat))]) ∈ lw_all := lw_g (lw_at lw_m8 65 rfl) rfl
theorem q1892 : (Jvm.Cond.methodLink "RideDeskLaw" (112 : Nat) ({ cls := "RideDesk", name := "lateCalls", desc := "()I" } : Jvm.MethodName)) ∈ lw_all := lw_g (lw_at lw_m8 66 rfl) rfl
theorem q1900 : (Jvm.Cond.methodLink "RideDeskLaw" (304 : Nat) ({ cls := "RideDeskLaw", name := "expectedCredits", desc := "(LRideDesk;[J)I" } : Jvm.MethodName)) ∈ lw_all := lw_g (lw_at lw_m8 74 rfl) rfl
theorem q1901 : (Jvm.Cond.static ({ cls := "RideDeskLaw", name := "expectedCredits", desc := "(LRideDesk;[J)I" } : Jvm.MethodName)) ∈ lw_all := lw_g (lw_at lw_m8 75 rfl) rfl
theorem q1902 : (Jvm.Cond.codeWith ({ cls := "RideDeskLaw", name := "expectedCredits", desc := "(LRideDesk;[J)I" } : Jvm.MethodName) method_34_code (3 : Nat) (Option.some Jvm.ClassFile.FieldType.int) [((0 : Nat), (8 : Nat), (11 : Nat), (20 : Nat))]) ∈ lw_all := lw_g (lw_at lw_m8 76 rfl) rfl
theorem q1903 : (Jvm.Cond.methodLink "RideDeskLaw" (116 : Nat) ({ cls := "RideDesk", name := "expectedCredits", desc := "()I" } : Jvm.MethodName)) ∈ lw_all := lw_g (lw_at lw_m8 77 rfl) rfl
theorem q1913 : (Jvm.Cond.methodLink "RideDeskLaw" (307 : Nat) ({ cls := "RideDeskLaw", name := "freeVan", desc := "(LRideDesk;II[J)I" } : Jvm.MethodName)) ∈ lw_all := lw_g (lw_at lw_m8 87 rfl) rfl
theorem q1914 : (Jvm.Cond.static ({ cls := "RideDeskLaw", name := "freeVan", desc := "(LRideDesk;II[J)I" } : Jvm.MethodName)) ∈ lw_all := lw_g (lw_at lw_m8 88 rfl) rfl
theorem q1915 : (Jvm.Cond.codeWith ({ cls := "RideDeskLaw", name := "freeVan", desc := "(LRideDesk;II[J)I" } : Jvm.MethodName) method_35_code (5 : Nat) (Option.some Jvm.ClassFile.FieldType.int) [((0 : Nat), (10 : Nat), (13 : Nat), (20 : Nat)), ((0 : Nat), (10 : Nat), (17 : Nat), (15 : Nat))]) ∈ lw_all := lw_g (lw_at lw_m8 89 rfl) rfl
theorem q1916 : (Jvm.Cond.methodLink "RideDeskLaw" (119 : Nat) ({ cls := "RideDesk", name := "freeVan", desc := "(II)I" } : Jvm.MethodName)) ∈ lw_all := lw_g (lw_at lw_m8 90 rfl) rfl
theorem q1935 : (Jvm.Cond.methodLink "RideDeskLaw" (310 : Nat) ({ cls := "RideDeskLaw", name := "savings", desc := "(LRideDesk;I[J)I" } : Jvm.MethodName)) ∈ lw_all := lw_g (lw_at lw_m8 109 rfl) rfl
theorem q1936 : (Jvm.Cond.static ({ cls := "RideDeskLaw", name := "savings", desc := "(LRideDesk;I[J)I" } : Jvm.MethodName)) ∈ lw_all := lw_g (lw_at lw_m8 110 rfl) rfl
theorem q1937 : (Jvm.Cond.codeWith ({ cls := "RideDeskLaw", name := "savings", desc := "(LRideDesk;I[J)I" } : Jvm.MethodName) method_36_code (4 : Nat) (Option.some Jvm.ClassFile.FieldType.int) [((0 : Nat), (9 : Nat), (12 : Nat), (20 : Nat)), ((0 : Nat), (9 : Nat), (15 : Nat), (13 : Nat)), ((0 : Nat), (9 : Nat), (18 : Nat), (15 : Nat))]) ∈ lw_all := lw_g (lw_at lw_m8 111 rfl) rfl
theorem q1938 : (Jvm.Cond.methodLink "RideDeskLaw" (122 : Nat) ({ cls := "RideDesk", name := "savings", desc := "(I)I" } : Jvm.MethodName)) ∈ lw_all := lw_g (lw_at lw_m8 112 rfl) rfl
theorem q1989 : (Jvm.Cond.methodLink "RideDeskLaw" (313 : Nat) ({ cls := "RideDeskLaw", name := "manifest", desc := "(LRideDesk;I[J)I" } : Jvm.MethodName)) ∈ lw_all := lw_g (lw_at lw_m8 163 rfl) rfl
theorem q1990 : (Jvm.Cond.static ({ cls := "RideDeskLaw", name := "manifest", desc := "(LRideDesk;I[J)I" } : Jvm.MethodName)) ∈ lw_all := lw_g (lw_at lw_m8 164 rfl) rfl
theorem q1991 : (Jvm.Cond.codeWith ({ cls := "RideDeskLaw", name := "manifest", desc := "(LRideDesk;I[J)I" } : Jvm.MethodName) method_37_code (4 : Nat) (Option.some Jvm.ClassFile.FieldType.int) [((0 : Nat), (9 : Nat), (12 : Nat), (20 : Nat)), ((0 : Nat), (9 : Nat), (15 : Nat), (13 : Nat))]) ∈ lw_all := lw_g (lw_at lw_m8 165 rfl) rfl
theorem q1992 : (Jvm.Cond.methodLink "RideDeskLaw" (125 : Nat) ({ cls := "RideDesk", name := "manifest", desc := "(I)I" } : Jvm.MethodName)) ∈ lw_all := lw_g (lw_at lw_m8 166 rfl) rfl
theorem q2014 : (Jvm.Cond.methodLink "RideDeskLaw" (316 : Nat) ({ cls := "RideDeskLaw", name := "manifestByte", desc := "(LRideDesk;I[J)I" } : Jvm.MethodName)) ∈ lw_all := lw_g (lw_at lw_m8 188 rfl) rfl
theorem q2015 : (Jvm.Cond.static ({ cls := "RideDeskLaw", name := "manifestByte", desc := "(LRideDesk;I[J)I" } : Jvm.MethodName)) ∈ lw_all := lw_g (lw_at lw_m8 189 rfl) rfl
theorem q2016 : (Jvm.Cond.codeWith ({ cls := "RideDeskLaw", name := "manifestByte", desc := "(LRideDesk;I[J)I" } : Jvm.MethodName) method_38_code (4 : Nat) (Option.some Jvm.ClassFile.FieldType.int) [((0 : Nat), (9 : Nat), (12 : Nat), (13 : Nat))]) ∈ lw_all := lw_g (lw_at lw_m8 190 rfl) rfl
theorem q2017 : (Jvm.Cond.methodLink "RideDeskLaw" (128 : Nat) ({ cls := "RideDesk", name := "manifestByte", desc := "(I)I" } : Jvm.MethodName)) ∈ lw_all := lw_g (lw_at lw_m8 191 rfl) rfl
theorem q2021 : (Jvm.Cond.methodLink "RideDeskLaw" (319 : Nat) ({ cls := "RideDeskLaw", name := "request", desc := "(LRideDesk;IIIIII[J)I" } : Jvm.MethodName)) ∈ lw_all := lw_g (lw_at lw_m8 195 rfl) rfl
theorem q2022 : (Jvm.Cond.static ({ cls := "RideDeskLaw", name := "request", desc := "(LRideDesk;IIIIII[J)I" } : Jvm.MethodName)) ∈ lw_all := lw_g (lw_at lw_m8 196 rfl) rfl
theorem q2023 : (Jvm.Cond.codeWith ({ cls := "RideDeskLaw", name := "request", desc := "(LRideDesk;IIIIII[J)I" } : Jvm.MethodName) method_39_code (9 : Nat) (Option.some Jvm.ClassFile.FieldType.int) [((0 : Nat), (18 : Nat), (21 : Nat), (20 : Nat)), ((0 : Nat), (18 : Nat), (25 : Nat), (15 : Nat))]) ∈ lw_all := lw_g (lw_at lw_m8 197 rfl) rfl
theorem q2024 : (Jvm.Cond.methodLink "RideDeskLaw" (131 : Nat) ({ cls := "RideDesk", name := "request", desc := "(IIIIII)I" } : Jvm.MethodName)) ∈ lw_all := lw_g (lw_at lw_m8 198 rfl) rfl
theorem q2078 : (Jvm.Cond.methodLink "RideDeskLaw" (322 : Nat) ({ cls := "RideDeskLaw", name := "cancel", desc := "(LRideDesk;I[J)I" } : Jvm.MethodName)) ∈ lw_all := lw_g (lw_at lw_m9 12 rfl) rfl
theorem q2079 : (Jvm.Cond.static ({ cls := "RideDeskLaw", name := "cancel", desc := "(LRideDesk;I[J)I" } : Jvm.MethodName)) ∈ lw_all := lw_g (lw_at lw_m9 13 rfl) rfl
theorem q2080 : (Jvm.Cond.codeWith ({ cls := "RideDeskLaw", name := "cancel", desc := "(LRideDesk;I[J)I" } : Jvm.MethodName) method_40_code (4 : Nat) (Option.some Jvm.ClassFile.FieldType.int) [((0 : Nat), (9 : Nat), (12 : Nat), (20 : Nat)), ((0 : Nat), (9 : Nat), (15 : Nat), (13 : Nat)), ((0 : Nat), (9 : Nat), (18 : Nat), (15 : Nat))]) ∈ lw_all := lw_g (lw_at lw_m9 14 rfl) rfl
theorem q2081 : (Jvm.Cond.methodLink "RideDeskLaw" (134 : Nat) ({ cls := "RideDesk", name := "cancel", desc := "(I)I" } : Jvm.MethodName)) ∈ lw_all := lw_g (lw_at lw_m9 15 rfl) rfl
theorem q2085 : (Jvm.Cond.methodLink "RideDeskLaw" (325 : Nat) ({ cls := "RideDeskLaw", name := "postpone", desc := "(LRideDesk;II[J)I" } : Jvm.MethodName)) ∈ lw_all := lw_g (lw_at lw_m9 19 rfl) rfl
theorem q2086 : (Jvm.Cond.static ({ cls := "RideDeskLaw", name := "postpone", desc := "(LRideDesk;II[J)I" } : Jvm.MethodName)) ∈ lw_all := lw_g (lw_at lw_m9 20 rfl) rfl
theorem q2087 : (Jvm.Cond.codeWith ({ cls := "RideDeskLaw", name := "postpone", desc := "(LRideDesk;II[J)I" } : Jvm.MethodName) method_41_code (5 : Nat) (Option.some Jvm.ClassFile.FieldType.int) [((0 : Nat), (10 : Nat), (13 : Nat), (20 : Nat)), ((0 : Nat), (10 : Nat), (17 : Nat), (13 : Nat)), ((0 : Nat), (10 : Nat), (21 : Nat), (15 : Nat))]) ∈ lw_all := lw_g (lw_at lw_m9 21 rfl) rfl
theorem q2088 : (Jvm.Cond.methodLink "RideDeskLaw" (137 : Nat) ({ cls := "RideDesk", name := "postpone", desc := "(II)I" } : Jvm.MethodName)) ∈ lw_all := lw_g (lw_at lw_m9 22 rfl) rfl
theorem q2096 : (Jvm.Cond.methodLink "RideDeskLaw" (328 : Nat) ({ cls := "RideDeskLaw", name := "setUntil", desc := "(LRideDesk;II[J)I" } : Jvm.MethodName)) ∈ lw_all := lw_g (lw_at lw_m9 30 rfl) rfl
theorem q2097 : (Jvm.Cond.static ({ cls := "RideDeskLaw", name := "setUntil", desc := "(LRideDesk;II[J)I" } : Jvm.MethodName)) ∈ lw_all := lw_g (lw_at lw_m9 31 rfl) rfl
theorem q2098 : (Jvm.Cond.codeWith ({ cls := "RideDeskLaw", name := "setUntil", desc := "(LRideDesk;II[J)I" } : Jvm.MethodName) method_42_code (5 : Nat) (Option.some Jvm.ClassFile.FieldType.int) [((0 : Nat), (10 : Nat), (13 : Nat), (20 : Nat)), ((0 : Nat), (10 : Nat), (17 : Nat), (13 : Nat)), ((0 : Nat), (10 : Nat), (21 : Nat), (15 : Nat))]) ∈ lw_all := lw_g (lw_at lw_m9 32 rfl) rfl
theorem q2099 : (Jvm.Cond.methodLink "RideDeskLaw" (140 : Nat) ({ cls := "RideDesk", name := "setUntil", desc := "(II)I" } : Jvm.MethodName)) ∈ lw_all := lw_g (lw_at lw_m9 33 rfl) rfl
theorem q2103 : (Jvm.Cond.methodLink "RideDeskLaw" (331 : Nat) ({ cls := "RideDeskLaw", name := "improve", desc := "(LRideDesk;[J)I" } : Jvm.MethodName)) ∈ lw_all := lw_g (lw_at lw_m9 37 rfl) rfl
theorem q2104 : (Jvm.Cond.static ({ cls := "RideDeskLaw", name := "improve", desc := "(LRideDesk;[J)I" } : Jvm.MethodName)) ∈ lw_all := lw_g (lw_at lw_m9 38 rfl) rfl
theorem q2105 : (Jvm.Cond.codeWith ({ cls := "RideDeskLaw", name := "improve", desc := "(LRideDesk;[J)I" } : Jvm.MethodName) method_43_code (3 : Nat) (Option.some Jvm.ClassFile.FieldType.int) [((0 : Nat), (8 : Nat), (11 : Nat), (20 : Nat))]) ∈ lw_all := lw_g (lw_at lw_m9 39 rfl) rfl
theorem q2106 : (Jvm.Cond.methodLink "RideDeskLaw" (143 : Nat) ({ cls := "RideDesk", name := "improve", desc := "()I" } : Jvm.MethodName)) ∈ lw_all := lw_g (lw_at lw_m9 40 rfl) rfl
theorem q2110 : (Jvm.Cond.methodLink "RideDeskLaw" (334 : Nat) ({ cls := "RideDeskLaw", name := "advance", desc := "(LRideDesk;I[J)I" } : Jvm.MethodName)) ∈ lw_all := lw_g (lw_at lw_m9 44 rfl) rfl
theorem q2111 : (Jvm.Cond.static ({ cls := "RideDeskLaw", name := "advance", desc := "(LRideDesk;I[J)I" } : Jvm.MethodName)) ∈ lw_all := lw_g (lw_at lw_m9 45 rfl) rfl
theorem q2112 : (Jvm.Cond.codeWith ({ cls := "RideDeskLaw", name := "advance", desc := "(LRideDesk;I[J)I" } : Jvm.MethodName) method_44_code (4 : Nat) (Option.some Jvm.ClassFile.FieldType.int) [((0 : Nat), (9 : Nat), (12 : Nat), (20 : Nat)), ((0 : Nat), (9 : Nat), (15 : Nat), (15 : Nat))]) ∈ lw_all := lw_g (lw_at lw_m9 46 rfl) rfl
theorem q2113 : (Jvm.Cond.methodLink "RideDeskLaw" (146 : Nat) ({ cls := "RideDesk", name := "advance", desc := "(I)I" } : Jvm.MethodName)) ∈ lw_all := lw_g (lw_at lw_m9 47 rfl) rfl
theorem q2123 : (Jvm.Cond.methodLink "RideDeskLaw" (337 : Nat) ({ cls := "RideDeskLaw", name := "undo", desc := "(LRideDesk;[J)I" } : Jvm.MethodName)) ∈ lw_all := lw_g (lw_at lw_m9 57 rfl) rfl
theorem q2124 : (Jvm.Cond.static ({ cls := "RideDeskLaw", name := "undo", desc := "(LRideDesk;[J)I" } : Jvm.MethodName)) ∈ lw_all := lw_g (lw_at lw_m9 58 rfl) rfl
theorem q2125 : (Jvm.Cond.codeWith ({ cls := "RideDeskLaw", name := "undo", desc := "(LRideDesk;[J)I" } : Jvm.MethodName) method_45_code (3 : Nat) (Option.some Jvm.ClassFile.FieldType.int) [((0 : Nat), (8 : Nat), (11 : Nat), (20 : Nat))]) ∈ lw_all := lw_g (lw_at lw_m9 59 rfl) rfl
theorem q2126 : (Jvm.Cond.methodLink "RideDeskLaw" (149 : Nat) ({ cls := "RideDesk", name := "undo", desc := "()I" } : Jvm.MethodName)) ∈ lw_all := lw_g (lw_at lw_m9 60 rfl) rfl
theorem q2154 : (Jvm.Cond.methodLink "RideDeskLaw" (344 : Nat) ({ cls := "RideDeskLaw", name := "save", desc := "(LRideDesk;I[J)I" } : Jvm.MethodName)) ∈ lw_all := lw_g (lw_at lw_m9 88 rfl) rfl
theorem q2155 : (Jvm.Cond.static ({ cls := "RideDeskLaw", name := "save", desc := "(LRideDesk;I[J)I" } : Jvm.MethodName)) ∈ lw_all := lw_g (lw_at lw_m9 89 rfl) rfl
theorem q2156 : (Jvm.Cond.codeWith ({ cls := "RideDeskLaw", name := "save", desc := "(LRideDesk;I[J)I" } : Jvm.MethodName) method_46_code (4 : Nat) (Option.some Jvm.ClassFile.FieldType.int) [((0 : Nat), (9 : Nat), (12 : Nat), (20 : Nat)), ((0 : Nat), (9 : Nat), (15 : Nat), (13 : Nat))]) ∈ lw_all := lw_g (lw_at lw_m9 90 rfl) rfl
theorem q2157 : (Jvm.Cond.methodLink "RideDeskLaw" (152 : Nat) ({ cls := "RideDesk", name := "save", desc := "(I)I" } : Jvm.MethodName)) ∈ lw_all := lw_g (lw_at lw_m9 91 rfl) rfl
theorem q2161 : (Jvm.Cond.methodLink "RideDeskLaw" (347 : Nat) ({ cls := "RideDeskLaw", name := "restore", desc := "(LRideDesk;I[J)I" } : Jvm.MethodName)) ∈ lw_all := lw_g (lw_at lw_m9 95 rfl) rfl
theorem q2162 : (Jvm.Cond.static ({ cls := "RideDeskLaw", name := "restore", desc := "(LRideDesk;I[J)I" } : Jvm.MethodName)) ∈ lw_all := lw_g (lw_at lw_m9 96 rfl) rfl
theorem q2163 : (Jvm.Cond.codeWith ({ cls := "RideDeskLaw", name := "restore", desc := "(LRideDesk;I[J)I" } : Jvm.MethodName) method_47_code (4 : Nat) (Option.some Jvm.ClassFile.FieldType.int) [((0 : Nat), (9 : Nat), (12 : Nat), (13 : Nat)), ((0 : Nat), (9 : Nat), (15 : Nat), (20 : Nat))]) ∈ lw_all := lw_g (lw_at lw_m9 97 rfl) rfl
theorem q2164 : (Jvm.Cond.methodLink "RideDeskLaw" (155 : Nat) ({ cls := "RideDesk", name := "restore", desc := "(I)I" } : Jvm.MethodName)) ∈ lw_all := lw_g (lw_at lw_m9 98 rfl) rfl
theorem q2168 : (Jvm.Cond.classLink "RideDeskLaw" (159 : Nat) "RideDeskModel") ∈ lw_all := lw_g (lw_at lw_m9 102 rfl) rfl
theorem q2170 : (Jvm.Cond.methodLink "RideDeskLaw" (161 : Nat) ({ cls := "RideDeskModel", name := "<init>", desc := "()V" } : Jvm.MethodName)) ∈ lw_all := lw_g (lw_at lw_m9 104 rfl) rfl
theorem q2284 : (Jvm.Cond.methodLink "RideDeskLaw" (173 : Nat) ({ cls := "RideDeskModel", name := "thrown", desc := "()I" } : Jvm.MethodName)) ∈ lw_all := lw_g (lw_at lw_m9 218 rfl) rfl
theorem q2288 : (Jvm.Cond.methodLink "RideDeskLaw" (166 : Nat) ({ cls := "RideDeskModel", name := "append", desc := "(IIIII)I" } : Jvm.MethodName)) ∈ lw_all := lw_g (lw_at lw_m9 222 rfl) rfl
theorem q2292 : (Jvm.Cond.methodLink "RideDeskLaw" (187 : Nat) ({ cls := "RideDeskModel", name := "buffered", desc := "()I" } : Jvm.MethodName)) ∈ lw_all := lw_g (lw_at lw_m9 226 rfl) rfl
theorem q2296 : (Jvm.Cond.methodLink "RideDeskLaw" (179 : Nat) ({ cls := "RideDeskModel", name := "parseError", desc := "()I" } : Jvm.MethodName)) ∈ lw_all := lw_g (lw_at lw_m9 230 rfl) rfl
theorem q2300 : (Jvm.Cond.methodLink "RideDeskLaw" (183 : Nat) ({ cls := "RideDeskModel", name := "errorPosition", desc := "()I" } : Jvm.MethodName)) ∈ lw_all := lw_g (lw_at lw_m9 234 rfl) rfl
theorem q2304 : (Jvm.Cond.methodLink "RideDeskLaw" (172 : Nat) ({ cls := "RideDeskModel", name := "load", desc := "(I)I" } : Jvm.MethodName)) ∈ lw_all := lw_g (lw_at lw_m9 238 rfl) rfl
theorem q2536 : (Jvm.Cond.methodLink "RideDeskLaw" (191 : Nat) ({ cls := "RideDeskModel", name := "vans", desc := "()I" } : Jvm.MethodName)) ∈ lw_all := lw_g (lw_at lw_m10 230 rfl) rfl
theorem q2544 : (Jvm.Cond.methodLink "RideDeskLaw" (195 : Nat) ({ cls := "RideDeskModel", name := "clock", desc := "()I" } : Jvm.MethodName)) ∈ lw_all := lw_g (lw_at lw_m10 238 rfl) rfl
theorem q2548 : (Jvm.Cond.methodLink "RideDeskLaw" (243 : Nat) ({ cls := "RideDeskModel", name := "calls", desc := "()I" } : Jvm.MethodName)) ∈ lw_all := lw_g (lw_at lw_m11 2 rfl) rfl
theorem q2552 : (Jvm.Cond.methodLink "RideDeskLaw" (343 : Nat) ({ cls := "RideDeskModel", name := "undoable", desc := "()I" } : Jvm.MethodName)) ∈ lw_all := lw_g (lw_at lw_m11 6 rfl) rfl
theorem q2556 : (Jvm.Cond.methodLink "RideDeskLaw" (198 : Nat) ({ cls := "RideDeskModel", name := "until", desc := "(I)I" } : Jvm.MethodName)) ∈ lw_all := lw_g (lw_at lw_m11 10 rfl) rfl
theorem q2568 : (Jvm.Cond.methodLink "RideDeskLaw" (202 : Nat) ({ cls := "RideDeskModel", name := "minutesBetween", desc := "(IIII)I" } : Jvm.MethodName)) ∈ lw_all := lw_g (lw_at lw_m11 22 rfl) rfl
theorem q2575 : (Jvm.Cond.methodLink "RideDeskLaw" (205 : Nat) ({ cls := "RideDeskModel", name := "stops", desc := "(I)I" } : Jvm.MethodName)) ∈ lw_all := lw_g (lw_at lw_m11 29 rfl) rfl
theorem q2579 : (Jvm.Cond.methodLink "RideDeskLaw" (208 : Nat) ({ cls := "RideDeskModel", name := "fixedStops", desc := "(I)I" } : Jvm.MethodName)) ∈ lw_all := lw_g (lw_at lw_m11 33 rfl) rfl
theorem q2583 : (Jvm.Cond.methodLink "RideDeskLaw" (212 : Nat) ({ cls := "RideDeskModel", name := "callAt", desc := "(II)I" } : Jvm.MethodName)) ∈ lw_all := lw_g (lw_at lw_m11 37 rfl) rfl
theorem q2591 : (Jvm.Cond.methodLink "RideDeskLaw" (215 : Nat) ({ cls := "RideDeskModel", name := "isPickup", desc := "(II)Z" } : Jvm.MethodName)) ∈ lw_all := lw_g (lw_at lw_m11 45 rfl) rfl
theorem q2595 : (Jvm.Cond.methodLink "RideDeskLaw" (218 : Nat) ({ cls := "RideDeskModel", name := "departureOf", desc := "(II)I" } : Jvm.MethodName)) ∈ lw_all := lw_g (lw_at lw_m11 49 rfl) rfl
theorem q2599 : (Jvm.Cond.methodLink "RideDeskLaw" (221 : Nat) ({ cls := "RideDeskModel", name := "beginOf", desc := "(II)I" } : Jvm.MethodName)) ∈ lw_all := lw_g (lw_at lw_m11 53 rfl) rfl
theorem q2603 : (Jvm.Cond.methodLink "RideDeskLaw" (224 : Nat) ({ cls := "RideDeskModel", name := "freeSeats", desc := "(II)I" } : Jvm.MethodName)) ∈ lw_all := lw_g (lw_at lw_m11 57 rfl) rfl
theorem q2607 : (Jvm.Cond.methodLink "RideDeskLaw" (227 : Nat) ({ cls := "RideDeskModel", name := "freeWheels", desc := "(II)I" } : Jvm.MethodName)) ∈ lw_all := lw_g (lw_at lw_m11 61 rfl) rfl
theorem q2611 : (Jvm.Cond.methodLink "RideDeskLaw" (230 : Nat) ({ cls := "RideDeskModel", name := "slack", desc := "(II)I" } : Jvm.MethodName)) ∈ lw_all := lw_g (lw_at lw_m11 65 rfl) rfl
theorem q2623 : (Jvm.Cond.methodLink "RideDeskLaw" (233 : Nat) ({ cls := "RideDeskModel", name := "endOf", desc := "(I)I" } : Jvm.MethodName)) ∈ lw_all := lw_g (lw_at lw_m11 77 rfl) rfl
theorem q2631 : (Jvm.Cond.methodLink "RideDeskLaw" (236 : Nat) ({ cls := "RideDeskModel", name := "driving", desc := "(I)I" } : Jvm.MethodName)) ∈ lw_all := lw_g (lw_at lw_m11 85 rfl) rfl
theorem q2639 : (Jvm.Cond.methodLink "RideDeskLaw" (239 : Nat) ({ cls := "RideDeskModel", name := "busiest", desc := "(I)I" } : Jvm.MethodName)) ∈ lw_all := lw_g (lw_at lw_m11 93 rfl) rfl
theorem q2647 : (Jvm.Cond.methodLink "RideDeskLaw" (246 : Nat) ({ cls := "RideDeskModel", name := "stateOf", desc := "(I)I" } : Jvm.MethodName)) ∈ lw_all := lw_g (lw_at lw_m11 101 rfl) rfl
theorem q2655 : (Jvm.Cond.methodLink "RideDeskLaw" (249 : Nat) ({ cls := "RideDeskModel", name := "vanOf", desc := "(I)I" } : Jvm.MethodName)) ∈ lw_all := lw_g (lw_at lw_m11 109 rfl) rfl
theorem q2663 : (Jvm.Cond.methodLink "RideDeskLaw" (252 : Nat) ({ cls := "RideDeskModel", name := "pickupTime", desc := "(I)I" } : Jvm.MethodName)) ∈ lw_all := lw_g (lw_at lw_m11 117 rfl) rfl
theorem q2671 : (Jvm.Cond.methodLink "RideDeskLaw" (255 : Nat) ({ cls := "RideDeskModel", name := "dropTime", desc := "(I)I" } : Jvm.MethodName)) ∈ lw_all := lw_g (lw_at lw_m11 125 rfl) rfl
theorem q2675 : (Jvm.Cond.methodLink "RideDeskLaw" (258 : Nat) ({ cls := "RideDeskModel", name := "rideOf", desc := "(I)I" } : Jvm.MethodName)) ∈ lw_all := lw_g (lw_at lw_m11 129 rfl) rfl
theorem q2683 : (Jvm.Cond.methodLink "RideDeskLaw" (261 : Nat) ({ cls := "RideDeskModel", name := "rideLimit", desc := "(I)I" } : Jvm.MethodName)) ∈ lw_all := lw_g (lw_at lw_m11 137 rfl) rfl
theorem q2687 : (Jvm.Cond.methodLink "RideDeskLaw" (264 : Nat) ({ cls := "RideDeskModel", name := "readyOf", desc := "(I)I" } : Jvm.MethodName)) ∈ lw_all := lw_g (lw_at lw_m11 141 rfl) rfl
theorem q2691 : (Jvm.Cond.methodLink "RideDeskLaw" (267 : Nat) ({ cls := "RideDeskModel", name := "promiseOf", desc := "(I)I" } : Jvm.MethodName)) ∈ lw_all := lw_g (lw_at lw_m11 145 rfl) rfl
theorem q2695 : (Jvm.Cond.methodLink "RideDeskLaw" (270 : Nat) ({ cls := "RideDeskModel", name := "creditOf", desc := "(I)I" } : Jvm.MethodName)) ∈ lw_all := lw_g (lw_at lw_m11 149 rfl) rfl
theorem q2699 : (Jvm.Cond.methodLink "RideDeskLaw" (273 : Nat) ({ cls := "RideDeskModel", name := "callsIn", desc := "(I)I" } : Jvm.MethodName)) ∈ lw_all := lw_g (lw_at lw_m11 153 rfl) rfl
theorem q2703 : (Jvm.Cond.methodLink "RideDeskLaw" (277 : Nat) ({ cls := "RideDeskModel", name := "credits", desc := "()I" } : Jvm.MethodName)) ∈ lw_all := lw_g (lw_at lw_m11 157 rfl) rfl
theorem q2707 : (Jvm.Cond.methodLink "RideDeskLaw" (281 : Nat) ({ cls := "RideDeskModel", name := "drivingAll", desc := "()I" } : Jvm.MethodName)) ∈ lw_all := lw_g (lw_at lw_m11 161 rfl) rfl
theorem q2715 : (Jvm.Cond.methodLink "RideDeskLaw" (285 : Nat) ({ cls := "RideDeskModel", name := "meanDetour", desc := "()F" } : Jvm.MethodName)) ∈ lw_all := lw_g (lw_at lw_m11 169 rfl) rfl
theorem q2719 : (Jvm.Cond.methodLink "RideDeskLaw" (289 : Nat) ({ cls := "RideDeskModel", name := "occupancy", desc := "(I)F" } : Jvm.MethodName)) ∈ lw_all := lw_g (lw_at lw_m11 173 rfl) rfl
theorem q2723 : (Jvm.Cond.methodLink "RideDeskLaw" (293 : Nat) ({ cls := "RideDeskModel", name := "offer", desc := "(IIIIII)I" } : Jvm.MethodName)) ∈ lw_all := lw_g (lw_at lw_m11 177 rfl) rfl
theorem q2739 : (Jvm.Cond.methodLink "RideDeskLaw" (296 : Nat) ({ cls := "RideDeskModel", name := "offeredVan", desc := "(IIIIII)I" } : Jvm.MethodName)) ∈ lw_all := lw_g (lw_at lw_m11 193 rfl) rfl
theorem q2743 : (Jvm.Cond.methodLink "RideDeskLaw" (299 : Nat) ({ cls := "RideDeskModel", name := "soonest", desc := "(IIIIII)I" } : Jvm.MethodName)) ∈ lw_all := lw_g (lw_at lw_m11 197 rfl) rfl
theorem q2747 : (Jvm.Cond.methodLink "RideDeskLaw" (303 : Nat) ({ cls := "RideDeskModel", name := "lateCalls", desc := "()I" } : Jvm.MethodName)) ∈ lw_all := lw_g (lw_at lw_m11 201 rfl) rfl
theorem q2755 : (Jvm.Cond.methodLink "RideDeskLaw" (306 : Nat) ({ cls := "RideDeskModel", name := "expectedCredits", desc := "()I" } : Jvm.MethodName)) ∈ lw_all := lw_g (lw_at lw_m11 209 rfl) rfl
theorem q2759 : (Jvm.Cond.methodLink "RideDeskLaw" (309 : Nat) ({ cls := "RideDeskModel", name := "freeVan", desc := "(II)I" } : Jvm.MethodName)) ∈ lw_all := lw_g (lw_at lw_m11 213 rfl) rfl
theorem q2767 : (Jvm.Cond.methodLink "RideDeskLaw" (315 : Nat) ({ cls := "RideDeskModel", name := "manifest", desc := "(I)I" } : Jvm.MethodName)) ∈ lw_all := lw_g (lw_at lw_m11 221 rfl) rfl
theorem q2779 : (Jvm.Cond.methodLink "RideDeskLaw" (318 : Nat) ({ cls := "RideDeskModel", name := "manifestByte", desc := "(I)I" } : Jvm.MethodName)) ∈ lw_all := lw_g (lw_at lw_m11 233 rfl) rfl
theorem q2783 : (Jvm.Cond.methodLink "RideDeskLaw" (312 : Nat) ({ cls := "RideDeskModel", name := "savings", desc := "(I)I" } : Jvm.MethodName)) ∈ lw_all := lw_g (lw_at lw_m11 237 rfl) rfl
theorem q2815 : (Jvm.Cond.methodLink "RideDeskLaw" (321 : Nat) ({ cls := "RideDeskModel", name := "request", desc := "(IIIIII)I" } : Jvm.MethodName)) ∈ lw_all := lw_g (lw_at lw_m12 29 rfl) rfl
theorem q2827 : (Jvm.Cond.methodLink "RideDeskLaw" (324 : Nat) ({ cls := "RideDeskModel", name := "cancel", desc := "(I)I" } : Jvm.MethodName)) ∈ lw_all := lw_g (lw_at lw_m12 41 rfl) rfl
theorem q2831 : (Jvm.Cond.methodLink "RideDeskLaw" (327 : Nat) ({ cls := "RideDeskModel", name := "postpone", desc := "(II)I" } : Jvm.MethodName)) ∈ lw_all := lw_g (lw_at lw_m12 45 rfl) rfl
theorem q2839 : (Jvm.Cond.methodLink "RideDeskLaw" (330 : Nat) ({ cls := "RideDeskModel", name := "setUntil", desc := "(II)I" } : Jvm.MethodName)) ∈ lw_all := lw_g (lw_at lw_m12 53 rfl) rfl
theorem q2843 : (Jvm.Cond.methodLink "RideDeskLaw" (333 : Nat) ({ cls := "RideDeskModel", name := "improve", desc := "()I" } : Jvm.MethodName)) ∈ lw_all := lw_g (lw_at lw_m12 57 rfl) rfl
theorem q2847 : (Jvm.Cond.methodLink "RideDeskLaw" (336 : Nat) ({ cls := "RideDeskModel", name := "advance", desc := "(I)I" } : Jvm.MethodName)) ∈ lw_all := lw_g (lw_at lw_m12 61 rfl) rfl
theorem q2855 : (Jvm.Cond.methodLink "RideDeskLaw" (339 : Nat) ({ cls := "RideDeskModel", name := "undo", desc := "()I" } : Jvm.MethodName)) ∈ lw_all := lw_g (lw_at lw_m12 69 rfl) rfl
theorem q2859 : (Jvm.Cond.methodLink "RideDeskLaw" (346 : Nat) ({ cls := "RideDeskModel", name := "save", desc := "(I)I" } : Jvm.MethodName)) ∈ lw_all := lw_g (lw_at lw_m12 73 rfl) rfl
theorem q2863 : (Jvm.Cond.methodLink "RideDeskLaw" (349 : Nat) ({ cls := "RideDeskModel", name := "restore", desc := "(I)I" } : Jvm.MethodName)) ∈ lw_all := lw_g (lw_at lw_m12 77 rfl) rfl

/-! the law's own entry -/
set_option maxRecDepth 100000
abbrev cL_law : ByteArray := code
def dkwL_law_136 : List UInt8 := [167, 242, 224, 4, 172]
abbrev dktL_law_136 : List UInt8 := dkwL_law_136 ++ []
def dkwL_law_135 : List UInt8 := [172, 21, 6, 154, 0, 15, 45, 3, 47, 21, 7, 133, 148, 153, 0, 5, 3, 172, 167, 0, 3, 132, 5, 7]
abbrev dktL_law_135 : List UInt8 := dkwL_law_135 ++ dktL_law_136
def dkwL_law_134 : List UInt8 := [54, 6, 44, 42, 21, 5, 4, 96, 46, 182, 1, 93, 54, 7, 44, 182, 0, 173, 21, 6, 159, 0, 5, 3]
abbrev dktL_law_134 : List UInt8 := dkwL_law_134 ++ dktL_law_135
def dkwL_law_133 : List UInt8 := [47, 21, 7, 133, 148, 153, 0, 5, 3, 172, 167, 0, 59, 43, 42, 21, 5, 4, 96, 46, 45, 184, 1, 91]
abbrev dktL_law_133 : List UInt8 := dkwL_law_133 ++ dktL_law_134
def dkwL_law_132 : List UInt8 := [46, 182, 1, 90, 54, 7, 44, 182, 0, 173, 21, 6, 159, 0, 5, 3, 172, 21, 6, 154, 0, 15, 45, 3]
abbrev dktL_law_132 : List UInt8 := dkwL_law_132 ++ dktL_law_133
def dkwL_law_131 : List UInt8 := [159, 0, 117, 3, 172, 43, 42, 21, 5, 4, 96, 46, 45, 184, 1, 88, 54, 6, 44, 42, 21, 5, 4, 96]
abbrev dktL_law_131 : List UInt8 := dkwL_law_131 ++ dktL_law_132
def dkwL_law_130 : List UInt8 := [45, 3, 47, 21, 7, 133, 148, 153, 0, 5, 3, 172, 167, 0, 128, 43, 182, 1, 84, 44, 182, 1, 87]
abbrev dktL_law_130 : List UInt8 := dkwL_law_130 ++ dktL_law_131
def dkwL_law_129 : List UInt8 := [54, 6, 44, 182, 1, 83, 54, 7, 44, 182, 0, 173, 21, 6, 159, 0, 5, 3, 172, 21, 6, 154, 0, 15]
abbrev dktL_law_129 : List UInt8 := dkwL_law_129 ++ dktL_law_130
def dkwL_law_128 : List UInt8 := [154, 0, 15, 45, 3, 47, 21, 7, 133, 148, 153, 0, 5, 3, 172, 167, 0, 172, 43, 45, 184, 1, 81]
abbrev dktL_law_128 : List UInt8 := dkwL_law_128 ++ dktL_law_129
def dkwL_law_127 : List UInt8 := [21, 5, 4, 96, 46, 182, 1, 80, 54, 7, 44, 182, 0, 173, 21, 6, 159, 0, 5, 3, 172, 21, 6]
abbrev dktL_law_127 : List UInt8 := dkwL_law_127 ++ dktL_law_128
def dkwL_law_126 : List UInt8 := [148, 153, 0, 5, 3, 172, 167, 0, 228, 43, 42, 21, 5, 4, 96, 46, 45, 184, 1, 78, 54, 6, 44, 42]
abbrev dktL_law_126 : List UInt8 := dkwL_law_126 ++ dktL_law_127
def dkwL_law_125 : List UInt8 := [54, 7, 44, 182, 0, 173, 21, 6, 159, 0, 5, 3, 172, 21, 6, 154, 0, 15, 45, 3, 47, 21, 7, 133]
abbrev dktL_law_125 : List UInt8 := dkwL_law_125 ++ dktL_law_126
def dkwL_law_124 : List UInt8 := [21, 7, 133, 148, 153, 0, 5, 3, 172, 167, 1, 16, 43, 45, 184, 1, 75, 54, 6, 44, 182, 1, 77]
abbrev dktL_law_124 : List UInt8 := dkwL_law_124 ++ dktL_law_125
def dkwL_law_123 : List UInt8 := [182, 1, 74, 54, 7, 44, 182, 0, 173, 21, 6, 159, 0, 5, 3, 172, 21, 6, 154, 0, 15, 45, 3, 47]
abbrev dktL_law_123 : List UInt8 := dkwL_law_123 ++ dktL_law_124
def dkwL_law_122 : List UInt8 := [5, 96, 46, 45, 184, 1, 72, 54, 6, 44, 42, 21, 5, 4, 96, 46, 42, 21, 5, 5, 96, 46]
abbrev dktL_law_122 : List UInt8 := dkwL_law_122 ++ dktL_law_123
def dkwL_law_121 : List UInt8 := [3, 47, 21, 7, 133, 148, 153, 0, 5, 3, 172, 167, 1, 84, 43, 42, 21, 5, 4, 96, 46, 42, 21, 5]
abbrev dktL_law_121 : List UInt8 := dkwL_law_121 ++ dktL_law_122
def dkwL_law_120 : List UInt8 := [96, 46, 182, 1, 71, 54, 7, 44, 182, 0, 173, 21, 6, 159, 0, 5, 3, 172, 21, 6, 154, 0, 15, 45]
abbrev dktL_law_120 : List UInt8 := dkwL_law_120 ++ dktL_law_121
def dkwL_law_119 : List UInt8 := [46, 42, 21, 5, 5, 96, 46, 45, 184, 1, 69, 54, 6, 44, 42, 21, 5, 4, 96, 46, 42, 21, 5, 5]
abbrev dktL_law_119 : List UInt8 := dkwL_law_119 ++ dktL_law_120
def dkwL_law_118 : List UInt8 := [154, 0, 15, 45, 3, 47, 21, 7, 133, 148, 153, 0, 5, 3, 172, 167, 1, 152, 43, 42, 21, 5, 4, 96]
abbrev dktL_law_118 : List UInt8 := dkwL_law_118 ++ dktL_law_119
def dkwL_law_117 : List UInt8 := [21, 5, 4, 96, 46, 182, 1, 68, 54, 7, 44, 182, 0, 173, 21, 6, 159, 0, 5, 3, 172, 21, 6]
abbrev dktL_law_117 : List UInt8 := dkwL_law_117 ++ dktL_law_118
def dkwL_law_116 : List UInt8 := [153, 0, 5, 3, 172, 167, 1, 208, 43, 42, 21, 5, 4, 96, 46, 45, 184, 1, 66, 54, 6, 44, 42]
abbrev dktL_law_116 : List UInt8 := dkwL_law_116 ++ dktL_law_117
def dkwL_law_115 : List UInt8 := [44, 182, 0, 173, 21, 6, 159, 0, 5, 3, 172, 21, 6, 154, 0, 15, 45, 3, 47, 21, 7, 133, 148]
abbrev dktL_law_115 : List UInt8 := dkwL_law_115 ++ dktL_law_116
def dkwL_law_114 : List UInt8 := [42, 21, 5, 7, 96, 46, 42, 21, 5, 8, 96, 46, 42, 21, 5, 16, 6, 96, 46, 182, 1, 65, 54, 7]
abbrev dktL_law_114 : List UInt8 := dkwL_law_114 ++ dktL_law_115
def dkwL_law_113 : List UInt8 := [184, 1, 63, 54, 6, 44, 42, 21, 5, 4, 96, 46, 42, 21, 5, 5, 96, 46, 42, 21, 5, 6, 96, 46]
abbrev dktL_law_113 : List UInt8 := dkwL_law_113 ++ dktL_law_114
def dkwL_law_112 : List UInt8 := [6, 96, 46, 42, 21, 5, 7, 96, 46, 42, 21, 5, 8, 96, 46, 42, 21, 5, 16, 6, 96, 46, 45]
abbrev dktL_law_112 : List UInt8 := dkwL_law_112 ++ dktL_law_113
def dkwL_law_111 : List UInt8 := [153, 0, 5, 3, 172, 167, 2, 70, 43, 42, 21, 5, 4, 96, 46, 42, 21, 5, 5, 96, 46, 42, 21, 5]
abbrev dktL_law_111 : List UInt8 := dkwL_law_111 ++ dktL_law_112
def dkwL_law_110 : List UInt8 := [182, 0, 173, 21, 6, 159, 0, 5, 3, 172, 21, 6, 154, 0, 15, 45, 3, 47, 21, 7, 133, 148]
abbrev dktL_law_110 : List UInt8 := dkwL_law_110 ++ dktL_law_111
def dkwL_law_109 : List UInt8 := [21, 5, 4, 96, 46, 45, 184, 1, 60, 54, 6, 44, 42, 21, 5, 4, 96, 46, 182, 1, 62, 54, 7, 44]
abbrev dktL_law_109 : List UInt8 := dkwL_law_109 ++ dktL_law_110
def dkwL_law_108 : List UInt8 := [172, 21, 6, 154, 0, 15, 45, 3, 47, 21, 7, 133, 148, 153, 0, 5, 3, 172, 167, 2, 126, 43, 42]
abbrev dktL_law_108 : List UInt8 := dkwL_law_108 ++ dktL_law_109
def dkwL_law_107 : List UInt8 := [54, 6, 44, 42, 21, 5, 4, 96, 46, 182, 1, 59, 54, 7, 44, 182, 0, 173, 21, 6, 159, 0, 5, 3]
abbrev dktL_law_107 : List UInt8 := dkwL_law_107 ++ dktL_law_108
def dkwL_law_106 : List UInt8 := [21, 7, 133, 148, 153, 0, 5, 3, 172, 167, 2, 182, 43, 42, 21, 5, 4, 96, 46, 45, 184, 1, 57]
abbrev dktL_law_106 : List UInt8 := dkwL_law_106 ++ dktL_law_107
def dkwL_law_105 : List UInt8 := [182, 1, 56, 54, 7, 44, 182, 0, 173, 21, 6, 159, 0, 5, 3, 172, 21, 6, 154, 0, 15, 45, 3, 47]
abbrev dktL_law_105 : List UInt8 := dkwL_law_105 ++ dktL_law_106
def dkwL_law_104 : List UInt8 := [167, 2, 238, 43, 42, 21, 5, 4, 96, 46, 45, 184, 1, 54, 54, 6, 44, 42, 21, 5, 4, 96, 46]
abbrev dktL_law_104 : List UInt8 := dkwL_law_104 ++ dktL_law_105
def dkwL_law_103 : List UInt8 := [159, 0, 5, 3, 172, 21, 6, 154, 0, 15, 45, 3, 47, 21, 7, 133, 148, 153, 0, 5, 3, 172]
abbrev dktL_law_103 : List UInt8 := dkwL_law_103 ++ dktL_law_104
def dkwL_law_102 : List UInt8 := [21, 5, 4, 96, 46, 42, 21, 5, 5, 96, 46, 182, 1, 53, 54, 7, 44, 182, 0, 173, 21, 6]
abbrev dktL_law_102 : List UInt8 := dkwL_law_102 ++ dktL_law_103
def dkwL_law_101 : List UInt8 := [167, 3, 50, 43, 42, 21, 5, 4, 96, 46, 42, 21, 5, 5, 96, 46, 45, 184, 1, 51, 54, 6, 44, 42]
abbrev dktL_law_101 : List UInt8 := dkwL_law_101 ++ dktL_law_102
def dkwL_law_100 : List UInt8 := [159, 0, 5, 3, 172, 21, 6, 154, 0, 15, 45, 3, 47, 21, 7, 133, 148, 153, 0, 5, 3, 172]
abbrev dktL_law_100 : List UInt8 := dkwL_law_100 ++ dktL_law_101
def dkwL_law_99 : List UInt8 := [167, 3, 94, 43, 45, 184, 1, 48, 54, 6, 44, 182, 1, 50, 54, 7, 44, 182, 0, 173, 21, 6]
abbrev dktL_law_99 : List UInt8 := dkwL_law_99 ++ dktL_law_100
def dkwL_law_98 : List UInt8 := [159, 0, 5, 3, 172, 21, 6, 154, 0, 15, 45, 3, 47, 21, 7, 133, 148, 153, 0, 5, 3, 172]
abbrev dktL_law_98 : List UInt8 := dkwL_law_98 ++ dktL_law_99
def dkwL_law_97 : List UInt8 := [167, 3, 138, 43, 45, 184, 1, 44, 54, 6, 44, 182, 1, 47, 54, 7, 44, 182, 0, 173, 21, 6]
abbrev dktL_law_97 : List UInt8 := dkwL_law_97 ++ dktL_law_98
def dkwL_law_96 : List UInt8 := [21, 6, 159, 0, 5, 3, 172, 21, 6, 154, 0, 15, 45, 3, 47, 21, 7, 133, 148, 153, 0, 5, 3, 172]
abbrev dktL_law_96 : List UInt8 := dkwL_law_96 ++ dktL_law_97
def dkwL_law_95 : List UInt8 := [46, 42, 21, 5, 8, 96, 46, 42, 21, 5, 16, 6, 96, 46, 182, 1, 43, 54, 7, 44, 182, 0, 173]
abbrev dktL_law_95 : List UInt8 := dkwL_law_95 ++ dktL_law_96
def dkwL_law_94 : List UInt8 := [44, 42, 21, 5, 4, 96, 46, 42, 21, 5, 5, 96, 46, 42, 21, 5, 6, 96, 46, 42, 21, 5, 7, 96]
abbrev dktL_law_94 : List UInt8 := dkwL_law_94 ++ dktL_law_95
def dkwL_law_93 : List UInt8 := [21, 5, 7, 96, 46, 42, 21, 5, 8, 96, 46, 42, 21, 5, 16, 6, 96, 46, 45, 184, 1, 41, 54, 6]
abbrev dktL_law_93 : List UInt8 := dkwL_law_93 ++ dktL_law_94
def dkwL_law_92 : List UInt8 := [167, 4, 0, 43, 42, 21, 5, 4, 96, 46, 42, 21, 5, 5, 96, 46, 42, 21, 5, 6, 96, 46, 42]
abbrev dktL_law_92 : List UInt8 := dkwL_law_92 ++ dktL_law_93
def dkwL_law_91 : List UInt8 := [21, 6, 159, 0, 5, 3, 172, 21, 6, 154, 0, 15, 45, 3, 47, 21, 7, 133, 148, 153, 0, 5, 3, 172]
abbrev dktL_law_91 : List UInt8 := dkwL_law_91 ++ dktL_law_92
def dkwL_law_90 : List UInt8 := [46, 42, 21, 5, 8, 96, 46, 42, 21, 5, 16, 6, 96, 46, 182, 1, 40, 54, 7, 44, 182, 0, 173]
abbrev dktL_law_90 : List UInt8 := dkwL_law_90 ++ dktL_law_91
def dkwL_law_89 : List UInt8 := [44, 42, 21, 5, 4, 96, 46, 42, 21, 5, 5, 96, 46, 42, 21, 5, 6, 96, 46, 42, 21, 5, 7, 96]
abbrev dktL_law_89 : List UInt8 := dkwL_law_89 ++ dktL_law_90
def dkwL_law_88 : List UInt8 := [21, 5, 7, 96, 46, 42, 21, 5, 8, 96, 46, 42, 21, 5, 16, 6, 96, 46, 45, 184, 1, 38, 54, 6]
abbrev dktL_law_88 : List UInt8 := dkwL_law_88 ++ dktL_law_89
def dkwL_law_87 : List UInt8 := [167, 4, 118, 43, 42, 21, 5, 4, 96, 46, 42, 21, 5, 5, 96, 46, 42, 21, 5, 6, 96, 46, 42]
abbrev dktL_law_87 : List UInt8 := dkwL_law_87 ++ dktL_law_88
def dkwL_law_86 : List UInt8 := [21, 6, 159, 0, 5, 3, 172, 21, 6, 154, 0, 15, 45, 3, 47, 21, 7, 133, 148, 153, 0, 5, 3, 172]
abbrev dktL_law_86 : List UInt8 := dkwL_law_86 ++ dktL_law_87
def dkwL_law_85 : List UInt8 := [46, 42, 21, 5, 8, 96, 46, 42, 21, 5, 16, 6, 96, 46, 182, 1, 37, 54, 7, 44, 182, 0, 173]
abbrev dktL_law_85 : List UInt8 := dkwL_law_85 ++ dktL_law_86
def dkwL_law_84 : List UInt8 := [44, 42, 21, 5, 4, 96, 46, 42, 21, 5, 5, 96, 46, 42, 21, 5, 6, 96, 46, 42, 21, 5, 7, 96]
abbrev dktL_law_84 : List UInt8 := dkwL_law_84 ++ dktL_law_85
def dkwL_law_83 : List UInt8 := [21, 5, 7, 96, 46, 42, 21, 5, 8, 96, 46, 42, 21, 5, 16, 6, 96, 46, 45, 184, 1, 34, 54, 6]
abbrev dktL_law_83 : List UInt8 := dkwL_law_83 ++ dktL_law_84
def dkwL_law_82 : List UInt8 := [172, 167, 4, 236, 43, 42, 21, 5, 4, 96, 46, 42, 21, 5, 5, 96, 46, 42, 21, 5, 6, 96, 46, 42]
abbrev dktL_law_82 : List UInt8 := dkwL_law_82 ++ dktL_law_83
def dkwL_law_81 : List UInt8 := [153, 0, 25, 25, 4, 3, 49, 25, 4, 3, 49, 151, 153, 0, 11, 23, 7, 23, 7, 149, 154, 0, 5, 3]
abbrev dktL_law_81 : List UInt8 := dkwL_law_81 ++ dktL_law_82
def dkwL_law_80 : List UInt8 := [182, 0, 173, 21, 6, 159, 0, 5, 3, 172, 21, 6, 154, 0, 36, 25, 4, 3, 49, 23, 7, 141, 151]
abbrev dktL_law_80 : List UInt8 := dkwL_law_80 ++ dktL_law_81
def dkwL_law_79 : List UInt8 := [96, 46, 25, 4, 184, 1, 30, 54, 6, 44, 42, 21, 5, 4, 96, 46, 182, 1, 33, 56, 7, 44]
abbrev dktL_law_79 : List UInt8 := dkwL_law_79 ++ dktL_law_80
def dkwL_law_78 : List UInt8 := [3, 49, 151, 153, 0, 11, 23, 7, 23, 7, 149, 154, 0, 5, 3, 172, 167, 5, 58, 43, 42, 21, 5, 4]
abbrev dktL_law_78 : List UInt8 := dkwL_law_78 ++ dktL_law_79
def dkwL_law_77 : List UInt8 := [3, 172, 21, 6, 154, 0, 36, 25, 4, 3, 49, 23, 7, 141, 151, 153, 0, 25, 25, 4, 3, 49, 25, 4]
abbrev dktL_law_77 : List UInt8 := dkwL_law_77 ++ dktL_law_78
def dkwL_law_76 : List UInt8 := [172, 43, 25, 4, 184, 1, 26, 54, 6, 44, 182, 1, 29, 56, 7, 44, 182, 0, 173, 21, 6, 159, 0, 5]
abbrev dktL_law_76 : List UInt8 := dkwL_law_76 ++ dktL_law_77
def dkwL_law_75 : List UInt8 := [182, 1, 18, 44, 182, 1, 21, 159, 5, 139, 3, 172, 43, 182, 1, 22, 44, 182, 1, 25, 159, 5, 126, 3]
abbrev dktL_law_75 : List UInt8 := dkwL_law_75 ++ dktL_law_76
def dkwL_law_74 : List UInt8 := [172, 21, 6, 154, 0, 15, 45, 3, 47, 21, 7, 133, 148, 153, 0, 5, 3, 172, 167, 5, 150, 43]
abbrev dktL_law_74 : List UInt8 := dkwL_law_74 ++ dktL_law_75
def dkwL_law_73 : List UInt8 := [54, 6, 44, 42, 21, 5, 4, 96, 46, 182, 1, 17, 54, 7, 44, 182, 0, 173, 21, 6, 159, 0, 5, 3]
abbrev dktL_law_73 : List UInt8 := dkwL_law_73 ++ dktL_law_74
def dkwL_law_72 : List UInt8 := [21, 7, 133, 148, 153, 0, 5, 3, 172, 167, 5, 206, 43, 42, 21, 5, 4, 96, 46, 45, 184, 1, 15]
abbrev dktL_law_72 : List UInt8 := dkwL_law_72 ++ dktL_law_73
def dkwL_law_71 : List UInt8 := [182, 1, 14, 54, 7, 44, 182, 0, 173, 21, 6, 159, 0, 5, 3, 172, 21, 6, 154, 0, 15, 45, 3, 47]
abbrev dktL_law_71 : List UInt8 := dkwL_law_71 ++ dktL_law_72
def dkwL_law_70 : List UInt8 := [167, 6, 6, 43, 42, 21, 5, 4, 96, 46, 45, 184, 1, 12, 54, 6, 44, 42, 21, 5, 4, 96, 46]
abbrev dktL_law_70 : List UInt8 := dkwL_law_70 ++ dktL_law_71
def dkwL_law_69 : List UInt8 := [21, 6, 159, 0, 5, 3, 172, 21, 6, 154, 0, 15, 45, 3, 47, 21, 7, 133, 148, 153, 0, 5, 3, 172]
abbrev dktL_law_69 : List UInt8 := dkwL_law_69 ++ dktL_law_70
def dkwL_law_68 : List UInt8 := [46, 45, 184, 1, 9, 54, 6, 44, 42, 21, 5, 4, 96, 46, 182, 1, 11, 54, 7, 44, 182, 0, 173]
abbrev dktL_law_68 : List UInt8 := dkwL_law_68 ++ dktL_law_69
def dkwL_law_67 : List UInt8 := [154, 0, 15, 45, 3, 47, 21, 7, 133, 148, 153, 0, 5, 3, 172, 167, 6, 62, 43, 42, 21, 5, 4, 96]
abbrev dktL_law_67 : List UInt8 := dkwL_law_67 ++ dktL_law_68
def dkwL_law_66 : List UInt8 := [21, 5, 4, 96, 46, 182, 1, 8, 54, 7, 44, 182, 0, 173, 21, 6, 159, 0, 5, 3, 172, 21, 6]
abbrev dktL_law_66 : List UInt8 := dkwL_law_66 ++ dktL_law_67
def dkwL_law_65 : List UInt8 := [153, 0, 5, 3, 172, 167, 6, 118, 43, 42, 21, 5, 4, 96, 46, 45, 184, 1, 6, 54, 6, 44, 42]
abbrev dktL_law_65 : List UInt8 := dkwL_law_65 ++ dktL_law_66
def dkwL_law_64 : List UInt8 := [182, 0, 173, 21, 6, 159, 0, 5, 3, 172, 21, 6, 154, 0, 15, 45, 3, 47, 21, 7, 133, 148]
abbrev dktL_law_64 : List UInt8 := dkwL_law_64 ++ dktL_law_65
def dkwL_law_63 : List UInt8 := [21, 5, 4, 96, 46, 45, 184, 1, 3, 54, 6, 44, 42, 21, 5, 4, 96, 46, 182, 1, 5, 54, 7, 44]
abbrev dktL_law_63 : List UInt8 := dkwL_law_63 ++ dktL_law_64
def dkwL_law_62 : List UInt8 := [172, 21, 6, 154, 0, 15, 45, 3, 47, 21, 7, 133, 148, 153, 0, 5, 3, 172, 167, 6, 174, 43, 42]
abbrev dktL_law_62 : List UInt8 := dkwL_law_62 ++ dktL_law_63
def dkwL_law_61 : List UInt8 := [54, 6, 44, 42, 21, 5, 4, 96, 46, 182, 1, 2, 54, 7, 44, 182, 0, 173, 21, 6, 159, 0, 5, 3]
abbrev dktL_law_61 : List UInt8 := dkwL_law_61 ++ dktL_law_62
def dkwL_law_60 : List UInt8 := [21, 7, 133, 148, 153, 0, 5, 3, 172, 167, 6, 230, 43, 42, 21, 5, 4, 96, 46, 45, 184, 1, 0]
abbrev dktL_law_60 : List UInt8 := dkwL_law_60 ++ dktL_law_61
def dkwL_law_59 : List UInt8 := [182, 0, 255, 54, 7, 44, 182, 0, 173, 21, 6, 159, 0, 5, 3, 172, 21, 6, 154, 0, 15, 45, 3, 47]
abbrev dktL_law_59 : List UInt8 := dkwL_law_59 ++ dktL_law_60
def dkwL_law_58 : List UInt8 := [167, 7, 30, 43, 42, 21, 5, 4, 96, 46, 45, 184, 0, 253, 54, 6, 44, 42, 21, 5, 4, 96, 46]
abbrev dktL_law_58 : List UInt8 := dkwL_law_58 ++ dktL_law_59
def dkwL_law_57 : List UInt8 := [21, 6, 159, 0, 5, 3, 172, 21, 6, 154, 0, 15, 45, 3, 47, 21, 7, 133, 148, 153, 0, 5, 3, 172]
abbrev dktL_law_57 : List UInt8 := dkwL_law_57 ++ dktL_law_58
def dkwL_law_56 : List UInt8 := [46, 45, 184, 0, 250, 54, 6, 44, 42, 21, 5, 4, 96, 46, 182, 0, 252, 54, 7, 44, 182, 0, 173]
abbrev dktL_law_56 : List UInt8 := dkwL_law_56 ++ dktL_law_57
def dkwL_law_55 : List UInt8 := [154, 0, 15, 45, 3, 47, 21, 7, 133, 148, 153, 0, 5, 3, 172, 167, 7, 86, 43, 42, 21, 5, 4, 96]
abbrev dktL_law_55 : List UInt8 := dkwL_law_55 ++ dktL_law_56
def dkwL_law_54 : List UInt8 := [21, 5, 4, 96, 46, 182, 0, 249, 54, 7, 44, 182, 0, 173, 21, 6, 159, 0, 5, 3, 172, 21, 6]
abbrev dktL_law_54 : List UInt8 := dkwL_law_54 ++ dktL_law_55
def dkwL_law_53 : List UInt8 := [148, 153, 0, 5, 3, 172, 167, 7, 142, 43, 42, 21, 5, 4, 96, 46, 45, 184, 0, 247, 54, 6, 44, 42]
abbrev dktL_law_53 : List UInt8 := dkwL_law_53 ++ dktL_law_54
def dkwL_law_52 : List UInt8 := [54, 7, 44, 182, 0, 173, 21, 6, 159, 0, 5, 3, 172, 21, 6, 154, 0, 15, 45, 3, 47, 21, 7, 133]
abbrev dktL_law_52 : List UInt8 := dkwL_law_52 ++ dktL_law_53
def dkwL_law_51 : List UInt8 := [172, 43, 42, 21, 5, 4, 96, 46, 45, 184, 0, 244, 54, 6, 44, 42, 21, 5, 4, 96, 46, 182, 0, 246]
abbrev dktL_law_51 : List UInt8 := dkwL_law_51 ++ dktL_law_52
def dkwL_law_50 : List UInt8 := [21, 7, 133, 148, 153, 0, 5, 3, 172, 167, 7, 211, 43, 182, 0, 240, 44, 182, 0, 243, 159, 7, 200, 3]
abbrev dktL_law_50 : List UInt8 := dkwL_law_50 ++ dktL_law_51
def dkwL_law_49 : List UInt8 := [182, 0, 239, 54, 7, 44, 182, 0, 173, 21, 6, 159, 0, 5, 3, 172, 21, 6, 154, 0, 15, 45, 3, 47]
abbrev dktL_law_49 : List UInt8 := dkwL_law_49 ++ dktL_law_50
def dkwL_law_48 : List UInt8 := [167, 8, 11, 43, 42, 21, 5, 4, 96, 46, 45, 184, 0, 237, 54, 6, 44, 42, 21, 5, 4, 96, 46]
abbrev dktL_law_48 : List UInt8 := dkwL_law_48 ++ dktL_law_49
def dkwL_law_47 : List UInt8 := [21, 6, 159, 0, 5, 3, 172, 21, 6, 154, 0, 15, 45, 3, 47, 21, 7, 133, 148, 153, 0, 5, 3, 172]
abbrev dktL_law_47 : List UInt8 := dkwL_law_47 ++ dktL_law_48
def dkwL_law_46 : List UInt8 := [46, 45, 184, 0, 234, 54, 6, 44, 42, 21, 5, 4, 96, 46, 182, 0, 236, 54, 7, 44, 182, 0, 173]
abbrev dktL_law_46 : List UInt8 := dkwL_law_46 ++ dktL_law_47
def dkwL_law_45 : List UInt8 := [154, 0, 15, 45, 3, 47, 21, 7, 133, 148, 153, 0, 5, 3, 172, 167, 8, 67, 43, 42, 21, 5, 4, 96]
abbrev dktL_law_45 : List UInt8 := dkwL_law_45 ++ dktL_law_46
def dkwL_law_44 : List UInt8 := [21, 5, 4, 96, 46, 182, 0, 233, 54, 7, 44, 182, 0, 173, 21, 6, 159, 0, 5, 3, 172, 21, 6]
abbrev dktL_law_44 : List UInt8 := dkwL_law_44 ++ dktL_law_45
def dkwL_law_43 : List UInt8 := [153, 0, 5, 3, 172, 167, 8, 123, 43, 42, 21, 5, 4, 96, 46, 45, 184, 0, 231, 54, 6, 44, 42]
abbrev dktL_law_43 : List UInt8 := dkwL_law_43 ++ dktL_law_44
def dkwL_law_42 : List UInt8 := [182, 0, 173, 21, 6, 159, 0, 5, 3, 172, 21, 6, 154, 0, 15, 45, 3, 47, 21, 7, 133, 148]
abbrev dktL_law_42 : List UInt8 := dkwL_law_42 ++ dktL_law_43
def dkwL_law_41 : List UInt8 := [184, 0, 228, 54, 6, 44, 42, 21, 5, 4, 96, 46, 42, 21, 5, 5, 96, 46, 182, 0, 230, 54, 7, 44]
abbrev dktL_law_41 : List UInt8 := dkwL_law_41 ++ dktL_law_42
def dkwL_law_40 : List UInt8 := [153, 0, 5, 3, 172, 167, 8, 191, 43, 42, 21, 5, 4, 96, 46, 42, 21, 5, 5, 96, 46, 45]
abbrev dktL_law_40 : List UInt8 := dkwL_law_40 ++ dktL_law_41
def dkwL_law_39 : List UInt8 := [182, 0, 173, 21, 6, 159, 0, 5, 3, 172, 21, 6, 154, 0, 15, 45, 3, 47, 21, 7, 133, 148]
abbrev dktL_law_39 : List UInt8 := dkwL_law_39 ++ dktL_law_40
def dkwL_law_38 : List UInt8 := [184, 0, 225, 54, 6, 44, 42, 21, 5, 4, 96, 46, 42, 21, 5, 5, 96, 46, 182, 0, 227, 54, 7, 44]
abbrev dktL_law_38 : List UInt8 := dkwL_law_38 ++ dktL_law_39
def dkwL_law_37 : List UInt8 := [153, 0, 5, 3, 172, 167, 9, 3, 43, 42, 21, 5, 4, 96, 46, 42, 21, 5, 5, 96, 46, 45]
abbrev dktL_law_37 : List UInt8 := dkwL_law_37 ++ dktL_law_38
def dkwL_law_36 : List UInt8 := [182, 0, 173, 21, 6, 159, 0, 5, 3, 172, 21, 6, 154, 0, 15, 45, 3, 47, 21, 7, 133, 148]
abbrev dktL_law_36 : List UInt8 := dkwL_law_36 ++ dktL_law_37
def dkwL_law_35 : List UInt8 := [184, 0, 222, 54, 6, 44, 42, 21, 5, 4, 96, 46, 42, 21, 5, 5, 96, 46, 182, 0, 224, 54, 7, 44]
abbrev dktL_law_35 : List UInt8 := dkwL_law_35 ++ dktL_law_36
def dkwL_law_34 : List UInt8 := [153, 0, 5, 3, 172, 167, 9, 71, 43, 42, 21, 5, 4, 96, 46, 42, 21, 5, 5, 96, 46, 45]
abbrev dktL_law_34 : List UInt8 := dkwL_law_34 ++ dktL_law_35
def dkwL_law_33 : List UInt8 := [182, 0, 173, 21, 6, 159, 0, 5, 3, 172, 21, 6, 154, 0, 15, 45, 3, 47, 21, 7, 133, 148]
abbrev dktL_law_33 : List UInt8 := dkwL_law_33 ++ dktL_law_34
def dkwL_law_32 : List UInt8 := [184, 0, 219, 54, 6, 44, 42, 21, 5, 4, 96, 46, 42, 21, 5, 5, 96, 46, 182, 0, 221, 54, 7, 44]
abbrev dktL_law_32 : List UInt8 := dkwL_law_32 ++ dktL_law_33
def dkwL_law_31 : List UInt8 := [153, 0, 5, 3, 172, 167, 9, 139, 43, 42, 21, 5, 4, 96, 46, 42, 21, 5, 5, 96, 46, 45]
abbrev dktL_law_31 : List UInt8 := dkwL_law_31 ++ dktL_law_32
def dkwL_law_30 : List UInt8 := [182, 0, 173, 21, 6, 159, 0, 5, 3, 172, 21, 6, 154, 0, 15, 45, 3, 47, 21, 7, 133, 148]
abbrev dktL_law_30 : List UInt8 := dkwL_law_30 ++ dktL_law_31
def dkwL_law_29 : List UInt8 := [184, 0, 216, 54, 6, 44, 42, 21, 5, 4, 96, 46, 42, 21, 5, 5, 96, 46, 182, 0, 218, 54, 7, 44]
abbrev dktL_law_29 : List UInt8 := dkwL_law_29 ++ dktL_law_30
def dkwL_law_28 : List UInt8 := [153, 0, 5, 3, 172, 167, 9, 207, 43, 42, 21, 5, 4, 96, 46, 42, 21, 5, 5, 96, 46, 45]
abbrev dktL_law_28 : List UInt8 := dkwL_law_28 ++ dktL_law_29
def dkwL_law_27 : List UInt8 := [159, 0, 5, 3, 172, 21, 6, 154, 0, 22, 45, 3, 47, 21, 7, 153, 0, 7, 10, 167, 0, 4, 9, 148]
abbrev dktL_law_27 : List UInt8 := dkwL_law_27 ++ dktL_law_28
def dkwL_law_26 : List UInt8 := [21, 5, 4, 96, 46, 42, 21, 5, 5, 96, 46, 182, 0, 215, 54, 7, 44, 182, 0, 173, 21, 6]
abbrev dktL_law_26 : List UInt8 := dkwL_law_26 ++ dktL_law_27
def dkwL_law_25 : List UInt8 := [167, 10, 26, 43, 42, 21, 5, 4, 96, 46, 42, 21, 5, 5, 96, 46, 45, 184, 0, 213, 54, 6, 44, 42]
abbrev dktL_law_25 : List UInt8 := dkwL_law_25 ++ dktL_law_26
def dkwL_law_24 : List UInt8 := [159, 0, 5, 3, 172, 21, 6, 154, 0, 15, 45, 3, 47, 21, 7, 133, 148, 153, 0, 5, 3, 172]
abbrev dktL_law_24 : List UInt8 := dkwL_law_24 ++ dktL_law_25
def dkwL_law_23 : List UInt8 := [21, 5, 4, 96, 46, 42, 21, 5, 5, 96, 46, 182, 0, 212, 54, 7, 44, 182, 0, 173, 21, 6]
abbrev dktL_law_23 : List UInt8 := dkwL_law_23 ++ dktL_law_24
def dkwL_law_22 : List UInt8 := [167, 10, 94, 43, 42, 21, 5, 4, 96, 46, 42, 21, 5, 5, 96, 46, 45, 184, 0, 209, 54, 6, 44, 42]
abbrev dktL_law_22 : List UInt8 := dkwL_law_22 ++ dktL_law_23
def dkwL_law_21 : List UInt8 := [21, 6, 159, 0, 5, 3, 172, 21, 6, 154, 0, 15, 45, 3, 47, 21, 7, 133, 148, 153, 0, 5, 3, 172]
abbrev dktL_law_21 : List UInt8 := dkwL_law_21 ++ dktL_law_22
def dkwL_law_20 : List UInt8 := [46, 45, 184, 0, 206, 54, 6, 44, 42, 21, 5, 4, 96, 46, 182, 0, 208, 54, 7, 44, 182, 0, 173]
abbrev dktL_law_20 : List UInt8 := dkwL_law_20 ++ dktL_law_21
def dkwL_law_19 : List UInt8 := [154, 0, 15, 45, 3, 47, 21, 7, 133, 148, 153, 0, 5, 3, 172, 167, 10, 150, 43, 42, 21, 5, 4, 96]
abbrev dktL_law_19 : List UInt8 := dkwL_law_19 ++ dktL_law_20
def dkwL_law_18 : List UInt8 := [21, 5, 4, 96, 46, 182, 0, 205, 54, 7, 44, 182, 0, 173, 21, 6, 159, 0, 5, 3, 172, 21, 6]
abbrev dktL_law_18 : List UInt8 := dkwL_law_18 ++ dktL_law_19
def dkwL_law_17 : List UInt8 := [148, 153, 0, 5, 3, 172, 167, 10, 206, 43, 42, 21, 5, 4, 96, 46, 45, 184, 0, 203, 54, 6, 44, 42]
abbrev dktL_law_17 : List UInt8 := dkwL_law_17 ++ dktL_law_18
def dkwL_law_16 : List UInt8 := [54, 7, 44, 182, 0, 173, 21, 6, 159, 0, 5, 3, 172, 21, 6, 154, 0, 15, 45, 3, 47, 21, 7, 133]
abbrev dktL_law_16 : List UInt8 := dkwL_law_16 ++ dktL_law_17
def dkwL_law_15 : List UInt8 := [4, 96, 46, 42, 21, 5, 5, 96, 46, 42, 21, 5, 6, 96, 46, 42, 21, 5, 7, 96, 46, 182, 0, 202]
abbrev dktL_law_15 : List UInt8 := dkwL_law_15 ++ dktL_law_16
def dkwL_law_14 : List UInt8 := [96, 46, 42, 21, 5, 6, 96, 46, 42, 21, 5, 7, 96, 46, 45, 184, 0, 199, 54, 6, 44, 42, 21, 5]
abbrev dktL_law_14 : List UInt8 := dkwL_law_14 ++ dktL_law_15
def dkwL_law_13 : List UInt8 := [47, 21, 7, 133, 148, 153, 0, 5, 3, 172, 167, 11, 42, 43, 42, 21, 5, 4, 96, 46, 42, 21, 5, 5]
abbrev dktL_law_13 : List UInt8 := dkwL_law_13 ++ dktL_law_14
def dkwL_law_12 : List UInt8 := [46, 182, 0, 198, 54, 7, 44, 182, 0, 173, 21, 6, 159, 0, 5, 3, 172, 21, 6, 154, 0, 15, 45, 3]
abbrev dktL_law_12 : List UInt8 := dkwL_law_12 ++ dktL_law_13
def dkwL_law_11 : List UInt8 := [159, 11, 100, 3, 172, 43, 42, 21, 5, 4, 96, 46, 45, 184, 0, 196, 54, 6, 44, 42, 21, 5, 4, 96]
abbrev dktL_law_11 : List UInt8 := dkwL_law_11 ++ dktL_law_12
def dkwL_law_10 : List UInt8 := [172, 43, 182, 0, 188, 44, 182, 0, 191, 159, 11, 113, 3, 172, 43, 182, 0, 192, 44, 182, 0, 195]
abbrev dktL_law_10 : List UInt8 := dkwL_law_10 ++ dktL_law_11
def dkwL_law_9 : List UInt8 := [182, 0, 180, 44, 182, 0, 183, 159, 11, 139, 3, 172, 43, 182, 0, 184, 44, 182, 0, 187, 159, 11, 126, 3]
abbrev dktL_law_9 : List UInt8 := dkwL_law_9 ++ dktL_law_10
def dkwL_law_8 : List UInt8 := [148, 153, 0, 5, 3, 172, 167, 11, 163, 43, 182, 0, 176, 44, 182, 0, 179, 159, 11, 152, 3, 172, 43]
abbrev dktL_law_8 : List UInt8 := dkwL_law_8 ++ dktL_law_9
def dkwL_law_7 : List UInt8 := [54, 7, 44, 182, 0, 173, 21, 6, 159, 0, 5, 3, 172, 21, 6, 154, 0, 15, 45, 3, 47, 21, 7, 133]
abbrev dktL_law_7 : List UInt8 := dkwL_law_7 ++ dktL_law_8
def dkwL_law_6 : List UInt8 := [172, 43, 42, 21, 5, 4, 96, 46, 45, 184, 0, 167, 54, 6, 44, 42, 21, 5, 4, 96, 46, 182, 0, 172]
abbrev dktL_law_6 : List UInt8 := dkwL_law_6 ++ dktL_law_7
def dkwL_law_5 : List UInt8 := [21, 5, 6, 96, 46, 42, 21, 5, 7, 96, 46, 42, 21, 5, 8, 96, 46, 182, 0, 166, 159, 11, 221, 3]
abbrev dktL_law_5 : List UInt8 := dkwL_law_5 ++ dktL_law_6
def dkwL_law_4 : List UInt8 := [46, 42, 21, 5, 8, 96, 46, 182, 0, 162, 44, 42, 21, 5, 4, 96, 46, 42, 21, 5, 5, 96, 46, 42]
abbrev dktL_law_4 : List UInt8 := dkwL_law_4 ++ dktL_law_5
def dkwL_law_3 : List UInt8 := [43, 42, 21, 5, 4, 96, 46, 42, 21, 5, 5, 96, 46, 42, 21, 5, 6, 96, 46, 42, 21, 5, 7, 96]
abbrev dktL_law_3 : List UInt8 := dkwL_law_3 ++ dktL_law_4
def dkwL_law_2 : List UInt8 := [170, 0, 0, 0, 0, 13, 12, 0, 0, 0, 0, 0, 0, 0, 54, 0, 0, 0, 235, 0, 0, 1, 52, 0, 0, 1, 108, 0, 0, 1, 121, 0, 0, 1, 134, 0, 0, 1, 147, 0, 0, 1, 160, 0, 0, 1, 173, 0, 0, 1, 229, 0, 0, 2, 65, 0, 0, 2, 121, 0, 0, 2, 177, 0, 0, 2, 245, 0, 0, 3, 64, 0, 0, 3, 132, 0, 0, 3, 200, 0, 0, 4, 12, 0, 0, 4, 80, 0, 0, 4, 148, 0, 0, 4, 204, 0, 0, 5, 4, 0, 0, 5, 60, 0, 0, 5, 73, 0, 0, 5, 129, 0, 0, 5, 185, 0, 0, 5, 241, 0, 0, 6, 41, 0, 0, 6, 97, 0, 0, 6, 153, 0, 0, 6, 209, 0, 0, 7, 9, 0, 0, 7, 65, 0, 0, 7, 121, 0, 0, 7, 134, 0, 0, 7, 147, 0, 0, 7, 213, 0, 0, 8, 35, 0, 0, 8, 153, 0, 0, 9, 15, 0, 0, 9, 133, 0, 0, 9, 177, 0, 0, 9, 221, 0, 0, 10, 33, 0, 0, 10, 89, 0, 0, 10, 145, 0, 0, 10, 201, 0, 0, 11, 63, 0, 0, 11, 119, 0, 0, 11, 187, 0, 0, 11, 255, 0, 0, 12, 43, 0, 0, 12, 99, 0, 0, 12, 143, 0, 0, 12, 156, 0, 0, 12, 212]
abbrev dktL_law_2 : List UInt8 := dkwL_law_2 ++ dktL_law_3
def dkwL_law_1 : List UInt8 := [58, 4, 3, 54, 5, 21, 5, 42, 190, 16, 7, 100, 163, 13, 28, 42, 21, 5, 46, 16, 63, 126]
abbrev dktL_law_1 : List UInt8 := dkwL_law_1 ++ dktL_law_2
def dkwL_law_0 : List UInt8 := [187, 0, 8, 89, 183, 0, 158, 76, 187, 0, 159, 89, 183, 0, 161, 77, 4, 188, 11, 78, 4, 188, 7]
abbrev dktL_law_0 : List UInt8 := dkwL_law_0 ++ dktL_law_1
theorem dksL_law_0 : cL_law.data.toList.drop 0 = dktL_law_0 := by decide +kernel
theorem dksL_law_1 : cL_law.data.toList.drop 23 = dktL_law_1 := dk_seg dksL_law_0 23 rfl rfl
theorem dksL_law_2 : cL_law.data.toList.drop 45 = dktL_law_2 := dk_seg dksL_law_1 22 rfl rfl
theorem dksL_law_3 : cL_law.data.toList.drop 280 = dktL_law_3 := dk_seg dksL_law_2 235 rfl rfl
theorem dksL_law_4 : cL_law.data.toList.drop 304 = dktL_law_4 := dk_seg dksL_law_3 24 rfl rfl
theorem dksL_law_5 : cL_law.data.toList.drop 328 = dktL_law_5 := dk_seg dksL_law_4 24 rfl rfl
theorem dksL_law_6 : cL_law.data.toList.drop 352 = dktL_law_6 := dk_seg dksL_law_5 24 rfl rfl
theorem dksL_law_7 : cL_law.data.toList.drop 376 = dktL_law_7 := dk_seg dksL_law_6 24 rfl rfl
theorem dksL_law_8 : cL_law.data.toList.drop 400 = dktL_law_8 := dk_seg dksL_law_7 24 rfl rfl
theorem dksL_law_9 : cL_law.data.toList.drop 423 = dktL_law_9 := dk_seg dksL_law_8 23 rfl rfl
theorem dksL_law_10 : cL_law.data.toList.drop 447 = dktL_law_10 := dk_seg dksL_law_9 24 rfl rfl
theorem dksL_law_11 : cL_law.data.toList.drop 469 = dktL_law_11 := dk_seg dksL_law_10 22 rfl rfl
theorem dksL_law_12 : cL_law.data.toList.drop 493 = dktL_law_12 := dk_seg dksL_law_11 24 rfl rfl
theorem dksL_law_13 : cL_law.data.toList.drop 517 = dktL_law_13 := dk_seg dksL_law_12 24 rfl rfl
theorem dksL_law_14 : cL_law.data.toList.drop 541 = dktL_law_14 := dk_seg dksL_law_13 24 rfl rfl
theorem dksL_law_15 : cL_law.data.toList.drop 565 = dktL_law_15 := dk_seg dksL_law_14 24 rfl rfl
theorem dksL_law_16 : cL_law.data.toList.drop 589 = dktL_law_16 := dk_seg dksL_law_15 24 rfl rfl
theorem dksL_law_17 : cL_law.data.toList.drop 613 = dktL_law_17 := dk_seg dksL_law_16 24 rfl rfl
theorem dksL_law_18 : cL_law.data.toList.drop 637 = dktL_law_18 := dk_seg dksL_law_17 24 rfl rfl
theorem dksL_law_19 : cL_law.data.toList.drop 660 = dktL_law_19 := dk_seg dksL_law_18 23 rfl rfl
theorem dksL_law_20 : cL_law.data.toList.drop 684 = dktL_law_20 := dk_seg dksL_law_19 24 rfl rfl
theorem dksL_law_21 : cL_law.data.toList.drop 707 = dktL_law_21 := dk_seg dksL_law_20 23 rfl rfl
theorem dksL_law_22 : cL_law.data.toList.drop 731 = dktL_law_22 := dk_seg dksL_law_21 24 rfl rfl
theorem dksL_law_23 : cL_law.data.toList.drop 755 = dktL_law_23 := dk_seg dksL_law_22 24 rfl rfl
theorem dksL_law_24 : cL_law.data.toList.drop 777 = dktL_law_24 := dk_seg dksL_law_23 22 rfl rfl
theorem dksL_law_25 : cL_law.data.toList.drop 799 = dktL_law_25 := dk_seg dksL_law_24 22 rfl rfl
theorem dksL_law_26 : cL_law.data.toList.drop 823 = dktL_law_26 := dk_seg dksL_law_25 24 rfl rfl
theorem dksL_law_27 : cL_law.data.toList.drop 845 = dktL_law_27 := dk_seg dksL_law_26 22 rfl rfl
theorem dksL_law_28 : cL_law.data.toList.drop 869 = dktL_law_28 := dk_seg dksL_law_27 24 rfl rfl
theorem dksL_law_29 : cL_law.data.toList.drop 891 = dktL_law_29 := dk_seg dksL_law_28 22 rfl rfl
theorem dksL_law_30 : cL_law.data.toList.drop 915 = dktL_law_30 := dk_seg dksL_law_29 24 rfl rfl
theorem dksL_law_31 : cL_law.data.toList.drop 937 = dktL_law_31 := dk_seg dksL_law_30 22 rfl rfl
theorem dksL_law_32 : cL_law.data.toList.drop 959 = dktL_law_32 := dk_seg dksL_law_31 22 rfl rfl
theorem dksL_law_33 : cL_law.data.toList.drop 983 = dktL_law_33 := dk_seg dksL_law_32 24 rfl rfl
theorem dksL_law_34 : cL_law.data.toList.drop 1005 = dktL_law_34 := dk_seg dksL_law_33 22 rfl rfl
theorem dksL_law_35 : cL_law.data.toList.drop 1027 = dktL_law_35 := dk_seg dksL_law_34 22 rfl rfl
theorem dksL_law_36 : cL_law.data.toList.drop 1051 = dktL_law_36 := dk_seg dksL_law_35 24 rfl rfl
theorem dksL_law_37 : cL_law.data.toList.drop 1073 = dktL_law_37 := dk_seg dksL_law_36 22 rfl rfl
theorem dksL_law_38 : cL_law.data.toList.drop 1095 = dktL_law_38 := dk_seg dksL_law_37 22 rfl rfl
theorem dksL_law_39 : cL_law.data.toList.drop 1119 = dktL_law_39 := dk_seg dksL_law_38 24 rfl rfl
theorem dksL_law_40 : cL_law.data.toList.drop 1141 = dktL_law_40 := dk_seg dksL_law_39 22 rfl rfl
theorem dksL_law_41 : cL_law.data.toList.drop 1163 = dktL_law_41 := dk_seg dksL_law_40 22 rfl rfl
theorem dksL_law_42 : cL_law.data.toList.drop 1187 = dktL_law_42 := dk_seg dksL_law_41 24 rfl rfl
theorem dksL_law_43 : cL_law.data.toList.drop 1209 = dktL_law_43 := dk_seg dksL_law_42 22 rfl rfl
theorem dksL_law_44 : cL_law.data.toList.drop 1232 = dktL_law_44 := dk_seg dksL_law_43 23 rfl rfl
theorem dksL_law_45 : cL_law.data.toList.drop 1255 = dktL_law_45 := dk_seg dksL_law_44 23 rfl rfl
theorem dksL_law_46 : cL_law.data.toList.drop 1279 = dktL_law_46 := dk_seg dksL_law_45 24 rfl rfl
theorem dksL_law_47 : cL_law.data.toList.drop 1302 = dktL_law_47 := dk_seg dksL_law_46 23 rfl rfl
theorem dksL_law_48 : cL_law.data.toList.drop 1326 = dktL_law_48 := dk_seg dksL_law_47 24 rfl rfl
theorem dksL_law_49 : cL_law.data.toList.drop 1349 = dktL_law_49 := dk_seg dksL_law_48 23 rfl rfl
theorem dksL_law_50 : cL_law.data.toList.drop 1373 = dktL_law_50 := dk_seg dksL_law_49 24 rfl rfl
theorem dksL_law_51 : cL_law.data.toList.drop 1397 = dktL_law_51 := dk_seg dksL_law_50 24 rfl rfl
theorem dksL_law_52 : cL_law.data.toList.drop 1421 = dktL_law_52 := dk_seg dksL_law_51 24 rfl rfl
theorem dksL_law_53 : cL_law.data.toList.drop 1445 = dktL_law_53 := dk_seg dksL_law_52 24 rfl rfl
theorem dksL_law_54 : cL_law.data.toList.drop 1469 = dktL_law_54 := dk_seg dksL_law_53 24 rfl rfl
theorem dksL_law_55 : cL_law.data.toList.drop 1492 = dktL_law_55 := dk_seg dksL_law_54 23 rfl rfl
theorem dksL_law_56 : cL_law.data.toList.drop 1516 = dktL_law_56 := dk_seg dksL_law_55 24 rfl rfl
theorem dksL_law_57 : cL_law.data.toList.drop 1539 = dktL_law_57 := dk_seg dksL_law_56 23 rfl rfl
theorem dksL_law_58 : cL_law.data.toList.drop 1563 = dktL_law_58 := dk_seg dksL_law_57 24 rfl rfl
theorem dksL_law_59 : cL_law.data.toList.drop 1586 = dktL_law_59 := dk_seg dksL_law_58 23 rfl rfl
theorem dksL_law_60 : cL_law.data.toList.drop 1610 = dktL_law_60 := dk_seg dksL_law_59 24 rfl rfl
theorem dksL_law_61 : cL_law.data.toList.drop 1633 = dktL_law_61 := dk_seg dksL_law_60 23 rfl rfl
theorem dksL_law_62 : cL_law.data.toList.drop 1657 = dktL_law_62 := dk_seg dksL_law_61 24 rfl rfl
theorem dksL_law_63 : cL_law.data.toList.drop 1680 = dktL_law_63 := dk_seg dksL_law_62 23 rfl rfl
theorem dksL_law_64 : cL_law.data.toList.drop 1704 = dktL_law_64 := dk_seg dksL_law_63 24 rfl rfl
theorem dksL_law_65 : cL_law.data.toList.drop 1726 = dktL_law_65 := dk_seg dksL_law_64 22 rfl rfl
theorem dksL_law_66 : cL_law.data.toList.drop 1749 = dktL_law_66 := dk_seg dksL_law_65 23 rfl rfl
theorem dksL_law_67 : cL_law.data.toList.drop 1772 = dktL_law_67 := dk_seg dksL_law_66 23 rfl rfl
theorem dksL_law_68 : cL_law.data.toList.drop 1796 = dktL_law_68 := dk_seg dksL_law_67 24 rfl rfl
theorem dksL_law_69 : cL_law.data.toList.drop 1819 = dktL_law_69 := dk_seg dksL_law_68 23 rfl rfl
theorem dksL_law_70 : cL_law.data.toList.drop 1843 = dktL_law_70 := dk_seg dksL_law_69 24 rfl rfl
theorem dksL_law_71 : cL_law.data.toList.drop 1866 = dktL_law_71 := dk_seg dksL_law_70 23 rfl rfl
theorem dksL_law_72 : cL_law.data.toList.drop 1890 = dktL_law_72 := dk_seg dksL_law_71 24 rfl rfl
theorem dksL_law_73 : cL_law.data.toList.drop 1913 = dktL_law_73 := dk_seg dksL_law_72 23 rfl rfl
theorem dksL_law_74 : cL_law.data.toList.drop 1937 = dktL_law_74 := dk_seg dksL_law_73 24 rfl rfl
theorem dksL_law_75 : cL_law.data.toList.drop 1959 = dktL_law_75 := dk_seg dksL_law_74 22 rfl rfl
theorem dksL_law_76 : cL_law.data.toList.drop 1983 = dktL_law_76 := dk_seg dksL_law_75 24 rfl rfl
theorem dksL_law_77 : cL_law.data.toList.drop 2007 = dktL_law_77 := dk_seg dksL_law_76 24 rfl rfl
theorem dksL_law_78 : cL_law.data.toList.drop 2031 = dktL_law_78 := dk_seg dksL_law_77 24 rfl rfl
theorem dksL_law_79 : cL_law.data.toList.drop 2055 = dktL_law_79 := dk_seg dksL_law_78 24 rfl rfl
theorem dksL_law_80 : cL_law.data.toList.drop 2077 = dktL_law_80 := dk_seg dksL_law_79 22 rfl rfl
theorem dksL_law_81 : cL_law.data.toList.drop 2100 = dktL_law_81 := dk_seg dksL_law_80 23 rfl rfl
theorem dksL_law_82 : cL_law.data.toList.drop 2124 = dktL_law_82 := dk_seg dksL_law_81 24 rfl rfl
theorem dksL_law_83 : cL_law.data.toList.drop 2148 = dktL_law_83 := dk_seg dksL_law_82 24 rfl rfl
theorem dksL_law_84 : cL_law.data.toList.drop 2172 = dktL_law_84 := dk_seg dksL_law_83 24 rfl rfl
theorem dksL_law_85 : cL_law.data.toList.drop 2196 = dktL_law_85 := dk_seg dksL_law_84 24 rfl rfl
theorem dksL_law_86 : cL_law.data.toList.drop 2219 = dktL_law_86 := dk_seg dksL_law_85 23 rfl rfl
theorem dksL_law_87 : cL_law.data.toList.drop 2243 = dktL_law_87 := dk_seg dksL_law_86 24 rfl rfl
theorem dksL_law_88 : cL_law.data.toList.drop 2266 = dktL_law_88 := dk_seg dksL_law_87 23 rfl rfl
theorem dksL_law_89 : cL_law.data.toList.drop 2290 = dktL_law_89 := dk_seg dksL_law_88 24 rfl rfl
theorem dksL_law_90 : cL_law.data.toList.drop 2314 = dktL_law_90 := dk_seg dksL_law_89 24 rfl rfl
theorem dksL_law_91 : cL_law.data.toList.drop 2337 = dktL_law_91 := dk_seg dksL_law_90 23 rfl rfl
theorem dksL_law_92 : cL_law.data.toList.drop 2361 = dktL_law_92 := dk_seg dksL_law_91 24 rfl rfl
theorem dksL_law_93 : cL_law.data.toList.drop 2384 = dktL_law_93 := dk_seg dksL_law_92 23 rfl rfl
theorem dksL_law_94 : cL_law.data.toList.drop 2408 = dktL_law_94 := dk_seg dksL_law_93 24 rfl rfl
theorem dksL_law_95 : cL_law.data.toList.drop 2432 = dktL_law_95 := dk_seg dksL_law_94 24 rfl rfl
theorem dksL_law_96 : cL_law.data.toList.drop 2455 = dktL_law_96 := dk_seg dksL_law_95 23 rfl rfl
theorem dksL_law_97 : cL_law.data.toList.drop 2479 = dktL_law_97 := dk_seg dksL_law_96 24 rfl rfl
theorem dksL_law_98 : cL_law.data.toList.drop 2501 = dktL_law_98 := dk_seg dksL_law_97 22 rfl rfl
theorem dksL_law_99 : cL_law.data.toList.drop 2523 = dktL_law_99 := dk_seg dksL_law_98 22 rfl rfl
theorem dksL_law_100 : cL_law.data.toList.drop 2545 = dktL_law_100 := dk_seg dksL_law_99 22 rfl rfl
theorem dksL_law_101 : cL_law.data.toList.drop 2567 = dktL_law_101 := dk_seg dksL_law_100 22 rfl rfl
theorem dksL_law_102 : cL_law.data.toList.drop 2591 = dktL_law_102 := dk_seg dksL_law_101 24 rfl rfl
theorem dksL_law_103 : cL_law.data.toList.drop 2613 = dktL_law_103 := dk_seg dksL_law_102 22 rfl rfl
theorem dksL_law_104 : cL_law.data.toList.drop 2635 = dktL_law_104 := dk_seg dksL_law_103 22 rfl rfl
theorem dksL_law_105 : cL_law.data.toList.drop 2658 = dktL_law_105 := dk_seg dksL_law_104 23 rfl rfl
theorem dksL_law_106 : cL_law.data.toList.drop 2682 = dktL_law_106 := dk_seg dksL_law_105 24 rfl rfl
theorem dksL_law_107 : cL_law.data.toList.drop 2705 = dktL_law_107 := dk_seg dksL_law_106 23 rfl rfl
theorem dksL_law_108 : cL_law.data.toList.drop 2729 = dktL_law_108 := dk_seg dksL_law_107 24 rfl rfl
theorem dksL_law_109 : cL_law.data.toList.drop 2752 = dktL_law_109 := dk_seg dksL_law_108 23 rfl rfl
theorem dksL_law_110 : cL_law.data.toList.drop 2776 = dktL_law_110 := dk_seg dksL_law_109 24 rfl rfl
theorem dksL_law_111 : cL_law.data.toList.drop 2798 = dktL_law_111 := dk_seg dksL_law_110 22 rfl rfl
theorem dksL_law_112 : cL_law.data.toList.drop 2822 = dktL_law_112 := dk_seg dksL_law_111 24 rfl rfl
theorem dksL_law_113 : cL_law.data.toList.drop 2845 = dktL_law_113 := dk_seg dksL_law_112 23 rfl rfl
theorem dksL_law_114 : cL_law.data.toList.drop 2869 = dktL_law_114 := dk_seg dksL_law_113 24 rfl rfl
theorem dksL_law_115 : cL_law.data.toList.drop 2893 = dktL_law_115 := dk_seg dksL_law_114 24 rfl rfl
theorem dksL_law_116 : cL_law.data.toList.drop 2916 = dktL_law_116 := dk_seg dksL_law_115 23 rfl rfl
theorem dksL_law_117 : cL_law.data.toList.drop 2939 = dktL_law_117 := dk_seg dksL_law_116 23 rfl rfl
theorem dksL_law_118 : cL_law.data.toList.drop 2962 = dktL_law_118 := dk_seg dksL_law_117 23 rfl rfl
theorem dksL_law_119 : cL_law.data.toList.drop 2986 = dktL_law_119 := dk_seg dksL_law_118 24 rfl rfl
theorem dksL_law_120 : cL_law.data.toList.drop 3010 = dktL_law_120 := dk_seg dksL_law_119 24 rfl rfl
theorem dksL_law_121 : cL_law.data.toList.drop 3034 = dktL_law_121 := dk_seg dksL_law_120 24 rfl rfl
theorem dksL_law_122 : cL_law.data.toList.drop 3058 = dktL_law_122 := dk_seg dksL_law_121 24 rfl rfl
theorem dksL_law_123 : cL_law.data.toList.drop 3080 = dktL_law_123 := dk_seg dksL_law_122 22 rfl rfl
theorem dksL_law_124 : cL_law.data.toList.drop 3104 = dktL_law_124 := dk_seg dksL_law_123 24 rfl rfl
theorem dksL_law_125 : cL_law.data.toList.drop 3127 = dktL_law_125 := dk_seg dksL_law_124 23 rfl rfl
theorem dksL_law_126 : cL_law.data.toList.drop 3151 = dktL_law_126 := dk_seg dksL_law_125 24 rfl rfl
theorem dksL_law_127 : cL_law.data.toList.drop 3175 = dktL_law_127 := dk_seg dksL_law_126 24 rfl rfl
theorem dksL_law_128 : cL_law.data.toList.drop 3198 = dktL_law_128 := dk_seg dksL_law_127 23 rfl rfl
theorem dksL_law_129 : cL_law.data.toList.drop 3221 = dktL_law_129 := dk_seg dksL_law_128 23 rfl rfl
theorem dksL_law_130 : cL_law.data.toList.drop 3245 = dktL_law_130 := dk_seg dksL_law_129 24 rfl rfl
theorem dksL_law_131 : cL_law.data.toList.drop 3268 = dktL_law_131 := dk_seg dksL_law_130 23 rfl rfl
theorem dksL_law_132 : cL_law.data.toList.drop 3292 = dktL_law_132 := dk_seg dksL_law_131 24 rfl rfl
theorem dksL_law_133 : cL_law.data.toList.drop 3316 = dktL_law_133 := dk_seg dksL_law_132 24 rfl rfl
theorem dksL_law_134 : cL_law.data.toList.drop 3340 = dktL_law_134 := dk_seg dksL_law_133 24 rfl rfl
theorem dksL_law_135 : cL_law.data.toList.drop 3364 = dktL_law_135 := dk_seg dksL_law_134 24 rfl rfl
theorem dksL_law_136 : cL_law.data.toList.drop 3388 = dktL_law_136 := dk_seg dksL_law_135 24 rfl rfl
theorem dL_law_0 : decode cL_law 0 = .ok (.new 8, 3) := dk_187 0 8 (dk_at dksL_law_0 0 rfl rfl)
theorem dL_law_3 : decode cL_law 3 = .ok (.dup, 1) := dk_89 (dk_at dksL_law_0 3 rfl rfl)
theorem dL_law_4 : decode cL_law 4 = .ok (.invokespecial 158, 3) := dk_183 0 158 (dk_at dksL_law_0 4 rfl rfl)
theorem dL_law_7 : decode cL_law 7 = .ok (.astore_n 1, 1) := dk_76 (dk_at dksL_law_0 7 rfl rfl)
theorem dL_law_8 : decode cL_law 8 = .ok (.new 159, 3) := dk_187 0 159 (dk_at dksL_law_0 8 rfl rfl)
theorem dL_law_11 : decode cL_law 11 = .ok (.dup, 1) := dk_89 (dk_at dksL_law_0 11 rfl rfl)
theorem dL_law_12 : decode cL_law 12 = .ok (.invokespecial 161, 3) := dk_183 0 161 (dk_at dksL_law_0 12 rfl rfl)
theorem dL_law_15 : decode cL_law 15 = .ok (.astore_n 2, 1) := dk_77 (dk_at dksL_law_0 15 rfl rfl)
theorem dL_law_16 : decode cL_law 16 = .ok (.iconst 1, 1) := dk_4 (dk_at dksL_law_0 16 rfl rfl)
theorem dL_law_17 : decode cL_law 17 = .ok (.newarray .long, 2) := dk_188_11 (dk_at dksL_law_0 17 rfl rfl)
theorem dL_law_19 : decode cL_law 19 = .ok (.astore_n 3, 1) := dk_78 (dk_at dksL_law_0 19 rfl rfl)
theorem dL_law_20 : decode cL_law 20 = .ok (.iconst 1, 1) := dk_4 (dk_at dksL_law_0 20 rfl rfl)
theorem dL_law_21 : decode cL_law 21 = .ok (.newarray .double, 2) := dk_188_7 (dk_at dksL_law_0 21 rfl rfl)
theorem dL_law_23 : decode cL_law 23 = .ok (.astore 4, 2) := dk_58 4 (dk_at dksL_law_1 0 rfl rfl)
theorem dL_law_25 : decode cL_law 25 = .ok (.iconst 0, 1) := dk_3 (dk_at dksL_law_1 2 rfl rfl)
theorem dL_law_26 : decode cL_law 26 = .ok (.istore 5, 2) := dk_54 5 (dk_at dksL_law_1 3 rfl rfl)
theorem dL_law_28 : decode cL_law 28 = .ok (.iload 5, 2) := dk_21 5 (dk_at dksL_law_1 5 rfl rfl)
theorem dL_law_30 : decode cL_law 30 = .ok (.aload_n 0, 1) := dk_42 (dk_at dksL_law_1 7 rfl rfl)
theorem dL_law_31 : decode cL_law 31 = .ok (.arraylength, 1) := dk_190 (dk_at dksL_law_1 8 rfl rfl)
theorem dL_law_32 : decode cL_law 32 = .ok (.bipush 7, 2) := dk_16 7 (dk_at dksL_law_1 9 rfl rfl)
theorem dL_law_34 : decode cL_law 34 = .ok (.isub, 1) := dk_100 (dk_at dksL_law_1 11 rfl rfl)
theorem dL_law_35 : decode cL_law 35 = .ok (.if_icmp .gt 3356, 3) := dk_163 13 28 (dk_at dksL_law_1 12 rfl rfl)
theorem dL_law_38 : decode cL_law 38 = .ok (.aload_n 0, 1) := dk_42 (dk_at dksL_law_1 15 rfl rfl)
theorem dL_law_39 : decode cL_law 39 = .ok (.iload 5, 2) := dk_21 5 (dk_at dksL_law_1 16 rfl rfl)
theorem dL_law_41 : decode cL_law 41 = .ok (.iaload, 1) := dk_46 (dk_at dksL_law_1 18 rfl rfl)
theorem dL_law_42 : decode cL_law 42 = .ok (.bipush 63, 2) := dk_16 63 (dk_at dksL_law_1 19 rfl rfl)
theorem dL_law_44 : decode cL_law 44 = .ok (.iand, 1) := dk_126 (dk_at dksL_law_1 21 rfl rfl)
theorem dL_law_45 : decode cL_law 45 = .ok (.tableswitch 3340 0 54 #[235, 308, 364, 377, 390, 403, 416, 429, 485, 577, 633, 689, 757, 832, 900, 968, 1036, 1104, 1172, 1228, 1284, 1340, 1353, 1409, 1465, 1521, 1577, 1633, 1689, 1745, 1801, 1857, 1913, 1926, 1939, 2005, 2083, 2201, 2319, 2437, 2481, 2525, 2593, 2649, 2705, 2761, 2879, 2935, 3003, 3071, 3115, 3171, 3215, 3228, 3284], 235) := by decide +kernel
theorem dL_law_280 : decode cL_law 280 = .ok (.aload_n 1, 1) := dk_43 (dk_at dksL_law_3 0 rfl rfl)
theorem dL_law_281 : decode cL_law 281 = .ok (.aload_n 0, 1) := dk_42 (dk_at dksL_law_3 1 rfl rfl)
theorem dL_law_282 : decode cL_law 282 = .ok (.iload 5, 2) := dk_21 5 (dk_at dksL_law_3 2 rfl rfl)
theorem dL_law_284 : decode cL_law 284 = .ok (.iconst 1, 1) := dk_4 (dk_at dksL_law_3 4 rfl rfl)
theorem dL_law_285 : decode cL_law 285 = .ok (.iadd, 1) := dk_96 (dk_at dksL_law_3 5 rfl rfl)
theorem dL_law_286 : decode cL_law 286 = .ok (.iaload, 1) := dk_46 (dk_at dksL_law_3 6 rfl rfl)
theorem dL_law_287 : decode cL_law 287 = .ok (.aload_n 0, 1) := dk_42 (dk_at dksL_law_3 7 rfl rfl)
theorem dL_law_288 : decode cL_law 288 = .ok (.iload 5, 2) := dk_21 5 (dk_at dksL_law_3 8 rfl rfl)
theorem dL_law_290 : decode cL_law 290 = .ok (.iconst 2, 1) := dk_5 (dk_at dksL_law_3 10 rfl rfl)
theorem dL_law_291 : decode cL_law 291 = .ok (.iadd, 1) := dk_96 (dk_at dksL_law_3 11 rfl rfl)
theorem dL_law_292 : decode cL_law 292 = .ok (.iaload, 1) := dk_46 (dk_at dksL_law_3 12 rfl rfl)
theorem dL_law_293 : decode cL_law 293 = .ok (.aload_n 0, 1) := dk_42 (dk_at dksL_law_3 13 rfl rfl)
theorem dL_law_294 : decode cL_law 294 = .ok (.iload 5, 2) := dk_21 5 (dk_at dksL_law_3 14 rfl rfl)
theorem dL_law_296 : decode cL_law 296 = .ok (.iconst 3, 1) := dk_6 (dk_at dksL_law_3 16 rfl rfl)
theorem dL_law_297 : decode cL_law 297 = .ok (.iadd, 1) := dk_96 (dk_at dksL_law_3 17 rfl rfl)
theorem dL_law_298 : decode cL_law 298 = .ok (.iaload, 1) := dk_46 (dk_at dksL_law_3 18 rfl rfl)
theorem dL_law_299 : decode cL_law 299 = .ok (.aload_n 0, 1) := dk_42 (dk_at dksL_law_3 19 rfl rfl)
theorem dL_law_300 : decode cL_law 300 = .ok (.iload 5, 2) := dk_21 5 (dk_at dksL_law_3 20 rfl rfl)
theorem dL_law_302 : decode cL_law 302 = .ok (.iconst 4, 1) := dk_7 (dk_at dksL_law_3 22 rfl rfl)
theorem dL_law_303 : decode cL_law 303 = .ok (.iadd, 1) := dk_96 (dk_at dksL_law_3 23 rfl rfl)
theorem dL_law_304 : decode cL_law 304 = .ok (.iaload, 1) := dk_46 (dk_at dksL_law_4 0 rfl rfl)
theorem dL_law_305 : decode cL_law 305 = .ok (.aload_n 0, 1) := dk_42 (dk_at dksL_law_4 1 rfl rfl)
theorem dL_law_306 : decode cL_law 306 = .ok (.iload 5, 2) := dk_21 5 (dk_at dksL_law_4 2 rfl rfl)
theorem dL_law_308 : decode cL_law 308 = .ok (.iconst 5, 1) := dk_8 (dk_at dksL_law_4 4 rfl rfl)
theorem dL_law_309 : decode cL_law 309 = .ok (.iadd, 1) := dk_96 (dk_at dksL_law_4 5 rfl rfl)
theorem dL_law_310 : decode cL_law 310 = .ok (.iaload, 1) := dk_46 (dk_at dksL_law_4 6 rfl rfl)
theorem dL_law_311 : decode cL_law 311 = .ok (.invokevirtual 162, 3) := dk_182 0 162 (dk_at dksL_law_4 7 rfl rfl)
theorem dL_law_314 : decode cL_law 314 = .ok (.aload_n 2, 1) := dk_44 (dk_at dksL_law_4 10 rfl rfl)
theorem dL_law_315 : decode cL_law 315 = .ok (.aload_n 0, 1) := dk_42 (dk_at dksL_law_4 11 rfl rfl)
theorem dL_law_316 : decode cL_law 316 = .ok (.iload 5, 2) := dk_21 5 (dk_at dksL_law_4 12 rfl rfl)
theorem dL_law_318 : decode cL_law 318 = .ok (.iconst 1, 1) := dk_4 (dk_at dksL_law_4 14 rfl rfl)
theorem dL_law_319 : decode cL_law 319 = .ok (.iadd, 1) := dk_96 (dk_at dksL_law_4 15 rfl rfl)
theorem dL_law_320 : decode cL_law 320 = .ok (.iaload, 1) := dk_46 (dk_at dksL_law_4 16 rfl rfl)
theorem dL_law_321 : decode cL_law 321 = .ok (.aload_n 0, 1) := dk_42 (dk_at dksL_law_4 17 rfl rfl)
theorem dL_law_322 : decode cL_law 322 = .ok (.iload 5, 2) := dk_21 5 (dk_at dksL_law_4 18 rfl rfl)
theorem dL_law_324 : decode cL_law 324 = .ok (.iconst 2, 1) := dk_5 (dk_at dksL_law_4 20 rfl rfl)
theorem dL_law_325 : decode cL_law 325 = .ok (.iadd, 1) := dk_96 (dk_at dksL_law_4 21 rfl rfl)
theorem dL_law_326 : decode cL_law 326 = .ok (.iaload, 1) := dk_46 (dk_at dksL_law_4 22 rfl rfl)
theorem dL_law_327 : decode cL_law 327 = .ok (.aload_n 0, 1) := dk_42 (dk_at dksL_law_4 23 rfl rfl)
theorem dL_law_328 : decode cL_law 328 = .ok (.iload 5, 2) := dk_21 5 (dk_at dksL_law_5 0 rfl rfl)
theorem dL_law_330 : decode cL_law 330 = .ok (.iconst 3, 1) := dk_6 (dk_at dksL_law_5 2 rfl rfl)
theorem dL_law_331 : decode cL_law 331 = .ok (.iadd, 1) := dk_96 (dk_at dksL_law_5 3 rfl rfl)
theorem dL_law_332 : decode cL_law 332 = .ok (.iaload, 1) := dk_46 (dk_at dksL_law_5 4 rfl rfl)
theorem dL_law_333 : decode cL_law 333 = .ok (.aload_n 0, 1) := dk_42 (dk_at dksL_law_5 5 rfl rfl)
theorem dL_law_334 : decode cL_law 334 = .ok (.iload 5, 2) := dk_21 5 (dk_at dksL_law_5 6 rfl rfl)
theorem dL_law_336 : decode cL_law 336 = .ok (.iconst 4, 1) := dk_7 (dk_at dksL_law_5 8 rfl rfl)
theorem dL_law_337 : decode cL_law 337 = .ok (.iadd, 1) := dk_96 (dk_at dksL_law_5 9 rfl rfl)
theorem dL_law_338 : decode cL_law 338 = .ok (.iaload, 1) := dk_46 (dk_at dksL_law_5 10 rfl rfl)
theorem dL_law_339 : decode cL_law 339 = .ok (.aload_n 0, 1) := dk_42 (dk_at dksL_law_5 11 rfl rfl)
theorem dL_law_340 : decode cL_law 340 = .ok (.iload 5, 2) := dk_21 5 (dk_at dksL_law_5 12 rfl rfl)
theorem dL_law_342 : decode cL_law 342 = .ok (.iconst 5, 1) := dk_8 (dk_at dksL_law_5 14 rfl rfl)
theorem dL_law_343 : decode cL_law 343 = .ok (.iadd, 1) := dk_96 (dk_at dksL_law_5 15 rfl rfl)
theorem dL_law_344 : decode cL_law 344 = .ok (.iaload, 1) := dk_46 (dk_at dksL_law_5 16 rfl rfl)
theorem dL_law_345 : decode cL_law 345 = .ok (.invokevirtual 166, 3) := dk_182 0 166 (dk_at dksL_law_5 17 rfl rfl)
theorem dL_law_348 : decode cL_law 348 = .ok (.if_icmp .eq 3037, 3) := dk_159 11 221 (dk_at dksL_law_5 20 rfl rfl)
theorem dL_law_351 : decode cL_law 351 = .ok (.iconst 0, 1) := dk_3 (dk_at dksL_law_5 23 rfl rfl)
theorem dL_law_352 : decode cL_law 352 = .ok (.ireturn, 1) := dk_172 (dk_at dksL_law_6 0 rfl rfl)
theorem dL_law_353 : decode cL_law 353 = .ok (.aload_n 1, 1) := dk_43 (dk_at dksL_law_6 1 rfl rfl)
theorem dL_law_354 : decode cL_law 354 = .ok (.aload_n 0, 1) := dk_42 (dk_at dksL_law_6 2 rfl rfl)
theorem dL_law_355 : decode cL_law 355 = .ok (.iload 5, 2) := dk_21 5 (dk_at dksL_law_6 3 rfl rfl)
theorem dL_law_357 : decode cL_law 357 = .ok (.iconst 1, 1) := dk_4 (dk_at dksL_law_6 5 rfl rfl)
theorem dL_law_358 : decode cL_law 358 = .ok (.iadd, 1) := dk_96 (dk_at dksL_law_6 6 rfl rfl)
theorem dL_law_359 : decode cL_law 359 = .ok (.iaload, 1) := dk_46 (dk_at dksL_law_6 7 rfl rfl)
theorem dL_law_360 : decode cL_law 360 = .ok (.aload_n 3, 1) := dk_45 (dk_at dksL_law_6 8 rfl rfl)
theorem dL_law_361 : decode cL_law 361 = .ok (.invokestatic 167, 3) := dk_184 0 167 (dk_at dksL_law_6 9 rfl rfl)
theorem dL_law_364 : decode cL_law 364 = .ok (.istore 6, 2) := dk_54 6 (dk_at dksL_law_6 12 rfl rfl)
theorem dL_law_366 : decode cL_law 366 = .ok (.aload_n 2, 1) := dk_44 (dk_at dksL_law_6 14 rfl rfl)
theorem dL_law_367 : decode cL_law 367 = .ok (.aload_n 0, 1) := dk_42 (dk_at dksL_law_6 15 rfl rfl)
theorem dL_law_368 : decode cL_law 368 = .ok (.iload 5, 2) := dk_21 5 (dk_at dksL_law_6 16 rfl rfl)
theorem dL_law_370 : decode cL_law 370 = .ok (.iconst 1, 1) := dk_4 (dk_at dksL_law_6 18 rfl rfl)
theorem dL_law_371 : decode cL_law 371 = .ok (.iadd, 1) := dk_96 (dk_at dksL_law_6 19 rfl rfl)
theorem dL_law_372 : decode cL_law 372 = .ok (.iaload, 1) := dk_46 (dk_at dksL_law_6 20 rfl rfl)
theorem dL_law_373 : decode cL_law 373 = .ok (.invokevirtual 172, 3) := dk_182 0 172 (dk_at dksL_law_6 21 rfl rfl)
theorem dL_law_376 : decode cL_law 376 = .ok (.istore 7, 2) := dk_54 7 (dk_at dksL_law_7 0 rfl rfl)
theorem dL_law_378 : decode cL_law 378 = .ok (.aload_n 2, 1) := dk_44 (dk_at dksL_law_7 2 rfl rfl)
theorem dL_law_379 : decode cL_law 379 = .ok (.invokevirtual 173, 3) := dk_182 0 173 (dk_at dksL_law_7 3 rfl rfl)
theorem dL_law_382 : decode cL_law 382 = .ok (.iload 6, 2) := dk_21 6 (dk_at dksL_law_7 6 rfl rfl)
theorem dL_law_384 : decode cL_law 384 = .ok (.if_icmp .eq 5, 3) := dk_159 0 5 (dk_at dksL_law_7 8 rfl rfl)
theorem dL_law_387 : decode cL_law 387 = .ok (.iconst 0, 1) := dk_3 (dk_at dksL_law_7 11 rfl rfl)
theorem dL_law_388 : decode cL_law 388 = .ok (.ireturn, 1) := dk_172 (dk_at dksL_law_7 12 rfl rfl)
theorem dL_law_389 : decode cL_law 389 = .ok (.iload 6, 2) := dk_21 6 (dk_at dksL_law_7 13 rfl rfl)
theorem dL_law_391 : decode cL_law 391 = .ok (.ifCond .ne 15, 3) := dk_154 0 15 (dk_at dksL_law_7 15 rfl rfl)
theorem dL_law_394 : decode cL_law 394 = .ok (.aload_n 3, 1) := dk_45 (dk_at dksL_law_7 18 rfl rfl)
theorem dL_law_395 : decode cL_law 395 = .ok (.iconst 0, 1) := dk_3 (dk_at dksL_law_7 19 rfl rfl)
theorem dL_law_396 : decode cL_law 396 = .ok (.laload, 1) := dk_47 (dk_at dksL_law_7 20 rfl rfl)
theorem dL_law_397 : decode cL_law 397 = .ok (.iload 7, 2) := dk_21 7 (dk_at dksL_law_7 21 rfl rfl)
theorem dL_law_399 : decode cL_law 399 = .ok (.i2l, 1) := dk_133 (dk_at dksL_law_7 23 rfl rfl)
theorem dL_law_400 : decode cL_law 400 = .ok (.lcmp, 1) := dk_148 (dk_at dksL_law_8 0 rfl rfl)
theorem dL_law_401 : decode cL_law 401 = .ok (.ifCond .eq 5, 3) := dk_153 0 5 (dk_at dksL_law_8 1 rfl rfl)
theorem dL_law_404 : decode cL_law 404 = .ok (.iconst 0, 1) := dk_3 (dk_at dksL_law_8 4 rfl rfl)
theorem dL_law_405 : decode cL_law 405 = .ok (.ireturn, 1) := dk_172 (dk_at dksL_law_8 5 rfl rfl)
theorem dL_law_406 : decode cL_law 406 = .ok (.goto 2979, 3) := dk_167 11 163 (dk_at dksL_law_8 6 rfl rfl)
theorem dL_law_409 : decode cL_law 409 = .ok (.aload_n 1, 1) := dk_43 (dk_at dksL_law_8 9 rfl rfl)
theorem dL_law_410 : decode cL_law 410 = .ok (.invokevirtual 176, 3) := dk_182 0 176 (dk_at dksL_law_8 10 rfl rfl)
theorem dL_law_413 : decode cL_law 413 = .ok (.aload_n 2, 1) := dk_44 (dk_at dksL_law_8 13 rfl rfl)
theorem dL_law_414 : decode cL_law 414 = .ok (.invokevirtual 179, 3) := dk_182 0 179 (dk_at dksL_law_8 14 rfl rfl)
theorem dL_law_417 : decode cL_law 417 = .ok (.if_icmp .eq 2968, 3) := dk_159 11 152 (dk_at dksL_law_8 17 rfl rfl)
theorem dL_law_420 : decode cL_law 420 = .ok (.iconst 0, 1) := dk_3 (dk_at dksL_law_8 20 rfl rfl)
theorem dL_law_421 : decode cL_law 421 = .ok (.ireturn, 1) := dk_172 (dk_at dksL_law_8 21 rfl rfl)
theorem dL_law_422 : decode cL_law 422 = .ok (.aload_n 1, 1) := dk_43 (dk_at dksL_law_8 22 rfl rfl)
theorem dL_law_423 : decode cL_law 423 = .ok (.invokevirtual 180, 3) := dk_182 0 180 (dk_at dksL_law_9 0 rfl rfl)
theorem dL_law_426 : decode cL_law 426 = .ok (.aload_n 2, 1) := dk_44 (dk_at dksL_law_9 3 rfl rfl)
theorem dL_law_427 : decode cL_law 427 = .ok (.invokevirtual 183, 3) := dk_182 0 183 (dk_at dksL_law_9 4 rfl rfl)
theorem dL_law_430 : decode cL_law 430 = .ok (.if_icmp .eq 2955, 3) := dk_159 11 139 (dk_at dksL_law_9 7 rfl rfl)
theorem dL_law_433 : decode cL_law 433 = .ok (.iconst 0, 1) := dk_3 (dk_at dksL_law_9 10 rfl rfl)
theorem dL_law_434 : decode cL_law 434 = .ok (.ireturn, 1) := dk_172 (dk_at dksL_law_9 11 rfl rfl)
theorem dL_law_435 : decode cL_law 435 = .ok (.aload_n 1, 1) := dk_43 (dk_at dksL_law_9 12 rfl rfl)
theorem dL_law_436 : decode cL_law 436 = .ok (.invokevirtual 184, 3) := dk_182 0 184 (dk_at dksL_law_9 13 rfl rfl)
theorem dL_law_439 : decode cL_law 439 = .ok (.aload_n 2, 1) := dk_44 (dk_at dksL_law_9 16 rfl rfl)
theorem dL_law_440 : decode cL_law 440 = .ok (.invokevirtual 187, 3) := dk_182 0 187 (dk_at dksL_law_9 17 rfl rfl)
theorem dL_law_443 : decode cL_law 443 = .ok (.if_icmp .eq 2942, 3) := dk_159 11 126 (dk_at dksL_law_9 20 rfl rfl)
theorem dL_law_446 : decode cL_law 446 = .ok (.iconst 0, 1) := dk_3 (dk_at dksL_law_9 23 rfl rfl)
theorem dL_law_447 : decode cL_law 447 = .ok (.ireturn, 1) := dk_172 (dk_at dksL_law_10 0 rfl rfl)
theorem dL_law_448 : decode cL_law 448 = .ok (.aload_n 1, 1) := dk_43 (dk_at dksL_law_10 1 rfl rfl)
theorem dL_law_449 : decode cL_law 449 = .ok (.invokevirtual 188, 3) := dk_182 0 188 (dk_at dksL_law_10 2 rfl rfl)
theorem dL_law_452 : decode cL_law 452 = .ok (.aload_n 2, 1) := dk_44 (dk_at dksL_law_10 5 rfl rfl)
theorem dL_law_453 : decode cL_law 453 = .ok (.invokevirtual 191, 3) := dk_182 0 191 (dk_at dksL_law_10 6 rfl rfl)
theorem dL_law_456 : decode cL_law 456 = .ok (.if_icmp .eq 2929, 3) := dk_159 11 113 (dk_at dksL_law_10 9 rfl rfl)
theorem dL_law_459 : decode cL_law 459 = .ok (.iconst 0, 1) := dk_3 (dk_at dksL_law_10 12 rfl rfl)
theorem dL_law_460 : decode cL_law 460 = .ok (.ireturn, 1) := dk_172 (dk_at dksL_law_10 13 rfl rfl)
theorem dL_law_461 : decode cL_law 461 = .ok (.aload_n 1, 1) := dk_43 (dk_at dksL_law_10 14 rfl rfl)
theorem dL_law_462 : decode cL_law 462 = .ok (.invokevirtual 192, 3) := dk_182 0 192 (dk_at dksL_law_10 15 rfl rfl)
theorem dL_law_465 : decode cL_law 465 = .ok (.aload_n 2, 1) := dk_44 (dk_at dksL_law_10 18 rfl rfl)
theorem dL_law_466 : decode cL_law 466 = .ok (.invokevirtual 195, 3) := dk_182 0 195 (dk_at dksL_law_10 19 rfl rfl)
theorem dL_law_469 : decode cL_law 469 = .ok (.if_icmp .eq 2916, 3) := dk_159 11 100 (dk_at dksL_law_11 0 rfl rfl)
theorem dL_law_472 : decode cL_law 472 = .ok (.iconst 0, 1) := dk_3 (dk_at dksL_law_11 3 rfl rfl)
theorem dL_law_473 : decode cL_law 473 = .ok (.ireturn, 1) := dk_172 (dk_at dksL_law_11 4 rfl rfl)
theorem dL_law_474 : decode cL_law 474 = .ok (.aload_n 1, 1) := dk_43 (dk_at dksL_law_11 5 rfl rfl)
theorem dL_law_475 : decode cL_law 475 = .ok (.aload_n 0, 1) := dk_42 (dk_at dksL_law_11 6 rfl rfl)
theorem dL_law_476 : decode cL_law 476 = .ok (.iload 5, 2) := dk_21 5 (dk_at dksL_law_11 7 rfl rfl)
theorem dL_law_478 : decode cL_law 478 = .ok (.iconst 1, 1) := dk_4 (dk_at dksL_law_11 9 rfl rfl)
theorem dL_law_479 : decode cL_law 479 = .ok (.iadd, 1) := dk_96 (dk_at dksL_law_11 10 rfl rfl)
theorem dL_law_480 : decode cL_law 480 = .ok (.iaload, 1) := dk_46 (dk_at dksL_law_11 11 rfl rfl)
theorem dL_law_481 : decode cL_law 481 = .ok (.aload_n 3, 1) := dk_45 (dk_at dksL_law_11 12 rfl rfl)
theorem dL_law_482 : decode cL_law 482 = .ok (.invokestatic 196, 3) := dk_184 0 196 (dk_at dksL_law_11 13 rfl rfl)
theorem dL_law_485 : decode cL_law 485 = .ok (.istore 6, 2) := dk_54 6 (dk_at dksL_law_11 16 rfl rfl)
theorem dL_law_487 : decode cL_law 487 = .ok (.aload_n 2, 1) := dk_44 (dk_at dksL_law_11 18 rfl rfl)
theorem dL_law_488 : decode cL_law 488 = .ok (.aload_n 0, 1) := dk_42 (dk_at dksL_law_11 19 rfl rfl)
theorem dL_law_489 : decode cL_law 489 = .ok (.iload 5, 2) := dk_21 5 (dk_at dksL_law_11 20 rfl rfl)
theorem dL_law_491 : decode cL_law 491 = .ok (.iconst 1, 1) := dk_4 (dk_at dksL_law_11 22 rfl rfl)
theorem dL_law_492 : decode cL_law 492 = .ok (.iadd, 1) := dk_96 (dk_at dksL_law_11 23 rfl rfl)
theorem dL_law_493 : decode cL_law 493 = .ok (.iaload, 1) := dk_46 (dk_at dksL_law_12 0 rfl rfl)
theorem dL_law_494 : decode cL_law 494 = .ok (.invokevirtual 198, 3) := dk_182 0 198 (dk_at dksL_law_12 1 rfl rfl)
theorem dL_law_497 : decode cL_law 497 = .ok (.istore 7, 2) := dk_54 7 (dk_at dksL_law_12 4 rfl rfl)
theorem dL_law_499 : decode cL_law 499 = .ok (.aload_n 2, 1) := dk_44 (dk_at dksL_law_12 6 rfl rfl)
theorem dL_law_500 : decode cL_law 500 = .ok (.invokevirtual 173, 3) := dk_182 0 173 (dk_at dksL_law_12 7 rfl rfl)
theorem dL_law_503 : decode cL_law 503 = .ok (.iload 6, 2) := dk_21 6 (dk_at dksL_law_12 10 rfl rfl)
theorem dL_law_505 : decode cL_law 505 = .ok (.if_icmp .eq 5, 3) := dk_159 0 5 (dk_at dksL_law_12 12 rfl rfl)
theorem dL_law_508 : decode cL_law 508 = .ok (.iconst 0, 1) := dk_3 (dk_at dksL_law_12 15 rfl rfl)
theorem dL_law_509 : decode cL_law 509 = .ok (.ireturn, 1) := dk_172 (dk_at dksL_law_12 16 rfl rfl)
theorem dL_law_510 : decode cL_law 510 = .ok (.iload 6, 2) := dk_21 6 (dk_at dksL_law_12 17 rfl rfl)
theorem dL_law_512 : decode cL_law 512 = .ok (.ifCond .ne 15, 3) := dk_154 0 15 (dk_at dksL_law_12 19 rfl rfl)
theorem dL_law_515 : decode cL_law 515 = .ok (.aload_n 3, 1) := dk_45 (dk_at dksL_law_12 22 rfl rfl)
theorem dL_law_516 : decode cL_law 516 = .ok (.iconst 0, 1) := dk_3 (dk_at dksL_law_12 23 rfl rfl)
theorem dL_law_517 : decode cL_law 517 = .ok (.laload, 1) := dk_47 (dk_at dksL_law_13 0 rfl rfl)
theorem dL_law_518 : decode cL_law 518 = .ok (.iload 7, 2) := dk_21 7 (dk_at dksL_law_13 1 rfl rfl)
theorem dL_law_520 : decode cL_law 520 = .ok (.i2l, 1) := dk_133 (dk_at dksL_law_13 3 rfl rfl)
theorem dL_law_521 : decode cL_law 521 = .ok (.lcmp, 1) := dk_148 (dk_at dksL_law_13 4 rfl rfl)
theorem dL_law_522 : decode cL_law 522 = .ok (.ifCond .eq 5, 3) := dk_153 0 5 (dk_at dksL_law_13 5 rfl rfl)
theorem dL_law_525 : decode cL_law 525 = .ok (.iconst 0, 1) := dk_3 (dk_at dksL_law_13 8 rfl rfl)
theorem dL_law_526 : decode cL_law 526 = .ok (.ireturn, 1) := dk_172 (dk_at dksL_law_13 9 rfl rfl)
theorem dL_law_527 : decode cL_law 527 = .ok (.goto 2858, 3) := dk_167 11 42 (dk_at dksL_law_13 10 rfl rfl)
theorem dL_law_530 : decode cL_law 530 = .ok (.aload_n 1, 1) := dk_43 (dk_at dksL_law_13 13 rfl rfl)
theorem dL_law_531 : decode cL_law 531 = .ok (.aload_n 0, 1) := dk_42 (dk_at dksL_law_13 14 rfl rfl)
theorem dL_law_532 : decode cL_law 532 = .ok (.iload 5, 2) := dk_21 5 (dk_at dksL_law_13 15 rfl rfl)
theorem dL_law_534 : decode cL_law 534 = .ok (.iconst 1, 1) := dk_4 (dk_at dksL_law_13 17 rfl rfl)
theorem dL_law_535 : decode cL_law 535 = .ok (.iadd, 1) := dk_96 (dk_at dksL_law_13 18 rfl rfl)
theorem dL_law_536 : decode cL_law 536 = .ok (.iaload, 1) := dk_46 (dk_at dksL_law_13 19 rfl rfl)
theorem dL_law_537 : decode cL_law 537 = .ok (.aload_n 0, 1) := dk_42 (dk_at dksL_law_13 20 rfl rfl)
theorem dL_law_538 : decode cL_law 538 = .ok (.iload 5, 2) := dk_21 5 (dk_at dksL_law_13 21 rfl rfl)
theorem dL_law_540 : decode cL_law 540 = .ok (.iconst 2, 1) := dk_5 (dk_at dksL_law_13 23 rfl rfl)
theorem dL_law_541 : decode cL_law 541 = .ok (.iadd, 1) := dk_96 (dk_at dksL_law_14 0 rfl rfl)
theorem dL_law_542 : decode cL_law 542 = .ok (.iaload, 1) := dk_46 (dk_at dksL_law_14 1 rfl rfl)
theorem dL_law_543 : decode cL_law 543 = .ok (.aload_n 0, 1) := dk_42 (dk_at dksL_law_14 2 rfl rfl)
theorem dL_law_544 : decode cL_law 544 = .ok (.iload 5, 2) := dk_21 5 (dk_at dksL_law_14 3 rfl rfl)
theorem dL_law_546 : decode cL_law 546 = .ok (.iconst 3, 1) := dk_6 (dk_at dksL_law_14 5 rfl rfl)
theorem dL_law_547 : decode cL_law 547 = .ok (.iadd, 1) := dk_96 (dk_at dksL_law_14 6 rfl rfl)
theorem dL_law_548 : decode cL_law 548 = .ok (.iaload, 1) := dk_46 (dk_at dksL_law_14 7 rfl rfl)
theorem dL_law_549 : decode cL_law 549 = .ok (.aload_n 0, 1) := dk_42 (dk_at dksL_law_14 8 rfl rfl)
theorem dL_law_550 : decode cL_law 550 = .ok (.iload 5, 2) := dk_21 5 (dk_at dksL_law_14 9 rfl rfl)
theorem dL_law_552 : decode cL_law 552 = .ok (.iconst 4, 1) := dk_7 (dk_at dksL_law_14 11 rfl rfl)
theorem dL_law_553 : decode cL_law 553 = .ok (.iadd, 1) := dk_96 (dk_at dksL_law_14 12 rfl rfl)
theorem dL_law_554 : decode cL_law 554 = .ok (.iaload, 1) := dk_46 (dk_at dksL_law_14 13 rfl rfl)
theorem dL_law_555 : decode cL_law 555 = .ok (.aload_n 3, 1) := dk_45 (dk_at dksL_law_14 14 rfl rfl)
theorem dL_law_556 : decode cL_law 556 = .ok (.invokestatic 199, 3) := dk_184 0 199 (dk_at dksL_law_14 15 rfl rfl)
theorem dL_law_559 : decode cL_law 559 = .ok (.istore 6, 2) := dk_54 6 (dk_at dksL_law_14 18 rfl rfl)
theorem dL_law_561 : decode cL_law 561 = .ok (.aload_n 2, 1) := dk_44 (dk_at dksL_law_14 20 rfl rfl)
theorem dL_law_562 : decode cL_law 562 = .ok (.aload_n 0, 1) := dk_42 (dk_at dksL_law_14 21 rfl rfl)
theorem dL_law_563 : decode cL_law 563 = .ok (.iload 5, 2) := dk_21 5 (dk_at dksL_law_14 22 rfl rfl)
theorem dL_law_565 : decode cL_law 565 = .ok (.iconst 1, 1) := dk_4 (dk_at dksL_law_15 0 rfl rfl)
theorem dL_law_566 : decode cL_law 566 = .ok (.iadd, 1) := dk_96 (dk_at dksL_law_15 1 rfl rfl)
theorem dL_law_567 : decode cL_law 567 = .ok (.iaload, 1) := dk_46 (dk_at dksL_law_15 2 rfl rfl)
theorem dL_law_568 : decode cL_law 568 = .ok (.aload_n 0, 1) := dk_42 (dk_at dksL_law_15 3 rfl rfl)
theorem dL_law_569 : decode cL_law 569 = .ok (.iload 5, 2) := dk_21 5 (dk_at dksL_law_15 4 rfl rfl)
theorem dL_law_571 : decode cL_law 571 = .ok (.iconst 2, 1) := dk_5 (dk_at dksL_law_15 6 rfl rfl)
theorem dL_law_572 : decode cL_law 572 = .ok (.iadd, 1) := dk_96 (dk_at dksL_law_15 7 rfl rfl)
theorem dL_law_573 : decode cL_law 573 = .ok (.iaload, 1) := dk_46 (dk_at dksL_law_15 8 rfl rfl)
theorem dL_law_574 : decode cL_law 574 = .ok (.aload_n 0, 1) := dk_42 (dk_at dksL_law_15 9 rfl rfl)
theorem dL_law_575 : decode cL_law 575 = .ok (.iload 5, 2) := dk_21 5 (dk_at dksL_law_15 10 rfl rfl)
theorem dL_law_577 : decode cL_law 577 = .ok (.iconst 3, 1) := dk_6 (dk_at dksL_law_15 12 rfl rfl)
theorem dL_law_578 : decode cL_law 578 = .ok (.iadd, 1) := dk_96 (dk_at dksL_law_15 13 rfl rfl)
theorem dL_law_579 : decode cL_law 579 = .ok (.iaload, 1) := dk_46 (dk_at dksL_law_15 14 rfl rfl)
theorem dL_law_580 : decode cL_law 580 = .ok (.aload_n 0, 1) := dk_42 (dk_at dksL_law_15 15 rfl rfl)
theorem dL_law_581 : decode cL_law 581 = .ok (.iload 5, 2) := dk_21 5 (dk_at dksL_law_15 16 rfl rfl)
theorem dL_law_583 : decode cL_law 583 = .ok (.iconst 4, 1) := dk_7 (dk_at dksL_law_15 18 rfl rfl)
theorem dL_law_584 : decode cL_law 584 = .ok (.iadd, 1) := dk_96 (dk_at dksL_law_15 19 rfl rfl)
theorem dL_law_585 : decode cL_law 585 = .ok (.iaload, 1) := dk_46 (dk_at dksL_law_15 20 rfl rfl)
theorem dL_law_586 : decode cL_law 586 = .ok (.invokevirtual 202, 3) := dk_182 0 202 (dk_at dksL_law_15 21 rfl rfl)
theorem dL_law_589 : decode cL_law 589 = .ok (.istore 7, 2) := dk_54 7 (dk_at dksL_law_16 0 rfl rfl)
theorem dL_law_591 : decode cL_law 591 = .ok (.aload_n 2, 1) := dk_44 (dk_at dksL_law_16 2 rfl rfl)
theorem dL_law_592 : decode cL_law 592 = .ok (.invokevirtual 173, 3) := dk_182 0 173 (dk_at dksL_law_16 3 rfl rfl)
theorem dL_law_595 : decode cL_law 595 = .ok (.iload 6, 2) := dk_21 6 (dk_at dksL_law_16 6 rfl rfl)
theorem dL_law_597 : decode cL_law 597 = .ok (.if_icmp .eq 5, 3) := dk_159 0 5 (dk_at dksL_law_16 8 rfl rfl)
theorem dL_law_600 : decode cL_law 600 = .ok (.iconst 0, 1) := dk_3 (dk_at dksL_law_16 11 rfl rfl)
theorem dL_law_601 : decode cL_law 601 = .ok (.ireturn, 1) := dk_172 (dk_at dksL_law_16 12 rfl rfl)
theorem dL_law_602 : decode cL_law 602 = .ok (.iload 6, 2) := dk_21 6 (dk_at dksL_law_16 13 rfl rfl)
theorem dL_law_604 : decode cL_law 604 = .ok (.ifCond .ne 15, 3) := dk_154 0 15 (dk_at dksL_law_16 15 rfl rfl)
theorem dL_law_607 : decode cL_law 607 = .ok (.aload_n 3, 1) := dk_45 (dk_at dksL_law_16 18 rfl rfl)
theorem dL_law_608 : decode cL_law 608 = .ok (.iconst 0, 1) := dk_3 (dk_at dksL_law_16 19 rfl rfl)
theorem dL_law_609 : decode cL_law 609 = .ok (.laload, 1) := dk_47 (dk_at dksL_law_16 20 rfl rfl)
theorem dL_law_610 : decode cL_law 610 = .ok (.iload 7, 2) := dk_21 7 (dk_at dksL_law_16 21 rfl rfl)
theorem dL_law_612 : decode cL_law 612 = .ok (.i2l, 1) := dk_133 (dk_at dksL_law_16 23 rfl rfl)
theorem dL_law_613 : decode cL_law 613 = .ok (.lcmp, 1) := dk_148 (dk_at dksL_law_17 0 rfl rfl)
theorem dL_law_614 : decode cL_law 614 = .ok (.ifCond .eq 5, 3) := dk_153 0 5 (dk_at dksL_law_17 1 rfl rfl)
theorem dL_law_617 : decode cL_law 617 = .ok (.iconst 0, 1) := dk_3 (dk_at dksL_law_17 4 rfl rfl)
theorem dL_law_618 : decode cL_law 618 = .ok (.ireturn, 1) := dk_172 (dk_at dksL_law_17 5 rfl rfl)
theorem dL_law_619 : decode cL_law 619 = .ok (.goto 2766, 3) := dk_167 10 206 (dk_at dksL_law_17 6 rfl rfl)
theorem dL_law_622 : decode cL_law 622 = .ok (.aload_n 1, 1) := dk_43 (dk_at dksL_law_17 9 rfl rfl)
theorem dL_law_623 : decode cL_law 623 = .ok (.aload_n 0, 1) := dk_42 (dk_at dksL_law_17 10 rfl rfl)
theorem dL_law_624 : decode cL_law 624 = .ok (.iload 5, 2) := dk_21 5 (dk_at dksL_law_17 11 rfl rfl)
theorem dL_law_626 : decode cL_law 626 = .ok (.iconst 1, 1) := dk_4 (dk_at dksL_law_17 13 rfl rfl)
theorem dL_law_627 : decode cL_law 627 = .ok (.iadd, 1) := dk_96 (dk_at dksL_law_17 14 rfl rfl)
theorem dL_law_628 : decode cL_law 628 = .ok (.iaload, 1) := dk_46 (dk_at dksL_law_17 15 rfl rfl)
theorem dL_law_629 : decode cL_law 629 = .ok (.aload_n 3, 1) := dk_45 (dk_at dksL_law_17 16 rfl rfl)
theorem dL_law_630 : decode cL_law 630 = .ok (.invokestatic 203, 3) := dk_184 0 203 (dk_at dksL_law_17 17 rfl rfl)
theorem dL_law_633 : decode cL_law 633 = .ok (.istore 6, 2) := dk_54 6 (dk_at dksL_law_17 20 rfl rfl)
theorem dL_law_635 : decode cL_law 635 = .ok (.aload_n 2, 1) := dk_44 (dk_at dksL_law_17 22 rfl rfl)
theorem dL_law_636 : decode cL_law 636 = .ok (.aload_n 0, 1) := dk_42 (dk_at dksL_law_17 23 rfl rfl)
theorem dL_law_637 : decode cL_law 637 = .ok (.iload 5, 2) := dk_21 5 (dk_at dksL_law_18 0 rfl rfl)
theorem dL_law_639 : decode cL_law 639 = .ok (.iconst 1, 1) := dk_4 (dk_at dksL_law_18 2 rfl rfl)
theorem dL_law_640 : decode cL_law 640 = .ok (.iadd, 1) := dk_96 (dk_at dksL_law_18 3 rfl rfl)
theorem dL_law_641 : decode cL_law 641 = .ok (.iaload, 1) := dk_46 (dk_at dksL_law_18 4 rfl rfl)
theorem dL_law_642 : decode cL_law 642 = .ok (.invokevirtual 205, 3) := dk_182 0 205 (dk_at dksL_law_18 5 rfl rfl)
theorem dL_law_645 : decode cL_law 645 = .ok (.istore 7, 2) := dk_54 7 (dk_at dksL_law_18 8 rfl rfl)
theorem dL_law_647 : decode cL_law 647 = .ok (.aload_n 2, 1) := dk_44 (dk_at dksL_law_18 10 rfl rfl)
theorem dL_law_648 : decode cL_law 648 = .ok (.invokevirtual 173, 3) := dk_182 0 173 (dk_at dksL_law_18 11 rfl rfl)
theorem dL_law_651 : decode cL_law 651 = .ok (.iload 6, 2) := dk_21 6 (dk_at dksL_law_18 14 rfl rfl)
theorem dL_law_653 : decode cL_law 653 = .ok (.if_icmp .eq 5, 3) := dk_159 0 5 (dk_at dksL_law_18 16 rfl rfl)
theorem dL_law_656 : decode cL_law 656 = .ok (.iconst 0, 1) := dk_3 (dk_at dksL_law_18 19 rfl rfl)
theorem dL_law_657 : decode cL_law 657 = .ok (.ireturn, 1) := dk_172 (dk_at dksL_law_18 20 rfl rfl)
theorem dL_law_658 : decode cL_law 658 = .ok (.iload 6, 2) := dk_21 6 (dk_at dksL_law_18 21 rfl rfl)
theorem dL_law_660 : decode cL_law 660 = .ok (.ifCond .ne 15, 3) := dk_154 0 15 (dk_at dksL_law_19 0 rfl rfl)
theorem dL_law_663 : decode cL_law 663 = .ok (.aload_n 3, 1) := dk_45 (dk_at dksL_law_19 3 rfl rfl)
theorem dL_law_664 : decode cL_law 664 = .ok (.iconst 0, 1) := dk_3 (dk_at dksL_law_19 4 rfl rfl)
theorem dL_law_665 : decode cL_law 665 = .ok (.laload, 1) := dk_47 (dk_at dksL_law_19 5 rfl rfl)
theorem dL_law_666 : decode cL_law 666 = .ok (.iload 7, 2) := dk_21 7 (dk_at dksL_law_19 6 rfl rfl)
theorem dL_law_668 : decode cL_law 668 = .ok (.i2l, 1) := dk_133 (dk_at dksL_law_19 8 rfl rfl)
theorem dL_law_669 : decode cL_law 669 = .ok (.lcmp, 1) := dk_148 (dk_at dksL_law_19 9 rfl rfl)
theorem dL_law_670 : decode cL_law 670 = .ok (.ifCond .eq 5, 3) := dk_153 0 5 (dk_at dksL_law_19 10 rfl rfl)
theorem dL_law_673 : decode cL_law 673 = .ok (.iconst 0, 1) := dk_3 (dk_at dksL_law_19 13 rfl rfl)
theorem dL_law_674 : decode cL_law 674 = .ok (.ireturn, 1) := dk_172 (dk_at dksL_law_19 14 rfl rfl)
theorem dL_law_675 : decode cL_law 675 = .ok (.goto 2710, 3) := dk_167 10 150 (dk_at dksL_law_19 15 rfl rfl)
theorem dL_law_678 : decode cL_law 678 = .ok (.aload_n 1, 1) := dk_43 (dk_at dksL_law_19 18 rfl rfl)
theorem dL_law_679 : decode cL_law 679 = .ok (.aload_n 0, 1) := dk_42 (dk_at dksL_law_19 19 rfl rfl)
theorem dL_law_680 : decode cL_law 680 = .ok (.iload 5, 2) := dk_21 5 (dk_at dksL_law_19 20 rfl rfl)
theorem dL_law_682 : decode cL_law 682 = .ok (.iconst 1, 1) := dk_4 (dk_at dksL_law_19 22 rfl rfl)
theorem dL_law_683 : decode cL_law 683 = .ok (.iadd, 1) := dk_96 (dk_at dksL_law_19 23 rfl rfl)
theorem dL_law_684 : decode cL_law 684 = .ok (.iaload, 1) := dk_46 (dk_at dksL_law_20 0 rfl rfl)
theorem dL_law_685 : decode cL_law 685 = .ok (.aload_n 3, 1) := dk_45 (dk_at dksL_law_20 1 rfl rfl)
theorem dL_law_686 : decode cL_law 686 = .ok (.invokestatic 206, 3) := dk_184 0 206 (dk_at dksL_law_20 2 rfl rfl)
theorem dL_law_689 : decode cL_law 689 = .ok (.istore 6, 2) := dk_54 6 (dk_at dksL_law_20 5 rfl rfl)
theorem dL_law_691 : decode cL_law 691 = .ok (.aload_n 2, 1) := dk_44 (dk_at dksL_law_20 7 rfl rfl)
theorem dL_law_692 : decode cL_law 692 = .ok (.aload_n 0, 1) := dk_42 (dk_at dksL_law_20 8 rfl rfl)
theorem dL_law_693 : decode cL_law 693 = .ok (.iload 5, 2) := dk_21 5 (dk_at dksL_law_20 9 rfl rfl)
theorem dL_law_695 : decode cL_law 695 = .ok (.iconst 1, 1) := dk_4 (dk_at dksL_law_20 11 rfl rfl)
theorem dL_law_696 : decode cL_law 696 = .ok (.iadd, 1) := dk_96 (dk_at dksL_law_20 12 rfl rfl)
theorem dL_law_697 : decode cL_law 697 = .ok (.iaload, 1) := dk_46 (dk_at dksL_law_20 13 rfl rfl)
theorem dL_law_698 : decode cL_law 698 = .ok (.invokevirtual 208, 3) := dk_182 0 208 (dk_at dksL_law_20 14 rfl rfl)
theorem dL_law_701 : decode cL_law 701 = .ok (.istore 7, 2) := dk_54 7 (dk_at dksL_law_20 17 rfl rfl)
theorem dL_law_703 : decode cL_law 703 = .ok (.aload_n 2, 1) := dk_44 (dk_at dksL_law_20 19 rfl rfl)
theorem dL_law_704 : decode cL_law 704 = .ok (.invokevirtual 173, 3) := dk_182 0 173 (dk_at dksL_law_20 20 rfl rfl)
theorem dL_law_707 : decode cL_law 707 = .ok (.iload 6, 2) := dk_21 6 (dk_at dksL_law_21 0 rfl rfl)
theorem dL_law_709 : decode cL_law 709 = .ok (.if_icmp .eq 5, 3) := dk_159 0 5 (dk_at dksL_law_21 2 rfl rfl)
theorem dL_law_712 : decode cL_law 712 = .ok (.iconst 0, 1) := dk_3 (dk_at dksL_law_21 5 rfl rfl)
theorem dL_law_713 : decode cL_law 713 = .ok (.ireturn, 1) := dk_172 (dk_at dksL_law_21 6 rfl rfl)
theorem dL_law_714 : decode cL_law 714 = .ok (.iload 6, 2) := dk_21 6 (dk_at dksL_law_21 7 rfl rfl)
theorem dL_law_716 : decode cL_law 716 = .ok (.ifCond .ne 15, 3) := dk_154 0 15 (dk_at dksL_law_21 9 rfl rfl)
theorem dL_law_719 : decode cL_law 719 = .ok (.aload_n 3, 1) := dk_45 (dk_at dksL_law_21 12 rfl rfl)
theorem dL_law_720 : decode cL_law 720 = .ok (.iconst 0, 1) := dk_3 (dk_at dksL_law_21 13 rfl rfl)
theorem dL_law_721 : decode cL_law 721 = .ok (.laload, 1) := dk_47 (dk_at dksL_law_21 14 rfl rfl)
theorem dL_law_722 : decode cL_law 722 = .ok (.iload 7, 2) := dk_21 7 (dk_at dksL_law_21 15 rfl rfl)
theorem dL_law_724 : decode cL_law 724 = .ok (.i2l, 1) := dk_133 (dk_at dksL_law_21 17 rfl rfl)
theorem dL_law_725 : decode cL_law 725 = .ok (.lcmp, 1) := dk_148 (dk_at dksL_law_21 18 rfl rfl)
theorem dL_law_726 : decode cL_law 726 = .ok (.ifCond .eq 5, 3) := dk_153 0 5 (dk_at dksL_law_21 19 rfl rfl)
theorem dL_law_729 : decode cL_law 729 = .ok (.iconst 0, 1) := dk_3 (dk_at dksL_law_21 22 rfl rfl)
theorem dL_law_730 : decode cL_law 730 = .ok (.ireturn, 1) := dk_172 (dk_at dksL_law_21 23 rfl rfl)
theorem dL_law_731 : decode cL_law 731 = .ok (.goto 2654, 3) := dk_167 10 94 (dk_at dksL_law_22 0 rfl rfl)
theorem dL_law_734 : decode cL_law 734 = .ok (.aload_n 1, 1) := dk_43 (dk_at dksL_law_22 3 rfl rfl)
theorem dL_law_735 : decode cL_law 735 = .ok (.aload_n 0, 1) := dk_42 (dk_at dksL_law_22 4 rfl rfl)
theorem dL_law_736 : decode cL_law 736 = .ok (.iload 5, 2) := dk_21 5 (dk_at dksL_law_22 5 rfl rfl)
theorem dL_law_738 : decode cL_law 738 = .ok (.iconst 1, 1) := dk_4 (dk_at dksL_law_22 7 rfl rfl)
theorem dL_law_739 : decode cL_law 739 = .ok (.iadd, 1) := dk_96 (dk_at dksL_law_22 8 rfl rfl)
theorem dL_law_740 : decode cL_law 740 = .ok (.iaload, 1) := dk_46 (dk_at dksL_law_22 9 rfl rfl)
theorem dL_law_741 : decode cL_law 741 = .ok (.aload_n 0, 1) := dk_42 (dk_at dksL_law_22 10 rfl rfl)
theorem dL_law_742 : decode cL_law 742 = .ok (.iload 5, 2) := dk_21 5 (dk_at dksL_law_22 11 rfl rfl)
theorem dL_law_744 : decode cL_law 744 = .ok (.iconst 2, 1) := dk_5 (dk_at dksL_law_22 13 rfl rfl)
theorem dL_law_745 : decode cL_law 745 = .ok (.iadd, 1) := dk_96 (dk_at dksL_law_22 14 rfl rfl)
theorem dL_law_746 : decode cL_law 746 = .ok (.iaload, 1) := dk_46 (dk_at dksL_law_22 15 rfl rfl)
theorem dL_law_747 : decode cL_law 747 = .ok (.aload_n 3, 1) := dk_45 (dk_at dksL_law_22 16 rfl rfl)
theorem dL_law_748 : decode cL_law 748 = .ok (.invokestatic 209, 3) := dk_184 0 209 (dk_at dksL_law_22 17 rfl rfl)
theorem dL_law_751 : decode cL_law 751 = .ok (.istore 6, 2) := dk_54 6 (dk_at dksL_law_22 20 rfl rfl)
theorem dL_law_753 : decode cL_law 753 = .ok (.aload_n 2, 1) := dk_44 (dk_at dksL_law_22 22 rfl rfl)
theorem dL_law_754 : decode cL_law 754 = .ok (.aload_n 0, 1) := dk_42 (dk_at dksL_law_22 23 rfl rfl)
theorem dL_law_755 : decode cL_law 755 = .ok (.iload 5, 2) := dk_21 5 (dk_at dksL_law_23 0 rfl rfl)
theorem dL_law_757 : decode cL_law 757 = .ok (.iconst 1, 1) := dk_4 (dk_at dksL_law_23 2 rfl rfl)
theorem dL_law_758 : decode cL_law 758 = .ok (.iadd, 1) := dk_96 (dk_at dksL_law_23 3 rfl rfl)
theorem dL_law_759 : decode cL_law 759 = .ok (.iaload, 1) := dk_46 (dk_at dksL_law_23 4 rfl rfl)
theorem dL_law_760 : decode cL_law 760 = .ok (.aload_n 0, 1) := dk_42 (dk_at dksL_law_23 5 rfl rfl)
theorem dL_law_761 : decode cL_law 761 = .ok (.iload 5, 2) := dk_21 5 (dk_at dksL_law_23 6 rfl rfl)
theorem dL_law_763 : decode cL_law 763 = .ok (.iconst 2, 1) := dk_5 (dk_at dksL_law_23 8 rfl rfl)
theorem dL_law_764 : decode cL_law 764 = .ok (.iadd, 1) := dk_96 (dk_at dksL_law_23 9 rfl rfl)
theorem dL_law_765 : decode cL_law 765 = .ok (.iaload, 1) := dk_46 (dk_at dksL_law_23 10 rfl rfl)
theorem dL_law_766 : decode cL_law 766 = .ok (.invokevirtual 212, 3) := dk_182 0 212 (dk_at dksL_law_23 11 rfl rfl)
theorem dL_law_769 : decode cL_law 769 = .ok (.istore 7, 2) := dk_54 7 (dk_at dksL_law_23 14 rfl rfl)
theorem dL_law_771 : decode cL_law 771 = .ok (.aload_n 2, 1) := dk_44 (dk_at dksL_law_23 16 rfl rfl)
theorem dL_law_772 : decode cL_law 772 = .ok (.invokevirtual 173, 3) := dk_182 0 173 (dk_at dksL_law_23 17 rfl rfl)
theorem dL_law_775 : decode cL_law 775 = .ok (.iload 6, 2) := dk_21 6 (dk_at dksL_law_23 20 rfl rfl)
theorem dL_law_777 : decode cL_law 777 = .ok (.if_icmp .eq 5, 3) := dk_159 0 5 (dk_at dksL_law_24 0 rfl rfl)
theorem dL_law_780 : decode cL_law 780 = .ok (.iconst 0, 1) := dk_3 (dk_at dksL_law_24 3 rfl rfl)
theorem dL_law_781 : decode cL_law 781 = .ok (.ireturn, 1) := dk_172 (dk_at dksL_law_24 4 rfl rfl)
theorem dL_law_782 : decode cL_law 782 = .ok (.iload 6, 2) := dk_21 6 (dk_at dksL_law_24 5 rfl rfl)
theorem dL_law_784 : decode cL_law 784 = .ok (.ifCond .ne 15, 3) := dk_154 0 15 (dk_at dksL_law_24 7 rfl rfl)
theorem dL_law_787 : decode cL_law 787 = .ok (.aload_n 3, 1) := dk_45 (dk_at dksL_law_24 10 rfl rfl)
theorem dL_law_788 : decode cL_law 788 = .ok (.iconst 0, 1) := dk_3 (dk_at dksL_law_24 11 rfl rfl)
theorem dL_law_789 : decode cL_law 789 = .ok (.laload, 1) := dk_47 (dk_at dksL_law_24 12 rfl rfl)
theorem dL_law_790 : decode cL_law 790 = .ok (.iload 7, 2) := dk_21 7 (dk_at dksL_law_24 13 rfl rfl)
theorem dL_law_792 : decode cL_law 792 = .ok (.i2l, 1) := dk_133 (dk_at dksL_law_24 15 rfl rfl)
theorem dL_law_793 : decode cL_law 793 = .ok (.lcmp, 1) := dk_148 (dk_at dksL_law_24 16 rfl rfl)
theorem dL_law_794 : decode cL_law 794 = .ok (.ifCond .eq 5, 3) := dk_153 0 5 (dk_at dksL_law_24 17 rfl rfl)
theorem dL_law_797 : decode cL_law 797 = .ok (.iconst 0, 1) := dk_3 (dk_at dksL_law_24 20 rfl rfl)
theorem dL_law_798 : decode cL_law 798 = .ok (.ireturn, 1) := dk_172 (dk_at dksL_law_24 21 rfl rfl)
theorem dL_law_799 : decode cL_law 799 = .ok (.goto 2586, 3) := dk_167 10 26 (dk_at dksL_law_25 0 rfl rfl)
theorem dL_law_802 : decode cL_law 802 = .ok (.aload_n 1, 1) := dk_43 (dk_at dksL_law_25 3 rfl rfl)
theorem dL_law_803 : decode cL_law 803 = .ok (.aload_n 0, 1) := dk_42 (dk_at dksL_law_25 4 rfl rfl)
theorem dL_law_804 : decode cL_law 804 = .ok (.iload 5, 2) := dk_21 5 (dk_at dksL_law_25 5 rfl rfl)
theorem dL_law_806 : decode cL_law 806 = .ok (.iconst 1, 1) := dk_4 (dk_at dksL_law_25 7 rfl rfl)
theorem dL_law_807 : decode cL_law 807 = .ok (.iadd, 1) := dk_96 (dk_at dksL_law_25 8 rfl rfl)
theorem dL_law_808 : decode cL_law 808 = .ok (.iaload, 1) := dk_46 (dk_at dksL_law_25 9 rfl rfl)
theorem dL_law_809 : decode cL_law 809 = .ok (.aload_n 0, 1) := dk_42 (dk_at dksL_law_25 10 rfl rfl)
theorem dL_law_810 : decode cL_law 810 = .ok (.iload 5, 2) := dk_21 5 (dk_at dksL_law_25 11 rfl rfl)
theorem dL_law_812 : decode cL_law 812 = .ok (.iconst 2, 1) := dk_5 (dk_at dksL_law_25 13 rfl rfl)
theorem dL_law_813 : decode cL_law 813 = .ok (.iadd, 1) := dk_96 (dk_at dksL_law_25 14 rfl rfl)
theorem dL_law_814 : decode cL_law 814 = .ok (.iaload, 1) := dk_46 (dk_at dksL_law_25 15 rfl rfl)
theorem dL_law_815 : decode cL_law 815 = .ok (.aload_n 3, 1) := dk_45 (dk_at dksL_law_25 16 rfl rfl)
theorem dL_law_816 : decode cL_law 816 = .ok (.invokestatic 213, 3) := dk_184 0 213 (dk_at dksL_law_25 17 rfl rfl)
theorem dL_law_819 : decode cL_law 819 = .ok (.istore 6, 2) := dk_54 6 (dk_at dksL_law_25 20 rfl rfl)
theorem dL_law_821 : decode cL_law 821 = .ok (.aload_n 2, 1) := dk_44 (dk_at dksL_law_25 22 rfl rfl)
theorem dL_law_822 : decode cL_law 822 = .ok (.aload_n 0, 1) := dk_42 (dk_at dksL_law_25 23 rfl rfl)
theorem dL_law_823 : decode cL_law 823 = .ok (.iload 5, 2) := dk_21 5 (dk_at dksL_law_26 0 rfl rfl)
theorem dL_law_825 : decode cL_law 825 = .ok (.iconst 1, 1) := dk_4 (dk_at dksL_law_26 2 rfl rfl)
theorem dL_law_826 : decode cL_law 826 = .ok (.iadd, 1) := dk_96 (dk_at dksL_law_26 3 rfl rfl)
theorem dL_law_827 : decode cL_law 827 = .ok (.iaload, 1) := dk_46 (dk_at dksL_law_26 4 rfl rfl)
theorem dL_law_828 : decode cL_law 828 = .ok (.aload_n 0, 1) := dk_42 (dk_at dksL_law_26 5 rfl rfl)
theorem dL_law_829 : decode cL_law 829 = .ok (.iload 5, 2) := dk_21 5 (dk_at dksL_law_26 6 rfl rfl)
theorem dL_law_831 : decode cL_law 831 = .ok (.iconst 2, 1) := dk_5 (dk_at dksL_law_26 8 rfl rfl)
theorem dL_law_832 : decode cL_law 832 = .ok (.iadd, 1) := dk_96 (dk_at dksL_law_26 9 rfl rfl)
theorem dL_law_833 : decode cL_law 833 = .ok (.iaload, 1) := dk_46 (dk_at dksL_law_26 10 rfl rfl)
theorem dL_law_834 : decode cL_law 834 = .ok (.invokevirtual 215, 3) := dk_182 0 215 (dk_at dksL_law_26 11 rfl rfl)
theorem dL_law_837 : decode cL_law 837 = .ok (.istore 7, 2) := dk_54 7 (dk_at dksL_law_26 14 rfl rfl)
theorem dL_law_839 : decode cL_law 839 = .ok (.aload_n 2, 1) := dk_44 (dk_at dksL_law_26 16 rfl rfl)
theorem dL_law_840 : decode cL_law 840 = .ok (.invokevirtual 173, 3) := dk_182 0 173 (dk_at dksL_law_26 17 rfl rfl)
theorem dL_law_843 : decode cL_law 843 = .ok (.iload 6, 2) := dk_21 6 (dk_at dksL_law_26 20 rfl rfl)
theorem dL_law_845 : decode cL_law 845 = .ok (.if_icmp .eq 5, 3) := dk_159 0 5 (dk_at dksL_law_27 0 rfl rfl)
theorem dL_law_848 : decode cL_law 848 = .ok (.iconst 0, 1) := dk_3 (dk_at dksL_law_27 3 rfl rfl)
theorem dL_law_849 : decode cL_law 849 = .ok (.ireturn, 1) := dk_172 (dk_at dksL_law_27 4 rfl rfl)
theorem dL_law_850 : decode cL_law 850 = .ok (.iload 6, 2) := dk_21 6 (dk_at dksL_law_27 5 rfl rfl)
theorem dL_law_852 : decode cL_law 852 = .ok (.ifCond .ne 22, 3) := dk_154 0 22 (dk_at dksL_law_27 7 rfl rfl)
theorem dL_law_855 : decode cL_law 855 = .ok (.aload_n 3, 1) := dk_45 (dk_at dksL_law_27 10 rfl rfl)
theorem dL_law_856 : decode cL_law 856 = .ok (.iconst 0, 1) := dk_3 (dk_at dksL_law_27 11 rfl rfl)
theorem dL_law_857 : decode cL_law 857 = .ok (.laload, 1) := dk_47 (dk_at dksL_law_27 12 rfl rfl)
theorem dL_law_858 : decode cL_law 858 = .ok (.iload 7, 2) := dk_21 7 (dk_at dksL_law_27 13 rfl rfl)
theorem dL_law_860 : decode cL_law 860 = .ok (.ifCond .eq 7, 3) := dk_153 0 7 (dk_at dksL_law_27 15 rfl rfl)
theorem dL_law_863 : decode cL_law 863 = .ok (.lconst 1, 1) := dk_10 (dk_at dksL_law_27 18 rfl rfl)
theorem dL_law_864 : decode cL_law 864 = .ok (.goto 4, 3) := dk_167 0 4 (dk_at dksL_law_27 19 rfl rfl)
theorem dL_law_867 : decode cL_law 867 = .ok (.lconst 0, 1) := dk_9 (dk_at dksL_law_27 22 rfl rfl)
theorem dL_law_868 : decode cL_law 868 = .ok (.lcmp, 1) := dk_148 (dk_at dksL_law_27 23 rfl rfl)
theorem dL_law_869 : decode cL_law 869 = .ok (.ifCond .eq 5, 3) := dk_153 0 5 (dk_at dksL_law_28 0 rfl rfl)
theorem dL_law_872 : decode cL_law 872 = .ok (.iconst 0, 1) := dk_3 (dk_at dksL_law_28 3 rfl rfl)
theorem dL_law_873 : decode cL_law 873 = .ok (.ireturn, 1) := dk_172 (dk_at dksL_law_28 4 rfl rfl)
theorem dL_law_874 : decode cL_law 874 = .ok (.goto 2511, 3) := dk_167 9 207 (dk_at dksL_law_28 5 rfl rfl)
theorem dL_law_877 : decode cL_law 877 = .ok (.aload_n 1, 1) := dk_43 (dk_at dksL_law_28 8 rfl rfl)
theorem dL_law_878 : decode cL_law 878 = .ok (.aload_n 0, 1) := dk_42 (dk_at dksL_law_28 9 rfl rfl)
theorem dL_law_879 : decode cL_law 879 = .ok (.iload 5, 2) := dk_21 5 (dk_at dksL_law_28 10 rfl rfl)
theorem dL_law_881 : decode cL_law 881 = .ok (.iconst 1, 1) := dk_4 (dk_at dksL_law_28 12 rfl rfl)
theorem dL_law_882 : decode cL_law 882 = .ok (.iadd, 1) := dk_96 (dk_at dksL_law_28 13 rfl rfl)
theorem dL_law_883 : decode cL_law 883 = .ok (.iaload, 1) := dk_46 (dk_at dksL_law_28 14 rfl rfl)
theorem dL_law_884 : decode cL_law 884 = .ok (.aload_n 0, 1) := dk_42 (dk_at dksL_law_28 15 rfl rfl)
theorem dL_law_885 : decode cL_law 885 = .ok (.iload 5, 2) := dk_21 5 (dk_at dksL_law_28 16 rfl rfl)
theorem dL_law_887 : decode cL_law 887 = .ok (.iconst 2, 1) := dk_5 (dk_at dksL_law_28 18 rfl rfl)
theorem dL_law_888 : decode cL_law 888 = .ok (.iadd, 1) := dk_96 (dk_at dksL_law_28 19 rfl rfl)
theorem dL_law_889 : decode cL_law 889 = .ok (.iaload, 1) := dk_46 (dk_at dksL_law_28 20 rfl rfl)
theorem dL_law_890 : decode cL_law 890 = .ok (.aload_n 3, 1) := dk_45 (dk_at dksL_law_28 21 rfl rfl)
theorem dL_law_891 : decode cL_law 891 = .ok (.invokestatic 216, 3) := dk_184 0 216 (dk_at dksL_law_29 0 rfl rfl)
theorem dL_law_894 : decode cL_law 894 = .ok (.istore 6, 2) := dk_54 6 (dk_at dksL_law_29 3 rfl rfl)
theorem dL_law_896 : decode cL_law 896 = .ok (.aload_n 2, 1) := dk_44 (dk_at dksL_law_29 5 rfl rfl)
theorem dL_law_897 : decode cL_law 897 = .ok (.aload_n 0, 1) := dk_42 (dk_at dksL_law_29 6 rfl rfl)
theorem dL_law_898 : decode cL_law 898 = .ok (.iload 5, 2) := dk_21 5 (dk_at dksL_law_29 7 rfl rfl)
theorem dL_law_900 : decode cL_law 900 = .ok (.iconst 1, 1) := dk_4 (dk_at dksL_law_29 9 rfl rfl)
theorem dL_law_901 : decode cL_law 901 = .ok (.iadd, 1) := dk_96 (dk_at dksL_law_29 10 rfl rfl)
theorem dL_law_902 : decode cL_law 902 = .ok (.iaload, 1) := dk_46 (dk_at dksL_law_29 11 rfl rfl)
theorem dL_law_903 : decode cL_law 903 = .ok (.aload_n 0, 1) := dk_42 (dk_at dksL_law_29 12 rfl rfl)
theorem dL_law_904 : decode cL_law 904 = .ok (.iload 5, 2) := dk_21 5 (dk_at dksL_law_29 13 rfl rfl)
theorem dL_law_906 : decode cL_law 906 = .ok (.iconst 2, 1) := dk_5 (dk_at dksL_law_29 15 rfl rfl)
theorem dL_law_907 : decode cL_law 907 = .ok (.iadd, 1) := dk_96 (dk_at dksL_law_29 16 rfl rfl)
theorem dL_law_908 : decode cL_law 908 = .ok (.iaload, 1) := dk_46 (dk_at dksL_law_29 17 rfl rfl)
theorem dL_law_909 : decode cL_law 909 = .ok (.invokevirtual 218, 3) := dk_182 0 218 (dk_at dksL_law_29 18 rfl rfl)
theorem dL_law_912 : decode cL_law 912 = .ok (.istore 7, 2) := dk_54 7 (dk_at dksL_law_29 21 rfl rfl)
theorem dL_law_914 : decode cL_law 914 = .ok (.aload_n 2, 1) := dk_44 (dk_at dksL_law_29 23 rfl rfl)
theorem dL_law_915 : decode cL_law 915 = .ok (.invokevirtual 173, 3) := dk_182 0 173 (dk_at dksL_law_30 0 rfl rfl)
theorem dL_law_918 : decode cL_law 918 = .ok (.iload 6, 2) := dk_21 6 (dk_at dksL_law_30 3 rfl rfl)
theorem dL_law_920 : decode cL_law 920 = .ok (.if_icmp .eq 5, 3) := dk_159 0 5 (dk_at dksL_law_30 5 rfl rfl)
theorem dL_law_923 : decode cL_law 923 = .ok (.iconst 0, 1) := dk_3 (dk_at dksL_law_30 8 rfl rfl)
theorem dL_law_924 : decode cL_law 924 = .ok (.ireturn, 1) := dk_172 (dk_at dksL_law_30 9 rfl rfl)
theorem dL_law_925 : decode cL_law 925 = .ok (.iload 6, 2) := dk_21 6 (dk_at dksL_law_30 10 rfl rfl)
theorem dL_law_927 : decode cL_law 927 = .ok (.ifCond .ne 15, 3) := dk_154 0 15 (dk_at dksL_law_30 12 rfl rfl)
theorem dL_law_930 : decode cL_law 930 = .ok (.aload_n 3, 1) := dk_45 (dk_at dksL_law_30 15 rfl rfl)
theorem dL_law_931 : decode cL_law 931 = .ok (.iconst 0, 1) := dk_3 (dk_at dksL_law_30 16 rfl rfl)
theorem dL_law_932 : decode cL_law 932 = .ok (.laload, 1) := dk_47 (dk_at dksL_law_30 17 rfl rfl)
theorem dL_law_933 : decode cL_law 933 = .ok (.iload 7, 2) := dk_21 7 (dk_at dksL_law_30 18 rfl rfl)
theorem dL_law_935 : decode cL_law 935 = .ok (.i2l, 1) := dk_133 (dk_at dksL_law_30 20 rfl rfl)
theorem dL_law_936 : decode cL_law 936 = .ok (.lcmp, 1) := dk_148 (dk_at dksL_law_30 21 rfl rfl)
theorem dL_law_937 : decode cL_law 937 = .ok (.ifCond .eq 5, 3) := dk_153 0 5 (dk_at dksL_law_31 0 rfl rfl)
theorem dL_law_940 : decode cL_law 940 = .ok (.iconst 0, 1) := dk_3 (dk_at dksL_law_31 3 rfl rfl)
theorem dL_law_941 : decode cL_law 941 = .ok (.ireturn, 1) := dk_172 (dk_at dksL_law_31 4 rfl rfl)
theorem dL_law_942 : decode cL_law 942 = .ok (.goto 2443, 3) := dk_167 9 139 (dk_at dksL_law_31 5 rfl rfl)
theorem dL_law_945 : decode cL_law 945 = .ok (.aload_n 1, 1) := dk_43 (dk_at dksL_law_31 8 rfl rfl)
theorem dL_law_946 : decode cL_law 946 = .ok (.aload_n 0, 1) := dk_42 (dk_at dksL_law_31 9 rfl rfl)
theorem dL_law_947 : decode cL_law 947 = .ok (.iload 5, 2) := dk_21 5 (dk_at dksL_law_31 10 rfl rfl)
theorem dL_law_949 : decode cL_law 949 = .ok (.iconst 1, 1) := dk_4 (dk_at dksL_law_31 12 rfl rfl)
theorem dL_law_950 : decode cL_law 950 = .ok (.iadd, 1) := dk_96 (dk_at dksL_law_31 13 rfl rfl)
theorem dL_law_951 : decode cL_law 951 = .ok (.iaload, 1) := dk_46 (dk_at dksL_law_31 14 rfl rfl)
theorem dL_law_952 : decode cL_law 952 = .ok (.aload_n 0, 1) := dk_42 (dk_at dksL_law_31 15 rfl rfl)
theorem dL_law_953 : decode cL_law 953 = .ok (.iload 5, 2) := dk_21 5 (dk_at dksL_law_31 16 rfl rfl)
theorem dL_law_955 : decode cL_law 955 = .ok (.iconst 2, 1) := dk_5 (dk_at dksL_law_31 18 rfl rfl)
theorem dL_law_956 : decode cL_law 956 = .ok (.iadd, 1) := dk_96 (dk_at dksL_law_31 19 rfl rfl)
theorem dL_law_957 : decode cL_law 957 = .ok (.iaload, 1) := dk_46 (dk_at dksL_law_31 20 rfl rfl)
theorem dL_law_958 : decode cL_law 958 = .ok (.aload_n 3, 1) := dk_45 (dk_at dksL_law_31 21 rfl rfl)
theorem dL_law_959 : decode cL_law 959 = .ok (.invokestatic 219, 3) := dk_184 0 219 (dk_at dksL_law_32 0 rfl rfl)
theorem dL_law_962 : decode cL_law 962 = .ok (.istore 6, 2) := dk_54 6 (dk_at dksL_law_32 3 rfl rfl)
theorem dL_law_964 : decode cL_law 964 = .ok (.aload_n 2, 1) := dk_44 (dk_at dksL_law_32 5 rfl rfl)
theorem dL_law_965 : decode cL_law 965 = .ok (.aload_n 0, 1) := dk_42 (dk_at dksL_law_32 6 rfl rfl)
theorem dL_law_966 : decode cL_law 966 = .ok (.iload 5, 2) := dk_21 5 (dk_at dksL_law_32 7 rfl rfl)
theorem dL_law_968 : decode cL_law 968 = .ok (.iconst 1, 1) := dk_4 (dk_at dksL_law_32 9 rfl rfl)
theorem dL_law_969 : decode cL_law 969 = .ok (.iadd, 1) := dk_96 (dk_at dksL_law_32 10 rfl rfl)
theorem dL_law_970 : decode cL_law 970 = .ok (.iaload, 1) := dk_46 (dk_at dksL_law_32 11 rfl rfl)
theorem dL_law_971 : decode cL_law 971 = .ok (.aload_n 0, 1) := dk_42 (dk_at dksL_law_32 12 rfl rfl)
theorem dL_law_972 : decode cL_law 972 = .ok (.iload 5, 2) := dk_21 5 (dk_at dksL_law_32 13 rfl rfl)
theorem dL_law_974 : decode cL_law 974 = .ok (.iconst 2, 1) := dk_5 (dk_at dksL_law_32 15 rfl rfl)
theorem dL_law_975 : decode cL_law 975 = .ok (.iadd, 1) := dk_96 (dk_at dksL_law_32 16 rfl rfl)
theorem dL_law_976 : decode cL_law 976 = .ok (.iaload, 1) := dk_46 (dk_at dksL_law_32 17 rfl rfl)
theorem dL_law_977 : decode cL_law 977 = .ok (.invokevirtual 221, 3) := dk_182 0 221 (dk_at dksL_law_32 18 rfl rfl)
theorem dL_law_980 : decode cL_law 980 = .ok (.istore 7, 2) := dk_54 7 (dk_at dksL_law_32 21 rfl rfl)
theorem dL_law_982 : decode cL_law 982 = .ok (.aload_n 2, 1) := dk_44 (dk_at dksL_law_32 23 rfl rfl)
theorem dL_law_983 : decode cL_law 983 = .ok (.invokevirtual 173, 3) := dk_182 0 173 (dk_at dksL_law_33 0 rfl rfl)
theorem dL_law_986 : decode cL_law 986 = .ok (.iload 6, 2) := dk_21 6 (dk_at dksL_law_33 3 rfl rfl)
theorem dL_law_988 : decode cL_law 988 = .ok (.if_icmp .eq 5, 3) := dk_159 0 5 (dk_at dksL_law_33 5 rfl rfl)
theorem dL_law_991 : decode cL_law 991 = .ok (.iconst 0, 1) := dk_3 (dk_at dksL_law_33 8 rfl rfl)
theorem dL_law_992 : decode cL_law 992 = .ok (.ireturn, 1) := dk_172 (dk_at dksL_law_33 9 rfl rfl)
theorem dL_law_993 : decode cL_law 993 = .ok (.iload 6, 2) := dk_21 6 (dk_at dksL_law_33 10 rfl rfl)
theorem dL_law_995 : decode cL_law 995 = .ok (.ifCond .ne 15, 3) := dk_154 0 15 (dk_at dksL_law_33 12 rfl rfl)
theorem dL_law_998 : decode cL_law 998 = .ok (.aload_n 3, 1) := dk_45 (dk_at dksL_law_33 15 rfl rfl)
theorem dL_law_999 : decode cL_law 999 = .ok (.iconst 0, 1) := dk_3 (dk_at dksL_law_33 16 rfl rfl)
theorem dL_law_1000 : decode cL_law 1000 = .ok (.laload, 1) := dk_47 (dk_at dksL_law_33 17 rfl rfl)
theorem dL_law_1001 : decode cL_law 1001 = .ok (.iload 7, 2) := dk_21 7 (dk_at dksL_law_33 18 rfl rfl)
theorem dL_law_1003 : decode cL_law 1003 = .ok (.i2l, 1) := dk_133 (dk_at dksL_law_33 20 rfl rfl)
theorem dL_law_1004 : decode cL_law 1004 = .ok (.lcmp, 1) := dk_148 (dk_at dksL_law_33 21 rfl rfl)
theorem dL_law_1005 : decode cL_law 1005 = .ok (.ifCond .eq 5, 3) := dk_153 0 5 (dk_at dksL_law_34 0 rfl rfl)
theorem dL_law_1008 : decode cL_law 1008 = .ok (.iconst 0, 1) := dk_3 (dk_at dksL_law_34 3 rfl rfl)
theorem dL_law_1009 : decode cL_law 1009 = .ok (.ireturn, 1) := dk_172 (dk_at dksL_law_34 4 rfl rfl)
theorem dL_law_1010 : decode cL_law 1010 = .ok (.goto 2375, 3) := dk_167 9 71 (dk_at dksL_law_34 5 rfl rfl)
theorem dL_law_1013 : decode cL_law 1013 = .ok (.aload_n 1, 1) := dk_43 (dk_at dksL_law_34 8 rfl rfl)
theorem dL_law_1014 : decode cL_law 1014 = .ok (.aload_n 0, 1) := dk_42 (dk_at dksL_law_34 9 rfl rfl)
theorem dL_law_1015 : decode cL_law 1015 = .ok (.iload 5, 2) := dk_21 5 (dk_at dksL_law_34 10 rfl rfl)
theorem dL_law_1017 : decode cL_law 1017 = .ok (.iconst 1, 1) := dk_4 (dk_at dksL_law_34 12 rfl rfl)
theorem dL_law_1018 : decode cL_law 1018 = .ok (.iadd, 1) := dk_96 (dk_at dksL_law_34 13 rfl rfl)
theorem dL_law_1019 : decode cL_law 1019 = .ok (.iaload, 1) := dk_46 (dk_at dksL_law_34 14 rfl rfl)
theorem dL_law_1020 : decode cL_law 1020 = .ok (.aload_n 0, 1) := dk_42 (dk_at dksL_law_34 15 rfl rfl)
theorem dL_law_1021 : decode cL_law 1021 = .ok (.iload 5, 2) := dk_21 5 (dk_at dksL_law_34 16 rfl rfl)
theorem dL_law_1023 : decode cL_law 1023 = .ok (.iconst 2, 1) := dk_5 (dk_at dksL_law_34 18 rfl rfl)
theorem dL_law_1024 : decode cL_law 1024 = .ok (.iadd, 1) := dk_96 (dk_at dksL_law_34 19 rfl rfl)
theorem dL_law_1025 : decode cL_law 1025 = .ok (.iaload, 1) := dk_46 (dk_at dksL_law_34 20 rfl rfl)
theorem dL_law_1026 : decode cL_law 1026 = .ok (.aload_n 3, 1) := dk_45 (dk_at dksL_law_34 21 rfl rfl)
theorem dL_law_1027 : decode cL_law 1027 = .ok (.invokestatic 222, 3) := dk_184 0 222 (dk_at dksL_law_35 0 rfl rfl)
theorem dL_law_1030 : decode cL_law 1030 = .ok (.istore 6, 2) := dk_54 6 (dk_at dksL_law_35 3 rfl rfl)
theorem dL_law_1032 : decode cL_law 1032 = .ok (.aload_n 2, 1) := dk_44 (dk_at dksL_law_35 5 rfl rfl)
theorem dL_law_1033 : decode cL_law 1033 = .ok (.aload_n 0, 1) := dk_42 (dk_at dksL_law_35 6 rfl rfl)
theorem dL_law_1034 : decode cL_law 1034 = .ok (.iload 5, 2) := dk_21 5 (dk_at dksL_law_35 7 rfl rfl)
theorem dL_law_1036 : decode cL_law 1036 = .ok (.iconst 1, 1) := dk_4 (dk_at dksL_law_35 9 rfl rfl)
theorem dL_law_1037 : decode cL_law 1037 = .ok (.iadd, 1) := dk_96 (dk_at dksL_law_35 10 rfl rfl)
theorem dL_law_1038 : decode cL_law 1038 = .ok (.iaload, 1) := dk_46 (dk_at dksL_law_35 11 rfl rfl)
theorem dL_law_1039 : decode cL_law 1039 = .ok (.aload_n 0, 1) := dk_42 (dk_at dksL_law_35 12 rfl rfl)
theorem dL_law_1040 : decode cL_law 1040 = .ok (.iload 5, 2) := dk_21 5 (dk_at dksL_law_35 13 rfl rfl)
theorem dL_law_1042 : decode cL_law 1042 = .ok (.iconst 2, 1) := dk_5 (dk_at dksL_law_35 15 rfl rfl)
theorem dL_law_1043 : decode cL_law 1043 = .ok (.iadd, 1) := dk_96 (dk_at dksL_law_35 16 rfl rfl)
theorem dL_law_1044 : decode cL_law 1044 = .ok (.iaload, 1) := dk_46 (dk_at dksL_law_35 17 rfl rfl)
theorem dL_law_1045 : decode cL_law 1045 = .ok (.invokevirtual 224, 3) := dk_182 0 224 (dk_at dksL_law_35 18 rfl rfl)
theorem dL_law_1048 : decode cL_law 1048 = .ok (.istore 7, 2) := dk_54 7 (dk_at dksL_law_35 21 rfl rfl)
theorem dL_law_1050 : decode cL_law 1050 = .ok (.aload_n 2, 1) := dk_44 (dk_at dksL_law_35 23 rfl rfl)
theorem dL_law_1051 : decode cL_law 1051 = .ok (.invokevirtual 173, 3) := dk_182 0 173 (dk_at dksL_law_36 0 rfl rfl)
theorem dL_law_1054 : decode cL_law 1054 = .ok (.iload 6, 2) := dk_21 6 (dk_at dksL_law_36 3 rfl rfl)
theorem dL_law_1056 : decode cL_law 1056 = .ok (.if_icmp .eq 5, 3) := dk_159 0 5 (dk_at dksL_law_36 5 rfl rfl)
theorem dL_law_1059 : decode cL_law 1059 = .ok (.iconst 0, 1) := dk_3 (dk_at dksL_law_36 8 rfl rfl)
theorem dL_law_1060 : decode cL_law 1060 = .ok (.ireturn, 1) := dk_172 (dk_at dksL_law_36 9 rfl rfl)
theorem dL_law_1061 : decode cL_law 1061 = .ok (.iload 6, 2) := dk_21 6 (dk_at dksL_law_36 10 rfl rfl)
theorem dL_law_1063 : decode cL_law 1063 = .ok (.ifCond .ne 15, 3) := dk_154 0 15 (dk_at dksL_law_36 12 rfl rfl)
theorem dL_law_1066 : decode cL_law 1066 = .ok (.aload_n 3, 1) := dk_45 (dk_at dksL_law_36 15 rfl rfl)
theorem dL_law_1067 : decode cL_law 1067 = .ok (.iconst 0, 1) := dk_3 (dk_at dksL_law_36 16 rfl rfl)
theorem dL_law_1068 : decode cL_law 1068 = .ok (.laload, 1) := dk_47 (dk_at dksL_law_36 17 rfl rfl)
theorem dL_law_1069 : decode cL_law 1069 = .ok (.iload 7, 2) := dk_21 7 (dk_at dksL_law_36 18 rfl rfl)
theorem dL_law_1071 : decode cL_law 1071 = .ok (.i2l, 1) := dk_133 (dk_at dksL_law_36 20 rfl rfl)
theorem dL_law_1072 : decode cL_law 1072 = .ok (.lcmp, 1) := dk_148 (dk_at dksL_law_36 21 rfl rfl)
theorem dL_law_1073 : decode cL_law 1073 = .ok (.ifCond .eq 5, 3) := dk_153 0 5 (dk_at dksL_law_37 0 rfl rfl)
theorem dL_law_1076 : decode cL_law 1076 = .ok (.iconst 0, 1) := dk_3 (dk_at dksL_law_37 3 rfl rfl)
theorem dL_law_1077 : decode cL_law 1077 = .ok (.ireturn, 1) := dk_172 (dk_at dksL_law_37 4 rfl rfl)
theorem dL_law_1078 : decode cL_law 1078 = .ok (.goto 2307, 3) := dk_167 9 3 (dk_at dksL_law_37 5 rfl rfl)
theorem dL_law_1081 : decode cL_law 1081 = .ok (.aload_n 1, 1) := dk_43 (dk_at dksL_law_37 8 rfl rfl)
theorem dL_law_1082 : decode cL_law 1082 = .ok (.aload_n 0, 1) := dk_42 (dk_at dksL_law_37 9 rfl rfl)
theorem dL_law_1083 : decode cL_law 1083 = .ok (.iload 5, 2) := dk_21 5 (dk_at dksL_law_37 10 rfl rfl)
theorem dL_law_1085 : decode cL_law 1085 = .ok (.iconst 1, 1) := dk_4 (dk_at dksL_law_37 12 rfl rfl)
theorem dL_law_1086 : decode cL_law 1086 = .ok (.iadd, 1) := dk_96 (dk_at dksL_law_37 13 rfl rfl)
theorem dL_law_1087 : decode cL_law 1087 = .ok (.iaload, 1) := dk_46 (dk_at dksL_law_37 14 rfl rfl)
theorem dL_law_1088 : decode cL_law 1088 = .ok (.aload_n 0, 1) := dk_42 (dk_at dksL_law_37 15 rfl rfl)
theorem dL_law_1089 : decode cL_law 1089 = .ok (.iload 5, 2) := dk_21 5 (dk_at dksL_law_37 16 rfl rfl)
theorem dL_law_1091 : decode cL_law 1091 = .ok (.iconst 2, 1) := dk_5 (dk_at dksL_law_37 18 rfl rfl)
theorem dL_law_1092 : decode cL_law 1092 = .ok (.iadd, 1) := dk_96 (dk_at dksL_law_37 19 rfl rfl)
theorem dL_law_1093 : decode cL_law 1093 = .ok (.iaload, 1) := dk_46 (dk_at dksL_law_37 20 rfl rfl)
theorem dL_law_1094 : decode cL_law 1094 = .ok (.aload_n 3, 1) := dk_45 (dk_at dksL_law_37 21 rfl rfl)
theorem dL_law_1095 : decode cL_law 1095 = .ok (.invokestatic 225, 3) := dk_184 0 225 (dk_at dksL_law_38 0 rfl rfl)
theorem dL_law_1098 : decode cL_law 1098 = .ok (.istore 6, 2) := dk_54 6 (dk_at dksL_law_38 3 rfl rfl)
theorem dL_law_1100 : decode cL_law 1100 = .ok (.aload_n 2, 1) := dk_44 (dk_at dksL_law_38 5 rfl rfl)
theorem dL_law_1101 : decode cL_law 1101 = .ok (.aload_n 0, 1) := dk_42 (dk_at dksL_law_38 6 rfl rfl)
theorem dL_law_1102 : decode cL_law 1102 = .ok (.iload 5, 2) := dk_21 5 (dk_at dksL_law_38 7 rfl rfl)
theorem dL_law_1104 : decode cL_law 1104 = .ok (.iconst 1, 1) := dk_4 (dk_at dksL_law_38 9 rfl rfl)
theorem dL_law_1105 : decode cL_law 1105 = .ok (.iadd, 1) := dk_96 (dk_at dksL_law_38 10 rfl rfl)
theorem dL_law_1106 : decode cL_law 1106 = .ok (.iaload, 1) := dk_46 (dk_at dksL_law_38 11 rfl rfl)
theorem dL_law_1107 : decode cL_law 1107 = .ok (.aload_n 0, 1) := dk_42 (dk_at dksL_law_38 12 rfl rfl)
theorem dL_law_1108 : decode cL_law 1108 = .ok (.iload 5, 2) := dk_21 5 (dk_at dksL_law_38 13 rfl rfl)
theorem dL_law_1110 : decode cL_law 1110 = .ok (.iconst 2, 1) := dk_5 (dk_at dksL_law_38 15 rfl rfl)
theorem dL_law_1111 : decode cL_law 1111 = .ok (.iadd, 1) := dk_96 (dk_at dksL_law_38 16 rfl rfl)
theorem dL_law_1112 : decode cL_law 1112 = .ok (.iaload, 1) := dk_46 (dk_at dksL_law_38 17 rfl rfl)
theorem dL_law_1113 : decode cL_law 1113 = .ok (.invokevirtual 227, 3) := dk_182 0 227 (dk_at dksL_law_38 18 rfl rfl)
theorem dL_law_1116 : decode cL_law 1116 = .ok (.istore 7, 2) := dk_54 7 (dk_at dksL_law_38 21 rfl rfl)
theorem dL_law_1118 : decode cL_law 1118 = .ok (.aload_n 2, 1) := dk_44 (dk_at dksL_law_38 23 rfl rfl)
theorem dL_law_1119 : decode cL_law 1119 = .ok (.invokevirtual 173, 3) := dk_182 0 173 (dk_at dksL_law_39 0 rfl rfl)
theorem dL_law_1122 : decode cL_law 1122 = .ok (.iload 6, 2) := dk_21 6 (dk_at dksL_law_39 3 rfl rfl)
theorem dL_law_1124 : decode cL_law 1124 = .ok (.if_icmp .eq 5, 3) := dk_159 0 5 (dk_at dksL_law_39 5 rfl rfl)
theorem dL_law_1127 : decode cL_law 1127 = .ok (.iconst 0, 1) := dk_3 (dk_at dksL_law_39 8 rfl rfl)
theorem dL_law_1128 : decode cL_law 1128 = .ok (.ireturn, 1) := dk_172 (dk_at dksL_law_39 9 rfl rfl)
theorem dL_law_1129 : decode cL_law 1129 = .ok (.iload 6, 2) := dk_21 6 (dk_at dksL_law_39 10 rfl rfl)
theorem dL_law_1131 : decode cL_law 1131 = .ok (.ifCond .ne 15, 3) := dk_154 0 15 (dk_at dksL_law_39 12 rfl rfl)
theorem dL_law_1134 : decode cL_law 1134 = .ok (.aload_n 3, 1) := dk_45 (dk_at dksL_law_39 15 rfl rfl)
theorem dL_law_1135 : decode cL_law 1135 = .ok (.iconst 0, 1) := dk_3 (dk_at dksL_law_39 16 rfl rfl)
theorem dL_law_1136 : decode cL_law 1136 = .ok (.laload, 1) := dk_47 (dk_at dksL_law_39 17 rfl rfl)
theorem dL_law_1137 : decode cL_law 1137 = .ok (.iload 7, 2) := dk_21 7 (dk_at dksL_law_39 18 rfl rfl)
theorem dL_law_1139 : decode cL_law 1139 = .ok (.i2l, 1) := dk_133 (dk_at dksL_law_39 20 rfl rfl)
theorem dL_law_1140 : decode cL_law 1140 = .ok (.lcmp, 1) := dk_148 (dk_at dksL_law_39 21 rfl rfl)
theorem dL_law_1141 : decode cL_law 1141 = .ok (.ifCond .eq 5, 3) := dk_153 0 5 (dk_at dksL_law_40 0 rfl rfl)
theorem dL_law_1144 : decode cL_law 1144 = .ok (.iconst 0, 1) := dk_3 (dk_at dksL_law_40 3 rfl rfl)
theorem dL_law_1145 : decode cL_law 1145 = .ok (.ireturn, 1) := dk_172 (dk_at dksL_law_40 4 rfl rfl)
theorem dL_law_1146 : decode cL_law 1146 = .ok (.goto 2239, 3) := dk_167 8 191 (dk_at dksL_law_40 5 rfl rfl)
theorem dL_law_1149 : decode cL_law 1149 = .ok (.aload_n 1, 1) := dk_43 (dk_at dksL_law_40 8 rfl rfl)
theorem dL_law_1150 : decode cL_law 1150 = .ok (.aload_n 0, 1) := dk_42 (dk_at dksL_law_40 9 rfl rfl)
theorem dL_law_1151 : decode cL_law 1151 = .ok (.iload 5, 2) := dk_21 5 (dk_at dksL_law_40 10 rfl rfl)
theorem dL_law_1153 : decode cL_law 1153 = .ok (.iconst 1, 1) := dk_4 (dk_at dksL_law_40 12 rfl rfl)
theorem dL_law_1154 : decode cL_law 1154 = .ok (.iadd, 1) := dk_96 (dk_at dksL_law_40 13 rfl rfl)
theorem dL_law_1155 : decode cL_law 1155 = .ok (.iaload, 1) := dk_46 (dk_at dksL_law_40 14 rfl rfl)
theorem dL_law_1156 : decode cL_law 1156 = .ok (.aload_n 0, 1) := dk_42 (dk_at dksL_law_40 15 rfl rfl)
theorem dL_law_1157 : decode cL_law 1157 = .ok (.iload 5, 2) := dk_21 5 (dk_at dksL_law_40 16 rfl rfl)
theorem dL_law_1159 : decode cL_law 1159 = .ok (.iconst 2, 1) := dk_5 (dk_at dksL_law_40 18 rfl rfl)
theorem dL_law_1160 : decode cL_law 1160 = .ok (.iadd, 1) := dk_96 (dk_at dksL_law_40 19 rfl rfl)
theorem dL_law_1161 : decode cL_law 1161 = .ok (.iaload, 1) := dk_46 (dk_at dksL_law_40 20 rfl rfl)
theorem dL_law_1162 : decode cL_law 1162 = .ok (.aload_n 3, 1) := dk_45 (dk_at dksL_law_40 21 rfl rfl)
theorem dL_law_1163 : decode cL_law 1163 = .ok (.invokestatic 228, 3) := dk_184 0 228 (dk_at dksL_law_41 0 rfl rfl)
theorem dL_law_1166 : decode cL_law 1166 = .ok (.istore 6, 2) := dk_54 6 (dk_at dksL_law_41 3 rfl rfl)
theorem dL_law_1168 : decode cL_law 1168 = .ok (.aload_n 2, 1) := dk_44 (dk_at dksL_law_41 5 rfl rfl)
theorem dL_law_1169 : decode cL_law 1169 = .ok (.aload_n 0, 1) := dk_42 (dk_at dksL_law_41 6 rfl rfl)
theorem dL_law_1170 : decode cL_law 1170 = .ok (.iload 5, 2) := dk_21 5 (dk_at dksL_law_41 7 rfl rfl)
theorem dL_law_1172 : decode cL_law 1172 = .ok (.iconst 1, 1) := dk_4 (dk_at dksL_law_41 9 rfl rfl)
theorem dL_law_1173 : decode cL_law 1173 = .ok (.iadd, 1) := dk_96 (dk_at dksL_law_41 10 rfl rfl)
theorem dL_law_1174 : decode cL_law 1174 = .ok (.iaload, 1) := dk_46 (dk_at dksL_law_41 11 rfl rfl)
theorem dL_law_1175 : decode cL_law 1175 = .ok (.aload_n 0, 1) := dk_42 (dk_at dksL_law_41 12 rfl rfl)
theorem dL_law_1176 : decode cL_law 1176 = .ok (.iload 5, 2) := dk_21 5 (dk_at dksL_law_41 13 rfl rfl)
theorem dL_law_1178 : decode cL_law 1178 = .ok (.iconst 2, 1) := dk_5 (dk_at dksL_law_41 15 rfl rfl)
theorem dL_law_1179 : decode cL_law 1179 = .ok (.iadd, 1) := dk_96 (dk_at dksL_law_41 16 rfl rfl)
theorem dL_law_1180 : decode cL_law 1180 = .ok (.iaload, 1) := dk_46 (dk_at dksL_law_41 17 rfl rfl)
theorem dL_law_1181 : decode cL_law 1181 = .ok (.invokevirtual 230, 3) := dk_182 0 230 (dk_at dksL_law_41 18 rfl rfl)
theorem dL_law_1184 : decode cL_law 1184 = .ok (.istore 7, 2) := dk_54 7 (dk_at dksL_law_41 21 rfl rfl)
theorem dL_law_1186 : decode cL_law 1186 = .ok (.aload_n 2, 1) := dk_44 (dk_at dksL_law_41 23 rfl rfl)
theorem dL_law_1187 : decode cL_law 1187 = .ok (.invokevirtual 173, 3) := dk_182 0 173 (dk_at dksL_law_42 0 rfl rfl)
theorem dL_law_1190 : decode cL_law 1190 = .ok (.iload 6, 2) := dk_21 6 (dk_at dksL_law_42 3 rfl rfl)
theorem dL_law_1192 : decode cL_law 1192 = .ok (.if_icmp .eq 5, 3) := dk_159 0 5 (dk_at dksL_law_42 5 rfl rfl)
theorem dL_law_1195 : decode cL_law 1195 = .ok (.iconst 0, 1) := dk_3 (dk_at dksL_law_42 8 rfl rfl)
theorem dL_law_1196 : decode cL_law 1196 = .ok (.ireturn, 1) := dk_172 (dk_at dksL_law_42 9 rfl rfl)
theorem dL_law_1197 : decode cL_law 1197 = .ok (.iload 6, 2) := dk_21 6 (dk_at dksL_law_42 10 rfl rfl)
theorem dL_law_1199 : decode cL_law 1199 = .ok (.ifCond .ne 15, 3) := dk_154 0 15 (dk_at dksL_law_42 12 rfl rfl)
theorem dL_law_1202 : decode cL_law 1202 = .ok (.aload_n 3, 1) := dk_45 (dk_at dksL_law_42 15 rfl rfl)
theorem dL_law_1203 : decode cL_law 1203 = .ok (.iconst 0, 1) := dk_3 (dk_at dksL_law_42 16 rfl rfl)
theorem dL_law_1204 : decode cL_law 1204 = .ok (.laload, 1) := dk_47 (dk_at dksL_law_42 17 rfl rfl)
theorem dL_law_1205 : decode cL_law 1205 = .ok (.iload 7, 2) := dk_21 7 (dk_at dksL_law_42 18 rfl rfl)
theorem dL_law_1207 : decode cL_law 1207 = .ok (.i2l, 1) := dk_133 (dk_at dksL_law_42 20 rfl rfl)
theorem dL_law_1208 : decode cL_law 1208 = .ok (.lcmp, 1) := dk_148 (dk_at dksL_law_42 21 rfl rfl)
theorem dL_law_1209 : decode cL_law 1209 = .ok (.ifCond .eq 5, 3) := dk_153 0 5 (dk_at dksL_law_43 0 rfl rfl)
theorem dL_law_1212 : decode cL_law 1212 = .ok (.iconst 0, 1) := dk_3 (dk_at dksL_law_43 3 rfl rfl)
theorem dL_law_1213 : decode cL_law 1213 = .ok (.ireturn, 1) := dk_172 (dk_at dksL_law_43 4 rfl rfl)
theorem dL_law_1214 : decode cL_law 1214 = .ok (.goto 2171, 3) := dk_167 8 123 (dk_at dksL_law_43 5 rfl rfl)
theorem dL_law_1217 : decode cL_law 1217 = .ok (.aload_n 1, 1) := dk_43 (dk_at dksL_law_43 8 rfl rfl)
theorem dL_law_1218 : decode cL_law 1218 = .ok (.aload_n 0, 1) := dk_42 (dk_at dksL_law_43 9 rfl rfl)
theorem dL_law_1219 : decode cL_law 1219 = .ok (.iload 5, 2) := dk_21 5 (dk_at dksL_law_43 10 rfl rfl)
theorem dL_law_1221 : decode cL_law 1221 = .ok (.iconst 1, 1) := dk_4 (dk_at dksL_law_43 12 rfl rfl)
theorem dL_law_1222 : decode cL_law 1222 = .ok (.iadd, 1) := dk_96 (dk_at dksL_law_43 13 rfl rfl)
theorem dL_law_1223 : decode cL_law 1223 = .ok (.iaload, 1) := dk_46 (dk_at dksL_law_43 14 rfl rfl)
theorem dL_law_1224 : decode cL_law 1224 = .ok (.aload_n 3, 1) := dk_45 (dk_at dksL_law_43 15 rfl rfl)
theorem dL_law_1225 : decode cL_law 1225 = .ok (.invokestatic 231, 3) := dk_184 0 231 (dk_at dksL_law_43 16 rfl rfl)
theorem dL_law_1228 : decode cL_law 1228 = .ok (.istore 6, 2) := dk_54 6 (dk_at dksL_law_43 19 rfl rfl)
theorem dL_law_1230 : decode cL_law 1230 = .ok (.aload_n 2, 1) := dk_44 (dk_at dksL_law_43 21 rfl rfl)
theorem dL_law_1231 : decode cL_law 1231 = .ok (.aload_n 0, 1) := dk_42 (dk_at dksL_law_43 22 rfl rfl)
theorem dL_law_1232 : decode cL_law 1232 = .ok (.iload 5, 2) := dk_21 5 (dk_at dksL_law_44 0 rfl rfl)
theorem dL_law_1234 : decode cL_law 1234 = .ok (.iconst 1, 1) := dk_4 (dk_at dksL_law_44 2 rfl rfl)
theorem dL_law_1235 : decode cL_law 1235 = .ok (.iadd, 1) := dk_96 (dk_at dksL_law_44 3 rfl rfl)
theorem dL_law_1236 : decode cL_law 1236 = .ok (.iaload, 1) := dk_46 (dk_at dksL_law_44 4 rfl rfl)
theorem dL_law_1237 : decode cL_law 1237 = .ok (.invokevirtual 233, 3) := dk_182 0 233 (dk_at dksL_law_44 5 rfl rfl)
theorem dL_law_1240 : decode cL_law 1240 = .ok (.istore 7, 2) := dk_54 7 (dk_at dksL_law_44 8 rfl rfl)
theorem dL_law_1242 : decode cL_law 1242 = .ok (.aload_n 2, 1) := dk_44 (dk_at dksL_law_44 10 rfl rfl)
theorem dL_law_1243 : decode cL_law 1243 = .ok (.invokevirtual 173, 3) := dk_182 0 173 (dk_at dksL_law_44 11 rfl rfl)
theorem dL_law_1246 : decode cL_law 1246 = .ok (.iload 6, 2) := dk_21 6 (dk_at dksL_law_44 14 rfl rfl)
theorem dL_law_1248 : decode cL_law 1248 = .ok (.if_icmp .eq 5, 3) := dk_159 0 5 (dk_at dksL_law_44 16 rfl rfl)
theorem dL_law_1251 : decode cL_law 1251 = .ok (.iconst 0, 1) := dk_3 (dk_at dksL_law_44 19 rfl rfl)
theorem dL_law_1252 : decode cL_law 1252 = .ok (.ireturn, 1) := dk_172 (dk_at dksL_law_44 20 rfl rfl)
theorem dL_law_1253 : decode cL_law 1253 = .ok (.iload 6, 2) := dk_21 6 (dk_at dksL_law_44 21 rfl rfl)
theorem dL_law_1255 : decode cL_law 1255 = .ok (.ifCond .ne 15, 3) := dk_154 0 15 (dk_at dksL_law_45 0 rfl rfl)
theorem dL_law_1258 : decode cL_law 1258 = .ok (.aload_n 3, 1) := dk_45 (dk_at dksL_law_45 3 rfl rfl)
theorem dL_law_1259 : decode cL_law 1259 = .ok (.iconst 0, 1) := dk_3 (dk_at dksL_law_45 4 rfl rfl)
theorem dL_law_1260 : decode cL_law 1260 = .ok (.laload, 1) := dk_47 (dk_at dksL_law_45 5 rfl rfl)
theorem dL_law_1261 : decode cL_law 1261 = .ok (.iload 7, 2) := dk_21 7 (dk_at dksL_law_45 6 rfl rfl)
theorem dL_law_1263 : decode cL_law 1263 = .ok (.i2l, 1) := dk_133 (dk_at dksL_law_45 8 rfl rfl)
theorem dL_law_1264 : decode cL_law 1264 = .ok (.lcmp, 1) := dk_148 (dk_at dksL_law_45 9 rfl rfl)
theorem dL_law_1265 : decode cL_law 1265 = .ok (.ifCond .eq 5, 3) := dk_153 0 5 (dk_at dksL_law_45 10 rfl rfl)
theorem dL_law_1268 : decode cL_law 1268 = .ok (.iconst 0, 1) := dk_3 (dk_at dksL_law_45 13 rfl rfl)
theorem dL_law_1269 : decode cL_law 1269 = .ok (.ireturn, 1) := dk_172 (dk_at dksL_law_45 14 rfl rfl)
theorem dL_law_1270 : decode cL_law 1270 = .ok (.goto 2115, 3) := dk_167 8 67 (dk_at dksL_law_45 15 rfl rfl)
theorem dL_law_1273 : decode cL_law 1273 = .ok (.aload_n 1, 1) := dk_43 (dk_at dksL_law_45 18 rfl rfl)
theorem dL_law_1274 : decode cL_law 1274 = .ok (.aload_n 0, 1) := dk_42 (dk_at dksL_law_45 19 rfl rfl)
theorem dL_law_1275 : decode cL_law 1275 = .ok (.iload 5, 2) := dk_21 5 (dk_at dksL_law_45 20 rfl rfl)
theorem dL_law_1277 : decode cL_law 1277 = .ok (.iconst 1, 1) := dk_4 (dk_at dksL_law_45 22 rfl rfl)
theorem dL_law_1278 : decode cL_law 1278 = .ok (.iadd, 1) := dk_96 (dk_at dksL_law_45 23 rfl rfl)
theorem dL_law_1279 : decode cL_law 1279 = .ok (.iaload, 1) := dk_46 (dk_at dksL_law_46 0 rfl rfl)
theorem dL_law_1280 : decode cL_law 1280 = .ok (.aload_n 3, 1) := dk_45 (dk_at dksL_law_46 1 rfl rfl)
theorem dL_law_1281 : decode cL_law 1281 = .ok (.invokestatic 234, 3) := dk_184 0 234 (dk_at dksL_law_46 2 rfl rfl)
theorem dL_law_1284 : decode cL_law 1284 = .ok (.istore 6, 2) := dk_54 6 (dk_at dksL_law_46 5 rfl rfl)
theorem dL_law_1286 : decode cL_law 1286 = .ok (.aload_n 2, 1) := dk_44 (dk_at dksL_law_46 7 rfl rfl)
theorem dL_law_1287 : decode cL_law 1287 = .ok (.aload_n 0, 1) := dk_42 (dk_at dksL_law_46 8 rfl rfl)
theorem dL_law_1288 : decode cL_law 1288 = .ok (.iload 5, 2) := dk_21 5 (dk_at dksL_law_46 9 rfl rfl)
theorem dL_law_1290 : decode cL_law 1290 = .ok (.iconst 1, 1) := dk_4 (dk_at dksL_law_46 11 rfl rfl)
theorem dL_law_1291 : decode cL_law 1291 = .ok (.iadd, 1) := dk_96 (dk_at dksL_law_46 12 rfl rfl)
theorem dL_law_1292 : decode cL_law 1292 = .ok (.iaload, 1) := dk_46 (dk_at dksL_law_46 13 rfl rfl)
theorem dL_law_1293 : decode cL_law 1293 = .ok (.invokevirtual 236, 3) := dk_182 0 236 (dk_at dksL_law_46 14 rfl rfl)
theorem dL_law_1296 : decode cL_law 1296 = .ok (.istore 7, 2) := dk_54 7 (dk_at dksL_law_46 17 rfl rfl)
theorem dL_law_1298 : decode cL_law 1298 = .ok (.aload_n 2, 1) := dk_44 (dk_at dksL_law_46 19 rfl rfl)
theorem dL_law_1299 : decode cL_law 1299 = .ok (.invokevirtual 173, 3) := dk_182 0 173 (dk_at dksL_law_46 20 rfl rfl)
theorem dL_law_1302 : decode cL_law 1302 = .ok (.iload 6, 2) := dk_21 6 (dk_at dksL_law_47 0 rfl rfl)
theorem dL_law_1304 : decode cL_law 1304 = .ok (.if_icmp .eq 5, 3) := dk_159 0 5 (dk_at dksL_law_47 2 rfl rfl)
theorem dL_law_1307 : decode cL_law 1307 = .ok (.iconst 0, 1) := dk_3 (dk_at dksL_law_47 5 rfl rfl)
theorem dL_law_1308 : decode cL_law 1308 = .ok (.ireturn, 1) := dk_172 (dk_at dksL_law_47 6 rfl rfl)
theorem dL_law_1309 : decode cL_law 1309 = .ok (.iload 6, 2) := dk_21 6 (dk_at dksL_law_47 7 rfl rfl)
theorem dL_law_1311 : decode cL_law 1311 = .ok (.ifCond .ne 15, 3) := dk_154 0 15 (dk_at dksL_law_47 9 rfl rfl)
theorem dL_law_1314 : decode cL_law 1314 = .ok (.aload_n 3, 1) := dk_45 (dk_at dksL_law_47 12 rfl rfl)
theorem dL_law_1315 : decode cL_law 1315 = .ok (.iconst 0, 1) := dk_3 (dk_at dksL_law_47 13 rfl rfl)
theorem dL_law_1316 : decode cL_law 1316 = .ok (.laload, 1) := dk_47 (dk_at dksL_law_47 14 rfl rfl)
theorem dL_law_1317 : decode cL_law 1317 = .ok (.iload 7, 2) := dk_21 7 (dk_at dksL_law_47 15 rfl rfl)
theorem dL_law_1319 : decode cL_law 1319 = .ok (.i2l, 1) := dk_133 (dk_at dksL_law_47 17 rfl rfl)
theorem dL_law_1320 : decode cL_law 1320 = .ok (.lcmp, 1) := dk_148 (dk_at dksL_law_47 18 rfl rfl)
theorem dL_law_1321 : decode cL_law 1321 = .ok (.ifCond .eq 5, 3) := dk_153 0 5 (dk_at dksL_law_47 19 rfl rfl)
theorem dL_law_1324 : decode cL_law 1324 = .ok (.iconst 0, 1) := dk_3 (dk_at dksL_law_47 22 rfl rfl)
theorem dL_law_1325 : decode cL_law 1325 = .ok (.ireturn, 1) := dk_172 (dk_at dksL_law_47 23 rfl rfl)
theorem dL_law_1326 : decode cL_law 1326 = .ok (.goto 2059, 3) := dk_167 8 11 (dk_at dksL_law_48 0 rfl rfl)
theorem dL_law_1329 : decode cL_law 1329 = .ok (.aload_n 1, 1) := dk_43 (dk_at dksL_law_48 3 rfl rfl)
theorem dL_law_1330 : decode cL_law 1330 = .ok (.aload_n 0, 1) := dk_42 (dk_at dksL_law_48 4 rfl rfl)
theorem dL_law_1331 : decode cL_law 1331 = .ok (.iload 5, 2) := dk_21 5 (dk_at dksL_law_48 5 rfl rfl)
theorem dL_law_1333 : decode cL_law 1333 = .ok (.iconst 1, 1) := dk_4 (dk_at dksL_law_48 7 rfl rfl)
theorem dL_law_1334 : decode cL_law 1334 = .ok (.iadd, 1) := dk_96 (dk_at dksL_law_48 8 rfl rfl)
theorem dL_law_1335 : decode cL_law 1335 = .ok (.iaload, 1) := dk_46 (dk_at dksL_law_48 9 rfl rfl)
theorem dL_law_1336 : decode cL_law 1336 = .ok (.aload_n 3, 1) := dk_45 (dk_at dksL_law_48 10 rfl rfl)
theorem dL_law_1337 : decode cL_law 1337 = .ok (.invokestatic 237, 3) := dk_184 0 237 (dk_at dksL_law_48 11 rfl rfl)
theorem dL_law_1340 : decode cL_law 1340 = .ok (.istore 6, 2) := dk_54 6 (dk_at dksL_law_48 14 rfl rfl)
theorem dL_law_1342 : decode cL_law 1342 = .ok (.aload_n 2, 1) := dk_44 (dk_at dksL_law_48 16 rfl rfl)
theorem dL_law_1343 : decode cL_law 1343 = .ok (.aload_n 0, 1) := dk_42 (dk_at dksL_law_48 17 rfl rfl)
theorem dL_law_1344 : decode cL_law 1344 = .ok (.iload 5, 2) := dk_21 5 (dk_at dksL_law_48 18 rfl rfl)
theorem dL_law_1346 : decode cL_law 1346 = .ok (.iconst 1, 1) := dk_4 (dk_at dksL_law_48 20 rfl rfl)
theorem dL_law_1347 : decode cL_law 1347 = .ok (.iadd, 1) := dk_96 (dk_at dksL_law_48 21 rfl rfl)
theorem dL_law_1348 : decode cL_law 1348 = .ok (.iaload, 1) := dk_46 (dk_at dksL_law_48 22 rfl rfl)
theorem dL_law_1349 : decode cL_law 1349 = .ok (.invokevirtual 239, 3) := dk_182 0 239 (dk_at dksL_law_49 0 rfl rfl)
theorem dL_law_1352 : decode cL_law 1352 = .ok (.istore 7, 2) := dk_54 7 (dk_at dksL_law_49 3 rfl rfl)
theorem dL_law_1354 : decode cL_law 1354 = .ok (.aload_n 2, 1) := dk_44 (dk_at dksL_law_49 5 rfl rfl)
theorem dL_law_1355 : decode cL_law 1355 = .ok (.invokevirtual 173, 3) := dk_182 0 173 (dk_at dksL_law_49 6 rfl rfl)
theorem dL_law_1358 : decode cL_law 1358 = .ok (.iload 6, 2) := dk_21 6 (dk_at dksL_law_49 9 rfl rfl)
theorem dL_law_1360 : decode cL_law 1360 = .ok (.if_icmp .eq 5, 3) := dk_159 0 5 (dk_at dksL_law_49 11 rfl rfl)
theorem dL_law_1363 : decode cL_law 1363 = .ok (.iconst 0, 1) := dk_3 (dk_at dksL_law_49 14 rfl rfl)
theorem dL_law_1364 : decode cL_law 1364 = .ok (.ireturn, 1) := dk_172 (dk_at dksL_law_49 15 rfl rfl)
theorem dL_law_1365 : decode cL_law 1365 = .ok (.iload 6, 2) := dk_21 6 (dk_at dksL_law_49 16 rfl rfl)
theorem dL_law_1367 : decode cL_law 1367 = .ok (.ifCond .ne 15, 3) := dk_154 0 15 (dk_at dksL_law_49 18 rfl rfl)
theorem dL_law_1370 : decode cL_law 1370 = .ok (.aload_n 3, 1) := dk_45 (dk_at dksL_law_49 21 rfl rfl)
theorem dL_law_1371 : decode cL_law 1371 = .ok (.iconst 0, 1) := dk_3 (dk_at dksL_law_49 22 rfl rfl)
theorem dL_law_1372 : decode cL_law 1372 = .ok (.laload, 1) := dk_47 (dk_at dksL_law_49 23 rfl rfl)
theorem dL_law_1373 : decode cL_law 1373 = .ok (.iload 7, 2) := dk_21 7 (dk_at dksL_law_50 0 rfl rfl)
theorem dL_law_1375 : decode cL_law 1375 = .ok (.i2l, 1) := dk_133 (dk_at dksL_law_50 2 rfl rfl)
theorem dL_law_1376 : decode cL_law 1376 = .ok (.lcmp, 1) := dk_148 (dk_at dksL_law_50 3 rfl rfl)
theorem dL_law_1377 : decode cL_law 1377 = .ok (.ifCond .eq 5, 3) := dk_153 0 5 (dk_at dksL_law_50 4 rfl rfl)
theorem dL_law_1380 : decode cL_law 1380 = .ok (.iconst 0, 1) := dk_3 (dk_at dksL_law_50 7 rfl rfl)
theorem dL_law_1381 : decode cL_law 1381 = .ok (.ireturn, 1) := dk_172 (dk_at dksL_law_50 8 rfl rfl)
theorem dL_law_1382 : decode cL_law 1382 = .ok (.goto 2003, 3) := dk_167 7 211 (dk_at dksL_law_50 9 rfl rfl)
theorem dL_law_1385 : decode cL_law 1385 = .ok (.aload_n 1, 1) := dk_43 (dk_at dksL_law_50 12 rfl rfl)
theorem dL_law_1386 : decode cL_law 1386 = .ok (.invokevirtual 240, 3) := dk_182 0 240 (dk_at dksL_law_50 13 rfl rfl)
theorem dL_law_1389 : decode cL_law 1389 = .ok (.aload_n 2, 1) := dk_44 (dk_at dksL_law_50 16 rfl rfl)
theorem dL_law_1390 : decode cL_law 1390 = .ok (.invokevirtual 243, 3) := dk_182 0 243 (dk_at dksL_law_50 17 rfl rfl)
theorem dL_law_1393 : decode cL_law 1393 = .ok (.if_icmp .eq 1992, 3) := dk_159 7 200 (dk_at dksL_law_50 20 rfl rfl)
theorem dL_law_1396 : decode cL_law 1396 = .ok (.iconst 0, 1) := dk_3 (dk_at dksL_law_50 23 rfl rfl)
theorem dL_law_1397 : decode cL_law 1397 = .ok (.ireturn, 1) := dk_172 (dk_at dksL_law_51 0 rfl rfl)
theorem dL_law_1398 : decode cL_law 1398 = .ok (.aload_n 1, 1) := dk_43 (dk_at dksL_law_51 1 rfl rfl)
theorem dL_law_1399 : decode cL_law 1399 = .ok (.aload_n 0, 1) := dk_42 (dk_at dksL_law_51 2 rfl rfl)
theorem dL_law_1400 : decode cL_law 1400 = .ok (.iload 5, 2) := dk_21 5 (dk_at dksL_law_51 3 rfl rfl)
theorem dL_law_1402 : decode cL_law 1402 = .ok (.iconst 1, 1) := dk_4 (dk_at dksL_law_51 5 rfl rfl)
theorem dL_law_1403 : decode cL_law 1403 = .ok (.iadd, 1) := dk_96 (dk_at dksL_law_51 6 rfl rfl)
theorem dL_law_1404 : decode cL_law 1404 = .ok (.iaload, 1) := dk_46 (dk_at dksL_law_51 7 rfl rfl)
theorem dL_law_1405 : decode cL_law 1405 = .ok (.aload_n 3, 1) := dk_45 (dk_at dksL_law_51 8 rfl rfl)
theorem dL_law_1406 : decode cL_law 1406 = .ok (.invokestatic 244, 3) := dk_184 0 244 (dk_at dksL_law_51 9 rfl rfl)
theorem dL_law_1409 : decode cL_law 1409 = .ok (.istore 6, 2) := dk_54 6 (dk_at dksL_law_51 12 rfl rfl)
theorem dL_law_1411 : decode cL_law 1411 = .ok (.aload_n 2, 1) := dk_44 (dk_at dksL_law_51 14 rfl rfl)
theorem dL_law_1412 : decode cL_law 1412 = .ok (.aload_n 0, 1) := dk_42 (dk_at dksL_law_51 15 rfl rfl)
theorem dL_law_1413 : decode cL_law 1413 = .ok (.iload 5, 2) := dk_21 5 (dk_at dksL_law_51 16 rfl rfl)
theorem dL_law_1415 : decode cL_law 1415 = .ok (.iconst 1, 1) := dk_4 (dk_at dksL_law_51 18 rfl rfl)
theorem dL_law_1416 : decode cL_law 1416 = .ok (.iadd, 1) := dk_96 (dk_at dksL_law_51 19 rfl rfl)
theorem dL_law_1417 : decode cL_law 1417 = .ok (.iaload, 1) := dk_46 (dk_at dksL_law_51 20 rfl rfl)
theorem dL_law_1418 : decode cL_law 1418 = .ok (.invokevirtual 246, 3) := dk_182 0 246 (dk_at dksL_law_51 21 rfl rfl)
theorem dL_law_1421 : decode cL_law 1421 = .ok (.istore 7, 2) := dk_54 7 (dk_at dksL_law_52 0 rfl rfl)
theorem dL_law_1423 : decode cL_law 1423 = .ok (.aload_n 2, 1) := dk_44 (dk_at dksL_law_52 2 rfl rfl)
theorem dL_law_1424 : decode cL_law 1424 = .ok (.invokevirtual 173, 3) := dk_182 0 173 (dk_at dksL_law_52 3 rfl rfl)
theorem dL_law_1427 : decode cL_law 1427 = .ok (.iload 6, 2) := dk_21 6 (dk_at dksL_law_52 6 rfl rfl)
theorem dL_law_1429 : decode cL_law 1429 = .ok (.if_icmp .eq 5, 3) := dk_159 0 5 (dk_at dksL_law_52 8 rfl rfl)
theorem dL_law_1432 : decode cL_law 1432 = .ok (.iconst 0, 1) := dk_3 (dk_at dksL_law_52 11 rfl rfl)
theorem dL_law_1433 : decode cL_law 1433 = .ok (.ireturn, 1) := dk_172 (dk_at dksL_law_52 12 rfl rfl)
theorem dL_law_1434 : decode cL_law 1434 = .ok (.iload 6, 2) := dk_21 6 (dk_at dksL_law_52 13 rfl rfl)
theorem dL_law_1436 : decode cL_law 1436 = .ok (.ifCond .ne 15, 3) := dk_154 0 15 (dk_at dksL_law_52 15 rfl rfl)
theorem dL_law_1439 : decode cL_law 1439 = .ok (.aload_n 3, 1) := dk_45 (dk_at dksL_law_52 18 rfl rfl)
theorem dL_law_1440 : decode cL_law 1440 = .ok (.iconst 0, 1) := dk_3 (dk_at dksL_law_52 19 rfl rfl)
theorem dL_law_1441 : decode cL_law 1441 = .ok (.laload, 1) := dk_47 (dk_at dksL_law_52 20 rfl rfl)
theorem dL_law_1442 : decode cL_law 1442 = .ok (.iload 7, 2) := dk_21 7 (dk_at dksL_law_52 21 rfl rfl)
theorem dL_law_1444 : decode cL_law 1444 = .ok (.i2l, 1) := dk_133 (dk_at dksL_law_52 23 rfl rfl)
theorem dL_law_1445 : decode cL_law 1445 = .ok (.lcmp, 1) := dk_148 (dk_at dksL_law_53 0 rfl rfl)
theorem dL_law_1446 : decode cL_law 1446 = .ok (.ifCond .eq 5, 3) := dk_153 0 5 (dk_at dksL_law_53 1 rfl rfl)
theorem dL_law_1449 : decode cL_law 1449 = .ok (.iconst 0, 1) := dk_3 (dk_at dksL_law_53 4 rfl rfl)
theorem dL_law_1450 : decode cL_law 1450 = .ok (.ireturn, 1) := dk_172 (dk_at dksL_law_53 5 rfl rfl)
theorem dL_law_1451 : decode cL_law 1451 = .ok (.goto 1934, 3) := dk_167 7 142 (dk_at dksL_law_53 6 rfl rfl)
theorem dL_law_1454 : decode cL_law 1454 = .ok (.aload_n 1, 1) := dk_43 (dk_at dksL_law_53 9 rfl rfl)
theorem dL_law_1455 : decode cL_law 1455 = .ok (.aload_n 0, 1) := dk_42 (dk_at dksL_law_53 10 rfl rfl)
theorem dL_law_1456 : decode cL_law 1456 = .ok (.iload 5, 2) := dk_21 5 (dk_at dksL_law_53 11 rfl rfl)
theorem dL_law_1458 : decode cL_law 1458 = .ok (.iconst 1, 1) := dk_4 (dk_at dksL_law_53 13 rfl rfl)
theorem dL_law_1459 : decode cL_law 1459 = .ok (.iadd, 1) := dk_96 (dk_at dksL_law_53 14 rfl rfl)
theorem dL_law_1460 : decode cL_law 1460 = .ok (.iaload, 1) := dk_46 (dk_at dksL_law_53 15 rfl rfl)
theorem dL_law_1461 : decode cL_law 1461 = .ok (.aload_n 3, 1) := dk_45 (dk_at dksL_law_53 16 rfl rfl)
theorem dL_law_1462 : decode cL_law 1462 = .ok (.invokestatic 247, 3) := dk_184 0 247 (dk_at dksL_law_53 17 rfl rfl)
theorem dL_law_1465 : decode cL_law 1465 = .ok (.istore 6, 2) := dk_54 6 (dk_at dksL_law_53 20 rfl rfl)
theorem dL_law_1467 : decode cL_law 1467 = .ok (.aload_n 2, 1) := dk_44 (dk_at dksL_law_53 22 rfl rfl)
theorem dL_law_1468 : decode cL_law 1468 = .ok (.aload_n 0, 1) := dk_42 (dk_at dksL_law_53 23 rfl rfl)
theorem dL_law_1469 : decode cL_law 1469 = .ok (.iload 5, 2) := dk_21 5 (dk_at dksL_law_54 0 rfl rfl)
theorem dL_law_1471 : decode cL_law 1471 = .ok (.iconst 1, 1) := dk_4 (dk_at dksL_law_54 2 rfl rfl)
theorem dL_law_1472 : decode cL_law 1472 = .ok (.iadd, 1) := dk_96 (dk_at dksL_law_54 3 rfl rfl)
theorem dL_law_1473 : decode cL_law 1473 = .ok (.iaload, 1) := dk_46 (dk_at dksL_law_54 4 rfl rfl)
theorem dL_law_1474 : decode cL_law 1474 = .ok (.invokevirtual 249, 3) := dk_182 0 249 (dk_at dksL_law_54 5 rfl rfl)
theorem dL_law_1477 : decode cL_law 1477 = .ok (.istore 7, 2) := dk_54 7 (dk_at dksL_law_54 8 rfl rfl)
theorem dL_law_1479 : decode cL_law 1479 = .ok (.aload_n 2, 1) := dk_44 (dk_at dksL_law_54 10 rfl rfl)
theorem dL_law_1480 : decode cL_law 1480 = .ok (.invokevirtual 173, 3) := dk_182 0 173 (dk_at dksL_law_54 11 rfl rfl)
theorem dL_law_1483 : decode cL_law 1483 = .ok (.iload 6, 2) := dk_21 6 (dk_at dksL_law_54 14 rfl rfl)
theorem dL_law_1485 : decode cL_law 1485 = .ok (.if_icmp .eq 5, 3) := dk_159 0 5 (dk_at dksL_law_54 16 rfl rfl)
theorem dL_law_1488 : decode cL_law 1488 = .ok (.iconst 0, 1) := dk_3 (dk_at dksL_law_54 19 rfl rfl)
theorem dL_law_1489 : decode cL_law 1489 = .ok (.ireturn, 1) := dk_172 (dk_at dksL_law_54 20 rfl rfl)
theorem dL_law_1490 : decode cL_law 1490 = .ok (.iload 6, 2) := dk_21 6 (dk_at dksL_law_54 21 rfl rfl)
theorem dL_law_1492 : decode cL_law 1492 = .ok (.ifCond .ne 15, 3) := dk_154 0 15 (dk_at dksL_law_55 0 rfl rfl)
theorem dL_law_1495 : decode cL_law 1495 = .ok (.aload_n 3, 1) := dk_45 (dk_at dksL_law_55 3 rfl rfl)
theorem dL_law_1496 : decode cL_law 1496 = .ok (.iconst 0, 1) := dk_3 (dk_at dksL_law_55 4 rfl rfl)
theorem dL_law_1497 : decode cL_law 1497 = .ok (.laload, 1) := dk_47 (dk_at dksL_law_55 5 rfl rfl)
theorem dL_law_1498 : decode cL_law 1498 = .ok (.iload 7, 2) := dk_21 7 (dk_at dksL_law_55 6 rfl rfl)
theorem dL_law_1500 : decode cL_law 1500 = .ok (.i2l, 1) := dk_133 (dk_at dksL_law_55 8 rfl rfl)
theorem dL_law_1501 : decode cL_law 1501 = .ok (.lcmp, 1) := dk_148 (dk_at dksL_law_55 9 rfl rfl)
theorem dL_law_1502 : decode cL_law 1502 = .ok (.ifCond .eq 5, 3) := dk_153 0 5 (dk_at dksL_law_55 10 rfl rfl)
theorem dL_law_1505 : decode cL_law 1505 = .ok (.iconst 0, 1) := dk_3 (dk_at dksL_law_55 13 rfl rfl)
theorem dL_law_1506 : decode cL_law 1506 = .ok (.ireturn, 1) := dk_172 (dk_at dksL_law_55 14 rfl rfl)
theorem dL_law_1507 : decode cL_law 1507 = .ok (.goto 1878, 3) := dk_167 7 86 (dk_at dksL_law_55 15 rfl rfl)
theorem dL_law_1510 : decode cL_law 1510 = .ok (.aload_n 1, 1) := dk_43 (dk_at dksL_law_55 18 rfl rfl)
theorem dL_law_1511 : decode cL_law 1511 = .ok (.aload_n 0, 1) := dk_42 (dk_at dksL_law_55 19 rfl rfl)
theorem dL_law_1512 : decode cL_law 1512 = .ok (.iload 5, 2) := dk_21 5 (dk_at dksL_law_55 20 rfl rfl)
theorem dL_law_1514 : decode cL_law 1514 = .ok (.iconst 1, 1) := dk_4 (dk_at dksL_law_55 22 rfl rfl)
theorem dL_law_1515 : decode cL_law 1515 = .ok (.iadd, 1) := dk_96 (dk_at dksL_law_55 23 rfl rfl)
theorem dL_law_1516 : decode cL_law 1516 = .ok (.iaload, 1) := dk_46 (dk_at dksL_law_56 0 rfl rfl)
theorem dL_law_1517 : decode cL_law 1517 = .ok (.aload_n 3, 1) := dk_45 (dk_at dksL_law_56 1 rfl rfl)
theorem dL_law_1518 : decode cL_law 1518 = .ok (.invokestatic 250, 3) := dk_184 0 250 (dk_at dksL_law_56 2 rfl rfl)
theorem dL_law_1521 : decode cL_law 1521 = .ok (.istore 6, 2) := dk_54 6 (dk_at dksL_law_56 5 rfl rfl)
theorem dL_law_1523 : decode cL_law 1523 = .ok (.aload_n 2, 1) := dk_44 (dk_at dksL_law_56 7 rfl rfl)
theorem dL_law_1524 : decode cL_law 1524 = .ok (.aload_n 0, 1) := dk_42 (dk_at dksL_law_56 8 rfl rfl)
theorem dL_law_1525 : decode cL_law 1525 = .ok (.iload 5, 2) := dk_21 5 (dk_at dksL_law_56 9 rfl rfl)
theorem dL_law_1527 : decode cL_law 1527 = .ok (.iconst 1, 1) := dk_4 (dk_at dksL_law_56 11 rfl rfl)
theorem dL_law_1528 : decode cL_law 1528 = .ok (.iadd, 1) := dk_96 (dk_at dksL_law_56 12 rfl rfl)
theorem dL_law_1529 : decode cL_law 1529 = .ok (.iaload, 1) := dk_46 (dk_at dksL_law_56 13 rfl rfl)
theorem dL_law_1530 : decode cL_law 1530 = .ok (.invokevirtual 252, 3) := dk_182 0 252 (dk_at dksL_law_56 14 rfl rfl)
theorem dL_law_1533 : decode cL_law 1533 = .ok (.istore 7, 2) := dk_54 7 (dk_at dksL_law_56 17 rfl rfl)
theorem dL_law_1535 : decode cL_law 1535 = .ok (.aload_n 2, 1) := dk_44 (dk_at dksL_law_56 19 rfl rfl)
theorem dL_law_1536 : decode cL_law 1536 = .ok (.invokevirtual 173, 3) := dk_182 0 173 (dk_at dksL_law_56 20 rfl rfl)
theorem dL_law_1539 : decode cL_law 1539 = .ok (.iload 6, 2) := dk_21 6 (dk_at dksL_law_57 0 rfl rfl)
theorem dL_law_1541 : decode cL_law 1541 = .ok (.if_icmp .eq 5, 3) := dk_159 0 5 (dk_at dksL_law_57 2 rfl rfl)
theorem dL_law_1544 : decode cL_law 1544 = .ok (.iconst 0, 1) := dk_3 (dk_at dksL_law_57 5 rfl rfl)
theorem dL_law_1545 : decode cL_law 1545 = .ok (.ireturn, 1) := dk_172 (dk_at dksL_law_57 6 rfl rfl)
theorem dL_law_1546 : decode cL_law 1546 = .ok (.iload 6, 2) := dk_21 6 (dk_at dksL_law_57 7 rfl rfl)
theorem dL_law_1548 : decode cL_law 1548 = .ok (.ifCond .ne 15, 3) := dk_154 0 15 (dk_at dksL_law_57 9 rfl rfl)
theorem dL_law_1551 : decode cL_law 1551 = .ok (.aload_n 3, 1) := dk_45 (dk_at dksL_law_57 12 rfl rfl)
theorem dL_law_1552 : decode cL_law 1552 = .ok (.iconst 0, 1) := dk_3 (dk_at dksL_law_57 13 rfl rfl)
theorem dL_law_1553 : decode cL_law 1553 = .ok (.laload, 1) := dk_47 (dk_at dksL_law_57 14 rfl rfl)
theorem dL_law_1554 : decode cL_law 1554 = .ok (.iload 7, 2) := dk_21 7 (dk_at dksL_law_57 15 rfl rfl)
theorem dL_law_1556 : decode cL_law 1556 = .ok (.i2l, 1) := dk_133 (dk_at dksL_law_57 17 rfl rfl)
theorem dL_law_1557 : decode cL_law 1557 = .ok (.lcmp, 1) := dk_148 (dk_at dksL_law_57 18 rfl rfl)
theorem dL_law_1558 : decode cL_law 1558 = .ok (.ifCond .eq 5, 3) := dk_153 0 5 (dk_at dksL_law_57 19 rfl rfl)
theorem dL_law_1561 : decode cL_law 1561 = .ok (.iconst 0, 1) := dk_3 (dk_at dksL_law_57 22 rfl rfl)
theorem dL_law_1562 : decode cL_law 1562 = .ok (.ireturn, 1) := dk_172 (dk_at dksL_law_57 23 rfl rfl)
theorem dL_law_1563 : decode cL_law 1563 = .ok (.goto 1822, 3) := dk_167 7 30 (dk_at dksL_law_58 0 rfl rfl)
theorem dL_law_1566 : decode cL_law 1566 = .ok (.aload_n 1, 1) := dk_43 (dk_at dksL_law_58 3 rfl rfl)
theorem dL_law_1567 : decode cL_law 1567 = .ok (.aload_n 0, 1) := dk_42 (dk_at dksL_law_58 4 rfl rfl)
theorem dL_law_1568 : decode cL_law 1568 = .ok (.iload 5, 2) := dk_21 5 (dk_at dksL_law_58 5 rfl rfl)
theorem dL_law_1570 : decode cL_law 1570 = .ok (.iconst 1, 1) := dk_4 (dk_at dksL_law_58 7 rfl rfl)
theorem dL_law_1571 : decode cL_law 1571 = .ok (.iadd, 1) := dk_96 (dk_at dksL_law_58 8 rfl rfl)
theorem dL_law_1572 : decode cL_law 1572 = .ok (.iaload, 1) := dk_46 (dk_at dksL_law_58 9 rfl rfl)
theorem dL_law_1573 : decode cL_law 1573 = .ok (.aload_n 3, 1) := dk_45 (dk_at dksL_law_58 10 rfl rfl)
theorem dL_law_1574 : decode cL_law 1574 = .ok (.invokestatic 253, 3) := dk_184 0 253 (dk_at dksL_law_58 11 rfl rfl)
theorem dL_law_1577 : decode cL_law 1577 = .ok (.istore 6, 2) := dk_54 6 (dk_at dksL_law_58 14 rfl rfl)
theorem dL_law_1579 : decode cL_law 1579 = .ok (.aload_n 2, 1) := dk_44 (dk_at dksL_law_58 16 rfl rfl)
theorem dL_law_1580 : decode cL_law 1580 = .ok (.aload_n 0, 1) := dk_42 (dk_at dksL_law_58 17 rfl rfl)
theorem dL_law_1581 : decode cL_law 1581 = .ok (.iload 5, 2) := dk_21 5 (dk_at dksL_law_58 18 rfl rfl)
theorem dL_law_1583 : decode cL_law 1583 = .ok (.iconst 1, 1) := dk_4 (dk_at dksL_law_58 20 rfl rfl)
theorem dL_law_1584 : decode cL_law 1584 = .ok (.iadd, 1) := dk_96 (dk_at dksL_law_58 21 rfl rfl)
theorem dL_law_1585 : decode cL_law 1585 = .ok (.iaload, 1) := dk_46 (dk_at dksL_law_58 22 rfl rfl)
theorem dL_law_1586 : decode cL_law 1586 = .ok (.invokevirtual 255, 3) := dk_182 0 255 (dk_at dksL_law_59 0 rfl rfl)
theorem dL_law_1589 : decode cL_law 1589 = .ok (.istore 7, 2) := dk_54 7 (dk_at dksL_law_59 3 rfl rfl)
theorem dL_law_1591 : decode cL_law 1591 = .ok (.aload_n 2, 1) := dk_44 (dk_at dksL_law_59 5 rfl rfl)
theorem dL_law_1592 : decode cL_law 1592 = .ok (.invokevirtual 173, 3) := dk_182 0 173 (dk_at dksL_law_59 6 rfl rfl)
theorem dL_law_1595 : decode cL_law 1595 = .ok (.iload 6, 2) := dk_21 6 (dk_at dksL_law_59 9 rfl rfl)
theorem dL_law_1597 : decode cL_law 1597 = .ok (.if_icmp .eq 5, 3) := dk_159 0 5 (dk_at dksL_law_59 11 rfl rfl)
theorem dL_law_1600 : decode cL_law 1600 = .ok (.iconst 0, 1) := dk_3 (dk_at dksL_law_59 14 rfl rfl)
theorem dL_law_1601 : decode cL_law 1601 = .ok (.ireturn, 1) := dk_172 (dk_at dksL_law_59 15 rfl rfl)
theorem dL_law_1602 : decode cL_law 1602 = .ok (.iload 6, 2) := dk_21 6 (dk_at dksL_law_59 16 rfl rfl)
theorem dL_law_1604 : decode cL_law 1604 = .ok (.ifCond .ne 15, 3) := dk_154 0 15 (dk_at dksL_law_59 18 rfl rfl)
theorem dL_law_1607 : decode cL_law 1607 = .ok (.aload_n 3, 1) := dk_45 (dk_at dksL_law_59 21 rfl rfl)
theorem dL_law_1608 : decode cL_law 1608 = .ok (.iconst 0, 1) := dk_3 (dk_at dksL_law_59 22 rfl rfl)
theorem dL_law_1609 : decode cL_law 1609 = .ok (.laload, 1) := dk_47 (dk_at dksL_law_59 23 rfl rfl)
theorem dL_law_1610 : decode cL_law 1610 = .ok (.iload 7, 2) := dk_21 7 (dk_at dksL_law_60 0 rfl rfl)
theorem dL_law_1612 : decode cL_law 1612 = .ok (.i2l, 1) := dk_133 (dk_at dksL_law_60 2 rfl rfl)
theorem dL_law_1613 : decode cL_law 1613 = .ok (.lcmp, 1) := dk_148 (dk_at dksL_law_60 3 rfl rfl)
theorem dL_law_1614 : decode cL_law 1614 = .ok (.ifCond .eq 5, 3) := dk_153 0 5 (dk_at dksL_law_60 4 rfl rfl)
theorem dL_law_1617 : decode cL_law 1617 = .ok (.iconst 0, 1) := dk_3 (dk_at dksL_law_60 7 rfl rfl)
theorem dL_law_1618 : decode cL_law 1618 = .ok (.ireturn, 1) := dk_172 (dk_at dksL_law_60 8 rfl rfl)
theorem dL_law_1619 : decode cL_law 1619 = .ok (.goto 1766, 3) := dk_167 6 230 (dk_at dksL_law_60 9 rfl rfl)
theorem dL_law_1622 : decode cL_law 1622 = .ok (.aload_n 1, 1) := dk_43 (dk_at dksL_law_60 12 rfl rfl)
theorem dL_law_1623 : decode cL_law 1623 = .ok (.aload_n 0, 1) := dk_42 (dk_at dksL_law_60 13 rfl rfl)
theorem dL_law_1624 : decode cL_law 1624 = .ok (.iload 5, 2) := dk_21 5 (dk_at dksL_law_60 14 rfl rfl)
theorem dL_law_1626 : decode cL_law 1626 = .ok (.iconst 1, 1) := dk_4 (dk_at dksL_law_60 16 rfl rfl)
theorem dL_law_1627 : decode cL_law 1627 = .ok (.iadd, 1) := dk_96 (dk_at dksL_law_60 17 rfl rfl)
theorem dL_law_1628 : decode cL_law 1628 = .ok (.iaload, 1) := dk_46 (dk_at dksL_law_60 18 rfl rfl)
theorem dL_law_1629 : decode cL_law 1629 = .ok (.aload_n 3, 1) := dk_45 (dk_at dksL_law_60 19 rfl rfl)
theorem dL_law_1630 : decode cL_law 1630 = .ok (.invokestatic 256, 3) := dk_184 1 0 (dk_at dksL_law_60 20 rfl rfl)
theorem dL_law_1633 : decode cL_law 1633 = .ok (.istore 6, 2) := dk_54 6 (dk_at dksL_law_61 0 rfl rfl)
theorem dL_law_1635 : decode cL_law 1635 = .ok (.aload_n 2, 1) := dk_44 (dk_at dksL_law_61 2 rfl rfl)
theorem dL_law_1636 : decode cL_law 1636 = .ok (.aload_n 0, 1) := dk_42 (dk_at dksL_law_61 3 rfl rfl)
theorem dL_law_1637 : decode cL_law 1637 = .ok (.iload 5, 2) := dk_21 5 (dk_at dksL_law_61 4 rfl rfl)
theorem dL_law_1639 : decode cL_law 1639 = .ok (.iconst 1, 1) := dk_4 (dk_at dksL_law_61 6 rfl rfl)
theorem dL_law_1640 : decode cL_law 1640 = .ok (.iadd, 1) := dk_96 (dk_at dksL_law_61 7 rfl rfl)
theorem dL_law_1641 : decode cL_law 1641 = .ok (.iaload, 1) := dk_46 (dk_at dksL_law_61 8 rfl rfl)
theorem dL_law_1642 : decode cL_law 1642 = .ok (.invokevirtual 258, 3) := dk_182 1 2 (dk_at dksL_law_61 9 rfl rfl)
theorem dL_law_1645 : decode cL_law 1645 = .ok (.istore 7, 2) := dk_54 7 (dk_at dksL_law_61 12 rfl rfl)
theorem dL_law_1647 : decode cL_law 1647 = .ok (.aload_n 2, 1) := dk_44 (dk_at dksL_law_61 14 rfl rfl)
theorem dL_law_1648 : decode cL_law 1648 = .ok (.invokevirtual 173, 3) := dk_182 0 173 (dk_at dksL_law_61 15 rfl rfl)
theorem dL_law_1651 : decode cL_law 1651 = .ok (.iload 6, 2) := dk_21 6 (dk_at dksL_law_61 18 rfl rfl)
theorem dL_law_1653 : decode cL_law 1653 = .ok (.if_icmp .eq 5, 3) := dk_159 0 5 (dk_at dksL_law_61 20 rfl rfl)
theorem dL_law_1656 : decode cL_law 1656 = .ok (.iconst 0, 1) := dk_3 (dk_at dksL_law_61 23 rfl rfl)
theorem dL_law_1657 : decode cL_law 1657 = .ok (.ireturn, 1) := dk_172 (dk_at dksL_law_62 0 rfl rfl)
theorem dL_law_1658 : decode cL_law 1658 = .ok (.iload 6, 2) := dk_21 6 (dk_at dksL_law_62 1 rfl rfl)
theorem dL_law_1660 : decode cL_law 1660 = .ok (.ifCond .ne 15, 3) := dk_154 0 15 (dk_at dksL_law_62 3 rfl rfl)
theorem dL_law_1663 : decode cL_law 1663 = .ok (.aload_n 3, 1) := dk_45 (dk_at dksL_law_62 6 rfl rfl)
theorem dL_law_1664 : decode cL_law 1664 = .ok (.iconst 0, 1) := dk_3 (dk_at dksL_law_62 7 rfl rfl)
theorem dL_law_1665 : decode cL_law 1665 = .ok (.laload, 1) := dk_47 (dk_at dksL_law_62 8 rfl rfl)
theorem dL_law_1666 : decode cL_law 1666 = .ok (.iload 7, 2) := dk_21 7 (dk_at dksL_law_62 9 rfl rfl)
theorem dL_law_1668 : decode cL_law 1668 = .ok (.i2l, 1) := dk_133 (dk_at dksL_law_62 11 rfl rfl)
theorem dL_law_1669 : decode cL_law 1669 = .ok (.lcmp, 1) := dk_148 (dk_at dksL_law_62 12 rfl rfl)
theorem dL_law_1670 : decode cL_law 1670 = .ok (.ifCond .eq 5, 3) := dk_153 0 5 (dk_at dksL_law_62 13 rfl rfl)
theorem dL_law_1673 : decode cL_law 1673 = .ok (.iconst 0, 1) := dk_3 (dk_at dksL_law_62 16 rfl rfl)
theorem dL_law_1674 : decode cL_law 1674 = .ok (.ireturn, 1) := dk_172 (dk_at dksL_law_62 17 rfl rfl)
theorem dL_law_1675 : decode cL_law 1675 = .ok (.goto 1710, 3) := dk_167 6 174 (dk_at dksL_law_62 18 rfl rfl)
theorem dL_law_1678 : decode cL_law 1678 = .ok (.aload_n 1, 1) := dk_43 (dk_at dksL_law_62 21 rfl rfl)
theorem dL_law_1679 : decode cL_law 1679 = .ok (.aload_n 0, 1) := dk_42 (dk_at dksL_law_62 22 rfl rfl)
theorem dL_law_1680 : decode cL_law 1680 = .ok (.iload 5, 2) := dk_21 5 (dk_at dksL_law_63 0 rfl rfl)
theorem dL_law_1682 : decode cL_law 1682 = .ok (.iconst 1, 1) := dk_4 (dk_at dksL_law_63 2 rfl rfl)
theorem dL_law_1683 : decode cL_law 1683 = .ok (.iadd, 1) := dk_96 (dk_at dksL_law_63 3 rfl rfl)
theorem dL_law_1684 : decode cL_law 1684 = .ok (.iaload, 1) := dk_46 (dk_at dksL_law_63 4 rfl rfl)
theorem dL_law_1685 : decode cL_law 1685 = .ok (.aload_n 3, 1) := dk_45 (dk_at dksL_law_63 5 rfl rfl)
theorem dL_law_1686 : decode cL_law 1686 = .ok (.invokestatic 259, 3) := dk_184 1 3 (dk_at dksL_law_63 6 rfl rfl)
theorem dL_law_1689 : decode cL_law 1689 = .ok (.istore 6, 2) := dk_54 6 (dk_at dksL_law_63 9 rfl rfl)
theorem dL_law_1691 : decode cL_law 1691 = .ok (.aload_n 2, 1) := dk_44 (dk_at dksL_law_63 11 rfl rfl)
theorem dL_law_1692 : decode cL_law 1692 = .ok (.aload_n 0, 1) := dk_42 (dk_at dksL_law_63 12 rfl rfl)
theorem dL_law_1693 : decode cL_law 1693 = .ok (.iload 5, 2) := dk_21 5 (dk_at dksL_law_63 13 rfl rfl)
theorem dL_law_1695 : decode cL_law 1695 = .ok (.iconst 1, 1) := dk_4 (dk_at dksL_law_63 15 rfl rfl)
theorem dL_law_1696 : decode cL_law 1696 = .ok (.iadd, 1) := dk_96 (dk_at dksL_law_63 16 rfl rfl)
theorem dL_law_1697 : decode cL_law 1697 = .ok (.iaload, 1) := dk_46 (dk_at dksL_law_63 17 rfl rfl)
theorem dL_law_1698 : decode cL_law 1698 = .ok (.invokevirtual 261, 3) := dk_182 1 5 (dk_at dksL_law_63 18 rfl rfl)
theorem dL_law_1701 : decode cL_law 1701 = .ok (.istore 7, 2) := dk_54 7 (dk_at dksL_law_63 21 rfl rfl)
theorem dL_law_1703 : decode cL_law 1703 = .ok (.aload_n 2, 1) := dk_44 (dk_at dksL_law_63 23 rfl rfl)
theorem dL_law_1704 : decode cL_law 1704 = .ok (.invokevirtual 173, 3) := dk_182 0 173 (dk_at dksL_law_64 0 rfl rfl)
theorem dL_law_1707 : decode cL_law 1707 = .ok (.iload 6, 2) := dk_21 6 (dk_at dksL_law_64 3 rfl rfl)
theorem dL_law_1709 : decode cL_law 1709 = .ok (.if_icmp .eq 5, 3) := dk_159 0 5 (dk_at dksL_law_64 5 rfl rfl)
theorem dL_law_1712 : decode cL_law 1712 = .ok (.iconst 0, 1) := dk_3 (dk_at dksL_law_64 8 rfl rfl)
theorem dL_law_1713 : decode cL_law 1713 = .ok (.ireturn, 1) := dk_172 (dk_at dksL_law_64 9 rfl rfl)
theorem dL_law_1714 : decode cL_law 1714 = .ok (.iload 6, 2) := dk_21 6 (dk_at dksL_law_64 10 rfl rfl)
theorem dL_law_1716 : decode cL_law 1716 = .ok (.ifCond .ne 15, 3) := dk_154 0 15 (dk_at dksL_law_64 12 rfl rfl)
theorem dL_law_1719 : decode cL_law 1719 = .ok (.aload_n 3, 1) := dk_45 (dk_at dksL_law_64 15 rfl rfl)
theorem dL_law_1720 : decode cL_law 1720 = .ok (.iconst 0, 1) := dk_3 (dk_at dksL_law_64 16 rfl rfl)
theorem dL_law_1721 : decode cL_law 1721 = .ok (.laload, 1) := dk_47 (dk_at dksL_law_64 17 rfl rfl)
theorem dL_law_1722 : decode cL_law 1722 = .ok (.iload 7, 2) := dk_21 7 (dk_at dksL_law_64 18 rfl rfl)
theorem dL_law_1724 : decode cL_law 1724 = .ok (.i2l, 1) := dk_133 (dk_at dksL_law_64 20 rfl rfl)
theorem dL_law_1725 : decode cL_law 1725 = .ok (.lcmp, 1) := dk_148 (dk_at dksL_law_64 21 rfl rfl)
theorem dL_law_1726 : decode cL_law 1726 = .ok (.ifCond .eq 5, 3) := dk_153 0 5 (dk_at dksL_law_65 0 rfl rfl)
theorem dL_law_1729 : decode cL_law 1729 = .ok (.iconst 0, 1) := dk_3 (dk_at dksL_law_65 3 rfl rfl)
theorem dL_law_1730 : decode cL_law 1730 = .ok (.ireturn, 1) := dk_172 (dk_at dksL_law_65 4 rfl rfl)
theorem dL_law_1731 : decode cL_law 1731 = .ok (.goto 1654, 3) := dk_167 6 118 (dk_at dksL_law_65 5 rfl rfl)
theorem dL_law_1734 : decode cL_law 1734 = .ok (.aload_n 1, 1) := dk_43 (dk_at dksL_law_65 8 rfl rfl)
theorem dL_law_1735 : decode cL_law 1735 = .ok (.aload_n 0, 1) := dk_42 (dk_at dksL_law_65 9 rfl rfl)
theorem dL_law_1736 : decode cL_law 1736 = .ok (.iload 5, 2) := dk_21 5 (dk_at dksL_law_65 10 rfl rfl)
theorem dL_law_1738 : decode cL_law 1738 = .ok (.iconst 1, 1) := dk_4 (dk_at dksL_law_65 12 rfl rfl)
theorem dL_law_1739 : decode cL_law 1739 = .ok (.iadd, 1) := dk_96 (dk_at dksL_law_65 13 rfl rfl)
theorem dL_law_1740 : decode cL_law 1740 = .ok (.iaload, 1) := dk_46 (dk_at dksL_law_65 14 rfl rfl)
theorem dL_law_1741 : decode cL_law 1741 = .ok (.aload_n 3, 1) := dk_45 (dk_at dksL_law_65 15 rfl rfl)
theorem dL_law_1742 : decode cL_law 1742 = .ok (.invokestatic 262, 3) := dk_184 1 6 (dk_at dksL_law_65 16 rfl rfl)
theorem dL_law_1745 : decode cL_law 1745 = .ok (.istore 6, 2) := dk_54 6 (dk_at dksL_law_65 19 rfl rfl)
theorem dL_law_1747 : decode cL_law 1747 = .ok (.aload_n 2, 1) := dk_44 (dk_at dksL_law_65 21 rfl rfl)
theorem dL_law_1748 : decode cL_law 1748 = .ok (.aload_n 0, 1) := dk_42 (dk_at dksL_law_65 22 rfl rfl)
theorem dL_law_1749 : decode cL_law 1749 = .ok (.iload 5, 2) := dk_21 5 (dk_at dksL_law_66 0 rfl rfl)
theorem dL_law_1751 : decode cL_law 1751 = .ok (.iconst 1, 1) := dk_4 (dk_at dksL_law_66 2 rfl rfl)
theorem dL_law_1752 : decode cL_law 1752 = .ok (.iadd, 1) := dk_96 (dk_at dksL_law_66 3 rfl rfl)
theorem dL_law_1753 : decode cL_law 1753 = .ok (.iaload, 1) := dk_46 (dk_at dksL_law_66 4 rfl rfl)
theorem dL_law_1754 : decode cL_law 1754 = .ok (.invokevirtual 264, 3) := dk_182 1 8 (dk_at dksL_law_66 5 rfl rfl)
theorem dL_law_1757 : decode cL_law 1757 = .ok (.istore 7, 2) := dk_54 7 (dk_at dksL_law_66 8 rfl rfl)
theorem dL_law_1759 : decode cL_law 1759 = .ok (.aload_n 2, 1) := dk_44 (dk_at dksL_law_66 10 rfl rfl)
theorem dL_law_1760 : decode cL_law 1760 = .ok (.invokevirtual 173, 3) := dk_182 0 173 (dk_at dksL_law_66 11 rfl rfl)
theorem dL_law_1763 : decode cL_law 1763 = .ok (.iload 6, 2) := dk_21 6 (dk_at dksL_law_66 14 rfl rfl)
theorem dL_law_1765 : decode cL_law 1765 = .ok (.if_icmp .eq 5, 3) := dk_159 0 5 (dk_at dksL_law_66 16 rfl rfl)
theorem dL_law_1768 : decode cL_law 1768 = .ok (.iconst 0, 1) := dk_3 (dk_at dksL_law_66 19 rfl rfl)
theorem dL_law_1769 : decode cL_law 1769 = .ok (.ireturn, 1) := dk_172 (dk_at dksL_law_66 20 rfl rfl)
theorem dL_law_1770 : decode cL_law 1770 = .ok (.iload 6, 2) := dk_21 6 (dk_at dksL_law_66 21 rfl rfl)
theorem dL_law_1772 : decode cL_law 1772 = .ok (.ifCond .ne 15, 3) := dk_154 0 15 (dk_at dksL_law_67 0 rfl rfl)
theorem dL_law_1775 : decode cL_law 1775 = .ok (.aload_n 3, 1) := dk_45 (dk_at dksL_law_67 3 rfl rfl)
theorem dL_law_1776 : decode cL_law 1776 = .ok (.iconst 0, 1) := dk_3 (dk_at dksL_law_67 4 rfl rfl)
theorem dL_law_1777 : decode cL_law 1777 = .ok (.laload, 1) := dk_47 (dk_at dksL_law_67 5 rfl rfl)
theorem dL_law_1778 : decode cL_law 1778 = .ok (.iload 7, 2) := dk_21 7 (dk_at dksL_law_67 6 rfl rfl)
theorem dL_law_1780 : decode cL_law 1780 = .ok (.i2l, 1) := dk_133 (dk_at dksL_law_67 8 rfl rfl)
theorem dL_law_1781 : decode cL_law 1781 = .ok (.lcmp, 1) := dk_148 (dk_at dksL_law_67 9 rfl rfl)
theorem dL_law_1782 : decode cL_law 1782 = .ok (.ifCond .eq 5, 3) := dk_153 0 5 (dk_at dksL_law_67 10 rfl rfl)
theorem dL_law_1785 : decode cL_law 1785 = .ok (.iconst 0, 1) := dk_3 (dk_at dksL_law_67 13 rfl rfl)
theorem dL_law_1786 : decode cL_law 1786 = .ok (.ireturn, 1) := dk_172 (dk_at dksL_law_67 14 rfl rfl)
theorem dL_law_1787 : decode cL_law 1787 = .ok (.goto 1598, 3) := dk_167 6 62 (dk_at dksL_law_67 15 rfl rfl)
theorem dL_law_1790 : decode cL_law 1790 = .ok (.aload_n 1, 1) := dk_43 (dk_at dksL_law_67 18 rfl rfl)
theorem dL_law_1791 : decode cL_law 1791 = .ok (.aload_n 0, 1) := dk_42 (dk_at dksL_law_67 19 rfl rfl)
theorem dL_law_1792 : decode cL_law 1792 = .ok (.iload 5, 2) := dk_21 5 (dk_at dksL_law_67 20 rfl rfl)
theorem dL_law_1794 : decode cL_law 1794 = .ok (.iconst 1, 1) := dk_4 (dk_at dksL_law_67 22 rfl rfl)
theorem dL_law_1795 : decode cL_law 1795 = .ok (.iadd, 1) := dk_96 (dk_at dksL_law_67 23 rfl rfl)
theorem dL_law_1796 : decode cL_law 1796 = .ok (.iaload, 1) := dk_46 (dk_at dksL_law_68 0 rfl rfl)
theorem dL_law_1797 : decode cL_law 1797 = .ok (.aload_n 3, 1) := dk_45 (dk_at dksL_law_68 1 rfl rfl)
theorem dL_law_1798 : decode cL_law 1798 = .ok (.invokestatic 265, 3) := dk_184 1 9 (dk_at dksL_law_68 2 rfl rfl)
theorem dL_law_1801 : decode cL_law 1801 = .ok (.istore 6, 2) := dk_54 6 (dk_at dksL_law_68 5 rfl rfl)
theorem dL_law_1803 : decode cL_law 1803 = .ok (.aload_n 2, 1) := dk_44 (dk_at dksL_law_68 7 rfl rfl)
theorem dL_law_1804 : decode cL_law 1804 = .ok (.aload_n 0, 1) := dk_42 (dk_at dksL_law_68 8 rfl rfl)
theorem dL_law_1805 : decode cL_law 1805 = .ok (.iload 5, 2) := dk_21 5 (dk_at dksL_law_68 9 rfl rfl)
theorem dL_law_1807 : decode cL_law 1807 = .ok (.iconst 1, 1) := dk_4 (dk_at dksL_law_68 11 rfl rfl)
theorem dL_law_1808 : decode cL_law 1808 = .ok (.iadd, 1) := dk_96 (dk_at dksL_law_68 12 rfl rfl)
theorem dL_law_1809 : decode cL_law 1809 = .ok (.iaload, 1) := dk_46 (dk_at dksL_law_68 13 rfl rfl)
theorem dL_law_1810 : decode cL_law 1810 = .ok (.invokevirtual 267, 3) := dk_182 1 11 (dk_at dksL_law_68 14 rfl rfl)
theorem dL_law_1813 : decode cL_law 1813 = .ok (.istore 7, 2) := dk_54 7 (dk_at dksL_law_68 17 rfl rfl)
theorem dL_law_1815 : decode cL_law 1815 = .ok (.aload_n 2, 1) := dk_44 (dk_at dksL_law_68 19 rfl rfl)
theorem dL_law_1816 : decode cL_law 1816 = .ok (.invokevirtual 173, 3) := dk_182 0 173 (dk_at dksL_law_68 20 rfl rfl)
theorem dL_law_1819 : decode cL_law 1819 = .ok (.iload 6, 2) := dk_21 6 (dk_at dksL_law_69 0 rfl rfl)
theorem dL_law_1821 : decode cL_law 1821 = .ok (.if_icmp .eq 5, 3) := dk_159 0 5 (dk_at dksL_law_69 2 rfl rfl)
theorem dL_law_1824 : decode cL_law 1824 = .ok (.iconst 0, 1) := dk_3 (dk_at dksL_law_69 5 rfl rfl)
theorem dL_law_1825 : decode cL_law 1825 = .ok (.ireturn, 1) := dk_172 (dk_at dksL_law_69 6 rfl rfl)
theorem dL_law_1826 : decode cL_law 1826 = .ok (.iload 6, 2) := dk_21 6 (dk_at dksL_law_69 7 rfl rfl)
theorem dL_law_1828 : decode cL_law 1828 = .ok (.ifCond .ne 15, 3) := dk_154 0 15 (dk_at dksL_law_69 9 rfl rfl)
theorem dL_law_1831 : decode cL_law 1831 = .ok (.aload_n 3, 1) := dk_45 (dk_at dksL_law_69 12 rfl rfl)
theorem dL_law_1832 : decode cL_law 1832 = .ok (.iconst 0, 1) := dk_3 (dk_at dksL_law_69 13 rfl rfl)
theorem dL_law_1833 : decode cL_law 1833 = .ok (.laload, 1) := dk_47 (dk_at dksL_law_69 14 rfl rfl)
theorem dL_law_1834 : decode cL_law 1834 = .ok (.iload 7, 2) := dk_21 7 (dk_at dksL_law_69 15 rfl rfl)
theorem dL_law_1836 : decode cL_law 1836 = .ok (.i2l, 1) := dk_133 (dk_at dksL_law_69 17 rfl rfl)
theorem dL_law_1837 : decode cL_law 1837 = .ok (.lcmp, 1) := dk_148 (dk_at dksL_law_69 18 rfl rfl)
theorem dL_law_1838 : decode cL_law 1838 = .ok (.ifCond .eq 5, 3) := dk_153 0 5 (dk_at dksL_law_69 19 rfl rfl)
theorem dL_law_1841 : decode cL_law 1841 = .ok (.iconst 0, 1) := dk_3 (dk_at dksL_law_69 22 rfl rfl)
theorem dL_law_1842 : decode cL_law 1842 = .ok (.ireturn, 1) := dk_172 (dk_at dksL_law_69 23 rfl rfl)
theorem dL_law_1843 : decode cL_law 1843 = .ok (.goto 1542, 3) := dk_167 6 6 (dk_at dksL_law_70 0 rfl rfl)
theorem dL_law_1846 : decode cL_law 1846 = .ok (.aload_n 1, 1) := dk_43 (dk_at dksL_law_70 3 rfl rfl)
theorem dL_law_1847 : decode cL_law 1847 = .ok (.aload_n 0, 1) := dk_42 (dk_at dksL_law_70 4 rfl rfl)
theorem dL_law_1848 : decode cL_law 1848 = .ok (.iload 5, 2) := dk_21 5 (dk_at dksL_law_70 5 rfl rfl)
theorem dL_law_1850 : decode cL_law 1850 = .ok (.iconst 1, 1) := dk_4 (dk_at dksL_law_70 7 rfl rfl)
theorem dL_law_1851 : decode cL_law 1851 = .ok (.iadd, 1) := dk_96 (dk_at dksL_law_70 8 rfl rfl)
theorem dL_law_1852 : decode cL_law 1852 = .ok (.iaload, 1) := dk_46 (dk_at dksL_law_70 9 rfl rfl)
theorem dL_law_1853 : decode cL_law 1853 = .ok (.aload_n 3, 1) := dk_45 (dk_at dksL_law_70 10 rfl rfl)
theorem dL_law_1854 : decode cL_law 1854 = .ok (.invokestatic 268, 3) := dk_184 1 12 (dk_at dksL_law_70 11 rfl rfl)
theorem dL_law_1857 : decode cL_law 1857 = .ok (.istore 6, 2) := dk_54 6 (dk_at dksL_law_70 14 rfl rfl)
theorem dL_law_1859 : decode cL_law 1859 = .ok (.aload_n 2, 1) := dk_44 (dk_at dksL_law_70 16 rfl rfl)
theorem dL_law_1860 : decode cL_law 1860 = .ok (.aload_n 0, 1) := dk_42 (dk_at dksL_law_70 17 rfl rfl)
theorem dL_law_1861 : decode cL_law 1861 = .ok (.iload 5, 2) := dk_21 5 (dk_at dksL_law_70 18 rfl rfl)
theorem dL_law_1863 : decode cL_law 1863 = .ok (.iconst 1, 1) := dk_4 (dk_at dksL_law_70 20 rfl rfl)
theorem dL_law_1864 : decode cL_law 1864 = .ok (.iadd, 1) := dk_96 (dk_at dksL_law_70 21 rfl rfl)
theorem dL_law_1865 : decode cL_law 1865 = .ok (.iaload, 1) := dk_46 (dk_at dksL_law_70 22 rfl rfl)
theorem dL_law_1866 : decode cL_law 1866 = .ok (.invokevirtual 270, 3) := dk_182 1 14 (dk_at dksL_law_71 0 rfl rfl)
theorem dL_law_1869 : decode cL_law 1869 = .ok (.istore 7, 2) := dk_54 7 (dk_at dksL_law_71 3 rfl rfl)
theorem dL_law_1871 : decode cL_law 1871 = .ok (.aload_n 2, 1) := dk_44 (dk_at dksL_law_71 5 rfl rfl)
theorem dL_law_1872 : decode cL_law 1872 = .ok (.invokevirtual 173, 3) := dk_182 0 173 (dk_at dksL_law_71 6 rfl rfl)
theorem dL_law_1875 : decode cL_law 1875 = .ok (.iload 6, 2) := dk_21 6 (dk_at dksL_law_71 9 rfl rfl)
theorem dL_law_1877 : decode cL_law 1877 = .ok (.if_icmp .eq 5, 3) := dk_159 0 5 (dk_at dksL_law_71 11 rfl rfl)
theorem dL_law_1880 : decode cL_law 1880 = .ok (.iconst 0, 1) := dk_3 (dk_at dksL_law_71 14 rfl rfl)
theorem dL_law_1881 : decode cL_law 1881 = .ok (.ireturn, 1) := dk_172 (dk_at dksL_law_71 15 rfl rfl)
theorem dL_law_1882 : decode cL_law 1882 = .ok (.iload 6, 2) := dk_21 6 (dk_at dksL_law_71 16 rfl rfl)
theorem dL_law_1884 : decode cL_law 1884 = .ok (.ifCond .ne 15, 3) := dk_154 0 15 (dk_at dksL_law_71 18 rfl rfl)
theorem dL_law_1887 : decode cL_law 1887 = .ok (.aload_n 3, 1) := dk_45 (dk_at dksL_law_71 21 rfl rfl)
theorem dL_law_1888 : decode cL_law 1888 = .ok (.iconst 0, 1) := dk_3 (dk_at dksL_law_71 22 rfl rfl)
theorem dL_law_1889 : decode cL_law 1889 = .ok (.laload, 1) := dk_47 (dk_at dksL_law_71 23 rfl rfl)
theorem dL_law_1890 : decode cL_law 1890 = .ok (.iload 7, 2) := dk_21 7 (dk_at dksL_law_72 0 rfl rfl)
theorem dL_law_1892 : decode cL_law 1892 = .ok (.i2l, 1) := dk_133 (dk_at dksL_law_72 2 rfl rfl)
theorem dL_law_1893 : decode cL_law 1893 = .ok (.lcmp, 1) := dk_148 (dk_at dksL_law_72 3 rfl rfl)
theorem dL_law_1894 : decode cL_law 1894 = .ok (.ifCond .eq 5, 3) := dk_153 0 5 (dk_at dksL_law_72 4 rfl rfl)
theorem dL_law_1897 : decode cL_law 1897 = .ok (.iconst 0, 1) := dk_3 (dk_at dksL_law_72 7 rfl rfl)
theorem dL_law_1898 : decode cL_law 1898 = .ok (.ireturn, 1) := dk_172 (dk_at dksL_law_72 8 rfl rfl)
theorem dL_law_1899 : decode cL_law 1899 = .ok (.goto 1486, 3) := dk_167 5 206 (dk_at dksL_law_72 9 rfl rfl)
theorem dL_law_1902 : decode cL_law 1902 = .ok (.aload_n 1, 1) := dk_43 (dk_at dksL_law_72 12 rfl rfl)
theorem dL_law_1903 : decode cL_law 1903 = .ok (.aload_n 0, 1) := dk_42 (dk_at dksL_law_72 13 rfl rfl)
theorem dL_law_1904 : decode cL_law 1904 = .ok (.iload 5, 2) := dk_21 5 (dk_at dksL_law_72 14 rfl rfl)
theorem dL_law_1906 : decode cL_law 1906 = .ok (.iconst 1, 1) := dk_4 (dk_at dksL_law_72 16 rfl rfl)
theorem dL_law_1907 : decode cL_law 1907 = .ok (.iadd, 1) := dk_96 (dk_at dksL_law_72 17 rfl rfl)
theorem dL_law_1908 : decode cL_law 1908 = .ok (.iaload, 1) := dk_46 (dk_at dksL_law_72 18 rfl rfl)
theorem dL_law_1909 : decode cL_law 1909 = .ok (.aload_n 3, 1) := dk_45 (dk_at dksL_law_72 19 rfl rfl)
theorem dL_law_1910 : decode cL_law 1910 = .ok (.invokestatic 271, 3) := dk_184 1 15 (dk_at dksL_law_72 20 rfl rfl)
theorem dL_law_1913 : decode cL_law 1913 = .ok (.istore 6, 2) := dk_54 6 (dk_at dksL_law_73 0 rfl rfl)
theorem dL_law_1915 : decode cL_law 1915 = .ok (.aload_n 2, 1) := dk_44 (dk_at dksL_law_73 2 rfl rfl)
theorem dL_law_1916 : decode cL_law 1916 = .ok (.aload_n 0, 1) := dk_42 (dk_at dksL_law_73 3 rfl rfl)
theorem dL_law_1917 : decode cL_law 1917 = .ok (.iload 5, 2) := dk_21 5 (dk_at dksL_law_73 4 rfl rfl)
theorem dL_law_1919 : decode cL_law 1919 = .ok (.iconst 1, 1) := dk_4 (dk_at dksL_law_73 6 rfl rfl)
theorem dL_law_1920 : decode cL_law 1920 = .ok (.iadd, 1) := dk_96 (dk_at dksL_law_73 7 rfl rfl)
theorem dL_law_1921 : decode cL_law 1921 = .ok (.iaload, 1) := dk_46 (dk_at dksL_law_73 8 rfl rfl)
theorem dL_law_1922 : decode cL_law 1922 = .ok (.invokevirtual 273, 3) := dk_182 1 17 (dk_at dksL_law_73 9 rfl rfl)
theorem dL_law_1925 : decode cL_law 1925 = .ok (.istore 7, 2) := dk_54 7 (dk_at dksL_law_73 12 rfl rfl)
theorem dL_law_1927 : decode cL_law 1927 = .ok (.aload_n 2, 1) := dk_44 (dk_at dksL_law_73 14 rfl rfl)
theorem dL_law_1928 : decode cL_law 1928 = .ok (.invokevirtual 173, 3) := dk_182 0 173 (dk_at dksL_law_73 15 rfl rfl)
theorem dL_law_1931 : decode cL_law 1931 = .ok (.iload 6, 2) := dk_21 6 (dk_at dksL_law_73 18 rfl rfl)
theorem dL_law_1933 : decode cL_law 1933 = .ok (.if_icmp .eq 5, 3) := dk_159 0 5 (dk_at dksL_law_73 20 rfl rfl)
theorem dL_law_1936 : decode cL_law 1936 = .ok (.iconst 0, 1) := dk_3 (dk_at dksL_law_73 23 rfl rfl)
theorem dL_law_1937 : decode cL_law 1937 = .ok (.ireturn, 1) := dk_172 (dk_at dksL_law_74 0 rfl rfl)
theorem dL_law_1938 : decode cL_law 1938 = .ok (.iload 6, 2) := dk_21 6 (dk_at dksL_law_74 1 rfl rfl)
theorem dL_law_1940 : decode cL_law 1940 = .ok (.ifCond .ne 15, 3) := dk_154 0 15 (dk_at dksL_law_74 3 rfl rfl)
theorem dL_law_1943 : decode cL_law 1943 = .ok (.aload_n 3, 1) := dk_45 (dk_at dksL_law_74 6 rfl rfl)
theorem dL_law_1944 : decode cL_law 1944 = .ok (.iconst 0, 1) := dk_3 (dk_at dksL_law_74 7 rfl rfl)
theorem dL_law_1945 : decode cL_law 1945 = .ok (.laload, 1) := dk_47 (dk_at dksL_law_74 8 rfl rfl)
theorem dL_law_1946 : decode cL_law 1946 = .ok (.iload 7, 2) := dk_21 7 (dk_at dksL_law_74 9 rfl rfl)
theorem dL_law_1948 : decode cL_law 1948 = .ok (.i2l, 1) := dk_133 (dk_at dksL_law_74 11 rfl rfl)
theorem dL_law_1949 : decode cL_law 1949 = .ok (.lcmp, 1) := dk_148 (dk_at dksL_law_74 12 rfl rfl)
theorem dL_law_1950 : decode cL_law 1950 = .ok (.ifCond .eq 5, 3) := dk_153 0 5 (dk_at dksL_law_74 13 rfl rfl)
theorem dL_law_1953 : decode cL_law 1953 = .ok (.iconst 0, 1) := dk_3 (dk_at dksL_law_74 16 rfl rfl)
theorem dL_law_1954 : decode cL_law 1954 = .ok (.ireturn, 1) := dk_172 (dk_at dksL_law_74 17 rfl rfl)
theorem dL_law_1955 : decode cL_law 1955 = .ok (.goto 1430, 3) := dk_167 5 150 (dk_at dksL_law_74 18 rfl rfl)
theorem dL_law_1958 : decode cL_law 1958 = .ok (.aload_n 1, 1) := dk_43 (dk_at dksL_law_74 21 rfl rfl)
theorem dL_law_1959 : decode cL_law 1959 = .ok (.invokevirtual 274, 3) := dk_182 1 18 (dk_at dksL_law_75 0 rfl rfl)
theorem dL_law_1962 : decode cL_law 1962 = .ok (.aload_n 2, 1) := dk_44 (dk_at dksL_law_75 3 rfl rfl)
theorem dL_law_1963 : decode cL_law 1963 = .ok (.invokevirtual 277, 3) := dk_182 1 21 (dk_at dksL_law_75 4 rfl rfl)
theorem dL_law_1966 : decode cL_law 1966 = .ok (.if_icmp .eq 1419, 3) := dk_159 5 139 (dk_at dksL_law_75 7 rfl rfl)
theorem dL_law_1969 : decode cL_law 1969 = .ok (.iconst 0, 1) := dk_3 (dk_at dksL_law_75 10 rfl rfl)
theorem dL_law_1970 : decode cL_law 1970 = .ok (.ireturn, 1) := dk_172 (dk_at dksL_law_75 11 rfl rfl)
theorem dL_law_1971 : decode cL_law 1971 = .ok (.aload_n 1, 1) := dk_43 (dk_at dksL_law_75 12 rfl rfl)
theorem dL_law_1972 : decode cL_law 1972 = .ok (.invokevirtual 278, 3) := dk_182 1 22 (dk_at dksL_law_75 13 rfl rfl)
theorem dL_law_1975 : decode cL_law 1975 = .ok (.aload_n 2, 1) := dk_44 (dk_at dksL_law_75 16 rfl rfl)
theorem dL_law_1976 : decode cL_law 1976 = .ok (.invokevirtual 281, 3) := dk_182 1 25 (dk_at dksL_law_75 17 rfl rfl)
theorem dL_law_1979 : decode cL_law 1979 = .ok (.if_icmp .eq 1406, 3) := dk_159 5 126 (dk_at dksL_law_75 20 rfl rfl)
theorem dL_law_1982 : decode cL_law 1982 = .ok (.iconst 0, 1) := dk_3 (dk_at dksL_law_75 23 rfl rfl)
theorem dL_law_1983 : decode cL_law 1983 = .ok (.ireturn, 1) := dk_172 (dk_at dksL_law_76 0 rfl rfl)
theorem dL_law_1984 : decode cL_law 1984 = .ok (.aload_n 1, 1) := dk_43 (dk_at dksL_law_76 1 rfl rfl)
theorem dL_law_1985 : decode cL_law 1985 = .ok (.aload 4, 2) := dk_25 4 (dk_at dksL_law_76 2 rfl rfl)
theorem dL_law_1987 : decode cL_law 1987 = .ok (.invokestatic 282, 3) := dk_184 1 26 (dk_at dksL_law_76 4 rfl rfl)
theorem dL_law_1990 : decode cL_law 1990 = .ok (.istore 6, 2) := dk_54 6 (dk_at dksL_law_76 7 rfl rfl)
theorem dL_law_1992 : decode cL_law 1992 = .ok (.aload_n 2, 1) := dk_44 (dk_at dksL_law_76 9 rfl rfl)
theorem dL_law_1993 : decode cL_law 1993 = .ok (.invokevirtual 285, 3) := dk_182 1 29 (dk_at dksL_law_76 10 rfl rfl)
theorem dL_law_1996 : decode cL_law 1996 = .ok (.fstore 7, 2) := dk_56 7 (dk_at dksL_law_76 13 rfl rfl)
theorem dL_law_1998 : decode cL_law 1998 = .ok (.aload_n 2, 1) := dk_44 (dk_at dksL_law_76 15 rfl rfl)
theorem dL_law_1999 : decode cL_law 1999 = .ok (.invokevirtual 173, 3) := dk_182 0 173 (dk_at dksL_law_76 16 rfl rfl)
theorem dL_law_2002 : decode cL_law 2002 = .ok (.iload 6, 2) := dk_21 6 (dk_at dksL_law_76 19 rfl rfl)
theorem dL_law_2004 : decode cL_law 2004 = .ok (.if_icmp .eq 5, 3) := dk_159 0 5 (dk_at dksL_law_76 21 rfl rfl)
theorem dL_law_2007 : decode cL_law 2007 = .ok (.iconst 0, 1) := dk_3 (dk_at dksL_law_77 0 rfl rfl)
theorem dL_law_2008 : decode cL_law 2008 = .ok (.ireturn, 1) := dk_172 (dk_at dksL_law_77 1 rfl rfl)
theorem dL_law_2009 : decode cL_law 2009 = .ok (.iload 6, 2) := dk_21 6 (dk_at dksL_law_77 2 rfl rfl)
theorem dL_law_2011 : decode cL_law 2011 = .ok (.ifCond .ne 36, 3) := dk_154 0 36 (dk_at dksL_law_77 4 rfl rfl)
theorem dL_law_2014 : decode cL_law 2014 = .ok (.aload 4, 2) := dk_25 4 (dk_at dksL_law_77 7 rfl rfl)
theorem dL_law_2016 : decode cL_law 2016 = .ok (.iconst 0, 1) := dk_3 (dk_at dksL_law_77 9 rfl rfl)
theorem dL_law_2017 : decode cL_law 2017 = .ok (.daload, 1) := dk_49 (dk_at dksL_law_77 10 rfl rfl)
theorem dL_law_2018 : decode cL_law 2018 = .ok (.fload 7, 2) := dk_23 7 (dk_at dksL_law_77 11 rfl rfl)
theorem dL_law_2020 : decode cL_law 2020 = .ok (.f2d, 1) := dk_141 (dk_at dksL_law_77 13 rfl rfl)
theorem dL_law_2021 : decode cL_law 2021 = .ok (.dcmp .l, 1) := dk_151 (dk_at dksL_law_77 14 rfl rfl)
theorem dL_law_2022 : decode cL_law 2022 = .ok (.ifCond .eq 25, 3) := dk_153 0 25 (dk_at dksL_law_77 15 rfl rfl)
theorem dL_law_2025 : decode cL_law 2025 = .ok (.aload 4, 2) := dk_25 4 (dk_at dksL_law_77 18 rfl rfl)
theorem dL_law_2027 : decode cL_law 2027 = .ok (.iconst 0, 1) := dk_3 (dk_at dksL_law_77 20 rfl rfl)
theorem dL_law_2028 : decode cL_law 2028 = .ok (.daload, 1) := dk_49 (dk_at dksL_law_77 21 rfl rfl)
theorem dL_law_2029 : decode cL_law 2029 = .ok (.aload 4, 2) := dk_25 4 (dk_at dksL_law_77 22 rfl rfl)
theorem dL_law_2031 : decode cL_law 2031 = .ok (.iconst 0, 1) := dk_3 (dk_at dksL_law_78 0 rfl rfl)
theorem dL_law_2032 : decode cL_law 2032 = .ok (.daload, 1) := dk_49 (dk_at dksL_law_78 1 rfl rfl)
theorem dL_law_2033 : decode cL_law 2033 = .ok (.dcmp .l, 1) := dk_151 (dk_at dksL_law_78 2 rfl rfl)
theorem dL_law_2034 : decode cL_law 2034 = .ok (.ifCond .eq 11, 3) := dk_153 0 11 (dk_at dksL_law_78 3 rfl rfl)
theorem dL_law_2037 : decode cL_law 2037 = .ok (.fload 7, 2) := dk_23 7 (dk_at dksL_law_78 6 rfl rfl)
theorem dL_law_2039 : decode cL_law 2039 = .ok (.fload 7, 2) := dk_23 7 (dk_at dksL_law_78 8 rfl rfl)
theorem dL_law_2041 : decode cL_law 2041 = .ok (.fcmp .l, 1) := dk_149 (dk_at dksL_law_78 10 rfl rfl)
theorem dL_law_2042 : decode cL_law 2042 = .ok (.ifCond .ne 5, 3) := dk_154 0 5 (dk_at dksL_law_78 11 rfl rfl)
theorem dL_law_2045 : decode cL_law 2045 = .ok (.iconst 0, 1) := dk_3 (dk_at dksL_law_78 14 rfl rfl)
theorem dL_law_2046 : decode cL_law 2046 = .ok (.ireturn, 1) := dk_172 (dk_at dksL_law_78 15 rfl rfl)
theorem dL_law_2047 : decode cL_law 2047 = .ok (.goto 1338, 3) := dk_167 5 58 (dk_at dksL_law_78 16 rfl rfl)
theorem dL_law_2050 : decode cL_law 2050 = .ok (.aload_n 1, 1) := dk_43 (dk_at dksL_law_78 19 rfl rfl)
theorem dL_law_2051 : decode cL_law 2051 = .ok (.aload_n 0, 1) := dk_42 (dk_at dksL_law_78 20 rfl rfl)
theorem dL_law_2052 : decode cL_law 2052 = .ok (.iload 5, 2) := dk_21 5 (dk_at dksL_law_78 21 rfl rfl)
theorem dL_law_2054 : decode cL_law 2054 = .ok (.iconst 1, 1) := dk_4 (dk_at dksL_law_78 23 rfl rfl)
theorem dL_law_2055 : decode cL_law 2055 = .ok (.iadd, 1) := dk_96 (dk_at dksL_law_79 0 rfl rfl)
theorem dL_law_2056 : decode cL_law 2056 = .ok (.iaload, 1) := dk_46 (dk_at dksL_law_79 1 rfl rfl)
theorem dL_law_2057 : decode cL_law 2057 = .ok (.aload 4, 2) := dk_25 4 (dk_at dksL_law_79 2 rfl rfl)
theorem dL_law_2059 : decode cL_law 2059 = .ok (.invokestatic 286, 3) := dk_184 1 30 (dk_at dksL_law_79 4 rfl rfl)
theorem dL_law_2062 : decode cL_law 2062 = .ok (.istore 6, 2) := dk_54 6 (dk_at dksL_law_79 7 rfl rfl)
theorem dL_law_2064 : decode cL_law 2064 = .ok (.aload_n 2, 1) := dk_44 (dk_at dksL_law_79 9 rfl rfl)
theorem dL_law_2065 : decode cL_law 2065 = .ok (.aload_n 0, 1) := dk_42 (dk_at dksL_law_79 10 rfl rfl)
theorem dL_law_2066 : decode cL_law 2066 = .ok (.iload 5, 2) := dk_21 5 (dk_at dksL_law_79 11 rfl rfl)
theorem dL_law_2068 : decode cL_law 2068 = .ok (.iconst 1, 1) := dk_4 (dk_at dksL_law_79 13 rfl rfl)
theorem dL_law_2069 : decode cL_law 2069 = .ok (.iadd, 1) := dk_96 (dk_at dksL_law_79 14 rfl rfl)
theorem dL_law_2070 : decode cL_law 2070 = .ok (.iaload, 1) := dk_46 (dk_at dksL_law_79 15 rfl rfl)
theorem dL_law_2071 : decode cL_law 2071 = .ok (.invokevirtual 289, 3) := dk_182 1 33 (dk_at dksL_law_79 16 rfl rfl)
theorem dL_law_2074 : decode cL_law 2074 = .ok (.fstore 7, 2) := dk_56 7 (dk_at dksL_law_79 19 rfl rfl)
theorem dL_law_2076 : decode cL_law 2076 = .ok (.aload_n 2, 1) := dk_44 (dk_at dksL_law_79 21 rfl rfl)
theorem dL_law_2077 : decode cL_law 2077 = .ok (.invokevirtual 173, 3) := dk_182 0 173 (dk_at dksL_law_80 0 rfl rfl)
theorem dL_law_2080 : decode cL_law 2080 = .ok (.iload 6, 2) := dk_21 6 (dk_at dksL_law_80 3 rfl rfl)
theorem dL_law_2082 : decode cL_law 2082 = .ok (.if_icmp .eq 5, 3) := dk_159 0 5 (dk_at dksL_law_80 5 rfl rfl)
theorem dL_law_2085 : decode cL_law 2085 = .ok (.iconst 0, 1) := dk_3 (dk_at dksL_law_80 8 rfl rfl)
theorem dL_law_2086 : decode cL_law 2086 = .ok (.ireturn, 1) := dk_172 (dk_at dksL_law_80 9 rfl rfl)
theorem dL_law_2087 : decode cL_law 2087 = .ok (.iload 6, 2) := dk_21 6 (dk_at dksL_law_80 10 rfl rfl)
theorem dL_law_2089 : decode cL_law 2089 = .ok (.ifCond .ne 36, 3) := dk_154 0 36 (dk_at dksL_law_80 12 rfl rfl)
theorem dL_law_2092 : decode cL_law 2092 = .ok (.aload 4, 2) := dk_25 4 (dk_at dksL_law_80 15 rfl rfl)
theorem dL_law_2094 : decode cL_law 2094 = .ok (.iconst 0, 1) := dk_3 (dk_at dksL_law_80 17 rfl rfl)
theorem dL_law_2095 : decode cL_law 2095 = .ok (.daload, 1) := dk_49 (dk_at dksL_law_80 18 rfl rfl)
theorem dL_law_2096 : decode cL_law 2096 = .ok (.fload 7, 2) := dk_23 7 (dk_at dksL_law_80 19 rfl rfl)
theorem dL_law_2098 : decode cL_law 2098 = .ok (.f2d, 1) := dk_141 (dk_at dksL_law_80 21 rfl rfl)
theorem dL_law_2099 : decode cL_law 2099 = .ok (.dcmp .l, 1) := dk_151 (dk_at dksL_law_80 22 rfl rfl)
theorem dL_law_2100 : decode cL_law 2100 = .ok (.ifCond .eq 25, 3) := dk_153 0 25 (dk_at dksL_law_81 0 rfl rfl)
theorem dL_law_2103 : decode cL_law 2103 = .ok (.aload 4, 2) := dk_25 4 (dk_at dksL_law_81 3 rfl rfl)
theorem dL_law_2105 : decode cL_law 2105 = .ok (.iconst 0, 1) := dk_3 (dk_at dksL_law_81 5 rfl rfl)
theorem dL_law_2106 : decode cL_law 2106 = .ok (.daload, 1) := dk_49 (dk_at dksL_law_81 6 rfl rfl)
theorem dL_law_2107 : decode cL_law 2107 = .ok (.aload 4, 2) := dk_25 4 (dk_at dksL_law_81 7 rfl rfl)
theorem dL_law_2109 : decode cL_law 2109 = .ok (.iconst 0, 1) := dk_3 (dk_at dksL_law_81 9 rfl rfl)
theorem dL_law_2110 : decode cL_law 2110 = .ok (.daload, 1) := dk_49 (dk_at dksL_law_81 10 rfl rfl)
theorem dL_law_2111 : decode cL_law 2111 = .ok (.dcmp .l, 1) := dk_151 (dk_at dksL_law_81 11 rfl rfl)
theorem dL_law_2112 : decode cL_law 2112 = .ok (.ifCond .eq 11, 3) := dk_153 0 11 (dk_at dksL_law_81 12 rfl rfl)
theorem dL_law_2115 : decode cL_law 2115 = .ok (.fload 7, 2) := dk_23 7 (dk_at dksL_law_81 15 rfl rfl)
theorem dL_law_2117 : decode cL_law 2117 = .ok (.fload 7, 2) := dk_23 7 (dk_at dksL_law_81 17 rfl rfl)
theorem dL_law_2119 : decode cL_law 2119 = .ok (.fcmp .l, 1) := dk_149 (dk_at dksL_law_81 19 rfl rfl)
theorem dL_law_2120 : decode cL_law 2120 = .ok (.ifCond .ne 5, 3) := dk_154 0 5 (dk_at dksL_law_81 20 rfl rfl)
theorem dL_law_2123 : decode cL_law 2123 = .ok (.iconst 0, 1) := dk_3 (dk_at dksL_law_81 23 rfl rfl)
theorem dL_law_2124 : decode cL_law 2124 = .ok (.ireturn, 1) := dk_172 (dk_at dksL_law_82 0 rfl rfl)
theorem dL_law_2125 : decode cL_law 2125 = .ok (.goto 1260, 3) := dk_167 4 236 (dk_at dksL_law_82 1 rfl rfl)
theorem dL_law_2128 : decode cL_law 2128 = .ok (.aload_n 1, 1) := dk_43 (dk_at dksL_law_82 4 rfl rfl)
theorem dL_law_2129 : decode cL_law 2129 = .ok (.aload_n 0, 1) := dk_42 (dk_at dksL_law_82 5 rfl rfl)
theorem dL_law_2130 : decode cL_law 2130 = .ok (.iload 5, 2) := dk_21 5 (dk_at dksL_law_82 6 rfl rfl)
theorem dL_law_2132 : decode cL_law 2132 = .ok (.iconst 1, 1) := dk_4 (dk_at dksL_law_82 8 rfl rfl)
theorem dL_law_2133 : decode cL_law 2133 = .ok (.iadd, 1) := dk_96 (dk_at dksL_law_82 9 rfl rfl)
theorem dL_law_2134 : decode cL_law 2134 = .ok (.iaload, 1) := dk_46 (dk_at dksL_law_82 10 rfl rfl)
theorem dL_law_2135 : decode cL_law 2135 = .ok (.aload_n 0, 1) := dk_42 (dk_at dksL_law_82 11 rfl rfl)
theorem dL_law_2136 : decode cL_law 2136 = .ok (.iload 5, 2) := dk_21 5 (dk_at dksL_law_82 12 rfl rfl)
theorem dL_law_2138 : decode cL_law 2138 = .ok (.iconst 2, 1) := dk_5 (dk_at dksL_law_82 14 rfl rfl)
theorem dL_law_2139 : decode cL_law 2139 = .ok (.iadd, 1) := dk_96 (dk_at dksL_law_82 15 rfl rfl)
theorem dL_law_2140 : decode cL_law 2140 = .ok (.iaload, 1) := dk_46 (dk_at dksL_law_82 16 rfl rfl)
theorem dL_law_2141 : decode cL_law 2141 = .ok (.aload_n 0, 1) := dk_42 (dk_at dksL_law_82 17 rfl rfl)
theorem dL_law_2142 : decode cL_law 2142 = .ok (.iload 5, 2) := dk_21 5 (dk_at dksL_law_82 18 rfl rfl)
theorem dL_law_2144 : decode cL_law 2144 = .ok (.iconst 3, 1) := dk_6 (dk_at dksL_law_82 20 rfl rfl)
theorem dL_law_2145 : decode cL_law 2145 = .ok (.iadd, 1) := dk_96 (dk_at dksL_law_82 21 rfl rfl)
theorem dL_law_2146 : decode cL_law 2146 = .ok (.iaload, 1) := dk_46 (dk_at dksL_law_82 22 rfl rfl)
theorem dL_law_2147 : decode cL_law 2147 = .ok (.aload_n 0, 1) := dk_42 (dk_at dksL_law_82 23 rfl rfl)
theorem dL_law_2148 : decode cL_law 2148 = .ok (.iload 5, 2) := dk_21 5 (dk_at dksL_law_83 0 rfl rfl)
theorem dL_law_2150 : decode cL_law 2150 = .ok (.iconst 4, 1) := dk_7 (dk_at dksL_law_83 2 rfl rfl)
theorem dL_law_2151 : decode cL_law 2151 = .ok (.iadd, 1) := dk_96 (dk_at dksL_law_83 3 rfl rfl)
theorem dL_law_2152 : decode cL_law 2152 = .ok (.iaload, 1) := dk_46 (dk_at dksL_law_83 4 rfl rfl)
theorem dL_law_2153 : decode cL_law 2153 = .ok (.aload_n 0, 1) := dk_42 (dk_at dksL_law_83 5 rfl rfl)
theorem dL_law_2154 : decode cL_law 2154 = .ok (.iload 5, 2) := dk_21 5 (dk_at dksL_law_83 6 rfl rfl)
theorem dL_law_2156 : decode cL_law 2156 = .ok (.iconst 5, 1) := dk_8 (dk_at dksL_law_83 8 rfl rfl)
theorem dL_law_2157 : decode cL_law 2157 = .ok (.iadd, 1) := dk_96 (dk_at dksL_law_83 9 rfl rfl)
theorem dL_law_2158 : decode cL_law 2158 = .ok (.iaload, 1) := dk_46 (dk_at dksL_law_83 10 rfl rfl)
theorem dL_law_2159 : decode cL_law 2159 = .ok (.aload_n 0, 1) := dk_42 (dk_at dksL_law_83 11 rfl rfl)
theorem dL_law_2160 : decode cL_law 2160 = .ok (.iload 5, 2) := dk_21 5 (dk_at dksL_law_83 12 rfl rfl)
theorem dL_law_2162 : decode cL_law 2162 = .ok (.bipush 6, 2) := dk_16 6 (dk_at dksL_law_83 14 rfl rfl)
theorem dL_law_2164 : decode cL_law 2164 = .ok (.iadd, 1) := dk_96 (dk_at dksL_law_83 16 rfl rfl)
theorem dL_law_2165 : decode cL_law 2165 = .ok (.iaload, 1) := dk_46 (dk_at dksL_law_83 17 rfl rfl)
theorem dL_law_2166 : decode cL_law 2166 = .ok (.aload_n 3, 1) := dk_45 (dk_at dksL_law_83 18 rfl rfl)
theorem dL_law_2167 : decode cL_law 2167 = .ok (.invokestatic 290, 3) := dk_184 1 34 (dk_at dksL_law_83 19 rfl rfl)
theorem dL_law_2170 : decode cL_law 2170 = .ok (.istore 6, 2) := dk_54 6 (dk_at dksL_law_83 22 rfl rfl)
theorem dL_law_2172 : decode cL_law 2172 = .ok (.aload_n 2, 1) := dk_44 (dk_at dksL_law_84 0 rfl rfl)
theorem dL_law_2173 : decode cL_law 2173 = .ok (.aload_n 0, 1) := dk_42 (dk_at dksL_law_84 1 rfl rfl)
theorem dL_law_2174 : decode cL_law 2174 = .ok (.iload 5, 2) := dk_21 5 (dk_at dksL_law_84 2 rfl rfl)
theorem dL_law_2176 : decode cL_law 2176 = .ok (.iconst 1, 1) := dk_4 (dk_at dksL_law_84 4 rfl rfl)
theorem dL_law_2177 : decode cL_law 2177 = .ok (.iadd, 1) := dk_96 (dk_at dksL_law_84 5 rfl rfl)
theorem dL_law_2178 : decode cL_law 2178 = .ok (.iaload, 1) := dk_46 (dk_at dksL_law_84 6 rfl rfl)
theorem dL_law_2179 : decode cL_law 2179 = .ok (.aload_n 0, 1) := dk_42 (dk_at dksL_law_84 7 rfl rfl)
theorem dL_law_2180 : decode cL_law 2180 = .ok (.iload 5, 2) := dk_21 5 (dk_at dksL_law_84 8 rfl rfl)
theorem dL_law_2182 : decode cL_law 2182 = .ok (.iconst 2, 1) := dk_5 (dk_at dksL_law_84 10 rfl rfl)
theorem dL_law_2183 : decode cL_law 2183 = .ok (.iadd, 1) := dk_96 (dk_at dksL_law_84 11 rfl rfl)
theorem dL_law_2184 : decode cL_law 2184 = .ok (.iaload, 1) := dk_46 (dk_at dksL_law_84 12 rfl rfl)
theorem dL_law_2185 : decode cL_law 2185 = .ok (.aload_n 0, 1) := dk_42 (dk_at dksL_law_84 13 rfl rfl)
theorem dL_law_2186 : decode cL_law 2186 = .ok (.iload 5, 2) := dk_21 5 (dk_at dksL_law_84 14 rfl rfl)
theorem dL_law_2188 : decode cL_law 2188 = .ok (.iconst 3, 1) := dk_6 (dk_at dksL_law_84 16 rfl rfl)
theorem dL_law_2189 : decode cL_law 2189 = .ok (.iadd, 1) := dk_96 (dk_at dksL_law_84 17 rfl rfl)
theorem dL_law_2190 : decode cL_law 2190 = .ok (.iaload, 1) := dk_46 (dk_at dksL_law_84 18 rfl rfl)
theorem dL_law_2191 : decode cL_law 2191 = .ok (.aload_n 0, 1) := dk_42 (dk_at dksL_law_84 19 rfl rfl)
theorem dL_law_2192 : decode cL_law 2192 = .ok (.iload 5, 2) := dk_21 5 (dk_at dksL_law_84 20 rfl rfl)
theorem dL_law_2194 : decode cL_law 2194 = .ok (.iconst 4, 1) := dk_7 (dk_at dksL_law_84 22 rfl rfl)
theorem dL_law_2195 : decode cL_law 2195 = .ok (.iadd, 1) := dk_96 (dk_at dksL_law_84 23 rfl rfl)
theorem dL_law_2196 : decode cL_law 2196 = .ok (.iaload, 1) := dk_46 (dk_at dksL_law_85 0 rfl rfl)
theorem dL_law_2197 : decode cL_law 2197 = .ok (.aload_n 0, 1) := dk_42 (dk_at dksL_law_85 1 rfl rfl)
theorem dL_law_2198 : decode cL_law 2198 = .ok (.iload 5, 2) := dk_21 5 (dk_at dksL_law_85 2 rfl rfl)
theorem dL_law_2200 : decode cL_law 2200 = .ok (.iconst 5, 1) := dk_8 (dk_at dksL_law_85 4 rfl rfl)
theorem dL_law_2201 : decode cL_law 2201 = .ok (.iadd, 1) := dk_96 (dk_at dksL_law_85 5 rfl rfl)
theorem dL_law_2202 : decode cL_law 2202 = .ok (.iaload, 1) := dk_46 (dk_at dksL_law_85 6 rfl rfl)
theorem dL_law_2203 : decode cL_law 2203 = .ok (.aload_n 0, 1) := dk_42 (dk_at dksL_law_85 7 rfl rfl)
theorem dL_law_2204 : decode cL_law 2204 = .ok (.iload 5, 2) := dk_21 5 (dk_at dksL_law_85 8 rfl rfl)
theorem dL_law_2206 : decode cL_law 2206 = .ok (.bipush 6, 2) := dk_16 6 (dk_at dksL_law_85 10 rfl rfl)
theorem dL_law_2208 : decode cL_law 2208 = .ok (.iadd, 1) := dk_96 (dk_at dksL_law_85 12 rfl rfl)
theorem dL_law_2209 : decode cL_law 2209 = .ok (.iaload, 1) := dk_46 (dk_at dksL_law_85 13 rfl rfl)
theorem dL_law_2210 : decode cL_law 2210 = .ok (.invokevirtual 293, 3) := dk_182 1 37 (dk_at dksL_law_85 14 rfl rfl)
theorem dL_law_2213 : decode cL_law 2213 = .ok (.istore 7, 2) := dk_54 7 (dk_at dksL_law_85 17 rfl rfl)
theorem dL_law_2215 : decode cL_law 2215 = .ok (.aload_n 2, 1) := dk_44 (dk_at dksL_law_85 19 rfl rfl)
theorem dL_law_2216 : decode cL_law 2216 = .ok (.invokevirtual 173, 3) := dk_182 0 173 (dk_at dksL_law_85 20 rfl rfl)
theorem dL_law_2219 : decode cL_law 2219 = .ok (.iload 6, 2) := dk_21 6 (dk_at dksL_law_86 0 rfl rfl)
theorem dL_law_2221 : decode cL_law 2221 = .ok (.if_icmp .eq 5, 3) := dk_159 0 5 (dk_at dksL_law_86 2 rfl rfl)
theorem dL_law_2224 : decode cL_law 2224 = .ok (.iconst 0, 1) := dk_3 (dk_at dksL_law_86 5 rfl rfl)
theorem dL_law_2225 : decode cL_law 2225 = .ok (.ireturn, 1) := dk_172 (dk_at dksL_law_86 6 rfl rfl)
theorem dL_law_2226 : decode cL_law 2226 = .ok (.iload 6, 2) := dk_21 6 (dk_at dksL_law_86 7 rfl rfl)
theorem dL_law_2228 : decode cL_law 2228 = .ok (.ifCond .ne 15, 3) := dk_154 0 15 (dk_at dksL_law_86 9 rfl rfl)
theorem dL_law_2231 : decode cL_law 2231 = .ok (.aload_n 3, 1) := dk_45 (dk_at dksL_law_86 12 rfl rfl)
theorem dL_law_2232 : decode cL_law 2232 = .ok (.iconst 0, 1) := dk_3 (dk_at dksL_law_86 13 rfl rfl)
theorem dL_law_2233 : decode cL_law 2233 = .ok (.laload, 1) := dk_47 (dk_at dksL_law_86 14 rfl rfl)
theorem dL_law_2234 : decode cL_law 2234 = .ok (.iload 7, 2) := dk_21 7 (dk_at dksL_law_86 15 rfl rfl)
theorem dL_law_2236 : decode cL_law 2236 = .ok (.i2l, 1) := dk_133 (dk_at dksL_law_86 17 rfl rfl)
theorem dL_law_2237 : decode cL_law 2237 = .ok (.lcmp, 1) := dk_148 (dk_at dksL_law_86 18 rfl rfl)
theorem dL_law_2238 : decode cL_law 2238 = .ok (.ifCond .eq 5, 3) := dk_153 0 5 (dk_at dksL_law_86 19 rfl rfl)
theorem dL_law_2241 : decode cL_law 2241 = .ok (.iconst 0, 1) := dk_3 (dk_at dksL_law_86 22 rfl rfl)
theorem dL_law_2242 : decode cL_law 2242 = .ok (.ireturn, 1) := dk_172 (dk_at dksL_law_86 23 rfl rfl)
theorem dL_law_2243 : decode cL_law 2243 = .ok (.goto 1142, 3) := dk_167 4 118 (dk_at dksL_law_87 0 rfl rfl)
theorem dL_law_2246 : decode cL_law 2246 = .ok (.aload_n 1, 1) := dk_43 (dk_at dksL_law_87 3 rfl rfl)
theorem dL_law_2247 : decode cL_law 2247 = .ok (.aload_n 0, 1) := dk_42 (dk_at dksL_law_87 4 rfl rfl)
theorem dL_law_2248 : decode cL_law 2248 = .ok (.iload 5, 2) := dk_21 5 (dk_at dksL_law_87 5 rfl rfl)
theorem dL_law_2250 : decode cL_law 2250 = .ok (.iconst 1, 1) := dk_4 (dk_at dksL_law_87 7 rfl rfl)
theorem dL_law_2251 : decode cL_law 2251 = .ok (.iadd, 1) := dk_96 (dk_at dksL_law_87 8 rfl rfl)
theorem dL_law_2252 : decode cL_law 2252 = .ok (.iaload, 1) := dk_46 (dk_at dksL_law_87 9 rfl rfl)
theorem dL_law_2253 : decode cL_law 2253 = .ok (.aload_n 0, 1) := dk_42 (dk_at dksL_law_87 10 rfl rfl)
theorem dL_law_2254 : decode cL_law 2254 = .ok (.iload 5, 2) := dk_21 5 (dk_at dksL_law_87 11 rfl rfl)
theorem dL_law_2256 : decode cL_law 2256 = .ok (.iconst 2, 1) := dk_5 (dk_at dksL_law_87 13 rfl rfl)
theorem dL_law_2257 : decode cL_law 2257 = .ok (.iadd, 1) := dk_96 (dk_at dksL_law_87 14 rfl rfl)
theorem dL_law_2258 : decode cL_law 2258 = .ok (.iaload, 1) := dk_46 (dk_at dksL_law_87 15 rfl rfl)
theorem dL_law_2259 : decode cL_law 2259 = .ok (.aload_n 0, 1) := dk_42 (dk_at dksL_law_87 16 rfl rfl)
theorem dL_law_2260 : decode cL_law 2260 = .ok (.iload 5, 2) := dk_21 5 (dk_at dksL_law_87 17 rfl rfl)
theorem dL_law_2262 : decode cL_law 2262 = .ok (.iconst 3, 1) := dk_6 (dk_at dksL_law_87 19 rfl rfl)
theorem dL_law_2263 : decode cL_law 2263 = .ok (.iadd, 1) := dk_96 (dk_at dksL_law_87 20 rfl rfl)
theorem dL_law_2264 : decode cL_law 2264 = .ok (.iaload, 1) := dk_46 (dk_at dksL_law_87 21 rfl rfl)
theorem dL_law_2265 : decode cL_law 2265 = .ok (.aload_n 0, 1) := dk_42 (dk_at dksL_law_87 22 rfl rfl)
theorem dL_law_2266 : decode cL_law 2266 = .ok (.iload 5, 2) := dk_21 5 (dk_at dksL_law_88 0 rfl rfl)
theorem dL_law_2268 : decode cL_law 2268 = .ok (.iconst 4, 1) := dk_7 (dk_at dksL_law_88 2 rfl rfl)
theorem dL_law_2269 : decode cL_law 2269 = .ok (.iadd, 1) := dk_96 (dk_at dksL_law_88 3 rfl rfl)
theorem dL_law_2270 : decode cL_law 2270 = .ok (.iaload, 1) := dk_46 (dk_at dksL_law_88 4 rfl rfl)
theorem dL_law_2271 : decode cL_law 2271 = .ok (.aload_n 0, 1) := dk_42 (dk_at dksL_law_88 5 rfl rfl)
theorem dL_law_2272 : decode cL_law 2272 = .ok (.iload 5, 2) := dk_21 5 (dk_at dksL_law_88 6 rfl rfl)
theorem dL_law_2274 : decode cL_law 2274 = .ok (.iconst 5, 1) := dk_8 (dk_at dksL_law_88 8 rfl rfl)
theorem dL_law_2275 : decode cL_law 2275 = .ok (.iadd, 1) := dk_96 (dk_at dksL_law_88 9 rfl rfl)
theorem dL_law_2276 : decode cL_law 2276 = .ok (.iaload, 1) := dk_46 (dk_at dksL_law_88 10 rfl rfl)
theorem dL_law_2277 : decode cL_law 2277 = .ok (.aload_n 0, 1) := dk_42 (dk_at dksL_law_88 11 rfl rfl)
theorem dL_law_2278 : decode cL_law 2278 = .ok (.iload 5, 2) := dk_21 5 (dk_at dksL_law_88 12 rfl rfl)
theorem dL_law_2280 : decode cL_law 2280 = .ok (.bipush 6, 2) := dk_16 6 (dk_at dksL_law_88 14 rfl rfl)
theorem dL_law_2282 : decode cL_law 2282 = .ok (.iadd, 1) := dk_96 (dk_at dksL_law_88 16 rfl rfl)
theorem dL_law_2283 : decode cL_law 2283 = .ok (.iaload, 1) := dk_46 (dk_at dksL_law_88 17 rfl rfl)
theorem dL_law_2284 : decode cL_law 2284 = .ok (.aload_n 3, 1) := dk_45 (dk_at dksL_law_88 18 rfl rfl)
theorem dL_law_2285 : decode cL_law 2285 = .ok (.invokestatic 294, 3) := dk_184 1 38 (dk_at dksL_law_88 19 rfl rfl)
theorem dL_law_2288 : decode cL_law 2288 = .ok (.istore 6, 2) := dk_54 6 (dk_at dksL_law_88 22 rfl rfl)
theorem dL_law_2290 : decode cL_law 2290 = .ok (.aload_n 2, 1) := dk_44 (dk_at dksL_law_89 0 rfl rfl)
theorem dL_law_2291 : decode cL_law 2291 = .ok (.aload_n 0, 1) := dk_42 (dk_at dksL_law_89 1 rfl rfl)
theorem dL_law_2292 : decode cL_law 2292 = .ok (.iload 5, 2) := dk_21 5 (dk_at dksL_law_89 2 rfl rfl)
theorem dL_law_2294 : decode cL_law 2294 = .ok (.iconst 1, 1) := dk_4 (dk_at dksL_law_89 4 rfl rfl)
theorem dL_law_2295 : decode cL_law 2295 = .ok (.iadd, 1) := dk_96 (dk_at dksL_law_89 5 rfl rfl)
theorem dL_law_2296 : decode cL_law 2296 = .ok (.iaload, 1) := dk_46 (dk_at dksL_law_89 6 rfl rfl)
theorem dL_law_2297 : decode cL_law 2297 = .ok (.aload_n 0, 1) := dk_42 (dk_at dksL_law_89 7 rfl rfl)
theorem dL_law_2298 : decode cL_law 2298 = .ok (.iload 5, 2) := dk_21 5 (dk_at dksL_law_89 8 rfl rfl)
theorem dL_law_2300 : decode cL_law 2300 = .ok (.iconst 2, 1) := dk_5 (dk_at dksL_law_89 10 rfl rfl)
theorem dL_law_2301 : decode cL_law 2301 = .ok (.iadd, 1) := dk_96 (dk_at dksL_law_89 11 rfl rfl)
theorem dL_law_2302 : decode cL_law 2302 = .ok (.iaload, 1) := dk_46 (dk_at dksL_law_89 12 rfl rfl)
theorem dL_law_2303 : decode cL_law 2303 = .ok (.aload_n 0, 1) := dk_42 (dk_at dksL_law_89 13 rfl rfl)
theorem dL_law_2304 : decode cL_law 2304 = .ok (.iload 5, 2) := dk_21 5 (dk_at dksL_law_89 14 rfl rfl)
theorem dL_law_2306 : decode cL_law 2306 = .ok (.iconst 3, 1) := dk_6 (dk_at dksL_law_89 16 rfl rfl)
theorem dL_law_2307 : decode cL_law 2307 = .ok (.iadd, 1) := dk_96 (dk_at dksL_law_89 17 rfl rfl)
theorem dL_law_2308 : decode cL_law 2308 = .ok (.iaload, 1) := dk_46 (dk_at dksL_law_89 18 rfl rfl)
theorem dL_law_2309 : decode cL_law 2309 = .ok (.aload_n 0, 1) := dk_42 (dk_at dksL_law_89 19 rfl rfl)
theorem dL_law_2310 : decode cL_law 2310 = .ok (.iload 5, 2) := dk_21 5 (dk_at dksL_law_89 20 rfl rfl)
theorem dL_law_2312 : decode cL_law 2312 = .ok (.iconst 4, 1) := dk_7 (dk_at dksL_law_89 22 rfl rfl)
theorem dL_law_2313 : decode cL_law 2313 = .ok (.iadd, 1) := dk_96 (dk_at dksL_law_89 23 rfl rfl)
theorem dL_law_2314 : decode cL_law 2314 = .ok (.iaload, 1) := dk_46 (dk_at dksL_law_90 0 rfl rfl)
theorem dL_law_2315 : decode cL_law 2315 = .ok (.aload_n 0, 1) := dk_42 (dk_at dksL_law_90 1 rfl rfl)
theorem dL_law_2316 : decode cL_law 2316 = .ok (.iload 5, 2) := dk_21 5 (dk_at dksL_law_90 2 rfl rfl)
theorem dL_law_2318 : decode cL_law 2318 = .ok (.iconst 5, 1) := dk_8 (dk_at dksL_law_90 4 rfl rfl)
theorem dL_law_2319 : decode cL_law 2319 = .ok (.iadd, 1) := dk_96 (dk_at dksL_law_90 5 rfl rfl)
theorem dL_law_2320 : decode cL_law 2320 = .ok (.iaload, 1) := dk_46 (dk_at dksL_law_90 6 rfl rfl)
theorem dL_law_2321 : decode cL_law 2321 = .ok (.aload_n 0, 1) := dk_42 (dk_at dksL_law_90 7 rfl rfl)
theorem dL_law_2322 : decode cL_law 2322 = .ok (.iload 5, 2) := dk_21 5 (dk_at dksL_law_90 8 rfl rfl)
theorem dL_law_2324 : decode cL_law 2324 = .ok (.bipush 6, 2) := dk_16 6 (dk_at dksL_law_90 10 rfl rfl)
theorem dL_law_2326 : decode cL_law 2326 = .ok (.iadd, 1) := dk_96 (dk_at dksL_law_90 12 rfl rfl)
theorem dL_law_2327 : decode cL_law 2327 = .ok (.iaload, 1) := dk_46 (dk_at dksL_law_90 13 rfl rfl)
theorem dL_law_2328 : decode cL_law 2328 = .ok (.invokevirtual 296, 3) := dk_182 1 40 (dk_at dksL_law_90 14 rfl rfl)
theorem dL_law_2331 : decode cL_law 2331 = .ok (.istore 7, 2) := dk_54 7 (dk_at dksL_law_90 17 rfl rfl)
theorem dL_law_2333 : decode cL_law 2333 = .ok (.aload_n 2, 1) := dk_44 (dk_at dksL_law_90 19 rfl rfl)
theorem dL_law_2334 : decode cL_law 2334 = .ok (.invokevirtual 173, 3) := dk_182 0 173 (dk_at dksL_law_90 20 rfl rfl)
theorem dL_law_2337 : decode cL_law 2337 = .ok (.iload 6, 2) := dk_21 6 (dk_at dksL_law_91 0 rfl rfl)
theorem dL_law_2339 : decode cL_law 2339 = .ok (.if_icmp .eq 5, 3) := dk_159 0 5 (dk_at dksL_law_91 2 rfl rfl)
theorem dL_law_2342 : decode cL_law 2342 = .ok (.iconst 0, 1) := dk_3 (dk_at dksL_law_91 5 rfl rfl)
theorem dL_law_2343 : decode cL_law 2343 = .ok (.ireturn, 1) := dk_172 (dk_at dksL_law_91 6 rfl rfl)
theorem dL_law_2344 : decode cL_law 2344 = .ok (.iload 6, 2) := dk_21 6 (dk_at dksL_law_91 7 rfl rfl)
theorem dL_law_2346 : decode cL_law 2346 = .ok (.ifCond .ne 15, 3) := dk_154 0 15 (dk_at dksL_law_91 9 rfl rfl)
theorem dL_law_2349 : decode cL_law 2349 = .ok (.aload_n 3, 1) := dk_45 (dk_at dksL_law_91 12 rfl rfl)
theorem dL_law_2350 : decode cL_law 2350 = .ok (.iconst 0, 1) := dk_3 (dk_at dksL_law_91 13 rfl rfl)
theorem dL_law_2351 : decode cL_law 2351 = .ok (.laload, 1) := dk_47 (dk_at dksL_law_91 14 rfl rfl)
theorem dL_law_2352 : decode cL_law 2352 = .ok (.iload 7, 2) := dk_21 7 (dk_at dksL_law_91 15 rfl rfl)
theorem dL_law_2354 : decode cL_law 2354 = .ok (.i2l, 1) := dk_133 (dk_at dksL_law_91 17 rfl rfl)
theorem dL_law_2355 : decode cL_law 2355 = .ok (.lcmp, 1) := dk_148 (dk_at dksL_law_91 18 rfl rfl)
theorem dL_law_2356 : decode cL_law 2356 = .ok (.ifCond .eq 5, 3) := dk_153 0 5 (dk_at dksL_law_91 19 rfl rfl)
theorem dL_law_2359 : decode cL_law 2359 = .ok (.iconst 0, 1) := dk_3 (dk_at dksL_law_91 22 rfl rfl)
theorem dL_law_2360 : decode cL_law 2360 = .ok (.ireturn, 1) := dk_172 (dk_at dksL_law_91 23 rfl rfl)
theorem dL_law_2361 : decode cL_law 2361 = .ok (.goto 1024, 3) := dk_167 4 0 (dk_at dksL_law_92 0 rfl rfl)
theorem dL_law_2364 : decode cL_law 2364 = .ok (.aload_n 1, 1) := dk_43 (dk_at dksL_law_92 3 rfl rfl)
theorem dL_law_2365 : decode cL_law 2365 = .ok (.aload_n 0, 1) := dk_42 (dk_at dksL_law_92 4 rfl rfl)
theorem dL_law_2366 : decode cL_law 2366 = .ok (.iload 5, 2) := dk_21 5 (dk_at dksL_law_92 5 rfl rfl)
theorem dL_law_2368 : decode cL_law 2368 = .ok (.iconst 1, 1) := dk_4 (dk_at dksL_law_92 7 rfl rfl)
theorem dL_law_2369 : decode cL_law 2369 = .ok (.iadd, 1) := dk_96 (dk_at dksL_law_92 8 rfl rfl)
theorem dL_law_2370 : decode cL_law 2370 = .ok (.iaload, 1) := dk_46 (dk_at dksL_law_92 9 rfl rfl)
theorem dL_law_2371 : decode cL_law 2371 = .ok (.aload_n 0, 1) := dk_42 (dk_at dksL_law_92 10 rfl rfl)
theorem dL_law_2372 : decode cL_law 2372 = .ok (.iload 5, 2) := dk_21 5 (dk_at dksL_law_92 11 rfl rfl)
theorem dL_law_2374 : decode cL_law 2374 = .ok (.iconst 2, 1) := dk_5 (dk_at dksL_law_92 13 rfl rfl)
theorem dL_law_2375 : decode cL_law 2375 = .ok (.iadd, 1) := dk_96 (dk_at dksL_law_92 14 rfl rfl)
theorem dL_law_2376 : decode cL_law 2376 = .ok (.iaload, 1) := dk_46 (dk_at dksL_law_92 15 rfl rfl)
theorem dL_law_2377 : decode cL_law 2377 = .ok (.aload_n 0, 1) := dk_42 (dk_at dksL_law_92 16 rfl rfl)
theorem dL_law_2378 : decode cL_law 2378 = .ok (.iload 5, 2) := dk_21 5 (dk_at dksL_law_92 17 rfl rfl)
theorem dL_law_2380 : decode cL_law 2380 = .ok (.iconst 3, 1) := dk_6 (dk_at dksL_law_92 19 rfl rfl)
theorem dL_law_2381 : decode cL_law 2381 = .ok (.iadd, 1) := dk_96 (dk_at dksL_law_92 20 rfl rfl)
theorem dL_law_2382 : decode cL_law 2382 = .ok (.iaload, 1) := dk_46 (dk_at dksL_law_92 21 rfl rfl)
theorem dL_law_2383 : decode cL_law 2383 = .ok (.aload_n 0, 1) := dk_42 (dk_at dksL_law_92 22 rfl rfl)
theorem dL_law_2384 : decode cL_law 2384 = .ok (.iload 5, 2) := dk_21 5 (dk_at dksL_law_93 0 rfl rfl)
theorem dL_law_2386 : decode cL_law 2386 = .ok (.iconst 4, 1) := dk_7 (dk_at dksL_law_93 2 rfl rfl)
theorem dL_law_2387 : decode cL_law 2387 = .ok (.iadd, 1) := dk_96 (dk_at dksL_law_93 3 rfl rfl)
theorem dL_law_2388 : decode cL_law 2388 = .ok (.iaload, 1) := dk_46 (dk_at dksL_law_93 4 rfl rfl)
theorem dL_law_2389 : decode cL_law 2389 = .ok (.aload_n 0, 1) := dk_42 (dk_at dksL_law_93 5 rfl rfl)
theorem dL_law_2390 : decode cL_law 2390 = .ok (.iload 5, 2) := dk_21 5 (dk_at dksL_law_93 6 rfl rfl)
theorem dL_law_2392 : decode cL_law 2392 = .ok (.iconst 5, 1) := dk_8 (dk_at dksL_law_93 8 rfl rfl)
theorem dL_law_2393 : decode cL_law 2393 = .ok (.iadd, 1) := dk_96 (dk_at dksL_law_93 9 rfl rfl)
theorem dL_law_2394 : decode cL_law 2394 = .ok (.iaload, 1) := dk_46 (dk_at dksL_law_93 10 rfl rfl)
theorem dL_law_2395 : decode cL_law 2395 = .ok (.aload_n 0, 1) := dk_42 (dk_at dksL_law_93 11 rfl rfl)
theorem dL_law_2396 : decode cL_law 2396 = .ok (.iload 5, 2) := dk_21 5 (dk_at dksL_law_93 12 rfl rfl)
theorem dL_law_2398 : decode cL_law 2398 = .ok (.bipush 6, 2) := dk_16 6 (dk_at dksL_law_93 14 rfl rfl)
theorem dL_law_2400 : decode cL_law 2400 = .ok (.iadd, 1) := dk_96 (dk_at dksL_law_93 16 rfl rfl)
theorem dL_law_2401 : decode cL_law 2401 = .ok (.iaload, 1) := dk_46 (dk_at dksL_law_93 17 rfl rfl)
theorem dL_law_2402 : decode cL_law 2402 = .ok (.aload_n 3, 1) := dk_45 (dk_at dksL_law_93 18 rfl rfl)
theorem dL_law_2403 : decode cL_law 2403 = .ok (.invokestatic 297, 3) := dk_184 1 41 (dk_at dksL_law_93 19 rfl rfl)
theorem dL_law_2406 : decode cL_law 2406 = .ok (.istore 6, 2) := dk_54 6 (dk_at dksL_law_93 22 rfl rfl)
theorem dL_law_2408 : decode cL_law 2408 = .ok (.aload_n 2, 1) := dk_44 (dk_at dksL_law_94 0 rfl rfl)
theorem dL_law_2409 : decode cL_law 2409 = .ok (.aload_n 0, 1) := dk_42 (dk_at dksL_law_94 1 rfl rfl)
theorem dL_law_2410 : decode cL_law 2410 = .ok (.iload 5, 2) := dk_21 5 (dk_at dksL_law_94 2 rfl rfl)
theorem dL_law_2412 : decode cL_law 2412 = .ok (.iconst 1, 1) := dk_4 (dk_at dksL_law_94 4 rfl rfl)
theorem dL_law_2413 : decode cL_law 2413 = .ok (.iadd, 1) := dk_96 (dk_at dksL_law_94 5 rfl rfl)
theorem dL_law_2414 : decode cL_law 2414 = .ok (.iaload, 1) := dk_46 (dk_at dksL_law_94 6 rfl rfl)
theorem dL_law_2415 : decode cL_law 2415 = .ok (.aload_n 0, 1) := dk_42 (dk_at dksL_law_94 7 rfl rfl)
theorem dL_law_2416 : decode cL_law 2416 = .ok (.iload 5, 2) := dk_21 5 (dk_at dksL_law_94 8 rfl rfl)
theorem dL_law_2418 : decode cL_law 2418 = .ok (.iconst 2, 1) := dk_5 (dk_at dksL_law_94 10 rfl rfl)
theorem dL_law_2419 : decode cL_law 2419 = .ok (.iadd, 1) := dk_96 (dk_at dksL_law_94 11 rfl rfl)
theorem dL_law_2420 : decode cL_law 2420 = .ok (.iaload, 1) := dk_46 (dk_at dksL_law_94 12 rfl rfl)
theorem dL_law_2421 : decode cL_law 2421 = .ok (.aload_n 0, 1) := dk_42 (dk_at dksL_law_94 13 rfl rfl)
theorem dL_law_2422 : decode cL_law 2422 = .ok (.iload 5, 2) := dk_21 5 (dk_at dksL_law_94 14 rfl rfl)
theorem dL_law_2424 : decode cL_law 2424 = .ok (.iconst 3, 1) := dk_6 (dk_at dksL_law_94 16 rfl rfl)
theorem dL_law_2425 : decode cL_law 2425 = .ok (.iadd, 1) := dk_96 (dk_at dksL_law_94 17 rfl rfl)
theorem dL_law_2426 : decode cL_law 2426 = .ok (.iaload, 1) := dk_46 (dk_at dksL_law_94 18 rfl rfl)
theorem dL_law_2427 : decode cL_law 2427 = .ok (.aload_n 0, 1) := dk_42 (dk_at dksL_law_94 19 rfl rfl)
theorem dL_law_2428 : decode cL_law 2428 = .ok (.iload 5, 2) := dk_21 5 (dk_at dksL_law_94 20 rfl rfl)
theorem dL_law_2430 : decode cL_law 2430 = .ok (.iconst 4, 1) := dk_7 (dk_at dksL_law_94 22 rfl rfl)
theorem dL_law_2431 : decode cL_law 2431 = .ok (.iadd, 1) := dk_96 (dk_at dksL_law_94 23 rfl rfl)
theorem dL_law_2432 : decode cL_law 2432 = .ok (.iaload, 1) := dk_46 (dk_at dksL_law_95 0 rfl rfl)
theorem dL_law_2433 : decode cL_law 2433 = .ok (.aload_n 0, 1) := dk_42 (dk_at dksL_law_95 1 rfl rfl)
theorem dL_law_2434 : decode cL_law 2434 = .ok (.iload 5, 2) := dk_21 5 (dk_at dksL_law_95 2 rfl rfl)
theorem dL_law_2436 : decode cL_law 2436 = .ok (.iconst 5, 1) := dk_8 (dk_at dksL_law_95 4 rfl rfl)
theorem dL_law_2437 : decode cL_law 2437 = .ok (.iadd, 1) := dk_96 (dk_at dksL_law_95 5 rfl rfl)
theorem dL_law_2438 : decode cL_law 2438 = .ok (.iaload, 1) := dk_46 (dk_at dksL_law_95 6 rfl rfl)
theorem dL_law_2439 : decode cL_law 2439 = .ok (.aload_n 0, 1) := dk_42 (dk_at dksL_law_95 7 rfl rfl)
theorem dL_law_2440 : decode cL_law 2440 = .ok (.iload 5, 2) := dk_21 5 (dk_at dksL_law_95 8 rfl rfl)
theorem dL_law_2442 : decode cL_law 2442 = .ok (.bipush 6, 2) := dk_16 6 (dk_at dksL_law_95 10 rfl rfl)
theorem dL_law_2444 : decode cL_law 2444 = .ok (.iadd, 1) := dk_96 (dk_at dksL_law_95 12 rfl rfl)
theorem dL_law_2445 : decode cL_law 2445 = .ok (.iaload, 1) := dk_46 (dk_at dksL_law_95 13 rfl rfl)
theorem dL_law_2446 : decode cL_law 2446 = .ok (.invokevirtual 299, 3) := dk_182 1 43 (dk_at dksL_law_95 14 rfl rfl)
theorem dL_law_2449 : decode cL_law 2449 = .ok (.istore 7, 2) := dk_54 7 (dk_at dksL_law_95 17 rfl rfl)
theorem dL_law_2451 : decode cL_law 2451 = .ok (.aload_n 2, 1) := dk_44 (dk_at dksL_law_95 19 rfl rfl)
theorem dL_law_2452 : decode cL_law 2452 = .ok (.invokevirtual 173, 3) := dk_182 0 173 (dk_at dksL_law_95 20 rfl rfl)
theorem dL_law_2455 : decode cL_law 2455 = .ok (.iload 6, 2) := dk_21 6 (dk_at dksL_law_96 0 rfl rfl)
theorem dL_law_2457 : decode cL_law 2457 = .ok (.if_icmp .eq 5, 3) := dk_159 0 5 (dk_at dksL_law_96 2 rfl rfl)
theorem dL_law_2460 : decode cL_law 2460 = .ok (.iconst 0, 1) := dk_3 (dk_at dksL_law_96 5 rfl rfl)
theorem dL_law_2461 : decode cL_law 2461 = .ok (.ireturn, 1) := dk_172 (dk_at dksL_law_96 6 rfl rfl)
theorem dL_law_2462 : decode cL_law 2462 = .ok (.iload 6, 2) := dk_21 6 (dk_at dksL_law_96 7 rfl rfl)
theorem dL_law_2464 : decode cL_law 2464 = .ok (.ifCond .ne 15, 3) := dk_154 0 15 (dk_at dksL_law_96 9 rfl rfl)
theorem dL_law_2467 : decode cL_law 2467 = .ok (.aload_n 3, 1) := dk_45 (dk_at dksL_law_96 12 rfl rfl)
theorem dL_law_2468 : decode cL_law 2468 = .ok (.iconst 0, 1) := dk_3 (dk_at dksL_law_96 13 rfl rfl)
theorem dL_law_2469 : decode cL_law 2469 = .ok (.laload, 1) := dk_47 (dk_at dksL_law_96 14 rfl rfl)
theorem dL_law_2470 : decode cL_law 2470 = .ok (.iload 7, 2) := dk_21 7 (dk_at dksL_law_96 15 rfl rfl)
theorem dL_law_2472 : decode cL_law 2472 = .ok (.i2l, 1) := dk_133 (dk_at dksL_law_96 17 rfl rfl)
theorem dL_law_2473 : decode cL_law 2473 = .ok (.lcmp, 1) := dk_148 (dk_at dksL_law_96 18 rfl rfl)
theorem dL_law_2474 : decode cL_law 2474 = .ok (.ifCond .eq 5, 3) := dk_153 0 5 (dk_at dksL_law_96 19 rfl rfl)
theorem dL_law_2477 : decode cL_law 2477 = .ok (.iconst 0, 1) := dk_3 (dk_at dksL_law_96 22 rfl rfl)
theorem dL_law_2478 : decode cL_law 2478 = .ok (.ireturn, 1) := dk_172 (dk_at dksL_law_96 23 rfl rfl)
theorem dL_law_2479 : decode cL_law 2479 = .ok (.goto 906, 3) := dk_167 3 138 (dk_at dksL_law_97 0 rfl rfl)
theorem dL_law_2482 : decode cL_law 2482 = .ok (.aload_n 1, 1) := dk_43 (dk_at dksL_law_97 3 rfl rfl)
theorem dL_law_2483 : decode cL_law 2483 = .ok (.aload_n 3, 1) := dk_45 (dk_at dksL_law_97 4 rfl rfl)
theorem dL_law_2484 : decode cL_law 2484 = .ok (.invokestatic 300, 3) := dk_184 1 44 (dk_at dksL_law_97 5 rfl rfl)
theorem dL_law_2487 : decode cL_law 2487 = .ok (.istore 6, 2) := dk_54 6 (dk_at dksL_law_97 8 rfl rfl)
theorem dL_law_2489 : decode cL_law 2489 = .ok (.aload_n 2, 1) := dk_44 (dk_at dksL_law_97 10 rfl rfl)
theorem dL_law_2490 : decode cL_law 2490 = .ok (.invokevirtual 303, 3) := dk_182 1 47 (dk_at dksL_law_97 11 rfl rfl)
theorem dL_law_2493 : decode cL_law 2493 = .ok (.istore 7, 2) := dk_54 7 (dk_at dksL_law_97 14 rfl rfl)
theorem dL_law_2495 : decode cL_law 2495 = .ok (.aload_n 2, 1) := dk_44 (dk_at dksL_law_97 16 rfl rfl)
theorem dL_law_2496 : decode cL_law 2496 = .ok (.invokevirtual 173, 3) := dk_182 0 173 (dk_at dksL_law_97 17 rfl rfl)
theorem dL_law_2499 : decode cL_law 2499 = .ok (.iload 6, 2) := dk_21 6 (dk_at dksL_law_97 20 rfl rfl)
theorem dL_law_2501 : decode cL_law 2501 = .ok (.if_icmp .eq 5, 3) := dk_159 0 5 (dk_at dksL_law_98 0 rfl rfl)
theorem dL_law_2504 : decode cL_law 2504 = .ok (.iconst 0, 1) := dk_3 (dk_at dksL_law_98 3 rfl rfl)
theorem dL_law_2505 : decode cL_law 2505 = .ok (.ireturn, 1) := dk_172 (dk_at dksL_law_98 4 rfl rfl)
theorem dL_law_2506 : decode cL_law 2506 = .ok (.iload 6, 2) := dk_21 6 (dk_at dksL_law_98 5 rfl rfl)
theorem dL_law_2508 : decode cL_law 2508 = .ok (.ifCond .ne 15, 3) := dk_154 0 15 (dk_at dksL_law_98 7 rfl rfl)
theorem dL_law_2511 : decode cL_law 2511 = .ok (.aload_n 3, 1) := dk_45 (dk_at dksL_law_98 10 rfl rfl)
theorem dL_law_2512 : decode cL_law 2512 = .ok (.iconst 0, 1) := dk_3 (dk_at dksL_law_98 11 rfl rfl)
theorem dL_law_2513 : decode cL_law 2513 = .ok (.laload, 1) := dk_47 (dk_at dksL_law_98 12 rfl rfl)
theorem dL_law_2514 : decode cL_law 2514 = .ok (.iload 7, 2) := dk_21 7 (dk_at dksL_law_98 13 rfl rfl)
theorem dL_law_2516 : decode cL_law 2516 = .ok (.i2l, 1) := dk_133 (dk_at dksL_law_98 15 rfl rfl)
theorem dL_law_2517 : decode cL_law 2517 = .ok (.lcmp, 1) := dk_148 (dk_at dksL_law_98 16 rfl rfl)
theorem dL_law_2518 : decode cL_law 2518 = .ok (.ifCond .eq 5, 3) := dk_153 0 5 (dk_at dksL_law_98 17 rfl rfl)
theorem dL_law_2521 : decode cL_law 2521 = .ok (.iconst 0, 1) := dk_3 (dk_at dksL_law_98 20 rfl rfl)
theorem dL_law_2522 : decode cL_law 2522 = .ok (.ireturn, 1) := dk_172 (dk_at dksL_law_98 21 rfl rfl)
theorem dL_law_2523 : decode cL_law 2523 = .ok (.goto 862, 3) := dk_167 3 94 (dk_at dksL_law_99 0 rfl rfl)
theorem dL_law_2526 : decode cL_law 2526 = .ok (.aload_n 1, 1) := dk_43 (dk_at dksL_law_99 3 rfl rfl)
theorem dL_law_2527 : decode cL_law 2527 = .ok (.aload_n 3, 1) := dk_45 (dk_at dksL_law_99 4 rfl rfl)
theorem dL_law_2528 : decode cL_law 2528 = .ok (.invokestatic 304, 3) := dk_184 1 48 (dk_at dksL_law_99 5 rfl rfl)
theorem dL_law_2531 : decode cL_law 2531 = .ok (.istore 6, 2) := dk_54 6 (dk_at dksL_law_99 8 rfl rfl)
theorem dL_law_2533 : decode cL_law 2533 = .ok (.aload_n 2, 1) := dk_44 (dk_at dksL_law_99 10 rfl rfl)
theorem dL_law_2534 : decode cL_law 2534 = .ok (.invokevirtual 306, 3) := dk_182 1 50 (dk_at dksL_law_99 11 rfl rfl)
theorem dL_law_2537 : decode cL_law 2537 = .ok (.istore 7, 2) := dk_54 7 (dk_at dksL_law_99 14 rfl rfl)
theorem dL_law_2539 : decode cL_law 2539 = .ok (.aload_n 2, 1) := dk_44 (dk_at dksL_law_99 16 rfl rfl)
theorem dL_law_2540 : decode cL_law 2540 = .ok (.invokevirtual 173, 3) := dk_182 0 173 (dk_at dksL_law_99 17 rfl rfl)
theorem dL_law_2543 : decode cL_law 2543 = .ok (.iload 6, 2) := dk_21 6 (dk_at dksL_law_99 20 rfl rfl)
theorem dL_law_2545 : decode cL_law 2545 = .ok (.if_icmp .eq 5, 3) := dk_159 0 5 (dk_at dksL_law_100 0 rfl rfl)
theorem dL_law_2548 : decode cL_law 2548 = .ok (.iconst 0, 1) := dk_3 (dk_at dksL_law_100 3 rfl rfl)
theorem dL_law_2549 : decode cL_law 2549 = .ok (.ireturn, 1) := dk_172 (dk_at dksL_law_100 4 rfl rfl)
theorem dL_law_2550 : decode cL_law 2550 = .ok (.iload 6, 2) := dk_21 6 (dk_at dksL_law_100 5 rfl rfl)
theorem dL_law_2552 : decode cL_law 2552 = .ok (.ifCond .ne 15, 3) := dk_154 0 15 (dk_at dksL_law_100 7 rfl rfl)
theorem dL_law_2555 : decode cL_law 2555 = .ok (.aload_n 3, 1) := dk_45 (dk_at dksL_law_100 10 rfl rfl)
theorem dL_law_2556 : decode cL_law 2556 = .ok (.iconst 0, 1) := dk_3 (dk_at dksL_law_100 11 rfl rfl)
theorem dL_law_2557 : decode cL_law 2557 = .ok (.laload, 1) := dk_47 (dk_at dksL_law_100 12 rfl rfl)
theorem dL_law_2558 : decode cL_law 2558 = .ok (.iload 7, 2) := dk_21 7 (dk_at dksL_law_100 13 rfl rfl)
theorem dL_law_2560 : decode cL_law 2560 = .ok (.i2l, 1) := dk_133 (dk_at dksL_law_100 15 rfl rfl)
theorem dL_law_2561 : decode cL_law 2561 = .ok (.lcmp, 1) := dk_148 (dk_at dksL_law_100 16 rfl rfl)
theorem dL_law_2562 : decode cL_law 2562 = .ok (.ifCond .eq 5, 3) := dk_153 0 5 (dk_at dksL_law_100 17 rfl rfl)
theorem dL_law_2565 : decode cL_law 2565 = .ok (.iconst 0, 1) := dk_3 (dk_at dksL_law_100 20 rfl rfl)
theorem dL_law_2566 : decode cL_law 2566 = .ok (.ireturn, 1) := dk_172 (dk_at dksL_law_100 21 rfl rfl)
theorem dL_law_2567 : decode cL_law 2567 = .ok (.goto 818, 3) := dk_167 3 50 (dk_at dksL_law_101 0 rfl rfl)
theorem dL_law_2570 : decode cL_law 2570 = .ok (.aload_n 1, 1) := dk_43 (dk_at dksL_law_101 3 rfl rfl)
theorem dL_law_2571 : decode cL_law 2571 = .ok (.aload_n 0, 1) := dk_42 (dk_at dksL_law_101 4 rfl rfl)
theorem dL_law_2572 : decode cL_law 2572 = .ok (.iload 5, 2) := dk_21 5 (dk_at dksL_law_101 5 rfl rfl)
theorem dL_law_2574 : decode cL_law 2574 = .ok (.iconst 1, 1) := dk_4 (dk_at dksL_law_101 7 rfl rfl)
theorem dL_law_2575 : decode cL_law 2575 = .ok (.iadd, 1) := dk_96 (dk_at dksL_law_101 8 rfl rfl)
theorem dL_law_2576 : decode cL_law 2576 = .ok (.iaload, 1) := dk_46 (dk_at dksL_law_101 9 rfl rfl)
theorem dL_law_2577 : decode cL_law 2577 = .ok (.aload_n 0, 1) := dk_42 (dk_at dksL_law_101 10 rfl rfl)
theorem dL_law_2578 : decode cL_law 2578 = .ok (.iload 5, 2) := dk_21 5 (dk_at dksL_law_101 11 rfl rfl)
theorem dL_law_2580 : decode cL_law 2580 = .ok (.iconst 2, 1) := dk_5 (dk_at dksL_law_101 13 rfl rfl)
theorem dL_law_2581 : decode cL_law 2581 = .ok (.iadd, 1) := dk_96 (dk_at dksL_law_101 14 rfl rfl)
theorem dL_law_2582 : decode cL_law 2582 = .ok (.iaload, 1) := dk_46 (dk_at dksL_law_101 15 rfl rfl)
theorem dL_law_2583 : decode cL_law 2583 = .ok (.aload_n 3, 1) := dk_45 (dk_at dksL_law_101 16 rfl rfl)
theorem dL_law_2584 : decode cL_law 2584 = .ok (.invokestatic 307, 3) := dk_184 1 51 (dk_at dksL_law_101 17 rfl rfl)
theorem dL_law_2587 : decode cL_law 2587 = .ok (.istore 6, 2) := dk_54 6 (dk_at dksL_law_101 20 rfl rfl)
theorem dL_law_2589 : decode cL_law 2589 = .ok (.aload_n 2, 1) := dk_44 (dk_at dksL_law_101 22 rfl rfl)
theorem dL_law_2590 : decode cL_law 2590 = .ok (.aload_n 0, 1) := dk_42 (dk_at dksL_law_101 23 rfl rfl)
theorem dL_law_2591 : decode cL_law 2591 = .ok (.iload 5, 2) := dk_21 5 (dk_at dksL_law_102 0 rfl rfl)
theorem dL_law_2593 : decode cL_law 2593 = .ok (.iconst 1, 1) := dk_4 (dk_at dksL_law_102 2 rfl rfl)
theorem dL_law_2594 : decode cL_law 2594 = .ok (.iadd, 1) := dk_96 (dk_at dksL_law_102 3 rfl rfl)
theorem dL_law_2595 : decode cL_law 2595 = .ok (.iaload, 1) := dk_46 (dk_at dksL_law_102 4 rfl rfl)
theorem dL_law_2596 : decode cL_law 2596 = .ok (.aload_n 0, 1) := dk_42 (dk_at dksL_law_102 5 rfl rfl)
theorem dL_law_2597 : decode cL_law 2597 = .ok (.iload 5, 2) := dk_21 5 (dk_at dksL_law_102 6 rfl rfl)
theorem dL_law_2599 : decode cL_law 2599 = .ok (.iconst 2, 1) := dk_5 (dk_at dksL_law_102 8 rfl rfl)
theorem dL_law_2600 : decode cL_law 2600 = .ok (.iadd, 1) := dk_96 (dk_at dksL_law_102 9 rfl rfl)
theorem dL_law_2601 : decode cL_law 2601 = .ok (.iaload, 1) := dk_46 (dk_at dksL_law_102 10 rfl rfl)
theorem dL_law_2602 : decode cL_law 2602 = .ok (.invokevirtual 309, 3) := dk_182 1 53 (dk_at dksL_law_102 11 rfl rfl)
theorem dL_law_2605 : decode cL_law 2605 = .ok (.istore 7, 2) := dk_54 7 (dk_at dksL_law_102 14 rfl rfl)
theorem dL_law_2607 : decode cL_law 2607 = .ok (.aload_n 2, 1) := dk_44 (dk_at dksL_law_102 16 rfl rfl)
theorem dL_law_2608 : decode cL_law 2608 = .ok (.invokevirtual 173, 3) := dk_182 0 173 (dk_at dksL_law_102 17 rfl rfl)
theorem dL_law_2611 : decode cL_law 2611 = .ok (.iload 6, 2) := dk_21 6 (dk_at dksL_law_102 20 rfl rfl)
theorem dL_law_2613 : decode cL_law 2613 = .ok (.if_icmp .eq 5, 3) := dk_159 0 5 (dk_at dksL_law_103 0 rfl rfl)
theorem dL_law_2616 : decode cL_law 2616 = .ok (.iconst 0, 1) := dk_3 (dk_at dksL_law_103 3 rfl rfl)
theorem dL_law_2617 : decode cL_law 2617 = .ok (.ireturn, 1) := dk_172 (dk_at dksL_law_103 4 rfl rfl)
theorem dL_law_2618 : decode cL_law 2618 = .ok (.iload 6, 2) := dk_21 6 (dk_at dksL_law_103 5 rfl rfl)
theorem dL_law_2620 : decode cL_law 2620 = .ok (.ifCond .ne 15, 3) := dk_154 0 15 (dk_at dksL_law_103 7 rfl rfl)
theorem dL_law_2623 : decode cL_law 2623 = .ok (.aload_n 3, 1) := dk_45 (dk_at dksL_law_103 10 rfl rfl)
theorem dL_law_2624 : decode cL_law 2624 = .ok (.iconst 0, 1) := dk_3 (dk_at dksL_law_103 11 rfl rfl)
theorem dL_law_2625 : decode cL_law 2625 = .ok (.laload, 1) := dk_47 (dk_at dksL_law_103 12 rfl rfl)
theorem dL_law_2626 : decode cL_law 2626 = .ok (.iload 7, 2) := dk_21 7 (dk_at dksL_law_103 13 rfl rfl)
theorem dL_law_2628 : decode cL_law 2628 = .ok (.i2l, 1) := dk_133 (dk_at dksL_law_103 15 rfl rfl)
theorem dL_law_2629 : decode cL_law 2629 = .ok (.lcmp, 1) := dk_148 (dk_at dksL_law_103 16 rfl rfl)
theorem dL_law_2630 : decode cL_law 2630 = .ok (.ifCond .eq 5, 3) := dk_153 0 5 (dk_at dksL_law_103 17 rfl rfl)
theorem dL_law_2633 : decode cL_law 2633 = .ok (.iconst 0, 1) := dk_3 (dk_at dksL_law_103 20 rfl rfl)
theorem dL_law_2634 : decode cL_law 2634 = .ok (.ireturn, 1) := dk_172 (dk_at dksL_law_103 21 rfl rfl)
theorem dL_law_2635 : decode cL_law 2635 = .ok (.goto 750, 3) := dk_167 2 238 (dk_at dksL_law_104 0 rfl rfl)
theorem dL_law_2638 : decode cL_law 2638 = .ok (.aload_n 1, 1) := dk_43 (dk_at dksL_law_104 3 rfl rfl)
theorem dL_law_2639 : decode cL_law 2639 = .ok (.aload_n 0, 1) := dk_42 (dk_at dksL_law_104 4 rfl rfl)
theorem dL_law_2640 : decode cL_law 2640 = .ok (.iload 5, 2) := dk_21 5 (dk_at dksL_law_104 5 rfl rfl)
theorem dL_law_2642 : decode cL_law 2642 = .ok (.iconst 1, 1) := dk_4 (dk_at dksL_law_104 7 rfl rfl)
theorem dL_law_2643 : decode cL_law 2643 = .ok (.iadd, 1) := dk_96 (dk_at dksL_law_104 8 rfl rfl)
theorem dL_law_2644 : decode cL_law 2644 = .ok (.iaload, 1) := dk_46 (dk_at dksL_law_104 9 rfl rfl)
theorem dL_law_2645 : decode cL_law 2645 = .ok (.aload_n 3, 1) := dk_45 (dk_at dksL_law_104 10 rfl rfl)
theorem dL_law_2646 : decode cL_law 2646 = .ok (.invokestatic 310, 3) := dk_184 1 54 (dk_at dksL_law_104 11 rfl rfl)
theorem dL_law_2649 : decode cL_law 2649 = .ok (.istore 6, 2) := dk_54 6 (dk_at dksL_law_104 14 rfl rfl)
theorem dL_law_2651 : decode cL_law 2651 = .ok (.aload_n 2, 1) := dk_44 (dk_at dksL_law_104 16 rfl rfl)
theorem dL_law_2652 : decode cL_law 2652 = .ok (.aload_n 0, 1) := dk_42 (dk_at dksL_law_104 17 rfl rfl)
theorem dL_law_2653 : decode cL_law 2653 = .ok (.iload 5, 2) := dk_21 5 (dk_at dksL_law_104 18 rfl rfl)
theorem dL_law_2655 : decode cL_law 2655 = .ok (.iconst 1, 1) := dk_4 (dk_at dksL_law_104 20 rfl rfl)
theorem dL_law_2656 : decode cL_law 2656 = .ok (.iadd, 1) := dk_96 (dk_at dksL_law_104 21 rfl rfl)
theorem dL_law_2657 : decode cL_law 2657 = .ok (.iaload, 1) := dk_46 (dk_at dksL_law_104 22 rfl rfl)
theorem dL_law_2658 : decode cL_law 2658 = .ok (.invokevirtual 312, 3) := dk_182 1 56 (dk_at dksL_law_105 0 rfl rfl)
theorem dL_law_2661 : decode cL_law 2661 = .ok (.istore 7, 2) := dk_54 7 (dk_at dksL_law_105 3 rfl rfl)
theorem dL_law_2663 : decode cL_law 2663 = .ok (.aload_n 2, 1) := dk_44 (dk_at dksL_law_105 5 rfl rfl)
theorem dL_law_2664 : decode cL_law 2664 = .ok (.invokevirtual 173, 3) := dk_182 0 173 (dk_at dksL_law_105 6 rfl rfl)
theorem dL_law_2667 : decode cL_law 2667 = .ok (.iload 6, 2) := dk_21 6 (dk_at dksL_law_105 9 rfl rfl)
theorem dL_law_2669 : decode cL_law 2669 = .ok (.if_icmp .eq 5, 3) := dk_159 0 5 (dk_at dksL_law_105 11 rfl rfl)
theorem dL_law_2672 : decode cL_law 2672 = .ok (.iconst 0, 1) := dk_3 (dk_at dksL_law_105 14 rfl rfl)
theorem dL_law_2673 : decode cL_law 2673 = .ok (.ireturn, 1) := dk_172 (dk_at dksL_law_105 15 rfl rfl)
theorem dL_law_2674 : decode cL_law 2674 = .ok (.iload 6, 2) := dk_21 6 (dk_at dksL_law_105 16 rfl rfl)
theorem dL_law_2676 : decode cL_law 2676 = .ok (.ifCond .ne 15, 3) := dk_154 0 15 (dk_at dksL_law_105 18 rfl rfl)
theorem dL_law_2679 : decode cL_law 2679 = .ok (.aload_n 3, 1) := dk_45 (dk_at dksL_law_105 21 rfl rfl)
theorem dL_law_2680 : decode cL_law 2680 = .ok (.iconst 0, 1) := dk_3 (dk_at dksL_law_105 22 rfl rfl)
theorem dL_law_2681 : decode cL_law 2681 = .ok (.laload, 1) := dk_47 (dk_at dksL_law_105 23 rfl rfl)
theorem dL_law_2682 : decode cL_law 2682 = .ok (.iload 7, 2) := dk_21 7 (dk_at dksL_law_106 0 rfl rfl)
theorem dL_law_2684 : decode cL_law 2684 = .ok (.i2l, 1) := dk_133 (dk_at dksL_law_106 2 rfl rfl)
theorem dL_law_2685 : decode cL_law 2685 = .ok (.lcmp, 1) := dk_148 (dk_at dksL_law_106 3 rfl rfl)
theorem dL_law_2686 : decode cL_law 2686 = .ok (.ifCond .eq 5, 3) := dk_153 0 5 (dk_at dksL_law_106 4 rfl rfl)
theorem dL_law_2689 : decode cL_law 2689 = .ok (.iconst 0, 1) := dk_3 (dk_at dksL_law_106 7 rfl rfl)
theorem dL_law_2690 : decode cL_law 2690 = .ok (.ireturn, 1) := dk_172 (dk_at dksL_law_106 8 rfl rfl)
theorem dL_law_2691 : decode cL_law 2691 = .ok (.goto 694, 3) := dk_167 2 182 (dk_at dksL_law_106 9 rfl rfl)
theorem dL_law_2694 : decode cL_law 2694 = .ok (.aload_n 1, 1) := dk_43 (dk_at dksL_law_106 12 rfl rfl)
theorem dL_law_2695 : decode cL_law 2695 = .ok (.aload_n 0, 1) := dk_42 (dk_at dksL_law_106 13 rfl rfl)
theorem dL_law_2696 : decode cL_law 2696 = .ok (.iload 5, 2) := dk_21 5 (dk_at dksL_law_106 14 rfl rfl)
theorem dL_law_2698 : decode cL_law 2698 = .ok (.iconst 1, 1) := dk_4 (dk_at dksL_law_106 16 rfl rfl)
theorem dL_law_2699 : decode cL_law 2699 = .ok (.iadd, 1) := dk_96 (dk_at dksL_law_106 17 rfl rfl)
theorem dL_law_2700 : decode cL_law 2700 = .ok (.iaload, 1) := dk_46 (dk_at dksL_law_106 18 rfl rfl)
theorem dL_law_2701 : decode cL_law 2701 = .ok (.aload_n 3, 1) := dk_45 (dk_at dksL_law_106 19 rfl rfl)
theorem dL_law_2702 : decode cL_law 2702 = .ok (.invokestatic 313, 3) := dk_184 1 57 (dk_at dksL_law_106 20 rfl rfl)
theorem dL_law_2705 : decode cL_law 2705 = .ok (.istore 6, 2) := dk_54 6 (dk_at dksL_law_107 0 rfl rfl)
theorem dL_law_2707 : decode cL_law 2707 = .ok (.aload_n 2, 1) := dk_44 (dk_at dksL_law_107 2 rfl rfl)
theorem dL_law_2708 : decode cL_law 2708 = .ok (.aload_n 0, 1) := dk_42 (dk_at dksL_law_107 3 rfl rfl)
theorem dL_law_2709 : decode cL_law 2709 = .ok (.iload 5, 2) := dk_21 5 (dk_at dksL_law_107 4 rfl rfl)
theorem dL_law_2711 : decode cL_law 2711 = .ok (.iconst 1, 1) := dk_4 (dk_at dksL_law_107 6 rfl rfl)
theorem dL_law_2712 : decode cL_law 2712 = .ok (.iadd, 1) := dk_96 (dk_at dksL_law_107 7 rfl rfl)
theorem dL_law_2713 : decode cL_law 2713 = .ok (.iaload, 1) := dk_46 (dk_at dksL_law_107 8 rfl rfl)
theorem dL_law_2714 : decode cL_law 2714 = .ok (.invokevirtual 315, 3) := dk_182 1 59 (dk_at dksL_law_107 9 rfl rfl)
theorem dL_law_2717 : decode cL_law 2717 = .ok (.istore 7, 2) := dk_54 7 (dk_at dksL_law_107 12 rfl rfl)
theorem dL_law_2719 : decode cL_law 2719 = .ok (.aload_n 2, 1) := dk_44 (dk_at dksL_law_107 14 rfl rfl)
theorem dL_law_2720 : decode cL_law 2720 = .ok (.invokevirtual 173, 3) := dk_182 0 173 (dk_at dksL_law_107 15 rfl rfl)
theorem dL_law_2723 : decode cL_law 2723 = .ok (.iload 6, 2) := dk_21 6 (dk_at dksL_law_107 18 rfl rfl)
theorem dL_law_2725 : decode cL_law 2725 = .ok (.if_icmp .eq 5, 3) := dk_159 0 5 (dk_at dksL_law_107 20 rfl rfl)
theorem dL_law_2728 : decode cL_law 2728 = .ok (.iconst 0, 1) := dk_3 (dk_at dksL_law_107 23 rfl rfl)
theorem dL_law_2729 : decode cL_law 2729 = .ok (.ireturn, 1) := dk_172 (dk_at dksL_law_108 0 rfl rfl)
theorem dL_law_2730 : decode cL_law 2730 = .ok (.iload 6, 2) := dk_21 6 (dk_at dksL_law_108 1 rfl rfl)
theorem dL_law_2732 : decode cL_law 2732 = .ok (.ifCond .ne 15, 3) := dk_154 0 15 (dk_at dksL_law_108 3 rfl rfl)
theorem dL_law_2735 : decode cL_law 2735 = .ok (.aload_n 3, 1) := dk_45 (dk_at dksL_law_108 6 rfl rfl)
theorem dL_law_2736 : decode cL_law 2736 = .ok (.iconst 0, 1) := dk_3 (dk_at dksL_law_108 7 rfl rfl)
theorem dL_law_2737 : decode cL_law 2737 = .ok (.laload, 1) := dk_47 (dk_at dksL_law_108 8 rfl rfl)
theorem dL_law_2738 : decode cL_law 2738 = .ok (.iload 7, 2) := dk_21 7 (dk_at dksL_law_108 9 rfl rfl)
theorem dL_law_2740 : decode cL_law 2740 = .ok (.i2l, 1) := dk_133 (dk_at dksL_law_108 11 rfl rfl)
theorem dL_law_2741 : decode cL_law 2741 = .ok (.lcmp, 1) := dk_148 (dk_at dksL_law_108 12 rfl rfl)
theorem dL_law_2742 : decode cL_law 2742 = .ok (.ifCond .eq 5, 3) := dk_153 0 5 (dk_at dksL_law_108 13 rfl rfl)
theorem dL_law_2745 : decode cL_law 2745 = .ok (.iconst 0, 1) := dk_3 (dk_at dksL_law_108 16 rfl rfl)
theorem dL_law_2746 : decode cL_law 2746 = .ok (.ireturn, 1) := dk_172 (dk_at dksL_law_108 17 rfl rfl)
theorem dL_law_2747 : decode cL_law 2747 = .ok (.goto 638, 3) := dk_167 2 126 (dk_at dksL_law_108 18 rfl rfl)
theorem dL_law_2750 : decode cL_law 2750 = .ok (.aload_n 1, 1) := dk_43 (dk_at dksL_law_108 21 rfl rfl)
theorem dL_law_2751 : decode cL_law 2751 = .ok (.aload_n 0, 1) := dk_42 (dk_at dksL_law_108 22 rfl rfl)
theorem dL_law_2752 : decode cL_law 2752 = .ok (.iload 5, 2) := dk_21 5 (dk_at dksL_law_109 0 rfl rfl)
theorem dL_law_2754 : decode cL_law 2754 = .ok (.iconst 1, 1) := dk_4 (dk_at dksL_law_109 2 rfl rfl)
theorem dL_law_2755 : decode cL_law 2755 = .ok (.iadd, 1) := dk_96 (dk_at dksL_law_109 3 rfl rfl)
theorem dL_law_2756 : decode cL_law 2756 = .ok (.iaload, 1) := dk_46 (dk_at dksL_law_109 4 rfl rfl)
theorem dL_law_2757 : decode cL_law 2757 = .ok (.aload_n 3, 1) := dk_45 (dk_at dksL_law_109 5 rfl rfl)
theorem dL_law_2758 : decode cL_law 2758 = .ok (.invokestatic 316, 3) := dk_184 1 60 (dk_at dksL_law_109 6 rfl rfl)
theorem dL_law_2761 : decode cL_law 2761 = .ok (.istore 6, 2) := dk_54 6 (dk_at dksL_law_109 9 rfl rfl)
theorem dL_law_2763 : decode cL_law 2763 = .ok (.aload_n 2, 1) := dk_44 (dk_at dksL_law_109 11 rfl rfl)
theorem dL_law_2764 : decode cL_law 2764 = .ok (.aload_n 0, 1) := dk_42 (dk_at dksL_law_109 12 rfl rfl)
theorem dL_law_2765 : decode cL_law 2765 = .ok (.iload 5, 2) := dk_21 5 (dk_at dksL_law_109 13 rfl rfl)
theorem dL_law_2767 : decode cL_law 2767 = .ok (.iconst 1, 1) := dk_4 (dk_at dksL_law_109 15 rfl rfl)
theorem dL_law_2768 : decode cL_law 2768 = .ok (.iadd, 1) := dk_96 (dk_at dksL_law_109 16 rfl rfl)
theorem dL_law_2769 : decode cL_law 2769 = .ok (.iaload, 1) := dk_46 (dk_at dksL_law_109 17 rfl rfl)
theorem dL_law_2770 : decode cL_law 2770 = .ok (.invokevirtual 318, 3) := dk_182 1 62 (dk_at dksL_law_109 18 rfl rfl)
theorem dL_law_2773 : decode cL_law 2773 = .ok (.istore 7, 2) := dk_54 7 (dk_at dksL_law_109 21 rfl rfl)
theorem dL_law_2775 : decode cL_law 2775 = .ok (.aload_n 2, 1) := dk_44 (dk_at dksL_law_109 23 rfl rfl)
theorem dL_law_2776 : decode cL_law 2776 = .ok (.invokevirtual 173, 3) := dk_182 0 173 (dk_at dksL_law_110 0 rfl rfl)
theorem dL_law_2779 : decode cL_law 2779 = .ok (.iload 6, 2) := dk_21 6 (dk_at dksL_law_110 3 rfl rfl)
theorem dL_law_2781 : decode cL_law 2781 = .ok (.if_icmp .eq 5, 3) := dk_159 0 5 (dk_at dksL_law_110 5 rfl rfl)
theorem dL_law_2784 : decode cL_law 2784 = .ok (.iconst 0, 1) := dk_3 (dk_at dksL_law_110 8 rfl rfl)
theorem dL_law_2785 : decode cL_law 2785 = .ok (.ireturn, 1) := dk_172 (dk_at dksL_law_110 9 rfl rfl)
theorem dL_law_2786 : decode cL_law 2786 = .ok (.iload 6, 2) := dk_21 6 (dk_at dksL_law_110 10 rfl rfl)
theorem dL_law_2788 : decode cL_law 2788 = .ok (.ifCond .ne 15, 3) := dk_154 0 15 (dk_at dksL_law_110 12 rfl rfl)
theorem dL_law_2791 : decode cL_law 2791 = .ok (.aload_n 3, 1) := dk_45 (dk_at dksL_law_110 15 rfl rfl)
theorem dL_law_2792 : decode cL_law 2792 = .ok (.iconst 0, 1) := dk_3 (dk_at dksL_law_110 16 rfl rfl)
theorem dL_law_2793 : decode cL_law 2793 = .ok (.laload, 1) := dk_47 (dk_at dksL_law_110 17 rfl rfl)
theorem dL_law_2794 : decode cL_law 2794 = .ok (.iload 7, 2) := dk_21 7 (dk_at dksL_law_110 18 rfl rfl)
theorem dL_law_2796 : decode cL_law 2796 = .ok (.i2l, 1) := dk_133 (dk_at dksL_law_110 20 rfl rfl)
theorem dL_law_2797 : decode cL_law 2797 = .ok (.lcmp, 1) := dk_148 (dk_at dksL_law_110 21 rfl rfl)
theorem dL_law_2798 : decode cL_law 2798 = .ok (.ifCond .eq 5, 3) := dk_153 0 5 (dk_at dksL_law_111 0 rfl rfl)
theorem dL_law_2801 : decode cL_law 2801 = .ok (.iconst 0, 1) := dk_3 (dk_at dksL_law_111 3 rfl rfl)
theorem dL_law_2802 : decode cL_law 2802 = .ok (.ireturn, 1) := dk_172 (dk_at dksL_law_111 4 rfl rfl)
theorem dL_law_2803 : decode cL_law 2803 = .ok (.goto 582, 3) := dk_167 2 70 (dk_at dksL_law_111 5 rfl rfl)
theorem dL_law_2806 : decode cL_law 2806 = .ok (.aload_n 1, 1) := dk_43 (dk_at dksL_law_111 8 rfl rfl)
theorem dL_law_2807 : decode cL_law 2807 = .ok (.aload_n 0, 1) := dk_42 (dk_at dksL_law_111 9 rfl rfl)
theorem dL_law_2808 : decode cL_law 2808 = .ok (.iload 5, 2) := dk_21 5 (dk_at dksL_law_111 10 rfl rfl)
theorem dL_law_2810 : decode cL_law 2810 = .ok (.iconst 1, 1) := dk_4 (dk_at dksL_law_111 12 rfl rfl)
theorem dL_law_2811 : decode cL_law 2811 = .ok (.iadd, 1) := dk_96 (dk_at dksL_law_111 13 rfl rfl)
theorem dL_law_2812 : decode cL_law 2812 = .ok (.iaload, 1) := dk_46 (dk_at dksL_law_111 14 rfl rfl)
theorem dL_law_2813 : decode cL_law 2813 = .ok (.aload_n 0, 1) := dk_42 (dk_at dksL_law_111 15 rfl rfl)
theorem dL_law_2814 : decode cL_law 2814 = .ok (.iload 5, 2) := dk_21 5 (dk_at dksL_law_111 16 rfl rfl)
theorem dL_law_2816 : decode cL_law 2816 = .ok (.iconst 2, 1) := dk_5 (dk_at dksL_law_111 18 rfl rfl)
theorem dL_law_2817 : decode cL_law 2817 = .ok (.iadd, 1) := dk_96 (dk_at dksL_law_111 19 rfl rfl)
theorem dL_law_2818 : decode cL_law 2818 = .ok (.iaload, 1) := dk_46 (dk_at dksL_law_111 20 rfl rfl)
theorem dL_law_2819 : decode cL_law 2819 = .ok (.aload_n 0, 1) := dk_42 (dk_at dksL_law_111 21 rfl rfl)
theorem dL_law_2820 : decode cL_law 2820 = .ok (.iload 5, 2) := dk_21 5 (dk_at dksL_law_111 22 rfl rfl)
theorem dL_law_2822 : decode cL_law 2822 = .ok (.iconst 3, 1) := dk_6 (dk_at dksL_law_112 0 rfl rfl)
theorem dL_law_2823 : decode cL_law 2823 = .ok (.iadd, 1) := dk_96 (dk_at dksL_law_112 1 rfl rfl)
theorem dL_law_2824 : decode cL_law 2824 = .ok (.iaload, 1) := dk_46 (dk_at dksL_law_112 2 rfl rfl)
theorem dL_law_2825 : decode cL_law 2825 = .ok (.aload_n 0, 1) := dk_42 (dk_at dksL_law_112 3 rfl rfl)
theorem dL_law_2826 : decode cL_law 2826 = .ok (.iload 5, 2) := dk_21 5 (dk_at dksL_law_112 4 rfl rfl)
theorem dL_law_2828 : decode cL_law 2828 = .ok (.iconst 4, 1) := dk_7 (dk_at dksL_law_112 6 rfl rfl)
theorem dL_law_2829 : decode cL_law 2829 = .ok (.iadd, 1) := dk_96 (dk_at dksL_law_112 7 rfl rfl)
theorem dL_law_2830 : decode cL_law 2830 = .ok (.iaload, 1) := dk_46 (dk_at dksL_law_112 8 rfl rfl)
theorem dL_law_2831 : decode cL_law 2831 = .ok (.aload_n 0, 1) := dk_42 (dk_at dksL_law_112 9 rfl rfl)
theorem dL_law_2832 : decode cL_law 2832 = .ok (.iload 5, 2) := dk_21 5 (dk_at dksL_law_112 10 rfl rfl)
theorem dL_law_2834 : decode cL_law 2834 = .ok (.iconst 5, 1) := dk_8 (dk_at dksL_law_112 12 rfl rfl)
theorem dL_law_2835 : decode cL_law 2835 = .ok (.iadd, 1) := dk_96 (dk_at dksL_law_112 13 rfl rfl)
theorem dL_law_2836 : decode cL_law 2836 = .ok (.iaload, 1) := dk_46 (dk_at dksL_law_112 14 rfl rfl)
theorem dL_law_2837 : decode cL_law 2837 = .ok (.aload_n 0, 1) := dk_42 (dk_at dksL_law_112 15 rfl rfl)
theorem dL_law_2838 : decode cL_law 2838 = .ok (.iload 5, 2) := dk_21 5 (dk_at dksL_law_112 16 rfl rfl)
theorem dL_law_2840 : decode cL_law 2840 = .ok (.bipush 6, 2) := dk_16 6 (dk_at dksL_law_112 18 rfl rfl)
theorem dL_law_2842 : decode cL_law 2842 = .ok (.iadd, 1) := dk_96 (dk_at dksL_law_112 20 rfl rfl)
theorem dL_law_2843 : decode cL_law 2843 = .ok (.iaload, 1) := dk_46 (dk_at dksL_law_112 21 rfl rfl)
theorem dL_law_2844 : decode cL_law 2844 = .ok (.aload_n 3, 1) := dk_45 (dk_at dksL_law_112 22 rfl rfl)
theorem dL_law_2845 : decode cL_law 2845 = .ok (.invokestatic 319, 3) := dk_184 1 63 (dk_at dksL_law_113 0 rfl rfl)
theorem dL_law_2848 : decode cL_law 2848 = .ok (.istore 6, 2) := dk_54 6 (dk_at dksL_law_113 3 rfl rfl)
theorem dL_law_2850 : decode cL_law 2850 = .ok (.aload_n 2, 1) := dk_44 (dk_at dksL_law_113 5 rfl rfl)
theorem dL_law_2851 : decode cL_law 2851 = .ok (.aload_n 0, 1) := dk_42 (dk_at dksL_law_113 6 rfl rfl)
theorem dL_law_2852 : decode cL_law 2852 = .ok (.iload 5, 2) := dk_21 5 (dk_at dksL_law_113 7 rfl rfl)
theorem dL_law_2854 : decode cL_law 2854 = .ok (.iconst 1, 1) := dk_4 (dk_at dksL_law_113 9 rfl rfl)
theorem dL_law_2855 : decode cL_law 2855 = .ok (.iadd, 1) := dk_96 (dk_at dksL_law_113 10 rfl rfl)
theorem dL_law_2856 : decode cL_law 2856 = .ok (.iaload, 1) := dk_46 (dk_at dksL_law_113 11 rfl rfl)
theorem dL_law_2857 : decode cL_law 2857 = .ok (.aload_n 0, 1) := dk_42 (dk_at dksL_law_113 12 rfl rfl)
theorem dL_law_2858 : decode cL_law 2858 = .ok (.iload 5, 2) := dk_21 5 (dk_at dksL_law_113 13 rfl rfl)
theorem dL_law_2860 : decode cL_law 2860 = .ok (.iconst 2, 1) := dk_5 (dk_at dksL_law_113 15 rfl rfl)
theorem dL_law_2861 : decode cL_law 2861 = .ok (.iadd, 1) := dk_96 (dk_at dksL_law_113 16 rfl rfl)
theorem dL_law_2862 : decode cL_law 2862 = .ok (.iaload, 1) := dk_46 (dk_at dksL_law_113 17 rfl rfl)
theorem dL_law_2863 : decode cL_law 2863 = .ok (.aload_n 0, 1) := dk_42 (dk_at dksL_law_113 18 rfl rfl)
theorem dL_law_2864 : decode cL_law 2864 = .ok (.iload 5, 2) := dk_21 5 (dk_at dksL_law_113 19 rfl rfl)
theorem dL_law_2866 : decode cL_law 2866 = .ok (.iconst 3, 1) := dk_6 (dk_at dksL_law_113 21 rfl rfl)
theorem dL_law_2867 : decode cL_law 2867 = .ok (.iadd, 1) := dk_96 (dk_at dksL_law_113 22 rfl rfl)
theorem dL_law_2868 : decode cL_law 2868 = .ok (.iaload, 1) := dk_46 (dk_at dksL_law_113 23 rfl rfl)
theorem dL_law_2869 : decode cL_law 2869 = .ok (.aload_n 0, 1) := dk_42 (dk_at dksL_law_114 0 rfl rfl)
theorem dL_law_2870 : decode cL_law 2870 = .ok (.iload 5, 2) := dk_21 5 (dk_at dksL_law_114 1 rfl rfl)
theorem dL_law_2872 : decode cL_law 2872 = .ok (.iconst 4, 1) := dk_7 (dk_at dksL_law_114 3 rfl rfl)
theorem dL_law_2873 : decode cL_law 2873 = .ok (.iadd, 1) := dk_96 (dk_at dksL_law_114 4 rfl rfl)
theorem dL_law_2874 : decode cL_law 2874 = .ok (.iaload, 1) := dk_46 (dk_at dksL_law_114 5 rfl rfl)
theorem dL_law_2875 : decode cL_law 2875 = .ok (.aload_n 0, 1) := dk_42 (dk_at dksL_law_114 6 rfl rfl)
theorem dL_law_2876 : decode cL_law 2876 = .ok (.iload 5, 2) := dk_21 5 (dk_at dksL_law_114 7 rfl rfl)
theorem dL_law_2878 : decode cL_law 2878 = .ok (.iconst 5, 1) := dk_8 (dk_at dksL_law_114 9 rfl rfl)
theorem dL_law_2879 : decode cL_law 2879 = .ok (.iadd, 1) := dk_96 (dk_at dksL_law_114 10 rfl rfl)
theorem dL_law_2880 : decode cL_law 2880 = .ok (.iaload, 1) := dk_46 (dk_at dksL_law_114 11 rfl rfl)
theorem dL_law_2881 : decode cL_law 2881 = .ok (.aload_n 0, 1) := dk_42 (dk_at dksL_law_114 12 rfl rfl)
theorem dL_law_2882 : decode cL_law 2882 = .ok (.iload 5, 2) := dk_21 5 (dk_at dksL_law_114 13 rfl rfl)
theorem dL_law_2884 : decode cL_law 2884 = .ok (.bipush 6, 2) := dk_16 6 (dk_at dksL_law_114 15 rfl rfl)
theorem dL_law_2886 : decode cL_law 2886 = .ok (.iadd, 1) := dk_96 (dk_at dksL_law_114 17 rfl rfl)
theorem dL_law_2887 : decode cL_law 2887 = .ok (.iaload, 1) := dk_46 (dk_at dksL_law_114 18 rfl rfl)
theorem dL_law_2888 : decode cL_law 2888 = .ok (.invokevirtual 321, 3) := dk_182 1 65 (dk_at dksL_law_114 19 rfl rfl)
theorem dL_law_2891 : decode cL_law 2891 = .ok (.istore 7, 2) := dk_54 7 (dk_at dksL_law_114 22 rfl rfl)
theorem dL_law_2893 : decode cL_law 2893 = .ok (.aload_n 2, 1) := dk_44 (dk_at dksL_law_115 0 rfl rfl)
theorem dL_law_2894 : decode cL_law 2894 = .ok (.invokevirtual 173, 3) := dk_182 0 173 (dk_at dksL_law_115 1 rfl rfl)
theorem dL_law_2897 : decode cL_law 2897 = .ok (.iload 6, 2) := dk_21 6 (dk_at dksL_law_115 4 rfl rfl)
theorem dL_law_2899 : decode cL_law 2899 = .ok (.if_icmp .eq 5, 3) := dk_159 0 5 (dk_at dksL_law_115 6 rfl rfl)
theorem dL_law_2902 : decode cL_law 2902 = .ok (.iconst 0, 1) := dk_3 (dk_at dksL_law_115 9 rfl rfl)
theorem dL_law_2903 : decode cL_law 2903 = .ok (.ireturn, 1) := dk_172 (dk_at dksL_law_115 10 rfl rfl)
theorem dL_law_2904 : decode cL_law 2904 = .ok (.iload 6, 2) := dk_21 6 (dk_at dksL_law_115 11 rfl rfl)
theorem dL_law_2906 : decode cL_law 2906 = .ok (.ifCond .ne 15, 3) := dk_154 0 15 (dk_at dksL_law_115 13 rfl rfl)
theorem dL_law_2909 : decode cL_law 2909 = .ok (.aload_n 3, 1) := dk_45 (dk_at dksL_law_115 16 rfl rfl)
theorem dL_law_2910 : decode cL_law 2910 = .ok (.iconst 0, 1) := dk_3 (dk_at dksL_law_115 17 rfl rfl)
theorem dL_law_2911 : decode cL_law 2911 = .ok (.laload, 1) := dk_47 (dk_at dksL_law_115 18 rfl rfl)
theorem dL_law_2912 : decode cL_law 2912 = .ok (.iload 7, 2) := dk_21 7 (dk_at dksL_law_115 19 rfl rfl)
theorem dL_law_2914 : decode cL_law 2914 = .ok (.i2l, 1) := dk_133 (dk_at dksL_law_115 21 rfl rfl)
theorem dL_law_2915 : decode cL_law 2915 = .ok (.lcmp, 1) := dk_148 (dk_at dksL_law_115 22 rfl rfl)
theorem dL_law_2916 : decode cL_law 2916 = .ok (.ifCond .eq 5, 3) := dk_153 0 5 (dk_at dksL_law_116 0 rfl rfl)
theorem dL_law_2919 : decode cL_law 2919 = .ok (.iconst 0, 1) := dk_3 (dk_at dksL_law_116 3 rfl rfl)
theorem dL_law_2920 : decode cL_law 2920 = .ok (.ireturn, 1) := dk_172 (dk_at dksL_law_116 4 rfl rfl)
theorem dL_law_2921 : decode cL_law 2921 = .ok (.goto 464, 3) := dk_167 1 208 (dk_at dksL_law_116 5 rfl rfl)
theorem dL_law_2924 : decode cL_law 2924 = .ok (.aload_n 1, 1) := dk_43 (dk_at dksL_law_116 8 rfl rfl)
theorem dL_law_2925 : decode cL_law 2925 = .ok (.aload_n 0, 1) := dk_42 (dk_at dksL_law_116 9 rfl rfl)
theorem dL_law_2926 : decode cL_law 2926 = .ok (.iload 5, 2) := dk_21 5 (dk_at dksL_law_116 10 rfl rfl)
theorem dL_law_2928 : decode cL_law 2928 = .ok (.iconst 1, 1) := dk_4 (dk_at dksL_law_116 12 rfl rfl)
theorem dL_law_2929 : decode cL_law 2929 = .ok (.iadd, 1) := dk_96 (dk_at dksL_law_116 13 rfl rfl)
theorem dL_law_2930 : decode cL_law 2930 = .ok (.iaload, 1) := dk_46 (dk_at dksL_law_116 14 rfl rfl)
theorem dL_law_2931 : decode cL_law 2931 = .ok (.aload_n 3, 1) := dk_45 (dk_at dksL_law_116 15 rfl rfl)
theorem dL_law_2932 : decode cL_law 2932 = .ok (.invokestatic 322, 3) := dk_184 1 66 (dk_at dksL_law_116 16 rfl rfl)
theorem dL_law_2935 : decode cL_law 2935 = .ok (.istore 6, 2) := dk_54 6 (dk_at dksL_law_116 19 rfl rfl)
theorem dL_law_2937 : decode cL_law 2937 = .ok (.aload_n 2, 1) := dk_44 (dk_at dksL_law_116 21 rfl rfl)
theorem dL_law_2938 : decode cL_law 2938 = .ok (.aload_n 0, 1) := dk_42 (dk_at dksL_law_116 22 rfl rfl)
theorem dL_law_2939 : decode cL_law 2939 = .ok (.iload 5, 2) := dk_21 5 (dk_at dksL_law_117 0 rfl rfl)
theorem dL_law_2941 : decode cL_law 2941 = .ok (.iconst 1, 1) := dk_4 (dk_at dksL_law_117 2 rfl rfl)
theorem dL_law_2942 : decode cL_law 2942 = .ok (.iadd, 1) := dk_96 (dk_at dksL_law_117 3 rfl rfl)
theorem dL_law_2943 : decode cL_law 2943 = .ok (.iaload, 1) := dk_46 (dk_at dksL_law_117 4 rfl rfl)
theorem dL_law_2944 : decode cL_law 2944 = .ok (.invokevirtual 324, 3) := dk_182 1 68 (dk_at dksL_law_117 5 rfl rfl)
theorem dL_law_2947 : decode cL_law 2947 = .ok (.istore 7, 2) := dk_54 7 (dk_at dksL_law_117 8 rfl rfl)
theorem dL_law_2949 : decode cL_law 2949 = .ok (.aload_n 2, 1) := dk_44 (dk_at dksL_law_117 10 rfl rfl)
theorem dL_law_2950 : decode cL_law 2950 = .ok (.invokevirtual 173, 3) := dk_182 0 173 (dk_at dksL_law_117 11 rfl rfl)
theorem dL_law_2953 : decode cL_law 2953 = .ok (.iload 6, 2) := dk_21 6 (dk_at dksL_law_117 14 rfl rfl)
theorem dL_law_2955 : decode cL_law 2955 = .ok (.if_icmp .eq 5, 3) := dk_159 0 5 (dk_at dksL_law_117 16 rfl rfl)
theorem dL_law_2958 : decode cL_law 2958 = .ok (.iconst 0, 1) := dk_3 (dk_at dksL_law_117 19 rfl rfl)
theorem dL_law_2959 : decode cL_law 2959 = .ok (.ireturn, 1) := dk_172 (dk_at dksL_law_117 20 rfl rfl)
theorem dL_law_2960 : decode cL_law 2960 = .ok (.iload 6, 2) := dk_21 6 (dk_at dksL_law_117 21 rfl rfl)
theorem dL_law_2962 : decode cL_law 2962 = .ok (.ifCond .ne 15, 3) := dk_154 0 15 (dk_at dksL_law_118 0 rfl rfl)
theorem dL_law_2965 : decode cL_law 2965 = .ok (.aload_n 3, 1) := dk_45 (dk_at dksL_law_118 3 rfl rfl)
theorem dL_law_2966 : decode cL_law 2966 = .ok (.iconst 0, 1) := dk_3 (dk_at dksL_law_118 4 rfl rfl)
theorem dL_law_2967 : decode cL_law 2967 = .ok (.laload, 1) := dk_47 (dk_at dksL_law_118 5 rfl rfl)
theorem dL_law_2968 : decode cL_law 2968 = .ok (.iload 7, 2) := dk_21 7 (dk_at dksL_law_118 6 rfl rfl)
theorem dL_law_2970 : decode cL_law 2970 = .ok (.i2l, 1) := dk_133 (dk_at dksL_law_118 8 rfl rfl)
theorem dL_law_2971 : decode cL_law 2971 = .ok (.lcmp, 1) := dk_148 (dk_at dksL_law_118 9 rfl rfl)
theorem dL_law_2972 : decode cL_law 2972 = .ok (.ifCond .eq 5, 3) := dk_153 0 5 (dk_at dksL_law_118 10 rfl rfl)
theorem dL_law_2975 : decode cL_law 2975 = .ok (.iconst 0, 1) := dk_3 (dk_at dksL_law_118 13 rfl rfl)
theorem dL_law_2976 : decode cL_law 2976 = .ok (.ireturn, 1) := dk_172 (dk_at dksL_law_118 14 rfl rfl)
theorem dL_law_2977 : decode cL_law 2977 = .ok (.goto 408, 3) := dk_167 1 152 (dk_at dksL_law_118 15 rfl rfl)
theorem dL_law_2980 : decode cL_law 2980 = .ok (.aload_n 1, 1) := dk_43 (dk_at dksL_law_118 18 rfl rfl)
theorem dL_law_2981 : decode cL_law 2981 = .ok (.aload_n 0, 1) := dk_42 (dk_at dksL_law_118 19 rfl rfl)
theorem dL_law_2982 : decode cL_law 2982 = .ok (.iload 5, 2) := dk_21 5 (dk_at dksL_law_118 20 rfl rfl)
theorem dL_law_2984 : decode cL_law 2984 = .ok (.iconst 1, 1) := dk_4 (dk_at dksL_law_118 22 rfl rfl)
theorem dL_law_2985 : decode cL_law 2985 = .ok (.iadd, 1) := dk_96 (dk_at dksL_law_118 23 rfl rfl)
theorem dL_law_2986 : decode cL_law 2986 = .ok (.iaload, 1) := dk_46 (dk_at dksL_law_119 0 rfl rfl)
theorem dL_law_2987 : decode cL_law 2987 = .ok (.aload_n 0, 1) := dk_42 (dk_at dksL_law_119 1 rfl rfl)
theorem dL_law_2988 : decode cL_law 2988 = .ok (.iload 5, 2) := dk_21 5 (dk_at dksL_law_119 2 rfl rfl)
theorem dL_law_2990 : decode cL_law 2990 = .ok (.iconst 2, 1) := dk_5 (dk_at dksL_law_119 4 rfl rfl)
theorem dL_law_2991 : decode cL_law 2991 = .ok (.iadd, 1) := dk_96 (dk_at dksL_law_119 5 rfl rfl)
theorem dL_law_2992 : decode cL_law 2992 = .ok (.iaload, 1) := dk_46 (dk_at dksL_law_119 6 rfl rfl)
theorem dL_law_2993 : decode cL_law 2993 = .ok (.aload_n 3, 1) := dk_45 (dk_at dksL_law_119 7 rfl rfl)
theorem dL_law_2994 : decode cL_law 2994 = .ok (.invokestatic 325, 3) := dk_184 1 69 (dk_at dksL_law_119 8 rfl rfl)
theorem dL_law_2997 : decode cL_law 2997 = .ok (.istore 6, 2) := dk_54 6 (dk_at dksL_law_119 11 rfl rfl)
theorem dL_law_2999 : decode cL_law 2999 = .ok (.aload_n 2, 1) := dk_44 (dk_at dksL_law_119 13 rfl rfl)
theorem dL_law_3000 : decode cL_law 3000 = .ok (.aload_n 0, 1) := dk_42 (dk_at dksL_law_119 14 rfl rfl)
theorem dL_law_3001 : decode cL_law 3001 = .ok (.iload 5, 2) := dk_21 5 (dk_at dksL_law_119 15 rfl rfl)
theorem dL_law_3003 : decode cL_law 3003 = .ok (.iconst 1, 1) := dk_4 (dk_at dksL_law_119 17 rfl rfl)
theorem dL_law_3004 : decode cL_law 3004 = .ok (.iadd, 1) := dk_96 (dk_at dksL_law_119 18 rfl rfl)
theorem dL_law_3005 : decode cL_law 3005 = .ok (.iaload, 1) := dk_46 (dk_at dksL_law_119 19 rfl rfl)
theorem dL_law_3006 : decode cL_law 3006 = .ok (.aload_n 0, 1) := dk_42 (dk_at dksL_law_119 20 rfl rfl)
theorem dL_law_3007 : decode cL_law 3007 = .ok (.iload 5, 2) := dk_21 5 (dk_at dksL_law_119 21 rfl rfl)
theorem dL_law_3009 : decode cL_law 3009 = .ok (.iconst 2, 1) := dk_5 (dk_at dksL_law_119 23 rfl rfl)
theorem dL_law_3010 : decode cL_law 3010 = .ok (.iadd, 1) := dk_96 (dk_at dksL_law_120 0 rfl rfl)
theorem dL_law_3011 : decode cL_law 3011 = .ok (.iaload, 1) := dk_46 (dk_at dksL_law_120 1 rfl rfl)
theorem dL_law_3012 : decode cL_law 3012 = .ok (.invokevirtual 327, 3) := dk_182 1 71 (dk_at dksL_law_120 2 rfl rfl)
theorem dL_law_3015 : decode cL_law 3015 = .ok (.istore 7, 2) := dk_54 7 (dk_at dksL_law_120 5 rfl rfl)
theorem dL_law_3017 : decode cL_law 3017 = .ok (.aload_n 2, 1) := dk_44 (dk_at dksL_law_120 7 rfl rfl)
theorem dL_law_3018 : decode cL_law 3018 = .ok (.invokevirtual 173, 3) := dk_182 0 173 (dk_at dksL_law_120 8 rfl rfl)
theorem dL_law_3021 : decode cL_law 3021 = .ok (.iload 6, 2) := dk_21 6 (dk_at dksL_law_120 11 rfl rfl)
theorem dL_law_3023 : decode cL_law 3023 = .ok (.if_icmp .eq 5, 3) := dk_159 0 5 (dk_at dksL_law_120 13 rfl rfl)
theorem dL_law_3026 : decode cL_law 3026 = .ok (.iconst 0, 1) := dk_3 (dk_at dksL_law_120 16 rfl rfl)
theorem dL_law_3027 : decode cL_law 3027 = .ok (.ireturn, 1) := dk_172 (dk_at dksL_law_120 17 rfl rfl)
theorem dL_law_3028 : decode cL_law 3028 = .ok (.iload 6, 2) := dk_21 6 (dk_at dksL_law_120 18 rfl rfl)
theorem dL_law_3030 : decode cL_law 3030 = .ok (.ifCond .ne 15, 3) := dk_154 0 15 (dk_at dksL_law_120 20 rfl rfl)
theorem dL_law_3033 : decode cL_law 3033 = .ok (.aload_n 3, 1) := dk_45 (dk_at dksL_law_120 23 rfl rfl)
theorem dL_law_3034 : decode cL_law 3034 = .ok (.iconst 0, 1) := dk_3 (dk_at dksL_law_121 0 rfl rfl)
theorem dL_law_3035 : decode cL_law 3035 = .ok (.laload, 1) := dk_47 (dk_at dksL_law_121 1 rfl rfl)
theorem dL_law_3036 : decode cL_law 3036 = .ok (.iload 7, 2) := dk_21 7 (dk_at dksL_law_121 2 rfl rfl)
theorem dL_law_3038 : decode cL_law 3038 = .ok (.i2l, 1) := dk_133 (dk_at dksL_law_121 4 rfl rfl)
theorem dL_law_3039 : decode cL_law 3039 = .ok (.lcmp, 1) := dk_148 (dk_at dksL_law_121 5 rfl rfl)
theorem dL_law_3040 : decode cL_law 3040 = .ok (.ifCond .eq 5, 3) := dk_153 0 5 (dk_at dksL_law_121 6 rfl rfl)
theorem dL_law_3043 : decode cL_law 3043 = .ok (.iconst 0, 1) := dk_3 (dk_at dksL_law_121 9 rfl rfl)
theorem dL_law_3044 : decode cL_law 3044 = .ok (.ireturn, 1) := dk_172 (dk_at dksL_law_121 10 rfl rfl)
theorem dL_law_3045 : decode cL_law 3045 = .ok (.goto 340, 3) := dk_167 1 84 (dk_at dksL_law_121 11 rfl rfl)
theorem dL_law_3048 : decode cL_law 3048 = .ok (.aload_n 1, 1) := dk_43 (dk_at dksL_law_121 14 rfl rfl)
theorem dL_law_3049 : decode cL_law 3049 = .ok (.aload_n 0, 1) := dk_42 (dk_at dksL_law_121 15 rfl rfl)
theorem dL_law_3050 : decode cL_law 3050 = .ok (.iload 5, 2) := dk_21 5 (dk_at dksL_law_121 16 rfl rfl)
theorem dL_law_3052 : decode cL_law 3052 = .ok (.iconst 1, 1) := dk_4 (dk_at dksL_law_121 18 rfl rfl)
theorem dL_law_3053 : decode cL_law 3053 = .ok (.iadd, 1) := dk_96 (dk_at dksL_law_121 19 rfl rfl)
theorem dL_law_3054 : decode cL_law 3054 = .ok (.iaload, 1) := dk_46 (dk_at dksL_law_121 20 rfl rfl)
theorem dL_law_3055 : decode cL_law 3055 = .ok (.aload_n 0, 1) := dk_42 (dk_at dksL_law_121 21 rfl rfl)
theorem dL_law_3056 : decode cL_law 3056 = .ok (.iload 5, 2) := dk_21 5 (dk_at dksL_law_121 22 rfl rfl)
theorem dL_law_3058 : decode cL_law 3058 = .ok (.iconst 2, 1) := dk_5 (dk_at dksL_law_122 0 rfl rfl)
theorem dL_law_3059 : decode cL_law 3059 = .ok (.iadd, 1) := dk_96 (dk_at dksL_law_122 1 rfl rfl)
theorem dL_law_3060 : decode cL_law 3060 = .ok (.iaload, 1) := dk_46 (dk_at dksL_law_122 2 rfl rfl)
theorem dL_law_3061 : decode cL_law 3061 = .ok (.aload_n 3, 1) := dk_45 (dk_at dksL_law_122 3 rfl rfl)
theorem dL_law_3062 : decode cL_law 3062 = .ok (.invokestatic 328, 3) := dk_184 1 72 (dk_at dksL_law_122 4 rfl rfl)
theorem dL_law_3065 : decode cL_law 3065 = .ok (.istore 6, 2) := dk_54 6 (dk_at dksL_law_122 7 rfl rfl)
theorem dL_law_3067 : decode cL_law 3067 = .ok (.aload_n 2, 1) := dk_44 (dk_at dksL_law_122 9 rfl rfl)
theorem dL_law_3068 : decode cL_law 3068 = .ok (.aload_n 0, 1) := dk_42 (dk_at dksL_law_122 10 rfl rfl)
theorem dL_law_3069 : decode cL_law 3069 = .ok (.iload 5, 2) := dk_21 5 (dk_at dksL_law_122 11 rfl rfl)
theorem dL_law_3071 : decode cL_law 3071 = .ok (.iconst 1, 1) := dk_4 (dk_at dksL_law_122 13 rfl rfl)
theorem dL_law_3072 : decode cL_law 3072 = .ok (.iadd, 1) := dk_96 (dk_at dksL_law_122 14 rfl rfl)
theorem dL_law_3073 : decode cL_law 3073 = .ok (.iaload, 1) := dk_46 (dk_at dksL_law_122 15 rfl rfl)
theorem dL_law_3074 : decode cL_law 3074 = .ok (.aload_n 0, 1) := dk_42 (dk_at dksL_law_122 16 rfl rfl)
theorem dL_law_3075 : decode cL_law 3075 = .ok (.iload 5, 2) := dk_21 5 (dk_at dksL_law_122 17 rfl rfl)
theorem dL_law_3077 : decode cL_law 3077 = .ok (.iconst 2, 1) := dk_5 (dk_at dksL_law_122 19 rfl rfl)
theorem dL_law_3078 : decode cL_law 3078 = .ok (.iadd, 1) := dk_96 (dk_at dksL_law_122 20 rfl rfl)
theorem dL_law_3079 : decode cL_law 3079 = .ok (.iaload, 1) := dk_46 (dk_at dksL_law_122 21 rfl rfl)
theorem dL_law_3080 : decode cL_law 3080 = .ok (.invokevirtual 330, 3) := dk_182 1 74 (dk_at dksL_law_123 0 rfl rfl)
theorem dL_law_3083 : decode cL_law 3083 = .ok (.istore 7, 2) := dk_54 7 (dk_at dksL_law_123 3 rfl rfl)
theorem dL_law_3085 : decode cL_law 3085 = .ok (.aload_n 2, 1) := dk_44 (dk_at dksL_law_123 5 rfl rfl)
theorem dL_law_3086 : decode cL_law 3086 = .ok (.invokevirtual 173, 3) := dk_182 0 173 (dk_at dksL_law_123 6 rfl rfl)
theorem dL_law_3089 : decode cL_law 3089 = .ok (.iload 6, 2) := dk_21 6 (dk_at dksL_law_123 9 rfl rfl)
theorem dL_law_3091 : decode cL_law 3091 = .ok (.if_icmp .eq 5, 3) := dk_159 0 5 (dk_at dksL_law_123 11 rfl rfl)
theorem dL_law_3094 : decode cL_law 3094 = .ok (.iconst 0, 1) := dk_3 (dk_at dksL_law_123 14 rfl rfl)
theorem dL_law_3095 : decode cL_law 3095 = .ok (.ireturn, 1) := dk_172 (dk_at dksL_law_123 15 rfl rfl)
theorem dL_law_3096 : decode cL_law 3096 = .ok (.iload 6, 2) := dk_21 6 (dk_at dksL_law_123 16 rfl rfl)
theorem dL_law_3098 : decode cL_law 3098 = .ok (.ifCond .ne 15, 3) := dk_154 0 15 (dk_at dksL_law_123 18 rfl rfl)
theorem dL_law_3101 : decode cL_law 3101 = .ok (.aload_n 3, 1) := dk_45 (dk_at dksL_law_123 21 rfl rfl)
theorem dL_law_3102 : decode cL_law 3102 = .ok (.iconst 0, 1) := dk_3 (dk_at dksL_law_123 22 rfl rfl)
theorem dL_law_3103 : decode cL_law 3103 = .ok (.laload, 1) := dk_47 (dk_at dksL_law_123 23 rfl rfl)
theorem dL_law_3104 : decode cL_law 3104 = .ok (.iload 7, 2) := dk_21 7 (dk_at dksL_law_124 0 rfl rfl)
theorem dL_law_3106 : decode cL_law 3106 = .ok (.i2l, 1) := dk_133 (dk_at dksL_law_124 2 rfl rfl)
theorem dL_law_3107 : decode cL_law 3107 = .ok (.lcmp, 1) := dk_148 (dk_at dksL_law_124 3 rfl rfl)
theorem dL_law_3108 : decode cL_law 3108 = .ok (.ifCond .eq 5, 3) := dk_153 0 5 (dk_at dksL_law_124 4 rfl rfl)
theorem dL_law_3111 : decode cL_law 3111 = .ok (.iconst 0, 1) := dk_3 (dk_at dksL_law_124 7 rfl rfl)
theorem dL_law_3112 : decode cL_law 3112 = .ok (.ireturn, 1) := dk_172 (dk_at dksL_law_124 8 rfl rfl)
theorem dL_law_3113 : decode cL_law 3113 = .ok (.goto 272, 3) := dk_167 1 16 (dk_at dksL_law_124 9 rfl rfl)
theorem dL_law_3116 : decode cL_law 3116 = .ok (.aload_n 1, 1) := dk_43 (dk_at dksL_law_124 12 rfl rfl)
theorem dL_law_3117 : decode cL_law 3117 = .ok (.aload_n 3, 1) := dk_45 (dk_at dksL_law_124 13 rfl rfl)
theorem dL_law_3118 : decode cL_law 3118 = .ok (.invokestatic 331, 3) := dk_184 1 75 (dk_at dksL_law_124 14 rfl rfl)
theorem dL_law_3121 : decode cL_law 3121 = .ok (.istore 6, 2) := dk_54 6 (dk_at dksL_law_124 17 rfl rfl)
theorem dL_law_3123 : decode cL_law 3123 = .ok (.aload_n 2, 1) := dk_44 (dk_at dksL_law_124 19 rfl rfl)
theorem dL_law_3124 : decode cL_law 3124 = .ok (.invokevirtual 333, 3) := dk_182 1 77 (dk_at dksL_law_124 20 rfl rfl)
theorem dL_law_3127 : decode cL_law 3127 = .ok (.istore 7, 2) := dk_54 7 (dk_at dksL_law_125 0 rfl rfl)
theorem dL_law_3129 : decode cL_law 3129 = .ok (.aload_n 2, 1) := dk_44 (dk_at dksL_law_125 2 rfl rfl)
theorem dL_law_3130 : decode cL_law 3130 = .ok (.invokevirtual 173, 3) := dk_182 0 173 (dk_at dksL_law_125 3 rfl rfl)
theorem dL_law_3133 : decode cL_law 3133 = .ok (.iload 6, 2) := dk_21 6 (dk_at dksL_law_125 6 rfl rfl)
theorem dL_law_3135 : decode cL_law 3135 = .ok (.if_icmp .eq 5, 3) := dk_159 0 5 (dk_at dksL_law_125 8 rfl rfl)
theorem dL_law_3138 : decode cL_law 3138 = .ok (.iconst 0, 1) := dk_3 (dk_at dksL_law_125 11 rfl rfl)
theorem dL_law_3139 : decode cL_law 3139 = .ok (.ireturn, 1) := dk_172 (dk_at dksL_law_125 12 rfl rfl)
theorem dL_law_3140 : decode cL_law 3140 = .ok (.iload 6, 2) := dk_21 6 (dk_at dksL_law_125 13 rfl rfl)
theorem dL_law_3142 : decode cL_law 3142 = .ok (.ifCond .ne 15, 3) := dk_154 0 15 (dk_at dksL_law_125 15 rfl rfl)
theorem dL_law_3145 : decode cL_law 3145 = .ok (.aload_n 3, 1) := dk_45 (dk_at dksL_law_125 18 rfl rfl)
theorem dL_law_3146 : decode cL_law 3146 = .ok (.iconst 0, 1) := dk_3 (dk_at dksL_law_125 19 rfl rfl)
theorem dL_law_3147 : decode cL_law 3147 = .ok (.laload, 1) := dk_47 (dk_at dksL_law_125 20 rfl rfl)
theorem dL_law_3148 : decode cL_law 3148 = .ok (.iload 7, 2) := dk_21 7 (dk_at dksL_law_125 21 rfl rfl)
theorem dL_law_3150 : decode cL_law 3150 = .ok (.i2l, 1) := dk_133 (dk_at dksL_law_125 23 rfl rfl)
theorem dL_law_3151 : decode cL_law 3151 = .ok (.lcmp, 1) := dk_148 (dk_at dksL_law_126 0 rfl rfl)
theorem dL_law_3152 : decode cL_law 3152 = .ok (.ifCond .eq 5, 3) := dk_153 0 5 (dk_at dksL_law_126 1 rfl rfl)
theorem dL_law_3155 : decode cL_law 3155 = .ok (.iconst 0, 1) := dk_3 (dk_at dksL_law_126 4 rfl rfl)
theorem dL_law_3156 : decode cL_law 3156 = .ok (.ireturn, 1) := dk_172 (dk_at dksL_law_126 5 rfl rfl)
theorem dL_law_3157 : decode cL_law 3157 = .ok (.goto 228, 3) := dk_167 0 228 (dk_at dksL_law_126 6 rfl rfl)
theorem dL_law_3160 : decode cL_law 3160 = .ok (.aload_n 1, 1) := dk_43 (dk_at dksL_law_126 9 rfl rfl)
theorem dL_law_3161 : decode cL_law 3161 = .ok (.aload_n 0, 1) := dk_42 (dk_at dksL_law_126 10 rfl rfl)
theorem dL_law_3162 : decode cL_law 3162 = .ok (.iload 5, 2) := dk_21 5 (dk_at dksL_law_126 11 rfl rfl)
theorem dL_law_3164 : decode cL_law 3164 = .ok (.iconst 1, 1) := dk_4 (dk_at dksL_law_126 13 rfl rfl)
theorem dL_law_3165 : decode cL_law 3165 = .ok (.iadd, 1) := dk_96 (dk_at dksL_law_126 14 rfl rfl)
theorem dL_law_3166 : decode cL_law 3166 = .ok (.iaload, 1) := dk_46 (dk_at dksL_law_126 15 rfl rfl)
theorem dL_law_3167 : decode cL_law 3167 = .ok (.aload_n 3, 1) := dk_45 (dk_at dksL_law_126 16 rfl rfl)
theorem dL_law_3168 : decode cL_law 3168 = .ok (.invokestatic 334, 3) := dk_184 1 78 (dk_at dksL_law_126 17 rfl rfl)
theorem dL_law_3171 : decode cL_law 3171 = .ok (.istore 6, 2) := dk_54 6 (dk_at dksL_law_126 20 rfl rfl)
theorem dL_law_3173 : decode cL_law 3173 = .ok (.aload_n 2, 1) := dk_44 (dk_at dksL_law_126 22 rfl rfl)
theorem dL_law_3174 : decode cL_law 3174 = .ok (.aload_n 0, 1) := dk_42 (dk_at dksL_law_126 23 rfl rfl)
theorem dL_law_3175 : decode cL_law 3175 = .ok (.iload 5, 2) := dk_21 5 (dk_at dksL_law_127 0 rfl rfl)
theorem dL_law_3177 : decode cL_law 3177 = .ok (.iconst 1, 1) := dk_4 (dk_at dksL_law_127 2 rfl rfl)
theorem dL_law_3178 : decode cL_law 3178 = .ok (.iadd, 1) := dk_96 (dk_at dksL_law_127 3 rfl rfl)
theorem dL_law_3179 : decode cL_law 3179 = .ok (.iaload, 1) := dk_46 (dk_at dksL_law_127 4 rfl rfl)
theorem dL_law_3180 : decode cL_law 3180 = .ok (.invokevirtual 336, 3) := dk_182 1 80 (dk_at dksL_law_127 5 rfl rfl)
theorem dL_law_3183 : decode cL_law 3183 = .ok (.istore 7, 2) := dk_54 7 (dk_at dksL_law_127 8 rfl rfl)
theorem dL_law_3185 : decode cL_law 3185 = .ok (.aload_n 2, 1) := dk_44 (dk_at dksL_law_127 10 rfl rfl)
theorem dL_law_3186 : decode cL_law 3186 = .ok (.invokevirtual 173, 3) := dk_182 0 173 (dk_at dksL_law_127 11 rfl rfl)
theorem dL_law_3189 : decode cL_law 3189 = .ok (.iload 6, 2) := dk_21 6 (dk_at dksL_law_127 14 rfl rfl)
theorem dL_law_3191 : decode cL_law 3191 = .ok (.if_icmp .eq 5, 3) := dk_159 0 5 (dk_at dksL_law_127 16 rfl rfl)
theorem dL_law_3194 : decode cL_law 3194 = .ok (.iconst 0, 1) := dk_3 (dk_at dksL_law_127 19 rfl rfl)
theorem dL_law_3195 : decode cL_law 3195 = .ok (.ireturn, 1) := dk_172 (dk_at dksL_law_127 20 rfl rfl)
theorem dL_law_3196 : decode cL_law 3196 = .ok (.iload 6, 2) := dk_21 6 (dk_at dksL_law_127 21 rfl rfl)
theorem dL_law_3198 : decode cL_law 3198 = .ok (.ifCond .ne 15, 3) := dk_154 0 15 (dk_at dksL_law_128 0 rfl rfl)
theorem dL_law_3201 : decode cL_law 3201 = .ok (.aload_n 3, 1) := dk_45 (dk_at dksL_law_128 3 rfl rfl)
theorem dL_law_3202 : decode cL_law 3202 = .ok (.iconst 0, 1) := dk_3 (dk_at dksL_law_128 4 rfl rfl)
theorem dL_law_3203 : decode cL_law 3203 = .ok (.laload, 1) := dk_47 (dk_at dksL_law_128 5 rfl rfl)
theorem dL_law_3204 : decode cL_law 3204 = .ok (.iload 7, 2) := dk_21 7 (dk_at dksL_law_128 6 rfl rfl)
theorem dL_law_3206 : decode cL_law 3206 = .ok (.i2l, 1) := dk_133 (dk_at dksL_law_128 8 rfl rfl)
theorem dL_law_3207 : decode cL_law 3207 = .ok (.lcmp, 1) := dk_148 (dk_at dksL_law_128 9 rfl rfl)
theorem dL_law_3208 : decode cL_law 3208 = .ok (.ifCond .eq 5, 3) := dk_153 0 5 (dk_at dksL_law_128 10 rfl rfl)
theorem dL_law_3211 : decode cL_law 3211 = .ok (.iconst 0, 1) := dk_3 (dk_at dksL_law_128 13 rfl rfl)
theorem dL_law_3212 : decode cL_law 3212 = .ok (.ireturn, 1) := dk_172 (dk_at dksL_law_128 14 rfl rfl)
theorem dL_law_3213 : decode cL_law 3213 = .ok (.goto 172, 3) := dk_167 0 172 (dk_at dksL_law_128 15 rfl rfl)
theorem dL_law_3216 : decode cL_law 3216 = .ok (.aload_n 1, 1) := dk_43 (dk_at dksL_law_128 18 rfl rfl)
theorem dL_law_3217 : decode cL_law 3217 = .ok (.aload_n 3, 1) := dk_45 (dk_at dksL_law_128 19 rfl rfl)
theorem dL_law_3218 : decode cL_law 3218 = .ok (.invokestatic 337, 3) := dk_184 1 81 (dk_at dksL_law_128 20 rfl rfl)
theorem dL_law_3221 : decode cL_law 3221 = .ok (.istore 6, 2) := dk_54 6 (dk_at dksL_law_129 0 rfl rfl)
theorem dL_law_3223 : decode cL_law 3223 = .ok (.aload_n 2, 1) := dk_44 (dk_at dksL_law_129 2 rfl rfl)
theorem dL_law_3224 : decode cL_law 3224 = .ok (.invokevirtual 339, 3) := dk_182 1 83 (dk_at dksL_law_129 3 rfl rfl)
theorem dL_law_3227 : decode cL_law 3227 = .ok (.istore 7, 2) := dk_54 7 (dk_at dksL_law_129 6 rfl rfl)
theorem dL_law_3229 : decode cL_law 3229 = .ok (.aload_n 2, 1) := dk_44 (dk_at dksL_law_129 8 rfl rfl)
theorem dL_law_3230 : decode cL_law 3230 = .ok (.invokevirtual 173, 3) := dk_182 0 173 (dk_at dksL_law_129 9 rfl rfl)
theorem dL_law_3233 : decode cL_law 3233 = .ok (.iload 6, 2) := dk_21 6 (dk_at dksL_law_129 12 rfl rfl)
theorem dL_law_3235 : decode cL_law 3235 = .ok (.if_icmp .eq 5, 3) := dk_159 0 5 (dk_at dksL_law_129 14 rfl rfl)
theorem dL_law_3238 : decode cL_law 3238 = .ok (.iconst 0, 1) := dk_3 (dk_at dksL_law_129 17 rfl rfl)
theorem dL_law_3239 : decode cL_law 3239 = .ok (.ireturn, 1) := dk_172 (dk_at dksL_law_129 18 rfl rfl)
theorem dL_law_3240 : decode cL_law 3240 = .ok (.iload 6, 2) := dk_21 6 (dk_at dksL_law_129 19 rfl rfl)
theorem dL_law_3242 : decode cL_law 3242 = .ok (.ifCond .ne 15, 3) := dk_154 0 15 (dk_at dksL_law_129 21 rfl rfl)
theorem dL_law_3245 : decode cL_law 3245 = .ok (.aload_n 3, 1) := dk_45 (dk_at dksL_law_130 0 rfl rfl)
theorem dL_law_3246 : decode cL_law 3246 = .ok (.iconst 0, 1) := dk_3 (dk_at dksL_law_130 1 rfl rfl)
theorem dL_law_3247 : decode cL_law 3247 = .ok (.laload, 1) := dk_47 (dk_at dksL_law_130 2 rfl rfl)
theorem dL_law_3248 : decode cL_law 3248 = .ok (.iload 7, 2) := dk_21 7 (dk_at dksL_law_130 3 rfl rfl)
theorem dL_law_3250 : decode cL_law 3250 = .ok (.i2l, 1) := dk_133 (dk_at dksL_law_130 5 rfl rfl)
theorem dL_law_3251 : decode cL_law 3251 = .ok (.lcmp, 1) := dk_148 (dk_at dksL_law_130 6 rfl rfl)
theorem dL_law_3252 : decode cL_law 3252 = .ok (.ifCond .eq 5, 3) := dk_153 0 5 (dk_at dksL_law_130 7 rfl rfl)
theorem dL_law_3255 : decode cL_law 3255 = .ok (.iconst 0, 1) := dk_3 (dk_at dksL_law_130 10 rfl rfl)
theorem dL_law_3256 : decode cL_law 3256 = .ok (.ireturn, 1) := dk_172 (dk_at dksL_law_130 11 rfl rfl)
theorem dL_law_3257 : decode cL_law 3257 = .ok (.goto 128, 3) := dk_167 0 128 (dk_at dksL_law_130 12 rfl rfl)
theorem dL_law_3260 : decode cL_law 3260 = .ok (.aload_n 1, 1) := dk_43 (dk_at dksL_law_130 15 rfl rfl)
theorem dL_law_3261 : decode cL_law 3261 = .ok (.invokevirtual 340, 3) := dk_182 1 84 (dk_at dksL_law_130 16 rfl rfl)
theorem dL_law_3264 : decode cL_law 3264 = .ok (.aload_n 2, 1) := dk_44 (dk_at dksL_law_130 19 rfl rfl)
theorem dL_law_3265 : decode cL_law 3265 = .ok (.invokevirtual 343, 3) := dk_182 1 87 (dk_at dksL_law_130 20 rfl rfl)
theorem dL_law_3268 : decode cL_law 3268 = .ok (.if_icmp .eq 117, 3) := dk_159 0 117 (dk_at dksL_law_131 0 rfl rfl)
theorem dL_law_3271 : decode cL_law 3271 = .ok (.iconst 0, 1) := dk_3 (dk_at dksL_law_131 3 rfl rfl)
theorem dL_law_3272 : decode cL_law 3272 = .ok (.ireturn, 1) := dk_172 (dk_at dksL_law_131 4 rfl rfl)
theorem dL_law_3273 : decode cL_law 3273 = .ok (.aload_n 1, 1) := dk_43 (dk_at dksL_law_131 5 rfl rfl)
theorem dL_law_3274 : decode cL_law 3274 = .ok (.aload_n 0, 1) := dk_42 (dk_at dksL_law_131 6 rfl rfl)
theorem dL_law_3275 : decode cL_law 3275 = .ok (.iload 5, 2) := dk_21 5 (dk_at dksL_law_131 7 rfl rfl)
theorem dL_law_3277 : decode cL_law 3277 = .ok (.iconst 1, 1) := dk_4 (dk_at dksL_law_131 9 rfl rfl)
theorem dL_law_3278 : decode cL_law 3278 = .ok (.iadd, 1) := dk_96 (dk_at dksL_law_131 10 rfl rfl)
theorem dL_law_3279 : decode cL_law 3279 = .ok (.iaload, 1) := dk_46 (dk_at dksL_law_131 11 rfl rfl)
theorem dL_law_3280 : decode cL_law 3280 = .ok (.aload_n 3, 1) := dk_45 (dk_at dksL_law_131 12 rfl rfl)
theorem dL_law_3281 : decode cL_law 3281 = .ok (.invokestatic 344, 3) := dk_184 1 88 (dk_at dksL_law_131 13 rfl rfl)
theorem dL_law_3284 : decode cL_law 3284 = .ok (.istore 6, 2) := dk_54 6 (dk_at dksL_law_131 16 rfl rfl)
theorem dL_law_3286 : decode cL_law 3286 = .ok (.aload_n 2, 1) := dk_44 (dk_at dksL_law_131 18 rfl rfl)
theorem dL_law_3287 : decode cL_law 3287 = .ok (.aload_n 0, 1) := dk_42 (dk_at dksL_law_131 19 rfl rfl)
theorem dL_law_3288 : decode cL_law 3288 = .ok (.iload 5, 2) := dk_21 5 (dk_at dksL_law_131 20 rfl rfl)
theorem dL_law_3290 : decode cL_law 3290 = .ok (.iconst 1, 1) := dk_4 (dk_at dksL_law_131 22 rfl rfl)
theorem dL_law_3291 : decode cL_law 3291 = .ok (.iadd, 1) := dk_96 (dk_at dksL_law_131 23 rfl rfl)
theorem dL_law_3292 : decode cL_law 3292 = .ok (.iaload, 1) := dk_46 (dk_at dksL_law_132 0 rfl rfl)
theorem dL_law_3293 : decode cL_law 3293 = .ok (.invokevirtual 346, 3) := dk_182 1 90 (dk_at dksL_law_132 1 rfl rfl)
theorem dL_law_3296 : decode cL_law 3296 = .ok (.istore 7, 2) := dk_54 7 (dk_at dksL_law_132 4 rfl rfl)
theorem dL_law_3298 : decode cL_law 3298 = .ok (.aload_n 2, 1) := dk_44 (dk_at dksL_law_132 6 rfl rfl)
theorem dL_law_3299 : decode cL_law 3299 = .ok (.invokevirtual 173, 3) := dk_182 0 173 (dk_at dksL_law_132 7 rfl rfl)
theorem dL_law_3302 : decode cL_law 3302 = .ok (.iload 6, 2) := dk_21 6 (dk_at dksL_law_132 10 rfl rfl)
theorem dL_law_3304 : decode cL_law 3304 = .ok (.if_icmp .eq 5, 3) := dk_159 0 5 (dk_at dksL_law_132 12 rfl rfl)
theorem dL_law_3307 : decode cL_law 3307 = .ok (.iconst 0, 1) := dk_3 (dk_at dksL_law_132 15 rfl rfl)
theorem dL_law_3308 : decode cL_law 3308 = .ok (.ireturn, 1) := dk_172 (dk_at dksL_law_132 16 rfl rfl)
theorem dL_law_3309 : decode cL_law 3309 = .ok (.iload 6, 2) := dk_21 6 (dk_at dksL_law_132 17 rfl rfl)
theorem dL_law_3311 : decode cL_law 3311 = .ok (.ifCond .ne 15, 3) := dk_154 0 15 (dk_at dksL_law_132 19 rfl rfl)
theorem dL_law_3314 : decode cL_law 3314 = .ok (.aload_n 3, 1) := dk_45 (dk_at dksL_law_132 22 rfl rfl)
theorem dL_law_3315 : decode cL_law 3315 = .ok (.iconst 0, 1) := dk_3 (dk_at dksL_law_132 23 rfl rfl)
theorem dL_law_3316 : decode cL_law 3316 = .ok (.laload, 1) := dk_47 (dk_at dksL_law_133 0 rfl rfl)
theorem dL_law_3317 : decode cL_law 3317 = .ok (.iload 7, 2) := dk_21 7 (dk_at dksL_law_133 1 rfl rfl)
theorem dL_law_3319 : decode cL_law 3319 = .ok (.i2l, 1) := dk_133 (dk_at dksL_law_133 3 rfl rfl)
theorem dL_law_3320 : decode cL_law 3320 = .ok (.lcmp, 1) := dk_148 (dk_at dksL_law_133 4 rfl rfl)
theorem dL_law_3321 : decode cL_law 3321 = .ok (.ifCond .eq 5, 3) := dk_153 0 5 (dk_at dksL_law_133 5 rfl rfl)
theorem dL_law_3324 : decode cL_law 3324 = .ok (.iconst 0, 1) := dk_3 (dk_at dksL_law_133 8 rfl rfl)
theorem dL_law_3325 : decode cL_law 3325 = .ok (.ireturn, 1) := dk_172 (dk_at dksL_law_133 9 rfl rfl)
theorem dL_law_3326 : decode cL_law 3326 = .ok (.goto 59, 3) := dk_167 0 59 (dk_at dksL_law_133 10 rfl rfl)
theorem dL_law_3329 : decode cL_law 3329 = .ok (.aload_n 1, 1) := dk_43 (dk_at dksL_law_133 13 rfl rfl)
theorem dL_law_3330 : decode cL_law 3330 = .ok (.aload_n 0, 1) := dk_42 (dk_at dksL_law_133 14 rfl rfl)
theorem dL_law_3331 : decode cL_law 3331 = .ok (.iload 5, 2) := dk_21 5 (dk_at dksL_law_133 15 rfl rfl)
theorem dL_law_3333 : decode cL_law 3333 = .ok (.iconst 1, 1) := dk_4 (dk_at dksL_law_133 17 rfl rfl)
theorem dL_law_3334 : decode cL_law 3334 = .ok (.iadd, 1) := dk_96 (dk_at dksL_law_133 18 rfl rfl)
theorem dL_law_3335 : decode cL_law 3335 = .ok (.iaload, 1) := dk_46 (dk_at dksL_law_133 19 rfl rfl)
theorem dL_law_3336 : decode cL_law 3336 = .ok (.aload_n 3, 1) := dk_45 (dk_at dksL_law_133 20 rfl rfl)
theorem dL_law_3337 : decode cL_law 3337 = .ok (.invokestatic 347, 3) := dk_184 1 91 (dk_at dksL_law_133 21 rfl rfl)
theorem dL_law_3340 : decode cL_law 3340 = .ok (.istore 6, 2) := dk_54 6 (dk_at dksL_law_134 0 rfl rfl)
theorem dL_law_3342 : decode cL_law 3342 = .ok (.aload_n 2, 1) := dk_44 (dk_at dksL_law_134 2 rfl rfl)
theorem dL_law_3343 : decode cL_law 3343 = .ok (.aload_n 0, 1) := dk_42 (dk_at dksL_law_134 3 rfl rfl)
theorem dL_law_3344 : decode cL_law 3344 = .ok (.iload 5, 2) := dk_21 5 (dk_at dksL_law_134 4 rfl rfl)
theorem dL_law_3346 : decode cL_law 3346 = .ok (.iconst 1, 1) := dk_4 (dk_at dksL_law_134 6 rfl rfl)
theorem dL_law_3347 : decode cL_law 3347 = .ok (.iadd, 1) := dk_96 (dk_at dksL_law_134 7 rfl rfl)
theorem dL_law_3348 : decode cL_law 3348 = .ok (.iaload, 1) := dk_46 (dk_at dksL_law_134 8 rfl rfl)
theorem dL_law_3349 : decode cL_law 3349 = .ok (.invokevirtual 349, 3) := dk_182 1 93 (dk_at dksL_law_134 9 rfl rfl)
theorem dL_law_3352 : decode cL_law 3352 = .ok (.istore 7, 2) := dk_54 7 (dk_at dksL_law_134 12 rfl rfl)
theorem dL_law_3354 : decode cL_law 3354 = .ok (.aload_n 2, 1) := dk_44 (dk_at dksL_law_134 14 rfl rfl)
theorem dL_law_3355 : decode cL_law 3355 = .ok (.invokevirtual 173, 3) := dk_182 0 173 (dk_at dksL_law_134 15 rfl rfl)
theorem dL_law_3358 : decode cL_law 3358 = .ok (.iload 6, 2) := dk_21 6 (dk_at dksL_law_134 18 rfl rfl)
theorem dL_law_3360 : decode cL_law 3360 = .ok (.if_icmp .eq 5, 3) := dk_159 0 5 (dk_at dksL_law_134 20 rfl rfl)
theorem dL_law_3363 : decode cL_law 3363 = .ok (.iconst 0, 1) := dk_3 (dk_at dksL_law_134 23 rfl rfl)
theorem dL_law_3364 : decode cL_law 3364 = .ok (.ireturn, 1) := dk_172 (dk_at dksL_law_135 0 rfl rfl)
theorem dL_law_3365 : decode cL_law 3365 = .ok (.iload 6, 2) := dk_21 6 (dk_at dksL_law_135 1 rfl rfl)
theorem dL_law_3367 : decode cL_law 3367 = .ok (.ifCond .ne 15, 3) := dk_154 0 15 (dk_at dksL_law_135 3 rfl rfl)
theorem dL_law_3370 : decode cL_law 3370 = .ok (.aload_n 3, 1) := dk_45 (dk_at dksL_law_135 6 rfl rfl)
theorem dL_law_3371 : decode cL_law 3371 = .ok (.iconst 0, 1) := dk_3 (dk_at dksL_law_135 7 rfl rfl)
theorem dL_law_3372 : decode cL_law 3372 = .ok (.laload, 1) := dk_47 (dk_at dksL_law_135 8 rfl rfl)
theorem dL_law_3373 : decode cL_law 3373 = .ok (.iload 7, 2) := dk_21 7 (dk_at dksL_law_135 9 rfl rfl)
theorem dL_law_3375 : decode cL_law 3375 = .ok (.i2l, 1) := dk_133 (dk_at dksL_law_135 11 rfl rfl)
theorem dL_law_3376 : decode cL_law 3376 = .ok (.lcmp, 1) := dk_148 (dk_at dksL_law_135 12 rfl rfl)
theorem dL_law_3377 : decode cL_law 3377 = .ok (.ifCond .eq 5, 3) := dk_153 0 5 (dk_at dksL_law_135 13 rfl rfl)
theorem dL_law_3380 : decode cL_law 3380 = .ok (.iconst 0, 1) := dk_3 (dk_at dksL_law_135 16 rfl rfl)
theorem dL_law_3381 : decode cL_law 3381 = .ok (.ireturn, 1) := dk_172 (dk_at dksL_law_135 17 rfl rfl)
theorem dL_law_3382 : decode cL_law 3382 = .ok (.goto 3, 3) := dk_167 0 3 (dk_at dksL_law_135 18 rfl rfl)
theorem dL_law_3385 : decode cL_law 3385 = .ok (.iinc 5 7, 3) := dk_132 5 7 (dk_at dksL_law_135 21 rfl rfl)
theorem dL_law_3388 : decode cL_law 3388 = .ok (.goto (-3360), 3) := dk_167 242 224 (dk_at dksL_law_136 0 rfl rfl)
theorem dL_law_3391 : decode cL_law 3391 = .ok (.iconst 1, 1) := dk_4 (dk_at dksL_law_136 3 rfl rfl)
theorem dL_law_3392 : decode cL_law 3392 = .ok (.ireturn, 1) := dk_172 (dk_at dksL_law_136 4 rfl rfl)

