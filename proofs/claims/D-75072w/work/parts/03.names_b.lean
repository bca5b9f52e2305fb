/-! RideDesk -/
set_option maxRecDepth 100000
def RX1 : String := "RideDesk"
def TX1 : u_T := fun k => match k with
  | 0 => ("RideDesk", "plan", "LRideDesk$Plan;", false)
  | 1 => ("RideDesk", "now", "LRideDesk$State;", false)
  | 2 => ("RideDesk", "undos", "Ljava/util/Deque;", true)
  | 3 => ("RideDesk", "slots", "[LRideDesk$State;", true)
  | 4 => ("RideDesk", "picked", "[I", true)
  | 5 => ("RideDesk", "tried", "LRideDesk$Route;", true)
  | 6 => ("RideDesk", "best", "LRideDesk$Route;", true)
  | 7 => ("RideDesk", "bestVan", "I", false)
  | 8 => ("RideDesk", "bestMore", "I", false)
  | 9 => ("RideDesk", "byPickup", "[I", true)
  | 10 => ("RideDesk", "byDrop", "[I", true)
  | 11 => ("RideDesk", "both", "[I", true)
  | 12 => ("RideDesk", "buffer", "[B", true)
  | 13 => ("RideDesk", "buffered", "I", false)
  | 14 => ("RideDesk", "parseError", "I", false)
  | 15 => ("RideDesk", "errorPosition", "I", false)
  | _ => ("RideDesk", "page", "[B", false)
def tyX1 : Nat → FieldType := fun k => match k with
  | 0 => .object "RideDesk$Plan"
  | 1 => .object "RideDesk$State"
  | 2 => .object "java/util/Deque"
  | 3 => .array (.object "RideDesk$State")
  | 4 => .array .int
  | 5 => .object "RideDesk$Route"
  | 6 => .object "RideDesk$Route"
  | 7 => .int
  | 8 => .int
  | 9 => .array .int
  | 10 => .array .int
  | 11 => .array .int
  | 12 => .array .byte
  | 13 => .int
  | 14 => .int
  | 15 => .int
  | _ => .array .byte
abbrev wsX10 : List Cond := u_ws RX1 TX1 17
set_option maxRecDepth 100000 in
theorem nmX1 : ∀ a, a < 17 → ∀ b, b < 17 → a ≠ b → (TX1 a).2.1 ≠ (TX1 b).2.1 := by decide +kernel
set_option maxRecDepth 100000 in
theorem tyX1_ok : ∀ k, k < 17 → parseFieldDescriptor (TX1 k).2.2.1 = some (tyX1 k) := by decide +kernel
abbrev cX1_init : ByteArray := prog_1_method_28_code
def yX1_init : MethodName := ⟨RX1, "<init>", "()V"⟩
def dkwX1_init_4 : List UInt8 := [181, 1, 57, 42, 3, 188, 8, 181, 1, 60, 177]
abbrev dktX1_init_4 : List UInt8 := dkwX1_init_4 ++ []
def dkwX1_init_3 : List UInt8 := [181, 0, 200, 42, 16, 50, 188, 10, 181, 0, 194, 42, 17, 3, 232, 188, 8, 181, 1, 53, 42, 2]
abbrev dktX1_init_3 : List UInt8 := dkwX1_init_3 ++ dktX1_init_4
def dkwX1_init_2 : List UInt8 := [187, 0, 4, 89, 183, 1, 52, 181, 0, 225, 42, 16, 50, 188, 10, 181, 0, 197, 42, 16, 50, 188, 10]
abbrev dktX1_init_2 : List UInt8 := dkwX1_init_2 ++ dktX1_init_3
def dkwX1_init_1 : List UInt8 := [181, 1, 48, 42, 16, 25, 188, 10, 181, 0, 125, 42, 187, 0, 4, 89, 183, 1, 52, 181, 0, 210, 42]
abbrev dktX1_init_1 : List UInt8 := dkwX1_init_1 ++ dktX1_init_2
def dkwX1_init_0 : List UInt8 := [42, 183, 1, 34, 42, 187, 1, 39, 89, 16, 16, 183, 1, 41, 181, 1, 44, 42, 5, 189, 0, 56]
abbrev dktX1_init_0 : List UInt8 := dkwX1_init_0 ++ dktX1_init_1
theorem dksX1_init_0 : cX1_init.data.toList.drop 0 = dktX1_init_0 := by decide +kernel
theorem dksX1_init_1 : cX1_init.data.toList.drop 22 = dktX1_init_1 := dk_seg dksX1_init_0 22 rfl rfl
theorem dksX1_init_2 : cX1_init.data.toList.drop 45 = dktX1_init_2 := dk_seg dksX1_init_1 23 rfl rfl
theorem dksX1_init_3 : cX1_init.data.toList.drop 68 = dktX1_init_3 := dk_seg dksX1_init_2 23 rfl rfl
theorem dksX1_init_4 : cX1_init.data.toList.drop 90 = dktX1_init_4 := dk_seg dksX1_init_3 22 rfl rfl
theorem dX1_init_0 : decode cX1_init 0 = .ok (.aload_n 0, 1) := dk_42 (dk_at dksX1_init_0 0 rfl rfl)
theorem dX1_init_1 : decode cX1_init 1 = .ok (.invokespecial 290, 3) := dk_183 1 34 (dk_at dksX1_init_0 1 rfl rfl)
theorem dX1_init_4 : decode cX1_init 4 = .ok (.aload_n 0, 1) := dk_42 (dk_at dksX1_init_0 4 rfl rfl)
theorem dX1_init_5 : decode cX1_init 5 = .ok (.new 295, 3) := dk_187 1 39 (dk_at dksX1_init_0 5 rfl rfl)
theorem dX1_init_8 : decode cX1_init 8 = .ok (.dup, 1) := dk_89 (dk_at dksX1_init_0 8 rfl rfl)
theorem dX1_init_9 : decode cX1_init 9 = .ok (.bipush 16, 2) := dk_16 16 (dk_at dksX1_init_0 9 rfl rfl)
theorem dX1_init_11 : decode cX1_init 11 = .ok (.invokespecial 297, 3) := dk_183 1 41 (dk_at dksX1_init_0 11 rfl rfl)
theorem dX1_init_14 : decode cX1_init 14 = .ok (.putfield 300, 3) := dk_181 1 44 (dk_at dksX1_init_0 14 rfl rfl)
theorem dX1_init_17 : decode cX1_init 17 = .ok (.aload_n 0, 1) := dk_42 (dk_at dksX1_init_0 17 rfl rfl)
theorem dX1_init_18 : decode cX1_init 18 = .ok (.iconst 2, 1) := dk_5 (dk_at dksX1_init_0 18 rfl rfl)
theorem dX1_init_19 : decode cX1_init 19 = .ok (.anewarray 56, 3) := dk_189 0 56 (dk_at dksX1_init_0 19 rfl rfl)
theorem dX1_init_22 : decode cX1_init 22 = .ok (.putfield 304, 3) := dk_181 1 48 (dk_at dksX1_init_1 0 rfl rfl)
theorem dX1_init_25 : decode cX1_init 25 = .ok (.aload_n 0, 1) := dk_42 (dk_at dksX1_init_1 3 rfl rfl)
theorem dX1_init_26 : decode cX1_init 26 = .ok (.bipush 25, 2) := dk_16 25 (dk_at dksX1_init_1 4 rfl rfl)
theorem dX1_init_28 : decode cX1_init 28 = .ok (.newarray .int, 2) := dk_188_10 (dk_at dksX1_init_1 6 rfl rfl)
theorem dX1_init_30 : decode cX1_init 30 = .ok (.putfield 125, 3) := dk_181 0 125 (dk_at dksX1_init_1 8 rfl rfl)
theorem dX1_init_33 : decode cX1_init 33 = .ok (.aload_n 0, 1) := dk_42 (dk_at dksX1_init_1 11 rfl rfl)
theorem dX1_init_34 : decode cX1_init 34 = .ok (.new 4, 3) := dk_187 0 4 (dk_at dksX1_init_1 12 rfl rfl)
theorem dX1_init_37 : decode cX1_init 37 = .ok (.dup, 1) := dk_89 (dk_at dksX1_init_1 15 rfl rfl)
theorem dX1_init_38 : decode cX1_init 38 = .ok (.invokespecial 308, 3) := dk_183 1 52 (dk_at dksX1_init_1 16 rfl rfl)
theorem dX1_init_41 : decode cX1_init 41 = .ok (.putfield 210, 3) := dk_181 0 210 (dk_at dksX1_init_1 19 rfl rfl)
theorem dX1_init_44 : decode cX1_init 44 = .ok (.aload_n 0, 1) := dk_42 (dk_at dksX1_init_1 22 rfl rfl)
theorem dX1_init_45 : decode cX1_init 45 = .ok (.new 4, 3) := dk_187 0 4 (dk_at dksX1_init_2 0 rfl rfl)
theorem dX1_init_48 : decode cX1_init 48 = .ok (.dup, 1) := dk_89 (dk_at dksX1_init_2 3 rfl rfl)
theorem dX1_init_49 : decode cX1_init 49 = .ok (.invokespecial 308, 3) := dk_183 1 52 (dk_at dksX1_init_2 4 rfl rfl)
theorem dX1_init_52 : decode cX1_init 52 = .ok (.putfield 225, 3) := dk_181 0 225 (dk_at dksX1_init_2 7 rfl rfl)
theorem dX1_init_55 : decode cX1_init 55 = .ok (.aload_n 0, 1) := dk_42 (dk_at dksX1_init_2 10 rfl rfl)
theorem dX1_init_56 : decode cX1_init 56 = .ok (.bipush 50, 2) := dk_16 50 (dk_at dksX1_init_2 11 rfl rfl)
theorem dX1_init_58 : decode cX1_init 58 = .ok (.newarray .int, 2) := dk_188_10 (dk_at dksX1_init_2 13 rfl rfl)
theorem dX1_init_60 : decode cX1_init 60 = .ok (.putfield 197, 3) := dk_181 0 197 (dk_at dksX1_init_2 15 rfl rfl)
theorem dX1_init_63 : decode cX1_init 63 = .ok (.aload_n 0, 1) := dk_42 (dk_at dksX1_init_2 18 rfl rfl)
theorem dX1_init_64 : decode cX1_init 64 = .ok (.bipush 50, 2) := dk_16 50 (dk_at dksX1_init_2 19 rfl rfl)
theorem dX1_init_66 : decode cX1_init 66 = .ok (.newarray .int, 2) := dk_188_10 (dk_at dksX1_init_2 21 rfl rfl)
theorem dX1_init_68 : decode cX1_init 68 = .ok (.putfield 200, 3) := dk_181 0 200 (dk_at dksX1_init_3 0 rfl rfl)
theorem dX1_init_71 : decode cX1_init 71 = .ok (.aload_n 0, 1) := dk_42 (dk_at dksX1_init_3 3 rfl rfl)
theorem dX1_init_72 : decode cX1_init 72 = .ok (.bipush 50, 2) := dk_16 50 (dk_at dksX1_init_3 4 rfl rfl)
theorem dX1_init_74 : decode cX1_init 74 = .ok (.newarray .int, 2) := dk_188_10 (dk_at dksX1_init_3 6 rfl rfl)
theorem dX1_init_76 : decode cX1_init 76 = .ok (.putfield 194, 3) := dk_181 0 194 (dk_at dksX1_init_3 8 rfl rfl)
theorem dX1_init_79 : decode cX1_init 79 = .ok (.aload_n 0, 1) := dk_42 (dk_at dksX1_init_3 11 rfl rfl)
theorem dX1_init_80 : decode cX1_init 80 = .ok (.sipush 1000, 3) := dk_17 3 232 (dk_at dksX1_init_3 12 rfl rfl)
theorem dX1_init_83 : decode cX1_init 83 = .ok (.newarray .byte, 2) := dk_188_8 (dk_at dksX1_init_3 15 rfl rfl)
theorem dX1_init_85 : decode cX1_init 85 = .ok (.putfield 309, 3) := dk_181 1 53 (dk_at dksX1_init_3 17 rfl rfl)
theorem dX1_init_88 : decode cX1_init 88 = .ok (.aload_n 0, 1) := dk_42 (dk_at dksX1_init_3 20 rfl rfl)
theorem dX1_init_89 : decode cX1_init 89 = .ok (.iconst (-1), 1) := dk_2 (dk_at dksX1_init_3 21 rfl rfl)
theorem dX1_init_90 : decode cX1_init 90 = .ok (.putfield 313, 3) := dk_181 1 57 (dk_at dksX1_init_4 0 rfl rfl)
theorem dX1_init_93 : decode cX1_init 93 = .ok (.aload_n 0, 1) := dk_42 (dk_at dksX1_init_4 3 rfl rfl)
theorem dX1_init_94 : decode cX1_init 94 = .ok (.iconst 0, 1) := dk_3 (dk_at dksX1_init_4 4 rfl rfl)
theorem dX1_init_95 : decode cX1_init 95 = .ok (.newarray .byte, 2) := dk_188_8 (dk_at dksX1_init_4 5 rfl rfl)
theorem dX1_init_97 : decode cX1_init 97 = .ok (.putfield 316, 3) := dk_181 1 60 (dk_at dksX1_init_4 7 rfl rfl)
theorem dX1_init_100 : decode cX1_init 100 = .ok (.return_, 1) := dk_177 (dk_at dksX1_init_4 10 rfl rfl)
abbrev cX1_append : ByteArray := prog_1_method_29_code
def yX1_append : MethodName := ⟨RX1, "append", "(IIIII)I"⟩
def dkwX1_append_4 : List UInt8 := [122, 145, 84, 132, 11, 248, 167, 255, 226, 132, 9, 1, 167, 255, 202, 42, 180, 1, 63, 172]
abbrev dktX1_append_4 : List UInt8 := dkwX1_append_4 ++ []
def dkwX1_append_3 : List UInt8 := [21, 11, 155, 0, 31, 42, 180, 1, 53, 42, 89, 180, 1, 63, 90, 4, 96, 181, 1, 63, 21, 10, 21, 11]
abbrev dktX1_append_3 : List UInt8 := dkwX1_append_3 ++ dktX1_append_4
def dkwX1_append_2 : List UInt8 := [190, 54, 8, 3, 54, 9, 21, 9, 21, 8, 162, 0, 53, 25, 7, 21, 9, 46, 54, 10, 16, 24, 54, 11]
abbrev dktX1_append_2 : List UInt8 := dkwX1_append_2 ++ dktX1_append_3
def dkwX1_append_1 : List UInt8 := [28, 79, 89, 5, 29, 79, 89, 6, 21, 4, 79, 89, 7, 21, 5, 79, 58, 6, 25, 6, 58, 7, 25, 7]
abbrev dktX1_append_1 : List UInt8 := dkwX1_append_1 ++ dktX1_append_2
def dkwX1_append_0 : List UInt8 := [42, 180, 1, 63, 16, 20, 96, 17, 3, 232, 164, 0, 5, 2, 172, 8, 188, 10, 89, 3, 27, 79, 89, 4]
abbrev dktX1_append_0 : List UInt8 := dkwX1_append_0 ++ dktX1_append_1
theorem dksX1_append_0 : cX1_append.data.toList.drop 0 = dktX1_append_0 := by decide +kernel
theorem dksX1_append_1 : cX1_append.data.toList.drop 24 = dktX1_append_1 := dk_seg dksX1_append_0 24 rfl rfl
theorem dksX1_append_2 : cX1_append.data.toList.drop 48 = dktX1_append_2 := dk_seg dksX1_append_1 24 rfl rfl
theorem dksX1_append_3 : cX1_append.data.toList.drop 72 = dktX1_append_3 := dk_seg dksX1_append_2 24 rfl rfl
theorem dksX1_append_4 : cX1_append.data.toList.drop 96 = dktX1_append_4 := dk_seg dksX1_append_3 24 rfl rfl
theorem dX1_append_0 : decode cX1_append 0 = .ok (.aload_n 0, 1) := dk_42 (dk_at dksX1_append_0 0 rfl rfl)
theorem dX1_append_1 : decode cX1_append 1 = .ok (.getfield 319, 3) := dk_180 1 63 (dk_at dksX1_append_0 1 rfl rfl)
theorem dX1_append_4 : decode cX1_append 4 = .ok (.bipush 20, 2) := dk_16 20 (dk_at dksX1_append_0 4 rfl rfl)
theorem dX1_append_6 : decode cX1_append 6 = .ok (.iadd, 1) := dk_96 (dk_at dksX1_append_0 6 rfl rfl)
theorem dX1_append_7 : decode cX1_append 7 = .ok (.sipush 1000, 3) := dk_17 3 232 (dk_at dksX1_append_0 7 rfl rfl)
theorem dX1_append_10 : decode cX1_append 10 = .ok (.if_icmp .le 5, 3) := dk_164 0 5 (dk_at dksX1_append_0 10 rfl rfl)
theorem dX1_append_13 : decode cX1_append 13 = .ok (.iconst (-1), 1) := dk_2 (dk_at dksX1_append_0 13 rfl rfl)
theorem dX1_append_14 : decode cX1_append 14 = .ok (.ireturn, 1) := dk_172 (dk_at dksX1_append_0 14 rfl rfl)
theorem dX1_append_15 : decode cX1_append 15 = .ok (.iconst 5, 1) := dk_8 (dk_at dksX1_append_0 15 rfl rfl)
theorem dX1_append_16 : decode cX1_append 16 = .ok (.newarray .int, 2) := dk_188_10 (dk_at dksX1_append_0 16 rfl rfl)
theorem dX1_append_18 : decode cX1_append 18 = .ok (.dup, 1) := dk_89 (dk_at dksX1_append_0 18 rfl rfl)
theorem dX1_append_19 : decode cX1_append 19 = .ok (.iconst 0, 1) := dk_3 (dk_at dksX1_append_0 19 rfl rfl)
theorem dX1_append_20 : decode cX1_append 20 = .ok (.iload_n 1, 1) := dk_27 (dk_at dksX1_append_0 20 rfl rfl)
theorem dX1_append_21 : decode cX1_append 21 = .ok (.iastore, 1) := dk_79 (dk_at dksX1_append_0 21 rfl rfl)
theorem dX1_append_22 : decode cX1_append 22 = .ok (.dup, 1) := dk_89 (dk_at dksX1_append_0 22 rfl rfl)
theorem dX1_append_23 : decode cX1_append 23 = .ok (.iconst 1, 1) := dk_4 (dk_at dksX1_append_0 23 rfl rfl)
theorem dX1_append_24 : decode cX1_append 24 = .ok (.iload_n 2, 1) := dk_28 (dk_at dksX1_append_1 0 rfl rfl)
theorem dX1_append_25 : decode cX1_append 25 = .ok (.iastore, 1) := dk_79 (dk_at dksX1_append_1 1 rfl rfl)
theorem dX1_append_26 : decode cX1_append 26 = .ok (.dup, 1) := dk_89 (dk_at dksX1_append_1 2 rfl rfl)
theorem dX1_append_27 : decode cX1_append 27 = .ok (.iconst 2, 1) := dk_5 (dk_at dksX1_append_1 3 rfl rfl)
theorem dX1_append_28 : decode cX1_append 28 = .ok (.iload_n 3, 1) := dk_29 (dk_at dksX1_append_1 4 rfl rfl)
theorem dX1_append_29 : decode cX1_append 29 = .ok (.iastore, 1) := dk_79 (dk_at dksX1_append_1 5 rfl rfl)
theorem dX1_append_30 : decode cX1_append 30 = .ok (.dup, 1) := dk_89 (dk_at dksX1_append_1 6 rfl rfl)
theorem dX1_append_31 : decode cX1_append 31 = .ok (.iconst 3, 1) := dk_6 (dk_at dksX1_append_1 7 rfl rfl)
theorem dX1_append_32 : decode cX1_append 32 = .ok (.iload 4, 2) := dk_21 4 (dk_at dksX1_append_1 8 rfl rfl)
theorem dX1_append_34 : decode cX1_append 34 = .ok (.iastore, 1) := dk_79 (dk_at dksX1_append_1 10 rfl rfl)
theorem dX1_append_35 : decode cX1_append 35 = .ok (.dup, 1) := dk_89 (dk_at dksX1_append_1 11 rfl rfl)
theorem dX1_append_36 : decode cX1_append 36 = .ok (.iconst 4, 1) := dk_7 (dk_at dksX1_append_1 12 rfl rfl)
theorem dX1_append_37 : decode cX1_append 37 = .ok (.iload 5, 2) := dk_21 5 (dk_at dksX1_append_1 13 rfl rfl)
theorem dX1_append_39 : decode cX1_append 39 = .ok (.iastore, 1) := dk_79 (dk_at dksX1_append_1 15 rfl rfl)
theorem dX1_append_40 : decode cX1_append 40 = .ok (.astore 6, 2) := dk_58 6 (dk_at dksX1_append_1 16 rfl rfl)
theorem dX1_append_42 : decode cX1_append 42 = .ok (.aload 6, 2) := dk_25 6 (dk_at dksX1_append_1 18 rfl rfl)
theorem dX1_append_44 : decode cX1_append 44 = .ok (.astore 7, 2) := dk_58 7 (dk_at dksX1_append_1 20 rfl rfl)
theorem dX1_append_46 : decode cX1_append 46 = .ok (.aload 7, 2) := dk_25 7 (dk_at dksX1_append_1 22 rfl rfl)
theorem dX1_append_48 : decode cX1_append 48 = .ok (.arraylength, 1) := dk_190 (dk_at dksX1_append_2 0 rfl rfl)
theorem dX1_append_49 : decode cX1_append 49 = .ok (.istore 8, 2) := dk_54 8 (dk_at dksX1_append_2 1 rfl rfl)
theorem dX1_append_51 : decode cX1_append 51 = .ok (.iconst 0, 1) := dk_3 (dk_at dksX1_append_2 3 rfl rfl)
theorem dX1_append_52 : decode cX1_append 52 = .ok (.istore 9, 2) := dk_54 9 (dk_at dksX1_append_2 4 rfl rfl)
theorem dX1_append_54 : decode cX1_append 54 = .ok (.iload 9, 2) := dk_21 9 (dk_at dksX1_append_2 6 rfl rfl)
theorem dX1_append_56 : decode cX1_append 56 = .ok (.iload 8, 2) := dk_21 8 (dk_at dksX1_append_2 8 rfl rfl)
theorem dX1_append_58 : decode cX1_append 58 = .ok (.if_icmp .ge 53, 3) := dk_162 0 53 (dk_at dksX1_append_2 10 rfl rfl)
theorem dX1_append_61 : decode cX1_append 61 = .ok (.aload 7, 2) := dk_25 7 (dk_at dksX1_append_2 13 rfl rfl)
theorem dX1_append_63 : decode cX1_append 63 = .ok (.iload 9, 2) := dk_21 9 (dk_at dksX1_append_2 15 rfl rfl)
theorem dX1_append_65 : decode cX1_append 65 = .ok (.iaload, 1) := dk_46 (dk_at dksX1_append_2 17 rfl rfl)
theorem dX1_append_66 : decode cX1_append 66 = .ok (.istore 10, 2) := dk_54 10 (dk_at dksX1_append_2 18 rfl rfl)
theorem dX1_append_68 : decode cX1_append 68 = .ok (.bipush 24, 2) := dk_16 24 (dk_at dksX1_append_2 20 rfl rfl)
theorem dX1_append_70 : decode cX1_append 70 = .ok (.istore 11, 2) := dk_54 11 (dk_at dksX1_append_2 22 rfl rfl)
theorem dX1_append_72 : decode cX1_append 72 = .ok (.iload 11, 2) := dk_21 11 (dk_at dksX1_append_3 0 rfl rfl)
theorem dX1_append_74 : decode cX1_append 74 = .ok (.ifCond .lt 31, 3) := dk_155 0 31 (dk_at dksX1_append_3 2 rfl rfl)
theorem dX1_append_77 : decode cX1_append 77 = .ok (.aload_n 0, 1) := dk_42 (dk_at dksX1_append_3 5 rfl rfl)
theorem dX1_append_78 : decode cX1_append 78 = .ok (.getfield 309, 3) := dk_180 1 53 (dk_at dksX1_append_3 6 rfl rfl)
theorem dX1_append_81 : decode cX1_append 81 = .ok (.aload_n 0, 1) := dk_42 (dk_at dksX1_append_3 9 rfl rfl)
theorem dX1_append_82 : decode cX1_append 82 = .ok (.dup, 1) := dk_89 (dk_at dksX1_append_3 10 rfl rfl)
theorem dX1_append_83 : decode cX1_append 83 = .ok (.getfield 319, 3) := dk_180 1 63 (dk_at dksX1_append_3 11 rfl rfl)
theorem dX1_append_86 : decode cX1_append 86 = .ok (.dup_x1, 1) := dk_90 (dk_at dksX1_append_3 14 rfl rfl)
theorem dX1_append_87 : decode cX1_append 87 = .ok (.iconst 1, 1) := dk_4 (dk_at dksX1_append_3 15 rfl rfl)
theorem dX1_append_88 : decode cX1_append 88 = .ok (.iadd, 1) := dk_96 (dk_at dksX1_append_3 16 rfl rfl)
theorem dX1_append_89 : decode cX1_append 89 = .ok (.putfield 319, 3) := dk_181 1 63 (dk_at dksX1_append_3 17 rfl rfl)
theorem dX1_append_92 : decode cX1_append 92 = .ok (.iload 10, 2) := dk_21 10 (dk_at dksX1_append_3 20 rfl rfl)
theorem dX1_append_94 : decode cX1_append 94 = .ok (.iload 11, 2) := dk_21 11 (dk_at dksX1_append_3 22 rfl rfl)
theorem dX1_append_96 : decode cX1_append 96 = .ok (.ishr, 1) := dk_122 (dk_at dksX1_append_4 0 rfl rfl)
theorem dX1_append_97 : decode cX1_append 97 = .ok (.i2b, 1) := dk_145 (dk_at dksX1_append_4 1 rfl rfl)
theorem dX1_append_98 : decode cX1_append 98 = .ok (.bastore, 1) := dk_84 (dk_at dksX1_append_4 2 rfl rfl)
theorem dX1_append_99 : decode cX1_append 99 = .ok (.iinc 11 (-8), 3) := dk_132 11 248 (dk_at dksX1_append_4 3 rfl rfl)
theorem dX1_append_102 : decode cX1_append 102 = .ok (.goto (-30), 3) := dk_167 255 226 (dk_at dksX1_append_4 6 rfl rfl)
theorem dX1_append_105 : decode cX1_append 105 = .ok (.iinc 9 1, 3) := dk_132 9 1 (dk_at dksX1_append_4 9 rfl rfl)
theorem dX1_append_108 : decode cX1_append 108 = .ok (.goto (-54), 3) := dk_167 255 202 (dk_at dksX1_append_4 12 rfl rfl)
theorem dX1_append_111 : decode cX1_append 111 = .ok (.aload_n 0, 1) := dk_42 (dk_at dksX1_append_4 15 rfl rfl)
theorem dX1_append_112 : decode cX1_append 112 = .ok (.getfield 319, 3) := dk_180 1 63 (dk_at dksX1_append_4 16 rfl rfl)
theorem dX1_append_115 : decode cX1_append 115 = .ok (.ireturn, 1) := dk_172 (dk_at dksX1_append_4 19 rfl rfl)
abbrev cX1_parseError : ByteArray := prog_1_method_31_code
def yX1_parseError : MethodName := ⟨RX1, "parseError", "()I"⟩
theorem dX1_parseError_0 : decode cX1_parseError 0 = .ok (.aload_n 0, 1) := by decide +kernel
theorem dX1_parseError_1 : decode cX1_parseError 1 = .ok (.getfield 352, 3) := by decide +kernel
theorem dX1_parseError_4 : decode cX1_parseError 4 = .ok (.ireturn, 1) := by decide +kernel
abbrev cX1_errorPosition : ByteArray := prog_1_method_32_code
def yX1_errorPosition : MethodName := ⟨RX1, "errorPosition", "()I"⟩
theorem dX1_errorPosition_0 : decode cX1_errorPosition 0 = .ok (.aload_n 0, 1) := by decide +kernel
theorem dX1_errorPosition_1 : decode cX1_errorPosition 1 = .ok (.getfield 313, 3) := by decide +kernel
theorem dX1_errorPosition_4 : decode cX1_errorPosition 4 = .ok (.ireturn, 1) := by decide +kernel
abbrev cX1_buffered : ByteArray := prog_1_method_33_code
def yX1_buffered : MethodName := ⟨RX1, "buffered", "()I"⟩
theorem dX1_buffered_0 : decode cX1_buffered 0 = .ok (.aload_n 0, 1) := by decide +kernel
theorem dX1_buffered_1 : decode cX1_buffered 1 = .ok (.getfield 319, 3) := by decide +kernel
theorem dX1_buffered_4 : decode cX1_buffered 4 = .ok (.ireturn, 1) := by decide +kernel
abbrev cX1_vans : ByteArray := prog_1_method_40_code
def yX1_vans : MethodName := ⟨RX1, "vans", "()I"⟩
def dkwX1_vans_0 : List UInt8 := [42, 180, 1, 112, 199, 0, 7, 3, 167, 0, 15, 42, 180, 0, 15, 180, 0, 19, 185, 0, 153, 1, 0, 172]
abbrev dktX1_vans_0 : List UInt8 := dkwX1_vans_0 ++ []
theorem dksX1_vans_0 : cX1_vans.data.toList.drop 0 = dktX1_vans_0 := by decide +kernel
theorem dX1_vans_0 : decode cX1_vans 0 = .ok (.aload_n 0, 1) := dk_42 (dk_at dksX1_vans_0 0 rfl rfl)
theorem dX1_vans_1 : decode cX1_vans 1 = .ok (.getfield 368, 3) := dk_180 1 112 (dk_at dksX1_vans_0 1 rfl rfl)
theorem dX1_vans_4 : decode cX1_vans 4 = .ok (.ifnonnull 7, 3) := dk_199 0 7 (dk_at dksX1_vans_0 4 rfl rfl)
theorem dX1_vans_7 : decode cX1_vans 7 = .ok (.iconst 0, 1) := dk_3 (dk_at dksX1_vans_0 7 rfl rfl)
theorem dX1_vans_8 : decode cX1_vans 8 = .ok (.goto 15, 3) := dk_167 0 15 (dk_at dksX1_vans_0 8 rfl rfl)
theorem dX1_vans_11 : decode cX1_vans 11 = .ok (.aload_n 0, 1) := dk_42 (dk_at dksX1_vans_0 11 rfl rfl)
theorem dX1_vans_12 : decode cX1_vans 12 = .ok (.getfield 15, 3) := dk_180 0 15 (dk_at dksX1_vans_0 12 rfl rfl)
theorem dX1_vans_15 : decode cX1_vans 15 = .ok (.getfield 19, 3) := dk_180 0 19 (dk_at dksX1_vans_0 15 rfl rfl)
theorem dX1_vans_18 : decode cX1_vans 18 = .ok (.invokeinterface 153 1, 5) := by decide +kernel
theorem dX1_vans_23 : decode cX1_vans 23 = .ok (.ireturn, 1) := dk_172 (dk_at dksX1_vans_0 23 rfl rfl)
abbrev cX1_clock : ByteArray := prog_1_method_41_code
def yX1_clock : MethodName := ⟨RX1, "clock", "()I"⟩
def dkwX1_clock_0 : List UInt8 := [42, 180, 1, 112, 199, 0, 7, 3, 167, 0, 10, 42, 180, 1, 112, 180, 0, 72, 172]
abbrev dktX1_clock_0 : List UInt8 := dkwX1_clock_0 ++ []
theorem dksX1_clock_0 : cX1_clock.data.toList.drop 0 = dktX1_clock_0 := by decide +kernel
theorem dX1_clock_0 : decode cX1_clock 0 = .ok (.aload_n 0, 1) := dk_42 (dk_at dksX1_clock_0 0 rfl rfl)
theorem dX1_clock_1 : decode cX1_clock 1 = .ok (.getfield 368, 3) := dk_180 1 112 (dk_at dksX1_clock_0 1 rfl rfl)
theorem dX1_clock_4 : decode cX1_clock 4 = .ok (.ifnonnull 7, 3) := dk_199 0 7 (dk_at dksX1_clock_0 4 rfl rfl)
theorem dX1_clock_7 : decode cX1_clock 7 = .ok (.iconst 0, 1) := dk_3 (dk_at dksX1_clock_0 7 rfl rfl)
theorem dX1_clock_8 : decode cX1_clock 8 = .ok (.goto 10, 3) := dk_167 0 10 (dk_at dksX1_clock_0 8 rfl rfl)
theorem dX1_clock_11 : decode cX1_clock 11 = .ok (.aload_n 0, 1) := dk_42 (dk_at dksX1_clock_0 11 rfl rfl)
theorem dX1_clock_12 : decode cX1_clock 12 = .ok (.getfield 368, 3) := dk_180 1 112 (dk_at dksX1_clock_0 12 rfl rfl)
theorem dX1_clock_15 : decode cX1_clock 15 = .ok (.getfield 72, 3) := dk_180 0 72 (dk_at dksX1_clock_0 15 rfl rfl)
theorem dX1_clock_18 : decode cX1_clock 18 = .ok (.ireturn, 1) := dk_172 (dk_at dksX1_clock_0 18 rfl rfl)
abbrev cX1_calls : ByteArray := prog_1_method_59_code
def yX1_calls : MethodName := ⟨RX1, "calls", "()I"⟩
def dkwX1_calls_0 : List UInt8 := [42, 180, 1, 112, 199, 0, 7, 3, 167, 0, 10, 42, 180, 1, 112, 180, 0, 235, 172]
abbrev dktX1_calls_0 : List UInt8 := dkwX1_calls_0 ++ []
theorem dksX1_calls_0 : cX1_calls.data.toList.drop 0 = dktX1_calls_0 := by decide +kernel
theorem dX1_calls_0 : decode cX1_calls 0 = .ok (.aload_n 0, 1) := dk_42 (dk_at dksX1_calls_0 0 rfl rfl)
theorem dX1_calls_1 : decode cX1_calls 1 = .ok (.getfield 368, 3) := dk_180 1 112 (dk_at dksX1_calls_0 1 rfl rfl)
theorem dX1_calls_4 : decode cX1_calls 4 = .ok (.ifnonnull 7, 3) := dk_199 0 7 (dk_at dksX1_calls_0 4 rfl rfl)
theorem dX1_calls_7 : decode cX1_calls 7 = .ok (.iconst 0, 1) := dk_3 (dk_at dksX1_calls_0 7 rfl rfl)
theorem dX1_calls_8 : decode cX1_calls 8 = .ok (.goto 10, 3) := dk_167 0 10 (dk_at dksX1_calls_0 8 rfl rfl)
theorem dX1_calls_11 : decode cX1_calls 11 = .ok (.aload_n 0, 1) := dk_42 (dk_at dksX1_calls_0 11 rfl rfl)
theorem dX1_calls_12 : decode cX1_calls 12 = .ok (.getfield 368, 3) := dk_180 1 112 (dk_at dksX1_calls_0 12 rfl rfl)
theorem dX1_calls_15 : decode cX1_calls 15 = .ok (.getfield 235, 3) := dk_180 0 235 (dk_at dksX1_calls_0 15 rfl rfl)
theorem dX1_calls_18 : decode cX1_calls 18 = .ok (.ireturn, 1) := dk_172 (dk_at dksX1_calls_0 18 rfl rfl)
abbrev cX1_credits : ByteArray := prog_1_method_73_code
def yX1_credits : MethodName := ⟨RX1, "credits", "()I"⟩
def dkwX1_credits_1 : List UInt8 := [180, 1, 112, 180, 0, 241, 28, 46, 96, 60, 132, 2, 1, 167, 255, 223, 27, 172]
abbrev dktX1_credits_1 : List UInt8 := dkwX1_credits_1 ++ []
def dkwX1_credits_0 : List UInt8 := [3, 60, 3, 61, 42, 180, 1, 112, 198, 0, 32, 28, 42, 180, 1, 112, 180, 0, 235, 162, 0, 21, 27, 42]
abbrev dktX1_credits_0 : List UInt8 := dkwX1_credits_0 ++ dktX1_credits_1
theorem dksX1_credits_0 : cX1_credits.data.toList.drop 0 = dktX1_credits_0 := by decide +kernel
theorem dksX1_credits_1 : cX1_credits.data.toList.drop 24 = dktX1_credits_1 := dk_seg dksX1_credits_0 24 rfl rfl
theorem dX1_credits_0 : decode cX1_credits 0 = .ok (.iconst 0, 1) := dk_3 (dk_at dksX1_credits_0 0 rfl rfl)
theorem dX1_credits_1 : decode cX1_credits 1 = .ok (.istore_n 1, 1) := dk_60 (dk_at dksX1_credits_0 1 rfl rfl)
theorem dX1_credits_2 : decode cX1_credits 2 = .ok (.iconst 0, 1) := dk_3 (dk_at dksX1_credits_0 2 rfl rfl)
theorem dX1_credits_3 : decode cX1_credits 3 = .ok (.istore_n 2, 1) := dk_61 (dk_at dksX1_credits_0 3 rfl rfl)
theorem dX1_credits_4 : decode cX1_credits 4 = .ok (.aload_n 0, 1) := dk_42 (dk_at dksX1_credits_0 4 rfl rfl)
theorem dX1_credits_5 : decode cX1_credits 5 = .ok (.getfield 368, 3) := dk_180 1 112 (dk_at dksX1_credits_0 5 rfl rfl)
theorem dX1_credits_8 : decode cX1_credits 8 = .ok (.ifnull 32, 3) := dk_198 0 32 (dk_at dksX1_credits_0 8 rfl rfl)
theorem dX1_credits_11 : decode cX1_credits 11 = .ok (.iload_n 2, 1) := dk_28 (dk_at dksX1_credits_0 11 rfl rfl)
theorem dX1_credits_12 : decode cX1_credits 12 = .ok (.aload_n 0, 1) := dk_42 (dk_at dksX1_credits_0 12 rfl rfl)
theorem dX1_credits_13 : decode cX1_credits 13 = .ok (.getfield 368, 3) := dk_180 1 112 (dk_at dksX1_credits_0 13 rfl rfl)
theorem dX1_credits_16 : decode cX1_credits 16 = .ok (.getfield 235, 3) := dk_180 0 235 (dk_at dksX1_credits_0 16 rfl rfl)
theorem dX1_credits_19 : decode cX1_credits 19 = .ok (.if_icmp .ge 21, 3) := dk_162 0 21 (dk_at dksX1_credits_0 19 rfl rfl)
theorem dX1_credits_22 : decode cX1_credits 22 = .ok (.iload_n 1, 1) := dk_27 (dk_at dksX1_credits_0 22 rfl rfl)
theorem dX1_credits_23 : decode cX1_credits 23 = .ok (.aload_n 0, 1) := dk_42 (dk_at dksX1_credits_0 23 rfl rfl)
theorem dX1_credits_24 : decode cX1_credits 24 = .ok (.getfield 368, 3) := dk_180 1 112 (dk_at dksX1_credits_1 0 rfl rfl)
theorem dX1_credits_27 : decode cX1_credits 27 = .ok (.getfield 241, 3) := dk_180 0 241 (dk_at dksX1_credits_1 3 rfl rfl)
theorem dX1_credits_30 : decode cX1_credits 30 = .ok (.iload_n 2, 1) := dk_28 (dk_at dksX1_credits_1 6 rfl rfl)
theorem dX1_credits_31 : decode cX1_credits 31 = .ok (.iaload, 1) := dk_46 (dk_at dksX1_credits_1 7 rfl rfl)
theorem dX1_credits_32 : decode cX1_credits 32 = .ok (.iadd, 1) := dk_96 (dk_at dksX1_credits_1 8 rfl rfl)
theorem dX1_credits_33 : decode cX1_credits 33 = .ok (.istore_n 1, 1) := dk_60 (dk_at dksX1_credits_1 9 rfl rfl)
theorem dX1_credits_34 : decode cX1_credits 34 = .ok (.iinc 2 1, 3) := dk_132 2 1 (dk_at dksX1_credits_1 10 rfl rfl)
theorem dX1_credits_37 : decode cX1_credits 37 = .ok (.goto (-33), 3) := dk_167 255 223 (dk_at dksX1_credits_1 13 rfl rfl)
theorem dX1_credits_40 : decode cX1_credits 40 = .ok (.iload_n 1, 1) := dk_27 (dk_at dksX1_credits_1 16 rfl rfl)
theorem dX1_credits_41 : decode cX1_credits 41 = .ok (.ireturn, 1) := dk_172 (dk_at dksX1_credits_1 17 rfl rfl)
abbrev cX1_drivingAll : ByteArray := prog_1_method_74_code
def yX1_drivingAll : MethodName := ⟨RX1, "drivingAll", "()I"⟩
def dkwX1_drivingAll_0 : List UInt8 := [42, 180, 1, 112, 199, 0, 7, 3, 167, 0, 11, 42, 42, 180, 1, 112, 182, 1, 163, 172]
abbrev dktX1_drivingAll_0 : List UInt8 := dkwX1_drivingAll_0 ++ []
theorem dksX1_drivingAll_0 : cX1_drivingAll.data.toList.drop 0 = dktX1_drivingAll_0 := by decide +kernel
theorem dX1_drivingAll_0 : decode cX1_drivingAll 0 = .ok (.aload_n 0, 1) := dk_42 (dk_at dksX1_drivingAll_0 0 rfl rfl)
theorem dX1_drivingAll_1 : decode cX1_drivingAll 1 = .ok (.getfield 368, 3) := dk_180 1 112 (dk_at dksX1_drivingAll_0 1 rfl rfl)
theorem dX1_drivingAll_4 : decode cX1_drivingAll 4 = .ok (.ifnonnull 7, 3) := dk_199 0 7 (dk_at dksX1_drivingAll_0 4 rfl rfl)
theorem dX1_drivingAll_7 : decode cX1_drivingAll 7 = .ok (.iconst 0, 1) := dk_3 (dk_at dksX1_drivingAll_0 7 rfl rfl)
theorem dX1_drivingAll_8 : decode cX1_drivingAll 8 = .ok (.goto 11, 3) := dk_167 0 11 (dk_at dksX1_drivingAll_0 8 rfl rfl)
theorem dX1_drivingAll_11 : decode cX1_drivingAll 11 = .ok (.aload_n 0, 1) := dk_42 (dk_at dksX1_drivingAll_0 11 rfl rfl)
theorem dX1_drivingAll_12 : decode cX1_drivingAll 12 = .ok (.aload_n 0, 1) := dk_42 (dk_at dksX1_drivingAll_0 12 rfl rfl)
theorem dX1_drivingAll_13 : decode cX1_drivingAll 13 = .ok (.getfield 368, 3) := dk_180 1 112 (dk_at dksX1_drivingAll_0 13 rfl rfl)
theorem dX1_drivingAll_16 : decode cX1_drivingAll 16 = .ok (.invokevirtual 419, 3) := dk_182 1 163 (dk_at dksX1_drivingAll_0 16 rfl rfl)
theorem dX1_drivingAll_19 : decode cX1_drivingAll 19 = .ok (.ireturn, 1) := dk_172 (dk_at dksX1_drivingAll_0 19 rfl rfl)
abbrev cX1_drivingAll_2 : ByteArray := prog_1_method_27_code
def yX1_drivingAll_2 : MethodName := ⟨RX1, "drivingAll", "(LRideDesk$State;)I"⟩
def dkwX1_drivingAll_2_1 : List UInt8 := [180, 0, 156, 29, 50, 182, 1, 30, 96, 61, 132, 3, 1, 167, 255, 223, 28, 172]
abbrev dktX1_drivingAll_2_1 : List UInt8 := dkwX1_drivingAll_2_1 ++ []
def dkwX1_drivingAll_2_0 : List UInt8 := [3, 61, 3, 62, 29, 42, 180, 0, 15, 180, 0, 19, 185, 0, 153, 1, 0, 162, 0, 23, 28, 42, 29, 43]
abbrev dktX1_drivingAll_2_0 : List UInt8 := dkwX1_drivingAll_2_0 ++ dktX1_drivingAll_2_1
theorem dksX1_drivingAll_2_0 : cX1_drivingAll_2.data.toList.drop 0 = dktX1_drivingAll_2_0 := by decide +kernel
theorem dksX1_drivingAll_2_1 : cX1_drivingAll_2.data.toList.drop 24 = dktX1_drivingAll_2_1 := dk_seg dksX1_drivingAll_2_0 24 rfl rfl
theorem dX1_drivingAll_2_0 : decode cX1_drivingAll_2 0 = .ok (.iconst 0, 1) := dk_3 (dk_at dksX1_drivingAll_2_0 0 rfl rfl)
theorem dX1_drivingAll_2_1 : decode cX1_drivingAll_2 1 = .ok (.istore_n 2, 1) := dk_61 (dk_at dksX1_drivingAll_2_0 1 rfl rfl)
theorem dX1_drivingAll_2_2 : decode cX1_drivingAll_2 2 = .ok (.iconst 0, 1) := dk_3 (dk_at dksX1_drivingAll_2_0 2 rfl rfl)
theorem dX1_drivingAll_2_3 : decode cX1_drivingAll_2 3 = .ok (.istore_n 3, 1) := dk_62 (dk_at dksX1_drivingAll_2_0 3 rfl rfl)
theorem dX1_drivingAll_2_4 : decode cX1_drivingAll_2 4 = .ok (.iload_n 3, 1) := dk_29 (dk_at dksX1_drivingAll_2_0 4 rfl rfl)
theorem dX1_drivingAll_2_5 : decode cX1_drivingAll_2 5 = .ok (.aload_n 0, 1) := dk_42 (dk_at dksX1_drivingAll_2_0 5 rfl rfl)
theorem dX1_drivingAll_2_6 : decode cX1_drivingAll_2 6 = .ok (.getfield 15, 3) := dk_180 0 15 (dk_at dksX1_drivingAll_2_0 6 rfl rfl)
theorem dX1_drivingAll_2_9 : decode cX1_drivingAll_2 9 = .ok (.getfield 19, 3) := dk_180 0 19 (dk_at dksX1_drivingAll_2_0 9 rfl rfl)
theorem dX1_drivingAll_2_12 : decode cX1_drivingAll_2 12 = .ok (.invokeinterface 153 1, 5) := by decide +kernel
theorem dX1_drivingAll_2_17 : decode cX1_drivingAll_2 17 = .ok (.if_icmp .ge 23, 3) := dk_162 0 23 (dk_at dksX1_drivingAll_2_0 17 rfl rfl)
theorem dX1_drivingAll_2_20 : decode cX1_drivingAll_2 20 = .ok (.iload_n 2, 1) := dk_28 (dk_at dksX1_drivingAll_2_0 20 rfl rfl)
theorem dX1_drivingAll_2_21 : decode cX1_drivingAll_2 21 = .ok (.aload_n 0, 1) := dk_42 (dk_at dksX1_drivingAll_2_0 21 rfl rfl)
theorem dX1_drivingAll_2_22 : decode cX1_drivingAll_2 22 = .ok (.iload_n 3, 1) := dk_29 (dk_at dksX1_drivingAll_2_0 22 rfl rfl)
theorem dX1_drivingAll_2_23 : decode cX1_drivingAll_2 23 = .ok (.aload_n 1, 1) := dk_43 (dk_at dksX1_drivingAll_2_0 23 rfl rfl)
theorem dX1_drivingAll_2_24 : decode cX1_drivingAll_2 24 = .ok (.getfield 156, 3) := dk_180 0 156 (dk_at dksX1_drivingAll_2_1 0 rfl rfl)
theorem dX1_drivingAll_2_27 : decode cX1_drivingAll_2 27 = .ok (.iload_n 3, 1) := dk_29 (dk_at dksX1_drivingAll_2_1 3 rfl rfl)
theorem dX1_drivingAll_2_28 : decode cX1_drivingAll_2 28 = .ok (.aaload, 1) := dk_50 (dk_at dksX1_drivingAll_2_1 4 rfl rfl)
theorem dX1_drivingAll_2_29 : decode cX1_drivingAll_2 29 = .ok (.invokevirtual 286, 3) := dk_182 1 30 (dk_at dksX1_drivingAll_2_1 5 rfl rfl)
theorem dX1_drivingAll_2_32 : decode cX1_drivingAll_2 32 = .ok (.iadd, 1) := dk_96 (dk_at dksX1_drivingAll_2_1 8 rfl rfl)
theorem dX1_drivingAll_2_33 : decode cX1_drivingAll_2 33 = .ok (.istore_n 2, 1) := dk_61 (dk_at dksX1_drivingAll_2_1 9 rfl rfl)
theorem dX1_drivingAll_2_34 : decode cX1_drivingAll_2 34 = .ok (.iinc 3 1, 3) := dk_132 3 1 (dk_at dksX1_drivingAll_2_1 10 rfl rfl)
theorem dX1_drivingAll_2_37 : decode cX1_drivingAll_2 37 = .ok (.goto (-33), 3) := dk_167 255 223 (dk_at dksX1_drivingAll_2_1 13 rfl rfl)
theorem dX1_drivingAll_2_40 : decode cX1_drivingAll_2 40 = .ok (.iload_n 2, 1) := dk_28 (dk_at dksX1_drivingAll_2_1 16 rfl rfl)
theorem dX1_drivingAll_2_41 : decode cX1_drivingAll_2 41 = .ok (.ireturn, 1) := dk_172 (dk_at dksX1_drivingAll_2_1 17 rfl rfl)
abbrev cX1_driving : ByteArray := prog_1_method_9_code
def yX1_driving : MethodName := ⟨RX1, "driving", "(ILRideDesk$Route;)I"⟩
def dkwX1_driving_3 : List UInt8 := [132, 4, 1, 167, 255, 233, 29, 172]
abbrev dktX1_driving_3 : List UInt8 := dkwX1_driving_3 ++ []
def dkwX1_driving_2 : List UInt8 := [62, 3, 54, 4, 21, 4, 44, 180, 0, 3, 162, 0, 20, 29, 42, 27, 44, 21, 4, 182, 0, 92, 96, 62]
abbrev dktX1_driving_2 : List UInt8 := dkwX1_driving_2 ++ dktX1_driving_3
def dkwX1_driving_1 : List UInt8 := [100, 50, 180, 0, 37, 42, 180, 0, 15, 180, 0, 19, 27, 185, 0, 25, 2, 0, 192, 0, 31, 182, 0, 47]
abbrev dktX1_driving_1 : List UInt8 := dkwX1_driving_1 ++ dktX1_driving_2
def dkwX1_driving_0 : List UInt8 := [44, 180, 0, 3, 154, 0, 7, 3, 167, 0, 40, 42, 180, 0, 15, 44, 180, 0, 33, 44, 180, 0, 3, 4]
abbrev dktX1_driving_0 : List UInt8 := dkwX1_driving_0 ++ dktX1_driving_1
theorem dksX1_driving_0 : cX1_driving.data.toList.drop 0 = dktX1_driving_0 := by decide +kernel
theorem dksX1_driving_1 : cX1_driving.data.toList.drop 24 = dktX1_driving_1 := dk_seg dksX1_driving_0 24 rfl rfl
theorem dksX1_driving_2 : cX1_driving.data.toList.drop 48 = dktX1_driving_2 := dk_seg dksX1_driving_1 24 rfl rfl
theorem dksX1_driving_3 : cX1_driving.data.toList.drop 72 = dktX1_driving_3 := dk_seg dksX1_driving_2 24 rfl rfl
theorem dX1_driving_0 : decode cX1_driving 0 = .ok (.aload_n 2, 1) := dk_44 (dk_at dksX1_driving_0 0 rfl rfl)
theorem dX1_driving_1 : decode cX1_driving 1 = .ok (.getfield 3, 3) := dk_180 0 3 (dk_at dksX1_driving_0 1 rfl rfl)
theorem dX1_driving_4 : decode cX1_driving 4 = .ok (.ifCond .ne 7, 3) := dk_154 0 7 (dk_at dksX1_driving_0 4 rfl rfl)
theorem dX1_driving_7 : decode cX1_driving 7 = .ok (.iconst 0, 1) := dk_3 (dk_at dksX1_driving_0 7 rfl rfl)
theorem dX1_driving_8 : decode cX1_driving 8 = .ok (.goto 40, 3) := dk_167 0 40 (dk_at dksX1_driving_0 8 rfl rfl)
theorem dX1_driving_11 : decode cX1_driving 11 = .ok (.aload_n 0, 1) := dk_42 (dk_at dksX1_driving_0 11 rfl rfl)
theorem dX1_driving_12 : decode cX1_driving 12 = .ok (.getfield 15, 3) := dk_180 0 15 (dk_at dksX1_driving_0 12 rfl rfl)
theorem dX1_driving_15 : decode cX1_driving 15 = .ok (.aload_n 2, 1) := dk_44 (dk_at dksX1_driving_0 15 rfl rfl)
theorem dX1_driving_16 : decode cX1_driving 16 = .ok (.getfield 33, 3) := dk_180 0 33 (dk_at dksX1_driving_0 16 rfl rfl)
theorem dX1_driving_19 : decode cX1_driving 19 = .ok (.aload_n 2, 1) := dk_44 (dk_at dksX1_driving_0 19 rfl rfl)
theorem dX1_driving_20 : decode cX1_driving 20 = .ok (.getfield 3, 3) := dk_180 0 3 (dk_at dksX1_driving_0 20 rfl rfl)
theorem dX1_driving_23 : decode cX1_driving 23 = .ok (.iconst 1, 1) := dk_4 (dk_at dksX1_driving_0 23 rfl rfl)
theorem dX1_driving_24 : decode cX1_driving 24 = .ok (.isub, 1) := dk_100 (dk_at dksX1_driving_1 0 rfl rfl)
theorem dX1_driving_25 : decode cX1_driving 25 = .ok (.aaload, 1) := dk_50 (dk_at dksX1_driving_1 1 rfl rfl)
theorem dX1_driving_26 : decode cX1_driving 26 = .ok (.getfield 37, 3) := dk_180 0 37 (dk_at dksX1_driving_1 2 rfl rfl)
theorem dX1_driving_29 : decode cX1_driving 29 = .ok (.aload_n 0, 1) := dk_42 (dk_at dksX1_driving_1 5 rfl rfl)
theorem dX1_driving_30 : decode cX1_driving 30 = .ok (.getfield 15, 3) := dk_180 0 15 (dk_at dksX1_driving_1 6 rfl rfl)
theorem dX1_driving_33 : decode cX1_driving 33 = .ok (.getfield 19, 3) := dk_180 0 19 (dk_at dksX1_driving_1 9 rfl rfl)
theorem dX1_driving_36 : decode cX1_driving 36 = .ok (.iload_n 1, 1) := dk_27 (dk_at dksX1_driving_1 12 rfl rfl)
theorem dX1_driving_37 : decode cX1_driving 37 = .ok (.invokeinterface 25 2, 5) := by decide +kernel
theorem dX1_driving_42 : decode cX1_driving 42 = .ok (.checkcast 31, 3) := dk_192 0 31 (dk_at dksX1_driving_1 18 rfl rfl)
theorem dX1_driving_45 : decode cX1_driving 45 = .ok (.invokevirtual 47, 3) := dk_182 0 47 (dk_at dksX1_driving_1 21 rfl rfl)
theorem dX1_driving_48 : decode cX1_driving 48 = .ok (.istore_n 3, 1) := dk_62 (dk_at dksX1_driving_2 0 rfl rfl)
theorem dX1_driving_49 : decode cX1_driving 49 = .ok (.iconst 0, 1) := dk_3 (dk_at dksX1_driving_2 1 rfl rfl)
theorem dX1_driving_50 : decode cX1_driving 50 = .ok (.istore 4, 2) := dk_54 4 (dk_at dksX1_driving_2 2 rfl rfl)
theorem dX1_driving_52 : decode cX1_driving 52 = .ok (.iload 4, 2) := dk_21 4 (dk_at dksX1_driving_2 4 rfl rfl)
theorem dX1_driving_54 : decode cX1_driving 54 = .ok (.aload_n 2, 1) := dk_44 (dk_at dksX1_driving_2 6 rfl rfl)
theorem dX1_driving_55 : decode cX1_driving 55 = .ok (.getfield 3, 3) := dk_180 0 3 (dk_at dksX1_driving_2 7 rfl rfl)
theorem dX1_driving_58 : decode cX1_driving 58 = .ok (.if_icmp .ge 20, 3) := dk_162 0 20 (dk_at dksX1_driving_2 10 rfl rfl)
theorem dX1_driving_61 : decode cX1_driving 61 = .ok (.iload_n 3, 1) := dk_29 (dk_at dksX1_driving_2 13 rfl rfl)
theorem dX1_driving_62 : decode cX1_driving 62 = .ok (.aload_n 0, 1) := dk_42 (dk_at dksX1_driving_2 14 rfl rfl)
theorem dX1_driving_63 : decode cX1_driving 63 = .ok (.iload_n 1, 1) := dk_27 (dk_at dksX1_driving_2 15 rfl rfl)
theorem dX1_driving_64 : decode cX1_driving 64 = .ok (.aload_n 2, 1) := dk_44 (dk_at dksX1_driving_2 16 rfl rfl)
theorem dX1_driving_65 : decode cX1_driving 65 = .ok (.iload 4, 2) := dk_21 4 (dk_at dksX1_driving_2 17 rfl rfl)
theorem dX1_driving_67 : decode cX1_driving 67 = .ok (.invokevirtual 92, 3) := dk_182 0 92 (dk_at dksX1_driving_2 19 rfl rfl)
theorem dX1_driving_70 : decode cX1_driving 70 = .ok (.iadd, 1) := dk_96 (dk_at dksX1_driving_2 22 rfl rfl)
theorem dX1_driving_71 : decode cX1_driving 71 = .ok (.istore_n 3, 1) := dk_62 (dk_at dksX1_driving_2 23 rfl rfl)
theorem dX1_driving_72 : decode cX1_driving 72 = .ok (.iinc 4 1, 3) := dk_132 4 1 (dk_at dksX1_driving_3 0 rfl rfl)
theorem dX1_driving_75 : decode cX1_driving 75 = .ok (.goto (-23), 3) := dk_167 255 233 (dk_at dksX1_driving_3 3 rfl rfl)
theorem dX1_driving_78 : decode cX1_driving 78 = .ok (.iload_n 3, 1) := dk_29 (dk_at dksX1_driving_3 6 rfl rfl)
theorem dX1_driving_79 : decode cX1_driving 79 = .ok (.ireturn, 1) := dk_172 (dk_at dksX1_driving_3 7 rfl rfl)
abbrev cX1_wayTo : ByteArray := prog_1_method_4_code
def yX1_wayTo : MethodName := ⟨RX1, "wayTo", "(ILRideDesk$Route;I)I"⟩
def dkwX1_wayTo_0 : List UInt8 := [42, 180, 0, 15, 42, 27, 44, 29, 182, 0, 43, 44, 180, 0, 33, 29, 50, 180, 0, 37, 182, 0, 47, 172]
abbrev dktX1_wayTo_0 : List UInt8 := dkwX1_wayTo_0 ++ []
theorem dksX1_wayTo_0 : cX1_wayTo.data.toList.drop 0 = dktX1_wayTo_0 := by decide +kernel
theorem dX1_wayTo_0 : decode cX1_wayTo 0 = .ok (.aload_n 0, 1) := dk_42 (dk_at dksX1_wayTo_0 0 rfl rfl)
theorem dX1_wayTo_1 : decode cX1_wayTo 1 = .ok (.getfield 15, 3) := dk_180 0 15 (dk_at dksX1_wayTo_0 1 rfl rfl)
theorem dX1_wayTo_4 : decode cX1_wayTo 4 = .ok (.aload_n 0, 1) := dk_42 (dk_at dksX1_wayTo_0 4 rfl rfl)
theorem dX1_wayTo_5 : decode cX1_wayTo 5 = .ok (.iload_n 1, 1) := dk_27 (dk_at dksX1_wayTo_0 5 rfl rfl)
theorem dX1_wayTo_6 : decode cX1_wayTo 6 = .ok (.aload_n 2, 1) := dk_44 (dk_at dksX1_wayTo_0 6 rfl rfl)
theorem dX1_wayTo_7 : decode cX1_wayTo 7 = .ok (.iload_n 3, 1) := dk_29 (dk_at dksX1_wayTo_0 7 rfl rfl)
theorem dX1_wayTo_8 : decode cX1_wayTo 8 = .ok (.invokevirtual 43, 3) := dk_182 0 43 (dk_at dksX1_wayTo_0 8 rfl rfl)
theorem dX1_wayTo_11 : decode cX1_wayTo 11 = .ok (.aload_n 2, 1) := dk_44 (dk_at dksX1_wayTo_0 11 rfl rfl)
theorem dX1_wayTo_12 : decode cX1_wayTo 12 = .ok (.getfield 33, 3) := dk_180 0 33 (dk_at dksX1_wayTo_0 12 rfl rfl)
theorem dX1_wayTo_15 : decode cX1_wayTo 15 = .ok (.iload_n 3, 1) := dk_29 (dk_at dksX1_wayTo_0 15 rfl rfl)
theorem dX1_wayTo_16 : decode cX1_wayTo 16 = .ok (.aaload, 1) := dk_50 (dk_at dksX1_wayTo_0 16 rfl rfl)
theorem dX1_wayTo_17 : decode cX1_wayTo 17 = .ok (.getfield 37, 3) := dk_180 0 37 (dk_at dksX1_wayTo_0 17 rfl rfl)
theorem dX1_wayTo_20 : decode cX1_wayTo 20 = .ok (.invokevirtual 47, 3) := dk_182 0 47 (dk_at dksX1_wayTo_0 20 rfl rfl)
theorem dX1_wayTo_23 : decode cX1_wayTo 23 = .ok (.ireturn, 1) := dk_172 (dk_at dksX1_wayTo_0 23 rfl rfl)
abbrev cX1_spotBefore : ByteArray := prog_1_method_3_code
def yX1_spotBefore : MethodName := ⟨RX1, "spotBefore", "(ILRideDesk$Route;I)LRideDesk$Spot;"⟩
def dkwX1_spotBefore_1 : List UInt8 := [180, 0, 33, 29, 4, 100, 50, 180, 0, 37, 176]
abbrev dktX1_spotBefore_1 : List UInt8 := dkwX1_spotBefore_1 ++ []
def dkwX1_spotBefore_0 : List UInt8 := [29, 154, 0, 22, 42, 180, 0, 15, 180, 0, 19, 27, 185, 0, 25, 2, 0, 192, 0, 31, 167, 0, 14, 44]
abbrev dktX1_spotBefore_0 : List UInt8 := dkwX1_spotBefore_0 ++ dktX1_spotBefore_1
theorem dksX1_spotBefore_0 : cX1_spotBefore.data.toList.drop 0 = dktX1_spotBefore_0 := by decide +kernel
theorem dksX1_spotBefore_1 : cX1_spotBefore.data.toList.drop 24 = dktX1_spotBefore_1 := dk_seg dksX1_spotBefore_0 24 rfl rfl
theorem dX1_spotBefore_0 : decode cX1_spotBefore 0 = .ok (.iload_n 3, 1) := dk_29 (dk_at dksX1_spotBefore_0 0 rfl rfl)
theorem dX1_spotBefore_1 : decode cX1_spotBefore 1 = .ok (.ifCond .ne 22, 3) := dk_154 0 22 (dk_at dksX1_spotBefore_0 1 rfl rfl)
theorem dX1_spotBefore_4 : decode cX1_spotBefore 4 = .ok (.aload_n 0, 1) := dk_42 (dk_at dksX1_spotBefore_0 4 rfl rfl)
theorem dX1_spotBefore_5 : decode cX1_spotBefore 5 = .ok (.getfield 15, 3) := dk_180 0 15 (dk_at dksX1_spotBefore_0 5 rfl rfl)
theorem dX1_spotBefore_8 : decode cX1_spotBefore 8 = .ok (.getfield 19, 3) := dk_180 0 19 (dk_at dksX1_spotBefore_0 8 rfl rfl)
theorem dX1_spotBefore_11 : decode cX1_spotBefore 11 = .ok (.iload_n 1, 1) := dk_27 (dk_at dksX1_spotBefore_0 11 rfl rfl)
theorem dX1_spotBefore_12 : decode cX1_spotBefore 12 = .ok (.invokeinterface 25 2, 5) := by decide +kernel
theorem dX1_spotBefore_17 : decode cX1_spotBefore 17 = .ok (.checkcast 31, 3) := dk_192 0 31 (dk_at dksX1_spotBefore_0 17 rfl rfl)
theorem dX1_spotBefore_20 : decode cX1_spotBefore 20 = .ok (.goto 14, 3) := dk_167 0 14 (dk_at dksX1_spotBefore_0 20 rfl rfl)
theorem dX1_spotBefore_23 : decode cX1_spotBefore 23 = .ok (.aload_n 2, 1) := dk_44 (dk_at dksX1_spotBefore_0 23 rfl rfl)
theorem dX1_spotBefore_24 : decode cX1_spotBefore 24 = .ok (.getfield 33, 3) := dk_180 0 33 (dk_at dksX1_spotBefore_1 0 rfl rfl)
theorem dX1_spotBefore_27 : decode cX1_spotBefore 27 = .ok (.iload_n 3, 1) := dk_29 (dk_at dksX1_spotBefore_1 3 rfl rfl)
theorem dX1_spotBefore_28 : decode cX1_spotBefore 28 = .ok (.iconst 1, 1) := dk_4 (dk_at dksX1_spotBefore_1 4 rfl rfl)
theorem dX1_spotBefore_29 : decode cX1_spotBefore 29 = .ok (.isub, 1) := dk_100 (dk_at dksX1_spotBefore_1 5 rfl rfl)
theorem dX1_spotBefore_30 : decode cX1_spotBefore 30 = .ok (.aaload, 1) := dk_50 (dk_at dksX1_spotBefore_1 6 rfl rfl)
theorem dX1_spotBefore_31 : decode cX1_spotBefore 31 = .ok (.getfield 37, 3) := dk_180 0 37 (dk_at dksX1_spotBefore_1 7 rfl rfl)
theorem dX1_spotBefore_34 : decode cX1_spotBefore 34 = .ok (.areturn, 1) := dk_176 (dk_at dksX1_spotBefore_1 10 rfl rfl)
abbrev cX1_undoable : ByteArray := prog_1_method_101_code
def yX1_undoable : MethodName := ⟨RX1, "undoable", "()I"⟩
def dkwX1_undoable_0 : List UInt8 := [42, 180, 1, 44, 185, 2, 6, 1, 0, 172]
abbrev dktX1_undoable_0 : List UInt8 := dkwX1_undoable_0 ++ []
theorem dksX1_undoable_0 : cX1_undoable.data.toList.drop 0 = dktX1_undoable_0 := by decide +kernel
theorem dX1_undoable_0 : decode cX1_undoable 0 = .ok (.aload_n 0, 1) := dk_42 (dk_at dksX1_undoable_0 0 rfl rfl)
theorem dX1_undoable_1 : decode cX1_undoable 1 = .ok (.getfield 300, 3) := dk_180 1 44 (dk_at dksX1_undoable_0 1 rfl rfl)
theorem dX1_undoable_4 : decode cX1_undoable 4 = .ok (.invokeinterface 518 1, 5) := by decide +kernel
theorem dX1_undoable_9 : decode cX1_undoable 9 = .ok (.ireturn, 1) := dk_172 (dk_at dksX1_undoable_0 9 rfl rfl)
abbrev cX1_load : ByteArray := prog_1_method_30_code
def yX1_load : MethodName := ⟨RX1, "load", "(I)I"⟩
def dkwX1_load_4 : List UInt8 := [42, 3, 181, 1, 63, 42, 28, 181, 1, 96, 42, 29, 181, 1, 57, 25, 5, 191]
abbrev dktX1_load_4 : List UInt8 := dkwX1_load_4 ++ []
def dkwX1_load_3 : List UInt8 := [58, 4, 25, 4, 180, 1, 101, 61, 25, 4, 180, 1, 103, 62, 187, 1, 106, 89, 183, 1, 108, 191, 58, 5]
abbrev dktX1_load_3 : List UInt8 := dkwX1_load_3 ++ dktX1_load_4
def dkwX1_load_2 : List UInt8 := [4, 182, 1, 93, 54, 4, 42, 3, 181, 1, 63, 42, 28, 181, 1, 96, 42, 29, 181, 1, 57, 21, 4, 172]
abbrev dktX1_load_2 : List UInt8 := dkwX1_load_2 ++ dktX1_load_3
def dkwX1_load_1 : List UInt8 := [183, 1, 76, 182, 1, 79, 42, 180, 1, 44, 185, 1, 82, 1, 0, 42, 180, 1, 48, 1, 184, 1, 87, 42]
abbrev dktX1_load_1 : List UInt8 := dkwX1_load_1 ++ dktX1_load_2
def dkwX1_load_0 : List UInt8 := [27, 3, 42, 180, 1, 63, 184, 1, 66, 184, 1, 70, 3, 61, 2, 62, 187, 1, 74, 89, 42, 27]
abbrev dktX1_load_0 : List UInt8 := dkwX1_load_0 ++ dktX1_load_1
theorem dksX1_load_0 : cX1_load.data.toList.drop 0 = dktX1_load_0 := by decide +kernel
theorem dksX1_load_1 : cX1_load.data.toList.drop 22 = dktX1_load_1 := dk_seg dksX1_load_0 22 rfl rfl
theorem dksX1_load_2 : cX1_load.data.toList.drop 46 = dktX1_load_2 := dk_seg dksX1_load_1 24 rfl rfl
theorem dksX1_load_3 : cX1_load.data.toList.drop 70 = dktX1_load_3 := dk_seg dksX1_load_2 24 rfl rfl
theorem dksX1_load_4 : cX1_load.data.toList.drop 94 = dktX1_load_4 := dk_seg dksX1_load_3 24 rfl rfl
theorem dX1_load_0 : decode cX1_load 0 = .ok (.iload_n 1, 1) := dk_27 (dk_at dksX1_load_0 0 rfl rfl)
theorem dX1_load_1 : decode cX1_load 1 = .ok (.iconst 0, 1) := dk_3 (dk_at dksX1_load_0 1 rfl rfl)
theorem dX1_load_2 : decode cX1_load 2 = .ok (.aload_n 0, 1) := dk_42 (dk_at dksX1_load_0 2 rfl rfl)
theorem dX1_load_3 : decode cX1_load 3 = .ok (.getfield 319, 3) := dk_180 1 63 (dk_at dksX1_load_0 3 rfl rfl)
theorem dX1_load_6 : decode cX1_load 6 = .ok (.invokestatic 322, 3) := dk_184 1 66 (dk_at dksX1_load_0 6 rfl rfl)
theorem dX1_load_9 : decode cX1_load 9 = .ok (.invokestatic 326, 3) := dk_184 1 70 (dk_at dksX1_load_0 9 rfl rfl)
theorem dX1_load_12 : decode cX1_load 12 = .ok (.iconst 0, 1) := dk_3 (dk_at dksX1_load_0 12 rfl rfl)
theorem dX1_load_13 : decode cX1_load 13 = .ok (.istore_n 2, 1) := dk_61 (dk_at dksX1_load_0 13 rfl rfl)
theorem dX1_load_14 : decode cX1_load 14 = .ok (.iconst (-1), 1) := dk_2 (dk_at dksX1_load_0 14 rfl rfl)
theorem dX1_load_15 : decode cX1_load 15 = .ok (.istore_n 3, 1) := dk_62 (dk_at dksX1_load_0 15 rfl rfl)
theorem dX1_load_16 : decode cX1_load 16 = .ok (.new 330, 3) := dk_187 1 74 (dk_at dksX1_load_0 16 rfl rfl)
theorem dX1_load_19 : decode cX1_load 19 = .ok (.dup, 1) := dk_89 (dk_at dksX1_load_0 19 rfl rfl)
theorem dX1_load_20 : decode cX1_load 20 = .ok (.aload_n 0, 1) := dk_42 (dk_at dksX1_load_0 20 rfl rfl)
theorem dX1_load_21 : decode cX1_load 21 = .ok (.iload_n 1, 1) := dk_27 (dk_at dksX1_load_0 21 rfl rfl)
theorem dX1_load_22 : decode cX1_load 22 = .ok (.invokespecial 332, 3) := dk_183 1 76 (dk_at dksX1_load_1 0 rfl rfl)
theorem dX1_load_25 : decode cX1_load 25 = .ok (.invokevirtual 335, 3) := dk_182 1 79 (dk_at dksX1_load_1 3 rfl rfl)
theorem dX1_load_28 : decode cX1_load 28 = .ok (.aload_n 0, 1) := dk_42 (dk_at dksX1_load_1 6 rfl rfl)
theorem dX1_load_29 : decode cX1_load 29 = .ok (.getfield 300, 3) := dk_180 1 44 (dk_at dksX1_load_1 7 rfl rfl)
theorem dX1_load_32 : decode cX1_load 32 = .ok (.invokeinterface 338 1, 5) := by decide +kernel
theorem dX1_load_37 : decode cX1_load 37 = .ok (.aload_n 0, 1) := dk_42 (dk_at dksX1_load_1 15 rfl rfl)
theorem dX1_load_38 : decode cX1_load 38 = .ok (.getfield 304, 3) := dk_180 1 48 (dk_at dksX1_load_1 16 rfl rfl)
theorem dX1_load_41 : decode cX1_load 41 = .ok (.aconst_null, 1) := dk_1 (dk_at dksX1_load_1 19 rfl rfl)
theorem dX1_load_42 : decode cX1_load 42 = .ok (.invokestatic 343, 3) := dk_184 1 87 (dk_at dksX1_load_1 20 rfl rfl)
theorem dX1_load_45 : decode cX1_load 45 = .ok (.aload_n 0, 1) := dk_42 (dk_at dksX1_load_1 23 rfl rfl)
theorem dX1_load_46 : decode cX1_load 46 = .ok (.iconst 1, 1) := dk_4 (dk_at dksX1_load_2 0 rfl rfl)
theorem dX1_load_47 : decode cX1_load 47 = .ok (.invokevirtual 349, 3) := dk_182 1 93 (dk_at dksX1_load_2 1 rfl rfl)
theorem dX1_load_50 : decode cX1_load 50 = .ok (.istore 4, 2) := dk_54 4 (dk_at dksX1_load_2 4 rfl rfl)
theorem dX1_load_52 : decode cX1_load 52 = .ok (.aload_n 0, 1) := dk_42 (dk_at dksX1_load_2 6 rfl rfl)
theorem dX1_load_53 : decode cX1_load 53 = .ok (.iconst 0, 1) := dk_3 (dk_at dksX1_load_2 7 rfl rfl)
theorem dX1_load_54 : decode cX1_load 54 = .ok (.putfield 319, 3) := dk_181 1 63 (dk_at dksX1_load_2 8 rfl rfl)
theorem dX1_load_57 : decode cX1_load 57 = .ok (.aload_n 0, 1) := dk_42 (dk_at dksX1_load_2 11 rfl rfl)
theorem dX1_load_58 : decode cX1_load 58 = .ok (.iload_n 2, 1) := dk_28 (dk_at dksX1_load_2 12 rfl rfl)
theorem dX1_load_59 : decode cX1_load 59 = .ok (.putfield 352, 3) := dk_181 1 96 (dk_at dksX1_load_2 13 rfl rfl)
theorem dX1_load_62 : decode cX1_load 62 = .ok (.aload_n 0, 1) := dk_42 (dk_at dksX1_load_2 16 rfl rfl)
theorem dX1_load_63 : decode cX1_load 63 = .ok (.iload_n 3, 1) := dk_29 (dk_at dksX1_load_2 17 rfl rfl)
theorem dX1_load_64 : decode cX1_load 64 = .ok (.putfield 313, 3) := dk_181 1 57 (dk_at dksX1_load_2 18 rfl rfl)
theorem dX1_load_67 : decode cX1_load 67 = .ok (.iload 4, 2) := dk_21 4 (dk_at dksX1_load_2 21 rfl rfl)
theorem dX1_load_69 : decode cX1_load 69 = .ok (.ireturn, 1) := dk_172 (dk_at dksX1_load_2 23 rfl rfl)
theorem dX1_load_70 : decode cX1_load 70 = .ok (.astore 4, 2) := dk_58 4 (dk_at dksX1_load_3 0 rfl rfl)
theorem dX1_load_72 : decode cX1_load 72 = .ok (.aload 4, 2) := dk_25 4 (dk_at dksX1_load_3 2 rfl rfl)
theorem dX1_load_74 : decode cX1_load 74 = .ok (.getfield 357, 3) := dk_180 1 101 (dk_at dksX1_load_3 4 rfl rfl)
theorem dX1_load_77 : decode cX1_load 77 = .ok (.istore_n 2, 1) := dk_61 (dk_at dksX1_load_3 7 rfl rfl)
theorem dX1_load_78 : decode cX1_load 78 = .ok (.aload 4, 2) := dk_25 4 (dk_at dksX1_load_3 8 rfl rfl)
theorem dX1_load_80 : decode cX1_load 80 = .ok (.getfield 359, 3) := dk_180 1 103 (dk_at dksX1_load_3 10 rfl rfl)
theorem dX1_load_83 : decode cX1_load 83 = .ok (.istore_n 3, 1) := dk_62 (dk_at dksX1_load_3 13 rfl rfl)
theorem dX1_load_84 : decode cX1_load 84 = .ok (.new 362, 3) := dk_187 1 106 (dk_at dksX1_load_3 14 rfl rfl)
theorem dX1_load_87 : decode cX1_load 87 = .ok (.dup, 1) := dk_89 (dk_at dksX1_load_3 17 rfl rfl)
theorem dX1_load_88 : decode cX1_load 88 = .ok (.invokespecial 364, 3) := dk_183 1 108 (dk_at dksX1_load_3 18 rfl rfl)
theorem dX1_load_91 : decode cX1_load 91 = .ok (.athrow, 1) := dk_191 (dk_at dksX1_load_3 21 rfl rfl)
theorem dX1_load_92 : decode cX1_load 92 = .ok (.astore 5, 2) := dk_58 5 (dk_at dksX1_load_3 22 rfl rfl)
theorem dX1_load_94 : decode cX1_load 94 = .ok (.aload_n 0, 1) := dk_42 (dk_at dksX1_load_4 0 rfl rfl)
theorem dX1_load_95 : decode cX1_load 95 = .ok (.iconst 0, 1) := dk_3 (dk_at dksX1_load_4 1 rfl rfl)
theorem dX1_load_96 : decode cX1_load 96 = .ok (.putfield 319, 3) := dk_181 1 63 (dk_at dksX1_load_4 2 rfl rfl)
theorem dX1_load_99 : decode cX1_load 99 = .ok (.aload_n 0, 1) := dk_42 (dk_at dksX1_load_4 5 rfl rfl)
theorem dX1_load_100 : decode cX1_load 100 = .ok (.iload_n 2, 1) := dk_28 (dk_at dksX1_load_4 6 rfl rfl)
theorem dX1_load_101 : decode cX1_load 101 = .ok (.putfield 352, 3) := dk_181 1 96 (dk_at dksX1_load_4 7 rfl rfl)
theorem dX1_load_104 : decode cX1_load 104 = .ok (.aload_n 0, 1) := dk_42 (dk_at dksX1_load_4 10 rfl rfl)
theorem dX1_load_105 : decode cX1_load 105 = .ok (.iload_n 3, 1) := dk_29 (dk_at dksX1_load_4 11 rfl rfl)
theorem dX1_load_106 : decode cX1_load 106 = .ok (.putfield 313, 3) := dk_181 1 57 (dk_at dksX1_load_4 12 rfl rfl)
theorem dX1_load_109 : decode cX1_load 109 = .ok (.aload 5, 2) := dk_25 5 (dk_at dksX1_load_4 15 rfl rfl)
theorem dX1_load_111 : decode cX1_load 111 = .ok (.athrow, 1) := dk_191 (dk_at dksX1_load_4 17 rfl rfl)
abbrev cX1_in : ByteArray := prog_1_method_1_code
def yX1_in : MethodName := ⟨RX1, "in", "(III)Z"⟩
def dkwX1_in_0 : List UInt8 := [27, 26, 163, 0, 12, 26, 28, 163, 0, 7, 4, 167, 0, 4, 3, 172]
abbrev dktX1_in_0 : List UInt8 := dkwX1_in_0 ++ []
theorem dksX1_in_0 : cX1_in.data.toList.drop 0 = dktX1_in_0 := by decide +kernel
theorem dX1_in_0 : decode cX1_in 0 = .ok (.iload_n 1, 1) := dk_27 (dk_at dksX1_in_0 0 rfl rfl)
theorem dX1_in_1 : decode cX1_in 1 = .ok (.iload_n 0, 1) := dk_26 (dk_at dksX1_in_0 1 rfl rfl)
theorem dX1_in_2 : decode cX1_in 2 = .ok (.if_icmp .gt 12, 3) := dk_163 0 12 (dk_at dksX1_in_0 2 rfl rfl)
theorem dX1_in_5 : decode cX1_in 5 = .ok (.iload_n 0, 1) := dk_26 (dk_at dksX1_in_0 5 rfl rfl)
theorem dX1_in_6 : decode cX1_in 6 = .ok (.iload_n 2, 1) := dk_28 (dk_at dksX1_in_0 6 rfl rfl)
theorem dX1_in_7 : decode cX1_in 7 = .ok (.if_icmp .gt 7, 3) := dk_163 0 7 (dk_at dksX1_in_0 7 rfl rfl)
theorem dX1_in_10 : decode cX1_in 10 = .ok (.iconst 1, 1) := dk_4 (dk_at dksX1_in_0 10 rfl rfl)
theorem dX1_in_11 : decode cX1_in 11 = .ok (.goto 4, 3) := dk_167 0 4 (dk_at dksX1_in_0 11 rfl rfl)
theorem dX1_in_14 : decode cX1_in 14 = .ok (.iconst 0, 1) := dk_3 (dk_at dksX1_in_0 14 rfl rfl)
theorem dX1_in_15 : decode cX1_in 15 = .ok (.ireturn, 1) := dk_172 (dk_at dksX1_in_0 15 rfl rfl)
abbrev cX1_checkIndex : ByteArray := prog_1_method_34_code
def yX1_checkIndex : MethodName := ⟨RX1, "checkIndex", "(Z)V"⟩
def dkwX1_checkIndex_0 : List UInt8 := [26, 154, 0, 11, 187, 1, 109, 89, 183, 1, 111, 191, 177]
abbrev dktX1_checkIndex_0 : List UInt8 := dkwX1_checkIndex_0 ++ []
theorem dksX1_checkIndex_0 : cX1_checkIndex.data.toList.drop 0 = dktX1_checkIndex_0 := by decide +kernel
theorem dX1_checkIndex_0 : decode cX1_checkIndex 0 = .ok (.iload_n 0, 1) := dk_26 (dk_at dksX1_checkIndex_0 0 rfl rfl)
theorem dX1_checkIndex_1 : decode cX1_checkIndex 1 = .ok (.ifCond .ne 11, 3) := dk_154 0 11 (dk_at dksX1_checkIndex_0 1 rfl rfl)
theorem dX1_checkIndex_4 : decode cX1_checkIndex 4 = .ok (.new 365, 3) := dk_187 1 109 (dk_at dksX1_checkIndex_0 4 rfl rfl)
theorem dX1_checkIndex_7 : decode cX1_checkIndex 7 = .ok (.dup, 1) := dk_89 (dk_at dksX1_checkIndex_0 7 rfl rfl)
theorem dX1_checkIndex_8 : decode cX1_checkIndex 8 = .ok (.invokespecial 367, 3) := dk_183 1 111 (dk_at dksX1_checkIndex_0 8 rfl rfl)
theorem dX1_checkIndex_11 : decode cX1_checkIndex 11 = .ok (.athrow, 1) := dk_191 (dk_at dksX1_checkIndex_0 11 rfl rfl)
theorem dX1_checkIndex_12 : decode cX1_checkIndex 12 = .ok (.return_, 1) := dk_177 (dk_at dksX1_checkIndex_0 12 rfl rfl)
abbrev cX1_adds : ByteArray := prog_1_method_20_code
def yX1_adds : MethodName := ⟨RX1, "adds", "(LRideDesk$State;LRideDesk$Call;I)I"⟩
def dkwX1_adds_4 : List UInt8 := [182, 0, 247, 46, 79, 21, 4, 172]
abbrev dktX1_adds_4 : List UInt8 := dkwX1_adds_4 ++ []
def dkwX1_adds_3 : List UInt8 := [43, 180, 0, 156, 42, 180, 0, 181, 50, 180, 0, 51, 43, 180, 0, 156, 42, 180, 0, 181, 50, 21, 4, 4]
abbrev dktX1_adds_3 : List UInt8 := dkwX1_adds_3 ++ dktX1_adds_4
def dkwX1_adds_2 : List UInt8 := [43, 180, 0, 232, 21, 4, 3, 79, 42, 43, 21, 4, 182, 0, 244, 153, 0, 38, 43, 180, 0, 238, 21, 4]
abbrev dktX1_adds_2 : List UInt8 := dkwX1_adds_2 ++ dktX1_adds_3
def dkwX1_adds_1 : List UInt8 := [43, 180, 0, 138, 21, 4, 29, 79, 43, 180, 0, 238, 21, 4, 2, 79, 43, 180, 0, 241, 21, 4, 3, 79]
abbrev dktX1_adds_1 : List UInt8 := dkwX1_adds_1 ++ dktX1_adds_2
def dkwX1_adds_0 : List UInt8 := [43, 180, 0, 235, 54, 4, 43, 89, 180, 0, 235, 4, 96, 181, 0, 235, 43, 180, 0, 55, 21, 4, 44, 83]
abbrev dktX1_adds_0 : List UInt8 := dkwX1_adds_0 ++ dktX1_adds_1
theorem dksX1_adds_0 : cX1_adds.data.toList.drop 0 = dktX1_adds_0 := by decide +kernel
theorem dksX1_adds_1 : cX1_adds.data.toList.drop 24 = dktX1_adds_1 := dk_seg dksX1_adds_0 24 rfl rfl
theorem dksX1_adds_2 : cX1_adds.data.toList.drop 48 = dktX1_adds_2 := dk_seg dksX1_adds_1 24 rfl rfl
theorem dksX1_adds_3 : cX1_adds.data.toList.drop 72 = dktX1_adds_3 := dk_seg dksX1_adds_2 24 rfl rfl
theorem dksX1_adds_4 : cX1_adds.data.toList.drop 96 = dktX1_adds_4 := dk_seg dksX1_adds_3 24 rfl rfl
theorem dX1_adds_0 : decode cX1_adds 0 = .ok (.aload_n 1, 1) := dk_43 (dk_at dksX1_adds_0 0 rfl rfl)
theorem dX1_adds_1 : decode cX1_adds 1 = .ok (.getfield 235, 3) := dk_180 0 235 (dk_at dksX1_adds_0 1 rfl rfl)
theorem dX1_adds_4 : decode cX1_adds 4 = .ok (.istore 4, 2) := dk_54 4 (dk_at dksX1_adds_0 4 rfl rfl)
theorem dX1_adds_6 : decode cX1_adds 6 = .ok (.aload_n 1, 1) := dk_43 (dk_at dksX1_adds_0 6 rfl rfl)
theorem dX1_adds_7 : decode cX1_adds 7 = .ok (.dup, 1) := dk_89 (dk_at dksX1_adds_0 7 rfl rfl)
theorem dX1_adds_8 : decode cX1_adds 8 = .ok (.getfield 235, 3) := dk_180 0 235 (dk_at dksX1_adds_0 8 rfl rfl)
theorem dX1_adds_11 : decode cX1_adds 11 = .ok (.iconst 1, 1) := dk_4 (dk_at dksX1_adds_0 11 rfl rfl)
theorem dX1_adds_12 : decode cX1_adds 12 = .ok (.iadd, 1) := dk_96 (dk_at dksX1_adds_0 12 rfl rfl)
theorem dX1_adds_13 : decode cX1_adds 13 = .ok (.putfield 235, 3) := dk_181 0 235 (dk_at dksX1_adds_0 13 rfl rfl)
theorem dX1_adds_16 : decode cX1_adds 16 = .ok (.aload_n 1, 1) := dk_43 (dk_at dksX1_adds_0 16 rfl rfl)
theorem dX1_adds_17 : decode cX1_adds 17 = .ok (.getfield 55, 3) := dk_180 0 55 (dk_at dksX1_adds_0 17 rfl rfl)
theorem dX1_adds_20 : decode cX1_adds 20 = .ok (.iload 4, 2) := dk_21 4 (dk_at dksX1_adds_0 20 rfl rfl)
theorem dX1_adds_22 : decode cX1_adds 22 = .ok (.aload_n 2, 1) := dk_44 (dk_at dksX1_adds_0 22 rfl rfl)
theorem dX1_adds_23 : decode cX1_adds 23 = .ok (.aastore, 1) := dk_83 (dk_at dksX1_adds_0 23 rfl rfl)
theorem dX1_adds_24 : decode cX1_adds 24 = .ok (.aload_n 1, 1) := dk_43 (dk_at dksX1_adds_1 0 rfl rfl)
theorem dX1_adds_25 : decode cX1_adds 25 = .ok (.getfield 138, 3) := dk_180 0 138 (dk_at dksX1_adds_1 1 rfl rfl)
theorem dX1_adds_28 : decode cX1_adds 28 = .ok (.iload 4, 2) := dk_21 4 (dk_at dksX1_adds_1 4 rfl rfl)
theorem dX1_adds_30 : decode cX1_adds 30 = .ok (.iload_n 3, 1) := dk_29 (dk_at dksX1_adds_1 6 rfl rfl)
theorem dX1_adds_31 : decode cX1_adds 31 = .ok (.iastore, 1) := dk_79 (dk_at dksX1_adds_1 7 rfl rfl)
theorem dX1_adds_32 : decode cX1_adds 32 = .ok (.aload_n 1, 1) := dk_43 (dk_at dksX1_adds_1 8 rfl rfl)
theorem dX1_adds_33 : decode cX1_adds 33 = .ok (.getfield 238, 3) := dk_180 0 238 (dk_at dksX1_adds_1 9 rfl rfl)
theorem dX1_adds_36 : decode cX1_adds 36 = .ok (.iload 4, 2) := dk_21 4 (dk_at dksX1_adds_1 12 rfl rfl)
theorem dX1_adds_38 : decode cX1_adds 38 = .ok (.iconst (-1), 1) := dk_2 (dk_at dksX1_adds_1 14 rfl rfl)
theorem dX1_adds_39 : decode cX1_adds 39 = .ok (.iastore, 1) := dk_79 (dk_at dksX1_adds_1 15 rfl rfl)
theorem dX1_adds_40 : decode cX1_adds 40 = .ok (.aload_n 1, 1) := dk_43 (dk_at dksX1_adds_1 16 rfl rfl)
theorem dX1_adds_41 : decode cX1_adds 41 = .ok (.getfield 241, 3) := dk_180 0 241 (dk_at dksX1_adds_1 17 rfl rfl)
theorem dX1_adds_44 : decode cX1_adds 44 = .ok (.iload 4, 2) := dk_21 4 (dk_at dksX1_adds_1 20 rfl rfl)
theorem dX1_adds_46 : decode cX1_adds 46 = .ok (.iconst 0, 1) := dk_3 (dk_at dksX1_adds_1 22 rfl rfl)
theorem dX1_adds_47 : decode cX1_adds 47 = .ok (.iastore, 1) := dk_79 (dk_at dksX1_adds_1 23 rfl rfl)
theorem dX1_adds_48 : decode cX1_adds 48 = .ok (.aload_n 1, 1) := dk_43 (dk_at dksX1_adds_2 0 rfl rfl)
theorem dX1_adds_49 : decode cX1_adds 49 = .ok (.getfield 232, 3) := dk_180 0 232 (dk_at dksX1_adds_2 1 rfl rfl)
theorem dX1_adds_52 : decode cX1_adds 52 = .ok (.iload 4, 2) := dk_21 4 (dk_at dksX1_adds_2 4 rfl rfl)
theorem dX1_adds_54 : decode cX1_adds 54 = .ok (.iconst 0, 1) := dk_3 (dk_at dksX1_adds_2 6 rfl rfl)
theorem dX1_adds_55 : decode cX1_adds 55 = .ok (.iastore, 1) := dk_79 (dk_at dksX1_adds_2 7 rfl rfl)
theorem dX1_adds_56 : decode cX1_adds 56 = .ok (.aload_n 0, 1) := dk_42 (dk_at dksX1_adds_2 8 rfl rfl)
theorem dX1_adds_57 : decode cX1_adds 57 = .ok (.aload_n 1, 1) := dk_43 (dk_at dksX1_adds_2 9 rfl rfl)
theorem dX1_adds_58 : decode cX1_adds 58 = .ok (.iload 4, 2) := dk_21 4 (dk_at dksX1_adds_2 10 rfl rfl)
theorem dX1_adds_60 : decode cX1_adds 60 = .ok (.invokevirtual 244, 3) := dk_182 0 244 (dk_at dksX1_adds_2 12 rfl rfl)
theorem dX1_adds_63 : decode cX1_adds 63 = .ok (.ifCond .eq 38, 3) := dk_153 0 38 (dk_at dksX1_adds_2 15 rfl rfl)
theorem dX1_adds_66 : decode cX1_adds 66 = .ok (.aload_n 1, 1) := dk_43 (dk_at dksX1_adds_2 18 rfl rfl)
theorem dX1_adds_67 : decode cX1_adds 67 = .ok (.getfield 238, 3) := dk_180 0 238 (dk_at dksX1_adds_2 19 rfl rfl)
theorem dX1_adds_70 : decode cX1_adds 70 = .ok (.iload 4, 2) := dk_21 4 (dk_at dksX1_adds_2 22 rfl rfl)
theorem dX1_adds_72 : decode cX1_adds 72 = .ok (.aload_n 1, 1) := dk_43 (dk_at dksX1_adds_3 0 rfl rfl)
theorem dX1_adds_73 : decode cX1_adds 73 = .ok (.getfield 156, 3) := dk_180 0 156 (dk_at dksX1_adds_3 1 rfl rfl)
theorem dX1_adds_76 : decode cX1_adds 76 = .ok (.aload_n 0, 1) := dk_42 (dk_at dksX1_adds_3 4 rfl rfl)
theorem dX1_adds_77 : decode cX1_adds 77 = .ok (.getfield 181, 3) := dk_180 0 181 (dk_at dksX1_adds_3 5 rfl rfl)
theorem dX1_adds_80 : decode cX1_adds 80 = .ok (.aaload, 1) := dk_50 (dk_at dksX1_adds_3 8 rfl rfl)
theorem dX1_adds_81 : decode cX1_adds 81 = .ok (.getfield 51, 3) := dk_180 0 51 (dk_at dksX1_adds_3 9 rfl rfl)
theorem dX1_adds_84 : decode cX1_adds 84 = .ok (.aload_n 1, 1) := dk_43 (dk_at dksX1_adds_3 12 rfl rfl)
theorem dX1_adds_85 : decode cX1_adds 85 = .ok (.getfield 156, 3) := dk_180 0 156 (dk_at dksX1_adds_3 13 rfl rfl)
theorem dX1_adds_88 : decode cX1_adds 88 = .ok (.aload_n 0, 1) := dk_42 (dk_at dksX1_adds_3 16 rfl rfl)
theorem dX1_adds_89 : decode cX1_adds 89 = .ok (.getfield 181, 3) := dk_180 0 181 (dk_at dksX1_adds_3 17 rfl rfl)
theorem dX1_adds_92 : decode cX1_adds 92 = .ok (.aaload, 1) := dk_50 (dk_at dksX1_adds_3 20 rfl rfl)
theorem dX1_adds_93 : decode cX1_adds 93 = .ok (.iload 4, 2) := dk_21 4 (dk_at dksX1_adds_3 21 rfl rfl)
theorem dX1_adds_95 : decode cX1_adds 95 = .ok (.iconst 1, 1) := dk_4 (dk_at dksX1_adds_3 23 rfl rfl)
theorem dX1_adds_96 : decode cX1_adds 96 = .ok (.invokevirtual 247, 3) := dk_182 0 247 (dk_at dksX1_adds_4 0 rfl rfl)
theorem dX1_adds_99 : decode cX1_adds 99 = .ok (.iaload, 1) := dk_46 (dk_at dksX1_adds_4 3 rfl rfl)
theorem dX1_adds_100 : decode cX1_adds 100 = .ok (.iastore, 1) := dk_79 (dk_at dksX1_adds_4 4 rfl rfl)
theorem dX1_adds_101 : decode cX1_adds 101 = .ok (.iload 4, 2) := dk_21 4 (dk_at dksX1_adds_4 5 rfl rfl)
theorem dX1_adds_103 : decode cX1_adds 103 = .ok (.ireturn, 1) := dk_172 (dk_at dksX1_adds_4 7 rfl rfl)
abbrev cX1_inserts : ByteArray := prog_1_method_19_code
def yX1_inserts : MethodName := ⟨RX1, "inserts", "(LRideDesk$State;I)Z"⟩
def dkwX1_inserts_1 : List UInt8 := [182, 0, 214, 43, 180, 0, 232, 28, 4, 79, 4, 172]
abbrev dktX1_inserts_1 : List UInt8 := dkwX1_inserts_1 ++ []
def dkwX1_inserts_0 : List UInt8 := [42, 43, 28, 182, 0, 228, 154, 0, 5, 3, 172, 43, 180, 0, 156, 42, 180, 0, 181, 50, 42, 180, 0, 225]
abbrev dktX1_inserts_0 : List UInt8 := dkwX1_inserts_0 ++ dktX1_inserts_1
theorem dksX1_inserts_0 : cX1_inserts.data.toList.drop 0 = dktX1_inserts_0 := by decide +kernel
theorem dksX1_inserts_1 : cX1_inserts.data.toList.drop 24 = dktX1_inserts_1 := dk_seg dksX1_inserts_0 24 rfl rfl
theorem dX1_inserts_0 : decode cX1_inserts 0 = .ok (.aload_n 0, 1) := dk_42 (dk_at dksX1_inserts_0 0 rfl rfl)
theorem dX1_inserts_1 : decode cX1_inserts 1 = .ok (.aload_n 1, 1) := dk_43 (dk_at dksX1_inserts_0 1 rfl rfl)
theorem dX1_inserts_2 : decode cX1_inserts 2 = .ok (.iload_n 2, 1) := dk_28 (dk_at dksX1_inserts_0 2 rfl rfl)
theorem dX1_inserts_3 : decode cX1_inserts 3 = .ok (.invokevirtual 228, 3) := dk_182 0 228 (dk_at dksX1_inserts_0 3 rfl rfl)
theorem dX1_inserts_6 : decode cX1_inserts 6 = .ok (.ifCond .ne 5, 3) := dk_154 0 5 (dk_at dksX1_inserts_0 6 rfl rfl)
theorem dX1_inserts_9 : decode cX1_inserts 9 = .ok (.iconst 0, 1) := dk_3 (dk_at dksX1_inserts_0 9 rfl rfl)
theorem dX1_inserts_10 : decode cX1_inserts 10 = .ok (.ireturn, 1) := dk_172 (dk_at dksX1_inserts_0 10 rfl rfl)
theorem dX1_inserts_11 : decode cX1_inserts 11 = .ok (.aload_n 1, 1) := dk_43 (dk_at dksX1_inserts_0 11 rfl rfl)
theorem dX1_inserts_12 : decode cX1_inserts 12 = .ok (.getfield 156, 3) := dk_180 0 156 (dk_at dksX1_inserts_0 12 rfl rfl)
theorem dX1_inserts_15 : decode cX1_inserts 15 = .ok (.aload_n 0, 1) := dk_42 (dk_at dksX1_inserts_0 15 rfl rfl)
theorem dX1_inserts_16 : decode cX1_inserts 16 = .ok (.getfield 181, 3) := dk_180 0 181 (dk_at dksX1_inserts_0 16 rfl rfl)
theorem dX1_inserts_19 : decode cX1_inserts 19 = .ok (.aaload, 1) := dk_50 (dk_at dksX1_inserts_0 19 rfl rfl)
theorem dX1_inserts_20 : decode cX1_inserts 20 = .ok (.aload_n 0, 1) := dk_42 (dk_at dksX1_inserts_0 20 rfl rfl)
theorem dX1_inserts_21 : decode cX1_inserts 21 = .ok (.getfield 225, 3) := dk_180 0 225 (dk_at dksX1_inserts_0 21 rfl rfl)
theorem dX1_inserts_24 : decode cX1_inserts 24 = .ok (.invokevirtual 214, 3) := dk_182 0 214 (dk_at dksX1_inserts_1 0 rfl rfl)
theorem dX1_inserts_27 : decode cX1_inserts 27 = .ok (.aload_n 1, 1) := dk_43 (dk_at dksX1_inserts_1 3 rfl rfl)
theorem dX1_inserts_28 : decode cX1_inserts 28 = .ok (.getfield 232, 3) := dk_180 0 232 (dk_at dksX1_inserts_1 4 rfl rfl)
theorem dX1_inserts_31 : decode cX1_inserts 31 = .ok (.iload_n 2, 1) := dk_28 (dk_at dksX1_inserts_1 7 rfl rfl)
theorem dX1_inserts_32 : decode cX1_inserts 32 = .ok (.iconst 1, 1) := dk_4 (dk_at dksX1_inserts_1 8 rfl rfl)
theorem dX1_inserts_33 : decode cX1_inserts 33 = .ok (.iastore, 1) := dk_79 (dk_at dksX1_inserts_1 9 rfl rfl)
theorem dX1_inserts_34 : decode cX1_inserts 34 = .ok (.iconst 1, 1) := dk_4 (dk_at dksX1_inserts_1 10 rfl rfl)
theorem dX1_inserts_35 : decode cX1_inserts 35 = .ok (.ireturn, 1) := dk_172 (dk_at dksX1_inserts_1 11 rfl rfl)
abbrev cX1_finds : ByteArray := prog_1_method_14_code
def yX1_finds : MethodName := ⟨RX1, "finds", "(LRideDesk$State;I)Z"⟩
def dkwX1_finds_11 : List UInt8 := [167, 255, 44, 42, 180, 0, 181, 2, 159, 0, 7, 4, 167, 0, 4, 3, 172]
abbrev dktX1_finds_11 : List UInt8 := dkwX1_finds_11 ++ []
def dkwX1_finds_10 : List UInt8 := [21, 10, 21, 11, 182, 0, 206, 132, 10, 1, 167, 255, 161, 132, 9, 1, 167, 255, 139, 132, 5, 1]
abbrev dktX1_finds_10 : List UInt8 := dkwX1_finds_10 ++ dktX1_finds_11
def dkwX1_finds_9 : List UInt8 := [159, 0, 12, 21, 11, 42, 180, 0, 203, 162, 0, 21, 42, 43, 21, 5, 21, 7, 45, 21, 9, 25, 4]
abbrev dktX1_finds_9 : List UInt8 := dkwX1_finds_9 ++ dktX1_finds_10
def dkwX1_finds_8 : List UInt8 := [42, 180, 0, 200, 21, 10, 4, 100, 46, 96, 54, 11, 21, 11, 21, 8, 163, 0, 38, 42, 180, 0, 181, 2]
abbrev dktX1_finds_8 : List UInt8 := dkwX1_finds_8 ++ dktX1_finds_9
def dkwX1_finds_7 : List UInt8 := [21, 9, 4, 96, 160, 0, 13, 42, 180, 0, 194, 21, 9, 46, 167, 0, 20, 42, 180, 0, 197, 21, 9, 46]
abbrev dktX1_finds_7 : List UInt8 := dkwX1_finds_7 ++ dktX1_finds_8
def dkwX1_finds_6 : List UInt8 := [163, 0, 113, 21, 9, 4, 96, 54, 10, 21, 10, 25, 6, 180, 0, 3, 4, 96, 163, 0, 89, 21, 10]
abbrev dktX1_finds_6 : List UInt8 := dkwX1_finds_6 ++ dktX1_finds_7
def dkwX1_finds_5 : List UInt8 := [180, 0, 188, 25, 4, 180, 0, 189, 182, 0, 190, 21, 7, 54, 9, 21, 9, 25, 6, 180, 0, 3]
abbrev dktX1_finds_5 : List UInt8 := dkwX1_finds_5 ++ dktX1_finds_6
def dkwX1_finds_4 : List UInt8 := [182, 0, 184, 100, 5, 43, 180, 0, 55, 28, 50, 180, 0, 64, 104, 100, 54, 8, 42, 21, 5, 25, 6, 45]
abbrev dktX1_finds_4 : List UInt8 := dkwX1_finds_4 ++ dktX1_finds_5
def dkwX1_finds_3 : List UInt8 := [43, 25, 6, 182, 0, 160, 54, 7, 43, 180, 0, 135, 21, 5, 46, 42, 43, 21, 5, 25, 6, 21, 7]
abbrev dktX1_finds_3 : List UInt8 := dkwX1_finds_3 ++ dktX1_finds_4
def dkwX1_finds_2 : List UInt8 := [180, 0, 15, 180, 0, 19, 185, 0, 153, 1, 0, 162, 0, 201, 43, 180, 0, 156, 21, 5, 50, 58, 6, 42]
abbrev dktX1_finds_2 : List UInt8 := dkwX1_finds_2 ++ dktX1_finds_3
def dkwX1_finds_1 : List UInt8 := [180, 0, 55, 28, 50, 180, 0, 177, 183, 0, 180, 58, 4, 42, 2, 181, 0, 181, 3, 54, 5, 21, 5, 42]
abbrev dktX1_finds_1 : List UInt8 := dkwX1_finds_1 ++ dktX1_finds_2
def dkwX1_finds_0 : List UInt8 := [187, 0, 123, 89, 28, 43, 180, 0, 55, 28, 50, 180, 0, 168, 183, 0, 171, 78, 187, 0, 175, 89, 28, 43]
abbrev dktX1_finds_0 : List UInt8 := dkwX1_finds_0 ++ dktX1_finds_1
theorem dksX1_finds_0 : cX1_finds.data.toList.drop 0 = dktX1_finds_0 := by decide +kernel
theorem dksX1_finds_1 : cX1_finds.data.toList.drop 24 = dktX1_finds_1 := dk_seg dksX1_finds_0 24 rfl rfl
theorem dksX1_finds_2 : cX1_finds.data.toList.drop 48 = dktX1_finds_2 := dk_seg dksX1_finds_1 24 rfl rfl
theorem dksX1_finds_3 : cX1_finds.data.toList.drop 72 = dktX1_finds_3 := dk_seg dksX1_finds_2 24 rfl rfl
theorem dksX1_finds_4 : cX1_finds.data.toList.drop 95 = dktX1_finds_4 := dk_seg dksX1_finds_3 23 rfl rfl
theorem dksX1_finds_5 : cX1_finds.data.toList.drop 119 = dktX1_finds_5 := dk_seg dksX1_finds_4 24 rfl rfl
theorem dksX1_finds_6 : cX1_finds.data.toList.drop 141 = dktX1_finds_6 := dk_seg dksX1_finds_5 22 rfl rfl
theorem dksX1_finds_7 : cX1_finds.data.toList.drop 164 = dktX1_finds_7 := dk_seg dksX1_finds_6 23 rfl rfl
theorem dksX1_finds_8 : cX1_finds.data.toList.drop 188 = dktX1_finds_8 := dk_seg dksX1_finds_7 24 rfl rfl
theorem dksX1_finds_9 : cX1_finds.data.toList.drop 212 = dktX1_finds_9 := dk_seg dksX1_finds_8 24 rfl rfl
theorem dksX1_finds_10 : cX1_finds.data.toList.drop 235 = dktX1_finds_10 := dk_seg dksX1_finds_9 23 rfl rfl
theorem dksX1_finds_11 : cX1_finds.data.toList.drop 257 = dktX1_finds_11 := dk_seg dksX1_finds_10 22 rfl rfl
theorem dX1_finds_0 : decode cX1_finds 0 = .ok (.new 123, 3) := dk_187 0 123 (dk_at dksX1_finds_0 0 rfl rfl)
theorem dX1_finds_3 : decode cX1_finds 3 = .ok (.dup, 1) := dk_89 (dk_at dksX1_finds_0 3 rfl rfl)
theorem dX1_finds_4 : decode cX1_finds 4 = .ok (.iload_n 2, 1) := dk_28 (dk_at dksX1_finds_0 4 rfl rfl)
theorem dX1_finds_5 : decode cX1_finds 5 = .ok (.aload_n 1, 1) := dk_43 (dk_at dksX1_finds_0 5 rfl rfl)
theorem dX1_finds_6 : decode cX1_finds 6 = .ok (.getfield 55, 3) := dk_180 0 55 (dk_at dksX1_finds_0 6 rfl rfl)
theorem dX1_finds_9 : decode cX1_finds 9 = .ok (.iload_n 2, 1) := dk_28 (dk_at dksX1_finds_0 9 rfl rfl)
theorem dX1_finds_10 : decode cX1_finds 10 = .ok (.aaload, 1) := dk_50 (dk_at dksX1_finds_0 10 rfl rfl)
theorem dX1_finds_11 : decode cX1_finds 11 = .ok (.getfield 168, 3) := dk_180 0 168 (dk_at dksX1_finds_0 11 rfl rfl)
theorem dX1_finds_14 : decode cX1_finds 14 = .ok (.invokespecial 171, 3) := dk_183 0 171 (dk_at dksX1_finds_0 14 rfl rfl)
theorem dX1_finds_17 : decode cX1_finds 17 = .ok (.astore_n 3, 1) := dk_78 (dk_at dksX1_finds_0 17 rfl rfl)
theorem dX1_finds_18 : decode cX1_finds 18 = .ok (.new 175, 3) := dk_187 0 175 (dk_at dksX1_finds_0 18 rfl rfl)
theorem dX1_finds_21 : decode cX1_finds 21 = .ok (.dup, 1) := dk_89 (dk_at dksX1_finds_0 21 rfl rfl)
theorem dX1_finds_22 : decode cX1_finds 22 = .ok (.iload_n 2, 1) := dk_28 (dk_at dksX1_finds_0 22 rfl rfl)
theorem dX1_finds_23 : decode cX1_finds 23 = .ok (.aload_n 1, 1) := dk_43 (dk_at dksX1_finds_0 23 rfl rfl)
theorem dX1_finds_24 : decode cX1_finds 24 = .ok (.getfield 55, 3) := dk_180 0 55 (dk_at dksX1_finds_1 0 rfl rfl)
theorem dX1_finds_27 : decode cX1_finds 27 = .ok (.iload_n 2, 1) := dk_28 (dk_at dksX1_finds_1 3 rfl rfl)
theorem dX1_finds_28 : decode cX1_finds 28 = .ok (.aaload, 1) := dk_50 (dk_at dksX1_finds_1 4 rfl rfl)
theorem dX1_finds_29 : decode cX1_finds 29 = .ok (.getfield 177, 3) := dk_180 0 177 (dk_at dksX1_finds_1 5 rfl rfl)
theorem dX1_finds_32 : decode cX1_finds 32 = .ok (.invokespecial 180, 3) := dk_183 0 180 (dk_at dksX1_finds_1 8 rfl rfl)
theorem dX1_finds_35 : decode cX1_finds 35 = .ok (.astore 4, 2) := dk_58 4 (dk_at dksX1_finds_1 11 rfl rfl)
theorem dX1_finds_37 : decode cX1_finds 37 = .ok (.aload_n 0, 1) := dk_42 (dk_at dksX1_finds_1 13 rfl rfl)
theorem dX1_finds_38 : decode cX1_finds 38 = .ok (.iconst (-1), 1) := dk_2 (dk_at dksX1_finds_1 14 rfl rfl)
theorem dX1_finds_39 : decode cX1_finds 39 = .ok (.putfield 181, 3) := dk_181 0 181 (dk_at dksX1_finds_1 15 rfl rfl)
theorem dX1_finds_42 : decode cX1_finds 42 = .ok (.iconst 0, 1) := dk_3 (dk_at dksX1_finds_1 18 rfl rfl)
theorem dX1_finds_43 : decode cX1_finds 43 = .ok (.istore 5, 2) := dk_54 5 (dk_at dksX1_finds_1 19 rfl rfl)
theorem dX1_finds_45 : decode cX1_finds 45 = .ok (.iload 5, 2) := dk_21 5 (dk_at dksX1_finds_1 21 rfl rfl)
theorem dX1_finds_47 : decode cX1_finds 47 = .ok (.aload_n 0, 1) := dk_42 (dk_at dksX1_finds_1 23 rfl rfl)
theorem dX1_finds_48 : decode cX1_finds 48 = .ok (.getfield 15, 3) := dk_180 0 15 (dk_at dksX1_finds_2 0 rfl rfl)
theorem dX1_finds_51 : decode cX1_finds 51 = .ok (.getfield 19, 3) := dk_180 0 19 (dk_at dksX1_finds_2 3 rfl rfl)
theorem dX1_finds_54 : decode cX1_finds 54 = .ok (.invokeinterface 153 1, 5) := by decide +kernel
theorem dX1_finds_59 : decode cX1_finds 59 = .ok (.if_icmp .ge 201, 3) := dk_162 0 201 (dk_at dksX1_finds_2 11 rfl rfl)
theorem dX1_finds_62 : decode cX1_finds 62 = .ok (.aload_n 1, 1) := dk_43 (dk_at dksX1_finds_2 14 rfl rfl)
theorem dX1_finds_63 : decode cX1_finds 63 = .ok (.getfield 156, 3) := dk_180 0 156 (dk_at dksX1_finds_2 15 rfl rfl)
theorem dX1_finds_66 : decode cX1_finds 66 = .ok (.iload 5, 2) := dk_21 5 (dk_at dksX1_finds_2 18 rfl rfl)
theorem dX1_finds_68 : decode cX1_finds 68 = .ok (.aaload, 1) := dk_50 (dk_at dksX1_finds_2 20 rfl rfl)
theorem dX1_finds_69 : decode cX1_finds 69 = .ok (.astore 6, 2) := dk_58 6 (dk_at dksX1_finds_2 21 rfl rfl)
theorem dX1_finds_71 : decode cX1_finds 71 = .ok (.aload_n 0, 1) := dk_42 (dk_at dksX1_finds_2 23 rfl rfl)
theorem dX1_finds_72 : decode cX1_finds 72 = .ok (.aload_n 1, 1) := dk_43 (dk_at dksX1_finds_3 0 rfl rfl)
theorem dX1_finds_73 : decode cX1_finds 73 = .ok (.aload 6, 2) := dk_25 6 (dk_at dksX1_finds_3 1 rfl rfl)
theorem dX1_finds_75 : decode cX1_finds 75 = .ok (.invokevirtual 160, 3) := dk_182 0 160 (dk_at dksX1_finds_3 3 rfl rfl)
theorem dX1_finds_78 : decode cX1_finds 78 = .ok (.istore 7, 2) := dk_54 7 (dk_at dksX1_finds_3 6 rfl rfl)
theorem dX1_finds_80 : decode cX1_finds 80 = .ok (.aload_n 1, 1) := dk_43 (dk_at dksX1_finds_3 8 rfl rfl)
theorem dX1_finds_81 : decode cX1_finds 81 = .ok (.getfield 135, 3) := dk_180 0 135 (dk_at dksX1_finds_3 9 rfl rfl)
theorem dX1_finds_84 : decode cX1_finds 84 = .ok (.iload 5, 2) := dk_21 5 (dk_at dksX1_finds_3 12 rfl rfl)
theorem dX1_finds_86 : decode cX1_finds 86 = .ok (.iaload, 1) := dk_46 (dk_at dksX1_finds_3 14 rfl rfl)
theorem dX1_finds_87 : decode cX1_finds 87 = .ok (.aload_n 0, 1) := dk_42 (dk_at dksX1_finds_3 15 rfl rfl)
theorem dX1_finds_88 : decode cX1_finds 88 = .ok (.aload_n 1, 1) := dk_43 (dk_at dksX1_finds_3 16 rfl rfl)
theorem dX1_finds_89 : decode cX1_finds 89 = .ok (.iload 5, 2) := dk_21 5 (dk_at dksX1_finds_3 17 rfl rfl)
theorem dX1_finds_91 : decode cX1_finds 91 = .ok (.aload 6, 2) := dk_25 6 (dk_at dksX1_finds_3 19 rfl rfl)
theorem dX1_finds_93 : decode cX1_finds 93 = .ok (.iload 7, 2) := dk_21 7 (dk_at dksX1_finds_3 21 rfl rfl)
theorem dX1_finds_95 : decode cX1_finds 95 = .ok (.invokevirtual 184, 3) := dk_182 0 184 (dk_at dksX1_finds_4 0 rfl rfl)
theorem dX1_finds_98 : decode cX1_finds 98 = .ok (.isub, 1) := dk_100 (dk_at dksX1_finds_4 3 rfl rfl)
theorem dX1_finds_99 : decode cX1_finds 99 = .ok (.iconst 2, 1) := dk_5 (dk_at dksX1_finds_4 4 rfl rfl)
theorem dX1_finds_100 : decode cX1_finds 100 = .ok (.aload_n 1, 1) := dk_43 (dk_at dksX1_finds_4 5 rfl rfl)
theorem dX1_finds_101 : decode cX1_finds 101 = .ok (.getfield 55, 3) := dk_180 0 55 (dk_at dksX1_finds_4 6 rfl rfl)
theorem dX1_finds_104 : decode cX1_finds 104 = .ok (.iload_n 2, 1) := dk_28 (dk_at dksX1_finds_4 9 rfl rfl)
theorem dX1_finds_105 : decode cX1_finds 105 = .ok (.aaload, 1) := dk_50 (dk_at dksX1_finds_4 10 rfl rfl)
theorem dX1_finds_106 : decode cX1_finds 106 = .ok (.getfield 64, 3) := dk_180 0 64 (dk_at dksX1_finds_4 11 rfl rfl)
theorem dX1_finds_109 : decode cX1_finds 109 = .ok (.imul, 1) := dk_104 (dk_at dksX1_finds_4 14 rfl rfl)
theorem dX1_finds_110 : decode cX1_finds 110 = .ok (.isub, 1) := dk_100 (dk_at dksX1_finds_4 15 rfl rfl)
theorem dX1_finds_111 : decode cX1_finds 111 = .ok (.istore 8, 2) := dk_54 8 (dk_at dksX1_finds_4 16 rfl rfl)
theorem dX1_finds_113 : decode cX1_finds 113 = .ok (.aload_n 0, 1) := dk_42 (dk_at dksX1_finds_4 18 rfl rfl)
theorem dX1_finds_114 : decode cX1_finds 114 = .ok (.iload 5, 2) := dk_21 5 (dk_at dksX1_finds_4 19 rfl rfl)
theorem dX1_finds_116 : decode cX1_finds 116 = .ok (.aload 6, 2) := dk_25 6 (dk_at dksX1_finds_4 21 rfl rfl)
theorem dX1_finds_118 : decode cX1_finds 118 = .ok (.aload_n 3, 1) := dk_45 (dk_at dksX1_finds_4 23 rfl rfl)
theorem dX1_finds_119 : decode cX1_finds 119 = .ok (.getfield 188, 3) := dk_180 0 188 (dk_at dksX1_finds_5 0 rfl rfl)
theorem dX1_finds_122 : decode cX1_finds 122 = .ok (.aload 4, 2) := dk_25 4 (dk_at dksX1_finds_5 3 rfl rfl)
theorem dX1_finds_124 : decode cX1_finds 124 = .ok (.getfield 189, 3) := dk_180 0 189 (dk_at dksX1_finds_5 5 rfl rfl)
theorem dX1_finds_127 : decode cX1_finds 127 = .ok (.invokevirtual 190, 3) := dk_182 0 190 (dk_at dksX1_finds_5 8 rfl rfl)
theorem dX1_finds_130 : decode cX1_finds 130 = .ok (.iload 7, 2) := dk_21 7 (dk_at dksX1_finds_5 11 rfl rfl)
theorem dX1_finds_132 : decode cX1_finds 132 = .ok (.istore 9, 2) := dk_54 9 (dk_at dksX1_finds_5 13 rfl rfl)
theorem dX1_finds_134 : decode cX1_finds 134 = .ok (.iload 9, 2) := dk_21 9 (dk_at dksX1_finds_5 15 rfl rfl)
theorem dX1_finds_136 : decode cX1_finds 136 = .ok (.aload 6, 2) := dk_25 6 (dk_at dksX1_finds_5 17 rfl rfl)
theorem dX1_finds_138 : decode cX1_finds 138 = .ok (.getfield 3, 3) := dk_180 0 3 (dk_at dksX1_finds_5 19 rfl rfl)
theorem dX1_finds_141 : decode cX1_finds 141 = .ok (.if_icmp .gt 113, 3) := dk_163 0 113 (dk_at dksX1_finds_6 0 rfl rfl)
theorem dX1_finds_144 : decode cX1_finds 144 = .ok (.iload 9, 2) := dk_21 9 (dk_at dksX1_finds_6 3 rfl rfl)
theorem dX1_finds_146 : decode cX1_finds 146 = .ok (.iconst 1, 1) := dk_4 (dk_at dksX1_finds_6 5 rfl rfl)
theorem dX1_finds_147 : decode cX1_finds 147 = .ok (.iadd, 1) := dk_96 (dk_at dksX1_finds_6 6 rfl rfl)
theorem dX1_finds_148 : decode cX1_finds 148 = .ok (.istore 10, 2) := dk_54 10 (dk_at dksX1_finds_6 7 rfl rfl)
theorem dX1_finds_150 : decode cX1_finds 150 = .ok (.iload 10, 2) := dk_21 10 (dk_at dksX1_finds_6 9 rfl rfl)
theorem dX1_finds_152 : decode cX1_finds 152 = .ok (.aload 6, 2) := dk_25 6 (dk_at dksX1_finds_6 11 rfl rfl)
theorem dX1_finds_154 : decode cX1_finds 154 = .ok (.getfield 3, 3) := dk_180 0 3 (dk_at dksX1_finds_6 13 rfl rfl)
theorem dX1_finds_157 : decode cX1_finds 157 = .ok (.iconst 1, 1) := dk_4 (dk_at dksX1_finds_6 16 rfl rfl)
theorem dX1_finds_158 : decode cX1_finds 158 = .ok (.iadd, 1) := dk_96 (dk_at dksX1_finds_6 17 rfl rfl)
theorem dX1_finds_159 : decode cX1_finds 159 = .ok (.if_icmp .gt 89, 3) := dk_163 0 89 (dk_at dksX1_finds_6 18 rfl rfl)
theorem dX1_finds_162 : decode cX1_finds 162 = .ok (.iload 10, 2) := dk_21 10 (dk_at dksX1_finds_6 21 rfl rfl)
theorem dX1_finds_164 : decode cX1_finds 164 = .ok (.iload 9, 2) := dk_21 9 (dk_at dksX1_finds_7 0 rfl rfl)
theorem dX1_finds_166 : decode cX1_finds 166 = .ok (.iconst 1, 1) := dk_4 (dk_at dksX1_finds_7 2 rfl rfl)
theorem dX1_finds_167 : decode cX1_finds 167 = .ok (.iadd, 1) := dk_96 (dk_at dksX1_finds_7 3 rfl rfl)
theorem dX1_finds_168 : decode cX1_finds 168 = .ok (.if_icmp .ne 13, 3) := dk_160 0 13 (dk_at dksX1_finds_7 4 rfl rfl)
theorem dX1_finds_171 : decode cX1_finds 171 = .ok (.aload_n 0, 1) := dk_42 (dk_at dksX1_finds_7 7 rfl rfl)
theorem dX1_finds_172 : decode cX1_finds 172 = .ok (.getfield 194, 3) := dk_180 0 194 (dk_at dksX1_finds_7 8 rfl rfl)
theorem dX1_finds_175 : decode cX1_finds 175 = .ok (.iload 9, 2) := dk_21 9 (dk_at dksX1_finds_7 11 rfl rfl)
theorem dX1_finds_177 : decode cX1_finds 177 = .ok (.iaload, 1) := dk_46 (dk_at dksX1_finds_7 13 rfl rfl)
theorem dX1_finds_178 : decode cX1_finds 178 = .ok (.goto 20, 3) := dk_167 0 20 (dk_at dksX1_finds_7 14 rfl rfl)
theorem dX1_finds_181 : decode cX1_finds 181 = .ok (.aload_n 0, 1) := dk_42 (dk_at dksX1_finds_7 17 rfl rfl)
theorem dX1_finds_182 : decode cX1_finds 182 = .ok (.getfield 197, 3) := dk_180 0 197 (dk_at dksX1_finds_7 18 rfl rfl)
theorem dX1_finds_185 : decode cX1_finds 185 = .ok (.iload 9, 2) := dk_21 9 (dk_at dksX1_finds_7 21 rfl rfl)
theorem dX1_finds_187 : decode cX1_finds 187 = .ok (.iaload, 1) := dk_46 (dk_at dksX1_finds_7 23 rfl rfl)
theorem dX1_finds_188 : decode cX1_finds 188 = .ok (.aload_n 0, 1) := dk_42 (dk_at dksX1_finds_8 0 rfl rfl)
theorem dX1_finds_189 : decode cX1_finds 189 = .ok (.getfield 200, 3) := dk_180 0 200 (dk_at dksX1_finds_8 1 rfl rfl)
theorem dX1_finds_192 : decode cX1_finds 192 = .ok (.iload 10, 2) := dk_21 10 (dk_at dksX1_finds_8 4 rfl rfl)
theorem dX1_finds_194 : decode cX1_finds 194 = .ok (.iconst 1, 1) := dk_4 (dk_at dksX1_finds_8 6 rfl rfl)
theorem dX1_finds_195 : decode cX1_finds 195 = .ok (.isub, 1) := dk_100 (dk_at dksX1_finds_8 7 rfl rfl)
theorem dX1_finds_196 : decode cX1_finds 196 = .ok (.iaload, 1) := dk_46 (dk_at dksX1_finds_8 8 rfl rfl)
theorem dX1_finds_197 : decode cX1_finds 197 = .ok (.iadd, 1) := dk_96 (dk_at dksX1_finds_8 9 rfl rfl)
theorem dX1_finds_198 : decode cX1_finds 198 = .ok (.istore 11, 2) := dk_54 11 (dk_at dksX1_finds_8 10 rfl rfl)
theorem dX1_finds_200 : decode cX1_finds 200 = .ok (.iload 11, 2) := dk_21 11 (dk_at dksX1_finds_8 12 rfl rfl)
theorem dX1_finds_202 : decode cX1_finds 202 = .ok (.iload 8, 2) := dk_21 8 (dk_at dksX1_finds_8 14 rfl rfl)
theorem dX1_finds_204 : decode cX1_finds 204 = .ok (.if_icmp .gt 38, 3) := dk_163 0 38 (dk_at dksX1_finds_8 16 rfl rfl)
theorem dX1_finds_207 : decode cX1_finds 207 = .ok (.aload_n 0, 1) := dk_42 (dk_at dksX1_finds_8 19 rfl rfl)
theorem dX1_finds_208 : decode cX1_finds 208 = .ok (.getfield 181, 3) := dk_180 0 181 (dk_at dksX1_finds_8 20 rfl rfl)
theorem dX1_finds_211 : decode cX1_finds 211 = .ok (.iconst (-1), 1) := dk_2 (dk_at dksX1_finds_8 23 rfl rfl)
theorem dX1_finds_212 : decode cX1_finds 212 = .ok (.if_icmp .eq 12, 3) := dk_159 0 12 (dk_at dksX1_finds_9 0 rfl rfl)
theorem dX1_finds_215 : decode cX1_finds 215 = .ok (.iload 11, 2) := dk_21 11 (dk_at dksX1_finds_9 3 rfl rfl)
theorem dX1_finds_217 : decode cX1_finds 217 = .ok (.aload_n 0, 1) := dk_42 (dk_at dksX1_finds_9 5 rfl rfl)
theorem dX1_finds_218 : decode cX1_finds 218 = .ok (.getfield 203, 3) := dk_180 0 203 (dk_at dksX1_finds_9 6 rfl rfl)
theorem dX1_finds_221 : decode cX1_finds 221 = .ok (.if_icmp .ge 21, 3) := dk_162 0 21 (dk_at dksX1_finds_9 9 rfl rfl)
theorem dX1_finds_224 : decode cX1_finds 224 = .ok (.aload_n 0, 1) := dk_42 (dk_at dksX1_finds_9 12 rfl rfl)
theorem dX1_finds_225 : decode cX1_finds 225 = .ok (.aload_n 1, 1) := dk_43 (dk_at dksX1_finds_9 13 rfl rfl)
theorem dX1_finds_226 : decode cX1_finds 226 = .ok (.iload 5, 2) := dk_21 5 (dk_at dksX1_finds_9 14 rfl rfl)
theorem dX1_finds_228 : decode cX1_finds 228 = .ok (.iload 7, 2) := dk_21 7 (dk_at dksX1_finds_9 16 rfl rfl)
theorem dX1_finds_230 : decode cX1_finds 230 = .ok (.aload_n 3, 1) := dk_45 (dk_at dksX1_finds_9 18 rfl rfl)
theorem dX1_finds_231 : decode cX1_finds 231 = .ok (.iload 9, 2) := dk_21 9 (dk_at dksX1_finds_9 19 rfl rfl)
theorem dX1_finds_233 : decode cX1_finds 233 = .ok (.aload 4, 2) := dk_25 4 (dk_at dksX1_finds_9 21 rfl rfl)
theorem dX1_finds_235 : decode cX1_finds 235 = .ok (.iload 10, 2) := dk_21 10 (dk_at dksX1_finds_10 0 rfl rfl)
theorem dX1_finds_237 : decode cX1_finds 237 = .ok (.iload 11, 2) := dk_21 11 (dk_at dksX1_finds_10 2 rfl rfl)
theorem dX1_finds_239 : decode cX1_finds 239 = .ok (.invokevirtual 206, 3) := dk_182 0 206 (dk_at dksX1_finds_10 4 rfl rfl)
theorem dX1_finds_242 : decode cX1_finds 242 = .ok (.iinc 10 1, 3) := dk_132 10 1 (dk_at dksX1_finds_10 7 rfl rfl)
theorem dX1_finds_245 : decode cX1_finds 245 = .ok (.goto (-95), 3) := dk_167 255 161 (dk_at dksX1_finds_10 10 rfl rfl)
theorem dX1_finds_248 : decode cX1_finds 248 = .ok (.iinc 9 1, 3) := dk_132 9 1 (dk_at dksX1_finds_10 13 rfl rfl)
theorem dX1_finds_251 : decode cX1_finds 251 = .ok (.goto (-117), 3) := dk_167 255 139 (dk_at dksX1_finds_10 16 rfl rfl)
theorem dX1_finds_254 : decode cX1_finds 254 = .ok (.iinc 5 1, 3) := dk_132 5 1 (dk_at dksX1_finds_10 19 rfl rfl)
theorem dX1_finds_257 : decode cX1_finds 257 = .ok (.goto (-212), 3) := dk_167 255 44 (dk_at dksX1_finds_11 0 rfl rfl)
theorem dX1_finds_260 : decode cX1_finds 260 = .ok (.aload_n 0, 1) := dk_42 (dk_at dksX1_finds_11 3 rfl rfl)
theorem dX1_finds_261 : decode cX1_finds 261 = .ok (.getfield 181, 3) := dk_180 0 181 (dk_at dksX1_finds_11 4 rfl rfl)
theorem dX1_finds_264 : decode cX1_finds 264 = .ok (.iconst (-1), 1) := dk_2 (dk_at dksX1_finds_11 7 rfl rfl)
theorem dX1_finds_265 : decode cX1_finds 265 = .ok (.if_icmp .eq 7, 3) := dk_159 0 7 (dk_at dksX1_finds_11 8 rfl rfl)
theorem dX1_finds_268 : decode cX1_finds 268 = .ok (.iconst 1, 1) := dk_4 (dk_at dksX1_finds_11 11 rfl rfl)
theorem dX1_finds_269 : decode cX1_finds 269 = .ok (.goto 4, 3) := dk_167 0 4 (dk_at dksX1_finds_11 12 rfl rfl)
theorem dX1_finds_272 : decode cX1_finds 272 = .ok (.iconst 0, 1) := dk_3 (dk_at dksX1_finds_11 15 rfl rfl)
theorem dX1_finds_273 : decode cX1_finds 273 = .ok (.ireturn, 1) := dk_172 (dk_at dksX1_finds_11 16 rfl rfl)
abbrev cX1_fixed : ByteArray := prog_1_method_7_code
def yX1_fixed : MethodName := ⟨RX1, "fixed", "(LRideDesk$State;LRideDesk$Route;)I"⟩
def dkwX1_fixed_1 : List UInt8 := [167, 255, 235, 29, 172]
abbrev dktX1_fixed_1 : List UInt8 := dkwX1_fixed_1 ++ []
def dkwX1_fixed_0 : List UInt8 := [3, 62, 29, 44, 180, 0, 3, 162, 0, 19, 42, 43, 44, 29, 182, 0, 79, 153, 0, 9, 132, 3, 1]
abbrev dktX1_fixed_0 : List UInt8 := dkwX1_fixed_0 ++ dktX1_fixed_1
theorem dksX1_fixed_0 : cX1_fixed.data.toList.drop 0 = dktX1_fixed_0 := by decide +kernel
theorem dksX1_fixed_1 : cX1_fixed.data.toList.drop 23 = dktX1_fixed_1 := dk_seg dksX1_fixed_0 23 rfl rfl
theorem dX1_fixed_0 : decode cX1_fixed 0 = .ok (.iconst 0, 1) := dk_3 (dk_at dksX1_fixed_0 0 rfl rfl)
theorem dX1_fixed_1 : decode cX1_fixed 1 = .ok (.istore_n 3, 1) := dk_62 (dk_at dksX1_fixed_0 1 rfl rfl)
theorem dX1_fixed_2 : decode cX1_fixed 2 = .ok (.iload_n 3, 1) := dk_29 (dk_at dksX1_fixed_0 2 rfl rfl)
theorem dX1_fixed_3 : decode cX1_fixed 3 = .ok (.aload_n 2, 1) := dk_44 (dk_at dksX1_fixed_0 3 rfl rfl)
theorem dX1_fixed_4 : decode cX1_fixed 4 = .ok (.getfield 3, 3) := dk_180 0 3 (dk_at dksX1_fixed_0 4 rfl rfl)
theorem dX1_fixed_7 : decode cX1_fixed 7 = .ok (.if_icmp .ge 19, 3) := dk_162 0 19 (dk_at dksX1_fixed_0 7 rfl rfl)
theorem dX1_fixed_10 : decode cX1_fixed 10 = .ok (.aload_n 0, 1) := dk_42 (dk_at dksX1_fixed_0 10 rfl rfl)
theorem dX1_fixed_11 : decode cX1_fixed 11 = .ok (.aload_n 1, 1) := dk_43 (dk_at dksX1_fixed_0 11 rfl rfl)
theorem dX1_fixed_12 : decode cX1_fixed 12 = .ok (.aload_n 2, 1) := dk_44 (dk_at dksX1_fixed_0 12 rfl rfl)
theorem dX1_fixed_13 : decode cX1_fixed 13 = .ok (.iload_n 3, 1) := dk_29 (dk_at dksX1_fixed_0 13 rfl rfl)
theorem dX1_fixed_14 : decode cX1_fixed 14 = .ok (.invokevirtual 79, 3) := dk_182 0 79 (dk_at dksX1_fixed_0 14 rfl rfl)
theorem dX1_fixed_17 : decode cX1_fixed 17 = .ok (.ifCond .eq 9, 3) := dk_153 0 9 (dk_at dksX1_fixed_0 17 rfl rfl)
theorem dX1_fixed_20 : decode cX1_fixed 20 = .ok (.iinc 3 1, 3) := dk_132 3 1 (dk_at dksX1_fixed_0 20 rfl rfl)
theorem dX1_fixed_23 : decode cX1_fixed 23 = .ok (.goto (-21), 3) := dk_167 255 235 (dk_at dksX1_fixed_1 0 rfl rfl)
theorem dX1_fixed_26 : decode cX1_fixed 26 = .ok (.iload_n 3, 1) := dk_29 (dk_at dksX1_fixed_1 3 rfl rfl)
theorem dX1_fixed_27 : decode cX1_fixed 27 = .ok (.ireturn, 1) := dk_172 (dk_at dksX1_fixed_1 4 rfl rfl)
abbrev cX1_isFixed : ByteArray := prog_1_method_6_code
def yX1_isFixed : MethodName := ⟨RX1, "isFixed", "(LRideDesk$State;LRideDesk$Route;I)Z"⟩
def dkwX1_isFixed_1 : List UInt8 := [153, 0, 7, 4, 167, 0, 4, 3, 172]
abbrev dktX1_isFixed_1 : List UInt8 := dkwX1_isFixed_1 ++ []
def dkwX1_isFixed_0 : List UInt8 := [44, 180, 0, 69, 29, 46, 43, 180, 0, 72, 161, 0, 16, 44, 180, 0, 33, 29, 50, 43, 182, 0, 75]
abbrev dktX1_isFixed_0 : List UInt8 := dkwX1_isFixed_0 ++ dktX1_isFixed_1
theorem dksX1_isFixed_0 : cX1_isFixed.data.toList.drop 0 = dktX1_isFixed_0 := by decide +kernel
theorem dksX1_isFixed_1 : cX1_isFixed.data.toList.drop 23 = dktX1_isFixed_1 := dk_seg dksX1_isFixed_0 23 rfl rfl
theorem dX1_isFixed_0 : decode cX1_isFixed 0 = .ok (.aload_n 2, 1) := dk_44 (dk_at dksX1_isFixed_0 0 rfl rfl)
theorem dX1_isFixed_1 : decode cX1_isFixed 1 = .ok (.getfield 69, 3) := dk_180 0 69 (dk_at dksX1_isFixed_0 1 rfl rfl)
theorem dX1_isFixed_4 : decode cX1_isFixed 4 = .ok (.iload_n 3, 1) := dk_29 (dk_at dksX1_isFixed_0 4 rfl rfl)
theorem dX1_isFixed_5 : decode cX1_isFixed 5 = .ok (.iaload, 1) := dk_46 (dk_at dksX1_isFixed_0 5 rfl rfl)
theorem dX1_isFixed_6 : decode cX1_isFixed 6 = .ok (.aload_n 1, 1) := dk_43 (dk_at dksX1_isFixed_0 6 rfl rfl)
theorem dX1_isFixed_7 : decode cX1_isFixed 7 = .ok (.getfield 72, 3) := dk_180 0 72 (dk_at dksX1_isFixed_0 7 rfl rfl)
theorem dX1_isFixed_10 : decode cX1_isFixed 10 = .ok (.if_icmp .lt 16, 3) := dk_161 0 16 (dk_at dksX1_isFixed_0 10 rfl rfl)
theorem dX1_isFixed_13 : decode cX1_isFixed 13 = .ok (.aload_n 2, 1) := dk_44 (dk_at dksX1_isFixed_0 13 rfl rfl)
theorem dX1_isFixed_14 : decode cX1_isFixed 14 = .ok (.getfield 33, 3) := dk_180 0 33 (dk_at dksX1_isFixed_0 14 rfl rfl)
theorem dX1_isFixed_17 : decode cX1_isFixed 17 = .ok (.iload_n 3, 1) := dk_29 (dk_at dksX1_isFixed_0 17 rfl rfl)
theorem dX1_isFixed_18 : decode cX1_isFixed 18 = .ok (.aaload, 1) := dk_50 (dk_at dksX1_isFixed_0 18 rfl rfl)
theorem dX1_isFixed_19 : decode cX1_isFixed 19 = .ok (.aload_n 1, 1) := dk_43 (dk_at dksX1_isFixed_0 19 rfl rfl)
theorem dX1_isFixed_20 : decode cX1_isFixed 20 = .ok (.invokevirtual 75, 3) := dk_182 0 75 (dk_at dksX1_isFixed_0 20 rfl rfl)
theorem dX1_isFixed_23 : decode cX1_isFixed 23 = .ok (.ifCond .eq 7, 3) := dk_153 0 7 (dk_at dksX1_isFixed_1 0 rfl rfl)
theorem dX1_isFixed_26 : decode cX1_isFixed 26 = .ok (.iconst 1, 1) := dk_4 (dk_at dksX1_isFixed_1 3 rfl rfl)
theorem dX1_isFixed_27 : decode cX1_isFixed 27 = .ok (.goto 4, 3) := dk_167 0 4 (dk_at dksX1_isFixed_1 4 rfl rfl)
theorem dX1_isFixed_30 : decode cX1_isFixed 30 = .ok (.iconst 0, 1) := dk_3 (dk_at dksX1_isFixed_1 7 rfl rfl)
theorem dX1_isFixed_31 : decode cX1_isFixed 31 = .ok (.ireturn, 1) := dk_172 (dk_at dksX1_isFixed_1 8 rfl rfl)
abbrev cX1_leastEnd : ByteArray := prog_1_method_16_code
def yX1_leastEnd : MethodName := ⟨RX1, "leastEnd", "(LRideDesk$State;ILRideDesk$Route;I)I"⟩
def dkwX1_leastEnd_6 : List UInt8 := [185, 0, 25, 2, 0, 192, 0, 31, 182, 0, 47, 96, 172]
abbrev dktX1_leastEnd_6 : List UInt8 := dkwX1_leastEnd_6 ++ []
def dkwX1_leastEnd_5 : List UInt8 := [180, 0, 33, 45, 180, 0, 3, 4, 100, 50, 180, 0, 37, 42, 180, 0, 15, 180, 0, 19, 28]
abbrev dktX1_leastEnd_5 : List UInt8 := dkwX1_leastEnd_5 ++ dktX1_leastEnd_6
def dkwX1_leastEnd_4 : List UInt8 := [167, 255, 212, 45, 180, 0, 3, 154, 0, 8, 21, 5, 167, 0, 43, 21, 5, 42, 180, 0, 15, 45]
abbrev dktX1_leastEnd_4 : List UInt8 := dkwX1_leastEnd_4 ++ dktX1_leastEnd_5
def dkwX1_leastEnd_3 : List UInt8 := [180, 0, 55, 45, 180, 0, 33, 21, 6, 50, 180, 0, 61, 50, 180, 0, 64, 96, 96, 54, 5, 132, 6, 1]
abbrev dktX1_leastEnd_3 : List UInt8 := dkwX1_leastEnd_3 ++ dktX1_leastEnd_4
def dkwX1_leastEnd_2 : List UInt8 := [21, 4, 54, 6, 21, 6, 45, 180, 0, 3, 162, 0, 41, 21, 5, 42, 28, 45, 21, 6, 182, 0, 92, 43]
abbrev dktX1_leastEnd_2 : List UInt8 := dkwX1_leastEnd_2 ++ dktX1_leastEnd_3
def dkwX1_leastEnd_1 : List UInt8 := [192, 0, 83, 180, 0, 85, 167, 0, 13, 42, 43, 45, 21, 4, 4, 100, 182, 0, 88, 184, 0, 96, 54, 5]
abbrev dktX1_leastEnd_1 : List UInt8 := dkwX1_leastEnd_1 ++ dktX1_leastEnd_2
def dkwX1_leastEnd_0 : List UInt8 := [43, 180, 0, 72, 21, 4, 154, 0, 25, 42, 180, 0, 15, 180, 0, 19, 28, 185, 0, 25, 2, 0]
abbrev dktX1_leastEnd_0 : List UInt8 := dkwX1_leastEnd_0 ++ dktX1_leastEnd_1
theorem dksX1_leastEnd_0 : cX1_leastEnd.data.toList.drop 0 = dktX1_leastEnd_0 := by decide +kernel
theorem dksX1_leastEnd_1 : cX1_leastEnd.data.toList.drop 22 = dktX1_leastEnd_1 := dk_seg dksX1_leastEnd_0 22 rfl rfl
theorem dksX1_leastEnd_2 : cX1_leastEnd.data.toList.drop 46 = dktX1_leastEnd_2 := dk_seg dksX1_leastEnd_1 24 rfl rfl
theorem dksX1_leastEnd_3 : cX1_leastEnd.data.toList.drop 70 = dktX1_leastEnd_3 := dk_seg dksX1_leastEnd_2 24 rfl rfl
theorem dksX1_leastEnd_4 : cX1_leastEnd.data.toList.drop 94 = dktX1_leastEnd_4 := dk_seg dksX1_leastEnd_3 24 rfl rfl
theorem dksX1_leastEnd_5 : cX1_leastEnd.data.toList.drop 116 = dktX1_leastEnd_5 := dk_seg dksX1_leastEnd_4 22 rfl rfl
theorem dksX1_leastEnd_6 : cX1_leastEnd.data.toList.drop 137 = dktX1_leastEnd_6 := dk_seg dksX1_leastEnd_5 21 rfl rfl
theorem dX1_leastEnd_0 : decode cX1_leastEnd 0 = .ok (.aload_n 1, 1) := dk_43 (dk_at dksX1_leastEnd_0 0 rfl rfl)
theorem dX1_leastEnd_1 : decode cX1_leastEnd 1 = .ok (.getfield 72, 3) := dk_180 0 72 (dk_at dksX1_leastEnd_0 1 rfl rfl)
theorem dX1_leastEnd_4 : decode cX1_leastEnd 4 = .ok (.iload 4, 2) := dk_21 4 (dk_at dksX1_leastEnd_0 4 rfl rfl)
theorem dX1_leastEnd_6 : decode cX1_leastEnd 6 = .ok (.ifCond .ne 25, 3) := dk_154 0 25 (dk_at dksX1_leastEnd_0 6 rfl rfl)
theorem dX1_leastEnd_9 : decode cX1_leastEnd 9 = .ok (.aload_n 0, 1) := dk_42 (dk_at dksX1_leastEnd_0 9 rfl rfl)
theorem dX1_leastEnd_10 : decode cX1_leastEnd 10 = .ok (.getfield 15, 3) := dk_180 0 15 (dk_at dksX1_leastEnd_0 10 rfl rfl)
theorem dX1_leastEnd_13 : decode cX1_leastEnd 13 = .ok (.getfield 19, 3) := dk_180 0 19 (dk_at dksX1_leastEnd_0 13 rfl rfl)
theorem dX1_leastEnd_16 : decode cX1_leastEnd 16 = .ok (.iload_n 2, 1) := dk_28 (dk_at dksX1_leastEnd_0 16 rfl rfl)
theorem dX1_leastEnd_17 : decode cX1_leastEnd 17 = .ok (.invokeinterface 25 2, 5) := by decide +kernel
theorem dX1_leastEnd_22 : decode cX1_leastEnd 22 = .ok (.checkcast 83, 3) := dk_192 0 83 (dk_at dksX1_leastEnd_1 0 rfl rfl)
theorem dX1_leastEnd_25 : decode cX1_leastEnd 25 = .ok (.getfield 85, 3) := dk_180 0 85 (dk_at dksX1_leastEnd_1 3 rfl rfl)
theorem dX1_leastEnd_28 : decode cX1_leastEnd 28 = .ok (.goto 13, 3) := dk_167 0 13 (dk_at dksX1_leastEnd_1 6 rfl rfl)
theorem dX1_leastEnd_31 : decode cX1_leastEnd 31 = .ok (.aload_n 0, 1) := dk_42 (dk_at dksX1_leastEnd_1 9 rfl rfl)
theorem dX1_leastEnd_32 : decode cX1_leastEnd 32 = .ok (.aload_n 1, 1) := dk_43 (dk_at dksX1_leastEnd_1 10 rfl rfl)
theorem dX1_leastEnd_33 : decode cX1_leastEnd 33 = .ok (.aload_n 3, 1) := dk_45 (dk_at dksX1_leastEnd_1 11 rfl rfl)
theorem dX1_leastEnd_34 : decode cX1_leastEnd 34 = .ok (.iload 4, 2) := dk_21 4 (dk_at dksX1_leastEnd_1 12 rfl rfl)
theorem dX1_leastEnd_36 : decode cX1_leastEnd 36 = .ok (.iconst 1, 1) := dk_4 (dk_at dksX1_leastEnd_1 14 rfl rfl)
theorem dX1_leastEnd_37 : decode cX1_leastEnd 37 = .ok (.isub, 1) := dk_100 (dk_at dksX1_leastEnd_1 15 rfl rfl)
theorem dX1_leastEnd_38 : decode cX1_leastEnd 38 = .ok (.invokevirtual 88, 3) := dk_182 0 88 (dk_at dksX1_leastEnd_1 16 rfl rfl)
theorem dX1_leastEnd_41 : decode cX1_leastEnd 41 = .ok (.invokestatic 96, 3) := dk_184 0 96 (dk_at dksX1_leastEnd_1 19 rfl rfl)
theorem dX1_leastEnd_44 : decode cX1_leastEnd 44 = .ok (.istore 5, 2) := dk_54 5 (dk_at dksX1_leastEnd_1 22 rfl rfl)
theorem dX1_leastEnd_46 : decode cX1_leastEnd 46 = .ok (.iload 4, 2) := dk_21 4 (dk_at dksX1_leastEnd_2 0 rfl rfl)
theorem dX1_leastEnd_48 : decode cX1_leastEnd 48 = .ok (.istore 6, 2) := dk_54 6 (dk_at dksX1_leastEnd_2 2 rfl rfl)
theorem dX1_leastEnd_50 : decode cX1_leastEnd 50 = .ok (.iload 6, 2) := dk_21 6 (dk_at dksX1_leastEnd_2 4 rfl rfl)
theorem dX1_leastEnd_52 : decode cX1_leastEnd 52 = .ok (.aload_n 3, 1) := dk_45 (dk_at dksX1_leastEnd_2 6 rfl rfl)
theorem dX1_leastEnd_53 : decode cX1_leastEnd 53 = .ok (.getfield 3, 3) := dk_180 0 3 (dk_at dksX1_leastEnd_2 7 rfl rfl)
theorem dX1_leastEnd_56 : decode cX1_leastEnd 56 = .ok (.if_icmp .ge 41, 3) := dk_162 0 41 (dk_at dksX1_leastEnd_2 10 rfl rfl)
theorem dX1_leastEnd_59 : decode cX1_leastEnd 59 = .ok (.iload 5, 2) := dk_21 5 (dk_at dksX1_leastEnd_2 13 rfl rfl)
theorem dX1_leastEnd_61 : decode cX1_leastEnd 61 = .ok (.aload_n 0, 1) := dk_42 (dk_at dksX1_leastEnd_2 15 rfl rfl)
theorem dX1_leastEnd_62 : decode cX1_leastEnd 62 = .ok (.iload_n 2, 1) := dk_28 (dk_at dksX1_leastEnd_2 16 rfl rfl)
theorem dX1_leastEnd_63 : decode cX1_leastEnd 63 = .ok (.aload_n 3, 1) := dk_45 (dk_at dksX1_leastEnd_2 17 rfl rfl)
theorem dX1_leastEnd_64 : decode cX1_leastEnd 64 = .ok (.iload 6, 2) := dk_21 6 (dk_at dksX1_leastEnd_2 18 rfl rfl)
theorem dX1_leastEnd_66 : decode cX1_leastEnd 66 = .ok (.invokevirtual 92, 3) := dk_182 0 92 (dk_at dksX1_leastEnd_2 20 rfl rfl)
theorem dX1_leastEnd_69 : decode cX1_leastEnd 69 = .ok (.aload_n 1, 1) := dk_43 (dk_at dksX1_leastEnd_2 23 rfl rfl)
theorem dX1_leastEnd_70 : decode cX1_leastEnd 70 = .ok (.getfield 55, 3) := dk_180 0 55 (dk_at dksX1_leastEnd_3 0 rfl rfl)
theorem dX1_leastEnd_73 : decode cX1_leastEnd 73 = .ok (.aload_n 3, 1) := dk_45 (dk_at dksX1_leastEnd_3 3 rfl rfl)
theorem dX1_leastEnd_74 : decode cX1_leastEnd 74 = .ok (.getfield 33, 3) := dk_180 0 33 (dk_at dksX1_leastEnd_3 4 rfl rfl)
theorem dX1_leastEnd_77 : decode cX1_leastEnd 77 = .ok (.iload 6, 2) := dk_21 6 (dk_at dksX1_leastEnd_3 7 rfl rfl)
theorem dX1_leastEnd_79 : decode cX1_leastEnd 79 = .ok (.aaload, 1) := dk_50 (dk_at dksX1_leastEnd_3 9 rfl rfl)
theorem dX1_leastEnd_80 : decode cX1_leastEnd 80 = .ok (.getfield 61, 3) := dk_180 0 61 (dk_at dksX1_leastEnd_3 10 rfl rfl)
theorem dX1_leastEnd_83 : decode cX1_leastEnd 83 = .ok (.aaload, 1) := dk_50 (dk_at dksX1_leastEnd_3 13 rfl rfl)
theorem dX1_leastEnd_84 : decode cX1_leastEnd 84 = .ok (.getfield 64, 3) := dk_180 0 64 (dk_at dksX1_leastEnd_3 14 rfl rfl)
theorem dX1_leastEnd_87 : decode cX1_leastEnd 87 = .ok (.iadd, 1) := dk_96 (dk_at dksX1_leastEnd_3 17 rfl rfl)
theorem dX1_leastEnd_88 : decode cX1_leastEnd 88 = .ok (.iadd, 1) := dk_96 (dk_at dksX1_leastEnd_3 18 rfl rfl)
theorem dX1_leastEnd_89 : decode cX1_leastEnd 89 = .ok (.istore 5, 2) := dk_54 5 (dk_at dksX1_leastEnd_3 19 rfl rfl)
theorem dX1_leastEnd_91 : decode cX1_leastEnd 91 = .ok (.iinc 6 1, 3) := dk_132 6 1 (dk_at dksX1_leastEnd_3 21 rfl rfl)
theorem dX1_leastEnd_94 : decode cX1_leastEnd 94 = .ok (.goto (-44), 3) := dk_167 255 212 (dk_at dksX1_leastEnd_4 0 rfl rfl)
theorem dX1_leastEnd_97 : decode cX1_leastEnd 97 = .ok (.aload_n 3, 1) := dk_45 (dk_at dksX1_leastEnd_4 3 rfl rfl)
theorem dX1_leastEnd_98 : decode cX1_leastEnd 98 = .ok (.getfield 3, 3) := dk_180 0 3 (dk_at dksX1_leastEnd_4 4 rfl rfl)
theorem dX1_leastEnd_101 : decode cX1_leastEnd 101 = .ok (.ifCond .ne 8, 3) := dk_154 0 8 (dk_at dksX1_leastEnd_4 7 rfl rfl)
theorem dX1_leastEnd_104 : decode cX1_leastEnd 104 = .ok (.iload 5, 2) := dk_21 5 (dk_at dksX1_leastEnd_4 10 rfl rfl)
theorem dX1_leastEnd_106 : decode cX1_leastEnd 106 = .ok (.goto 43, 3) := dk_167 0 43 (dk_at dksX1_leastEnd_4 12 rfl rfl)
theorem dX1_leastEnd_109 : decode cX1_leastEnd 109 = .ok (.iload 5, 2) := dk_21 5 (dk_at dksX1_leastEnd_4 15 rfl rfl)
theorem dX1_leastEnd_111 : decode cX1_leastEnd 111 = .ok (.aload_n 0, 1) := dk_42 (dk_at dksX1_leastEnd_4 17 rfl rfl)
theorem dX1_leastEnd_112 : decode cX1_leastEnd 112 = .ok (.getfield 15, 3) := dk_180 0 15 (dk_at dksX1_leastEnd_4 18 rfl rfl)
theorem dX1_leastEnd_115 : decode cX1_leastEnd 115 = .ok (.aload_n 3, 1) := dk_45 (dk_at dksX1_leastEnd_4 21 rfl rfl)
theorem dX1_leastEnd_116 : decode cX1_leastEnd 116 = .ok (.getfield 33, 3) := dk_180 0 33 (dk_at dksX1_leastEnd_5 0 rfl rfl)
theorem dX1_leastEnd_119 : decode cX1_leastEnd 119 = .ok (.aload_n 3, 1) := dk_45 (dk_at dksX1_leastEnd_5 3 rfl rfl)
theorem dX1_leastEnd_120 : decode cX1_leastEnd 120 = .ok (.getfield 3, 3) := dk_180 0 3 (dk_at dksX1_leastEnd_5 4 rfl rfl)
theorem dX1_leastEnd_123 : decode cX1_leastEnd 123 = .ok (.iconst 1, 1) := dk_4 (dk_at dksX1_leastEnd_5 7 rfl rfl)
theorem dX1_leastEnd_124 : decode cX1_leastEnd 124 = .ok (.isub, 1) := dk_100 (dk_at dksX1_leastEnd_5 8 rfl rfl)
theorem dX1_leastEnd_125 : decode cX1_leastEnd 125 = .ok (.aaload, 1) := dk_50 (dk_at dksX1_leastEnd_5 9 rfl rfl)
theorem dX1_leastEnd_126 : decode cX1_leastEnd 126 = .ok (.getfield 37, 3) := dk_180 0 37 (dk_at dksX1_leastEnd_5 10 rfl rfl)
theorem dX1_leastEnd_129 : decode cX1_leastEnd 129 = .ok (.aload_n 0, 1) := dk_42 (dk_at dksX1_leastEnd_5 13 rfl rfl)
theorem dX1_leastEnd_130 : decode cX1_leastEnd 130 = .ok (.getfield 15, 3) := dk_180 0 15 (dk_at dksX1_leastEnd_5 14 rfl rfl)
theorem dX1_leastEnd_133 : decode cX1_leastEnd 133 = .ok (.getfield 19, 3) := dk_180 0 19 (dk_at dksX1_leastEnd_5 17 rfl rfl)
theorem dX1_leastEnd_136 : decode cX1_leastEnd 136 = .ok (.iload_n 2, 1) := dk_28 (dk_at dksX1_leastEnd_5 20 rfl rfl)
theorem dX1_leastEnd_137 : decode cX1_leastEnd 137 = .ok (.invokeinterface 25 2, 5) := by decide +kernel
theorem dX1_leastEnd_142 : decode cX1_leastEnd 142 = .ok (.checkcast 31, 3) := dk_192 0 31 (dk_at dksX1_leastEnd_6 5 rfl rfl)
theorem dX1_leastEnd_145 : decode cX1_leastEnd 145 = .ok (.invokevirtual 47, 3) := dk_182 0 47 (dk_at dksX1_leastEnd_6 8 rfl rfl)
theorem dX1_leastEnd_148 : decode cX1_leastEnd 148 = .ok (.iadd, 1) := dk_96 (dk_at dksX1_leastEnd_6 11 rfl rfl)
theorem dX1_leastEnd_149 : decode cX1_leastEnd 149 = .ok (.ireturn, 1) := dk_172 (dk_at dksX1_leastEnd_6 12 rfl rfl)
abbrev cX1_finish : ByteArray := prog_1_method_5_code
def yX1_finish : MethodName := ⟨RX1, "finish", "(LRideDesk$State;LRideDesk$Route;I)I"⟩
def dkwX1_finish_1 : List UInt8 := [172]
abbrev dktX1_finish_1 : List UInt8 := dkwX1_finish_1 ++ []
def dkwX1_finish_0 : List UInt8 := [44, 180, 0, 51, 29, 46, 43, 180, 0, 55, 44, 180, 0, 33, 29, 50, 180, 0, 61, 50, 180, 0, 64, 96]
abbrev dktX1_finish_0 : List UInt8 := dkwX1_finish_0 ++ dktX1_finish_1
theorem dksX1_finish_0 : cX1_finish.data.toList.drop 0 = dktX1_finish_0 := by decide +kernel
theorem dksX1_finish_1 : cX1_finish.data.toList.drop 24 = dktX1_finish_1 := dk_seg dksX1_finish_0 24 rfl rfl
theorem dX1_finish_0 : decode cX1_finish 0 = .ok (.aload_n 2, 1) := dk_44 (dk_at dksX1_finish_0 0 rfl rfl)
theorem dX1_finish_1 : decode cX1_finish 1 = .ok (.getfield 51, 3) := dk_180 0 51 (dk_at dksX1_finish_0 1 rfl rfl)
theorem dX1_finish_4 : decode cX1_finish 4 = .ok (.iload_n 3, 1) := dk_29 (dk_at dksX1_finish_0 4 rfl rfl)
theorem dX1_finish_5 : decode cX1_finish 5 = .ok (.iaload, 1) := dk_46 (dk_at dksX1_finish_0 5 rfl rfl)
theorem dX1_finish_6 : decode cX1_finish 6 = .ok (.aload_n 1, 1) := dk_43 (dk_at dksX1_finish_0 6 rfl rfl)
theorem dX1_finish_7 : decode cX1_finish 7 = .ok (.getfield 55, 3) := dk_180 0 55 (dk_at dksX1_finish_0 7 rfl rfl)
theorem dX1_finish_10 : decode cX1_finish 10 = .ok (.aload_n 2, 1) := dk_44 (dk_at dksX1_finish_0 10 rfl rfl)
theorem dX1_finish_11 : decode cX1_finish 11 = .ok (.getfield 33, 3) := dk_180 0 33 (dk_at dksX1_finish_0 11 rfl rfl)
theorem dX1_finish_14 : decode cX1_finish 14 = .ok (.iload_n 3, 1) := dk_29 (dk_at dksX1_finish_0 14 rfl rfl)
theorem dX1_finish_15 : decode cX1_finish 15 = .ok (.aaload, 1) := dk_50 (dk_at dksX1_finish_0 15 rfl rfl)
theorem dX1_finish_16 : decode cX1_finish 16 = .ok (.getfield 61, 3) := dk_180 0 61 (dk_at dksX1_finish_0 16 rfl rfl)
theorem dX1_finish_19 : decode cX1_finish 19 = .ok (.aaload, 1) := dk_50 (dk_at dksX1_finish_0 19 rfl rfl)
theorem dX1_finish_20 : decode cX1_finish 20 = .ok (.getfield 64, 3) := dk_180 0 64 (dk_at dksX1_finish_0 20 rfl rfl)
theorem dX1_finish_23 : decode cX1_finish 23 = .ok (.iadd, 1) := dk_96 (dk_at dksX1_finish_0 23 rfl rfl)
theorem dX1_finish_24 : decode cX1_finish 24 = .ok (.ireturn, 1) := dk_172 (dk_at dksX1_finish_1 0 rfl rfl)
abbrev cX1_layDetours : ByteArray := prog_1_method_15_code
def yX1_layDetours : MethodName := ⟨RX1, "layDetours", "(ILRideDesk$Route;LRideDesk$Spot;LRideDesk$Spot;)V"⟩
def dkwX1_layDetours_8 : List UInt8 := [132, 6, 1, 167, 255, 82, 177]
abbrev dktX1_layDetours_8 : List UInt8 := dkwX1_layDetours_8 ++ []
def dkwX1_layDetours_7 : List UInt8 := [182, 0, 47, 21, 5, 96, 42, 180, 0, 15, 25, 4, 25, 8, 182, 0, 47, 96, 21, 9, 100, 79]
abbrev dktX1_layDetours_7 : List UInt8 := dkwX1_layDetours_7 ++ dktX1_layDetours_8
def dkwX1_layDetours_6 : List UInt8 := [25, 8, 182, 0, 47, 96, 21, 9, 100, 79, 42, 180, 0, 194, 21, 6, 42, 180, 0, 15, 25, 7, 45]
abbrev dktX1_layDetours_6 : List UInt8 := dkwX1_layDetours_6 ++ dktX1_layDetours_7
def dkwX1_layDetours_5 : List UInt8 := [79, 42, 180, 0, 200, 21, 6, 42, 180, 0, 15, 25, 7, 25, 4, 182, 0, 47, 42, 180, 0, 15, 25, 4]
abbrev dktX1_layDetours_5 : List UInt8 := dkwX1_layDetours_5 ++ dktX1_layDetours_6
def dkwX1_layDetours_4 : List UInt8 := [42, 180, 0, 15, 25, 7, 45, 182, 0, 47, 42, 180, 0, 15, 45, 25, 8, 182, 0, 47, 96, 21, 9, 100]
abbrev dktX1_layDetours_4 : List UInt8 := dkwX1_layDetours_4 ++ dktX1_layDetours_5
def dkwX1_layDetours_3 : List UInt8 := [192, 0, 31, 58, 8, 42, 180, 0, 15, 25, 7, 25, 8, 182, 0, 47, 54, 9, 42, 180, 0, 197, 21, 6]
abbrev dktX1_layDetours_3 : List UInt8 := dkwX1_layDetours_3 ++ dktX1_layDetours_4
def dkwX1_layDetours_2 : List UInt8 := [21, 6, 50, 180, 0, 37, 167, 0, 19, 42, 180, 0, 15, 180, 0, 19, 27, 185, 0, 25, 2, 0]
abbrev dktX1_layDetours_2 : List UInt8 := dkwX1_layDetours_2 ++ dktX1_layDetours_3
def dkwX1_layDetours_1 : List UInt8 := [42, 27, 44, 21, 6, 182, 0, 43, 58, 7, 21, 6, 44, 180, 0, 3, 162, 0, 16, 44, 180, 0, 33]
abbrev dktX1_layDetours_1 : List UInt8 := dkwX1_layDetours_1 ++ dktX1_layDetours_2
def dkwX1_layDetours_0 : List UInt8 := [42, 180, 0, 15, 45, 25, 4, 182, 0, 47, 54, 5, 3, 54, 6, 21, 6, 44, 180, 0, 3, 163, 0, 171]
abbrev dktX1_layDetours_0 : List UInt8 := dkwX1_layDetours_0 ++ dktX1_layDetours_1
theorem dksX1_layDetours_0 : cX1_layDetours.data.toList.drop 0 = dktX1_layDetours_0 := by decide +kernel
theorem dksX1_layDetours_1 : cX1_layDetours.data.toList.drop 24 = dktX1_layDetours_1 := dk_seg dksX1_layDetours_0 24 rfl rfl
theorem dksX1_layDetours_2 : cX1_layDetours.data.toList.drop 47 = dktX1_layDetours_2 := dk_seg dksX1_layDetours_1 23 rfl rfl
theorem dksX1_layDetours_3 : cX1_layDetours.data.toList.drop 69 = dktX1_layDetours_3 := dk_seg dksX1_layDetours_2 22 rfl rfl
theorem dksX1_layDetours_4 : cX1_layDetours.data.toList.drop 93 = dktX1_layDetours_4 := dk_seg dksX1_layDetours_3 24 rfl rfl
theorem dksX1_layDetours_5 : cX1_layDetours.data.toList.drop 117 = dktX1_layDetours_5 := dk_seg dksX1_layDetours_4 24 rfl rfl
theorem dksX1_layDetours_6 : cX1_layDetours.data.toList.drop 141 = dktX1_layDetours_6 := dk_seg dksX1_layDetours_5 24 rfl rfl
theorem dksX1_layDetours_7 : cX1_layDetours.data.toList.drop 164 = dktX1_layDetours_7 := dk_seg dksX1_layDetours_6 23 rfl rfl
theorem dksX1_layDetours_8 : cX1_layDetours.data.toList.drop 186 = dktX1_layDetours_8 := dk_seg dksX1_layDetours_7 22 rfl rfl
theorem dX1_layDetours_0 : decode cX1_layDetours 0 = .ok (.aload_n 0, 1) := dk_42 (dk_at dksX1_layDetours_0 0 rfl rfl)
theorem dX1_layDetours_1 : decode cX1_layDetours 1 = .ok (.getfield 15, 3) := dk_180 0 15 (dk_at dksX1_layDetours_0 1 rfl rfl)
theorem dX1_layDetours_4 : decode cX1_layDetours 4 = .ok (.aload_n 3, 1) := dk_45 (dk_at dksX1_layDetours_0 4 rfl rfl)
theorem dX1_layDetours_5 : decode cX1_layDetours 5 = .ok (.aload 4, 2) := dk_25 4 (dk_at dksX1_layDetours_0 5 rfl rfl)
theorem dX1_layDetours_7 : decode cX1_layDetours 7 = .ok (.invokevirtual 47, 3) := dk_182 0 47 (dk_at dksX1_layDetours_0 7 rfl rfl)
theorem dX1_layDetours_10 : decode cX1_layDetours 10 = .ok (.istore 5, 2) := dk_54 5 (dk_at dksX1_layDetours_0 10 rfl rfl)
theorem dX1_layDetours_12 : decode cX1_layDetours 12 = .ok (.iconst 0, 1) := dk_3 (dk_at dksX1_layDetours_0 12 rfl rfl)
theorem dX1_layDetours_13 : decode cX1_layDetours 13 = .ok (.istore 6, 2) := dk_54 6 (dk_at dksX1_layDetours_0 13 rfl rfl)
theorem dX1_layDetours_15 : decode cX1_layDetours 15 = .ok (.iload 6, 2) := dk_21 6 (dk_at dksX1_layDetours_0 15 rfl rfl)
theorem dX1_layDetours_17 : decode cX1_layDetours 17 = .ok (.aload_n 2, 1) := dk_44 (dk_at dksX1_layDetours_0 17 rfl rfl)
theorem dX1_layDetours_18 : decode cX1_layDetours 18 = .ok (.getfield 3, 3) := dk_180 0 3 (dk_at dksX1_layDetours_0 18 rfl rfl)
theorem dX1_layDetours_21 : decode cX1_layDetours 21 = .ok (.if_icmp .gt 171, 3) := dk_163 0 171 (dk_at dksX1_layDetours_0 21 rfl rfl)
theorem dX1_layDetours_24 : decode cX1_layDetours 24 = .ok (.aload_n 0, 1) := dk_42 (dk_at dksX1_layDetours_1 0 rfl rfl)
theorem dX1_layDetours_25 : decode cX1_layDetours 25 = .ok (.iload_n 1, 1) := dk_27 (dk_at dksX1_layDetours_1 1 rfl rfl)
theorem dX1_layDetours_26 : decode cX1_layDetours 26 = .ok (.aload_n 2, 1) := dk_44 (dk_at dksX1_layDetours_1 2 rfl rfl)
theorem dX1_layDetours_27 : decode cX1_layDetours 27 = .ok (.iload 6, 2) := dk_21 6 (dk_at dksX1_layDetours_1 3 rfl rfl)
theorem dX1_layDetours_29 : decode cX1_layDetours 29 = .ok (.invokevirtual 43, 3) := dk_182 0 43 (dk_at dksX1_layDetours_1 5 rfl rfl)
theorem dX1_layDetours_32 : decode cX1_layDetours 32 = .ok (.astore 7, 2) := dk_58 7 (dk_at dksX1_layDetours_1 8 rfl rfl)
theorem dX1_layDetours_34 : decode cX1_layDetours 34 = .ok (.iload 6, 2) := dk_21 6 (dk_at dksX1_layDetours_1 10 rfl rfl)
theorem dX1_layDetours_36 : decode cX1_layDetours 36 = .ok (.aload_n 2, 1) := dk_44 (dk_at dksX1_layDetours_1 12 rfl rfl)
theorem dX1_layDetours_37 : decode cX1_layDetours 37 = .ok (.getfield 3, 3) := dk_180 0 3 (dk_at dksX1_layDetours_1 13 rfl rfl)
theorem dX1_layDetours_40 : decode cX1_layDetours 40 = .ok (.if_icmp .ge 16, 3) := dk_162 0 16 (dk_at dksX1_layDetours_1 16 rfl rfl)
theorem dX1_layDetours_43 : decode cX1_layDetours 43 = .ok (.aload_n 2, 1) := dk_44 (dk_at dksX1_layDetours_1 19 rfl rfl)
theorem dX1_layDetours_44 : decode cX1_layDetours 44 = .ok (.getfield 33, 3) := dk_180 0 33 (dk_at dksX1_layDetours_1 20 rfl rfl)
theorem dX1_layDetours_47 : decode cX1_layDetours 47 = .ok (.iload 6, 2) := dk_21 6 (dk_at dksX1_layDetours_2 0 rfl rfl)
theorem dX1_layDetours_49 : decode cX1_layDetours 49 = .ok (.aaload, 1) := dk_50 (dk_at dksX1_layDetours_2 2 rfl rfl)
theorem dX1_layDetours_50 : decode cX1_layDetours 50 = .ok (.getfield 37, 3) := dk_180 0 37 (dk_at dksX1_layDetours_2 3 rfl rfl)
theorem dX1_layDetours_53 : decode cX1_layDetours 53 = .ok (.goto 19, 3) := dk_167 0 19 (dk_at dksX1_layDetours_2 6 rfl rfl)
theorem dX1_layDetours_56 : decode cX1_layDetours 56 = .ok (.aload_n 0, 1) := dk_42 (dk_at dksX1_layDetours_2 9 rfl rfl)
theorem dX1_layDetours_57 : decode cX1_layDetours 57 = .ok (.getfield 15, 3) := dk_180 0 15 (dk_at dksX1_layDetours_2 10 rfl rfl)
theorem dX1_layDetours_60 : decode cX1_layDetours 60 = .ok (.getfield 19, 3) := dk_180 0 19 (dk_at dksX1_layDetours_2 13 rfl rfl)
theorem dX1_layDetours_63 : decode cX1_layDetours 63 = .ok (.iload_n 1, 1) := dk_27 (dk_at dksX1_layDetours_2 16 rfl rfl)
theorem dX1_layDetours_64 : decode cX1_layDetours 64 = .ok (.invokeinterface 25 2, 5) := by decide +kernel
theorem dX1_layDetours_69 : decode cX1_layDetours 69 = .ok (.checkcast 31, 3) := dk_192 0 31 (dk_at dksX1_layDetours_3 0 rfl rfl)
theorem dX1_layDetours_72 : decode cX1_layDetours 72 = .ok (.astore 8, 2) := dk_58 8 (dk_at dksX1_layDetours_3 3 rfl rfl)
theorem dX1_layDetours_74 : decode cX1_layDetours 74 = .ok (.aload_n 0, 1) := dk_42 (dk_at dksX1_layDetours_3 5 rfl rfl)
theorem dX1_layDetours_75 : decode cX1_layDetours 75 = .ok (.getfield 15, 3) := dk_180 0 15 (dk_at dksX1_layDetours_3 6 rfl rfl)
theorem dX1_layDetours_78 : decode cX1_layDetours 78 = .ok (.aload 7, 2) := dk_25 7 (dk_at dksX1_layDetours_3 9 rfl rfl)
theorem dX1_layDetours_80 : decode cX1_layDetours 80 = .ok (.aload 8, 2) := dk_25 8 (dk_at dksX1_layDetours_3 11 rfl rfl)
theorem dX1_layDetours_82 : decode cX1_layDetours 82 = .ok (.invokevirtual 47, 3) := dk_182 0 47 (dk_at dksX1_layDetours_3 13 rfl rfl)
theorem dX1_layDetours_85 : decode cX1_layDetours 85 = .ok (.istore 9, 2) := dk_54 9 (dk_at dksX1_layDetours_3 16 rfl rfl)
theorem dX1_layDetours_87 : decode cX1_layDetours 87 = .ok (.aload_n 0, 1) := dk_42 (dk_at dksX1_layDetours_3 18 rfl rfl)
theorem dX1_layDetours_88 : decode cX1_layDetours 88 = .ok (.getfield 197, 3) := dk_180 0 197 (dk_at dksX1_layDetours_3 19 rfl rfl)
theorem dX1_layDetours_91 : decode cX1_layDetours 91 = .ok (.iload 6, 2) := dk_21 6 (dk_at dksX1_layDetours_3 22 rfl rfl)
theorem dX1_layDetours_93 : decode cX1_layDetours 93 = .ok (.aload_n 0, 1) := dk_42 (dk_at dksX1_layDetours_4 0 rfl rfl)
theorem dX1_layDetours_94 : decode cX1_layDetours 94 = .ok (.getfield 15, 3) := dk_180 0 15 (dk_at dksX1_layDetours_4 1 rfl rfl)
theorem dX1_layDetours_97 : decode cX1_layDetours 97 = .ok (.aload 7, 2) := dk_25 7 (dk_at dksX1_layDetours_4 4 rfl rfl)
theorem dX1_layDetours_99 : decode cX1_layDetours 99 = .ok (.aload_n 3, 1) := dk_45 (dk_at dksX1_layDetours_4 6 rfl rfl)
theorem dX1_layDetours_100 : decode cX1_layDetours 100 = .ok (.invokevirtual 47, 3) := dk_182 0 47 (dk_at dksX1_layDetours_4 7 rfl rfl)
theorem dX1_layDetours_103 : decode cX1_layDetours 103 = .ok (.aload_n 0, 1) := dk_42 (dk_at dksX1_layDetours_4 10 rfl rfl)
theorem dX1_layDetours_104 : decode cX1_layDetours 104 = .ok (.getfield 15, 3) := dk_180 0 15 (dk_at dksX1_layDetours_4 11 rfl rfl)
theorem dX1_layDetours_107 : decode cX1_layDetours 107 = .ok (.aload_n 3, 1) := dk_45 (dk_at dksX1_layDetours_4 14 rfl rfl)
theorem dX1_layDetours_108 : decode cX1_layDetours 108 = .ok (.aload 8, 2) := dk_25 8 (dk_at dksX1_layDetours_4 15 rfl rfl)
theorem dX1_layDetours_110 : decode cX1_layDetours 110 = .ok (.invokevirtual 47, 3) := dk_182 0 47 (dk_at dksX1_layDetours_4 17 rfl rfl)
theorem dX1_layDetours_113 : decode cX1_layDetours 113 = .ok (.iadd, 1) := dk_96 (dk_at dksX1_layDetours_4 20 rfl rfl)
theorem dX1_layDetours_114 : decode cX1_layDetours 114 = .ok (.iload 9, 2) := dk_21 9 (dk_at dksX1_layDetours_4 21 rfl rfl)
theorem dX1_layDetours_116 : decode cX1_layDetours 116 = .ok (.isub, 1) := dk_100 (dk_at dksX1_layDetours_4 23 rfl rfl)
theorem dX1_layDetours_117 : decode cX1_layDetours 117 = .ok (.iastore, 1) := dk_79 (dk_at dksX1_layDetours_5 0 rfl rfl)
theorem dX1_layDetours_118 : decode cX1_layDetours 118 = .ok (.aload_n 0, 1) := dk_42 (dk_at dksX1_layDetours_5 1 rfl rfl)
theorem dX1_layDetours_119 : decode cX1_layDetours 119 = .ok (.getfield 200, 3) := dk_180 0 200 (dk_at dksX1_layDetours_5 2 rfl rfl)
theorem dX1_layDetours_122 : decode cX1_layDetours 122 = .ok (.iload 6, 2) := dk_21 6 (dk_at dksX1_layDetours_5 5 rfl rfl)
theorem dX1_layDetours_124 : decode cX1_layDetours 124 = .ok (.aload_n 0, 1) := dk_42 (dk_at dksX1_layDetours_5 7 rfl rfl)
theorem dX1_layDetours_125 : decode cX1_layDetours 125 = .ok (.getfield 15, 3) := dk_180 0 15 (dk_at dksX1_layDetours_5 8 rfl rfl)
theorem dX1_layDetours_128 : decode cX1_layDetours 128 = .ok (.aload 7, 2) := dk_25 7 (dk_at dksX1_layDetours_5 11 rfl rfl)
theorem dX1_layDetours_130 : decode cX1_layDetours 130 = .ok (.aload 4, 2) := dk_25 4 (dk_at dksX1_layDetours_5 13 rfl rfl)
theorem dX1_layDetours_132 : decode cX1_layDetours 132 = .ok (.invokevirtual 47, 3) := dk_182 0 47 (dk_at dksX1_layDetours_5 15 rfl rfl)
theorem dX1_layDetours_135 : decode cX1_layDetours 135 = .ok (.aload_n 0, 1) := dk_42 (dk_at dksX1_layDetours_5 18 rfl rfl)
theorem dX1_layDetours_136 : decode cX1_layDetours 136 = .ok (.getfield 15, 3) := dk_180 0 15 (dk_at dksX1_layDetours_5 19 rfl rfl)
theorem dX1_layDetours_139 : decode cX1_layDetours 139 = .ok (.aload 4, 2) := dk_25 4 (dk_at dksX1_layDetours_5 22 rfl rfl)
theorem dX1_layDetours_141 : decode cX1_layDetours 141 = .ok (.aload 8, 2) := dk_25 8 (dk_at dksX1_layDetours_6 0 rfl rfl)
theorem dX1_layDetours_143 : decode cX1_layDetours 143 = .ok (.invokevirtual 47, 3) := dk_182 0 47 (dk_at dksX1_layDetours_6 2 rfl rfl)
theorem dX1_layDetours_146 : decode cX1_layDetours 146 = .ok (.iadd, 1) := dk_96 (dk_at dksX1_layDetours_6 5 rfl rfl)
theorem dX1_layDetours_147 : decode cX1_layDetours 147 = .ok (.iload 9, 2) := dk_21 9 (dk_at dksX1_layDetours_6 6 rfl rfl)
theorem dX1_layDetours_149 : decode cX1_layDetours 149 = .ok (.isub, 1) := dk_100 (dk_at dksX1_layDetours_6 8 rfl rfl)
theorem dX1_layDetours_150 : decode cX1_layDetours 150 = .ok (.iastore, 1) := dk_79 (dk_at dksX1_layDetours_6 9 rfl rfl)
theorem dX1_layDetours_151 : decode cX1_layDetours 151 = .ok (.aload_n 0, 1) := dk_42 (dk_at dksX1_layDetours_6 10 rfl rfl)
theorem dX1_layDetours_152 : decode cX1_layDetours 152 = .ok (.getfield 194, 3) := dk_180 0 194 (dk_at dksX1_layDetours_6 11 rfl rfl)
theorem dX1_layDetours_155 : decode cX1_layDetours 155 = .ok (.iload 6, 2) := dk_21 6 (dk_at dksX1_layDetours_6 14 rfl rfl)
theorem dX1_layDetours_157 : decode cX1_layDetours 157 = .ok (.aload_n 0, 1) := dk_42 (dk_at dksX1_layDetours_6 16 rfl rfl)
theorem dX1_layDetours_158 : decode cX1_layDetours 158 = .ok (.getfield 15, 3) := dk_180 0 15 (dk_at dksX1_layDetours_6 17 rfl rfl)
theorem dX1_layDetours_161 : decode cX1_layDetours 161 = .ok (.aload 7, 2) := dk_25 7 (dk_at dksX1_layDetours_6 20 rfl rfl)
theorem dX1_layDetours_163 : decode cX1_layDetours 163 = .ok (.aload_n 3, 1) := dk_45 (dk_at dksX1_layDetours_6 22 rfl rfl)
theorem dX1_layDetours_164 : decode cX1_layDetours 164 = .ok (.invokevirtual 47, 3) := dk_182 0 47 (dk_at dksX1_layDetours_7 0 rfl rfl)
theorem dX1_layDetours_167 : decode cX1_layDetours 167 = .ok (.iload 5, 2) := dk_21 5 (dk_at dksX1_layDetours_7 3 rfl rfl)
theorem dX1_layDetours_169 : decode cX1_layDetours 169 = .ok (.iadd, 1) := dk_96 (dk_at dksX1_layDetours_7 5 rfl rfl)
theorem dX1_layDetours_170 : decode cX1_layDetours 170 = .ok (.aload_n 0, 1) := dk_42 (dk_at dksX1_layDetours_7 6 rfl rfl)
theorem dX1_layDetours_171 : decode cX1_layDetours 171 = .ok (.getfield 15, 3) := dk_180 0 15 (dk_at dksX1_layDetours_7 7 rfl rfl)
theorem dX1_layDetours_174 : decode cX1_layDetours 174 = .ok (.aload 4, 2) := dk_25 4 (dk_at dksX1_layDetours_7 10 rfl rfl)
theorem dX1_layDetours_176 : decode cX1_layDetours 176 = .ok (.aload 8, 2) := dk_25 8 (dk_at dksX1_layDetours_7 12 rfl rfl)
theorem dX1_layDetours_178 : decode cX1_layDetours 178 = .ok (.invokevirtual 47, 3) := dk_182 0 47 (dk_at dksX1_layDetours_7 14 rfl rfl)
theorem dX1_layDetours_181 : decode cX1_layDetours 181 = .ok (.iadd, 1) := dk_96 (dk_at dksX1_layDetours_7 17 rfl rfl)
theorem dX1_layDetours_182 : decode cX1_layDetours 182 = .ok (.iload 9, 2) := dk_21 9 (dk_at dksX1_layDetours_7 18 rfl rfl)
theorem dX1_layDetours_184 : decode cX1_layDetours 184 = .ok (.isub, 1) := dk_100 (dk_at dksX1_layDetours_7 20 rfl rfl)
theorem dX1_layDetours_185 : decode cX1_layDetours 185 = .ok (.iastore, 1) := dk_79 (dk_at dksX1_layDetours_7 21 rfl rfl)
theorem dX1_layDetours_186 : decode cX1_layDetours 186 = .ok (.iinc 6 1, 3) := dk_132 6 1 (dk_at dksX1_layDetours_8 0 rfl rfl)
theorem dX1_layDetours_189 : decode cX1_layDetours 189 = .ok (.goto (-174), 3) := dk_167 255 82 (dk_at dksX1_layDetours_8 3 rfl rfl)
theorem dX1_layDetours_192 : decode cX1_layDetours 192 = .ok (.return_, 1) := dk_177 (dk_at dksX1_layDetours_8 6 rfl rfl)
abbrev cX1_tries : ByteArray := prog_1_method_17_code
def yX1_tries : MethodName := ⟨RX1, "tries", "(LRideDesk$State;IILRideDesk$Pickup;ILRideDesk$Drop;II)V"⟩
def dkwX1_tries_3 : List UInt8 := [181, 0, 203, 177]
abbrev dktX1_tries_3 : List UInt8 := dkwX1_tries_3 ++ []
def dkwX1_tries_2 : List UInt8 := [154, 0, 4, 177, 42, 180, 0, 225, 42, 180, 0, 210, 182, 0, 214, 42, 28, 181, 0, 181, 42, 21, 8]
abbrev dktX1_tries_2 : List UInt8 := dkwX1_tries_2 ++ dktX1_tries_3
def dkwX1_tries_1 : List UInt8 := [42, 180, 0, 210, 21, 7, 25, 6, 182, 0, 218, 42, 43, 28, 42, 180, 0, 210, 29, 182, 0, 222]
abbrev dktX1_tries_1 : List UInt8 := dkwX1_tries_1 ++ dktX1_tries_2
def dkwX1_tries_0 : List UInt8 := [42, 180, 0, 210, 43, 180, 0, 156, 28, 50, 182, 0, 214, 42, 180, 0, 210, 21, 5, 25, 4, 182, 0, 218]
abbrev dktX1_tries_0 : List UInt8 := dkwX1_tries_0 ++ dktX1_tries_1
theorem dksX1_tries_0 : cX1_tries.data.toList.drop 0 = dktX1_tries_0 := by decide +kernel
theorem dksX1_tries_1 : cX1_tries.data.toList.drop 24 = dktX1_tries_1 := dk_seg dksX1_tries_0 24 rfl rfl
theorem dksX1_tries_2 : cX1_tries.data.toList.drop 46 = dktX1_tries_2 := dk_seg dksX1_tries_1 22 rfl rfl
theorem dksX1_tries_3 : cX1_tries.data.toList.drop 69 = dktX1_tries_3 := dk_seg dksX1_tries_2 23 rfl rfl
theorem dX1_tries_0 : decode cX1_tries 0 = .ok (.aload_n 0, 1) := dk_42 (dk_at dksX1_tries_0 0 rfl rfl)
theorem dX1_tries_1 : decode cX1_tries 1 = .ok (.getfield 210, 3) := dk_180 0 210 (dk_at dksX1_tries_0 1 rfl rfl)
theorem dX1_tries_4 : decode cX1_tries 4 = .ok (.aload_n 1, 1) := dk_43 (dk_at dksX1_tries_0 4 rfl rfl)
theorem dX1_tries_5 : decode cX1_tries 5 = .ok (.getfield 156, 3) := dk_180 0 156 (dk_at dksX1_tries_0 5 rfl rfl)
theorem dX1_tries_8 : decode cX1_tries 8 = .ok (.iload_n 2, 1) := dk_28 (dk_at dksX1_tries_0 8 rfl rfl)
theorem dX1_tries_9 : decode cX1_tries 9 = .ok (.aaload, 1) := dk_50 (dk_at dksX1_tries_0 9 rfl rfl)
theorem dX1_tries_10 : decode cX1_tries 10 = .ok (.invokevirtual 214, 3) := dk_182 0 214 (dk_at dksX1_tries_0 10 rfl rfl)
theorem dX1_tries_13 : decode cX1_tries 13 = .ok (.aload_n 0, 1) := dk_42 (dk_at dksX1_tries_0 13 rfl rfl)
theorem dX1_tries_14 : decode cX1_tries 14 = .ok (.getfield 210, 3) := dk_180 0 210 (dk_at dksX1_tries_0 14 rfl rfl)
theorem dX1_tries_17 : decode cX1_tries 17 = .ok (.iload 5, 2) := dk_21 5 (dk_at dksX1_tries_0 17 rfl rfl)
theorem dX1_tries_19 : decode cX1_tries 19 = .ok (.aload 4, 2) := dk_25 4 (dk_at dksX1_tries_0 19 rfl rfl)
theorem dX1_tries_21 : decode cX1_tries 21 = .ok (.invokevirtual 218, 3) := dk_182 0 218 (dk_at dksX1_tries_0 21 rfl rfl)
theorem dX1_tries_24 : decode cX1_tries 24 = .ok (.aload_n 0, 1) := dk_42 (dk_at dksX1_tries_1 0 rfl rfl)
theorem dX1_tries_25 : decode cX1_tries 25 = .ok (.getfield 210, 3) := dk_180 0 210 (dk_at dksX1_tries_1 1 rfl rfl)
theorem dX1_tries_28 : decode cX1_tries 28 = .ok (.iload 7, 2) := dk_21 7 (dk_at dksX1_tries_1 4 rfl rfl)
theorem dX1_tries_30 : decode cX1_tries 30 = .ok (.aload 6, 2) := dk_25 6 (dk_at dksX1_tries_1 6 rfl rfl)
theorem dX1_tries_32 : decode cX1_tries 32 = .ok (.invokevirtual 218, 3) := dk_182 0 218 (dk_at dksX1_tries_1 8 rfl rfl)
theorem dX1_tries_35 : decode cX1_tries 35 = .ok (.aload_n 0, 1) := dk_42 (dk_at dksX1_tries_1 11 rfl rfl)
theorem dX1_tries_36 : decode cX1_tries 36 = .ok (.aload_n 1, 1) := dk_43 (dk_at dksX1_tries_1 12 rfl rfl)
theorem dX1_tries_37 : decode cX1_tries 37 = .ok (.iload_n 2, 1) := dk_28 (dk_at dksX1_tries_1 13 rfl rfl)
theorem dX1_tries_38 : decode cX1_tries 38 = .ok (.aload_n 0, 1) := dk_42 (dk_at dksX1_tries_1 14 rfl rfl)
theorem dX1_tries_39 : decode cX1_tries 39 = .ok (.getfield 210, 3) := dk_180 0 210 (dk_at dksX1_tries_1 15 rfl rfl)
theorem dX1_tries_42 : decode cX1_tries 42 = .ok (.iload_n 3, 1) := dk_29 (dk_at dksX1_tries_1 18 rfl rfl)
theorem dX1_tries_43 : decode cX1_tries 43 = .ok (.invokevirtual 222, 3) := dk_182 0 222 (dk_at dksX1_tries_1 19 rfl rfl)
theorem dX1_tries_46 : decode cX1_tries 46 = .ok (.ifCond .ne 4, 3) := dk_154 0 4 (dk_at dksX1_tries_2 0 rfl rfl)
theorem dX1_tries_49 : decode cX1_tries 49 = .ok (.return_, 1) := dk_177 (dk_at dksX1_tries_2 3 rfl rfl)
theorem dX1_tries_50 : decode cX1_tries 50 = .ok (.aload_n 0, 1) := dk_42 (dk_at dksX1_tries_2 4 rfl rfl)
theorem dX1_tries_51 : decode cX1_tries 51 = .ok (.getfield 225, 3) := dk_180 0 225 (dk_at dksX1_tries_2 5 rfl rfl)
theorem dX1_tries_54 : decode cX1_tries 54 = .ok (.aload_n 0, 1) := dk_42 (dk_at dksX1_tries_2 8 rfl rfl)
theorem dX1_tries_55 : decode cX1_tries 55 = .ok (.getfield 210, 3) := dk_180 0 210 (dk_at dksX1_tries_2 9 rfl rfl)
theorem dX1_tries_58 : decode cX1_tries 58 = .ok (.invokevirtual 214, 3) := dk_182 0 214 (dk_at dksX1_tries_2 12 rfl rfl)
theorem dX1_tries_61 : decode cX1_tries 61 = .ok (.aload_n 0, 1) := dk_42 (dk_at dksX1_tries_2 15 rfl rfl)
theorem dX1_tries_62 : decode cX1_tries 62 = .ok (.iload_n 2, 1) := dk_28 (dk_at dksX1_tries_2 16 rfl rfl)
theorem dX1_tries_63 : decode cX1_tries 63 = .ok (.putfield 181, 3) := dk_181 0 181 (dk_at dksX1_tries_2 17 rfl rfl)
theorem dX1_tries_66 : decode cX1_tries 66 = .ok (.aload_n 0, 1) := dk_42 (dk_at dksX1_tries_2 20 rfl rfl)
theorem dX1_tries_67 : decode cX1_tries 67 = .ok (.iload 8, 2) := dk_21 8 (dk_at dksX1_tries_2 21 rfl rfl)
theorem dX1_tries_69 : decode cX1_tries 69 = .ok (.putfield 203, 3) := dk_181 0 203 (dk_at dksX1_tries_3 0 rfl rfl)
theorem dX1_tries_72 : decode cX1_tries 72 = .ok (.return_, 1) := dk_177 (dk_at dksX1_tries_3 3 rfl rfl)
abbrev cX1_canBe : ByteArray := prog_1_method_18_code
def yX1_canBe : MethodName := ⟨RX1, "canBe", "(LRideDesk$State;ILRideDesk$Route;I)Z"⟩
def dkwX1_canBe_11 : List UInt8 := [172]
abbrev dktX1_canBe_11 : List UInt8 := dkwX1_canBe_11 ++ []
def dkwX1_canBe_10 : List UInt8 := [167, 255, 63, 42, 43, 28, 45, 182, 0, 131, 43, 180, 0, 135, 28, 46, 163, 0, 7, 4, 167, 0, 4, 3]
abbrev dktX1_canBe_10 : List UInt8 := dkwX1_canBe_10 ++ dktX1_canBe_11
def dkwX1_canBe_9 : List UInt8 := [155, 0, 19, 21, 7, 155, 0, 14, 42, 43, 45, 21, 9, 182, 0, 128, 154, 0, 5, 3, 172, 132, 9, 1]
abbrev dktX1_canBe_9 : List UInt8 := dkwX1_canBe_9 ++ dktX1_canBe_10
def dkwX1_canBe_8 : List UInt8 := [153, 0, 15, 42, 180, 0, 125, 25, 10, 180, 0, 61, 21, 8, 79, 21, 9, 21, 4, 161, 0, 26, 21, 6]
abbrev dktX1_canBe_8 : List UInt8 := dkwX1_canBe_8 ++ dktX1_canBe_9
def dkwX1_canBe_7 : List UInt8 := [182, 0, 92, 96, 182, 0, 102, 79, 42, 43, 45, 21, 9, 182, 0, 88, 54, 8, 25, 10, 193, 0, 123]
abbrev dktX1_canBe_7 : List UInt8 := dkwX1_canBe_7 ++ dktX1_canBe_8
def dkwX1_canBe_6 : List UInt8 := [21, 8, 79, 45, 180, 0, 51, 21, 9, 25, 10, 43, 45, 180, 0, 69, 21, 9, 46, 42, 28, 45, 21, 9]
abbrev dktX1_canBe_6 : List UInt8 := dkwX1_canBe_6 ++ dktX1_canBe_7
def dkwX1_canBe_5 : List UInt8 := [180, 0, 69, 21, 9, 21, 9, 21, 4, 160, 0, 15, 21, 8, 43, 180, 0, 72, 184, 0, 96, 167, 0, 5]
abbrev dktX1_canBe_5 : List UInt8 := dkwX1_canBe_5 ++ dktX1_canBe_6
def dkwX1_canBe_4 : List UInt8 := [25, 10, 25, 11, 180, 0, 111, 180, 0, 122, 182, 0, 118, 100, 54, 7, 21, 9, 21, 4, 161, 0, 60, 45]
abbrev dktX1_canBe_4 : List UInt8 := dkwX1_canBe_4 ++ dktX1_canBe_5
def dkwX1_canBe_3 : List UInt8 := [50, 58, 11, 21, 6, 25, 10, 25, 11, 180, 0, 111, 180, 0, 115, 182, 0, 118, 100, 54, 6, 21, 7]
abbrev dktX1_canBe_3 : List UInt8 := dkwX1_canBe_3 ++ dktX1_canBe_4
def dkwX1_canBe_2 : List UInt8 := [180, 0, 3, 162, 0, 190, 45, 180, 0, 33, 21, 9, 50, 58, 10, 43, 180, 0, 55, 25, 10, 180, 0, 61]
abbrev dktX1_canBe_2 : List UInt8 := dkwX1_canBe_2 ++ dktX1_canBe_3
def dkwX1_canBe_1 : List UInt8 := [54, 6, 25, 5, 180, 0, 108, 54, 7, 25, 5, 180, 0, 85, 54, 8, 3, 54, 9, 21, 9, 45]
abbrev dktX1_canBe_1 : List UInt8 := dkwX1_canBe_1 ++ dktX1_canBe_2
def dkwX1_canBe_0 : List UInt8 := [42, 180, 0, 15, 180, 0, 19, 28, 185, 0, 25, 2, 0, 192, 0, 83, 58, 5, 25, 5, 180, 0, 105]
abbrev dktX1_canBe_0 : List UInt8 := dkwX1_canBe_0 ++ dktX1_canBe_1
theorem dksX1_canBe_0 : cX1_canBe.data.toList.drop 0 = dktX1_canBe_0 := by decide +kernel
theorem dksX1_canBe_1 : cX1_canBe.data.toList.drop 23 = dktX1_canBe_1 := dk_seg dksX1_canBe_0 23 rfl rfl
theorem dksX1_canBe_2 : cX1_canBe.data.toList.drop 45 = dktX1_canBe_2 := dk_seg dksX1_canBe_1 22 rfl rfl
theorem dksX1_canBe_3 : cX1_canBe.data.toList.drop 69 = dktX1_canBe_3 := dk_seg dksX1_canBe_2 24 rfl rfl
theorem dksX1_canBe_4 : cX1_canBe.data.toList.drop 92 = dktX1_canBe_4 := dk_seg dksX1_canBe_3 23 rfl rfl
theorem dksX1_canBe_5 : cX1_canBe.data.toList.drop 116 = dktX1_canBe_5 := dk_seg dksX1_canBe_4 24 rfl rfl
theorem dksX1_canBe_6 : cX1_canBe.data.toList.drop 140 = dktX1_canBe_6 := dk_seg dksX1_canBe_5 24 rfl rfl
theorem dksX1_canBe_7 : cX1_canBe.data.toList.drop 164 = dktX1_canBe_7 := dk_seg dksX1_canBe_6 24 rfl rfl
theorem dksX1_canBe_8 : cX1_canBe.data.toList.drop 187 = dktX1_canBe_8 := dk_seg dksX1_canBe_7 23 rfl rfl
theorem dksX1_canBe_9 : cX1_canBe.data.toList.drop 211 = dktX1_canBe_9 := dk_seg dksX1_canBe_8 24 rfl rfl
theorem dksX1_canBe_10 : cX1_canBe.data.toList.drop 235 = dktX1_canBe_10 := dk_seg dksX1_canBe_9 24 rfl rfl
theorem dksX1_canBe_11 : cX1_canBe.data.toList.drop 259 = dktX1_canBe_11 := dk_seg dksX1_canBe_10 24 rfl rfl
theorem dX1_canBe_0 : decode cX1_canBe 0 = .ok (.aload_n 0, 1) := dk_42 (dk_at dksX1_canBe_0 0 rfl rfl)
theorem dX1_canBe_1 : decode cX1_canBe 1 = .ok (.getfield 15, 3) := dk_180 0 15 (dk_at dksX1_canBe_0 1 rfl rfl)
theorem dX1_canBe_4 : decode cX1_canBe 4 = .ok (.getfield 19, 3) := dk_180 0 19 (dk_at dksX1_canBe_0 4 rfl rfl)
theorem dX1_canBe_7 : decode cX1_canBe 7 = .ok (.iload_n 2, 1) := dk_28 (dk_at dksX1_canBe_0 7 rfl rfl)
theorem dX1_canBe_8 : decode cX1_canBe 8 = .ok (.invokeinterface 25 2, 5) := by decide +kernel
theorem dX1_canBe_13 : decode cX1_canBe 13 = .ok (.checkcast 83, 3) := dk_192 0 83 (dk_at dksX1_canBe_0 13 rfl rfl)
theorem dX1_canBe_16 : decode cX1_canBe 16 = .ok (.astore 5, 2) := dk_58 5 (dk_at dksX1_canBe_0 16 rfl rfl)
theorem dX1_canBe_18 : decode cX1_canBe 18 = .ok (.aload 5, 2) := dk_25 5 (dk_at dksX1_canBe_0 18 rfl rfl)
theorem dX1_canBe_20 : decode cX1_canBe 20 = .ok (.getfield 105, 3) := dk_180 0 105 (dk_at dksX1_canBe_0 20 rfl rfl)
theorem dX1_canBe_23 : decode cX1_canBe 23 = .ok (.istore 6, 2) := dk_54 6 (dk_at dksX1_canBe_1 0 rfl rfl)
theorem dX1_canBe_25 : decode cX1_canBe 25 = .ok (.aload 5, 2) := dk_25 5 (dk_at dksX1_canBe_1 2 rfl rfl)
theorem dX1_canBe_27 : decode cX1_canBe 27 = .ok (.getfield 108, 3) := dk_180 0 108 (dk_at dksX1_canBe_1 4 rfl rfl)
theorem dX1_canBe_30 : decode cX1_canBe 30 = .ok (.istore 7, 2) := dk_54 7 (dk_at dksX1_canBe_1 7 rfl rfl)
theorem dX1_canBe_32 : decode cX1_canBe 32 = .ok (.aload 5, 2) := dk_25 5 (dk_at dksX1_canBe_1 9 rfl rfl)
theorem dX1_canBe_34 : decode cX1_canBe 34 = .ok (.getfield 85, 3) := dk_180 0 85 (dk_at dksX1_canBe_1 11 rfl rfl)
theorem dX1_canBe_37 : decode cX1_canBe 37 = .ok (.istore 8, 2) := dk_54 8 (dk_at dksX1_canBe_1 14 rfl rfl)
theorem dX1_canBe_39 : decode cX1_canBe 39 = .ok (.iconst 0, 1) := dk_3 (dk_at dksX1_canBe_1 16 rfl rfl)
theorem dX1_canBe_40 : decode cX1_canBe 40 = .ok (.istore 9, 2) := dk_54 9 (dk_at dksX1_canBe_1 17 rfl rfl)
theorem dX1_canBe_42 : decode cX1_canBe 42 = .ok (.iload 9, 2) := dk_21 9 (dk_at dksX1_canBe_1 19 rfl rfl)
theorem dX1_canBe_44 : decode cX1_canBe 44 = .ok (.aload_n 3, 1) := dk_45 (dk_at dksX1_canBe_1 21 rfl rfl)
theorem dX1_canBe_45 : decode cX1_canBe 45 = .ok (.getfield 3, 3) := dk_180 0 3 (dk_at dksX1_canBe_2 0 rfl rfl)
theorem dX1_canBe_48 : decode cX1_canBe 48 = .ok (.if_icmp .ge 190, 3) := dk_162 0 190 (dk_at dksX1_canBe_2 3 rfl rfl)
theorem dX1_canBe_51 : decode cX1_canBe 51 = .ok (.aload_n 3, 1) := dk_45 (dk_at dksX1_canBe_2 6 rfl rfl)
theorem dX1_canBe_52 : decode cX1_canBe 52 = .ok (.getfield 33, 3) := dk_180 0 33 (dk_at dksX1_canBe_2 7 rfl rfl)
theorem dX1_canBe_55 : decode cX1_canBe 55 = .ok (.iload 9, 2) := dk_21 9 (dk_at dksX1_canBe_2 10 rfl rfl)
theorem dX1_canBe_57 : decode cX1_canBe 57 = .ok (.aaload, 1) := dk_50 (dk_at dksX1_canBe_2 12 rfl rfl)
theorem dX1_canBe_58 : decode cX1_canBe 58 = .ok (.astore 10, 2) := dk_58 10 (dk_at dksX1_canBe_2 13 rfl rfl)
theorem dX1_canBe_60 : decode cX1_canBe 60 = .ok (.aload_n 1, 1) := dk_43 (dk_at dksX1_canBe_2 15 rfl rfl)
theorem dX1_canBe_61 : decode cX1_canBe 61 = .ok (.getfield 55, 3) := dk_180 0 55 (dk_at dksX1_canBe_2 16 rfl rfl)
theorem dX1_canBe_64 : decode cX1_canBe 64 = .ok (.aload 10, 2) := dk_25 10 (dk_at dksX1_canBe_2 19 rfl rfl)
theorem dX1_canBe_66 : decode cX1_canBe 66 = .ok (.getfield 61, 3) := dk_180 0 61 (dk_at dksX1_canBe_2 21 rfl rfl)
theorem dX1_canBe_69 : decode cX1_canBe 69 = .ok (.aaload, 1) := dk_50 (dk_at dksX1_canBe_3 0 rfl rfl)
theorem dX1_canBe_70 : decode cX1_canBe 70 = .ok (.astore 11, 2) := dk_58 11 (dk_at dksX1_canBe_3 1 rfl rfl)
theorem dX1_canBe_72 : decode cX1_canBe 72 = .ok (.iload 6, 2) := dk_21 6 (dk_at dksX1_canBe_3 3 rfl rfl)
theorem dX1_canBe_74 : decode cX1_canBe 74 = .ok (.aload 10, 2) := dk_25 10 (dk_at dksX1_canBe_3 5 rfl rfl)
theorem dX1_canBe_76 : decode cX1_canBe 76 = .ok (.aload 11, 2) := dk_25 11 (dk_at dksX1_canBe_3 7 rfl rfl)
theorem dX1_canBe_78 : decode cX1_canBe 78 = .ok (.getfield 111, 3) := dk_180 0 111 (dk_at dksX1_canBe_3 9 rfl rfl)
theorem dX1_canBe_81 : decode cX1_canBe 81 = .ok (.getfield 115, 3) := dk_180 0 115 (dk_at dksX1_canBe_3 12 rfl rfl)
theorem dX1_canBe_84 : decode cX1_canBe 84 = .ok (.invokevirtual 118, 3) := dk_182 0 118 (dk_at dksX1_canBe_3 15 rfl rfl)
theorem dX1_canBe_87 : decode cX1_canBe 87 = .ok (.isub, 1) := dk_100 (dk_at dksX1_canBe_3 18 rfl rfl)
theorem dX1_canBe_88 : decode cX1_canBe 88 = .ok (.istore 6, 2) := dk_54 6 (dk_at dksX1_canBe_3 19 rfl rfl)
theorem dX1_canBe_90 : decode cX1_canBe 90 = .ok (.iload 7, 2) := dk_21 7 (dk_at dksX1_canBe_3 21 rfl rfl)
theorem dX1_canBe_92 : decode cX1_canBe 92 = .ok (.aload 10, 2) := dk_25 10 (dk_at dksX1_canBe_4 0 rfl rfl)
theorem dX1_canBe_94 : decode cX1_canBe 94 = .ok (.aload 11, 2) := dk_25 11 (dk_at dksX1_canBe_4 2 rfl rfl)
theorem dX1_canBe_96 : decode cX1_canBe 96 = .ok (.getfield 111, 3) := dk_180 0 111 (dk_at dksX1_canBe_4 4 rfl rfl)
theorem dX1_canBe_99 : decode cX1_canBe 99 = .ok (.getfield 122, 3) := dk_180 0 122 (dk_at dksX1_canBe_4 7 rfl rfl)
theorem dX1_canBe_102 : decode cX1_canBe 102 = .ok (.invokevirtual 118, 3) := dk_182 0 118 (dk_at dksX1_canBe_4 10 rfl rfl)
theorem dX1_canBe_105 : decode cX1_canBe 105 = .ok (.isub, 1) := dk_100 (dk_at dksX1_canBe_4 13 rfl rfl)
theorem dX1_canBe_106 : decode cX1_canBe 106 = .ok (.istore 7, 2) := dk_54 7 (dk_at dksX1_canBe_4 14 rfl rfl)
theorem dX1_canBe_108 : decode cX1_canBe 108 = .ok (.iload 9, 2) := dk_21 9 (dk_at dksX1_canBe_4 16 rfl rfl)
theorem dX1_canBe_110 : decode cX1_canBe 110 = .ok (.iload 4, 2) := dk_21 4 (dk_at dksX1_canBe_4 18 rfl rfl)
theorem dX1_canBe_112 : decode cX1_canBe 112 = .ok (.if_icmp .lt 60, 3) := dk_161 0 60 (dk_at dksX1_canBe_4 20 rfl rfl)
theorem dX1_canBe_115 : decode cX1_canBe 115 = .ok (.aload_n 3, 1) := dk_45 (dk_at dksX1_canBe_4 23 rfl rfl)
theorem dX1_canBe_116 : decode cX1_canBe 116 = .ok (.getfield 69, 3) := dk_180 0 69 (dk_at dksX1_canBe_5 0 rfl rfl)
theorem dX1_canBe_119 : decode cX1_canBe 119 = .ok (.iload 9, 2) := dk_21 9 (dk_at dksX1_canBe_5 3 rfl rfl)
theorem dX1_canBe_121 : decode cX1_canBe 121 = .ok (.iload 9, 2) := dk_21 9 (dk_at dksX1_canBe_5 5 rfl rfl)
theorem dX1_canBe_123 : decode cX1_canBe 123 = .ok (.iload 4, 2) := dk_21 4 (dk_at dksX1_canBe_5 7 rfl rfl)
theorem dX1_canBe_125 : decode cX1_canBe 125 = .ok (.if_icmp .ne 15, 3) := dk_160 0 15 (dk_at dksX1_canBe_5 9 rfl rfl)
theorem dX1_canBe_128 : decode cX1_canBe 128 = .ok (.iload 8, 2) := dk_21 8 (dk_at dksX1_canBe_5 12 rfl rfl)
theorem dX1_canBe_130 : decode cX1_canBe 130 = .ok (.aload_n 1, 1) := dk_43 (dk_at dksX1_canBe_5 14 rfl rfl)
theorem dX1_canBe_131 : decode cX1_canBe 131 = .ok (.getfield 72, 3) := dk_180 0 72 (dk_at dksX1_canBe_5 15 rfl rfl)
theorem dX1_canBe_134 : decode cX1_canBe 134 = .ok (.invokestatic 96, 3) := dk_184 0 96 (dk_at dksX1_canBe_5 18 rfl rfl)
theorem dX1_canBe_137 : decode cX1_canBe 137 = .ok (.goto 5, 3) := dk_167 0 5 (dk_at dksX1_canBe_5 21 rfl rfl)
theorem dX1_canBe_140 : decode cX1_canBe 140 = .ok (.iload 8, 2) := dk_21 8 (dk_at dksX1_canBe_6 0 rfl rfl)
theorem dX1_canBe_142 : decode cX1_canBe 142 = .ok (.iastore, 1) := dk_79 (dk_at dksX1_canBe_6 2 rfl rfl)
theorem dX1_canBe_143 : decode cX1_canBe 143 = .ok (.aload_n 3, 1) := dk_45 (dk_at dksX1_canBe_6 3 rfl rfl)
theorem dX1_canBe_144 : decode cX1_canBe 144 = .ok (.getfield 51, 3) := dk_180 0 51 (dk_at dksX1_canBe_6 4 rfl rfl)
theorem dX1_canBe_147 : decode cX1_canBe 147 = .ok (.iload 9, 2) := dk_21 9 (dk_at dksX1_canBe_6 7 rfl rfl)
theorem dX1_canBe_149 : decode cX1_canBe 149 = .ok (.aload 10, 2) := dk_25 10 (dk_at dksX1_canBe_6 9 rfl rfl)
theorem dX1_canBe_151 : decode cX1_canBe 151 = .ok (.aload_n 1, 1) := dk_43 (dk_at dksX1_canBe_6 11 rfl rfl)
theorem dX1_canBe_152 : decode cX1_canBe 152 = .ok (.aload_n 3, 1) := dk_45 (dk_at dksX1_canBe_6 12 rfl rfl)
theorem dX1_canBe_153 : decode cX1_canBe 153 = .ok (.getfield 69, 3) := dk_180 0 69 (dk_at dksX1_canBe_6 13 rfl rfl)
theorem dX1_canBe_156 : decode cX1_canBe 156 = .ok (.iload 9, 2) := dk_21 9 (dk_at dksX1_canBe_6 16 rfl rfl)
theorem dX1_canBe_158 : decode cX1_canBe 158 = .ok (.iaload, 1) := dk_46 (dk_at dksX1_canBe_6 18 rfl rfl)
theorem dX1_canBe_159 : decode cX1_canBe 159 = .ok (.aload_n 0, 1) := dk_42 (dk_at dksX1_canBe_6 19 rfl rfl)
theorem dX1_canBe_160 : decode cX1_canBe 160 = .ok (.iload_n 2, 1) := dk_28 (dk_at dksX1_canBe_6 20 rfl rfl)
theorem dX1_canBe_161 : decode cX1_canBe 161 = .ok (.aload_n 3, 1) := dk_45 (dk_at dksX1_canBe_6 21 rfl rfl)
theorem dX1_canBe_162 : decode cX1_canBe 162 = .ok (.iload 9, 2) := dk_21 9 (dk_at dksX1_canBe_6 22 rfl rfl)
theorem dX1_canBe_164 : decode cX1_canBe 164 = .ok (.invokevirtual 92, 3) := dk_182 0 92 (dk_at dksX1_canBe_7 0 rfl rfl)
theorem dX1_canBe_167 : decode cX1_canBe 167 = .ok (.iadd, 1) := dk_96 (dk_at dksX1_canBe_7 3 rfl rfl)
theorem dX1_canBe_168 : decode cX1_canBe 168 = .ok (.invokevirtual 102, 3) := dk_182 0 102 (dk_at dksX1_canBe_7 4 rfl rfl)
theorem dX1_canBe_171 : decode cX1_canBe 171 = .ok (.iastore, 1) := dk_79 (dk_at dksX1_canBe_7 7 rfl rfl)
theorem dX1_canBe_172 : decode cX1_canBe 172 = .ok (.aload_n 0, 1) := dk_42 (dk_at dksX1_canBe_7 8 rfl rfl)
theorem dX1_canBe_173 : decode cX1_canBe 173 = .ok (.aload_n 1, 1) := dk_43 (dk_at dksX1_canBe_7 9 rfl rfl)
theorem dX1_canBe_174 : decode cX1_canBe 174 = .ok (.aload_n 3, 1) := dk_45 (dk_at dksX1_canBe_7 10 rfl rfl)
theorem dX1_canBe_175 : decode cX1_canBe 175 = .ok (.iload 9, 2) := dk_21 9 (dk_at dksX1_canBe_7 11 rfl rfl)
theorem dX1_canBe_177 : decode cX1_canBe 177 = .ok (.invokevirtual 88, 3) := dk_182 0 88 (dk_at dksX1_canBe_7 13 rfl rfl)
theorem dX1_canBe_180 : decode cX1_canBe 180 = .ok (.istore 8, 2) := dk_54 8 (dk_at dksX1_canBe_7 16 rfl rfl)
theorem dX1_canBe_182 : decode cX1_canBe 182 = .ok (.aload 10, 2) := dk_25 10 (dk_at dksX1_canBe_7 18 rfl rfl)
theorem dX1_canBe_184 : decode cX1_canBe 184 = .ok (.instanceof 123, 3) := dk_193 0 123 (dk_at dksX1_canBe_7 20 rfl rfl)
theorem dX1_canBe_187 : decode cX1_canBe 187 = .ok (.ifCond .eq 15, 3) := dk_153 0 15 (dk_at dksX1_canBe_8 0 rfl rfl)
theorem dX1_canBe_190 : decode cX1_canBe 190 = .ok (.aload_n 0, 1) := dk_42 (dk_at dksX1_canBe_8 3 rfl rfl)
theorem dX1_canBe_191 : decode cX1_canBe 191 = .ok (.getfield 125, 3) := dk_180 0 125 (dk_at dksX1_canBe_8 4 rfl rfl)
theorem dX1_canBe_194 : decode cX1_canBe 194 = .ok (.aload 10, 2) := dk_25 10 (dk_at dksX1_canBe_8 7 rfl rfl)
theorem dX1_canBe_196 : decode cX1_canBe 196 = .ok (.getfield 61, 3) := dk_180 0 61 (dk_at dksX1_canBe_8 9 rfl rfl)
theorem dX1_canBe_199 : decode cX1_canBe 199 = .ok (.iload 8, 2) := dk_21 8 (dk_at dksX1_canBe_8 12 rfl rfl)
theorem dX1_canBe_201 : decode cX1_canBe 201 = .ok (.iastore, 1) := dk_79 (dk_at dksX1_canBe_8 14 rfl rfl)
theorem dX1_canBe_202 : decode cX1_canBe 202 = .ok (.iload 9, 2) := dk_21 9 (dk_at dksX1_canBe_8 15 rfl rfl)
theorem dX1_canBe_204 : decode cX1_canBe 204 = .ok (.iload 4, 2) := dk_21 4 (dk_at dksX1_canBe_8 17 rfl rfl)
theorem dX1_canBe_206 : decode cX1_canBe 206 = .ok (.if_icmp .lt 26, 3) := dk_161 0 26 (dk_at dksX1_canBe_8 19 rfl rfl)
theorem dX1_canBe_209 : decode cX1_canBe 209 = .ok (.iload 6, 2) := dk_21 6 (dk_at dksX1_canBe_8 22 rfl rfl)
theorem dX1_canBe_211 : decode cX1_canBe 211 = .ok (.ifCond .lt 19, 3) := dk_155 0 19 (dk_at dksX1_canBe_9 0 rfl rfl)
theorem dX1_canBe_214 : decode cX1_canBe 214 = .ok (.iload 7, 2) := dk_21 7 (dk_at dksX1_canBe_9 3 rfl rfl)
theorem dX1_canBe_216 : decode cX1_canBe 216 = .ok (.ifCond .lt 14, 3) := dk_155 0 14 (dk_at dksX1_canBe_9 5 rfl rfl)
theorem dX1_canBe_219 : decode cX1_canBe 219 = .ok (.aload_n 0, 1) := dk_42 (dk_at dksX1_canBe_9 8 rfl rfl)
theorem dX1_canBe_220 : decode cX1_canBe 220 = .ok (.aload_n 1, 1) := dk_43 (dk_at dksX1_canBe_9 9 rfl rfl)
theorem dX1_canBe_221 : decode cX1_canBe 221 = .ok (.aload_n 3, 1) := dk_45 (dk_at dksX1_canBe_9 10 rfl rfl)
theorem dX1_canBe_222 : decode cX1_canBe 222 = .ok (.iload 9, 2) := dk_21 9 (dk_at dksX1_canBe_9 11 rfl rfl)
theorem dX1_canBe_224 : decode cX1_canBe 224 = .ok (.invokevirtual 128, 3) := dk_182 0 128 (dk_at dksX1_canBe_9 13 rfl rfl)
theorem dX1_canBe_227 : decode cX1_canBe 227 = .ok (.ifCond .ne 5, 3) := dk_154 0 5 (dk_at dksX1_canBe_9 16 rfl rfl)
theorem dX1_canBe_230 : decode cX1_canBe 230 = .ok (.iconst 0, 1) := dk_3 (dk_at dksX1_canBe_9 19 rfl rfl)
theorem dX1_canBe_231 : decode cX1_canBe 231 = .ok (.ireturn, 1) := dk_172 (dk_at dksX1_canBe_9 20 rfl rfl)
theorem dX1_canBe_232 : decode cX1_canBe 232 = .ok (.iinc 9 1, 3) := dk_132 9 1 (dk_at dksX1_canBe_9 21 rfl rfl)
theorem dX1_canBe_235 : decode cX1_canBe 235 = .ok (.goto (-193), 3) := dk_167 255 63 (dk_at dksX1_canBe_10 0 rfl rfl)
theorem dX1_canBe_238 : decode cX1_canBe 238 = .ok (.aload_n 0, 1) := dk_42 (dk_at dksX1_canBe_10 3 rfl rfl)
theorem dX1_canBe_239 : decode cX1_canBe 239 = .ok (.aload_n 1, 1) := dk_43 (dk_at dksX1_canBe_10 4 rfl rfl)
theorem dX1_canBe_240 : decode cX1_canBe 240 = .ok (.iload_n 2, 1) := dk_28 (dk_at dksX1_canBe_10 5 rfl rfl)
theorem dX1_canBe_241 : decode cX1_canBe 241 = .ok (.aload_n 3, 1) := dk_45 (dk_at dksX1_canBe_10 6 rfl rfl)
theorem dX1_canBe_242 : decode cX1_canBe 242 = .ok (.invokevirtual 131, 3) := dk_182 0 131 (dk_at dksX1_canBe_10 7 rfl rfl)
theorem dX1_canBe_245 : decode cX1_canBe 245 = .ok (.aload_n 1, 1) := dk_43 (dk_at dksX1_canBe_10 10 rfl rfl)
theorem dX1_canBe_246 : decode cX1_canBe 246 = .ok (.getfield 135, 3) := dk_180 0 135 (dk_at dksX1_canBe_10 11 rfl rfl)
theorem dX1_canBe_249 : decode cX1_canBe 249 = .ok (.iload_n 2, 1) := dk_28 (dk_at dksX1_canBe_10 14 rfl rfl)
theorem dX1_canBe_250 : decode cX1_canBe 250 = .ok (.iaload, 1) := dk_46 (dk_at dksX1_canBe_10 15 rfl rfl)
theorem dX1_canBe_251 : decode cX1_canBe 251 = .ok (.if_icmp .gt 7, 3) := dk_163 0 7 (dk_at dksX1_canBe_10 16 rfl rfl)
theorem dX1_canBe_254 : decode cX1_canBe 254 = .ok (.iconst 1, 1) := dk_4 (dk_at dksX1_canBe_10 19 rfl rfl)
theorem dX1_canBe_255 : decode cX1_canBe 255 = .ok (.goto 4, 3) := dk_167 0 4 (dk_at dksX1_canBe_10 20 rfl rfl)
theorem dX1_canBe_258 : decode cX1_canBe 258 = .ok (.iconst 0, 1) := dk_3 (dk_at dksX1_canBe_10 23 rfl rfl)
theorem dX1_canBe_259 : decode cX1_canBe 259 = .ok (.ireturn, 1) := dk_172 (dk_at dksX1_canBe_11 0 rfl rfl)
abbrev cX1_isInTime : ByteArray := prog_1_method_12_code
def yX1_isInTime : MethodName := ⟨RX1, "isInTime", "(LRideDesk$State;LRideDesk$Route;I)Z"⟩
def dkwX1_isInTime_3 : List UInt8 := [180, 0, 55, 25, 4, 180, 0, 61, 50, 180, 0, 150, 163, 0, 7, 4, 167, 0, 4, 3, 172]
abbrev dktX1_isInTime_3 : List UInt8 := dkwX1_isInTime_3 ++ []
def dkwX1_isInTime_2 : List UInt8 := [167, 0, 4, 3, 172, 44, 180, 0, 51, 29, 46, 42, 180, 0, 125, 25, 4, 180, 0, 61, 46, 100, 43]
abbrev dktX1_isInTime_2 : List UInt8 := dkwX1_isInTime_2 ++ dktX1_isInTime_3
def dkwX1_isInTime_1 : List UInt8 := [180, 0, 138, 25, 4, 180, 0, 61, 46, 42, 180, 0, 15, 180, 0, 141, 180, 0, 145, 96, 163, 0, 7, 4]
abbrev dktX1_isInTime_1 : List UInt8 := dkwX1_isInTime_1 ++ dktX1_isInTime_2
def dkwX1_isInTime_0 : List UInt8 := [44, 180, 0, 33, 29, 50, 58, 4, 25, 4, 193, 0, 123, 153, 0, 39, 44, 180, 0, 51, 29, 46, 43]
abbrev dktX1_isInTime_0 : List UInt8 := dkwX1_isInTime_0 ++ dktX1_isInTime_1
theorem dksX1_isInTime_0 : cX1_isInTime.data.toList.drop 0 = dktX1_isInTime_0 := by decide +kernel
theorem dksX1_isInTime_1 : cX1_isInTime.data.toList.drop 23 = dktX1_isInTime_1 := dk_seg dksX1_isInTime_0 23 rfl rfl
theorem dksX1_isInTime_2 : cX1_isInTime.data.toList.drop 47 = dktX1_isInTime_2 := dk_seg dksX1_isInTime_1 24 rfl rfl
theorem dksX1_isInTime_3 : cX1_isInTime.data.toList.drop 70 = dktX1_isInTime_3 := dk_seg dksX1_isInTime_2 23 rfl rfl
theorem dX1_isInTime_0 : decode cX1_isInTime 0 = .ok (.aload_n 2, 1) := dk_44 (dk_at dksX1_isInTime_0 0 rfl rfl)
theorem dX1_isInTime_1 : decode cX1_isInTime 1 = .ok (.getfield 33, 3) := dk_180 0 33 (dk_at dksX1_isInTime_0 1 rfl rfl)
theorem dX1_isInTime_4 : decode cX1_isInTime 4 = .ok (.iload_n 3, 1) := dk_29 (dk_at dksX1_isInTime_0 4 rfl rfl)
theorem dX1_isInTime_5 : decode cX1_isInTime 5 = .ok (.aaload, 1) := dk_50 (dk_at dksX1_isInTime_0 5 rfl rfl)
theorem dX1_isInTime_6 : decode cX1_isInTime 6 = .ok (.astore 4, 2) := dk_58 4 (dk_at dksX1_isInTime_0 6 rfl rfl)
theorem dX1_isInTime_8 : decode cX1_isInTime 8 = .ok (.aload 4, 2) := dk_25 4 (dk_at dksX1_isInTime_0 8 rfl rfl)
theorem dX1_isInTime_10 : decode cX1_isInTime 10 = .ok (.instanceof 123, 3) := dk_193 0 123 (dk_at dksX1_isInTime_0 10 rfl rfl)
theorem dX1_isInTime_13 : decode cX1_isInTime 13 = .ok (.ifCond .eq 39, 3) := dk_153 0 39 (dk_at dksX1_isInTime_0 13 rfl rfl)
theorem dX1_isInTime_16 : decode cX1_isInTime 16 = .ok (.aload_n 2, 1) := dk_44 (dk_at dksX1_isInTime_0 16 rfl rfl)
theorem dX1_isInTime_17 : decode cX1_isInTime 17 = .ok (.getfield 51, 3) := dk_180 0 51 (dk_at dksX1_isInTime_0 17 rfl rfl)
theorem dX1_isInTime_20 : decode cX1_isInTime 20 = .ok (.iload_n 3, 1) := dk_29 (dk_at dksX1_isInTime_0 20 rfl rfl)
theorem dX1_isInTime_21 : decode cX1_isInTime 21 = .ok (.iaload, 1) := dk_46 (dk_at dksX1_isInTime_0 21 rfl rfl)
theorem dX1_isInTime_22 : decode cX1_isInTime 22 = .ok (.aload_n 1, 1) := dk_43 (dk_at dksX1_isInTime_0 22 rfl rfl)
theorem dX1_isInTime_23 : decode cX1_isInTime 23 = .ok (.getfield 138, 3) := dk_180 0 138 (dk_at dksX1_isInTime_1 0 rfl rfl)
theorem dX1_isInTime_26 : decode cX1_isInTime 26 = .ok (.aload 4, 2) := dk_25 4 (dk_at dksX1_isInTime_1 3 rfl rfl)
theorem dX1_isInTime_28 : decode cX1_isInTime 28 = .ok (.getfield 61, 3) := dk_180 0 61 (dk_at dksX1_isInTime_1 5 rfl rfl)
theorem dX1_isInTime_31 : decode cX1_isInTime 31 = .ok (.iaload, 1) := dk_46 (dk_at dksX1_isInTime_1 8 rfl rfl)
theorem dX1_isInTime_32 : decode cX1_isInTime 32 = .ok (.aload_n 0, 1) := dk_42 (dk_at dksX1_isInTime_1 9 rfl rfl)
theorem dX1_isInTime_33 : decode cX1_isInTime 33 = .ok (.getfield 15, 3) := dk_180 0 15 (dk_at dksX1_isInTime_1 10 rfl rfl)
theorem dX1_isInTime_36 : decode cX1_isInTime 36 = .ok (.getfield 141, 3) := dk_180 0 141 (dk_at dksX1_isInTime_1 13 rfl rfl)
theorem dX1_isInTime_39 : decode cX1_isInTime 39 = .ok (.getfield 145, 3) := dk_180 0 145 (dk_at dksX1_isInTime_1 16 rfl rfl)
theorem dX1_isInTime_42 : decode cX1_isInTime 42 = .ok (.iadd, 1) := dk_96 (dk_at dksX1_isInTime_1 19 rfl rfl)
theorem dX1_isInTime_43 : decode cX1_isInTime 43 = .ok (.if_icmp .gt 7, 3) := dk_163 0 7 (dk_at dksX1_isInTime_1 20 rfl rfl)
theorem dX1_isInTime_46 : decode cX1_isInTime 46 = .ok (.iconst 1, 1) := dk_4 (dk_at dksX1_isInTime_1 23 rfl rfl)
theorem dX1_isInTime_47 : decode cX1_isInTime 47 = .ok (.goto 4, 3) := dk_167 0 4 (dk_at dksX1_isInTime_2 0 rfl rfl)
theorem dX1_isInTime_50 : decode cX1_isInTime 50 = .ok (.iconst 0, 1) := dk_3 (dk_at dksX1_isInTime_2 3 rfl rfl)
theorem dX1_isInTime_51 : decode cX1_isInTime 51 = .ok (.ireturn, 1) := dk_172 (dk_at dksX1_isInTime_2 4 rfl rfl)
theorem dX1_isInTime_52 : decode cX1_isInTime 52 = .ok (.aload_n 2, 1) := dk_44 (dk_at dksX1_isInTime_2 5 rfl rfl)
theorem dX1_isInTime_53 : decode cX1_isInTime 53 = .ok (.getfield 51, 3) := dk_180 0 51 (dk_at dksX1_isInTime_2 6 rfl rfl)
theorem dX1_isInTime_56 : decode cX1_isInTime 56 = .ok (.iload_n 3, 1) := dk_29 (dk_at dksX1_isInTime_2 9 rfl rfl)
theorem dX1_isInTime_57 : decode cX1_isInTime 57 = .ok (.iaload, 1) := dk_46 (dk_at dksX1_isInTime_2 10 rfl rfl)
theorem dX1_isInTime_58 : decode cX1_isInTime 58 = .ok (.aload_n 0, 1) := dk_42 (dk_at dksX1_isInTime_2 11 rfl rfl)
theorem dX1_isInTime_59 : decode cX1_isInTime 59 = .ok (.getfield 125, 3) := dk_180 0 125 (dk_at dksX1_isInTime_2 12 rfl rfl)
theorem dX1_isInTime_62 : decode cX1_isInTime 62 = .ok (.aload 4, 2) := dk_25 4 (dk_at dksX1_isInTime_2 15 rfl rfl)
theorem dX1_isInTime_64 : decode cX1_isInTime 64 = .ok (.getfield 61, 3) := dk_180 0 61 (dk_at dksX1_isInTime_2 17 rfl rfl)
theorem dX1_isInTime_67 : decode cX1_isInTime 67 = .ok (.iaload, 1) := dk_46 (dk_at dksX1_isInTime_2 20 rfl rfl)
theorem dX1_isInTime_68 : decode cX1_isInTime 68 = .ok (.isub, 1) := dk_100 (dk_at dksX1_isInTime_2 21 rfl rfl)
theorem dX1_isInTime_69 : decode cX1_isInTime 69 = .ok (.aload_n 1, 1) := dk_43 (dk_at dksX1_isInTime_2 22 rfl rfl)
theorem dX1_isInTime_70 : decode cX1_isInTime 70 = .ok (.getfield 55, 3) := dk_180 0 55 (dk_at dksX1_isInTime_3 0 rfl rfl)
theorem dX1_isInTime_73 : decode cX1_isInTime 73 = .ok (.aload 4, 2) := dk_25 4 (dk_at dksX1_isInTime_3 3 rfl rfl)
theorem dX1_isInTime_75 : decode cX1_isInTime 75 = .ok (.getfield 61, 3) := dk_180 0 61 (dk_at dksX1_isInTime_3 5 rfl rfl)
theorem dX1_isInTime_78 : decode cX1_isInTime 78 = .ok (.aaload, 1) := dk_50 (dk_at dksX1_isInTime_3 8 rfl rfl)
theorem dX1_isInTime_79 : decode cX1_isInTime 79 = .ok (.getfield 150, 3) := dk_180 0 150 (dk_at dksX1_isInTime_3 9 rfl rfl)
theorem dX1_isInTime_82 : decode cX1_isInTime 82 = .ok (.if_icmp .gt 7, 3) := dk_163 0 7 (dk_at dksX1_isInTime_3 12 rfl rfl)
theorem dX1_isInTime_85 : decode cX1_isInTime 85 = .ok (.iconst 1, 1) := dk_4 (dk_at dksX1_isInTime_3 15 rfl rfl)
theorem dX1_isInTime_86 : decode cX1_isInTime 86 = .ok (.goto 4, 3) := dk_167 0 4 (dk_at dksX1_isInTime_3 16 rfl rfl)
theorem dX1_isInTime_89 : decode cX1_isInTime 89 = .ok (.iconst 0, 1) := dk_3 (dk_at dksX1_isInTime_3 19 rfl rfl)
theorem dX1_isInTime_90 : decode cX1_isInTime 90 = .ok (.ireturn, 1) := dk_172 (dk_at dksX1_isInTime_3 20 rfl rfl)
abbrev cX1_end : ByteArray := prog_1_method_8_code
def yX1_end : MethodName := ⟨RX1, "end", "(LRideDesk$State;ILRideDesk$Route;)I"⟩
def dkwX1_end_3 : List UInt8 := [185, 0, 25, 2, 0, 192, 0, 31, 182, 0, 47, 96, 172]
abbrev dktX1_end_3 : List UInt8 := dkwX1_end_3 ++ []
def dkwX1_end_2 : List UInt8 := [180, 0, 33, 45, 180, 0, 3, 4, 100, 50, 180, 0, 37, 42, 180, 0, 15, 180, 0, 19, 28]
abbrev dktX1_end_2 : List UInt8 := dkwX1_end_2 ++ dktX1_end_3
def dkwX1_end_1 : List UInt8 := [180, 0, 85, 167, 0, 53, 42, 43, 45, 45, 180, 0, 3, 4, 100, 182, 0, 88, 42, 180, 0, 15, 45]
abbrev dktX1_end_1 : List UInt8 := dkwX1_end_1 ++ dktX1_end_2
def dkwX1_end_0 : List UInt8 := [45, 180, 0, 3, 154, 0, 25, 42, 180, 0, 15, 180, 0, 19, 28, 185, 0, 25, 2, 0, 192, 0, 83]
abbrev dktX1_end_0 : List UInt8 := dkwX1_end_0 ++ dktX1_end_1
theorem dksX1_end_0 : cX1_end.data.toList.drop 0 = dktX1_end_0 := by decide +kernel
theorem dksX1_end_1 : cX1_end.data.toList.drop 23 = dktX1_end_1 := dk_seg dksX1_end_0 23 rfl rfl
theorem dksX1_end_2 : cX1_end.data.toList.drop 46 = dktX1_end_2 := dk_seg dksX1_end_1 23 rfl rfl
theorem dksX1_end_3 : cX1_end.data.toList.drop 67 = dktX1_end_3 := dk_seg dksX1_end_2 21 rfl rfl
theorem dX1_end_0 : decode cX1_end 0 = .ok (.aload_n 3, 1) := dk_45 (dk_at dksX1_end_0 0 rfl rfl)
theorem dX1_end_1 : decode cX1_end 1 = .ok (.getfield 3, 3) := dk_180 0 3 (dk_at dksX1_end_0 1 rfl rfl)
theorem dX1_end_4 : decode cX1_end 4 = .ok (.ifCond .ne 25, 3) := dk_154 0 25 (dk_at dksX1_end_0 4 rfl rfl)
theorem dX1_end_7 : decode cX1_end 7 = .ok (.aload_n 0, 1) := dk_42 (dk_at dksX1_end_0 7 rfl rfl)
theorem dX1_end_8 : decode cX1_end 8 = .ok (.getfield 15, 3) := dk_180 0 15 (dk_at dksX1_end_0 8 rfl rfl)
theorem dX1_end_11 : decode cX1_end 11 = .ok (.getfield 19, 3) := dk_180 0 19 (dk_at dksX1_end_0 11 rfl rfl)
theorem dX1_end_14 : decode cX1_end 14 = .ok (.iload_n 2, 1) := dk_28 (dk_at dksX1_end_0 14 rfl rfl)
theorem dX1_end_15 : decode cX1_end 15 = .ok (.invokeinterface 25 2, 5) := by decide +kernel
theorem dX1_end_20 : decode cX1_end 20 = .ok (.checkcast 83, 3) := dk_192 0 83 (dk_at dksX1_end_0 20 rfl rfl)
theorem dX1_end_23 : decode cX1_end 23 = .ok (.getfield 85, 3) := dk_180 0 85 (dk_at dksX1_end_1 0 rfl rfl)
theorem dX1_end_26 : decode cX1_end 26 = .ok (.goto 53, 3) := dk_167 0 53 (dk_at dksX1_end_1 3 rfl rfl)
theorem dX1_end_29 : decode cX1_end 29 = .ok (.aload_n 0, 1) := dk_42 (dk_at dksX1_end_1 6 rfl rfl)
theorem dX1_end_30 : decode cX1_end 30 = .ok (.aload_n 1, 1) := dk_43 (dk_at dksX1_end_1 7 rfl rfl)
theorem dX1_end_31 : decode cX1_end 31 = .ok (.aload_n 3, 1) := dk_45 (dk_at dksX1_end_1 8 rfl rfl)
theorem dX1_end_32 : decode cX1_end 32 = .ok (.aload_n 3, 1) := dk_45 (dk_at dksX1_end_1 9 rfl rfl)
theorem dX1_end_33 : decode cX1_end 33 = .ok (.getfield 3, 3) := dk_180 0 3 (dk_at dksX1_end_1 10 rfl rfl)
theorem dX1_end_36 : decode cX1_end 36 = .ok (.iconst 1, 1) := dk_4 (dk_at dksX1_end_1 13 rfl rfl)
theorem dX1_end_37 : decode cX1_end 37 = .ok (.isub, 1) := dk_100 (dk_at dksX1_end_1 14 rfl rfl)
theorem dX1_end_38 : decode cX1_end 38 = .ok (.invokevirtual 88, 3) := dk_182 0 88 (dk_at dksX1_end_1 15 rfl rfl)
theorem dX1_end_41 : decode cX1_end 41 = .ok (.aload_n 0, 1) := dk_42 (dk_at dksX1_end_1 18 rfl rfl)
theorem dX1_end_42 : decode cX1_end 42 = .ok (.getfield 15, 3) := dk_180 0 15 (dk_at dksX1_end_1 19 rfl rfl)
theorem dX1_end_45 : decode cX1_end 45 = .ok (.aload_n 3, 1) := dk_45 (dk_at dksX1_end_1 22 rfl rfl)
theorem dX1_end_46 : decode cX1_end 46 = .ok (.getfield 33, 3) := dk_180 0 33 (dk_at dksX1_end_2 0 rfl rfl)
theorem dX1_end_49 : decode cX1_end 49 = .ok (.aload_n 3, 1) := dk_45 (dk_at dksX1_end_2 3 rfl rfl)
theorem dX1_end_50 : decode cX1_end 50 = .ok (.getfield 3, 3) := dk_180 0 3 (dk_at dksX1_end_2 4 rfl rfl)
theorem dX1_end_53 : decode cX1_end 53 = .ok (.iconst 1, 1) := dk_4 (dk_at dksX1_end_2 7 rfl rfl)
theorem dX1_end_54 : decode cX1_end 54 = .ok (.isub, 1) := dk_100 (dk_at dksX1_end_2 8 rfl rfl)
theorem dX1_end_55 : decode cX1_end 55 = .ok (.aaload, 1) := dk_50 (dk_at dksX1_end_2 9 rfl rfl)
theorem dX1_end_56 : decode cX1_end 56 = .ok (.getfield 37, 3) := dk_180 0 37 (dk_at dksX1_end_2 10 rfl rfl)
theorem dX1_end_59 : decode cX1_end 59 = .ok (.aload_n 0, 1) := dk_42 (dk_at dksX1_end_2 13 rfl rfl)
theorem dX1_end_60 : decode cX1_end 60 = .ok (.getfield 15, 3) := dk_180 0 15 (dk_at dksX1_end_2 14 rfl rfl)
theorem dX1_end_63 : decode cX1_end 63 = .ok (.getfield 19, 3) := dk_180 0 19 (dk_at dksX1_end_2 17 rfl rfl)
theorem dX1_end_66 : decode cX1_end 66 = .ok (.iload_n 2, 1) := dk_28 (dk_at dksX1_end_2 20 rfl rfl)
theorem dX1_end_67 : decode cX1_end 67 = .ok (.invokeinterface 25 2, 5) := by decide +kernel
theorem dX1_end_72 : decode cX1_end 72 = .ok (.checkcast 31, 3) := dk_192 0 31 (dk_at dksX1_end_3 5 rfl rfl)
theorem dX1_end_75 : decode cX1_end 75 = .ok (.invokevirtual 47, 3) := dk_182 0 47 (dk_at dksX1_end_3 8 rfl rfl)
theorem dX1_end_78 : decode cX1_end 78 = .ok (.iadd, 1) := dk_96 (dk_at dksX1_end_3 11 rfl rfl)
theorem dX1_end_79 : decode cX1_end 79 = .ok (.ireturn, 1) := dk_172 (dk_at dksX1_end_3 12 rfl rfl)
abbrev cX1_inState : ByteArray := prog_1_method_71_code
def yX1_inState : MethodName := ⟨RX1, "inState", "(I)I"⟩
def dkwX1_inState_1 : List UInt8 := [46, 27, 160, 0, 7, 4, 167, 0, 4, 3, 96, 61, 132, 3, 1, 167, 255, 221, 28, 172]
abbrev dktX1_inState_1 : List UInt8 := dkwX1_inState_1 ++ []
def dkwX1_inState_0 : List UInt8 := [3, 61, 3, 62, 29, 42, 180, 1, 112, 180, 0, 235, 162, 0, 30, 28, 42, 180, 1, 112, 180, 0, 232, 29]
abbrev dktX1_inState_0 : List UInt8 := dkwX1_inState_0 ++ dktX1_inState_1
theorem dksX1_inState_0 : cX1_inState.data.toList.drop 0 = dktX1_inState_0 := by decide +kernel
theorem dksX1_inState_1 : cX1_inState.data.toList.drop 24 = dktX1_inState_1 := dk_seg dksX1_inState_0 24 rfl rfl
theorem dX1_inState_0 : decode cX1_inState 0 = .ok (.iconst 0, 1) := dk_3 (dk_at dksX1_inState_0 0 rfl rfl)
theorem dX1_inState_1 : decode cX1_inState 1 = .ok (.istore_n 2, 1) := dk_61 (dk_at dksX1_inState_0 1 rfl rfl)
theorem dX1_inState_2 : decode cX1_inState 2 = .ok (.iconst 0, 1) := dk_3 (dk_at dksX1_inState_0 2 rfl rfl)
theorem dX1_inState_3 : decode cX1_inState 3 = .ok (.istore_n 3, 1) := dk_62 (dk_at dksX1_inState_0 3 rfl rfl)
theorem dX1_inState_4 : decode cX1_inState 4 = .ok (.iload_n 3, 1) := dk_29 (dk_at dksX1_inState_0 4 rfl rfl)
theorem dX1_inState_5 : decode cX1_inState 5 = .ok (.aload_n 0, 1) := dk_42 (dk_at dksX1_inState_0 5 rfl rfl)
theorem dX1_inState_6 : decode cX1_inState 6 = .ok (.getfield 368, 3) := dk_180 1 112 (dk_at dksX1_inState_0 6 rfl rfl)
theorem dX1_inState_9 : decode cX1_inState 9 = .ok (.getfield 235, 3) := dk_180 0 235 (dk_at dksX1_inState_0 9 rfl rfl)
theorem dX1_inState_12 : decode cX1_inState 12 = .ok (.if_icmp .ge 30, 3) := dk_162 0 30 (dk_at dksX1_inState_0 12 rfl rfl)
theorem dX1_inState_15 : decode cX1_inState 15 = .ok (.iload_n 2, 1) := dk_28 (dk_at dksX1_inState_0 15 rfl rfl)
theorem dX1_inState_16 : decode cX1_inState 16 = .ok (.aload_n 0, 1) := dk_42 (dk_at dksX1_inState_0 16 rfl rfl)
theorem dX1_inState_17 : decode cX1_inState 17 = .ok (.getfield 368, 3) := dk_180 1 112 (dk_at dksX1_inState_0 17 rfl rfl)
theorem dX1_inState_20 : decode cX1_inState 20 = .ok (.getfield 232, 3) := dk_180 0 232 (dk_at dksX1_inState_0 20 rfl rfl)
theorem dX1_inState_23 : decode cX1_inState 23 = .ok (.iload_n 3, 1) := dk_29 (dk_at dksX1_inState_0 23 rfl rfl)
theorem dX1_inState_24 : decode cX1_inState 24 = .ok (.iaload, 1) := dk_46 (dk_at dksX1_inState_1 0 rfl rfl)
theorem dX1_inState_25 : decode cX1_inState 25 = .ok (.iload_n 1, 1) := dk_27 (dk_at dksX1_inState_1 1 rfl rfl)
theorem dX1_inState_26 : decode cX1_inState 26 = .ok (.if_icmp .ne 7, 3) := dk_160 0 7 (dk_at dksX1_inState_1 2 rfl rfl)
theorem dX1_inState_29 : decode cX1_inState 29 = .ok (.iconst 1, 1) := dk_4 (dk_at dksX1_inState_1 5 rfl rfl)
theorem dX1_inState_30 : decode cX1_inState 30 = .ok (.goto 4, 3) := dk_167 0 4 (dk_at dksX1_inState_1 6 rfl rfl)
theorem dX1_inState_33 : decode cX1_inState 33 = .ok (.iconst 0, 1) := dk_3 (dk_at dksX1_inState_1 9 rfl rfl)
theorem dX1_inState_34 : decode cX1_inState 34 = .ok (.iadd, 1) := dk_96 (dk_at dksX1_inState_1 10 rfl rfl)
theorem dX1_inState_35 : decode cX1_inState 35 = .ok (.istore_n 2, 1) := dk_61 (dk_at dksX1_inState_1 11 rfl rfl)
theorem dX1_inState_36 : decode cX1_inState 36 = .ok (.iinc 3 1, 3) := dk_132 3 1 (dk_at dksX1_inState_1 12 rfl rfl)
theorem dX1_inState_39 : decode cX1_inState 39 = .ok (.goto (-35), 3) := dk_167 255 221 (dk_at dksX1_inState_1 15 rfl rfl)
theorem dX1_inState_42 : decode cX1_inState 42 = .ok (.iload_n 2, 1) := dk_28 (dk_at dksX1_inState_1 18 rfl rfl)
theorem dX1_inState_43 : decode cX1_inState 43 = .ok (.ireturn, 1) := dk_172 (dk_at dksX1_inState_1 19 rfl rfl)
abbrev cX1_until : ByteArray := prog_1_method_42_code
def yX1_until : MethodName := ⟨RX1, "until", "(I)I"⟩
def dkwX1_until_0 : List UInt8 := [42, 27, 182, 1, 122, 77, 42, 180, 1, 112, 180, 0, 135, 27, 46, 172]
abbrev dktX1_until_0 : List UInt8 := dkwX1_until_0 ++ []
theorem dksX1_until_0 : cX1_until.data.toList.drop 0 = dktX1_until_0 := by decide +kernel
theorem dX1_until_0 : decode cX1_until 0 = .ok (.aload_n 0, 1) := dk_42 (dk_at dksX1_until_0 0 rfl rfl)
theorem dX1_until_1 : decode cX1_until 1 = .ok (.iload_n 1, 1) := dk_27 (dk_at dksX1_until_0 1 rfl rfl)
theorem dX1_until_2 : decode cX1_until 2 = .ok (.invokevirtual 378, 3) := dk_182 1 122 (dk_at dksX1_until_0 2 rfl rfl)
theorem dX1_until_5 : decode cX1_until 5 = .ok (.astore_n 2, 1) := dk_77 (dk_at dksX1_until_0 5 rfl rfl)
theorem dX1_until_6 : decode cX1_until 6 = .ok (.aload_n 0, 1) := dk_42 (dk_at dksX1_until_0 6 rfl rfl)
theorem dX1_until_7 : decode cX1_until 7 = .ok (.getfield 368, 3) := dk_180 1 112 (dk_at dksX1_until_0 7 rfl rfl)
theorem dX1_until_10 : decode cX1_until 10 = .ok (.getfield 135, 3) := dk_180 0 135 (dk_at dksX1_until_0 10 rfl rfl)
theorem dX1_until_13 : decode cX1_until 13 = .ok (.iload_n 1, 1) := dk_27 (dk_at dksX1_until_0 13 rfl rfl)
theorem dX1_until_14 : decode cX1_until 14 = .ok (.iaload, 1) := dk_46 (dk_at dksX1_until_0 14 rfl rfl)
theorem dX1_until_15 : decode cX1_until 15 = .ok (.ireturn, 1) := dk_172 (dk_at dksX1_until_0 15 rfl rfl)
abbrev cX1_route : ByteArray := prog_1_method_37_code
def yX1_route : MethodName := ⟨RX1, "route", "(I)LRideDesk$Route;"⟩
def dkwX1_route_1 : List UInt8 := [184, 1, 70, 44, 180, 0, 156, 27, 50, 176]
abbrev dktX1_route_1 : List UInt8 := dkwX1_route_1 ++ []
def dkwX1_route_0 : List UInt8 := [42, 182, 1, 119, 77, 27, 3, 42, 180, 0, 15, 180, 0, 19, 185, 0, 153, 1, 0, 4, 100, 184, 1, 66]
abbrev dktX1_route_0 : List UInt8 := dkwX1_route_0 ++ dktX1_route_1
theorem dksX1_route_0 : cX1_route.data.toList.drop 0 = dktX1_route_0 := by decide +kernel
theorem dksX1_route_1 : cX1_route.data.toList.drop 24 = dktX1_route_1 := dk_seg dksX1_route_0 24 rfl rfl
theorem dX1_route_0 : decode cX1_route 0 = .ok (.aload_n 0, 1) := dk_42 (dk_at dksX1_route_0 0 rfl rfl)
theorem dX1_route_1 : decode cX1_route 1 = .ok (.invokevirtual 375, 3) := dk_182 1 119 (dk_at dksX1_route_0 1 rfl rfl)
theorem dX1_route_4 : decode cX1_route 4 = .ok (.astore_n 2, 1) := dk_77 (dk_at dksX1_route_0 4 rfl rfl)
theorem dX1_route_5 : decode cX1_route 5 = .ok (.iload_n 1, 1) := dk_27 (dk_at dksX1_route_0 5 rfl rfl)
theorem dX1_route_6 : decode cX1_route 6 = .ok (.iconst 0, 1) := dk_3 (dk_at dksX1_route_0 6 rfl rfl)
theorem dX1_route_7 : decode cX1_route 7 = .ok (.aload_n 0, 1) := dk_42 (dk_at dksX1_route_0 7 rfl rfl)
theorem dX1_route_8 : decode cX1_route 8 = .ok (.getfield 15, 3) := dk_180 0 15 (dk_at dksX1_route_0 8 rfl rfl)
theorem dX1_route_11 : decode cX1_route 11 = .ok (.getfield 19, 3) := dk_180 0 19 (dk_at dksX1_route_0 11 rfl rfl)
theorem dX1_route_14 : decode cX1_route 14 = .ok (.invokeinterface 153 1, 5) := by decide +kernel
theorem dX1_route_19 : decode cX1_route 19 = .ok (.iconst 1, 1) := dk_4 (dk_at dksX1_route_0 19 rfl rfl)
theorem dX1_route_20 : decode cX1_route 20 = .ok (.isub, 1) := dk_100 (dk_at dksX1_route_0 20 rfl rfl)
theorem dX1_route_21 : decode cX1_route 21 = .ok (.invokestatic 322, 3) := dk_184 1 66 (dk_at dksX1_route_0 21 rfl rfl)
theorem dX1_route_24 : decode cX1_route 24 = .ok (.invokestatic 326, 3) := dk_184 1 70 (dk_at dksX1_route_1 0 rfl rfl)
theorem dX1_route_27 : decode cX1_route 27 = .ok (.aload_n 2, 1) := dk_44 (dk_at dksX1_route_1 3 rfl rfl)
theorem dX1_route_28 : decode cX1_route 28 = .ok (.getfield 156, 3) := dk_180 0 156 (dk_at dksX1_route_1 4 rfl rfl)
theorem dX1_route_31 : decode cX1_route 31 = .ok (.iload_n 1, 1) := dk_27 (dk_at dksX1_route_1 7 rfl rfl)
theorem dX1_route_32 : decode cX1_route 32 = .ok (.aaload, 1) := dk_50 (dk_at dksX1_route_1 8 rfl rfl)
theorem dX1_route_33 : decode cX1_route 33 = .ok (.areturn, 1) := dk_176 (dk_at dksX1_route_1 9 rfl rfl)
abbrev cX1_state : ByteArray := prog_1_method_36_code
def yX1_state : MethodName := ⟨RX1, "state", "()LRideDesk$State;"⟩
def dkwX1_state_0 : List UInt8 := [42, 180, 1, 112, 199, 0, 11, 187, 1, 116, 89, 183, 1, 118, 191, 42, 180, 1, 112, 176]
abbrev dktX1_state_0 : List UInt8 := dkwX1_state_0 ++ []
theorem dksX1_state_0 : cX1_state.data.toList.drop 0 = dktX1_state_0 := by decide +kernel
theorem dX1_state_0 : decode cX1_state 0 = .ok (.aload_n 0, 1) := dk_42 (dk_at dksX1_state_0 0 rfl rfl)
theorem dX1_state_1 : decode cX1_state 1 = .ok (.getfield 368, 3) := dk_180 1 112 (dk_at dksX1_state_0 1 rfl rfl)
theorem dX1_state_4 : decode cX1_state 4 = .ok (.ifnonnull 11, 3) := dk_199 0 11 (dk_at dksX1_state_0 4 rfl rfl)
theorem dX1_state_7 : decode cX1_state 7 = .ok (.new 372, 3) := dk_187 1 116 (dk_at dksX1_state_0 7 rfl rfl)
theorem dX1_state_10 : decode cX1_state 10 = .ok (.dup, 1) := dk_89 (dk_at dksX1_state_0 10 rfl rfl)
theorem dX1_state_11 : decode cX1_state 11 = .ok (.invokespecial 374, 3) := dk_183 1 118 (dk_at dksX1_state_0 11 rfl rfl)
theorem dX1_state_14 : decode cX1_state 14 = .ok (.athrow, 1) := dk_191 (dk_at dksX1_state_0 14 rfl rfl)
theorem dX1_state_15 : decode cX1_state 15 = .ok (.aload_n 0, 1) := dk_42 (dk_at dksX1_state_0 15 rfl rfl)
theorem dX1_state_16 : decode cX1_state 16 = .ok (.getfield 368, 3) := dk_180 1 112 (dk_at dksX1_state_0 16 rfl rfl)
theorem dX1_state_19 : decode cX1_state 19 = .ok (.areturn, 1) := dk_176 (dk_at dksX1_state_0 19 rfl rfl)
abbrev cX1_minutesBetween : ByteArray := prog_1_method_43_code
def yX1_minutesBetween : MethodName := ⟨RX1, "minutesBetween", "(IIII)I"⟩
def dkwX1_minutesBetween_2 : List UInt8 := [187, 0, 31, 89, 29, 21, 4, 183, 1, 133, 182, 0, 47, 172]
abbrev dktX1_minutesBetween_2 : List UInt8 := dkwX1_minutesBetween_2 ++ []
def dkwX1_minutesBetween_1 : List UInt8 := [21, 4, 79, 184, 1, 126, 184, 1, 130, 42, 180, 0, 15, 187, 0, 31, 89, 27, 28, 183, 1, 133]
abbrev dktX1_minutesBetween_1 : List UInt8 := dkwX1_minutesBetween_1 ++ dktX1_minutesBetween_2
def dkwX1_minutesBetween_0 : List UInt8 := [42, 182, 1, 119, 58, 5, 7, 188, 10, 89, 3, 27, 79, 89, 4, 28, 79, 89, 5, 29, 79, 89, 6]
abbrev dktX1_minutesBetween_0 : List UInt8 := dkwX1_minutesBetween_0 ++ dktX1_minutesBetween_1
theorem dksX1_minutesBetween_0 : cX1_minutesBetween.data.toList.drop 0 = dktX1_minutesBetween_0 := by decide +kernel
theorem dksX1_minutesBetween_1 : cX1_minutesBetween.data.toList.drop 23 = dktX1_minutesBetween_1 := dk_seg dksX1_minutesBetween_0 23 rfl rfl
theorem dksX1_minutesBetween_2 : cX1_minutesBetween.data.toList.drop 45 = dktX1_minutesBetween_2 := dk_seg dksX1_minutesBetween_1 22 rfl rfl
theorem dX1_minutesBetween_0 : decode cX1_minutesBetween 0 = .ok (.aload_n 0, 1) := dk_42 (dk_at dksX1_minutesBetween_0 0 rfl rfl)
theorem dX1_minutesBetween_1 : decode cX1_minutesBetween 1 = .ok (.invokevirtual 375, 3) := dk_182 1 119 (dk_at dksX1_minutesBetween_0 1 rfl rfl)
theorem dX1_minutesBetween_4 : decode cX1_minutesBetween 4 = .ok (.astore 5, 2) := dk_58 5 (dk_at dksX1_minutesBetween_0 4 rfl rfl)
theorem dX1_minutesBetween_6 : decode cX1_minutesBetween 6 = .ok (.iconst 4, 1) := dk_7 (dk_at dksX1_minutesBetween_0 6 rfl rfl)
theorem dX1_minutesBetween_7 : decode cX1_minutesBetween 7 = .ok (.newarray .int, 2) := dk_188_10 (dk_at dksX1_minutesBetween_0 7 rfl rfl)
theorem dX1_minutesBetween_9 : decode cX1_minutesBetween 9 = .ok (.dup, 1) := dk_89 (dk_at dksX1_minutesBetween_0 9 rfl rfl)
theorem dX1_minutesBetween_10 : decode cX1_minutesBetween 10 = .ok (.iconst 0, 1) := dk_3 (dk_at dksX1_minutesBetween_0 10 rfl rfl)
theorem dX1_minutesBetween_11 : decode cX1_minutesBetween 11 = .ok (.iload_n 1, 1) := dk_27 (dk_at dksX1_minutesBetween_0 11 rfl rfl)
theorem dX1_minutesBetween_12 : decode cX1_minutesBetween 12 = .ok (.iastore, 1) := dk_79 (dk_at dksX1_minutesBetween_0 12 rfl rfl)
theorem dX1_minutesBetween_13 : decode cX1_minutesBetween 13 = .ok (.dup, 1) := dk_89 (dk_at dksX1_minutesBetween_0 13 rfl rfl)
theorem dX1_minutesBetween_14 : decode cX1_minutesBetween 14 = .ok (.iconst 1, 1) := dk_4 (dk_at dksX1_minutesBetween_0 14 rfl rfl)
theorem dX1_minutesBetween_15 : decode cX1_minutesBetween 15 = .ok (.iload_n 2, 1) := dk_28 (dk_at dksX1_minutesBetween_0 15 rfl rfl)
theorem dX1_minutesBetween_16 : decode cX1_minutesBetween 16 = .ok (.iastore, 1) := dk_79 (dk_at dksX1_minutesBetween_0 16 rfl rfl)
theorem dX1_minutesBetween_17 : decode cX1_minutesBetween 17 = .ok (.dup, 1) := dk_89 (dk_at dksX1_minutesBetween_0 17 rfl rfl)
theorem dX1_minutesBetween_18 : decode cX1_minutesBetween 18 = .ok (.iconst 2, 1) := dk_5 (dk_at dksX1_minutesBetween_0 18 rfl rfl)
theorem dX1_minutesBetween_19 : decode cX1_minutesBetween 19 = .ok (.iload_n 3, 1) := dk_29 (dk_at dksX1_minutesBetween_0 19 rfl rfl)
theorem dX1_minutesBetween_20 : decode cX1_minutesBetween 20 = .ok (.iastore, 1) := dk_79 (dk_at dksX1_minutesBetween_0 20 rfl rfl)
theorem dX1_minutesBetween_21 : decode cX1_minutesBetween 21 = .ok (.dup, 1) := dk_89 (dk_at dksX1_minutesBetween_0 21 rfl rfl)
theorem dX1_minutesBetween_22 : decode cX1_minutesBetween 22 = .ok (.iconst 3, 1) := dk_6 (dk_at dksX1_minutesBetween_0 22 rfl rfl)
theorem dX1_minutesBetween_23 : decode cX1_minutesBetween 23 = .ok (.iload 4, 2) := dk_21 4 (dk_at dksX1_minutesBetween_1 0 rfl rfl)
theorem dX1_minutesBetween_25 : decode cX1_minutesBetween 25 = .ok (.iastore, 1) := dk_79 (dk_at dksX1_minutesBetween_1 2 rfl rfl)
theorem dX1_minutesBetween_26 : decode cX1_minutesBetween 26 = .ok (.invokestatic 382, 3) := dk_184 1 126 (dk_at dksX1_minutesBetween_1 3 rfl rfl)
theorem dX1_minutesBetween_29 : decode cX1_minutesBetween 29 = .ok (.invokestatic 386, 3) := dk_184 1 130 (dk_at dksX1_minutesBetween_1 6 rfl rfl)
theorem dX1_minutesBetween_32 : decode cX1_minutesBetween 32 = .ok (.aload_n 0, 1) := dk_42 (dk_at dksX1_minutesBetween_1 9 rfl rfl)
theorem dX1_minutesBetween_33 : decode cX1_minutesBetween 33 = .ok (.getfield 15, 3) := dk_180 0 15 (dk_at dksX1_minutesBetween_1 10 rfl rfl)
theorem dX1_minutesBetween_36 : decode cX1_minutesBetween 36 = .ok (.new 31, 3) := dk_187 0 31 (dk_at dksX1_minutesBetween_1 13 rfl rfl)
theorem dX1_minutesBetween_39 : decode cX1_minutesBetween 39 = .ok (.dup, 1) := dk_89 (dk_at dksX1_minutesBetween_1 16 rfl rfl)
theorem dX1_minutesBetween_40 : decode cX1_minutesBetween 40 = .ok (.iload_n 1, 1) := dk_27 (dk_at dksX1_minutesBetween_1 17 rfl rfl)
theorem dX1_minutesBetween_41 : decode cX1_minutesBetween 41 = .ok (.iload_n 2, 1) := dk_28 (dk_at dksX1_minutesBetween_1 18 rfl rfl)
theorem dX1_minutesBetween_42 : decode cX1_minutesBetween 42 = .ok (.invokespecial 389, 3) := dk_183 1 133 (dk_at dksX1_minutesBetween_1 19 rfl rfl)
theorem dX1_minutesBetween_45 : decode cX1_minutesBetween 45 = .ok (.new 31, 3) := dk_187 0 31 (dk_at dksX1_minutesBetween_2 0 rfl rfl)
theorem dX1_minutesBetween_48 : decode cX1_minutesBetween 48 = .ok (.dup, 1) := dk_89 (dk_at dksX1_minutesBetween_2 3 rfl rfl)
theorem dX1_minutesBetween_49 : decode cX1_minutesBetween 49 = .ok (.iload_n 3, 1) := dk_29 (dk_at dksX1_minutesBetween_2 4 rfl rfl)
theorem dX1_minutesBetween_50 : decode cX1_minutesBetween 50 = .ok (.iload 4, 2) := dk_21 4 (dk_at dksX1_minutesBetween_2 5 rfl rfl)
theorem dX1_minutesBetween_52 : decode cX1_minutesBetween 52 = .ok (.invokespecial 389, 3) := dk_183 1 133 (dk_at dksX1_minutesBetween_2 7 rfl rfl)
theorem dX1_minutesBetween_55 : decode cX1_minutesBetween 55 = .ok (.invokevirtual 47, 3) := dk_182 0 47 (dk_at dksX1_minutesBetween_2 10 rfl rfl)
theorem dX1_minutesBetween_58 : decode cX1_minutesBetween 58 = .ok (.ireturn, 1) := dk_172 (dk_at dksX1_minutesBetween_2 13 rfl rfl)
abbrev cX1_checkRange : ByteArray := prog_1_method_35_code
def yX1_checkRange : MethodName := ⟨RX1, "checkRange", "(Z)V"⟩
def dkwX1_checkRange_0 : List UInt8 := [26, 154, 0, 11, 187, 1, 106, 89, 183, 1, 108, 191, 177]
abbrev dktX1_checkRange_0 : List UInt8 := dkwX1_checkRange_0 ++ []
theorem dksX1_checkRange_0 : cX1_checkRange.data.toList.drop 0 = dktX1_checkRange_0 := by decide +kernel
theorem dX1_checkRange_0 : decode cX1_checkRange 0 = .ok (.iload_n 0, 1) := dk_26 (dk_at dksX1_checkRange_0 0 rfl rfl)
theorem dX1_checkRange_1 : decode cX1_checkRange 1 = .ok (.ifCond .ne 11, 3) := dk_154 0 11 (dk_at dksX1_checkRange_0 1 rfl rfl)
theorem dX1_checkRange_4 : decode cX1_checkRange 4 = .ok (.new 362, 3) := dk_187 1 106 (dk_at dksX1_checkRange_0 4 rfl rfl)
theorem dX1_checkRange_7 : decode cX1_checkRange 7 = .ok (.dup, 1) := dk_89 (dk_at dksX1_checkRange_0 7 rfl rfl)
theorem dX1_checkRange_8 : decode cX1_checkRange 8 = .ok (.invokespecial 364, 3) := dk_183 1 108 (dk_at dksX1_checkRange_0 8 rfl rfl)
theorem dX1_checkRange_11 : decode cX1_checkRange 11 = .ok (.athrow, 1) := dk_191 (dk_at dksX1_checkRange_0 11 rfl rfl)
theorem dX1_checkRange_12 : decode cX1_checkRange 12 = .ok (.return_, 1) := dk_177 (dk_at dksX1_checkRange_0 12 rfl rfl)
abbrev cX1_stops : ByteArray := prog_1_method_44_code
def yX1_stops : MethodName := ⟨RX1, "stops", "(I)I"⟩
def dkwX1_stops_0 : List UInt8 := [42, 27, 182, 1, 122, 180, 0, 3, 172]
abbrev dktX1_stops_0 : List UInt8 := dkwX1_stops_0 ++ []
theorem dksX1_stops_0 : cX1_stops.data.toList.drop 0 = dktX1_stops_0 := by decide +kernel
theorem dX1_stops_0 : decode cX1_stops 0 = .ok (.aload_n 0, 1) := dk_42 (dk_at dksX1_stops_0 0 rfl rfl)
theorem dX1_stops_1 : decode cX1_stops 1 = .ok (.iload_n 1, 1) := dk_27 (dk_at dksX1_stops_0 1 rfl rfl)
theorem dX1_stops_2 : decode cX1_stops 2 = .ok (.invokevirtual 378, 3) := dk_182 1 122 (dk_at dksX1_stops_0 2 rfl rfl)
theorem dX1_stops_5 : decode cX1_stops 5 = .ok (.getfield 3, 3) := dk_180 0 3 (dk_at dksX1_stops_0 5 rfl rfl)
theorem dX1_stops_8 : decode cX1_stops 8 = .ok (.ireturn, 1) := dk_172 (dk_at dksX1_stops_0 8 rfl rfl)
abbrev cX1_fixedStops : ByteArray := prog_1_method_45_code
def yX1_fixedStops : MethodName := ⟨RX1, "fixedStops", "(I)I"⟩
def dkwX1_fixedStops_0 : List UInt8 := [42, 27, 182, 1, 122, 77, 42, 42, 180, 1, 112, 44, 182, 0, 160, 172]
abbrev dktX1_fixedStops_0 : List UInt8 := dkwX1_fixedStops_0 ++ []
theorem dksX1_fixedStops_0 : cX1_fixedStops.data.toList.drop 0 = dktX1_fixedStops_0 := by decide +kernel
theorem dX1_fixedStops_0 : decode cX1_fixedStops 0 = .ok (.aload_n 0, 1) := dk_42 (dk_at dksX1_fixedStops_0 0 rfl rfl)
theorem dX1_fixedStops_1 : decode cX1_fixedStops 1 = .ok (.iload_n 1, 1) := dk_27 (dk_at dksX1_fixedStops_0 1 rfl rfl)
theorem dX1_fixedStops_2 : decode cX1_fixedStops 2 = .ok (.invokevirtual 378, 3) := dk_182 1 122 (dk_at dksX1_fixedStops_0 2 rfl rfl)
theorem dX1_fixedStops_5 : decode cX1_fixedStops 5 = .ok (.astore_n 2, 1) := dk_77 (dk_at dksX1_fixedStops_0 5 rfl rfl)
theorem dX1_fixedStops_6 : decode cX1_fixedStops 6 = .ok (.aload_n 0, 1) := dk_42 (dk_at dksX1_fixedStops_0 6 rfl rfl)
theorem dX1_fixedStops_7 : decode cX1_fixedStops 7 = .ok (.aload_n 0, 1) := dk_42 (dk_at dksX1_fixedStops_0 7 rfl rfl)
theorem dX1_fixedStops_8 : decode cX1_fixedStops 8 = .ok (.getfield 368, 3) := dk_180 1 112 (dk_at dksX1_fixedStops_0 8 rfl rfl)
theorem dX1_fixedStops_11 : decode cX1_fixedStops 11 = .ok (.aload_n 2, 1) := dk_44 (dk_at dksX1_fixedStops_0 11 rfl rfl)
theorem dX1_fixedStops_12 : decode cX1_fixedStops 12 = .ok (.invokevirtual 160, 3) := dk_182 0 160 (dk_at dksX1_fixedStops_0 12 rfl rfl)
theorem dX1_fixedStops_15 : decode cX1_fixedStops 15 = .ok (.ireturn, 1) := dk_172 (dk_at dksX1_fixedStops_0 15 rfl rfl)
abbrev cX1_callAt : ByteArray := prog_1_method_46_code
def yX1_callAt : MethodName := ⟨RX1, "callAt", "(II)I"⟩
def dkwX1_callAt_0 : List UInt8 := [42, 27, 28, 182, 1, 136, 180, 0, 33, 28, 50, 180, 0, 61, 172]
abbrev dktX1_callAt_0 : List UInt8 := dkwX1_callAt_0 ++ []
theorem dksX1_callAt_0 : cX1_callAt.data.toList.drop 0 = dktX1_callAt_0 := by decide +kernel
theorem dX1_callAt_0 : decode cX1_callAt 0 = .ok (.aload_n 0, 1) := dk_42 (dk_at dksX1_callAt_0 0 rfl rfl)
theorem dX1_callAt_1 : decode cX1_callAt 1 = .ok (.iload_n 1, 1) := dk_27 (dk_at dksX1_callAt_0 1 rfl rfl)
theorem dX1_callAt_2 : decode cX1_callAt 2 = .ok (.iload_n 2, 1) := dk_28 (dk_at dksX1_callAt_0 2 rfl rfl)
theorem dX1_callAt_3 : decode cX1_callAt 3 = .ok (.invokevirtual 392, 3) := dk_182 1 136 (dk_at dksX1_callAt_0 3 rfl rfl)
theorem dX1_callAt_6 : decode cX1_callAt 6 = .ok (.getfield 33, 3) := dk_180 0 33 (dk_at dksX1_callAt_0 6 rfl rfl)
theorem dX1_callAt_9 : decode cX1_callAt 9 = .ok (.iload_n 2, 1) := dk_28 (dk_at dksX1_callAt_0 9 rfl rfl)
theorem dX1_callAt_10 : decode cX1_callAt 10 = .ok (.aaload, 1) := dk_50 (dk_at dksX1_callAt_0 10 rfl rfl)
theorem dX1_callAt_11 : decode cX1_callAt 11 = .ok (.getfield 61, 3) := dk_180 0 61 (dk_at dksX1_callAt_0 11 rfl rfl)
theorem dX1_callAt_14 : decode cX1_callAt 14 = .ok (.ireturn, 1) := dk_172 (dk_at dksX1_callAt_0 14 rfl rfl)
abbrev cX1_routeAt : ByteArray := prog_1_method_38_code
def yX1_routeAt : MethodName := ⟨RX1, "routeAt", "(II)LRideDesk$Route;"⟩
def dkwX1_routeAt_0 : List UInt8 := [42, 27, 182, 1, 122, 78, 28, 3, 45, 180, 0, 3, 4, 100, 184, 1, 66, 184, 1, 70, 45, 176]
abbrev dktX1_routeAt_0 : List UInt8 := dkwX1_routeAt_0 ++ []
theorem dksX1_routeAt_0 : cX1_routeAt.data.toList.drop 0 = dktX1_routeAt_0 := by decide +kernel
theorem dX1_routeAt_0 : decode cX1_routeAt 0 = .ok (.aload_n 0, 1) := dk_42 (dk_at dksX1_routeAt_0 0 rfl rfl)
theorem dX1_routeAt_1 : decode cX1_routeAt 1 = .ok (.iload_n 1, 1) := dk_27 (dk_at dksX1_routeAt_0 1 rfl rfl)
theorem dX1_routeAt_2 : decode cX1_routeAt 2 = .ok (.invokevirtual 378, 3) := dk_182 1 122 (dk_at dksX1_routeAt_0 2 rfl rfl)
theorem dX1_routeAt_5 : decode cX1_routeAt 5 = .ok (.astore_n 3, 1) := dk_78 (dk_at dksX1_routeAt_0 5 rfl rfl)
theorem dX1_routeAt_6 : decode cX1_routeAt 6 = .ok (.iload_n 2, 1) := dk_28 (dk_at dksX1_routeAt_0 6 rfl rfl)
theorem dX1_routeAt_7 : decode cX1_routeAt 7 = .ok (.iconst 0, 1) := dk_3 (dk_at dksX1_routeAt_0 7 rfl rfl)
theorem dX1_routeAt_8 : decode cX1_routeAt 8 = .ok (.aload_n 3, 1) := dk_45 (dk_at dksX1_routeAt_0 8 rfl rfl)
theorem dX1_routeAt_9 : decode cX1_routeAt 9 = .ok (.getfield 3, 3) := dk_180 0 3 (dk_at dksX1_routeAt_0 9 rfl rfl)
theorem dX1_routeAt_12 : decode cX1_routeAt 12 = .ok (.iconst 1, 1) := dk_4 (dk_at dksX1_routeAt_0 12 rfl rfl)
theorem dX1_routeAt_13 : decode cX1_routeAt 13 = .ok (.isub, 1) := dk_100 (dk_at dksX1_routeAt_0 13 rfl rfl)
theorem dX1_routeAt_14 : decode cX1_routeAt 14 = .ok (.invokestatic 322, 3) := dk_184 1 66 (dk_at dksX1_routeAt_0 14 rfl rfl)
theorem dX1_routeAt_17 : decode cX1_routeAt 17 = .ok (.invokestatic 326, 3) := dk_184 1 70 (dk_at dksX1_routeAt_0 17 rfl rfl)
theorem dX1_routeAt_20 : decode cX1_routeAt 20 = .ok (.aload_n 3, 1) := dk_45 (dk_at dksX1_routeAt_0 20 rfl rfl)
theorem dX1_routeAt_21 : decode cX1_routeAt 21 = .ok (.areturn, 1) := dk_176 (dk_at dksX1_routeAt_0 21 rfl rfl)
abbrev cX1_isPickup : ByteArray := prog_1_method_47_code
def yX1_isPickup : MethodName := ⟨RX1, "isPickup", "(II)Z"⟩
def dkwX1_isPickup_0 : List UInt8 := [42, 27, 28, 182, 1, 136, 180, 0, 33, 28, 50, 193, 0, 123, 172]
abbrev dktX1_isPickup_0 : List UInt8 := dkwX1_isPickup_0 ++ []
theorem dksX1_isPickup_0 : cX1_isPickup.data.toList.drop 0 = dktX1_isPickup_0 := by decide +kernel
theorem dX1_isPickup_0 : decode cX1_isPickup 0 = .ok (.aload_n 0, 1) := dk_42 (dk_at dksX1_isPickup_0 0 rfl rfl)
theorem dX1_isPickup_1 : decode cX1_isPickup 1 = .ok (.iload_n 1, 1) := dk_27 (dk_at dksX1_isPickup_0 1 rfl rfl)
theorem dX1_isPickup_2 : decode cX1_isPickup 2 = .ok (.iload_n 2, 1) := dk_28 (dk_at dksX1_isPickup_0 2 rfl rfl)
theorem dX1_isPickup_3 : decode cX1_isPickup 3 = .ok (.invokevirtual 392, 3) := dk_182 1 136 (dk_at dksX1_isPickup_0 3 rfl rfl)
theorem dX1_isPickup_6 : decode cX1_isPickup 6 = .ok (.getfield 33, 3) := dk_180 0 33 (dk_at dksX1_isPickup_0 6 rfl rfl)
theorem dX1_isPickup_9 : decode cX1_isPickup 9 = .ok (.iload_n 2, 1) := dk_28 (dk_at dksX1_isPickup_0 9 rfl rfl)
theorem dX1_isPickup_10 : decode cX1_isPickup 10 = .ok (.aaload, 1) := dk_50 (dk_at dksX1_isPickup_0 10 rfl rfl)
theorem dX1_isPickup_11 : decode cX1_isPickup 11 = .ok (.instanceof 123, 3) := dk_193 0 123 (dk_at dksX1_isPickup_0 11 rfl rfl)
theorem dX1_isPickup_14 : decode cX1_isPickup 14 = .ok (.ireturn, 1) := dk_172 (dk_at dksX1_isPickup_0 14 rfl rfl)
abbrev cX1_departureOf : ByteArray := prog_1_method_48_code
def yX1_departureOf : MethodName := ⟨RX1, "departureOf", "(II)I"⟩
def dkwX1_departureOf_0 : List UInt8 := [42, 27, 28, 182, 1, 136, 180, 0, 69, 28, 46, 172]
abbrev dktX1_departureOf_0 : List UInt8 := dkwX1_departureOf_0 ++ []
theorem dksX1_departureOf_0 : cX1_departureOf.data.toList.drop 0 = dktX1_departureOf_0 := by decide +kernel
theorem dX1_departureOf_0 : decode cX1_departureOf 0 = .ok (.aload_n 0, 1) := dk_42 (dk_at dksX1_departureOf_0 0 rfl rfl)
theorem dX1_departureOf_1 : decode cX1_departureOf 1 = .ok (.iload_n 1, 1) := dk_27 (dk_at dksX1_departureOf_0 1 rfl rfl)
theorem dX1_departureOf_2 : decode cX1_departureOf 2 = .ok (.iload_n 2, 1) := dk_28 (dk_at dksX1_departureOf_0 2 rfl rfl)
theorem dX1_departureOf_3 : decode cX1_departureOf 3 = .ok (.invokevirtual 392, 3) := dk_182 1 136 (dk_at dksX1_departureOf_0 3 rfl rfl)
theorem dX1_departureOf_6 : decode cX1_departureOf 6 = .ok (.getfield 69, 3) := dk_180 0 69 (dk_at dksX1_departureOf_0 6 rfl rfl)
theorem dX1_departureOf_9 : decode cX1_departureOf 9 = .ok (.iload_n 2, 1) := dk_28 (dk_at dksX1_departureOf_0 9 rfl rfl)
theorem dX1_departureOf_10 : decode cX1_departureOf 10 = .ok (.iaload, 1) := dk_46 (dk_at dksX1_departureOf_0 10 rfl rfl)
theorem dX1_departureOf_11 : decode cX1_departureOf 11 = .ok (.ireturn, 1) := dk_172 (dk_at dksX1_departureOf_0 11 rfl rfl)
abbrev cX1_beginOf : ByteArray := prog_1_method_49_code
def yX1_beginOf : MethodName := ⟨RX1, "beginOf", "(II)I"⟩
def dkwX1_beginOf_0 : List UInt8 := [42, 27, 28, 182, 1, 136, 180, 0, 51, 28, 46, 172]
abbrev dktX1_beginOf_0 : List UInt8 := dkwX1_beginOf_0 ++ []
theorem dksX1_beginOf_0 : cX1_beginOf.data.toList.drop 0 = dktX1_beginOf_0 := by decide +kernel
theorem dX1_beginOf_0 : decode cX1_beginOf 0 = .ok (.aload_n 0, 1) := dk_42 (dk_at dksX1_beginOf_0 0 rfl rfl)
theorem dX1_beginOf_1 : decode cX1_beginOf 1 = .ok (.iload_n 1, 1) := dk_27 (dk_at dksX1_beginOf_0 1 rfl rfl)
theorem dX1_beginOf_2 : decode cX1_beginOf 2 = .ok (.iload_n 2, 1) := dk_28 (dk_at dksX1_beginOf_0 2 rfl rfl)
theorem dX1_beginOf_3 : decode cX1_beginOf 3 = .ok (.invokevirtual 392, 3) := dk_182 1 136 (dk_at dksX1_beginOf_0 3 rfl rfl)
theorem dX1_beginOf_6 : decode cX1_beginOf 6 = .ok (.getfield 51, 3) := dk_180 0 51 (dk_at dksX1_beginOf_0 6 rfl rfl)
theorem dX1_beginOf_9 : decode cX1_beginOf 9 = .ok (.iload_n 2, 1) := dk_28 (dk_at dksX1_beginOf_0 9 rfl rfl)
theorem dX1_beginOf_10 : decode cX1_beginOf 10 = .ok (.iaload, 1) := dk_46 (dk_at dksX1_beginOf_0 10 rfl rfl)
theorem dX1_beginOf_11 : decode cX1_beginOf 11 = .ok (.ireturn, 1) := dk_172 (dk_at dksX1_beginOf_0 11 rfl rfl)
abbrev cX1_freeSeats : ByteArray := prog_1_method_51_code
def yX1_freeSeats : MethodName := ⟨RX1, "freeSeats", "(II)I"⟩
def dkwX1_freeSeats_1 : List UInt8 := [180, 0, 105, 42, 45, 28, 3, 182, 1, 140, 100, 172]
abbrev dktX1_freeSeats_1 : List UInt8 := dkwX1_freeSeats_1 ++ []
def dkwX1_freeSeats_0 : List UInt8 := [42, 27, 28, 182, 1, 136, 78, 42, 180, 0, 15, 180, 0, 19, 27, 185, 0, 25, 2, 0, 192, 0, 83]
abbrev dktX1_freeSeats_0 : List UInt8 := dkwX1_freeSeats_0 ++ dktX1_freeSeats_1
theorem dksX1_freeSeats_0 : cX1_freeSeats.data.toList.drop 0 = dktX1_freeSeats_0 := by decide +kernel
theorem dksX1_freeSeats_1 : cX1_freeSeats.data.toList.drop 23 = dktX1_freeSeats_1 := dk_seg dksX1_freeSeats_0 23 rfl rfl
theorem dX1_freeSeats_0 : decode cX1_freeSeats 0 = .ok (.aload_n 0, 1) := dk_42 (dk_at dksX1_freeSeats_0 0 rfl rfl)
theorem dX1_freeSeats_1 : decode cX1_freeSeats 1 = .ok (.iload_n 1, 1) := dk_27 (dk_at dksX1_freeSeats_0 1 rfl rfl)
theorem dX1_freeSeats_2 : decode cX1_freeSeats 2 = .ok (.iload_n 2, 1) := dk_28 (dk_at dksX1_freeSeats_0 2 rfl rfl)
theorem dX1_freeSeats_3 : decode cX1_freeSeats 3 = .ok (.invokevirtual 392, 3) := dk_182 1 136 (dk_at dksX1_freeSeats_0 3 rfl rfl)
theorem dX1_freeSeats_6 : decode cX1_freeSeats 6 = .ok (.astore_n 3, 1) := dk_78 (dk_at dksX1_freeSeats_0 6 rfl rfl)
theorem dX1_freeSeats_7 : decode cX1_freeSeats 7 = .ok (.aload_n 0, 1) := dk_42 (dk_at dksX1_freeSeats_0 7 rfl rfl)
theorem dX1_freeSeats_8 : decode cX1_freeSeats 8 = .ok (.getfield 15, 3) := dk_180 0 15 (dk_at dksX1_freeSeats_0 8 rfl rfl)
theorem dX1_freeSeats_11 : decode cX1_freeSeats 11 = .ok (.getfield 19, 3) := dk_180 0 19 (dk_at dksX1_freeSeats_0 11 rfl rfl)
theorem dX1_freeSeats_14 : decode cX1_freeSeats 14 = .ok (.iload_n 1, 1) := dk_27 (dk_at dksX1_freeSeats_0 14 rfl rfl)
theorem dX1_freeSeats_15 : decode cX1_freeSeats 15 = .ok (.invokeinterface 25 2, 5) := by decide +kernel
theorem dX1_freeSeats_20 : decode cX1_freeSeats 20 = .ok (.checkcast 83, 3) := dk_192 0 83 (dk_at dksX1_freeSeats_0 20 rfl rfl)
theorem dX1_freeSeats_23 : decode cX1_freeSeats 23 = .ok (.getfield 105, 3) := dk_180 0 105 (dk_at dksX1_freeSeats_1 0 rfl rfl)
theorem dX1_freeSeats_26 : decode cX1_freeSeats 26 = .ok (.aload_n 0, 1) := dk_42 (dk_at dksX1_freeSeats_1 3 rfl rfl)
theorem dX1_freeSeats_27 : decode cX1_freeSeats 27 = .ok (.aload_n 3, 1) := dk_45 (dk_at dksX1_freeSeats_1 4 rfl rfl)
theorem dX1_freeSeats_28 : decode cX1_freeSeats 28 = .ok (.iload_n 2, 1) := dk_28 (dk_at dksX1_freeSeats_1 5 rfl rfl)
theorem dX1_freeSeats_29 : decode cX1_freeSeats 29 = .ok (.iconst 0, 1) := dk_3 (dk_at dksX1_freeSeats_1 6 rfl rfl)
theorem dX1_freeSeats_30 : decode cX1_freeSeats 30 = .ok (.invokevirtual 396, 3) := dk_182 1 140 (dk_at dksX1_freeSeats_1 7 rfl rfl)
theorem dX1_freeSeats_33 : decode cX1_freeSeats 33 = .ok (.isub, 1) := dk_100 (dk_at dksX1_freeSeats_1 10 rfl rfl)
theorem dX1_freeSeats_34 : decode cX1_freeSeats 34 = .ok (.ireturn, 1) := dk_172 (dk_at dksX1_freeSeats_1 11 rfl rfl)
abbrev cX1_needed : ByteArray := prog_1_method_50_code
def yX1_needed : MethodName := ⟨RX1, "needed", "(LRideDesk$Route;IZ)I"⟩
def dkwX1_needed_3 : List UInt8 := [132, 5, 1, 167, 255, 192, 21, 4, 172]
abbrev dktX1_needed_3 : List UInt8 := dkwX1_needed_3 ++ []
def dkwX1_needed_2 : List UInt8 := [153, 0, 11, 25, 6, 180, 0, 122, 167, 0, 8, 25, 6, 180, 0, 115, 182, 0, 118, 96, 54, 4]
abbrev dktX1_needed_2 : List UInt8 := dkwX1_needed_2 ++ dktX1_needed_3
def dkwX1_needed_1 : List UInt8 := [21, 5, 50, 180, 0, 61, 50, 180, 0, 111, 58, 6, 21, 4, 43, 180, 0, 33, 21, 5, 50, 29]
abbrev dktX1_needed_1 : List UInt8 := dkwX1_needed_1 ++ dktX1_needed_2
def dkwX1_needed_0 : List UInt8 := [3, 54, 4, 3, 54, 5, 21, 5, 28, 163, 0, 64, 42, 180, 1, 112, 180, 0, 55, 43, 180, 0, 33]
abbrev dktX1_needed_0 : List UInt8 := dkwX1_needed_0 ++ dktX1_needed_1
theorem dksX1_needed_0 : cX1_needed.data.toList.drop 0 = dktX1_needed_0 := by decide +kernel
theorem dksX1_needed_1 : cX1_needed.data.toList.drop 23 = dktX1_needed_1 := dk_seg dksX1_needed_0 23 rfl rfl
theorem dksX1_needed_2 : cX1_needed.data.toList.drop 45 = dktX1_needed_2 := dk_seg dksX1_needed_1 22 rfl rfl
theorem dksX1_needed_3 : cX1_needed.data.toList.drop 67 = dktX1_needed_3 := dk_seg dksX1_needed_2 22 rfl rfl
theorem dX1_needed_0 : decode cX1_needed 0 = .ok (.iconst 0, 1) := dk_3 (dk_at dksX1_needed_0 0 rfl rfl)
theorem dX1_needed_1 : decode cX1_needed 1 = .ok (.istore 4, 2) := dk_54 4 (dk_at dksX1_needed_0 1 rfl rfl)
theorem dX1_needed_3 : decode cX1_needed 3 = .ok (.iconst 0, 1) := dk_3 (dk_at dksX1_needed_0 3 rfl rfl)
theorem dX1_needed_4 : decode cX1_needed 4 = .ok (.istore 5, 2) := dk_54 5 (dk_at dksX1_needed_0 4 rfl rfl)
theorem dX1_needed_6 : decode cX1_needed 6 = .ok (.iload 5, 2) := dk_21 5 (dk_at dksX1_needed_0 6 rfl rfl)
theorem dX1_needed_8 : decode cX1_needed 8 = .ok (.iload_n 2, 1) := dk_28 (dk_at dksX1_needed_0 8 rfl rfl)
theorem dX1_needed_9 : decode cX1_needed 9 = .ok (.if_icmp .gt 64, 3) := dk_163 0 64 (dk_at dksX1_needed_0 9 rfl rfl)
theorem dX1_needed_12 : decode cX1_needed 12 = .ok (.aload_n 0, 1) := dk_42 (dk_at dksX1_needed_0 12 rfl rfl)
theorem dX1_needed_13 : decode cX1_needed 13 = .ok (.getfield 368, 3) := dk_180 1 112 (dk_at dksX1_needed_0 13 rfl rfl)
theorem dX1_needed_16 : decode cX1_needed 16 = .ok (.getfield 55, 3) := dk_180 0 55 (dk_at dksX1_needed_0 16 rfl rfl)
theorem dX1_needed_19 : decode cX1_needed 19 = .ok (.aload_n 1, 1) := dk_43 (dk_at dksX1_needed_0 19 rfl rfl)
theorem dX1_needed_20 : decode cX1_needed 20 = .ok (.getfield 33, 3) := dk_180 0 33 (dk_at dksX1_needed_0 20 rfl rfl)
theorem dX1_needed_23 : decode cX1_needed 23 = .ok (.iload 5, 2) := dk_21 5 (dk_at dksX1_needed_1 0 rfl rfl)
theorem dX1_needed_25 : decode cX1_needed 25 = .ok (.aaload, 1) := dk_50 (dk_at dksX1_needed_1 2 rfl rfl)
theorem dX1_needed_26 : decode cX1_needed 26 = .ok (.getfield 61, 3) := dk_180 0 61 (dk_at dksX1_needed_1 3 rfl rfl)
theorem dX1_needed_29 : decode cX1_needed 29 = .ok (.aaload, 1) := dk_50 (dk_at dksX1_needed_1 6 rfl rfl)
theorem dX1_needed_30 : decode cX1_needed 30 = .ok (.getfield 111, 3) := dk_180 0 111 (dk_at dksX1_needed_1 7 rfl rfl)
theorem dX1_needed_33 : decode cX1_needed 33 = .ok (.astore 6, 2) := dk_58 6 (dk_at dksX1_needed_1 10 rfl rfl)
theorem dX1_needed_35 : decode cX1_needed 35 = .ok (.iload 4, 2) := dk_21 4 (dk_at dksX1_needed_1 12 rfl rfl)
theorem dX1_needed_37 : decode cX1_needed 37 = .ok (.aload_n 1, 1) := dk_43 (dk_at dksX1_needed_1 14 rfl rfl)
theorem dX1_needed_38 : decode cX1_needed 38 = .ok (.getfield 33, 3) := dk_180 0 33 (dk_at dksX1_needed_1 15 rfl rfl)
theorem dX1_needed_41 : decode cX1_needed 41 = .ok (.iload 5, 2) := dk_21 5 (dk_at dksX1_needed_1 18 rfl rfl)
theorem dX1_needed_43 : decode cX1_needed 43 = .ok (.aaload, 1) := dk_50 (dk_at dksX1_needed_1 20 rfl rfl)
theorem dX1_needed_44 : decode cX1_needed 44 = .ok (.iload_n 3, 1) := dk_29 (dk_at dksX1_needed_1 21 rfl rfl)
theorem dX1_needed_45 : decode cX1_needed 45 = .ok (.ifCond .eq 11, 3) := dk_153 0 11 (dk_at dksX1_needed_2 0 rfl rfl)
theorem dX1_needed_48 : decode cX1_needed 48 = .ok (.aload 6, 2) := dk_25 6 (dk_at dksX1_needed_2 3 rfl rfl)
theorem dX1_needed_50 : decode cX1_needed 50 = .ok (.getfield 122, 3) := dk_180 0 122 (dk_at dksX1_needed_2 5 rfl rfl)
theorem dX1_needed_53 : decode cX1_needed 53 = .ok (.goto 8, 3) := dk_167 0 8 (dk_at dksX1_needed_2 8 rfl rfl)
theorem dX1_needed_56 : decode cX1_needed 56 = .ok (.aload 6, 2) := dk_25 6 (dk_at dksX1_needed_2 11 rfl rfl)
theorem dX1_needed_58 : decode cX1_needed 58 = .ok (.getfield 115, 3) := dk_180 0 115 (dk_at dksX1_needed_2 13 rfl rfl)
theorem dX1_needed_61 : decode cX1_needed 61 = .ok (.invokevirtual 118, 3) := dk_182 0 118 (dk_at dksX1_needed_2 16 rfl rfl)
theorem dX1_needed_64 : decode cX1_needed 64 = .ok (.iadd, 1) := dk_96 (dk_at dksX1_needed_2 19 rfl rfl)
theorem dX1_needed_65 : decode cX1_needed 65 = .ok (.istore 4, 2) := dk_54 4 (dk_at dksX1_needed_2 20 rfl rfl)
theorem dX1_needed_67 : decode cX1_needed 67 = .ok (.iinc 5 1, 3) := dk_132 5 1 (dk_at dksX1_needed_3 0 rfl rfl)
theorem dX1_needed_70 : decode cX1_needed 70 = .ok (.goto (-64), 3) := dk_167 255 192 (dk_at dksX1_needed_3 3 rfl rfl)
theorem dX1_needed_73 : decode cX1_needed 73 = .ok (.iload 4, 2) := dk_21 4 (dk_at dksX1_needed_3 6 rfl rfl)
theorem dX1_needed_75 : decode cX1_needed 75 = .ok (.ireturn, 1) := dk_172 (dk_at dksX1_needed_3 8 rfl rfl)
abbrev cX1_freeWheels : ByteArray := prog_1_method_52_code
def yX1_freeWheels : MethodName := ⟨RX1, "freeWheels", "(II)I"⟩
def dkwX1_freeWheels_1 : List UInt8 := [180, 0, 108, 42, 45, 28, 4, 182, 1, 140, 100, 172]
abbrev dktX1_freeWheels_1 : List UInt8 := dkwX1_freeWheels_1 ++ []
def dkwX1_freeWheels_0 : List UInt8 := [42, 27, 28, 182, 1, 136, 78, 42, 180, 0, 15, 180, 0, 19, 27, 185, 0, 25, 2, 0, 192, 0, 83]
abbrev dktX1_freeWheels_0 : List UInt8 := dkwX1_freeWheels_0 ++ dktX1_freeWheels_1
theorem dksX1_freeWheels_0 : cX1_freeWheels.data.toList.drop 0 = dktX1_freeWheels_0 := by decide +kernel
theorem dksX1_freeWheels_1 : cX1_freeWheels.data.toList.drop 23 = dktX1_freeWheels_1 := dk_seg dksX1_freeWheels_0 23 rfl rfl
theorem dX1_freeWheels_0 : decode cX1_freeWheels 0 = .ok (.aload_n 0, 1) := dk_42 (dk_at dksX1_freeWheels_0 0 rfl rfl)
theorem dX1_freeWheels_1 : decode cX1_freeWheels 1 = .ok (.iload_n 1, 1) := dk_27 (dk_at dksX1_freeWheels_0 1 rfl rfl)
theorem dX1_freeWheels_2 : decode cX1_freeWheels 2 = .ok (.iload_n 2, 1) := dk_28 (dk_at dksX1_freeWheels_0 2 rfl rfl)
theorem dX1_freeWheels_3 : decode cX1_freeWheels 3 = .ok (.invokevirtual 392, 3) := dk_182 1 136 (dk_at dksX1_freeWheels_0 3 rfl rfl)
theorem dX1_freeWheels_6 : decode cX1_freeWheels 6 = .ok (.astore_n 3, 1) := dk_78 (dk_at dksX1_freeWheels_0 6 rfl rfl)
theorem dX1_freeWheels_7 : decode cX1_freeWheels 7 = .ok (.aload_n 0, 1) := dk_42 (dk_at dksX1_freeWheels_0 7 rfl rfl)
theorem dX1_freeWheels_8 : decode cX1_freeWheels 8 = .ok (.getfield 15, 3) := dk_180 0 15 (dk_at dksX1_freeWheels_0 8 rfl rfl)
theorem dX1_freeWheels_11 : decode cX1_freeWheels 11 = .ok (.getfield 19, 3) := dk_180 0 19 (dk_at dksX1_freeWheels_0 11 rfl rfl)
theorem dX1_freeWheels_14 : decode cX1_freeWheels 14 = .ok (.iload_n 1, 1) := dk_27 (dk_at dksX1_freeWheels_0 14 rfl rfl)
theorem dX1_freeWheels_15 : decode cX1_freeWheels 15 = .ok (.invokeinterface 25 2, 5) := by decide +kernel
theorem dX1_freeWheels_20 : decode cX1_freeWheels 20 = .ok (.checkcast 83, 3) := dk_192 0 83 (dk_at dksX1_freeWheels_0 20 rfl rfl)
theorem dX1_freeWheels_23 : decode cX1_freeWheels 23 = .ok (.getfield 108, 3) := dk_180 0 108 (dk_at dksX1_freeWheels_1 0 rfl rfl)
theorem dX1_freeWheels_26 : decode cX1_freeWheels 26 = .ok (.aload_n 0, 1) := dk_42 (dk_at dksX1_freeWheels_1 3 rfl rfl)
theorem dX1_freeWheels_27 : decode cX1_freeWheels 27 = .ok (.aload_n 3, 1) := dk_45 (dk_at dksX1_freeWheels_1 4 rfl rfl)
theorem dX1_freeWheels_28 : decode cX1_freeWheels 28 = .ok (.iload_n 2, 1) := dk_28 (dk_at dksX1_freeWheels_1 5 rfl rfl)
theorem dX1_freeWheels_29 : decode cX1_freeWheels 29 = .ok (.iconst 1, 1) := dk_4 (dk_at dksX1_freeWheels_1 6 rfl rfl)
theorem dX1_freeWheels_30 : decode cX1_freeWheels 30 = .ok (.invokevirtual 396, 3) := dk_182 1 140 (dk_at dksX1_freeWheels_1 7 rfl rfl)
theorem dX1_freeWheels_33 : decode cX1_freeWheels 33 = .ok (.isub, 1) := dk_100 (dk_at dksX1_freeWheels_1 10 rfl rfl)
theorem dX1_freeWheels_34 : decode cX1_freeWheels 34 = .ok (.ireturn, 1) := dk_172 (dk_at dksX1_freeWheels_1 11 rfl rfl)
abbrev cX1_slack : ByteArray := prog_1_method_54_code
def yX1_slack : MethodName := ⟨RX1, "slack", "(II)I"⟩
def dkwX1_slack_1 : List UInt8 := [182, 1, 144, 154, 0, 9, 132, 4, 255, 167, 255, 236, 21, 4, 172]
abbrev dktX1_slack_1 : List UInt8 := dkwX1_slack_1 ++ []
def dkwX1_slack_0 : List UInt8 := [42, 27, 28, 182, 1, 136, 78, 17, 3, 231, 54, 4, 21, 4, 158, 0, 21, 42, 27, 45, 28, 21, 4]
abbrev dktX1_slack_0 : List UInt8 := dkwX1_slack_0 ++ dktX1_slack_1
theorem dksX1_slack_0 : cX1_slack.data.toList.drop 0 = dktX1_slack_0 := by decide +kernel
theorem dksX1_slack_1 : cX1_slack.data.toList.drop 23 = dktX1_slack_1 := dk_seg dksX1_slack_0 23 rfl rfl
theorem dX1_slack_0 : decode cX1_slack 0 = .ok (.aload_n 0, 1) := dk_42 (dk_at dksX1_slack_0 0 rfl rfl)
theorem dX1_slack_1 : decode cX1_slack 1 = .ok (.iload_n 1, 1) := dk_27 (dk_at dksX1_slack_0 1 rfl rfl)
theorem dX1_slack_2 : decode cX1_slack 2 = .ok (.iload_n 2, 1) := dk_28 (dk_at dksX1_slack_0 2 rfl rfl)
theorem dX1_slack_3 : decode cX1_slack 3 = .ok (.invokevirtual 392, 3) := dk_182 1 136 (dk_at dksX1_slack_0 3 rfl rfl)
theorem dX1_slack_6 : decode cX1_slack 6 = .ok (.astore_n 3, 1) := dk_78 (dk_at dksX1_slack_0 6 rfl rfl)
theorem dX1_slack_7 : decode cX1_slack 7 = .ok (.sipush 999, 3) := dk_17 3 231 (dk_at dksX1_slack_0 7 rfl rfl)
theorem dX1_slack_10 : decode cX1_slack 10 = .ok (.istore 4, 2) := dk_54 4 (dk_at dksX1_slack_0 10 rfl rfl)
theorem dX1_slack_12 : decode cX1_slack 12 = .ok (.iload 4, 2) := dk_21 4 (dk_at dksX1_slack_0 12 rfl rfl)
theorem dX1_slack_14 : decode cX1_slack 14 = .ok (.ifCond .le 21, 3) := dk_158 0 21 (dk_at dksX1_slack_0 14 rfl rfl)
theorem dX1_slack_17 : decode cX1_slack 17 = .ok (.aload_n 0, 1) := dk_42 (dk_at dksX1_slack_0 17 rfl rfl)
theorem dX1_slack_18 : decode cX1_slack 18 = .ok (.iload_n 1, 1) := dk_27 (dk_at dksX1_slack_0 18 rfl rfl)
theorem dX1_slack_19 : decode cX1_slack 19 = .ok (.aload_n 3, 1) := dk_45 (dk_at dksX1_slack_0 19 rfl rfl)
theorem dX1_slack_20 : decode cX1_slack 20 = .ok (.iload_n 2, 1) := dk_28 (dk_at dksX1_slack_0 20 rfl rfl)
theorem dX1_slack_21 : decode cX1_slack 21 = .ok (.iload 4, 2) := dk_21 4 (dk_at dksX1_slack_0 21 rfl rfl)
theorem dX1_slack_23 : decode cX1_slack 23 = .ok (.invokevirtual 400, 3) := dk_182 1 144 (dk_at dksX1_slack_1 0 rfl rfl)
theorem dX1_slack_26 : decode cX1_slack 26 = .ok (.ifCond .ne 9, 3) := dk_154 0 9 (dk_at dksX1_slack_1 3 rfl rfl)
theorem dX1_slack_29 : decode cX1_slack 29 = .ok (.iinc 4 (-1), 3) := dk_132 4 255 (dk_at dksX1_slack_1 6 rfl rfl)
theorem dX1_slack_32 : decode cX1_slack 32 = .ok (.goto (-20), 3) := dk_167 255 236 (dk_at dksX1_slack_1 9 rfl rfl)
theorem dX1_slack_35 : decode cX1_slack 35 = .ok (.iload 4, 2) := dk_21 4 (dk_at dksX1_slack_1 12 rfl rfl)
theorem dX1_slack_37 : decode cX1_slack 37 = .ok (.ireturn, 1) := dk_172 (dk_at dksX1_slack_1 14 rfl rfl)
abbrev cX1_bears : ByteArray := prog_1_method_53_code
def yX1_bears : MethodName := ⟨RX1, "bears", "(ILRideDesk$Route;II)Z"⟩
def dkwX1_bears_11 : List UInt8 := [167, 0, 4, 3, 172]
abbrev dktX1_bears_11 : List UInt8 := dkwX1_bears_11 ++ []
def dkwX1_bears_10 : List UInt8 := [180, 1, 112, 27, 42, 180, 0, 210, 182, 0, 131, 42, 180, 1, 112, 180, 0, 135, 27, 46, 163, 0, 7, 4]
abbrev dktX1_bears_10 : List UInt8 := dkwX1_bears_10 ++ dktX1_bears_11
def dkwX1_bears_9 : List UInt8 := [42, 180, 0, 210, 21, 5, 182, 0, 128, 154, 0, 5, 3, 172, 132, 5, 1, 167, 255, 168, 42, 42]
abbrev dktX1_bears_9 : List UInt8 := dkwX1_bears_9 ++ dktX1_bears_10
def dkwX1_bears_8 : List UInt8 := [180, 1, 112, 42, 180, 0, 210, 21, 5, 182, 0, 88, 79, 21, 5, 29, 161, 0, 22, 42, 42, 180, 1, 112]
abbrev dktX1_bears_8 : List UInt8 := dkwX1_bears_8 ++ dktX1_bears_9
def dkwX1_bears_7 : List UInt8 := [153, 0, 35, 42, 180, 0, 125, 42, 180, 0, 210, 180, 0, 33, 21, 5, 50, 180, 0, 61, 42, 42]
abbrev dktX1_bears_7 : List UInt8 := dkwX1_bears_7 ++ dktX1_bears_8
def dkwX1_bears_6 : List UInt8 := [180, 0, 210, 180, 0, 3, 162, 0, 82, 42, 180, 0, 210, 180, 0, 33, 21, 5, 50, 193, 0, 123]
abbrev dktX1_bears_6 : List UInt8 := dkwX1_bears_6 ++ dktX1_bears_7
def dkwX1_bears_5 : List UInt8 := [21, 5, 182, 0, 92, 96, 182, 0, 102, 79, 132, 5, 1, 167, 255, 153, 3, 54, 5, 21, 5, 42]
abbrev dktX1_bears_5 : List UInt8 := dkwX1_bears_5 ++ dktX1_bears_6
def dkwX1_bears_4 : List UInt8 := [21, 5, 50, 42, 180, 1, 112, 42, 180, 0, 210, 180, 0, 69, 21, 5, 46, 42, 27, 42, 180, 0, 210]
abbrev dktX1_bears_4 : List UInt8 := dkwX1_bears_4 ++ dktX1_bears_5
def dkwX1_bears_3 : List UInt8 := [182, 0, 88, 184, 0, 96, 79, 42, 180, 0, 210, 180, 0, 51, 21, 5, 42, 180, 0, 210, 180, 0, 33]
abbrev dktX1_bears_3 : List UInt8 := dkwX1_bears_3 ++ dktX1_bears_4
def dkwX1_bears_2 : List UInt8 := [42, 180, 0, 210, 180, 0, 69, 21, 5, 46, 42, 42, 180, 1, 112, 42, 180, 0, 210, 21, 5, 4, 100]
abbrev dktX1_bears_2 : List UInt8 := dkwX1_bears_2 ++ dktX1_bears_3
def dkwX1_bears_1 : List UInt8 := [96, 54, 5, 21, 5, 42, 180, 0, 210, 180, 0, 3, 162, 0, 97, 42, 180, 0, 210, 180, 0, 69, 21, 5]
abbrev dktX1_bears_1 : List UInt8 := dkwX1_bears_1 ++ dktX1_bears_2
def dkwX1_bears_0 : List UInt8 := [42, 180, 0, 210, 44, 182, 0, 214, 42, 180, 0, 210, 180, 0, 51, 29, 92, 46, 21, 4, 96, 79, 29, 4]
abbrev dktX1_bears_0 : List UInt8 := dkwX1_bears_0 ++ dktX1_bears_1
theorem dksX1_bears_0 : cX1_bears.data.toList.drop 0 = dktX1_bears_0 := by decide +kernel
theorem dksX1_bears_1 : cX1_bears.data.toList.drop 24 = dktX1_bears_1 := dk_seg dksX1_bears_0 24 rfl rfl
theorem dksX1_bears_2 : cX1_bears.data.toList.drop 48 = dktX1_bears_2 := dk_seg dksX1_bears_1 24 rfl rfl
theorem dksX1_bears_3 : cX1_bears.data.toList.drop 71 = dktX1_bears_3 := dk_seg dksX1_bears_2 23 rfl rfl
theorem dksX1_bears_4 : cX1_bears.data.toList.drop 94 = dktX1_bears_4 := dk_seg dksX1_bears_3 23 rfl rfl
theorem dksX1_bears_5 : cX1_bears.data.toList.drop 117 = dktX1_bears_5 := dk_seg dksX1_bears_4 23 rfl rfl
theorem dksX1_bears_6 : cX1_bears.data.toList.drop 139 = dktX1_bears_6 := dk_seg dksX1_bears_5 22 rfl rfl
theorem dksX1_bears_7 : cX1_bears.data.toList.drop 161 = dktX1_bears_7 := dk_seg dksX1_bears_6 22 rfl rfl
theorem dksX1_bears_8 : cX1_bears.data.toList.drop 183 = dktX1_bears_8 := dk_seg dksX1_bears_7 22 rfl rfl
theorem dksX1_bears_9 : cX1_bears.data.toList.drop 207 = dktX1_bears_9 := dk_seg dksX1_bears_8 24 rfl rfl
theorem dksX1_bears_10 : cX1_bears.data.toList.drop 229 = dktX1_bears_10 := dk_seg dksX1_bears_9 22 rfl rfl
theorem dksX1_bears_11 : cX1_bears.data.toList.drop 253 = dktX1_bears_11 := dk_seg dksX1_bears_10 24 rfl rfl
theorem dX1_bears_0 : decode cX1_bears 0 = .ok (.aload_n 0, 1) := dk_42 (dk_at dksX1_bears_0 0 rfl rfl)
theorem dX1_bears_1 : decode cX1_bears 1 = .ok (.getfield 210, 3) := dk_180 0 210 (dk_at dksX1_bears_0 1 rfl rfl)
theorem dX1_bears_4 : decode cX1_bears 4 = .ok (.aload_n 2, 1) := dk_44 (dk_at dksX1_bears_0 4 rfl rfl)
theorem dX1_bears_5 : decode cX1_bears 5 = .ok (.invokevirtual 214, 3) := dk_182 0 214 (dk_at dksX1_bears_0 5 rfl rfl)
theorem dX1_bears_8 : decode cX1_bears 8 = .ok (.aload_n 0, 1) := dk_42 (dk_at dksX1_bears_0 8 rfl rfl)
theorem dX1_bears_9 : decode cX1_bears 9 = .ok (.getfield 210, 3) := dk_180 0 210 (dk_at dksX1_bears_0 9 rfl rfl)
theorem dX1_bears_12 : decode cX1_bears 12 = .ok (.getfield 51, 3) := dk_180 0 51 (dk_at dksX1_bears_0 12 rfl rfl)
theorem dX1_bears_15 : decode cX1_bears 15 = .ok (.iload_n 3, 1) := dk_29 (dk_at dksX1_bears_0 15 rfl rfl)
theorem dX1_bears_16 : decode cX1_bears 16 = .ok (.dup2, 1) := dk_92 (dk_at dksX1_bears_0 16 rfl rfl)
theorem dX1_bears_17 : decode cX1_bears 17 = .ok (.iaload, 1) := dk_46 (dk_at dksX1_bears_0 17 rfl rfl)
theorem dX1_bears_18 : decode cX1_bears 18 = .ok (.iload 4, 2) := dk_21 4 (dk_at dksX1_bears_0 18 rfl rfl)
theorem dX1_bears_20 : decode cX1_bears 20 = .ok (.iadd, 1) := dk_96 (dk_at dksX1_bears_0 20 rfl rfl)
theorem dX1_bears_21 : decode cX1_bears 21 = .ok (.iastore, 1) := dk_79 (dk_at dksX1_bears_0 21 rfl rfl)
theorem dX1_bears_22 : decode cX1_bears 22 = .ok (.iload_n 3, 1) := dk_29 (dk_at dksX1_bears_0 22 rfl rfl)
theorem dX1_bears_23 : decode cX1_bears 23 = .ok (.iconst 1, 1) := dk_4 (dk_at dksX1_bears_0 23 rfl rfl)
theorem dX1_bears_24 : decode cX1_bears 24 = .ok (.iadd, 1) := dk_96 (dk_at dksX1_bears_1 0 rfl rfl)
theorem dX1_bears_25 : decode cX1_bears 25 = .ok (.istore 5, 2) := dk_54 5 (dk_at dksX1_bears_1 1 rfl rfl)
theorem dX1_bears_27 : decode cX1_bears 27 = .ok (.iload 5, 2) := dk_21 5 (dk_at dksX1_bears_1 3 rfl rfl)
theorem dX1_bears_29 : decode cX1_bears 29 = .ok (.aload_n 0, 1) := dk_42 (dk_at dksX1_bears_1 5 rfl rfl)
theorem dX1_bears_30 : decode cX1_bears 30 = .ok (.getfield 210, 3) := dk_180 0 210 (dk_at dksX1_bears_1 6 rfl rfl)
theorem dX1_bears_33 : decode cX1_bears 33 = .ok (.getfield 3, 3) := dk_180 0 3 (dk_at dksX1_bears_1 9 rfl rfl)
theorem dX1_bears_36 : decode cX1_bears 36 = .ok (.if_icmp .ge 97, 3) := dk_162 0 97 (dk_at dksX1_bears_1 12 rfl rfl)
theorem dX1_bears_39 : decode cX1_bears 39 = .ok (.aload_n 0, 1) := dk_42 (dk_at dksX1_bears_1 15 rfl rfl)
theorem dX1_bears_40 : decode cX1_bears 40 = .ok (.getfield 210, 3) := dk_180 0 210 (dk_at dksX1_bears_1 16 rfl rfl)
theorem dX1_bears_43 : decode cX1_bears 43 = .ok (.getfield 69, 3) := dk_180 0 69 (dk_at dksX1_bears_1 19 rfl rfl)
theorem dX1_bears_46 : decode cX1_bears 46 = .ok (.iload 5, 2) := dk_21 5 (dk_at dksX1_bears_1 22 rfl rfl)
theorem dX1_bears_48 : decode cX1_bears 48 = .ok (.aload_n 0, 1) := dk_42 (dk_at dksX1_bears_2 0 rfl rfl)
theorem dX1_bears_49 : decode cX1_bears 49 = .ok (.getfield 210, 3) := dk_180 0 210 (dk_at dksX1_bears_2 1 rfl rfl)
theorem dX1_bears_52 : decode cX1_bears 52 = .ok (.getfield 69, 3) := dk_180 0 69 (dk_at dksX1_bears_2 4 rfl rfl)
theorem dX1_bears_55 : decode cX1_bears 55 = .ok (.iload 5, 2) := dk_21 5 (dk_at dksX1_bears_2 7 rfl rfl)
theorem dX1_bears_57 : decode cX1_bears 57 = .ok (.iaload, 1) := dk_46 (dk_at dksX1_bears_2 9 rfl rfl)
theorem dX1_bears_58 : decode cX1_bears 58 = .ok (.aload_n 0, 1) := dk_42 (dk_at dksX1_bears_2 10 rfl rfl)
theorem dX1_bears_59 : decode cX1_bears 59 = .ok (.aload_n 0, 1) := dk_42 (dk_at dksX1_bears_2 11 rfl rfl)
theorem dX1_bears_60 : decode cX1_bears 60 = .ok (.getfield 368, 3) := dk_180 1 112 (dk_at dksX1_bears_2 12 rfl rfl)
theorem dX1_bears_63 : decode cX1_bears 63 = .ok (.aload_n 0, 1) := dk_42 (dk_at dksX1_bears_2 15 rfl rfl)
theorem dX1_bears_64 : decode cX1_bears 64 = .ok (.getfield 210, 3) := dk_180 0 210 (dk_at dksX1_bears_2 16 rfl rfl)
theorem dX1_bears_67 : decode cX1_bears 67 = .ok (.iload 5, 2) := dk_21 5 (dk_at dksX1_bears_2 19 rfl rfl)
theorem dX1_bears_69 : decode cX1_bears 69 = .ok (.iconst 1, 1) := dk_4 (dk_at dksX1_bears_2 21 rfl rfl)
theorem dX1_bears_70 : decode cX1_bears 70 = .ok (.isub, 1) := dk_100 (dk_at dksX1_bears_2 22 rfl rfl)
theorem dX1_bears_71 : decode cX1_bears 71 = .ok (.invokevirtual 88, 3) := dk_182 0 88 (dk_at dksX1_bears_3 0 rfl rfl)
theorem dX1_bears_74 : decode cX1_bears 74 = .ok (.invokestatic 96, 3) := dk_184 0 96 (dk_at dksX1_bears_3 3 rfl rfl)
theorem dX1_bears_77 : decode cX1_bears 77 = .ok (.iastore, 1) := dk_79 (dk_at dksX1_bears_3 6 rfl rfl)
theorem dX1_bears_78 : decode cX1_bears 78 = .ok (.aload_n 0, 1) := dk_42 (dk_at dksX1_bears_3 7 rfl rfl)
theorem dX1_bears_79 : decode cX1_bears 79 = .ok (.getfield 210, 3) := dk_180 0 210 (dk_at dksX1_bears_3 8 rfl rfl)
theorem dX1_bears_82 : decode cX1_bears 82 = .ok (.getfield 51, 3) := dk_180 0 51 (dk_at dksX1_bears_3 11 rfl rfl)
theorem dX1_bears_85 : decode cX1_bears 85 = .ok (.iload 5, 2) := dk_21 5 (dk_at dksX1_bears_3 14 rfl rfl)
theorem dX1_bears_87 : decode cX1_bears 87 = .ok (.aload_n 0, 1) := dk_42 (dk_at dksX1_bears_3 16 rfl rfl)
theorem dX1_bears_88 : decode cX1_bears 88 = .ok (.getfield 210, 3) := dk_180 0 210 (dk_at dksX1_bears_3 17 rfl rfl)
theorem dX1_bears_91 : decode cX1_bears 91 = .ok (.getfield 33, 3) := dk_180 0 33 (dk_at dksX1_bears_3 20 rfl rfl)
theorem dX1_bears_94 : decode cX1_bears 94 = .ok (.iload 5, 2) := dk_21 5 (dk_at dksX1_bears_4 0 rfl rfl)
theorem dX1_bears_96 : decode cX1_bears 96 = .ok (.aaload, 1) := dk_50 (dk_at dksX1_bears_4 2 rfl rfl)
theorem dX1_bears_97 : decode cX1_bears 97 = .ok (.aload_n 0, 1) := dk_42 (dk_at dksX1_bears_4 3 rfl rfl)
theorem dX1_bears_98 : decode cX1_bears 98 = .ok (.getfield 368, 3) := dk_180 1 112 (dk_at dksX1_bears_4 4 rfl rfl)
theorem dX1_bears_101 : decode cX1_bears 101 = .ok (.aload_n 0, 1) := dk_42 (dk_at dksX1_bears_4 7 rfl rfl)
theorem dX1_bears_102 : decode cX1_bears 102 = .ok (.getfield 210, 3) := dk_180 0 210 (dk_at dksX1_bears_4 8 rfl rfl)
theorem dX1_bears_105 : decode cX1_bears 105 = .ok (.getfield 69, 3) := dk_180 0 69 (dk_at dksX1_bears_4 11 rfl rfl)
theorem dX1_bears_108 : decode cX1_bears 108 = .ok (.iload 5, 2) := dk_21 5 (dk_at dksX1_bears_4 14 rfl rfl)
theorem dX1_bears_110 : decode cX1_bears 110 = .ok (.iaload, 1) := dk_46 (dk_at dksX1_bears_4 16 rfl rfl)
theorem dX1_bears_111 : decode cX1_bears 111 = .ok (.aload_n 0, 1) := dk_42 (dk_at dksX1_bears_4 17 rfl rfl)
theorem dX1_bears_112 : decode cX1_bears 112 = .ok (.iload_n 1, 1) := dk_27 (dk_at dksX1_bears_4 18 rfl rfl)
theorem dX1_bears_113 : decode cX1_bears 113 = .ok (.aload_n 0, 1) := dk_42 (dk_at dksX1_bears_4 19 rfl rfl)
theorem dX1_bears_114 : decode cX1_bears 114 = .ok (.getfield 210, 3) := dk_180 0 210 (dk_at dksX1_bears_4 20 rfl rfl)
theorem dX1_bears_117 : decode cX1_bears 117 = .ok (.iload 5, 2) := dk_21 5 (dk_at dksX1_bears_5 0 rfl rfl)
theorem dX1_bears_119 : decode cX1_bears 119 = .ok (.invokevirtual 92, 3) := dk_182 0 92 (dk_at dksX1_bears_5 2 rfl rfl)
theorem dX1_bears_122 : decode cX1_bears 122 = .ok (.iadd, 1) := dk_96 (dk_at dksX1_bears_5 5 rfl rfl)
theorem dX1_bears_123 : decode cX1_bears 123 = .ok (.invokevirtual 102, 3) := dk_182 0 102 (dk_at dksX1_bears_5 6 rfl rfl)
theorem dX1_bears_126 : decode cX1_bears 126 = .ok (.iastore, 1) := dk_79 (dk_at dksX1_bears_5 9 rfl rfl)
theorem dX1_bears_127 : decode cX1_bears 127 = .ok (.iinc 5 1, 3) := dk_132 5 1 (dk_at dksX1_bears_5 10 rfl rfl)
theorem dX1_bears_130 : decode cX1_bears 130 = .ok (.goto (-103), 3) := dk_167 255 153 (dk_at dksX1_bears_5 13 rfl rfl)
theorem dX1_bears_133 : decode cX1_bears 133 = .ok (.iconst 0, 1) := dk_3 (dk_at dksX1_bears_5 16 rfl rfl)
theorem dX1_bears_134 : decode cX1_bears 134 = .ok (.istore 5, 2) := dk_54 5 (dk_at dksX1_bears_5 17 rfl rfl)
theorem dX1_bears_136 : decode cX1_bears 136 = .ok (.iload 5, 2) := dk_21 5 (dk_at dksX1_bears_5 19 rfl rfl)
theorem dX1_bears_138 : decode cX1_bears 138 = .ok (.aload_n 0, 1) := dk_42 (dk_at dksX1_bears_5 21 rfl rfl)
theorem dX1_bears_139 : decode cX1_bears 139 = .ok (.getfield 210, 3) := dk_180 0 210 (dk_at dksX1_bears_6 0 rfl rfl)
theorem dX1_bears_142 : decode cX1_bears 142 = .ok (.getfield 3, 3) := dk_180 0 3 (dk_at dksX1_bears_6 3 rfl rfl)
theorem dX1_bears_145 : decode cX1_bears 145 = .ok (.if_icmp .ge 82, 3) := dk_162 0 82 (dk_at dksX1_bears_6 6 rfl rfl)
theorem dX1_bears_148 : decode cX1_bears 148 = .ok (.aload_n 0, 1) := dk_42 (dk_at dksX1_bears_6 9 rfl rfl)
theorem dX1_bears_149 : decode cX1_bears 149 = .ok (.getfield 210, 3) := dk_180 0 210 (dk_at dksX1_bears_6 10 rfl rfl)
theorem dX1_bears_152 : decode cX1_bears 152 = .ok (.getfield 33, 3) := dk_180 0 33 (dk_at dksX1_bears_6 13 rfl rfl)
theorem dX1_bears_155 : decode cX1_bears 155 = .ok (.iload 5, 2) := dk_21 5 (dk_at dksX1_bears_6 16 rfl rfl)
theorem dX1_bears_157 : decode cX1_bears 157 = .ok (.aaload, 1) := dk_50 (dk_at dksX1_bears_6 18 rfl rfl)
theorem dX1_bears_158 : decode cX1_bears 158 = .ok (.instanceof 123, 3) := dk_193 0 123 (dk_at dksX1_bears_6 19 rfl rfl)
theorem dX1_bears_161 : decode cX1_bears 161 = .ok (.ifCond .eq 35, 3) := dk_153 0 35 (dk_at dksX1_bears_7 0 rfl rfl)
theorem dX1_bears_164 : decode cX1_bears 164 = .ok (.aload_n 0, 1) := dk_42 (dk_at dksX1_bears_7 3 rfl rfl)
theorem dX1_bears_165 : decode cX1_bears 165 = .ok (.getfield 125, 3) := dk_180 0 125 (dk_at dksX1_bears_7 4 rfl rfl)
theorem dX1_bears_168 : decode cX1_bears 168 = .ok (.aload_n 0, 1) := dk_42 (dk_at dksX1_bears_7 7 rfl rfl)
theorem dX1_bears_169 : decode cX1_bears 169 = .ok (.getfield 210, 3) := dk_180 0 210 (dk_at dksX1_bears_7 8 rfl rfl)
theorem dX1_bears_172 : decode cX1_bears 172 = .ok (.getfield 33, 3) := dk_180 0 33 (dk_at dksX1_bears_7 11 rfl rfl)
theorem dX1_bears_175 : decode cX1_bears 175 = .ok (.iload 5, 2) := dk_21 5 (dk_at dksX1_bears_7 14 rfl rfl)
theorem dX1_bears_177 : decode cX1_bears 177 = .ok (.aaload, 1) := dk_50 (dk_at dksX1_bears_7 16 rfl rfl)
theorem dX1_bears_178 : decode cX1_bears 178 = .ok (.getfield 61, 3) := dk_180 0 61 (dk_at dksX1_bears_7 17 rfl rfl)
theorem dX1_bears_181 : decode cX1_bears 181 = .ok (.aload_n 0, 1) := dk_42 (dk_at dksX1_bears_7 20 rfl rfl)
theorem dX1_bears_182 : decode cX1_bears 182 = .ok (.aload_n 0, 1) := dk_42 (dk_at dksX1_bears_7 21 rfl rfl)
theorem dX1_bears_183 : decode cX1_bears 183 = .ok (.getfield 368, 3) := dk_180 1 112 (dk_at dksX1_bears_8 0 rfl rfl)
theorem dX1_bears_186 : decode cX1_bears 186 = .ok (.aload_n 0, 1) := dk_42 (dk_at dksX1_bears_8 3 rfl rfl)
theorem dX1_bears_187 : decode cX1_bears 187 = .ok (.getfield 210, 3) := dk_180 0 210 (dk_at dksX1_bears_8 4 rfl rfl)
theorem dX1_bears_190 : decode cX1_bears 190 = .ok (.iload 5, 2) := dk_21 5 (dk_at dksX1_bears_8 7 rfl rfl)
theorem dX1_bears_192 : decode cX1_bears 192 = .ok (.invokevirtual 88, 3) := dk_182 0 88 (dk_at dksX1_bears_8 9 rfl rfl)
theorem dX1_bears_195 : decode cX1_bears 195 = .ok (.iastore, 1) := dk_79 (dk_at dksX1_bears_8 12 rfl rfl)
theorem dX1_bears_196 : decode cX1_bears 196 = .ok (.iload 5, 2) := dk_21 5 (dk_at dksX1_bears_8 13 rfl rfl)
theorem dX1_bears_198 : decode cX1_bears 198 = .ok (.iload_n 3, 1) := dk_29 (dk_at dksX1_bears_8 15 rfl rfl)
theorem dX1_bears_199 : decode cX1_bears 199 = .ok (.if_icmp .lt 22, 3) := dk_161 0 22 (dk_at dksX1_bears_8 16 rfl rfl)
theorem dX1_bears_202 : decode cX1_bears 202 = .ok (.aload_n 0, 1) := dk_42 (dk_at dksX1_bears_8 19 rfl rfl)
theorem dX1_bears_203 : decode cX1_bears 203 = .ok (.aload_n 0, 1) := dk_42 (dk_at dksX1_bears_8 20 rfl rfl)
theorem dX1_bears_204 : decode cX1_bears 204 = .ok (.getfield 368, 3) := dk_180 1 112 (dk_at dksX1_bears_8 21 rfl rfl)
theorem dX1_bears_207 : decode cX1_bears 207 = .ok (.aload_n 0, 1) := dk_42 (dk_at dksX1_bears_9 0 rfl rfl)
theorem dX1_bears_208 : decode cX1_bears 208 = .ok (.getfield 210, 3) := dk_180 0 210 (dk_at dksX1_bears_9 1 rfl rfl)
theorem dX1_bears_211 : decode cX1_bears 211 = .ok (.iload 5, 2) := dk_21 5 (dk_at dksX1_bears_9 4 rfl rfl)
theorem dX1_bears_213 : decode cX1_bears 213 = .ok (.invokevirtual 128, 3) := dk_182 0 128 (dk_at dksX1_bears_9 6 rfl rfl)
theorem dX1_bears_216 : decode cX1_bears 216 = .ok (.ifCond .ne 5, 3) := dk_154 0 5 (dk_at dksX1_bears_9 9 rfl rfl)
theorem dX1_bears_219 : decode cX1_bears 219 = .ok (.iconst 0, 1) := dk_3 (dk_at dksX1_bears_9 12 rfl rfl)
theorem dX1_bears_220 : decode cX1_bears 220 = .ok (.ireturn, 1) := dk_172 (dk_at dksX1_bears_9 13 rfl rfl)
theorem dX1_bears_221 : decode cX1_bears 221 = .ok (.iinc 5 1, 3) := dk_132 5 1 (dk_at dksX1_bears_9 14 rfl rfl)
theorem dX1_bears_224 : decode cX1_bears 224 = .ok (.goto (-88), 3) := dk_167 255 168 (dk_at dksX1_bears_9 17 rfl rfl)
theorem dX1_bears_227 : decode cX1_bears 227 = .ok (.aload_n 0, 1) := dk_42 (dk_at dksX1_bears_9 20 rfl rfl)
theorem dX1_bears_228 : decode cX1_bears 228 = .ok (.aload_n 0, 1) := dk_42 (dk_at dksX1_bears_9 21 rfl rfl)
theorem dX1_bears_229 : decode cX1_bears 229 = .ok (.getfield 368, 3) := dk_180 1 112 (dk_at dksX1_bears_10 0 rfl rfl)
theorem dX1_bears_232 : decode cX1_bears 232 = .ok (.iload_n 1, 1) := dk_27 (dk_at dksX1_bears_10 3 rfl rfl)
theorem dX1_bears_233 : decode cX1_bears 233 = .ok (.aload_n 0, 1) := dk_42 (dk_at dksX1_bears_10 4 rfl rfl)
theorem dX1_bears_234 : decode cX1_bears 234 = .ok (.getfield 210, 3) := dk_180 0 210 (dk_at dksX1_bears_10 5 rfl rfl)
theorem dX1_bears_237 : decode cX1_bears 237 = .ok (.invokevirtual 131, 3) := dk_182 0 131 (dk_at dksX1_bears_10 8 rfl rfl)
theorem dX1_bears_240 : decode cX1_bears 240 = .ok (.aload_n 0, 1) := dk_42 (dk_at dksX1_bears_10 11 rfl rfl)
theorem dX1_bears_241 : decode cX1_bears 241 = .ok (.getfield 368, 3) := dk_180 1 112 (dk_at dksX1_bears_10 12 rfl rfl)
theorem dX1_bears_244 : decode cX1_bears 244 = .ok (.getfield 135, 3) := dk_180 0 135 (dk_at dksX1_bears_10 15 rfl rfl)
theorem dX1_bears_247 : decode cX1_bears 247 = .ok (.iload_n 1, 1) := dk_27 (dk_at dksX1_bears_10 18 rfl rfl)
theorem dX1_bears_248 : decode cX1_bears 248 = .ok (.iaload, 1) := dk_46 (dk_at dksX1_bears_10 19 rfl rfl)
theorem dX1_bears_249 : decode cX1_bears 249 = .ok (.if_icmp .gt 7, 3) := dk_163 0 7 (dk_at dksX1_bears_10 20 rfl rfl)
theorem dX1_bears_252 : decode cX1_bears 252 = .ok (.iconst 1, 1) := dk_4 (dk_at dksX1_bears_10 23 rfl rfl)
theorem dX1_bears_253 : decode cX1_bears 253 = .ok (.goto 4, 3) := dk_167 0 4 (dk_at dksX1_bears_11 0 rfl rfl)
theorem dX1_bears_256 : decode cX1_bears 256 = .ok (.iconst 0, 1) := dk_3 (dk_at dksX1_bears_11 3 rfl rfl)
theorem dX1_bears_257 : decode cX1_bears 257 = .ok (.ireturn, 1) := dk_172 (dk_at dksX1_bears_11 4 rfl rfl)
abbrev cX1_endOf : ByteArray := prog_1_method_55_code
def yX1_endOf : MethodName := ⟨RX1, "endOf", "(I)I"⟩
def dkwX1_endOf_0 : List UInt8 := [42, 27, 182, 1, 122, 77, 42, 42, 180, 1, 112, 27, 44, 182, 0, 131, 172]
abbrev dktX1_endOf_0 : List UInt8 := dkwX1_endOf_0 ++ []
theorem dksX1_endOf_0 : cX1_endOf.data.toList.drop 0 = dktX1_endOf_0 := by decide +kernel
theorem dX1_endOf_0 : decode cX1_endOf 0 = .ok (.aload_n 0, 1) := dk_42 (dk_at dksX1_endOf_0 0 rfl rfl)
theorem dX1_endOf_1 : decode cX1_endOf 1 = .ok (.iload_n 1, 1) := dk_27 (dk_at dksX1_endOf_0 1 rfl rfl)
theorem dX1_endOf_2 : decode cX1_endOf 2 = .ok (.invokevirtual 378, 3) := dk_182 1 122 (dk_at dksX1_endOf_0 2 rfl rfl)
theorem dX1_endOf_5 : decode cX1_endOf 5 = .ok (.astore_n 2, 1) := dk_77 (dk_at dksX1_endOf_0 5 rfl rfl)
theorem dX1_endOf_6 : decode cX1_endOf 6 = .ok (.aload_n 0, 1) := dk_42 (dk_at dksX1_endOf_0 6 rfl rfl)
theorem dX1_endOf_7 : decode cX1_endOf 7 = .ok (.aload_n 0, 1) := dk_42 (dk_at dksX1_endOf_0 7 rfl rfl)
theorem dX1_endOf_8 : decode cX1_endOf 8 = .ok (.getfield 368, 3) := dk_180 1 112 (dk_at dksX1_endOf_0 8 rfl rfl)
theorem dX1_endOf_11 : decode cX1_endOf 11 = .ok (.iload_n 1, 1) := dk_27 (dk_at dksX1_endOf_0 11 rfl rfl)
theorem dX1_endOf_12 : decode cX1_endOf 12 = .ok (.aload_n 2, 1) := dk_44 (dk_at dksX1_endOf_0 12 rfl rfl)
theorem dX1_endOf_13 : decode cX1_endOf 13 = .ok (.invokevirtual 131, 3) := dk_182 0 131 (dk_at dksX1_endOf_0 13 rfl rfl)
theorem dX1_endOf_16 : decode cX1_endOf 16 = .ok (.ireturn, 1) := dk_172 (dk_at dksX1_endOf_0 16 rfl rfl)
abbrev cX1_driving_2 : ByteArray := prog_1_method_56_code
def yX1_driving_2 : MethodName := ⟨RX1, "driving", "(I)I"⟩
def dkwX1_driving_2_0 : List UInt8 := [42, 27, 42, 27, 182, 1, 122, 182, 1, 30, 172]
abbrev dktX1_driving_2_0 : List UInt8 := dkwX1_driving_2_0 ++ []
theorem dksX1_driving_2_0 : cX1_driving_2.data.toList.drop 0 = dktX1_driving_2_0 := by decide +kernel
theorem dX1_driving_2_0 : decode cX1_driving_2 0 = .ok (.aload_n 0, 1) := dk_42 (dk_at dksX1_driving_2_0 0 rfl rfl)
theorem dX1_driving_2_1 : decode cX1_driving_2 1 = .ok (.iload_n 1, 1) := dk_27 (dk_at dksX1_driving_2_0 1 rfl rfl)
theorem dX1_driving_2_2 : decode cX1_driving_2 2 = .ok (.aload_n 0, 1) := dk_42 (dk_at dksX1_driving_2_0 2 rfl rfl)
theorem dX1_driving_2_3 : decode cX1_driving_2 3 = .ok (.iload_n 1, 1) := dk_27 (dk_at dksX1_driving_2_0 3 rfl rfl)
theorem dX1_driving_2_4 : decode cX1_driving_2 4 = .ok (.invokevirtual 378, 3) := dk_182 1 122 (dk_at dksX1_driving_2_0 4 rfl rfl)
theorem dX1_driving_2_7 : decode cX1_driving_2 7 = .ok (.invokevirtual 286, 3) := dk_182 1 30 (dk_at dksX1_driving_2_0 7 rfl rfl)
theorem dX1_driving_2_10 : decode cX1_driving_2 10 = .ok (.ireturn, 1) := dk_172 (dk_at dksX1_driving_2_0 10 rfl rfl)
abbrev cX1_busiest : ByteArray := prog_1_method_58_code
def yX1_busiest : MethodName := ⟨RX1, "busiest", "(I)I"⟩
def dkwX1_busiest_4 : List UInt8 := [21, 5, 27, 160, 0, 6, 21, 4, 62, 132, 4, 1, 167, 255, 165, 29, 172]
abbrev dktX1_busiest_4 : List UInt8 := dkwX1_busiest_4 ++ []
def dkwX1_busiest_3 : List UInt8 := [21, 6, 21, 4, 182, 1, 148, 153, 0, 7, 4, 167, 0, 4, 3, 96, 54, 5, 132, 6, 1, 167, 255, 208]
abbrev dktX1_busiest_3 : List UInt8 := dkwX1_busiest_3 ++ dktX1_busiest_4
def dkwX1_busiest_2 : List UInt8 := [180, 0, 15, 180, 0, 19, 185, 0, 153, 1, 0, 162, 0, 37, 21, 5, 21, 6, 21, 4, 159, 0, 18, 42]
abbrev dktX1_busiest_2 : List UInt8 := dkwX1_busiest_2 ++ dktX1_busiest_3
def dkwX1_busiest_1 : List UInt8 := [185, 0, 153, 1, 0, 162, 0, 80, 29, 2, 160, 0, 75, 3, 54, 5, 3, 54, 6, 21, 6, 42]
abbrev dktX1_busiest_1 : List UInt8 := dkwX1_busiest_1 ++ dktX1_busiest_2
def dkwX1_busiest_0 : List UInt8 := [42, 27, 182, 1, 122, 77, 2, 62, 3, 54, 4, 21, 4, 42, 180, 0, 15, 180, 0, 19]
abbrev dktX1_busiest_0 : List UInt8 := dkwX1_busiest_0 ++ dktX1_busiest_1
theorem dksX1_busiest_0 : cX1_busiest.data.toList.drop 0 = dktX1_busiest_0 := by decide +kernel
theorem dksX1_busiest_1 : cX1_busiest.data.toList.drop 20 = dktX1_busiest_1 := dk_seg dksX1_busiest_0 20 rfl rfl
theorem dksX1_busiest_2 : cX1_busiest.data.toList.drop 42 = dktX1_busiest_2 := dk_seg dksX1_busiest_1 22 rfl rfl
theorem dksX1_busiest_3 : cX1_busiest.data.toList.drop 66 = dktX1_busiest_3 := dk_seg dksX1_busiest_2 24 rfl rfl
theorem dksX1_busiest_4 : cX1_busiest.data.toList.drop 90 = dktX1_busiest_4 := dk_seg dksX1_busiest_3 24 rfl rfl
theorem dX1_busiest_0 : decode cX1_busiest 0 = .ok (.aload_n 0, 1) := dk_42 (dk_at dksX1_busiest_0 0 rfl rfl)
theorem dX1_busiest_1 : decode cX1_busiest 1 = .ok (.iload_n 1, 1) := dk_27 (dk_at dksX1_busiest_0 1 rfl rfl)
theorem dX1_busiest_2 : decode cX1_busiest 2 = .ok (.invokevirtual 378, 3) := dk_182 1 122 (dk_at dksX1_busiest_0 2 rfl rfl)
theorem dX1_busiest_5 : decode cX1_busiest 5 = .ok (.astore_n 2, 1) := dk_77 (dk_at dksX1_busiest_0 5 rfl rfl)
theorem dX1_busiest_6 : decode cX1_busiest 6 = .ok (.iconst (-1), 1) := dk_2 (dk_at dksX1_busiest_0 6 rfl rfl)
theorem dX1_busiest_7 : decode cX1_busiest 7 = .ok (.istore_n 3, 1) := dk_62 (dk_at dksX1_busiest_0 7 rfl rfl)
theorem dX1_busiest_8 : decode cX1_busiest 8 = .ok (.iconst 0, 1) := dk_3 (dk_at dksX1_busiest_0 8 rfl rfl)
theorem dX1_busiest_9 : decode cX1_busiest 9 = .ok (.istore 4, 2) := dk_54 4 (dk_at dksX1_busiest_0 9 rfl rfl)
theorem dX1_busiest_11 : decode cX1_busiest 11 = .ok (.iload 4, 2) := dk_21 4 (dk_at dksX1_busiest_0 11 rfl rfl)
theorem dX1_busiest_13 : decode cX1_busiest 13 = .ok (.aload_n 0, 1) := dk_42 (dk_at dksX1_busiest_0 13 rfl rfl)
theorem dX1_busiest_14 : decode cX1_busiest 14 = .ok (.getfield 15, 3) := dk_180 0 15 (dk_at dksX1_busiest_0 14 rfl rfl)
theorem dX1_busiest_17 : decode cX1_busiest 17 = .ok (.getfield 19, 3) := dk_180 0 19 (dk_at dksX1_busiest_0 17 rfl rfl)
theorem dX1_busiest_20 : decode cX1_busiest 20 = .ok (.invokeinterface 153 1, 5) := by decide +kernel
theorem dX1_busiest_25 : decode cX1_busiest 25 = .ok (.if_icmp .ge 80, 3) := dk_162 0 80 (dk_at dksX1_busiest_1 5 rfl rfl)
theorem dX1_busiest_28 : decode cX1_busiest 28 = .ok (.iload_n 3, 1) := dk_29 (dk_at dksX1_busiest_1 8 rfl rfl)
theorem dX1_busiest_29 : decode cX1_busiest 29 = .ok (.iconst (-1), 1) := dk_2 (dk_at dksX1_busiest_1 9 rfl rfl)
theorem dX1_busiest_30 : decode cX1_busiest 30 = .ok (.if_icmp .ne 75, 3) := dk_160 0 75 (dk_at dksX1_busiest_1 10 rfl rfl)
theorem dX1_busiest_33 : decode cX1_busiest 33 = .ok (.iconst 0, 1) := dk_3 (dk_at dksX1_busiest_1 13 rfl rfl)
theorem dX1_busiest_34 : decode cX1_busiest 34 = .ok (.istore 5, 2) := dk_54 5 (dk_at dksX1_busiest_1 14 rfl rfl)
theorem dX1_busiest_36 : decode cX1_busiest 36 = .ok (.iconst 0, 1) := dk_3 (dk_at dksX1_busiest_1 16 rfl rfl)
theorem dX1_busiest_37 : decode cX1_busiest 37 = .ok (.istore 6, 2) := dk_54 6 (dk_at dksX1_busiest_1 17 rfl rfl)
theorem dX1_busiest_39 : decode cX1_busiest 39 = .ok (.iload 6, 2) := dk_21 6 (dk_at dksX1_busiest_1 19 rfl rfl)
theorem dX1_busiest_41 : decode cX1_busiest 41 = .ok (.aload_n 0, 1) := dk_42 (dk_at dksX1_busiest_1 21 rfl rfl)
theorem dX1_busiest_42 : decode cX1_busiest 42 = .ok (.getfield 15, 3) := dk_180 0 15 (dk_at dksX1_busiest_2 0 rfl rfl)
theorem dX1_busiest_45 : decode cX1_busiest 45 = .ok (.getfield 19, 3) := dk_180 0 19 (dk_at dksX1_busiest_2 3 rfl rfl)
theorem dX1_busiest_48 : decode cX1_busiest 48 = .ok (.invokeinterface 153 1, 5) := by decide +kernel
theorem dX1_busiest_53 : decode cX1_busiest 53 = .ok (.if_icmp .ge 37, 3) := dk_162 0 37 (dk_at dksX1_busiest_2 11 rfl rfl)
theorem dX1_busiest_56 : decode cX1_busiest 56 = .ok (.iload 5, 2) := dk_21 5 (dk_at dksX1_busiest_2 14 rfl rfl)
theorem dX1_busiest_58 : decode cX1_busiest 58 = .ok (.iload 6, 2) := dk_21 6 (dk_at dksX1_busiest_2 16 rfl rfl)
theorem dX1_busiest_60 : decode cX1_busiest 60 = .ok (.iload 4, 2) := dk_21 4 (dk_at dksX1_busiest_2 18 rfl rfl)
theorem dX1_busiest_62 : decode cX1_busiest 62 = .ok (.if_icmp .eq 18, 3) := dk_159 0 18 (dk_at dksX1_busiest_2 20 rfl rfl)
theorem dX1_busiest_65 : decode cX1_busiest 65 = .ok (.aload_n 0, 1) := dk_42 (dk_at dksX1_busiest_2 23 rfl rfl)
theorem dX1_busiest_66 : decode cX1_busiest 66 = .ok (.iload 6, 2) := dk_21 6 (dk_at dksX1_busiest_3 0 rfl rfl)
theorem dX1_busiest_68 : decode cX1_busiest 68 = .ok (.iload 4, 2) := dk_21 4 (dk_at dksX1_busiest_3 2 rfl rfl)
theorem dX1_busiest_70 : decode cX1_busiest 70 = .ok (.invokevirtual 404, 3) := dk_182 1 148 (dk_at dksX1_busiest_3 4 rfl rfl)
theorem dX1_busiest_73 : decode cX1_busiest 73 = .ok (.ifCond .eq 7, 3) := dk_153 0 7 (dk_at dksX1_busiest_3 7 rfl rfl)
theorem dX1_busiest_76 : decode cX1_busiest 76 = .ok (.iconst 1, 1) := dk_4 (dk_at dksX1_busiest_3 10 rfl rfl)
theorem dX1_busiest_77 : decode cX1_busiest 77 = .ok (.goto 4, 3) := dk_167 0 4 (dk_at dksX1_busiest_3 11 rfl rfl)
theorem dX1_busiest_80 : decode cX1_busiest 80 = .ok (.iconst 0, 1) := dk_3 (dk_at dksX1_busiest_3 14 rfl rfl)
theorem dX1_busiest_81 : decode cX1_busiest 81 = .ok (.iadd, 1) := dk_96 (dk_at dksX1_busiest_3 15 rfl rfl)
theorem dX1_busiest_82 : decode cX1_busiest 82 = .ok (.istore 5, 2) := dk_54 5 (dk_at dksX1_busiest_3 16 rfl rfl)
theorem dX1_busiest_84 : decode cX1_busiest 84 = .ok (.iinc 6 1, 3) := dk_132 6 1 (dk_at dksX1_busiest_3 18 rfl rfl)
theorem dX1_busiest_87 : decode cX1_busiest 87 = .ok (.goto (-48), 3) := dk_167 255 208 (dk_at dksX1_busiest_3 21 rfl rfl)
theorem dX1_busiest_90 : decode cX1_busiest 90 = .ok (.iload 5, 2) := dk_21 5 (dk_at dksX1_busiest_4 0 rfl rfl)
theorem dX1_busiest_92 : decode cX1_busiest 92 = .ok (.iload_n 1, 1) := dk_27 (dk_at dksX1_busiest_4 2 rfl rfl)
theorem dX1_busiest_93 : decode cX1_busiest 93 = .ok (.if_icmp .ne 6, 3) := dk_160 0 6 (dk_at dksX1_busiest_4 3 rfl rfl)
theorem dX1_busiest_96 : decode cX1_busiest 96 = .ok (.iload 4, 2) := dk_21 4 (dk_at dksX1_busiest_4 6 rfl rfl)
theorem dX1_busiest_98 : decode cX1_busiest 98 = .ok (.istore_n 3, 1) := dk_62 (dk_at dksX1_busiest_4 8 rfl rfl)
theorem dX1_busiest_99 : decode cX1_busiest 99 = .ok (.iinc 4 1, 3) := dk_132 4 1 (dk_at dksX1_busiest_4 9 rfl rfl)
theorem dX1_busiest_102 : decode cX1_busiest 102 = .ok (.goto (-91), 3) := dk_167 255 165 (dk_at dksX1_busiest_4 12 rfl rfl)
theorem dX1_busiest_105 : decode cX1_busiest 105 = .ok (.iload_n 3, 1) := dk_29 (dk_at dksX1_busiest_4 15 rfl rfl)
theorem dX1_busiest_106 : decode cX1_busiest 106 = .ok (.ireturn, 1) := dk_172 (dk_at dksX1_busiest_4 16 rfl rfl)
abbrev cX1_isBusier : ByteArray := prog_1_method_57_code
def yX1_isBusier : MethodName := ⟨RX1, "isBusier", "(II)Z"⟩
def dkwX1_isBusier_5 : List UInt8 := [4, 167, 0, 4, 3, 172]
abbrev dktX1_isBusier_5 : List UInt8 := dkwX1_isBusier_5 ++ []
def dkwX1_isBusier_4 : List UInt8 := [180, 0, 156, 28, 50, 180, 0, 3, 164, 0, 7, 4, 167, 0, 17, 3, 167, 0, 13, 27, 28, 162, 0, 7]
abbrev dktX1_isBusier_4 : List UInt8 := dkwX1_isBusier_4 ++ dktX1_isBusier_5
def dkwX1_isBusier_3 : List UInt8 := [180, 0, 3, 159, 0, 38, 42, 180, 1, 112, 180, 0, 156, 27, 50, 180, 0, 3, 42, 180, 1, 112]
abbrev dktX1_isBusier_3 : List UInt8 := dkwX1_isBusier_3 ++ dktX1_isBusier_4
def dkwX1_isBusier_2 : List UInt8 := [172, 42, 180, 1, 112, 180, 0, 156, 27, 50, 180, 0, 3, 42, 180, 1, 112, 180, 0, 156, 28, 50]
abbrev dktX1_isBusier_2 : List UInt8 := dkwX1_isBusier_2 ++ dktX1_isBusier_3
def dkwX1_isBusier_1 : List UInt8 := [28, 50, 182, 1, 30, 54, 4, 29, 21, 4, 159, 0, 15, 29, 21, 4, 164, 0, 7, 4, 167, 0, 4, 3]
abbrev dktX1_isBusier_1 : List UInt8 := dkwX1_isBusier_1 ++ dktX1_isBusier_2
def dkwX1_isBusier_0 : List UInt8 := [42, 27, 42, 180, 1, 112, 180, 0, 156, 27, 50, 182, 1, 30, 62, 42, 28, 42, 180, 1, 112, 180, 0, 156]
abbrev dktX1_isBusier_0 : List UInt8 := dkwX1_isBusier_0 ++ dktX1_isBusier_1
theorem dksX1_isBusier_0 : cX1_isBusier.data.toList.drop 0 = dktX1_isBusier_0 := by decide +kernel
theorem dksX1_isBusier_1 : cX1_isBusier.data.toList.drop 24 = dktX1_isBusier_1 := dk_seg dksX1_isBusier_0 24 rfl rfl
theorem dksX1_isBusier_2 : cX1_isBusier.data.toList.drop 48 = dktX1_isBusier_2 := dk_seg dksX1_isBusier_1 24 rfl rfl
theorem dksX1_isBusier_3 : cX1_isBusier.data.toList.drop 70 = dktX1_isBusier_3 := dk_seg dksX1_isBusier_2 22 rfl rfl
theorem dksX1_isBusier_4 : cX1_isBusier.data.toList.drop 92 = dktX1_isBusier_4 := dk_seg dksX1_isBusier_3 22 rfl rfl
theorem dksX1_isBusier_5 : cX1_isBusier.data.toList.drop 116 = dktX1_isBusier_5 := dk_seg dksX1_isBusier_4 24 rfl rfl
theorem dX1_isBusier_0 : decode cX1_isBusier 0 = .ok (.aload_n 0, 1) := dk_42 (dk_at dksX1_isBusier_0 0 rfl rfl)
theorem dX1_isBusier_1 : decode cX1_isBusier 1 = .ok (.iload_n 1, 1) := dk_27 (dk_at dksX1_isBusier_0 1 rfl rfl)
theorem dX1_isBusier_2 : decode cX1_isBusier 2 = .ok (.aload_n 0, 1) := dk_42 (dk_at dksX1_isBusier_0 2 rfl rfl)
theorem dX1_isBusier_3 : decode cX1_isBusier 3 = .ok (.getfield 368, 3) := dk_180 1 112 (dk_at dksX1_isBusier_0 3 rfl rfl)
theorem dX1_isBusier_6 : decode cX1_isBusier 6 = .ok (.getfield 156, 3) := dk_180 0 156 (dk_at dksX1_isBusier_0 6 rfl rfl)
theorem dX1_isBusier_9 : decode cX1_isBusier 9 = .ok (.iload_n 1, 1) := dk_27 (dk_at dksX1_isBusier_0 9 rfl rfl)
theorem dX1_isBusier_10 : decode cX1_isBusier 10 = .ok (.aaload, 1) := dk_50 (dk_at dksX1_isBusier_0 10 rfl rfl)
theorem dX1_isBusier_11 : decode cX1_isBusier 11 = .ok (.invokevirtual 286, 3) := dk_182 1 30 (dk_at dksX1_isBusier_0 11 rfl rfl)
theorem dX1_isBusier_14 : decode cX1_isBusier 14 = .ok (.istore_n 3, 1) := dk_62 (dk_at dksX1_isBusier_0 14 rfl rfl)
theorem dX1_isBusier_15 : decode cX1_isBusier 15 = .ok (.aload_n 0, 1) := dk_42 (dk_at dksX1_isBusier_0 15 rfl rfl)
theorem dX1_isBusier_16 : decode cX1_isBusier 16 = .ok (.iload_n 2, 1) := dk_28 (dk_at dksX1_isBusier_0 16 rfl rfl)
theorem dX1_isBusier_17 : decode cX1_isBusier 17 = .ok (.aload_n 0, 1) := dk_42 (dk_at dksX1_isBusier_0 17 rfl rfl)
theorem dX1_isBusier_18 : decode cX1_isBusier 18 = .ok (.getfield 368, 3) := dk_180 1 112 (dk_at dksX1_isBusier_0 18 rfl rfl)
theorem dX1_isBusier_21 : decode cX1_isBusier 21 = .ok (.getfield 156, 3) := dk_180 0 156 (dk_at dksX1_isBusier_0 21 rfl rfl)
theorem dX1_isBusier_24 : decode cX1_isBusier 24 = .ok (.iload_n 2, 1) := dk_28 (dk_at dksX1_isBusier_1 0 rfl rfl)
theorem dX1_isBusier_25 : decode cX1_isBusier 25 = .ok (.aaload, 1) := dk_50 (dk_at dksX1_isBusier_1 1 rfl rfl)
theorem dX1_isBusier_26 : decode cX1_isBusier 26 = .ok (.invokevirtual 286, 3) := dk_182 1 30 (dk_at dksX1_isBusier_1 2 rfl rfl)
theorem dX1_isBusier_29 : decode cX1_isBusier 29 = .ok (.istore 4, 2) := dk_54 4 (dk_at dksX1_isBusier_1 5 rfl rfl)
theorem dX1_isBusier_31 : decode cX1_isBusier 31 = .ok (.iload_n 3, 1) := dk_29 (dk_at dksX1_isBusier_1 7 rfl rfl)
theorem dX1_isBusier_32 : decode cX1_isBusier 32 = .ok (.iload 4, 2) := dk_21 4 (dk_at dksX1_isBusier_1 8 rfl rfl)
theorem dX1_isBusier_34 : decode cX1_isBusier 34 = .ok (.if_icmp .eq 15, 3) := dk_159 0 15 (dk_at dksX1_isBusier_1 10 rfl rfl)
theorem dX1_isBusier_37 : decode cX1_isBusier 37 = .ok (.iload_n 3, 1) := dk_29 (dk_at dksX1_isBusier_1 13 rfl rfl)
theorem dX1_isBusier_38 : decode cX1_isBusier 38 = .ok (.iload 4, 2) := dk_21 4 (dk_at dksX1_isBusier_1 14 rfl rfl)
theorem dX1_isBusier_40 : decode cX1_isBusier 40 = .ok (.if_icmp .le 7, 3) := dk_164 0 7 (dk_at dksX1_isBusier_1 16 rfl rfl)
theorem dX1_isBusier_43 : decode cX1_isBusier 43 = .ok (.iconst 1, 1) := dk_4 (dk_at dksX1_isBusier_1 19 rfl rfl)
theorem dX1_isBusier_44 : decode cX1_isBusier 44 = .ok (.goto 4, 3) := dk_167 0 4 (dk_at dksX1_isBusier_1 20 rfl rfl)
theorem dX1_isBusier_47 : decode cX1_isBusier 47 = .ok (.iconst 0, 1) := dk_3 (dk_at dksX1_isBusier_1 23 rfl rfl)
theorem dX1_isBusier_48 : decode cX1_isBusier 48 = .ok (.ireturn, 1) := dk_172 (dk_at dksX1_isBusier_2 0 rfl rfl)
theorem dX1_isBusier_49 : decode cX1_isBusier 49 = .ok (.aload_n 0, 1) := dk_42 (dk_at dksX1_isBusier_2 1 rfl rfl)
theorem dX1_isBusier_50 : decode cX1_isBusier 50 = .ok (.getfield 368, 3) := dk_180 1 112 (dk_at dksX1_isBusier_2 2 rfl rfl)
theorem dX1_isBusier_53 : decode cX1_isBusier 53 = .ok (.getfield 156, 3) := dk_180 0 156 (dk_at dksX1_isBusier_2 5 rfl rfl)
theorem dX1_isBusier_56 : decode cX1_isBusier 56 = .ok (.iload_n 1, 1) := dk_27 (dk_at dksX1_isBusier_2 8 rfl rfl)
theorem dX1_isBusier_57 : decode cX1_isBusier 57 = .ok (.aaload, 1) := dk_50 (dk_at dksX1_isBusier_2 9 rfl rfl)
theorem dX1_isBusier_58 : decode cX1_isBusier 58 = .ok (.getfield 3, 3) := dk_180 0 3 (dk_at dksX1_isBusier_2 10 rfl rfl)
theorem dX1_isBusier_61 : decode cX1_isBusier 61 = .ok (.aload_n 0, 1) := dk_42 (dk_at dksX1_isBusier_2 13 rfl rfl)
theorem dX1_isBusier_62 : decode cX1_isBusier 62 = .ok (.getfield 368, 3) := dk_180 1 112 (dk_at dksX1_isBusier_2 14 rfl rfl)
theorem dX1_isBusier_65 : decode cX1_isBusier 65 = .ok (.getfield 156, 3) := dk_180 0 156 (dk_at dksX1_isBusier_2 17 rfl rfl)
theorem dX1_isBusier_68 : decode cX1_isBusier 68 = .ok (.iload_n 2, 1) := dk_28 (dk_at dksX1_isBusier_2 20 rfl rfl)
theorem dX1_isBusier_69 : decode cX1_isBusier 69 = .ok (.aaload, 1) := dk_50 (dk_at dksX1_isBusier_2 21 rfl rfl)
theorem dX1_isBusier_70 : decode cX1_isBusier 70 = .ok (.getfield 3, 3) := dk_180 0 3 (dk_at dksX1_isBusier_3 0 rfl rfl)
theorem dX1_isBusier_73 : decode cX1_isBusier 73 = .ok (.if_icmp .eq 38, 3) := dk_159 0 38 (dk_at dksX1_isBusier_3 3 rfl rfl)
theorem dX1_isBusier_76 : decode cX1_isBusier 76 = .ok (.aload_n 0, 1) := dk_42 (dk_at dksX1_isBusier_3 6 rfl rfl)
theorem dX1_isBusier_77 : decode cX1_isBusier 77 = .ok (.getfield 368, 3) := dk_180 1 112 (dk_at dksX1_isBusier_3 7 rfl rfl)
theorem dX1_isBusier_80 : decode cX1_isBusier 80 = .ok (.getfield 156, 3) := dk_180 0 156 (dk_at dksX1_isBusier_3 10 rfl rfl)
theorem dX1_isBusier_83 : decode cX1_isBusier 83 = .ok (.iload_n 1, 1) := dk_27 (dk_at dksX1_isBusier_3 13 rfl rfl)
theorem dX1_isBusier_84 : decode cX1_isBusier 84 = .ok (.aaload, 1) := dk_50 (dk_at dksX1_isBusier_3 14 rfl rfl)
theorem dX1_isBusier_85 : decode cX1_isBusier 85 = .ok (.getfield 3, 3) := dk_180 0 3 (dk_at dksX1_isBusier_3 15 rfl rfl)
theorem dX1_isBusier_88 : decode cX1_isBusier 88 = .ok (.aload_n 0, 1) := dk_42 (dk_at dksX1_isBusier_3 18 rfl rfl)
theorem dX1_isBusier_89 : decode cX1_isBusier 89 = .ok (.getfield 368, 3) := dk_180 1 112 (dk_at dksX1_isBusier_3 19 rfl rfl)
theorem dX1_isBusier_92 : decode cX1_isBusier 92 = .ok (.getfield 156, 3) := dk_180 0 156 (dk_at dksX1_isBusier_4 0 rfl rfl)
theorem dX1_isBusier_95 : decode cX1_isBusier 95 = .ok (.iload_n 2, 1) := dk_28 (dk_at dksX1_isBusier_4 3 rfl rfl)
theorem dX1_isBusier_96 : decode cX1_isBusier 96 = .ok (.aaload, 1) := dk_50 (dk_at dksX1_isBusier_4 4 rfl rfl)
theorem dX1_isBusier_97 : decode cX1_isBusier 97 = .ok (.getfield 3, 3) := dk_180 0 3 (dk_at dksX1_isBusier_4 5 rfl rfl)
theorem dX1_isBusier_100 : decode cX1_isBusier 100 = .ok (.if_icmp .le 7, 3) := dk_164 0 7 (dk_at dksX1_isBusier_4 8 rfl rfl)
theorem dX1_isBusier_103 : decode cX1_isBusier 103 = .ok (.iconst 1, 1) := dk_4 (dk_at dksX1_isBusier_4 11 rfl rfl)
theorem dX1_isBusier_104 : decode cX1_isBusier 104 = .ok (.goto 17, 3) := dk_167 0 17 (dk_at dksX1_isBusier_4 12 rfl rfl)
theorem dX1_isBusier_107 : decode cX1_isBusier 107 = .ok (.iconst 0, 1) := dk_3 (dk_at dksX1_isBusier_4 15 rfl rfl)
theorem dX1_isBusier_108 : decode cX1_isBusier 108 = .ok (.goto 13, 3) := dk_167 0 13 (dk_at dksX1_isBusier_4 16 rfl rfl)
theorem dX1_isBusier_111 : decode cX1_isBusier 111 = .ok (.iload_n 1, 1) := dk_27 (dk_at dksX1_isBusier_4 19 rfl rfl)
theorem dX1_isBusier_112 : decode cX1_isBusier 112 = .ok (.iload_n 2, 1) := dk_28 (dk_at dksX1_isBusier_4 20 rfl rfl)
theorem dX1_isBusier_113 : decode cX1_isBusier 113 = .ok (.if_icmp .ge 7, 3) := dk_162 0 7 (dk_at dksX1_isBusier_4 21 rfl rfl)
theorem dX1_isBusier_116 : decode cX1_isBusier 116 = .ok (.iconst 1, 1) := dk_4 (dk_at dksX1_isBusier_5 0 rfl rfl)
theorem dX1_isBusier_117 : decode cX1_isBusier 117 = .ok (.goto 4, 3) := dk_167 0 4 (dk_at dksX1_isBusier_5 1 rfl rfl)
theorem dX1_isBusier_120 : decode cX1_isBusier 120 = .ok (.iconst 0, 1) := dk_3 (dk_at dksX1_isBusier_5 4 rfl rfl)
theorem dX1_isBusier_121 : decode cX1_isBusier 121 = .ok (.ireturn, 1) := dk_172 (dk_at dksX1_isBusier_5 5 rfl rfl)
abbrev cX1_stateOf : ByteArray := prog_1_method_60_code
def yX1_stateOf : MethodName := ⟨RX1, "stateOf", "(I)I"⟩
def dkwX1_stateOf_0 : List UInt8 := [42, 27, 182, 1, 152, 180, 0, 232, 27, 46, 172]
abbrev dktX1_stateOf_0 : List UInt8 := dkwX1_stateOf_0 ++ []
theorem dksX1_stateOf_0 : cX1_stateOf.data.toList.drop 0 = dktX1_stateOf_0 := by decide +kernel
theorem dX1_stateOf_0 : decode cX1_stateOf 0 = .ok (.aload_n 0, 1) := dk_42 (dk_at dksX1_stateOf_0 0 rfl rfl)
theorem dX1_stateOf_1 : decode cX1_stateOf 1 = .ok (.iload_n 1, 1) := dk_27 (dk_at dksX1_stateOf_0 1 rfl rfl)
theorem dX1_stateOf_2 : decode cX1_stateOf 2 = .ok (.invokevirtual 408, 3) := dk_182 1 152 (dk_at dksX1_stateOf_0 2 rfl rfl)
theorem dX1_stateOf_5 : decode cX1_stateOf 5 = .ok (.getfield 232, 3) := dk_180 0 232 (dk_at dksX1_stateOf_0 5 rfl rfl)
theorem dX1_stateOf_8 : decode cX1_stateOf 8 = .ok (.iload_n 1, 1) := dk_27 (dk_at dksX1_stateOf_0 8 rfl rfl)
theorem dX1_stateOf_9 : decode cX1_stateOf 9 = .ok (.iaload, 1) := dk_46 (dk_at dksX1_stateOf_0 9 rfl rfl)
theorem dX1_stateOf_10 : decode cX1_stateOf 10 = .ok (.ireturn, 1) := dk_172 (dk_at dksX1_stateOf_0 10 rfl rfl)
abbrev cX1_stateOfCall : ByteArray := prog_1_method_39_code
def yX1_stateOfCall : MethodName := ⟨RX1, "stateOfCall", "(I)LRideDesk$State;"⟩
def dkwX1_stateOfCall_0 : List UInt8 := [42, 182, 1, 119, 77, 27, 3, 44, 180, 0, 235, 4, 100, 184, 1, 66, 184, 1, 70, 44, 176]
abbrev dktX1_stateOfCall_0 : List UInt8 := dkwX1_stateOfCall_0 ++ []
theorem dksX1_stateOfCall_0 : cX1_stateOfCall.data.toList.drop 0 = dktX1_stateOfCall_0 := by decide +kernel
theorem dX1_stateOfCall_0 : decode cX1_stateOfCall 0 = .ok (.aload_n 0, 1) := dk_42 (dk_at dksX1_stateOfCall_0 0 rfl rfl)
theorem dX1_stateOfCall_1 : decode cX1_stateOfCall 1 = .ok (.invokevirtual 375, 3) := dk_182 1 119 (dk_at dksX1_stateOfCall_0 1 rfl rfl)
theorem dX1_stateOfCall_4 : decode cX1_stateOfCall 4 = .ok (.astore_n 2, 1) := dk_77 (dk_at dksX1_stateOfCall_0 4 rfl rfl)
theorem dX1_stateOfCall_5 : decode cX1_stateOfCall 5 = .ok (.iload_n 1, 1) := dk_27 (dk_at dksX1_stateOfCall_0 5 rfl rfl)
theorem dX1_stateOfCall_6 : decode cX1_stateOfCall 6 = .ok (.iconst 0, 1) := dk_3 (dk_at dksX1_stateOfCall_0 6 rfl rfl)
theorem dX1_stateOfCall_7 : decode cX1_stateOfCall 7 = .ok (.aload_n 2, 1) := dk_44 (dk_at dksX1_stateOfCall_0 7 rfl rfl)
theorem dX1_stateOfCall_8 : decode cX1_stateOfCall 8 = .ok (.getfield 235, 3) := dk_180 0 235 (dk_at dksX1_stateOfCall_0 8 rfl rfl)
theorem dX1_stateOfCall_11 : decode cX1_stateOfCall 11 = .ok (.iconst 1, 1) := dk_4 (dk_at dksX1_stateOfCall_0 11 rfl rfl)
theorem dX1_stateOfCall_12 : decode cX1_stateOfCall 12 = .ok (.isub, 1) := dk_100 (dk_at dksX1_stateOfCall_0 12 rfl rfl)
theorem dX1_stateOfCall_13 : decode cX1_stateOfCall 13 = .ok (.invokestatic 322, 3) := dk_184 1 66 (dk_at dksX1_stateOfCall_0 13 rfl rfl)
theorem dX1_stateOfCall_16 : decode cX1_stateOfCall 16 = .ok (.invokestatic 326, 3) := dk_184 1 70 (dk_at dksX1_stateOfCall_0 16 rfl rfl)
theorem dX1_stateOfCall_19 : decode cX1_stateOfCall 19 = .ok (.aload_n 2, 1) := dk_44 (dk_at dksX1_stateOfCall_0 19 rfl rfl)
theorem dX1_stateOfCall_20 : decode cX1_stateOfCall 20 = .ok (.areturn, 1) := dk_176 (dk_at dksX1_stateOfCall_0 20 rfl rfl)
abbrev cX1_vanOf : ByteArray := prog_1_method_61_code
def yX1_vanOf : MethodName := ⟨RX1, "vanOf", "(I)I"⟩
def dkwX1_vanOf_0 : List UInt8 := [42, 42, 27, 182, 1, 152, 27, 182, 1, 24, 172]
abbrev dktX1_vanOf_0 : List UInt8 := dkwX1_vanOf_0 ++ []
theorem dksX1_vanOf_0 : cX1_vanOf.data.toList.drop 0 = dktX1_vanOf_0 := by decide +kernel
theorem dX1_vanOf_0 : decode cX1_vanOf 0 = .ok (.aload_n 0, 1) := dk_42 (dk_at dksX1_vanOf_0 0 rfl rfl)
theorem dX1_vanOf_1 : decode cX1_vanOf 1 = .ok (.aload_n 0, 1) := dk_42 (dk_at dksX1_vanOf_0 1 rfl rfl)
theorem dX1_vanOf_2 : decode cX1_vanOf 2 = .ok (.iload_n 1, 1) := dk_27 (dk_at dksX1_vanOf_0 2 rfl rfl)
theorem dX1_vanOf_3 : decode cX1_vanOf 3 = .ok (.invokevirtual 408, 3) := dk_182 1 152 (dk_at dksX1_vanOf_0 3 rfl rfl)
theorem dX1_vanOf_6 : decode cX1_vanOf 6 = .ok (.iload_n 1, 1) := dk_27 (dk_at dksX1_vanOf_0 6 rfl rfl)
theorem dX1_vanOf_7 : decode cX1_vanOf 7 = .ok (.invokevirtual 280, 3) := dk_182 1 24 (dk_at dksX1_vanOf_0 7 rfl rfl)
theorem dX1_vanOf_10 : decode cX1_vanOf 10 = .ok (.ireturn, 1) := dk_172 (dk_at dksX1_vanOf_0 10 rfl rfl)
abbrev cX1_vanOf_2 : ByteArray := prog_1_method_21_code
def yX1_vanOf_2 : MethodName := ⟨RX1, "vanOf", "(LRideDesk$State;I)I"⟩
def dkwX1_vanOf_2_1 : List UInt8 := [28, 4, 182, 0, 247, 2, 159, 0, 5, 29, 172, 132, 3, 1, 167, 255, 220, 2, 172]
abbrev dktX1_vanOf_2_1 : List UInt8 := dkwX1_vanOf_2_1 ++ []
def dkwX1_vanOf_2_0 : List UInt8 := [3, 62, 29, 42, 180, 0, 15, 180, 0, 19, 185, 0, 153, 1, 0, 162, 0, 26, 43, 180, 0, 156, 29, 50]
abbrev dktX1_vanOf_2_0 : List UInt8 := dkwX1_vanOf_2_0 ++ dktX1_vanOf_2_1
theorem dksX1_vanOf_2_0 : cX1_vanOf_2.data.toList.drop 0 = dktX1_vanOf_2_0 := by decide +kernel
theorem dksX1_vanOf_2_1 : cX1_vanOf_2.data.toList.drop 24 = dktX1_vanOf_2_1 := dk_seg dksX1_vanOf_2_0 24 rfl rfl
theorem dX1_vanOf_2_0 : decode cX1_vanOf_2 0 = .ok (.iconst 0, 1) := dk_3 (dk_at dksX1_vanOf_2_0 0 rfl rfl)
theorem dX1_vanOf_2_1 : decode cX1_vanOf_2 1 = .ok (.istore_n 3, 1) := dk_62 (dk_at dksX1_vanOf_2_0 1 rfl rfl)
theorem dX1_vanOf_2_2 : decode cX1_vanOf_2 2 = .ok (.iload_n 3, 1) := dk_29 (dk_at dksX1_vanOf_2_0 2 rfl rfl)
theorem dX1_vanOf_2_3 : decode cX1_vanOf_2 3 = .ok (.aload_n 0, 1) := dk_42 (dk_at dksX1_vanOf_2_0 3 rfl rfl)
theorem dX1_vanOf_2_4 : decode cX1_vanOf_2 4 = .ok (.getfield 15, 3) := dk_180 0 15 (dk_at dksX1_vanOf_2_0 4 rfl rfl)
theorem dX1_vanOf_2_7 : decode cX1_vanOf_2 7 = .ok (.getfield 19, 3) := dk_180 0 19 (dk_at dksX1_vanOf_2_0 7 rfl rfl)
theorem dX1_vanOf_2_10 : decode cX1_vanOf_2 10 = .ok (.invokeinterface 153 1, 5) := by decide +kernel
theorem dX1_vanOf_2_15 : decode cX1_vanOf_2 15 = .ok (.if_icmp .ge 26, 3) := dk_162 0 26 (dk_at dksX1_vanOf_2_0 15 rfl rfl)
theorem dX1_vanOf_2_18 : decode cX1_vanOf_2 18 = .ok (.aload_n 1, 1) := dk_43 (dk_at dksX1_vanOf_2_0 18 rfl rfl)
theorem dX1_vanOf_2_19 : decode cX1_vanOf_2 19 = .ok (.getfield 156, 3) := dk_180 0 156 (dk_at dksX1_vanOf_2_0 19 rfl rfl)
theorem dX1_vanOf_2_22 : decode cX1_vanOf_2 22 = .ok (.iload_n 3, 1) := dk_29 (dk_at dksX1_vanOf_2_0 22 rfl rfl)
theorem dX1_vanOf_2_23 : decode cX1_vanOf_2 23 = .ok (.aaload, 1) := dk_50 (dk_at dksX1_vanOf_2_0 23 rfl rfl)
theorem dX1_vanOf_2_24 : decode cX1_vanOf_2 24 = .ok (.iload_n 2, 1) := dk_28 (dk_at dksX1_vanOf_2_1 0 rfl rfl)
theorem dX1_vanOf_2_25 : decode cX1_vanOf_2 25 = .ok (.iconst 1, 1) := dk_4 (dk_at dksX1_vanOf_2_1 1 rfl rfl)
theorem dX1_vanOf_2_26 : decode cX1_vanOf_2 26 = .ok (.invokevirtual 247, 3) := dk_182 0 247 (dk_at dksX1_vanOf_2_1 2 rfl rfl)
theorem dX1_vanOf_2_29 : decode cX1_vanOf_2 29 = .ok (.iconst (-1), 1) := dk_2 (dk_at dksX1_vanOf_2_1 5 rfl rfl)
theorem dX1_vanOf_2_30 : decode cX1_vanOf_2 30 = .ok (.if_icmp .eq 5, 3) := dk_159 0 5 (dk_at dksX1_vanOf_2_1 6 rfl rfl)
theorem dX1_vanOf_2_33 : decode cX1_vanOf_2 33 = .ok (.iload_n 3, 1) := dk_29 (dk_at dksX1_vanOf_2_1 9 rfl rfl)
theorem dX1_vanOf_2_34 : decode cX1_vanOf_2 34 = .ok (.ireturn, 1) := dk_172 (dk_at dksX1_vanOf_2_1 10 rfl rfl)
theorem dX1_vanOf_2_35 : decode cX1_vanOf_2 35 = .ok (.iinc 3 1, 3) := dk_132 3 1 (dk_at dksX1_vanOf_2_1 11 rfl rfl)
theorem dX1_vanOf_2_38 : decode cX1_vanOf_2 38 = .ok (.goto (-36), 3) := dk_167 255 220 (dk_at dksX1_vanOf_2_1 14 rfl rfl)
theorem dX1_vanOf_2_41 : decode cX1_vanOf_2 41 = .ok (.iconst (-1), 1) := dk_2 (dk_at dksX1_vanOf_2_1 17 rfl rfl)
theorem dX1_vanOf_2_42 : decode cX1_vanOf_2 42 = .ok (.ireturn, 1) := dk_172 (dk_at dksX1_vanOf_2_1 18 rfl rfl)
abbrev cX1_pickupTime : ByteArray := prog_1_method_63_code
def yX1_pickupTime : MethodName := ⟨RX1, "pickupTime", "(I)I"⟩
def dkwX1_pickupTime_0 : List UInt8 := [42, 42, 27, 182, 1, 152, 27, 4, 182, 1, 156, 172]
abbrev dktX1_pickupTime_0 : List UInt8 := dkwX1_pickupTime_0 ++ []
theorem dksX1_pickupTime_0 : cX1_pickupTime.data.toList.drop 0 = dktX1_pickupTime_0 := by decide +kernel
theorem dX1_pickupTime_0 : decode cX1_pickupTime 0 = .ok (.aload_n 0, 1) := dk_42 (dk_at dksX1_pickupTime_0 0 rfl rfl)
theorem dX1_pickupTime_1 : decode cX1_pickupTime 1 = .ok (.aload_n 0, 1) := dk_42 (dk_at dksX1_pickupTime_0 1 rfl rfl)
theorem dX1_pickupTime_2 : decode cX1_pickupTime 2 = .ok (.iload_n 1, 1) := dk_27 (dk_at dksX1_pickupTime_0 2 rfl rfl)
theorem dX1_pickupTime_3 : decode cX1_pickupTime 3 = .ok (.invokevirtual 408, 3) := dk_182 1 152 (dk_at dksX1_pickupTime_0 3 rfl rfl)
theorem dX1_pickupTime_6 : decode cX1_pickupTime 6 = .ok (.iload_n 1, 1) := dk_27 (dk_at dksX1_pickupTime_0 6 rfl rfl)
theorem dX1_pickupTime_7 : decode cX1_pickupTime 7 = .ok (.iconst 1, 1) := dk_4 (dk_at dksX1_pickupTime_0 7 rfl rfl)
theorem dX1_pickupTime_8 : decode cX1_pickupTime 8 = .ok (.invokevirtual 412, 3) := dk_182 1 156 (dk_at dksX1_pickupTime_0 8 rfl rfl)
theorem dX1_pickupTime_11 : decode cX1_pickupTime 11 = .ok (.ireturn, 1) := dk_172 (dk_at dksX1_pickupTime_0 11 rfl rfl)
abbrev cX1_beginBy : ByteArray := prog_1_method_62_code
def yX1_beginBy : MethodName := ⟨RX1, "beginBy", "(LRideDesk$State;IZ)I"⟩
def dkwX1_beginBy_1 : List UInt8 := [50, 180, 0, 51, 43, 180, 0, 156, 21, 4, 50, 28, 29, 182, 0, 247, 46, 172]
abbrev dktX1_beginBy_1 : List UInt8 := dkwX1_beginBy_1 ++ []
def dkwX1_beginBy_0 : List UInt8 := [42, 43, 28, 182, 1, 24, 54, 4, 21, 4, 2, 160, 0, 7, 2, 167, 0, 26, 43, 180, 0, 156, 21, 4]
abbrev dktX1_beginBy_0 : List UInt8 := dkwX1_beginBy_0 ++ dktX1_beginBy_1
theorem dksX1_beginBy_0 : cX1_beginBy.data.toList.drop 0 = dktX1_beginBy_0 := by decide +kernel
theorem dksX1_beginBy_1 : cX1_beginBy.data.toList.drop 24 = dktX1_beginBy_1 := dk_seg dksX1_beginBy_0 24 rfl rfl
theorem dX1_beginBy_0 : decode cX1_beginBy 0 = .ok (.aload_n 0, 1) := dk_42 (dk_at dksX1_beginBy_0 0 rfl rfl)
theorem dX1_beginBy_1 : decode cX1_beginBy 1 = .ok (.aload_n 1, 1) := dk_43 (dk_at dksX1_beginBy_0 1 rfl rfl)
theorem dX1_beginBy_2 : decode cX1_beginBy 2 = .ok (.iload_n 2, 1) := dk_28 (dk_at dksX1_beginBy_0 2 rfl rfl)
theorem dX1_beginBy_3 : decode cX1_beginBy 3 = .ok (.invokevirtual 280, 3) := dk_182 1 24 (dk_at dksX1_beginBy_0 3 rfl rfl)
theorem dX1_beginBy_6 : decode cX1_beginBy 6 = .ok (.istore 4, 2) := dk_54 4 (dk_at dksX1_beginBy_0 6 rfl rfl)
theorem dX1_beginBy_8 : decode cX1_beginBy 8 = .ok (.iload 4, 2) := dk_21 4 (dk_at dksX1_beginBy_0 8 rfl rfl)
theorem dX1_beginBy_10 : decode cX1_beginBy 10 = .ok (.iconst (-1), 1) := dk_2 (dk_at dksX1_beginBy_0 10 rfl rfl)
theorem dX1_beginBy_11 : decode cX1_beginBy 11 = .ok (.if_icmp .ne 7, 3) := dk_160 0 7 (dk_at dksX1_beginBy_0 11 rfl rfl)
theorem dX1_beginBy_14 : decode cX1_beginBy 14 = .ok (.iconst (-1), 1) := dk_2 (dk_at dksX1_beginBy_0 14 rfl rfl)
theorem dX1_beginBy_15 : decode cX1_beginBy 15 = .ok (.goto 26, 3) := dk_167 0 26 (dk_at dksX1_beginBy_0 15 rfl rfl)
theorem dX1_beginBy_18 : decode cX1_beginBy 18 = .ok (.aload_n 1, 1) := dk_43 (dk_at dksX1_beginBy_0 18 rfl rfl)
theorem dX1_beginBy_19 : decode cX1_beginBy 19 = .ok (.getfield 156, 3) := dk_180 0 156 (dk_at dksX1_beginBy_0 19 rfl rfl)
theorem dX1_beginBy_22 : decode cX1_beginBy 22 = .ok (.iload 4, 2) := dk_21 4 (dk_at dksX1_beginBy_0 22 rfl rfl)
theorem dX1_beginBy_24 : decode cX1_beginBy 24 = .ok (.aaload, 1) := dk_50 (dk_at dksX1_beginBy_1 0 rfl rfl)
theorem dX1_beginBy_25 : decode cX1_beginBy 25 = .ok (.getfield 51, 3) := dk_180 0 51 (dk_at dksX1_beginBy_1 1 rfl rfl)
theorem dX1_beginBy_28 : decode cX1_beginBy 28 = .ok (.aload_n 1, 1) := dk_43 (dk_at dksX1_beginBy_1 4 rfl rfl)
theorem dX1_beginBy_29 : decode cX1_beginBy 29 = .ok (.getfield 156, 3) := dk_180 0 156 (dk_at dksX1_beginBy_1 5 rfl rfl)
theorem dX1_beginBy_32 : decode cX1_beginBy 32 = .ok (.iload 4, 2) := dk_21 4 (dk_at dksX1_beginBy_1 8 rfl rfl)
theorem dX1_beginBy_34 : decode cX1_beginBy 34 = .ok (.aaload, 1) := dk_50 (dk_at dksX1_beginBy_1 10 rfl rfl)
theorem dX1_beginBy_35 : decode cX1_beginBy 35 = .ok (.iload_n 2, 1) := dk_28 (dk_at dksX1_beginBy_1 11 rfl rfl)
theorem dX1_beginBy_36 : decode cX1_beginBy 36 = .ok (.iload_n 3, 1) := dk_29 (dk_at dksX1_beginBy_1 12 rfl rfl)
theorem dX1_beginBy_37 : decode cX1_beginBy 37 = .ok (.invokevirtual 247, 3) := dk_182 0 247 (dk_at dksX1_beginBy_1 13 rfl rfl)
theorem dX1_beginBy_40 : decode cX1_beginBy 40 = .ok (.iaload, 1) := dk_46 (dk_at dksX1_beginBy_1 16 rfl rfl)
theorem dX1_beginBy_41 : decode cX1_beginBy 41 = .ok (.ireturn, 1) := dk_172 (dk_at dksX1_beginBy_1 17 rfl rfl)
abbrev cX1_dropTime : ByteArray := prog_1_method_64_code
def yX1_dropTime : MethodName := ⟨RX1, "dropTime", "(I)I"⟩
def dkwX1_dropTime_0 : List UInt8 := [42, 42, 27, 182, 1, 152, 27, 3, 182, 1, 156, 172]
abbrev dktX1_dropTime_0 : List UInt8 := dkwX1_dropTime_0 ++ []
theorem dksX1_dropTime_0 : cX1_dropTime.data.toList.drop 0 = dktX1_dropTime_0 := by decide +kernel
theorem dX1_dropTime_0 : decode cX1_dropTime 0 = .ok (.aload_n 0, 1) := dk_42 (dk_at dksX1_dropTime_0 0 rfl rfl)
theorem dX1_dropTime_1 : decode cX1_dropTime 1 = .ok (.aload_n 0, 1) := dk_42 (dk_at dksX1_dropTime_0 1 rfl rfl)
theorem dX1_dropTime_2 : decode cX1_dropTime 2 = .ok (.iload_n 1, 1) := dk_27 (dk_at dksX1_dropTime_0 2 rfl rfl)
theorem dX1_dropTime_3 : decode cX1_dropTime 3 = .ok (.invokevirtual 408, 3) := dk_182 1 152 (dk_at dksX1_dropTime_0 3 rfl rfl)
theorem dX1_dropTime_6 : decode cX1_dropTime 6 = .ok (.iload_n 1, 1) := dk_27 (dk_at dksX1_dropTime_0 6 rfl rfl)
theorem dX1_dropTime_7 : decode cX1_dropTime 7 = .ok (.iconst 0, 1) := dk_3 (dk_at dksX1_dropTime_0 7 rfl rfl)
theorem dX1_dropTime_8 : decode cX1_dropTime 8 = .ok (.invokevirtual 412, 3) := dk_182 1 156 (dk_at dksX1_dropTime_0 8 rfl rfl)
theorem dX1_dropTime_11 : decode cX1_dropTime 11 = .ok (.ireturn, 1) := dk_172 (dk_at dksX1_dropTime_0 11 rfl rfl)
abbrev cX1_rideOf : ByteArray := prog_1_method_66_code
def yX1_rideOf : MethodName := ⟨RX1, "rideOf", "(I)I"⟩
def dkwX1_rideOf_0 : List UInt8 := [42, 42, 27, 182, 1, 152, 27, 182, 1, 160, 172]
abbrev dktX1_rideOf_0 : List UInt8 := dkwX1_rideOf_0 ++ []
theorem dksX1_rideOf_0 : cX1_rideOf.data.toList.drop 0 = dktX1_rideOf_0 := by decide +kernel
theorem dX1_rideOf_0 : decode cX1_rideOf 0 = .ok (.aload_n 0, 1) := dk_42 (dk_at dksX1_rideOf_0 0 rfl rfl)
theorem dX1_rideOf_1 : decode cX1_rideOf 1 = .ok (.aload_n 0, 1) := dk_42 (dk_at dksX1_rideOf_0 1 rfl rfl)
theorem dX1_rideOf_2 : decode cX1_rideOf 2 = .ok (.iload_n 1, 1) := dk_27 (dk_at dksX1_rideOf_0 2 rfl rfl)
theorem dX1_rideOf_3 : decode cX1_rideOf 3 = .ok (.invokevirtual 408, 3) := dk_182 1 152 (dk_at dksX1_rideOf_0 3 rfl rfl)
theorem dX1_rideOf_6 : decode cX1_rideOf 6 = .ok (.iload_n 1, 1) := dk_27 (dk_at dksX1_rideOf_0 6 rfl rfl)
theorem dX1_rideOf_7 : decode cX1_rideOf 7 = .ok (.invokevirtual 416, 3) := dk_182 1 160 (dk_at dksX1_rideOf_0 7 rfl rfl)
theorem dX1_rideOf_10 : decode cX1_rideOf 10 = .ok (.ireturn, 1) := dk_172 (dk_at dksX1_rideOf_0 10 rfl rfl)
abbrev cX1_ride : ByteArray := prog_1_method_65_code
def yX1_ride : MethodName := ⟨RX1, "ride", "(LRideDesk$State;I)I"⟩
def dkwX1_ride_1 : List UInt8 := [29, 100, 43, 180, 0, 55, 28, 50, 180, 0, 64, 100, 172]
abbrev dktX1_ride_1 : List UInt8 := dkwX1_ride_1 ++ []
def dkwX1_ride_0 : List UInt8 := [42, 43, 28, 4, 182, 1, 156, 62, 29, 2, 160, 0, 7, 2, 167, 0, 22, 42, 43, 28, 3, 182, 1, 156]
abbrev dktX1_ride_0 : List UInt8 := dkwX1_ride_0 ++ dktX1_ride_1
theorem dksX1_ride_0 : cX1_ride.data.toList.drop 0 = dktX1_ride_0 := by decide +kernel
theorem dksX1_ride_1 : cX1_ride.data.toList.drop 24 = dktX1_ride_1 := dk_seg dksX1_ride_0 24 rfl rfl
theorem dX1_ride_0 : decode cX1_ride 0 = .ok (.aload_n 0, 1) := dk_42 (dk_at dksX1_ride_0 0 rfl rfl)
theorem dX1_ride_1 : decode cX1_ride 1 = .ok (.aload_n 1, 1) := dk_43 (dk_at dksX1_ride_0 1 rfl rfl)
theorem dX1_ride_2 : decode cX1_ride 2 = .ok (.iload_n 2, 1) := dk_28 (dk_at dksX1_ride_0 2 rfl rfl)
theorem dX1_ride_3 : decode cX1_ride 3 = .ok (.iconst 1, 1) := dk_4 (dk_at dksX1_ride_0 3 rfl rfl)
theorem dX1_ride_4 : decode cX1_ride 4 = .ok (.invokevirtual 412, 3) := dk_182 1 156 (dk_at dksX1_ride_0 4 rfl rfl)
theorem dX1_ride_7 : decode cX1_ride 7 = .ok (.istore_n 3, 1) := dk_62 (dk_at dksX1_ride_0 7 rfl rfl)
theorem dX1_ride_8 : decode cX1_ride 8 = .ok (.iload_n 3, 1) := dk_29 (dk_at dksX1_ride_0 8 rfl rfl)
theorem dX1_ride_9 : decode cX1_ride 9 = .ok (.iconst (-1), 1) := dk_2 (dk_at dksX1_ride_0 9 rfl rfl)
theorem dX1_ride_10 : decode cX1_ride 10 = .ok (.if_icmp .ne 7, 3) := dk_160 0 7 (dk_at dksX1_ride_0 10 rfl rfl)
theorem dX1_ride_13 : decode cX1_ride 13 = .ok (.iconst (-1), 1) := dk_2 (dk_at dksX1_ride_0 13 rfl rfl)
theorem dX1_ride_14 : decode cX1_ride 14 = .ok (.goto 22, 3) := dk_167 0 22 (dk_at dksX1_ride_0 14 rfl rfl)
theorem dX1_ride_17 : decode cX1_ride 17 = .ok (.aload_n 0, 1) := dk_42 (dk_at dksX1_ride_0 17 rfl rfl)
theorem dX1_ride_18 : decode cX1_ride 18 = .ok (.aload_n 1, 1) := dk_43 (dk_at dksX1_ride_0 18 rfl rfl)
theorem dX1_ride_19 : decode cX1_ride 19 = .ok (.iload_n 2, 1) := dk_28 (dk_at dksX1_ride_0 19 rfl rfl)
theorem dX1_ride_20 : decode cX1_ride 20 = .ok (.iconst 0, 1) := dk_3 (dk_at dksX1_ride_0 20 rfl rfl)
theorem dX1_ride_21 : decode cX1_ride 21 = .ok (.invokevirtual 412, 3) := dk_182 1 156 (dk_at dksX1_ride_0 21 rfl rfl)
theorem dX1_ride_24 : decode cX1_ride 24 = .ok (.iload_n 3, 1) := dk_29 (dk_at dksX1_ride_1 0 rfl rfl)
theorem dX1_ride_25 : decode cX1_ride 25 = .ok (.isub, 1) := dk_100 (dk_at dksX1_ride_1 1 rfl rfl)
theorem dX1_ride_26 : decode cX1_ride 26 = .ok (.aload_n 1, 1) := dk_43 (dk_at dksX1_ride_1 2 rfl rfl)
theorem dX1_ride_27 : decode cX1_ride 27 = .ok (.getfield 55, 3) := dk_180 0 55 (dk_at dksX1_ride_1 3 rfl rfl)
theorem dX1_ride_30 : decode cX1_ride 30 = .ok (.iload_n 2, 1) := dk_28 (dk_at dksX1_ride_1 6 rfl rfl)
theorem dX1_ride_31 : decode cX1_ride 31 = .ok (.aaload, 1) := dk_50 (dk_at dksX1_ride_1 7 rfl rfl)
theorem dX1_ride_32 : decode cX1_ride 32 = .ok (.getfield 64, 3) := dk_180 0 64 (dk_at dksX1_ride_1 8 rfl rfl)
theorem dX1_ride_35 : decode cX1_ride 35 = .ok (.isub, 1) := dk_100 (dk_at dksX1_ride_1 11 rfl rfl)
theorem dX1_ride_36 : decode cX1_ride 36 = .ok (.ireturn, 1) := dk_172 (dk_at dksX1_ride_1 12 rfl rfl)
abbrev cX1_rideLimit : ByteArray := prog_1_method_67_code
def yX1_rideLimit : MethodName := ⟨RX1, "rideLimit", "(I)I"⟩
def dkwX1_rideLimit_0 : List UInt8 := [42, 27, 182, 1, 152, 180, 0, 55, 27, 50, 180, 0, 150, 172]
abbrev dktX1_rideLimit_0 : List UInt8 := dkwX1_rideLimit_0 ++ []
theorem dksX1_rideLimit_0 : cX1_rideLimit.data.toList.drop 0 = dktX1_rideLimit_0 := by decide +kernel
theorem dX1_rideLimit_0 : decode cX1_rideLimit 0 = .ok (.aload_n 0, 1) := dk_42 (dk_at dksX1_rideLimit_0 0 rfl rfl)
theorem dX1_rideLimit_1 : decode cX1_rideLimit 1 = .ok (.iload_n 1, 1) := dk_27 (dk_at dksX1_rideLimit_0 1 rfl rfl)
theorem dX1_rideLimit_2 : decode cX1_rideLimit 2 = .ok (.invokevirtual 408, 3) := dk_182 1 152 (dk_at dksX1_rideLimit_0 2 rfl rfl)
theorem dX1_rideLimit_5 : decode cX1_rideLimit 5 = .ok (.getfield 55, 3) := dk_180 0 55 (dk_at dksX1_rideLimit_0 5 rfl rfl)
theorem dX1_rideLimit_8 : decode cX1_rideLimit 8 = .ok (.iload_n 1, 1) := dk_27 (dk_at dksX1_rideLimit_0 8 rfl rfl)
theorem dX1_rideLimit_9 : decode cX1_rideLimit 9 = .ok (.aaload, 1) := dk_50 (dk_at dksX1_rideLimit_0 9 rfl rfl)
theorem dX1_rideLimit_10 : decode cX1_rideLimit 10 = .ok (.getfield 150, 3) := dk_180 0 150 (dk_at dksX1_rideLimit_0 10 rfl rfl)
theorem dX1_rideLimit_13 : decode cX1_rideLimit 13 = .ok (.ireturn, 1) := dk_172 (dk_at dksX1_rideLimit_0 13 rfl rfl)
abbrev cX1_readyOf : ByteArray := prog_1_method_68_code
def yX1_readyOf : MethodName := ⟨RX1, "readyOf", "(I)I"⟩
def dkwX1_readyOf_0 : List UInt8 := [42, 27, 182, 1, 152, 180, 0, 138, 27, 46, 172]
abbrev dktX1_readyOf_0 : List UInt8 := dkwX1_readyOf_0 ++ []
theorem dksX1_readyOf_0 : cX1_readyOf.data.toList.drop 0 = dktX1_readyOf_0 := by decide +kernel
theorem dX1_readyOf_0 : decode cX1_readyOf 0 = .ok (.aload_n 0, 1) := dk_42 (dk_at dksX1_readyOf_0 0 rfl rfl)
theorem dX1_readyOf_1 : decode cX1_readyOf 1 = .ok (.iload_n 1, 1) := dk_27 (dk_at dksX1_readyOf_0 1 rfl rfl)
theorem dX1_readyOf_2 : decode cX1_readyOf 2 = .ok (.invokevirtual 408, 3) := dk_182 1 152 (dk_at dksX1_readyOf_0 2 rfl rfl)
theorem dX1_readyOf_5 : decode cX1_readyOf 5 = .ok (.getfield 138, 3) := dk_180 0 138 (dk_at dksX1_readyOf_0 5 rfl rfl)
theorem dX1_readyOf_8 : decode cX1_readyOf 8 = .ok (.iload_n 1, 1) := dk_27 (dk_at dksX1_readyOf_0 8 rfl rfl)
theorem dX1_readyOf_9 : decode cX1_readyOf 9 = .ok (.iaload, 1) := dk_46 (dk_at dksX1_readyOf_0 9 rfl rfl)
theorem dX1_readyOf_10 : decode cX1_readyOf 10 = .ok (.ireturn, 1) := dk_172 (dk_at dksX1_readyOf_0 10 rfl rfl)
abbrev cX1_promiseOf : ByteArray := prog_1_method_69_code
def yX1_promiseOf : MethodName := ⟨RX1, "promiseOf", "(I)I"⟩
def dkwX1_promiseOf_0 : List UInt8 := [42, 27, 182, 1, 152, 180, 0, 238, 27, 46, 172]
abbrev dktX1_promiseOf_0 : List UInt8 := dkwX1_promiseOf_0 ++ []
theorem dksX1_promiseOf_0 : cX1_promiseOf.data.toList.drop 0 = dktX1_promiseOf_0 := by decide +kernel
theorem dX1_promiseOf_0 : decode cX1_promiseOf 0 = .ok (.aload_n 0, 1) := dk_42 (dk_at dksX1_promiseOf_0 0 rfl rfl)
theorem dX1_promiseOf_1 : decode cX1_promiseOf 1 = .ok (.iload_n 1, 1) := dk_27 (dk_at dksX1_promiseOf_0 1 rfl rfl)
theorem dX1_promiseOf_2 : decode cX1_promiseOf 2 = .ok (.invokevirtual 408, 3) := dk_182 1 152 (dk_at dksX1_promiseOf_0 2 rfl rfl)
theorem dX1_promiseOf_5 : decode cX1_promiseOf 5 = .ok (.getfield 238, 3) := dk_180 0 238 (dk_at dksX1_promiseOf_0 5 rfl rfl)
theorem dX1_promiseOf_8 : decode cX1_promiseOf 8 = .ok (.iload_n 1, 1) := dk_27 (dk_at dksX1_promiseOf_0 8 rfl rfl)
theorem dX1_promiseOf_9 : decode cX1_promiseOf 9 = .ok (.iaload, 1) := dk_46 (dk_at dksX1_promiseOf_0 9 rfl rfl)
theorem dX1_promiseOf_10 : decode cX1_promiseOf 10 = .ok (.ireturn, 1) := dk_172 (dk_at dksX1_promiseOf_0 10 rfl rfl)
abbrev cX1_creditOf : ByteArray := prog_1_method_70_code
def yX1_creditOf : MethodName := ⟨RX1, "creditOf", "(I)I"⟩
def dkwX1_creditOf_0 : List UInt8 := [42, 27, 182, 1, 152, 180, 0, 241, 27, 46, 172]
abbrev dktX1_creditOf_0 : List UInt8 := dkwX1_creditOf_0 ++ []
theorem dksX1_creditOf_0 : cX1_creditOf.data.toList.drop 0 = dktX1_creditOf_0 := by decide +kernel
theorem dX1_creditOf_0 : decode cX1_creditOf 0 = .ok (.aload_n 0, 1) := dk_42 (dk_at dksX1_creditOf_0 0 rfl rfl)
theorem dX1_creditOf_1 : decode cX1_creditOf 1 = .ok (.iload_n 1, 1) := dk_27 (dk_at dksX1_creditOf_0 1 rfl rfl)
theorem dX1_creditOf_2 : decode cX1_creditOf 2 = .ok (.invokevirtual 408, 3) := dk_182 1 152 (dk_at dksX1_creditOf_0 2 rfl rfl)
theorem dX1_creditOf_5 : decode cX1_creditOf 5 = .ok (.getfield 241, 3) := dk_180 0 241 (dk_at dksX1_creditOf_0 5 rfl rfl)
theorem dX1_creditOf_8 : decode cX1_creditOf 8 = .ok (.iload_n 1, 1) := dk_27 (dk_at dksX1_creditOf_0 8 rfl rfl)
theorem dX1_creditOf_9 : decode cX1_creditOf 9 = .ok (.iaload, 1) := dk_46 (dk_at dksX1_creditOf_0 9 rfl rfl)
theorem dX1_creditOf_10 : decode cX1_creditOf 10 = .ok (.ireturn, 1) := dk_172 (dk_at dksX1_creditOf_0 10 rfl rfl)
abbrev cX1_callsIn : ByteArray := prog_1_method_72_code
def yX1_callsIn : MethodName := ⟨RX1, "callsIn", "(I)I"⟩
def dkwX1_callsIn_0 : List UInt8 := [42, 182, 1, 119, 77, 27, 3, 8, 184, 1, 66, 184, 1, 130, 42, 27, 182, 1, 93, 172]
abbrev dktX1_callsIn_0 : List UInt8 := dkwX1_callsIn_0 ++ []
theorem dksX1_callsIn_0 : cX1_callsIn.data.toList.drop 0 = dktX1_callsIn_0 := by decide +kernel
theorem dX1_callsIn_0 : decode cX1_callsIn 0 = .ok (.aload_n 0, 1) := dk_42 (dk_at dksX1_callsIn_0 0 rfl rfl)
theorem dX1_callsIn_1 : decode cX1_callsIn 1 = .ok (.invokevirtual 375, 3) := dk_182 1 119 (dk_at dksX1_callsIn_0 1 rfl rfl)
theorem dX1_callsIn_4 : decode cX1_callsIn 4 = .ok (.astore_n 2, 1) := dk_77 (dk_at dksX1_callsIn_0 4 rfl rfl)
theorem dX1_callsIn_5 : decode cX1_callsIn 5 = .ok (.iload_n 1, 1) := dk_27 (dk_at dksX1_callsIn_0 5 rfl rfl)
theorem dX1_callsIn_6 : decode cX1_callsIn 6 = .ok (.iconst 0, 1) := dk_3 (dk_at dksX1_callsIn_0 6 rfl rfl)
theorem dX1_callsIn_7 : decode cX1_callsIn 7 = .ok (.iconst 5, 1) := dk_8 (dk_at dksX1_callsIn_0 7 rfl rfl)
theorem dX1_callsIn_8 : decode cX1_callsIn 8 = .ok (.invokestatic 322, 3) := dk_184 1 66 (dk_at dksX1_callsIn_0 8 rfl rfl)
theorem dX1_callsIn_11 : decode cX1_callsIn 11 = .ok (.invokestatic 386, 3) := dk_184 1 130 (dk_at dksX1_callsIn_0 11 rfl rfl)
theorem dX1_callsIn_14 : decode cX1_callsIn 14 = .ok (.aload_n 0, 1) := dk_42 (dk_at dksX1_callsIn_0 14 rfl rfl)
theorem dX1_callsIn_15 : decode cX1_callsIn 15 = .ok (.iload_n 1, 1) := dk_27 (dk_at dksX1_callsIn_0 15 rfl rfl)
theorem dX1_callsIn_16 : decode cX1_callsIn 16 = .ok (.invokevirtual 349, 3) := dk_182 1 93 (dk_at dksX1_callsIn_0 16 rfl rfl)
theorem dX1_callsIn_19 : decode cX1_callsIn 19 = .ok (.ireturn, 1) := dk_172 (dk_at dksX1_callsIn_0 19 rfl rfl)
abbrev cX1_meanDetour : ByteArray := prog_1_method_75_code
def yX1_meanDetour : MethodName := ⟨RX1, "meanDetour", "()F"⟩
def dkwX1_meanDetour_4 : List UInt8 := [29, 154, 0, 7, 11, 167, 0, 7, 36, 29, 134, 110, 174]
abbrev dktX1_meanDetour_4 : List UInt8 := dkwX1_meanDetour_4 ++ []
def dkwX1_meanDetour_3 : List UInt8 := [36, 42, 43, 21, 4, 182, 1, 160, 134, 21, 5, 134, 110, 98, 69, 132, 3, 1, 132, 4, 1, 167, 255, 178]
abbrev dktX1_meanDetour_3 : List UInt8 := dkwX1_meanDetour_3 ++ dktX1_meanDetour_4
def dkwX1_meanDetour_2 : List UInt8 := [182, 0, 47, 54, 5, 21, 5, 153, 0, 35, 42, 43, 21, 4, 182, 1, 24, 2, 160, 0, 6, 167, 0, 21]
abbrev dktX1_meanDetour_2 : List UInt8 := dkwX1_meanDetour_2 ++ dktX1_meanDetour_3
def dkwX1_meanDetour_1 : List UInt8 := [180, 0, 15, 43, 180, 0, 55, 21, 4, 50, 180, 0, 168, 43, 180, 0, 55, 21, 4, 50, 180, 0, 177]
abbrev dktX1_meanDetour_1 : List UInt8 := dkwX1_meanDetour_1 ++ dktX1_meanDetour_2
def dkwX1_meanDetour_0 : List UInt8 := [42, 182, 1, 119, 76, 11, 69, 3, 62, 3, 54, 4, 21, 4, 43, 180, 0, 235, 162, 0, 75, 42]
abbrev dktX1_meanDetour_0 : List UInt8 := dkwX1_meanDetour_0 ++ dktX1_meanDetour_1
theorem dksX1_meanDetour_0 : cX1_meanDetour.data.toList.drop 0 = dktX1_meanDetour_0 := by decide +kernel
theorem dksX1_meanDetour_1 : cX1_meanDetour.data.toList.drop 22 = dktX1_meanDetour_1 := dk_seg dksX1_meanDetour_0 22 rfl rfl
theorem dksX1_meanDetour_2 : cX1_meanDetour.data.toList.drop 45 = dktX1_meanDetour_2 := dk_seg dksX1_meanDetour_1 23 rfl rfl
theorem dksX1_meanDetour_3 : cX1_meanDetour.data.toList.drop 69 = dktX1_meanDetour_3 := dk_seg dksX1_meanDetour_2 24 rfl rfl
theorem dksX1_meanDetour_4 : cX1_meanDetour.data.toList.drop 93 = dktX1_meanDetour_4 := dk_seg dksX1_meanDetour_3 24 rfl rfl
theorem dX1_meanDetour_0 : decode cX1_meanDetour 0 = .ok (.aload_n 0, 1) := dk_42 (dk_at dksX1_meanDetour_0 0 rfl rfl)
theorem dX1_meanDetour_1 : decode cX1_meanDetour 1 = .ok (.invokevirtual 375, 3) := dk_182 1 119 (dk_at dksX1_meanDetour_0 1 rfl rfl)
theorem dX1_meanDetour_4 : decode cX1_meanDetour 4 = .ok (.astore_n 1, 1) := dk_76 (dk_at dksX1_meanDetour_0 4 rfl rfl)
theorem dX1_meanDetour_5 : decode cX1_meanDetour 5 = .ok (.fconst 0, 1) := dk_11 (dk_at dksX1_meanDetour_0 5 rfl rfl)
theorem dX1_meanDetour_6 : decode cX1_meanDetour 6 = .ok (.fstore_n 2, 1) := dk_69 (dk_at dksX1_meanDetour_0 6 rfl rfl)
theorem dX1_meanDetour_7 : decode cX1_meanDetour 7 = .ok (.iconst 0, 1) := dk_3 (dk_at dksX1_meanDetour_0 7 rfl rfl)
theorem dX1_meanDetour_8 : decode cX1_meanDetour 8 = .ok (.istore_n 3, 1) := dk_62 (dk_at dksX1_meanDetour_0 8 rfl rfl)
theorem dX1_meanDetour_9 : decode cX1_meanDetour 9 = .ok (.iconst 0, 1) := dk_3 (dk_at dksX1_meanDetour_0 9 rfl rfl)
theorem dX1_meanDetour_10 : decode cX1_meanDetour 10 = .ok (.istore 4, 2) := dk_54 4 (dk_at dksX1_meanDetour_0 10 rfl rfl)
theorem dX1_meanDetour_12 : decode cX1_meanDetour 12 = .ok (.iload 4, 2) := dk_21 4 (dk_at dksX1_meanDetour_0 12 rfl rfl)
theorem dX1_meanDetour_14 : decode cX1_meanDetour 14 = .ok (.aload_n 1, 1) := dk_43 (dk_at dksX1_meanDetour_0 14 rfl rfl)
theorem dX1_meanDetour_15 : decode cX1_meanDetour 15 = .ok (.getfield 235, 3) := dk_180 0 235 (dk_at dksX1_meanDetour_0 15 rfl rfl)
theorem dX1_meanDetour_18 : decode cX1_meanDetour 18 = .ok (.if_icmp .ge 75, 3) := dk_162 0 75 (dk_at dksX1_meanDetour_0 18 rfl rfl)
theorem dX1_meanDetour_21 : decode cX1_meanDetour 21 = .ok (.aload_n 0, 1) := dk_42 (dk_at dksX1_meanDetour_0 21 rfl rfl)
theorem dX1_meanDetour_22 : decode cX1_meanDetour 22 = .ok (.getfield 15, 3) := dk_180 0 15 (dk_at dksX1_meanDetour_1 0 rfl rfl)
theorem dX1_meanDetour_25 : decode cX1_meanDetour 25 = .ok (.aload_n 1, 1) := dk_43 (dk_at dksX1_meanDetour_1 3 rfl rfl)
theorem dX1_meanDetour_26 : decode cX1_meanDetour 26 = .ok (.getfield 55, 3) := dk_180 0 55 (dk_at dksX1_meanDetour_1 4 rfl rfl)
theorem dX1_meanDetour_29 : decode cX1_meanDetour 29 = .ok (.iload 4, 2) := dk_21 4 (dk_at dksX1_meanDetour_1 7 rfl rfl)
theorem dX1_meanDetour_31 : decode cX1_meanDetour 31 = .ok (.aaload, 1) := dk_50 (dk_at dksX1_meanDetour_1 9 rfl rfl)
theorem dX1_meanDetour_32 : decode cX1_meanDetour 32 = .ok (.getfield 168, 3) := dk_180 0 168 (dk_at dksX1_meanDetour_1 10 rfl rfl)
theorem dX1_meanDetour_35 : decode cX1_meanDetour 35 = .ok (.aload_n 1, 1) := dk_43 (dk_at dksX1_meanDetour_1 13 rfl rfl)
theorem dX1_meanDetour_36 : decode cX1_meanDetour 36 = .ok (.getfield 55, 3) := dk_180 0 55 (dk_at dksX1_meanDetour_1 14 rfl rfl)
theorem dX1_meanDetour_39 : decode cX1_meanDetour 39 = .ok (.iload 4, 2) := dk_21 4 (dk_at dksX1_meanDetour_1 17 rfl rfl)
theorem dX1_meanDetour_41 : decode cX1_meanDetour 41 = .ok (.aaload, 1) := dk_50 (dk_at dksX1_meanDetour_1 19 rfl rfl)
theorem dX1_meanDetour_42 : decode cX1_meanDetour 42 = .ok (.getfield 177, 3) := dk_180 0 177 (dk_at dksX1_meanDetour_1 20 rfl rfl)
theorem dX1_meanDetour_45 : decode cX1_meanDetour 45 = .ok (.invokevirtual 47, 3) := dk_182 0 47 (dk_at dksX1_meanDetour_2 0 rfl rfl)
theorem dX1_meanDetour_48 : decode cX1_meanDetour 48 = .ok (.istore 5, 2) := dk_54 5 (dk_at dksX1_meanDetour_2 3 rfl rfl)
theorem dX1_meanDetour_50 : decode cX1_meanDetour 50 = .ok (.iload 5, 2) := dk_21 5 (dk_at dksX1_meanDetour_2 5 rfl rfl)
theorem dX1_meanDetour_52 : decode cX1_meanDetour 52 = .ok (.ifCond .eq 35, 3) := dk_153 0 35 (dk_at dksX1_meanDetour_2 7 rfl rfl)
theorem dX1_meanDetour_55 : decode cX1_meanDetour 55 = .ok (.aload_n 0, 1) := dk_42 (dk_at dksX1_meanDetour_2 10 rfl rfl)
theorem dX1_meanDetour_56 : decode cX1_meanDetour 56 = .ok (.aload_n 1, 1) := dk_43 (dk_at dksX1_meanDetour_2 11 rfl rfl)
theorem dX1_meanDetour_57 : decode cX1_meanDetour 57 = .ok (.iload 4, 2) := dk_21 4 (dk_at dksX1_meanDetour_2 12 rfl rfl)
theorem dX1_meanDetour_59 : decode cX1_meanDetour 59 = .ok (.invokevirtual 280, 3) := dk_182 1 24 (dk_at dksX1_meanDetour_2 14 rfl rfl)
theorem dX1_meanDetour_62 : decode cX1_meanDetour 62 = .ok (.iconst (-1), 1) := dk_2 (dk_at dksX1_meanDetour_2 17 rfl rfl)
theorem dX1_meanDetour_63 : decode cX1_meanDetour 63 = .ok (.if_icmp .ne 6, 3) := dk_160 0 6 (dk_at dksX1_meanDetour_2 18 rfl rfl)
theorem dX1_meanDetour_66 : decode cX1_meanDetour 66 = .ok (.goto 21, 3) := dk_167 0 21 (dk_at dksX1_meanDetour_2 21 rfl rfl)
theorem dX1_meanDetour_69 : decode cX1_meanDetour 69 = .ok (.fload_n 2, 1) := dk_36 (dk_at dksX1_meanDetour_3 0 rfl rfl)
theorem dX1_meanDetour_70 : decode cX1_meanDetour 70 = .ok (.aload_n 0, 1) := dk_42 (dk_at dksX1_meanDetour_3 1 rfl rfl)
theorem dX1_meanDetour_71 : decode cX1_meanDetour 71 = .ok (.aload_n 1, 1) := dk_43 (dk_at dksX1_meanDetour_3 2 rfl rfl)
theorem dX1_meanDetour_72 : decode cX1_meanDetour 72 = .ok (.iload 4, 2) := dk_21 4 (dk_at dksX1_meanDetour_3 3 rfl rfl)
theorem dX1_meanDetour_74 : decode cX1_meanDetour 74 = .ok (.invokevirtual 416, 3) := dk_182 1 160 (dk_at dksX1_meanDetour_3 5 rfl rfl)
theorem dX1_meanDetour_77 : decode cX1_meanDetour 77 = .ok (.i2f, 1) := dk_134 (dk_at dksX1_meanDetour_3 8 rfl rfl)
theorem dX1_meanDetour_78 : decode cX1_meanDetour 78 = .ok (.iload 5, 2) := dk_21 5 (dk_at dksX1_meanDetour_3 9 rfl rfl)
theorem dX1_meanDetour_80 : decode cX1_meanDetour 80 = .ok (.i2f, 1) := dk_134 (dk_at dksX1_meanDetour_3 11 rfl rfl)
theorem dX1_meanDetour_81 : decode cX1_meanDetour 81 = .ok (.fdiv, 1) := dk_110 (dk_at dksX1_meanDetour_3 12 rfl rfl)
theorem dX1_meanDetour_82 : decode cX1_meanDetour 82 = .ok (.fadd, 1) := dk_98 (dk_at dksX1_meanDetour_3 13 rfl rfl)
theorem dX1_meanDetour_83 : decode cX1_meanDetour 83 = .ok (.fstore_n 2, 1) := dk_69 (dk_at dksX1_meanDetour_3 14 rfl rfl)
theorem dX1_meanDetour_84 : decode cX1_meanDetour 84 = .ok (.iinc 3 1, 3) := dk_132 3 1 (dk_at dksX1_meanDetour_3 15 rfl rfl)
theorem dX1_meanDetour_87 : decode cX1_meanDetour 87 = .ok (.iinc 4 1, 3) := dk_132 4 1 (dk_at dksX1_meanDetour_3 18 rfl rfl)
theorem dX1_meanDetour_90 : decode cX1_meanDetour 90 = .ok (.goto (-78), 3) := dk_167 255 178 (dk_at dksX1_meanDetour_3 21 rfl rfl)
theorem dX1_meanDetour_93 : decode cX1_meanDetour 93 = .ok (.iload_n 3, 1) := dk_29 (dk_at dksX1_meanDetour_4 0 rfl rfl)
theorem dX1_meanDetour_94 : decode cX1_meanDetour 94 = .ok (.ifCond .ne 7, 3) := dk_154 0 7 (dk_at dksX1_meanDetour_4 1 rfl rfl)
theorem dX1_meanDetour_97 : decode cX1_meanDetour 97 = .ok (.fconst 0, 1) := dk_11 (dk_at dksX1_meanDetour_4 4 rfl rfl)
theorem dX1_meanDetour_98 : decode cX1_meanDetour 98 = .ok (.goto 7, 3) := dk_167 0 7 (dk_at dksX1_meanDetour_4 5 rfl rfl)
theorem dX1_meanDetour_101 : decode cX1_meanDetour 101 = .ok (.fload_n 2, 1) := dk_36 (dk_at dksX1_meanDetour_4 8 rfl rfl)
theorem dX1_meanDetour_102 : decode cX1_meanDetour 102 = .ok (.iload_n 3, 1) := dk_29 (dk_at dksX1_meanDetour_4 9 rfl rfl)
theorem dX1_meanDetour_103 : decode cX1_meanDetour 103 = .ok (.i2f, 1) := dk_134 (dk_at dksX1_meanDetour_4 10 rfl rfl)
theorem dX1_meanDetour_104 : decode cX1_meanDetour 104 = .ok (.fdiv, 1) := dk_110 (dk_at dksX1_meanDetour_4 11 rfl rfl)
theorem dX1_meanDetour_105 : decode cX1_meanDetour 105 = .ok (.freturn, 1) := dk_174 (dk_at dksX1_meanDetour_4 12 rfl rfl)
abbrev cX1_occupancy : ByteArray := prog_1_method_76_code
def yX1_occupancy : MethodName := ⟨RX1, "occupancy", "(I)F"⟩
def dkwX1_occupancy_4 : List UInt8 := [154, 0, 7, 11, 167, 0, 9, 29, 134, 21, 6, 134, 110, 174]
abbrev dktX1_occupancy_4 : List UInt8 := dkwX1_occupancy_4 ++ []
def dkwX1_occupancy_3 : List UInt8 := [44, 21, 5, 182, 0, 92, 104, 96, 62, 167, 255, 197, 42, 27, 44, 182, 1, 30, 54, 6, 21, 6]
abbrev dktX1_occupancy_3 : List UInt8 := dkwX1_occupancy_3 ++ dktX1_occupancy_4
def dkwX1_occupancy_2 : List UInt8 := [4, 182, 0, 118, 96, 54, 4, 132, 5, 1, 21, 5, 44, 180, 0, 3, 162, 0, 17, 29, 21, 4, 42, 27]
abbrev dktX1_occupancy_2 : List UInt8 := dkwX1_occupancy_2 ++ dktX1_occupancy_3
def dkwX1_occupancy_1 : List UInt8 := [185, 1, 171, 1, 0, 153, 0, 55, 25, 6, 185, 1, 177, 1, 0, 192, 0, 38, 58, 7, 21, 4, 25, 7]
abbrev dktX1_occupancy_1 : List UInt8 := dkwX1_occupancy_1 ++ dktX1_occupancy_2
def dkwX1_occupancy_0 : List UInt8 := [42, 27, 182, 1, 122, 77, 3, 62, 3, 54, 4, 3, 54, 5, 44, 182, 1, 167, 58, 6, 25, 6]
abbrev dktX1_occupancy_0 : List UInt8 := dkwX1_occupancy_0 ++ dktX1_occupancy_1
theorem dksX1_occupancy_0 : cX1_occupancy.data.toList.drop 0 = dktX1_occupancy_0 := by decide +kernel
theorem dksX1_occupancy_1 : cX1_occupancy.data.toList.drop 22 = dktX1_occupancy_1 := dk_seg dksX1_occupancy_0 22 rfl rfl
theorem dksX1_occupancy_2 : cX1_occupancy.data.toList.drop 46 = dktX1_occupancy_2 := dk_seg dksX1_occupancy_1 24 rfl rfl
theorem dksX1_occupancy_3 : cX1_occupancy.data.toList.drop 70 = dktX1_occupancy_3 := dk_seg dksX1_occupancy_2 24 rfl rfl
theorem dksX1_occupancy_4 : cX1_occupancy.data.toList.drop 92 = dktX1_occupancy_4 := dk_seg dksX1_occupancy_3 22 rfl rfl
theorem dX1_occupancy_0 : decode cX1_occupancy 0 = .ok (.aload_n 0, 1) := dk_42 (dk_at dksX1_occupancy_0 0 rfl rfl)
theorem dX1_occupancy_1 : decode cX1_occupancy 1 = .ok (.iload_n 1, 1) := dk_27 (dk_at dksX1_occupancy_0 1 rfl rfl)
theorem dX1_occupancy_2 : decode cX1_occupancy 2 = .ok (.invokevirtual 378, 3) := dk_182 1 122 (dk_at dksX1_occupancy_0 2 rfl rfl)
theorem dX1_occupancy_5 : decode cX1_occupancy 5 = .ok (.astore_n 2, 1) := dk_77 (dk_at dksX1_occupancy_0 5 rfl rfl)
theorem dX1_occupancy_6 : decode cX1_occupancy 6 = .ok (.iconst 0, 1) := dk_3 (dk_at dksX1_occupancy_0 6 rfl rfl)
theorem dX1_occupancy_7 : decode cX1_occupancy 7 = .ok (.istore_n 3, 1) := dk_62 (dk_at dksX1_occupancy_0 7 rfl rfl)
theorem dX1_occupancy_8 : decode cX1_occupancy 8 = .ok (.iconst 0, 1) := dk_3 (dk_at dksX1_occupancy_0 8 rfl rfl)
theorem dX1_occupancy_9 : decode cX1_occupancy 9 = .ok (.istore 4, 2) := dk_54 4 (dk_at dksX1_occupancy_0 9 rfl rfl)
theorem dX1_occupancy_11 : decode cX1_occupancy 11 = .ok (.iconst 0, 1) := dk_3 (dk_at dksX1_occupancy_0 11 rfl rfl)
theorem dX1_occupancy_12 : decode cX1_occupancy 12 = .ok (.istore 5, 2) := dk_54 5 (dk_at dksX1_occupancy_0 12 rfl rfl)
theorem dX1_occupancy_14 : decode cX1_occupancy 14 = .ok (.aload_n 2, 1) := dk_44 (dk_at dksX1_occupancy_0 14 rfl rfl)
theorem dX1_occupancy_15 : decode cX1_occupancy 15 = .ok (.invokevirtual 423, 3) := dk_182 1 167 (dk_at dksX1_occupancy_0 15 rfl rfl)
theorem dX1_occupancy_18 : decode cX1_occupancy 18 = .ok (.astore 6, 2) := dk_58 6 (dk_at dksX1_occupancy_0 18 rfl rfl)
theorem dX1_occupancy_20 : decode cX1_occupancy 20 = .ok (.aload 6, 2) := dk_25 6 (dk_at dksX1_occupancy_0 20 rfl rfl)
theorem dX1_occupancy_22 : decode cX1_occupancy 22 = .ok (.invokeinterface 427 1, 5) := by decide +kernel
theorem dX1_occupancy_27 : decode cX1_occupancy 27 = .ok (.ifCond .eq 55, 3) := dk_153 0 55 (dk_at dksX1_occupancy_1 5 rfl rfl)
theorem dX1_occupancy_30 : decode cX1_occupancy 30 = .ok (.aload 6, 2) := dk_25 6 (dk_at dksX1_occupancy_1 8 rfl rfl)
theorem dX1_occupancy_32 : decode cX1_occupancy 32 = .ok (.invokeinterface 433 1, 5) := by decide +kernel
theorem dX1_occupancy_37 : decode cX1_occupancy 37 = .ok (.checkcast 38, 3) := dk_192 0 38 (dk_at dksX1_occupancy_1 15 rfl rfl)
theorem dX1_occupancy_40 : decode cX1_occupancy 40 = .ok (.astore 7, 2) := dk_58 7 (dk_at dksX1_occupancy_1 18 rfl rfl)
theorem dX1_occupancy_42 : decode cX1_occupancy 42 = .ok (.iload 4, 2) := dk_21 4 (dk_at dksX1_occupancy_1 20 rfl rfl)
theorem dX1_occupancy_44 : decode cX1_occupancy 44 = .ok (.aload 7, 2) := dk_25 7 (dk_at dksX1_occupancy_1 22 rfl rfl)
theorem dX1_occupancy_46 : decode cX1_occupancy 46 = .ok (.iconst 1, 1) := dk_4 (dk_at dksX1_occupancy_2 0 rfl rfl)
theorem dX1_occupancy_47 : decode cX1_occupancy 47 = .ok (.invokevirtual 118, 3) := dk_182 0 118 (dk_at dksX1_occupancy_2 1 rfl rfl)
theorem dX1_occupancy_50 : decode cX1_occupancy 50 = .ok (.iadd, 1) := dk_96 (dk_at dksX1_occupancy_2 4 rfl rfl)
theorem dX1_occupancy_51 : decode cX1_occupancy 51 = .ok (.istore 4, 2) := dk_54 4 (dk_at dksX1_occupancy_2 5 rfl rfl)
theorem dX1_occupancy_53 : decode cX1_occupancy 53 = .ok (.iinc 5 1, 3) := dk_132 5 1 (dk_at dksX1_occupancy_2 7 rfl rfl)
theorem dX1_occupancy_56 : decode cX1_occupancy 56 = .ok (.iload 5, 2) := dk_21 5 (dk_at dksX1_occupancy_2 10 rfl rfl)
theorem dX1_occupancy_58 : decode cX1_occupancy 58 = .ok (.aload_n 2, 1) := dk_44 (dk_at dksX1_occupancy_2 12 rfl rfl)
theorem dX1_occupancy_59 : decode cX1_occupancy 59 = .ok (.getfield 3, 3) := dk_180 0 3 (dk_at dksX1_occupancy_2 13 rfl rfl)
theorem dX1_occupancy_62 : decode cX1_occupancy 62 = .ok (.if_icmp .ge 17, 3) := dk_162 0 17 (dk_at dksX1_occupancy_2 16 rfl rfl)
theorem dX1_occupancy_65 : decode cX1_occupancy 65 = .ok (.iload_n 3, 1) := dk_29 (dk_at dksX1_occupancy_2 19 rfl rfl)
theorem dX1_occupancy_66 : decode cX1_occupancy 66 = .ok (.iload 4, 2) := dk_21 4 (dk_at dksX1_occupancy_2 20 rfl rfl)
theorem dX1_occupancy_68 : decode cX1_occupancy 68 = .ok (.aload_n 0, 1) := dk_42 (dk_at dksX1_occupancy_2 22 rfl rfl)
theorem dX1_occupancy_69 : decode cX1_occupancy 69 = .ok (.iload_n 1, 1) := dk_27 (dk_at dksX1_occupancy_2 23 rfl rfl)
theorem dX1_occupancy_70 : decode cX1_occupancy 70 = .ok (.aload_n 2, 1) := dk_44 (dk_at dksX1_occupancy_3 0 rfl rfl)
theorem dX1_occupancy_71 : decode cX1_occupancy 71 = .ok (.iload 5, 2) := dk_21 5 (dk_at dksX1_occupancy_3 1 rfl rfl)
theorem dX1_occupancy_73 : decode cX1_occupancy 73 = .ok (.invokevirtual 92, 3) := dk_182 0 92 (dk_at dksX1_occupancy_3 3 rfl rfl)
theorem dX1_occupancy_76 : decode cX1_occupancy 76 = .ok (.imul, 1) := dk_104 (dk_at dksX1_occupancy_3 6 rfl rfl)
theorem dX1_occupancy_77 : decode cX1_occupancy 77 = .ok (.iadd, 1) := dk_96 (dk_at dksX1_occupancy_3 7 rfl rfl)
theorem dX1_occupancy_78 : decode cX1_occupancy 78 = .ok (.istore_n 3, 1) := dk_62 (dk_at dksX1_occupancy_3 8 rfl rfl)
theorem dX1_occupancy_79 : decode cX1_occupancy 79 = .ok (.goto (-59), 3) := dk_167 255 197 (dk_at dksX1_occupancy_3 9 rfl rfl)
theorem dX1_occupancy_82 : decode cX1_occupancy 82 = .ok (.aload_n 0, 1) := dk_42 (dk_at dksX1_occupancy_3 12 rfl rfl)
theorem dX1_occupancy_83 : decode cX1_occupancy 83 = .ok (.iload_n 1, 1) := dk_27 (dk_at dksX1_occupancy_3 13 rfl rfl)
theorem dX1_occupancy_84 : decode cX1_occupancy 84 = .ok (.aload_n 2, 1) := dk_44 (dk_at dksX1_occupancy_3 14 rfl rfl)
theorem dX1_occupancy_85 : decode cX1_occupancy 85 = .ok (.invokevirtual 286, 3) := dk_182 1 30 (dk_at dksX1_occupancy_3 15 rfl rfl)
theorem dX1_occupancy_88 : decode cX1_occupancy 88 = .ok (.istore 6, 2) := dk_54 6 (dk_at dksX1_occupancy_3 18 rfl rfl)
theorem dX1_occupancy_90 : decode cX1_occupancy 90 = .ok (.iload 6, 2) := dk_21 6 (dk_at dksX1_occupancy_3 20 rfl rfl)
theorem dX1_occupancy_92 : decode cX1_occupancy 92 = .ok (.ifCond .ne 7, 3) := dk_154 0 7 (dk_at dksX1_occupancy_4 0 rfl rfl)
theorem dX1_occupancy_95 : decode cX1_occupancy 95 = .ok (.fconst 0, 1) := dk_11 (dk_at dksX1_occupancy_4 3 rfl rfl)
theorem dX1_occupancy_96 : decode cX1_occupancy 96 = .ok (.goto 9, 3) := dk_167 0 9 (dk_at dksX1_occupancy_4 4 rfl rfl)
theorem dX1_occupancy_99 : decode cX1_occupancy 99 = .ok (.iload_n 3, 1) := dk_29 (dk_at dksX1_occupancy_4 7 rfl rfl)
theorem dX1_occupancy_100 : decode cX1_occupancy 100 = .ok (.i2f, 1) := dk_134 (dk_at dksX1_occupancy_4 8 rfl rfl)
theorem dX1_occupancy_101 : decode cX1_occupancy 101 = .ok (.iload 6, 2) := dk_21 6 (dk_at dksX1_occupancy_4 9 rfl rfl)
theorem dX1_occupancy_103 : decode cX1_occupancy 103 = .ok (.i2f, 1) := dk_134 (dk_at dksX1_occupancy_4 11 rfl rfl)
theorem dX1_occupancy_104 : decode cX1_occupancy 104 = .ok (.fdiv, 1) := dk_110 (dk_at dksX1_occupancy_4 12 rfl rfl)
theorem dX1_occupancy_105 : decode cX1_occupancy 105 = .ok (.freturn, 1) := dk_174 (dk_at dksX1_occupancy_4 13 rfl rfl)
abbrev cX1_offer : ByteArray := prog_1_method_80_code
def yX1_offer : MethodName := ⟨RX1, "offer", "(IIIIII)I"⟩
def dkwX1_offer_2 : List UInt8 := [42, 180, 0, 225, 25, 7, 180, 0, 235, 4, 182, 0, 247, 46, 167, 0, 4, 2, 172]
abbrev dktX1_offer_2 : List UInt8 := dkwX1_offer_2 ++ []
def dkwX1_offer_1 : List UInt8 := [28, 29, 21, 4, 21, 5, 182, 1, 192, 21, 6, 182, 1, 196, 153, 0, 27, 42, 180, 0, 225, 180, 0, 51]
abbrev dktX1_offer_1 : List UInt8 := dkwX1_offer_1 ++ dktX1_offer_2
def dkwX1_offer_0 : List UInt8 := [42, 182, 1, 119, 58, 7, 27, 28, 29, 21, 4, 21, 5, 21, 6, 184, 1, 188, 184, 1, 130, 42, 42, 27]
abbrev dktX1_offer_0 : List UInt8 := dkwX1_offer_0 ++ dktX1_offer_1
theorem dksX1_offer_0 : cX1_offer.data.toList.drop 0 = dktX1_offer_0 := by decide +kernel
theorem dksX1_offer_1 : cX1_offer.data.toList.drop 24 = dktX1_offer_1 := dk_seg dksX1_offer_0 24 rfl rfl
theorem dksX1_offer_2 : cX1_offer.data.toList.drop 48 = dktX1_offer_2 := dk_seg dksX1_offer_1 24 rfl rfl
theorem dX1_offer_0 : decode cX1_offer 0 = .ok (.aload_n 0, 1) := dk_42 (dk_at dksX1_offer_0 0 rfl rfl)
theorem dX1_offer_1 : decode cX1_offer 1 = .ok (.invokevirtual 375, 3) := dk_182 1 119 (dk_at dksX1_offer_0 1 rfl rfl)
theorem dX1_offer_4 : decode cX1_offer 4 = .ok (.astore 7, 2) := dk_58 7 (dk_at dksX1_offer_0 4 rfl rfl)
theorem dX1_offer_6 : decode cX1_offer 6 = .ok (.iload_n 1, 1) := dk_27 (dk_at dksX1_offer_0 6 rfl rfl)
theorem dX1_offer_7 : decode cX1_offer 7 = .ok (.iload_n 2, 1) := dk_28 (dk_at dksX1_offer_0 7 rfl rfl)
theorem dX1_offer_8 : decode cX1_offer 8 = .ok (.iload_n 3, 1) := dk_29 (dk_at dksX1_offer_0 8 rfl rfl)
theorem dX1_offer_9 : decode cX1_offer 9 = .ok (.iload 4, 2) := dk_21 4 (dk_at dksX1_offer_0 9 rfl rfl)
theorem dX1_offer_11 : decode cX1_offer 11 = .ok (.iload 5, 2) := dk_21 5 (dk_at dksX1_offer_0 11 rfl rfl)
theorem dX1_offer_13 : decode cX1_offer 13 = .ok (.iload 6, 2) := dk_21 6 (dk_at dksX1_offer_0 13 rfl rfl)
theorem dX1_offer_15 : decode cX1_offer 15 = .ok (.invokestatic 444, 3) := dk_184 1 188 (dk_at dksX1_offer_0 15 rfl rfl)
theorem dX1_offer_18 : decode cX1_offer 18 = .ok (.invokestatic 386, 3) := dk_184 1 130 (dk_at dksX1_offer_0 18 rfl rfl)
theorem dX1_offer_21 : decode cX1_offer 21 = .ok (.aload_n 0, 1) := dk_42 (dk_at dksX1_offer_0 21 rfl rfl)
theorem dX1_offer_22 : decode cX1_offer 22 = .ok (.aload_n 0, 1) := dk_42 (dk_at dksX1_offer_0 22 rfl rfl)
theorem dX1_offer_23 : decode cX1_offer 23 = .ok (.iload_n 1, 1) := dk_27 (dk_at dksX1_offer_0 23 rfl rfl)
theorem dX1_offer_24 : decode cX1_offer 24 = .ok (.iload_n 2, 1) := dk_28 (dk_at dksX1_offer_1 0 rfl rfl)
theorem dX1_offer_25 : decode cX1_offer 25 = .ok (.iload_n 3, 1) := dk_29 (dk_at dksX1_offer_1 1 rfl rfl)
theorem dX1_offer_26 : decode cX1_offer 26 = .ok (.iload 4, 2) := dk_21 4 (dk_at dksX1_offer_1 2 rfl rfl)
theorem dX1_offer_28 : decode cX1_offer 28 = .ok (.iload 5, 2) := dk_21 5 (dk_at dksX1_offer_1 4 rfl rfl)
theorem dX1_offer_30 : decode cX1_offer 30 = .ok (.invokevirtual 448, 3) := dk_182 1 192 (dk_at dksX1_offer_1 6 rfl rfl)
theorem dX1_offer_33 : decode cX1_offer 33 = .ok (.iload 6, 2) := dk_21 6 (dk_at dksX1_offer_1 9 rfl rfl)
theorem dX1_offer_35 : decode cX1_offer 35 = .ok (.invokevirtual 452, 3) := dk_182 1 196 (dk_at dksX1_offer_1 11 rfl rfl)
theorem dX1_offer_38 : decode cX1_offer 38 = .ok (.ifCond .eq 27, 3) := dk_153 0 27 (dk_at dksX1_offer_1 14 rfl rfl)
theorem dX1_offer_41 : decode cX1_offer 41 = .ok (.aload_n 0, 1) := dk_42 (dk_at dksX1_offer_1 17 rfl rfl)
theorem dX1_offer_42 : decode cX1_offer 42 = .ok (.getfield 225, 3) := dk_180 0 225 (dk_at dksX1_offer_1 18 rfl rfl)
theorem dX1_offer_45 : decode cX1_offer 45 = .ok (.getfield 51, 3) := dk_180 0 51 (dk_at dksX1_offer_1 21 rfl rfl)
theorem dX1_offer_48 : decode cX1_offer 48 = .ok (.aload_n 0, 1) := dk_42 (dk_at dksX1_offer_2 0 rfl rfl)
theorem dX1_offer_49 : decode cX1_offer 49 = .ok (.getfield 225, 3) := dk_180 0 225 (dk_at dksX1_offer_2 1 rfl rfl)
theorem dX1_offer_52 : decode cX1_offer 52 = .ok (.aload 7, 2) := dk_25 7 (dk_at dksX1_offer_2 4 rfl rfl)
theorem dX1_offer_54 : decode cX1_offer 54 = .ok (.getfield 235, 3) := dk_180 0 235 (dk_at dksX1_offer_2 6 rfl rfl)
theorem dX1_offer_57 : decode cX1_offer 57 = .ok (.iconst 1, 1) := dk_4 (dk_at dksX1_offer_2 9 rfl rfl)
theorem dX1_offer_58 : decode cX1_offer 58 = .ok (.invokevirtual 247, 3) := dk_182 0 247 (dk_at dksX1_offer_2 10 rfl rfl)
theorem dX1_offer_61 : decode cX1_offer 61 = .ok (.iaload, 1) := dk_46 (dk_at dksX1_offer_2 13 rfl rfl)
theorem dX1_offer_62 : decode cX1_offer 62 = .ok (.goto 4, 3) := dk_167 0 4 (dk_at dksX1_offer_2 14 rfl rfl)
theorem dX1_offer_65 : decode cX1_offer 65 = .ok (.iconst (-1), 1) := dk_2 (dk_at dksX1_offer_2 17 rfl rfl)
theorem dX1_offer_66 : decode cX1_offer 66 = .ok (.ireturn, 1) := dk_172 (dk_at dksX1_offer_2 18 rfl rfl)
abbrev cX1_isRequest : ByteArray := prog_1_method_77_code
def yX1_isRequest : MethodName := ⟨RX1, "isRequest", "(IIIIII)Z"⟩
def dkwX1_isRequest_2 : List UInt8 := [153, 0, 7, 4, 167, 0, 4, 3, 172]
abbrev dktX1_isRequest_2 : List UInt8 := dkwX1_isRequest_2 ++ []
def dkwX1_isRequest_1 : List UInt8 := [153, 0, 29, 21, 4, 3, 5, 184, 1, 66, 153, 0, 19, 21, 5, 3, 17, 5, 160, 184, 1, 66]
abbrev dktX1_isRequest_1 : List UInt8 := dkwX1_isRequest_1 ++ dktX1_isRequest_2
def dkwX1_isRequest_0 : List UInt8 := [7, 188, 10, 89, 3, 26, 79, 89, 4, 27, 79, 89, 5, 28, 79, 89, 6, 29, 79, 184, 1, 126]
abbrev dktX1_isRequest_0 : List UInt8 := dkwX1_isRequest_0 ++ dktX1_isRequest_1
theorem dksX1_isRequest_0 : cX1_isRequest.data.toList.drop 0 = dktX1_isRequest_0 := by decide +kernel
theorem dksX1_isRequest_1 : cX1_isRequest.data.toList.drop 22 = dktX1_isRequest_1 := dk_seg dksX1_isRequest_0 22 rfl rfl
theorem dksX1_isRequest_2 : cX1_isRequest.data.toList.drop 44 = dktX1_isRequest_2 := dk_seg dksX1_isRequest_1 22 rfl rfl
theorem dX1_isRequest_0 : decode cX1_isRequest 0 = .ok (.iconst 4, 1) := dk_7 (dk_at dksX1_isRequest_0 0 rfl rfl)
theorem dX1_isRequest_1 : decode cX1_isRequest 1 = .ok (.newarray .int, 2) := dk_188_10 (dk_at dksX1_isRequest_0 1 rfl rfl)
theorem dX1_isRequest_3 : decode cX1_isRequest 3 = .ok (.dup, 1) := dk_89 (dk_at dksX1_isRequest_0 3 rfl rfl)
theorem dX1_isRequest_4 : decode cX1_isRequest 4 = .ok (.iconst 0, 1) := dk_3 (dk_at dksX1_isRequest_0 4 rfl rfl)
theorem dX1_isRequest_5 : decode cX1_isRequest 5 = .ok (.iload_n 0, 1) := dk_26 (dk_at dksX1_isRequest_0 5 rfl rfl)
theorem dX1_isRequest_6 : decode cX1_isRequest 6 = .ok (.iastore, 1) := dk_79 (dk_at dksX1_isRequest_0 6 rfl rfl)
theorem dX1_isRequest_7 : decode cX1_isRequest 7 = .ok (.dup, 1) := dk_89 (dk_at dksX1_isRequest_0 7 rfl rfl)
theorem dX1_isRequest_8 : decode cX1_isRequest 8 = .ok (.iconst 1, 1) := dk_4 (dk_at dksX1_isRequest_0 8 rfl rfl)
theorem dX1_isRequest_9 : decode cX1_isRequest 9 = .ok (.iload_n 1, 1) := dk_27 (dk_at dksX1_isRequest_0 9 rfl rfl)
theorem dX1_isRequest_10 : decode cX1_isRequest 10 = .ok (.iastore, 1) := dk_79 (dk_at dksX1_isRequest_0 10 rfl rfl)
theorem dX1_isRequest_11 : decode cX1_isRequest 11 = .ok (.dup, 1) := dk_89 (dk_at dksX1_isRequest_0 11 rfl rfl)
theorem dX1_isRequest_12 : decode cX1_isRequest 12 = .ok (.iconst 2, 1) := dk_5 (dk_at dksX1_isRequest_0 12 rfl rfl)
theorem dX1_isRequest_13 : decode cX1_isRequest 13 = .ok (.iload_n 2, 1) := dk_28 (dk_at dksX1_isRequest_0 13 rfl rfl)
theorem dX1_isRequest_14 : decode cX1_isRequest 14 = .ok (.iastore, 1) := dk_79 (dk_at dksX1_isRequest_0 14 rfl rfl)
theorem dX1_isRequest_15 : decode cX1_isRequest 15 = .ok (.dup, 1) := dk_89 (dk_at dksX1_isRequest_0 15 rfl rfl)
theorem dX1_isRequest_16 : decode cX1_isRequest 16 = .ok (.iconst 3, 1) := dk_6 (dk_at dksX1_isRequest_0 16 rfl rfl)
theorem dX1_isRequest_17 : decode cX1_isRequest 17 = .ok (.iload_n 3, 1) := dk_29 (dk_at dksX1_isRequest_0 17 rfl rfl)
theorem dX1_isRequest_18 : decode cX1_isRequest 18 = .ok (.iastore, 1) := dk_79 (dk_at dksX1_isRequest_0 18 rfl rfl)
theorem dX1_isRequest_19 : decode cX1_isRequest 19 = .ok (.invokestatic 382, 3) := dk_184 1 126 (dk_at dksX1_isRequest_0 19 rfl rfl)
theorem dX1_isRequest_22 : decode cX1_isRequest 22 = .ok (.ifCond .eq 29, 3) := dk_153 0 29 (dk_at dksX1_isRequest_1 0 rfl rfl)
theorem dX1_isRequest_25 : decode cX1_isRequest 25 = .ok (.iload 4, 2) := dk_21 4 (dk_at dksX1_isRequest_1 3 rfl rfl)
theorem dX1_isRequest_27 : decode cX1_isRequest 27 = .ok (.iconst 0, 1) := dk_3 (dk_at dksX1_isRequest_1 5 rfl rfl)
theorem dX1_isRequest_28 : decode cX1_isRequest 28 = .ok (.iconst 2, 1) := dk_5 (dk_at dksX1_isRequest_1 6 rfl rfl)
theorem dX1_isRequest_29 : decode cX1_isRequest 29 = .ok (.invokestatic 322, 3) := dk_184 1 66 (dk_at dksX1_isRequest_1 7 rfl rfl)
theorem dX1_isRequest_32 : decode cX1_isRequest 32 = .ok (.ifCond .eq 19, 3) := dk_153 0 19 (dk_at dksX1_isRequest_1 10 rfl rfl)
theorem dX1_isRequest_35 : decode cX1_isRequest 35 = .ok (.iload 5, 2) := dk_21 5 (dk_at dksX1_isRequest_1 13 rfl rfl)
theorem dX1_isRequest_37 : decode cX1_isRequest 37 = .ok (.iconst 0, 1) := dk_3 (dk_at dksX1_isRequest_1 15 rfl rfl)
theorem dX1_isRequest_38 : decode cX1_isRequest 38 = .ok (.sipush 1440, 3) := dk_17 5 160 (dk_at dksX1_isRequest_1 16 rfl rfl)
theorem dX1_isRequest_41 : decode cX1_isRequest 41 = .ok (.invokestatic 322, 3) := dk_184 1 66 (dk_at dksX1_isRequest_1 19 rfl rfl)
theorem dX1_isRequest_44 : decode cX1_isRequest 44 = .ok (.ifCond .eq 7, 3) := dk_153 0 7 (dk_at dksX1_isRequest_2 0 rfl rfl)
theorem dX1_isRequest_47 : decode cX1_isRequest 47 = .ok (.iconst 1, 1) := dk_4 (dk_at dksX1_isRequest_2 3 rfl rfl)
theorem dX1_isRequest_48 : decode cX1_isRequest 48 = .ok (.goto 4, 3) := dk_167 0 4 (dk_at dksX1_isRequest_2 4 rfl rfl)
theorem dX1_isRequest_51 : decode cX1_isRequest 51 = .ok (.iconst 0, 1) := dk_3 (dk_at dksX1_isRequest_2 7 rfl rfl)
theorem dX1_isRequest_52 : decode cX1_isRequest 52 = .ok (.ireturn, 1) := dk_172 (dk_at dksX1_isRequest_2 8 rfl rfl)
abbrev cX1_callOf : ByteArray := prog_1_method_78_code
def yX1_callOf : MethodName := ⟨RX1, "callOf", "(IIIII)LRideDesk$Call;"⟩
def dkwX1_callOf_1 : List UInt8 := [184, 1, 181, 21, 5, 50, 42, 180, 0, 15, 183, 1, 185, 176]
abbrev dktX1_callOf_1 : List UInt8 := dkwX1_callOf_1 ++ []
def dkwX1_callOf_0 : List UInt8 := [187, 0, 65, 89, 187, 0, 31, 89, 27, 28, 183, 1, 133, 187, 0, 31, 89, 29, 21, 4, 183, 1, 133]
abbrev dktX1_callOf_0 : List UInt8 := dkwX1_callOf_0 ++ dktX1_callOf_1
theorem dksX1_callOf_0 : cX1_callOf.data.toList.drop 0 = dktX1_callOf_0 := by decide +kernel
theorem dksX1_callOf_1 : cX1_callOf.data.toList.drop 23 = dktX1_callOf_1 := dk_seg dksX1_callOf_0 23 rfl rfl
theorem dX1_callOf_0 : decode cX1_callOf 0 = .ok (.new 65, 3) := dk_187 0 65 (dk_at dksX1_callOf_0 0 rfl rfl)
theorem dX1_callOf_3 : decode cX1_callOf 3 = .ok (.dup, 1) := dk_89 (dk_at dksX1_callOf_0 3 rfl rfl)
theorem dX1_callOf_4 : decode cX1_callOf 4 = .ok (.new 31, 3) := dk_187 0 31 (dk_at dksX1_callOf_0 4 rfl rfl)
theorem dX1_callOf_7 : decode cX1_callOf 7 = .ok (.dup, 1) := dk_89 (dk_at dksX1_callOf_0 7 rfl rfl)
theorem dX1_callOf_8 : decode cX1_callOf 8 = .ok (.iload_n 1, 1) := dk_27 (dk_at dksX1_callOf_0 8 rfl rfl)
theorem dX1_callOf_9 : decode cX1_callOf 9 = .ok (.iload_n 2, 1) := dk_28 (dk_at dksX1_callOf_0 9 rfl rfl)
theorem dX1_callOf_10 : decode cX1_callOf 10 = .ok (.invokespecial 389, 3) := dk_183 1 133 (dk_at dksX1_callOf_0 10 rfl rfl)
theorem dX1_callOf_13 : decode cX1_callOf 13 = .ok (.new 31, 3) := dk_187 0 31 (dk_at dksX1_callOf_0 13 rfl rfl)
theorem dX1_callOf_16 : decode cX1_callOf 16 = .ok (.dup, 1) := dk_89 (dk_at dksX1_callOf_0 16 rfl rfl)
theorem dX1_callOf_17 : decode cX1_callOf 17 = .ok (.iload_n 3, 1) := dk_29 (dk_at dksX1_callOf_0 17 rfl rfl)
theorem dX1_callOf_18 : decode cX1_callOf 18 = .ok (.iload 4, 2) := dk_21 4 (dk_at dksX1_callOf_0 18 rfl rfl)
theorem dX1_callOf_20 : decode cX1_callOf 20 = .ok (.invokespecial 389, 3) := dk_183 1 133 (dk_at dksX1_callOf_0 20 rfl rfl)
theorem dX1_callOf_23 : decode cX1_callOf 23 = .ok (.invokestatic 437, 3) := dk_184 1 181 (dk_at dksX1_callOf_1 0 rfl rfl)
theorem dX1_callOf_26 : decode cX1_callOf 26 = .ok (.iload 5, 2) := dk_21 5 (dk_at dksX1_callOf_1 3 rfl rfl)
theorem dX1_callOf_28 : decode cX1_callOf 28 = .ok (.aaload, 1) := dk_50 (dk_at dksX1_callOf_1 5 rfl rfl)
theorem dX1_callOf_29 : decode cX1_callOf 29 = .ok (.aload_n 0, 1) := dk_42 (dk_at dksX1_callOf_1 6 rfl rfl)
theorem dX1_callOf_30 : decode cX1_callOf 30 = .ok (.getfield 15, 3) := dk_180 0 15 (dk_at dksX1_callOf_1 7 rfl rfl)
theorem dX1_callOf_33 : decode cX1_callOf 33 = .ok (.invokespecial 441, 3) := dk_183 1 185 (dk_at dksX1_callOf_1 10 rfl rfl)
theorem dX1_callOf_36 : decode cX1_callOf 36 = .ok (.areturn, 1) := dk_176 (dk_at dksX1_callOf_1 13 rfl rfl)
abbrev cX1_wouldFit : ByteArray := prog_1_method_79_code
def yX1_wouldFit : MethodName := ⟨RX1, "wouldFit", "(LRideDesk$Call;I)Z"⟩
def dkwX1_wouldFit_1 : List UInt8 := [180, 1, 112, 180, 0, 235, 28, 79, 42, 42, 180, 1, 112, 42, 180, 1, 112, 180, 0, 235, 182, 0, 228, 172]
abbrev dktX1_wouldFit_1 : List UInt8 := dkwX1_wouldFit_1 ++ []
def dkwX1_wouldFit_0 : List UInt8 := [42, 180, 1, 112, 180, 0, 55, 42, 180, 1, 112, 180, 0, 235, 43, 83, 42, 180, 1, 112, 180, 0, 138, 42]
abbrev dktX1_wouldFit_0 : List UInt8 := dkwX1_wouldFit_0 ++ dktX1_wouldFit_1
theorem dksX1_wouldFit_0 : cX1_wouldFit.data.toList.drop 0 = dktX1_wouldFit_0 := by decide +kernel
theorem dksX1_wouldFit_1 : cX1_wouldFit.data.toList.drop 24 = dktX1_wouldFit_1 := dk_seg dksX1_wouldFit_0 24 rfl rfl
theorem dX1_wouldFit_0 : decode cX1_wouldFit 0 = .ok (.aload_n 0, 1) := dk_42 (dk_at dksX1_wouldFit_0 0 rfl rfl)
theorem dX1_wouldFit_1 : decode cX1_wouldFit 1 = .ok (.getfield 368, 3) := dk_180 1 112 (dk_at dksX1_wouldFit_0 1 rfl rfl)
theorem dX1_wouldFit_4 : decode cX1_wouldFit 4 = .ok (.getfield 55, 3) := dk_180 0 55 (dk_at dksX1_wouldFit_0 4 rfl rfl)
theorem dX1_wouldFit_7 : decode cX1_wouldFit 7 = .ok (.aload_n 0, 1) := dk_42 (dk_at dksX1_wouldFit_0 7 rfl rfl)
theorem dX1_wouldFit_8 : decode cX1_wouldFit 8 = .ok (.getfield 368, 3) := dk_180 1 112 (dk_at dksX1_wouldFit_0 8 rfl rfl)
theorem dX1_wouldFit_11 : decode cX1_wouldFit 11 = .ok (.getfield 235, 3) := dk_180 0 235 (dk_at dksX1_wouldFit_0 11 rfl rfl)
theorem dX1_wouldFit_14 : decode cX1_wouldFit 14 = .ok (.aload_n 1, 1) := dk_43 (dk_at dksX1_wouldFit_0 14 rfl rfl)
theorem dX1_wouldFit_15 : decode cX1_wouldFit 15 = .ok (.aastore, 1) := dk_83 (dk_at dksX1_wouldFit_0 15 rfl rfl)
theorem dX1_wouldFit_16 : decode cX1_wouldFit 16 = .ok (.aload_n 0, 1) := dk_42 (dk_at dksX1_wouldFit_0 16 rfl rfl)
theorem dX1_wouldFit_17 : decode cX1_wouldFit 17 = .ok (.getfield 368, 3) := dk_180 1 112 (dk_at dksX1_wouldFit_0 17 rfl rfl)
theorem dX1_wouldFit_20 : decode cX1_wouldFit 20 = .ok (.getfield 138, 3) := dk_180 0 138 (dk_at dksX1_wouldFit_0 20 rfl rfl)
theorem dX1_wouldFit_23 : decode cX1_wouldFit 23 = .ok (.aload_n 0, 1) := dk_42 (dk_at dksX1_wouldFit_0 23 rfl rfl)
theorem dX1_wouldFit_24 : decode cX1_wouldFit 24 = .ok (.getfield 368, 3) := dk_180 1 112 (dk_at dksX1_wouldFit_1 0 rfl rfl)
theorem dX1_wouldFit_27 : decode cX1_wouldFit 27 = .ok (.getfield 235, 3) := dk_180 0 235 (dk_at dksX1_wouldFit_1 3 rfl rfl)
theorem dX1_wouldFit_30 : decode cX1_wouldFit 30 = .ok (.iload_n 2, 1) := dk_28 (dk_at dksX1_wouldFit_1 6 rfl rfl)
theorem dX1_wouldFit_31 : decode cX1_wouldFit 31 = .ok (.iastore, 1) := dk_79 (dk_at dksX1_wouldFit_1 7 rfl rfl)
theorem dX1_wouldFit_32 : decode cX1_wouldFit 32 = .ok (.aload_n 0, 1) := dk_42 (dk_at dksX1_wouldFit_1 8 rfl rfl)
theorem dX1_wouldFit_33 : decode cX1_wouldFit 33 = .ok (.aload_n 0, 1) := dk_42 (dk_at dksX1_wouldFit_1 9 rfl rfl)
theorem dX1_wouldFit_34 : decode cX1_wouldFit 34 = .ok (.getfield 368, 3) := dk_180 1 112 (dk_at dksX1_wouldFit_1 10 rfl rfl)
theorem dX1_wouldFit_37 : decode cX1_wouldFit 37 = .ok (.aload_n 0, 1) := dk_42 (dk_at dksX1_wouldFit_1 13 rfl rfl)
theorem dX1_wouldFit_38 : decode cX1_wouldFit 38 = .ok (.getfield 368, 3) := dk_180 1 112 (dk_at dksX1_wouldFit_1 14 rfl rfl)
theorem dX1_wouldFit_41 : decode cX1_wouldFit 41 = .ok (.getfield 235, 3) := dk_180 0 235 (dk_at dksX1_wouldFit_1 17 rfl rfl)
theorem dX1_wouldFit_44 : decode cX1_wouldFit 44 = .ok (.invokevirtual 228, 3) := dk_182 0 228 (dk_at dksX1_wouldFit_1 20 rfl rfl)
theorem dX1_wouldFit_47 : decode cX1_wouldFit 47 = .ok (.ireturn, 1) := dk_172 (dk_at dksX1_wouldFit_1 23 rfl rfl)
abbrev cX1_offeredVan : ByteArray := prog_1_method_81_code
def yX1_offeredVan : MethodName := ⟨RX1, "offeredVan", "(IIIIII)I"⟩
def dkwX1_offeredVan_2 : List UInt8 := [2, 172]
abbrev dktX1_offeredVan_2 : List UInt8 := dkwX1_offeredVan_2 ++ []
def dkwX1_offeredVan_1 : List UInt8 := [28, 29, 21, 4, 21, 5, 182, 1, 192, 21, 6, 182, 1, 196, 153, 0, 10, 42, 180, 0, 181, 167, 0, 4]
abbrev dktX1_offeredVan_1 : List UInt8 := dkwX1_offeredVan_1 ++ dktX1_offeredVan_2
def dkwX1_offeredVan_0 : List UInt8 := [42, 182, 1, 119, 58, 7, 27, 28, 29, 21, 4, 21, 5, 21, 6, 184, 1, 188, 184, 1, 130, 42, 42, 27]
abbrev dktX1_offeredVan_0 : List UInt8 := dkwX1_offeredVan_0 ++ dktX1_offeredVan_1
theorem dksX1_offeredVan_0 : cX1_offeredVan.data.toList.drop 0 = dktX1_offeredVan_0 := by decide +kernel
theorem dksX1_offeredVan_1 : cX1_offeredVan.data.toList.drop 24 = dktX1_offeredVan_1 := dk_seg dksX1_offeredVan_0 24 rfl rfl
theorem dksX1_offeredVan_2 : cX1_offeredVan.data.toList.drop 48 = dktX1_offeredVan_2 := dk_seg dksX1_offeredVan_1 24 rfl rfl
theorem dX1_offeredVan_0 : decode cX1_offeredVan 0 = .ok (.aload_n 0, 1) := dk_42 (dk_at dksX1_offeredVan_0 0 rfl rfl)
theorem dX1_offeredVan_1 : decode cX1_offeredVan 1 = .ok (.invokevirtual 375, 3) := dk_182 1 119 (dk_at dksX1_offeredVan_0 1 rfl rfl)
theorem dX1_offeredVan_4 : decode cX1_offeredVan 4 = .ok (.astore 7, 2) := dk_58 7 (dk_at dksX1_offeredVan_0 4 rfl rfl)
theorem dX1_offeredVan_6 : decode cX1_offeredVan 6 = .ok (.iload_n 1, 1) := dk_27 (dk_at dksX1_offeredVan_0 6 rfl rfl)
theorem dX1_offeredVan_7 : decode cX1_offeredVan 7 = .ok (.iload_n 2, 1) := dk_28 (dk_at dksX1_offeredVan_0 7 rfl rfl)
theorem dX1_offeredVan_8 : decode cX1_offeredVan 8 = .ok (.iload_n 3, 1) := dk_29 (dk_at dksX1_offeredVan_0 8 rfl rfl)
theorem dX1_offeredVan_9 : decode cX1_offeredVan 9 = .ok (.iload 4, 2) := dk_21 4 (dk_at dksX1_offeredVan_0 9 rfl rfl)
theorem dX1_offeredVan_11 : decode cX1_offeredVan 11 = .ok (.iload 5, 2) := dk_21 5 (dk_at dksX1_offeredVan_0 11 rfl rfl)
theorem dX1_offeredVan_13 : decode cX1_offeredVan 13 = .ok (.iload 6, 2) := dk_21 6 (dk_at dksX1_offeredVan_0 13 rfl rfl)
theorem dX1_offeredVan_15 : decode cX1_offeredVan 15 = .ok (.invokestatic 444, 3) := dk_184 1 188 (dk_at dksX1_offeredVan_0 15 rfl rfl)
theorem dX1_offeredVan_18 : decode cX1_offeredVan 18 = .ok (.invokestatic 386, 3) := dk_184 1 130 (dk_at dksX1_offeredVan_0 18 rfl rfl)
theorem dX1_offeredVan_21 : decode cX1_offeredVan 21 = .ok (.aload_n 0, 1) := dk_42 (dk_at dksX1_offeredVan_0 21 rfl rfl)
theorem dX1_offeredVan_22 : decode cX1_offeredVan 22 = .ok (.aload_n 0, 1) := dk_42 (dk_at dksX1_offeredVan_0 22 rfl rfl)
theorem dX1_offeredVan_23 : decode cX1_offeredVan 23 = .ok (.iload_n 1, 1) := dk_27 (dk_at dksX1_offeredVan_0 23 rfl rfl)
theorem dX1_offeredVan_24 : decode cX1_offeredVan 24 = .ok (.iload_n 2, 1) := dk_28 (dk_at dksX1_offeredVan_1 0 rfl rfl)
theorem dX1_offeredVan_25 : decode cX1_offeredVan 25 = .ok (.iload_n 3, 1) := dk_29 (dk_at dksX1_offeredVan_1 1 rfl rfl)
theorem dX1_offeredVan_26 : decode cX1_offeredVan 26 = .ok (.iload 4, 2) := dk_21 4 (dk_at dksX1_offeredVan_1 2 rfl rfl)
theorem dX1_offeredVan_28 : decode cX1_offeredVan 28 = .ok (.iload 5, 2) := dk_21 5 (dk_at dksX1_offeredVan_1 4 rfl rfl)
theorem dX1_offeredVan_30 : decode cX1_offeredVan 30 = .ok (.invokevirtual 448, 3) := dk_182 1 192 (dk_at dksX1_offeredVan_1 6 rfl rfl)
theorem dX1_offeredVan_33 : decode cX1_offeredVan 33 = .ok (.iload 6, 2) := dk_21 6 (dk_at dksX1_offeredVan_1 9 rfl rfl)
theorem dX1_offeredVan_35 : decode cX1_offeredVan 35 = .ok (.invokevirtual 452, 3) := dk_182 1 196 (dk_at dksX1_offeredVan_1 11 rfl rfl)
theorem dX1_offeredVan_38 : decode cX1_offeredVan 38 = .ok (.ifCond .eq 10, 3) := dk_153 0 10 (dk_at dksX1_offeredVan_1 14 rfl rfl)
theorem dX1_offeredVan_41 : decode cX1_offeredVan 41 = .ok (.aload_n 0, 1) := dk_42 (dk_at dksX1_offeredVan_1 17 rfl rfl)
theorem dX1_offeredVan_42 : decode cX1_offeredVan 42 = .ok (.getfield 181, 3) := dk_180 0 181 (dk_at dksX1_offeredVan_1 18 rfl rfl)
theorem dX1_offeredVan_45 : decode cX1_offeredVan 45 = .ok (.goto 4, 3) := dk_167 0 4 (dk_at dksX1_offeredVan_1 21 rfl rfl)
theorem dX1_offeredVan_48 : decode cX1_offeredVan 48 = .ok (.iconst (-1), 1) := dk_2 (dk_at dksX1_offeredVan_2 0 rfl rfl)
theorem dX1_offeredVan_49 : decode cX1_offeredVan 49 = .ok (.ireturn, 1) := dk_172 (dk_at dksX1_offeredVan_2 1 rfl rfl)
abbrev cX1_soonest : ByteArray := prog_1_method_82_code
def yX1_soonest : MethodName := ⟨RX1, "soonest", "(IIIIII)I"⟩
def dkwX1_soonest_3 : List UInt8 := [132, 10, 1, 167, 255, 235, 21, 10, 21, 9, 163, 0, 8, 21, 10, 167, 0, 4, 2, 172]
abbrev dktX1_soonest_3 : List UInt8 := dkwX1_soonest_3 ++ []
def dkwX1_soonest_2 : List UInt8 := [21, 6, 54, 10, 21, 10, 21, 9, 163, 0, 20, 42, 25, 8, 21, 10, 182, 1, 196, 154, 0, 9]
abbrev dktX1_soonest_2 : List UInt8 := dkwX1_soonest_2 ++ dktX1_soonest_3
def dkwX1_soonest_1 : List UInt8 := [29, 21, 4, 21, 5, 182, 1, 192, 58, 8, 17, 5, 160, 21, 6, 16, 60, 96, 184, 0, 255, 54, 9]
abbrev dktX1_soonest_1 : List UInt8 := dkwX1_soonest_1 ++ dktX1_soonest_2
def dkwX1_soonest_0 : List UInt8 := [42, 182, 1, 119, 58, 7, 27, 28, 29, 21, 4, 21, 5, 21, 6, 184, 1, 188, 184, 1, 130, 42, 27, 28]
abbrev dktX1_soonest_0 : List UInt8 := dkwX1_soonest_0 ++ dktX1_soonest_1
theorem dksX1_soonest_0 : cX1_soonest.data.toList.drop 0 = dktX1_soonest_0 := by decide +kernel
theorem dksX1_soonest_1 : cX1_soonest.data.toList.drop 24 = dktX1_soonest_1 := dk_seg dksX1_soonest_0 24 rfl rfl
theorem dksX1_soonest_2 : cX1_soonest.data.toList.drop 47 = dktX1_soonest_2 := dk_seg dksX1_soonest_1 23 rfl rfl
theorem dksX1_soonest_3 : cX1_soonest.data.toList.drop 69 = dktX1_soonest_3 := dk_seg dksX1_soonest_2 22 rfl rfl
theorem dX1_soonest_0 : decode cX1_soonest 0 = .ok (.aload_n 0, 1) := dk_42 (dk_at dksX1_soonest_0 0 rfl rfl)
theorem dX1_soonest_1 : decode cX1_soonest 1 = .ok (.invokevirtual 375, 3) := dk_182 1 119 (dk_at dksX1_soonest_0 1 rfl rfl)
theorem dX1_soonest_4 : decode cX1_soonest 4 = .ok (.astore 7, 2) := dk_58 7 (dk_at dksX1_soonest_0 4 rfl rfl)
theorem dX1_soonest_6 : decode cX1_soonest 6 = .ok (.iload_n 1, 1) := dk_27 (dk_at dksX1_soonest_0 6 rfl rfl)
theorem dX1_soonest_7 : decode cX1_soonest 7 = .ok (.iload_n 2, 1) := dk_28 (dk_at dksX1_soonest_0 7 rfl rfl)
theorem dX1_soonest_8 : decode cX1_soonest 8 = .ok (.iload_n 3, 1) := dk_29 (dk_at dksX1_soonest_0 8 rfl rfl)
theorem dX1_soonest_9 : decode cX1_soonest 9 = .ok (.iload 4, 2) := dk_21 4 (dk_at dksX1_soonest_0 9 rfl rfl)
theorem dX1_soonest_11 : decode cX1_soonest 11 = .ok (.iload 5, 2) := dk_21 5 (dk_at dksX1_soonest_0 11 rfl rfl)
theorem dX1_soonest_13 : decode cX1_soonest 13 = .ok (.iload 6, 2) := dk_21 6 (dk_at dksX1_soonest_0 13 rfl rfl)
theorem dX1_soonest_15 : decode cX1_soonest 15 = .ok (.invokestatic 444, 3) := dk_184 1 188 (dk_at dksX1_soonest_0 15 rfl rfl)
theorem dX1_soonest_18 : decode cX1_soonest 18 = .ok (.invokestatic 386, 3) := dk_184 1 130 (dk_at dksX1_soonest_0 18 rfl rfl)
theorem dX1_soonest_21 : decode cX1_soonest 21 = .ok (.aload_n 0, 1) := dk_42 (dk_at dksX1_soonest_0 21 rfl rfl)
theorem dX1_soonest_22 : decode cX1_soonest 22 = .ok (.iload_n 1, 1) := dk_27 (dk_at dksX1_soonest_0 22 rfl rfl)
theorem dX1_soonest_23 : decode cX1_soonest 23 = .ok (.iload_n 2, 1) := dk_28 (dk_at dksX1_soonest_0 23 rfl rfl)
theorem dX1_soonest_24 : decode cX1_soonest 24 = .ok (.iload_n 3, 1) := dk_29 (dk_at dksX1_soonest_1 0 rfl rfl)
theorem dX1_soonest_25 : decode cX1_soonest 25 = .ok (.iload 4, 2) := dk_21 4 (dk_at dksX1_soonest_1 1 rfl rfl)
theorem dX1_soonest_27 : decode cX1_soonest 27 = .ok (.iload 5, 2) := dk_21 5 (dk_at dksX1_soonest_1 3 rfl rfl)
theorem dX1_soonest_29 : decode cX1_soonest 29 = .ok (.invokevirtual 448, 3) := dk_182 1 192 (dk_at dksX1_soonest_1 5 rfl rfl)
theorem dX1_soonest_32 : decode cX1_soonest 32 = .ok (.astore 8, 2) := dk_58 8 (dk_at dksX1_soonest_1 8 rfl rfl)
theorem dX1_soonest_34 : decode cX1_soonest 34 = .ok (.sipush 1440, 3) := dk_17 5 160 (dk_at dksX1_soonest_1 10 rfl rfl)
theorem dX1_soonest_37 : decode cX1_soonest 37 = .ok (.iload 6, 2) := dk_21 6 (dk_at dksX1_soonest_1 13 rfl rfl)
theorem dX1_soonest_39 : decode cX1_soonest 39 = .ok (.bipush 60, 2) := dk_16 60 (dk_at dksX1_soonest_1 15 rfl rfl)
theorem dX1_soonest_41 : decode cX1_soonest 41 = .ok (.iadd, 1) := dk_96 (dk_at dksX1_soonest_1 17 rfl rfl)
theorem dX1_soonest_42 : decode cX1_soonest 42 = .ok (.invokestatic 255, 3) := dk_184 0 255 (dk_at dksX1_soonest_1 18 rfl rfl)
theorem dX1_soonest_45 : decode cX1_soonest 45 = .ok (.istore 9, 2) := dk_54 9 (dk_at dksX1_soonest_1 21 rfl rfl)
theorem dX1_soonest_47 : decode cX1_soonest 47 = .ok (.iload 6, 2) := dk_21 6 (dk_at dksX1_soonest_2 0 rfl rfl)
theorem dX1_soonest_49 : decode cX1_soonest 49 = .ok (.istore 10, 2) := dk_54 10 (dk_at dksX1_soonest_2 2 rfl rfl)
theorem dX1_soonest_51 : decode cX1_soonest 51 = .ok (.iload 10, 2) := dk_21 10 (dk_at dksX1_soonest_2 4 rfl rfl)
theorem dX1_soonest_53 : decode cX1_soonest 53 = .ok (.iload 9, 2) := dk_21 9 (dk_at dksX1_soonest_2 6 rfl rfl)
theorem dX1_soonest_55 : decode cX1_soonest 55 = .ok (.if_icmp .gt 20, 3) := dk_163 0 20 (dk_at dksX1_soonest_2 8 rfl rfl)
theorem dX1_soonest_58 : decode cX1_soonest 58 = .ok (.aload_n 0, 1) := dk_42 (dk_at dksX1_soonest_2 11 rfl rfl)
theorem dX1_soonest_59 : decode cX1_soonest 59 = .ok (.aload 8, 2) := dk_25 8 (dk_at dksX1_soonest_2 12 rfl rfl)
theorem dX1_soonest_61 : decode cX1_soonest 61 = .ok (.iload 10, 2) := dk_21 10 (dk_at dksX1_soonest_2 14 rfl rfl)
theorem dX1_soonest_63 : decode cX1_soonest 63 = .ok (.invokevirtual 452, 3) := dk_182 1 196 (dk_at dksX1_soonest_2 16 rfl rfl)
theorem dX1_soonest_66 : decode cX1_soonest 66 = .ok (.ifCond .ne 9, 3) := dk_154 0 9 (dk_at dksX1_soonest_2 19 rfl rfl)
theorem dX1_soonest_69 : decode cX1_soonest 69 = .ok (.iinc 10 1, 3) := dk_132 10 1 (dk_at dksX1_soonest_3 0 rfl rfl)
theorem dX1_soonest_72 : decode cX1_soonest 72 = .ok (.goto (-21), 3) := dk_167 255 235 (dk_at dksX1_soonest_3 3 rfl rfl)
theorem dX1_soonest_75 : decode cX1_soonest 75 = .ok (.iload 10, 2) := dk_21 10 (dk_at dksX1_soonest_3 6 rfl rfl)
theorem dX1_soonest_77 : decode cX1_soonest 77 = .ok (.iload 9, 2) := dk_21 9 (dk_at dksX1_soonest_3 8 rfl rfl)
theorem dX1_soonest_79 : decode cX1_soonest 79 = .ok (.if_icmp .gt 8, 3) := dk_163 0 8 (dk_at dksX1_soonest_3 10 rfl rfl)
theorem dX1_soonest_82 : decode cX1_soonest 82 = .ok (.iload 10, 2) := dk_21 10 (dk_at dksX1_soonest_3 13 rfl rfl)
theorem dX1_soonest_84 : decode cX1_soonest 84 = .ok (.goto 4, 3) := dk_167 0 4 (dk_at dksX1_soonest_3 15 rfl rfl)
theorem dX1_soonest_87 : decode cX1_soonest 87 = .ok (.iconst (-1), 1) := dk_2 (dk_at dksX1_soonest_3 18 rfl rfl)
theorem dX1_soonest_88 : decode cX1_soonest 88 = .ok (.ireturn, 1) := dk_172 (dk_at dksX1_soonest_3 19 rfl rfl)
abbrev cX1_lateCalls : ByteArray := prog_1_method_84_code
def yX1_lateCalls : MethodName := ⟨RX1, "lateCalls", "()I"⟩
def dkwX1_lateCalls_2 : List UInt8 := [28, 172]
abbrev dktX1_lateCalls_2 : List UInt8 := dkwX1_lateCalls_2 ++ []
def dkwX1_lateCalls_1 : List UInt8 := [160, 0, 18, 42, 43, 29, 182, 1, 203, 158, 0, 9, 28, 4, 29, 120, 128, 61, 132, 3, 1, 167, 255, 220]
abbrev dktX1_lateCalls_1 : List UInt8 := dkwX1_lateCalls_1 ++ dktX1_lateCalls_2
def dkwX1_lateCalls_0 : List UInt8 := [42, 182, 1, 119, 76, 3, 61, 3, 62, 29, 43, 180, 0, 235, 162, 0, 34, 43, 180, 0, 232, 29, 46, 4]
abbrev dktX1_lateCalls_0 : List UInt8 := dkwX1_lateCalls_0 ++ dktX1_lateCalls_1
theorem dksX1_lateCalls_0 : cX1_lateCalls.data.toList.drop 0 = dktX1_lateCalls_0 := by decide +kernel
theorem dksX1_lateCalls_1 : cX1_lateCalls.data.toList.drop 24 = dktX1_lateCalls_1 := dk_seg dksX1_lateCalls_0 24 rfl rfl
theorem dksX1_lateCalls_2 : cX1_lateCalls.data.toList.drop 48 = dktX1_lateCalls_2 := dk_seg dksX1_lateCalls_1 24 rfl rfl
theorem dX1_lateCalls_0 : decode cX1_lateCalls 0 = .ok (.aload_n 0, 1) := dk_42 (dk_at dksX1_lateCalls_0 0 rfl rfl)
theorem dX1_lateCalls_1 : decode cX1_lateCalls 1 = .ok (.invokevirtual 375, 3) := dk_182 1 119 (dk_at dksX1_lateCalls_0 1 rfl rfl)
theorem dX1_lateCalls_4 : decode cX1_lateCalls 4 = .ok (.astore_n 1, 1) := dk_76 (dk_at dksX1_lateCalls_0 4 rfl rfl)
theorem dX1_lateCalls_5 : decode cX1_lateCalls 5 = .ok (.iconst 0, 1) := dk_3 (dk_at dksX1_lateCalls_0 5 rfl rfl)
theorem dX1_lateCalls_6 : decode cX1_lateCalls 6 = .ok (.istore_n 2, 1) := dk_61 (dk_at dksX1_lateCalls_0 6 rfl rfl)
theorem dX1_lateCalls_7 : decode cX1_lateCalls 7 = .ok (.iconst 0, 1) := dk_3 (dk_at dksX1_lateCalls_0 7 rfl rfl)
theorem dX1_lateCalls_8 : decode cX1_lateCalls 8 = .ok (.istore_n 3, 1) := dk_62 (dk_at dksX1_lateCalls_0 8 rfl rfl)
theorem dX1_lateCalls_9 : decode cX1_lateCalls 9 = .ok (.iload_n 3, 1) := dk_29 (dk_at dksX1_lateCalls_0 9 rfl rfl)
theorem dX1_lateCalls_10 : decode cX1_lateCalls 10 = .ok (.aload_n 1, 1) := dk_43 (dk_at dksX1_lateCalls_0 10 rfl rfl)
theorem dX1_lateCalls_11 : decode cX1_lateCalls 11 = .ok (.getfield 235, 3) := dk_180 0 235 (dk_at dksX1_lateCalls_0 11 rfl rfl)
theorem dX1_lateCalls_14 : decode cX1_lateCalls 14 = .ok (.if_icmp .ge 34, 3) := dk_162 0 34 (dk_at dksX1_lateCalls_0 14 rfl rfl)
theorem dX1_lateCalls_17 : decode cX1_lateCalls 17 = .ok (.aload_n 1, 1) := dk_43 (dk_at dksX1_lateCalls_0 17 rfl rfl)
theorem dX1_lateCalls_18 : decode cX1_lateCalls 18 = .ok (.getfield 232, 3) := dk_180 0 232 (dk_at dksX1_lateCalls_0 18 rfl rfl)
theorem dX1_lateCalls_21 : decode cX1_lateCalls 21 = .ok (.iload_n 3, 1) := dk_29 (dk_at dksX1_lateCalls_0 21 rfl rfl)
theorem dX1_lateCalls_22 : decode cX1_lateCalls 22 = .ok (.iaload, 1) := dk_46 (dk_at dksX1_lateCalls_0 22 rfl rfl)
theorem dX1_lateCalls_23 : decode cX1_lateCalls 23 = .ok (.iconst 1, 1) := dk_4 (dk_at dksX1_lateCalls_0 23 rfl rfl)
theorem dX1_lateCalls_24 : decode cX1_lateCalls 24 = .ok (.if_icmp .ne 18, 3) := dk_160 0 18 (dk_at dksX1_lateCalls_1 0 rfl rfl)
theorem dX1_lateCalls_27 : decode cX1_lateCalls 27 = .ok (.aload_n 0, 1) := dk_42 (dk_at dksX1_lateCalls_1 3 rfl rfl)
theorem dX1_lateCalls_28 : decode cX1_lateCalls 28 = .ok (.aload_n 1, 1) := dk_43 (dk_at dksX1_lateCalls_1 4 rfl rfl)
theorem dX1_lateCalls_29 : decode cX1_lateCalls 29 = .ok (.iload_n 3, 1) := dk_29 (dk_at dksX1_lateCalls_1 5 rfl rfl)
theorem dX1_lateCalls_30 : decode cX1_lateCalls 30 = .ok (.invokevirtual 459, 3) := dk_182 1 203 (dk_at dksX1_lateCalls_1 6 rfl rfl)
theorem dX1_lateCalls_33 : decode cX1_lateCalls 33 = .ok (.ifCond .le 9, 3) := dk_158 0 9 (dk_at dksX1_lateCalls_1 9 rfl rfl)
theorem dX1_lateCalls_36 : decode cX1_lateCalls 36 = .ok (.iload_n 2, 1) := dk_28 (dk_at dksX1_lateCalls_1 12 rfl rfl)
theorem dX1_lateCalls_37 : decode cX1_lateCalls 37 = .ok (.iconst 1, 1) := dk_4 (dk_at dksX1_lateCalls_1 13 rfl rfl)
theorem dX1_lateCalls_38 : decode cX1_lateCalls 38 = .ok (.iload_n 3, 1) := dk_29 (dk_at dksX1_lateCalls_1 14 rfl rfl)
theorem dX1_lateCalls_39 : decode cX1_lateCalls 39 = .ok (.ishl, 1) := dk_120 (dk_at dksX1_lateCalls_1 15 rfl rfl)
theorem dX1_lateCalls_40 : decode cX1_lateCalls 40 = .ok (.ior, 1) := dk_128 (dk_at dksX1_lateCalls_1 16 rfl rfl)
theorem dX1_lateCalls_41 : decode cX1_lateCalls 41 = .ok (.istore_n 2, 1) := dk_61 (dk_at dksX1_lateCalls_1 17 rfl rfl)
theorem dX1_lateCalls_42 : decode cX1_lateCalls 42 = .ok (.iinc 3 1, 3) := dk_132 3 1 (dk_at dksX1_lateCalls_1 18 rfl rfl)
theorem dX1_lateCalls_45 : decode cX1_lateCalls 45 = .ok (.goto (-36), 3) := dk_167 255 220 (dk_at dksX1_lateCalls_1 21 rfl rfl)
theorem dX1_lateCalls_48 : decode cX1_lateCalls 48 = .ok (.iload_n 2, 1) := dk_28 (dk_at dksX1_lateCalls_2 0 rfl rfl)
theorem dX1_lateCalls_49 : decode cX1_lateCalls 49 = .ok (.ireturn, 1) := dk_172 (dk_at dksX1_lateCalls_2 1 rfl rfl)
abbrev cX1_lateness : ByteArray := prog_1_method_83_code
def yX1_lateness : MethodName := ⟨RX1, "lateness", "(LRideDesk$State;I)I"⟩
def dkwX1_lateness_1 : List UInt8 := [180, 1, 200, 100, 184, 0, 96, 172]
abbrev dktX1_lateness_1 : List UInt8 := dkwX1_lateness_1 ++ []
def dkwX1_lateness_0 : List UInt8 := [3, 42, 43, 28, 4, 182, 1, 156, 43, 180, 0, 238, 28, 46, 100, 42, 180, 0, 15, 180, 0, 141]
abbrev dktX1_lateness_0 : List UInt8 := dkwX1_lateness_0 ++ dktX1_lateness_1
theorem dksX1_lateness_0 : cX1_lateness.data.toList.drop 0 = dktX1_lateness_0 := by decide +kernel
theorem dksX1_lateness_1 : cX1_lateness.data.toList.drop 22 = dktX1_lateness_1 := dk_seg dksX1_lateness_0 22 rfl rfl
theorem dX1_lateness_0 : decode cX1_lateness 0 = .ok (.iconst 0, 1) := dk_3 (dk_at dksX1_lateness_0 0 rfl rfl)
theorem dX1_lateness_1 : decode cX1_lateness 1 = .ok (.aload_n 0, 1) := dk_42 (dk_at dksX1_lateness_0 1 rfl rfl)
theorem dX1_lateness_2 : decode cX1_lateness 2 = .ok (.aload_n 1, 1) := dk_43 (dk_at dksX1_lateness_0 2 rfl rfl)
theorem dX1_lateness_3 : decode cX1_lateness 3 = .ok (.iload_n 2, 1) := dk_28 (dk_at dksX1_lateness_0 3 rfl rfl)
theorem dX1_lateness_4 : decode cX1_lateness 4 = .ok (.iconst 1, 1) := dk_4 (dk_at dksX1_lateness_0 4 rfl rfl)
theorem dX1_lateness_5 : decode cX1_lateness 5 = .ok (.invokevirtual 412, 3) := dk_182 1 156 (dk_at dksX1_lateness_0 5 rfl rfl)
theorem dX1_lateness_8 : decode cX1_lateness 8 = .ok (.aload_n 1, 1) := dk_43 (dk_at dksX1_lateness_0 8 rfl rfl)
theorem dX1_lateness_9 : decode cX1_lateness 9 = .ok (.getfield 238, 3) := dk_180 0 238 (dk_at dksX1_lateness_0 9 rfl rfl)
theorem dX1_lateness_12 : decode cX1_lateness 12 = .ok (.iload_n 2, 1) := dk_28 (dk_at dksX1_lateness_0 12 rfl rfl)
theorem dX1_lateness_13 : decode cX1_lateness 13 = .ok (.iaload, 1) := dk_46 (dk_at dksX1_lateness_0 13 rfl rfl)
theorem dX1_lateness_14 : decode cX1_lateness 14 = .ok (.isub, 1) := dk_100 (dk_at dksX1_lateness_0 14 rfl rfl)
theorem dX1_lateness_15 : decode cX1_lateness 15 = .ok (.aload_n 0, 1) := dk_42 (dk_at dksX1_lateness_0 15 rfl rfl)
theorem dX1_lateness_16 : decode cX1_lateness 16 = .ok (.getfield 15, 3) := dk_180 0 15 (dk_at dksX1_lateness_0 16 rfl rfl)
theorem dX1_lateness_19 : decode cX1_lateness 19 = .ok (.getfield 141, 3) := dk_180 0 141 (dk_at dksX1_lateness_0 19 rfl rfl)
theorem dX1_lateness_22 : decode cX1_lateness 22 = .ok (.getfield 456, 3) := dk_180 1 200 (dk_at dksX1_lateness_1 0 rfl rfl)
theorem dX1_lateness_25 : decode cX1_lateness 25 = .ok (.isub, 1) := dk_100 (dk_at dksX1_lateness_1 3 rfl rfl)
theorem dX1_lateness_26 : decode cX1_lateness 26 = .ok (.invokestatic 96, 3) := dk_184 0 96 (dk_at dksX1_lateness_1 4 rfl rfl)
theorem dX1_lateness_29 : decode cX1_lateness 29 = .ok (.ireturn, 1) := dk_172 (dk_at dksX1_lateness_1 7 rfl rfl)
abbrev cX1_expectedCredits : ByteArray := prog_1_method_85_code
def yX1_expectedCredits : MethodName := ⟨RX1, "expectedCredits", "()I"⟩
def dkwX1_expectedCredits_2 : List UInt8 := [167, 255, 223, 28, 172]
abbrev dktX1_expectedCredits_2 : List UInt8 := dkwX1_expectedCredits_2 ++ []
def dkwX1_expectedCredits_1 : List UInt8 := [180, 0, 141, 180, 1, 21, 42, 43, 29, 184, 1, 9, 182, 1, 203, 104, 96, 61, 29, 29, 4, 100, 126, 62]
abbrev dktX1_expectedCredits_1 : List UInt8 := dkwX1_expectedCredits_1 ++ dktX1_expectedCredits_2
def dkwX1_expectedCredits_0 : List UInt8 := [42, 182, 1, 119, 76, 42, 182, 1, 206, 61, 42, 182, 1, 209, 62, 29, 153, 0, 35, 28, 42, 180, 0, 15]
abbrev dktX1_expectedCredits_0 : List UInt8 := dkwX1_expectedCredits_0 ++ dktX1_expectedCredits_1
theorem dksX1_expectedCredits_0 : cX1_expectedCredits.data.toList.drop 0 = dktX1_expectedCredits_0 := by decide +kernel
theorem dksX1_expectedCredits_1 : cX1_expectedCredits.data.toList.drop 24 = dktX1_expectedCredits_1 := dk_seg dksX1_expectedCredits_0 24 rfl rfl
theorem dksX1_expectedCredits_2 : cX1_expectedCredits.data.toList.drop 48 = dktX1_expectedCredits_2 := dk_seg dksX1_expectedCredits_1 24 rfl rfl
theorem dX1_expectedCredits_0 : decode cX1_expectedCredits 0 = .ok (.aload_n 0, 1) := dk_42 (dk_at dksX1_expectedCredits_0 0 rfl rfl)
theorem dX1_expectedCredits_1 : decode cX1_expectedCredits 1 = .ok (.invokevirtual 375, 3) := dk_182 1 119 (dk_at dksX1_expectedCredits_0 1 rfl rfl)
theorem dX1_expectedCredits_4 : decode cX1_expectedCredits 4 = .ok (.astore_n 1, 1) := dk_76 (dk_at dksX1_expectedCredits_0 4 rfl rfl)
theorem dX1_expectedCredits_5 : decode cX1_expectedCredits 5 = .ok (.aload_n 0, 1) := dk_42 (dk_at dksX1_expectedCredits_0 5 rfl rfl)
theorem dX1_expectedCredits_6 : decode cX1_expectedCredits 6 = .ok (.invokevirtual 462, 3) := dk_182 1 206 (dk_at dksX1_expectedCredits_0 6 rfl rfl)
theorem dX1_expectedCredits_9 : decode cX1_expectedCredits 9 = .ok (.istore_n 2, 1) := dk_61 (dk_at dksX1_expectedCredits_0 9 rfl rfl)
theorem dX1_expectedCredits_10 : decode cX1_expectedCredits 10 = .ok (.aload_n 0, 1) := dk_42 (dk_at dksX1_expectedCredits_0 10 rfl rfl)
theorem dX1_expectedCredits_11 : decode cX1_expectedCredits 11 = .ok (.invokevirtual 465, 3) := dk_182 1 209 (dk_at dksX1_expectedCredits_0 11 rfl rfl)
theorem dX1_expectedCredits_14 : decode cX1_expectedCredits 14 = .ok (.istore_n 3, 1) := dk_62 (dk_at dksX1_expectedCredits_0 14 rfl rfl)
theorem dX1_expectedCredits_15 : decode cX1_expectedCredits 15 = .ok (.iload_n 3, 1) := dk_29 (dk_at dksX1_expectedCredits_0 15 rfl rfl)
theorem dX1_expectedCredits_16 : decode cX1_expectedCredits 16 = .ok (.ifCond .eq 35, 3) := dk_153 0 35 (dk_at dksX1_expectedCredits_0 16 rfl rfl)
theorem dX1_expectedCredits_19 : decode cX1_expectedCredits 19 = .ok (.iload_n 2, 1) := dk_28 (dk_at dksX1_expectedCredits_0 19 rfl rfl)
theorem dX1_expectedCredits_20 : decode cX1_expectedCredits 20 = .ok (.aload_n 0, 1) := dk_42 (dk_at dksX1_expectedCredits_0 20 rfl rfl)
theorem dX1_expectedCredits_21 : decode cX1_expectedCredits 21 = .ok (.getfield 15, 3) := dk_180 0 15 (dk_at dksX1_expectedCredits_0 21 rfl rfl)
theorem dX1_expectedCredits_24 : decode cX1_expectedCredits 24 = .ok (.getfield 141, 3) := dk_180 0 141 (dk_at dksX1_expectedCredits_1 0 rfl rfl)
theorem dX1_expectedCredits_27 : decode cX1_expectedCredits 27 = .ok (.getfield 277, 3) := dk_180 1 21 (dk_at dksX1_expectedCredits_1 3 rfl rfl)
theorem dX1_expectedCredits_30 : decode cX1_expectedCredits 30 = .ok (.aload_n 0, 1) := dk_42 (dk_at dksX1_expectedCredits_1 6 rfl rfl)
theorem dX1_expectedCredits_31 : decode cX1_expectedCredits 31 = .ok (.aload_n 1, 1) := dk_43 (dk_at dksX1_expectedCredits_1 7 rfl rfl)
theorem dX1_expectedCredits_32 : decode cX1_expectedCredits 32 = .ok (.iload_n 3, 1) := dk_29 (dk_at dksX1_expectedCredits_1 8 rfl rfl)
theorem dX1_expectedCredits_33 : decode cX1_expectedCredits 33 = .ok (.invokestatic 265, 3) := dk_184 1 9 (dk_at dksX1_expectedCredits_1 9 rfl rfl)
theorem dX1_expectedCredits_36 : decode cX1_expectedCredits 36 = .ok (.invokevirtual 459, 3) := dk_182 1 203 (dk_at dksX1_expectedCredits_1 12 rfl rfl)
theorem dX1_expectedCredits_39 : decode cX1_expectedCredits 39 = .ok (.imul, 1) := dk_104 (dk_at dksX1_expectedCredits_1 15 rfl rfl)
theorem dX1_expectedCredits_40 : decode cX1_expectedCredits 40 = .ok (.iadd, 1) := dk_96 (dk_at dksX1_expectedCredits_1 16 rfl rfl)
theorem dX1_expectedCredits_41 : decode cX1_expectedCredits 41 = .ok (.istore_n 2, 1) := dk_61 (dk_at dksX1_expectedCredits_1 17 rfl rfl)
theorem dX1_expectedCredits_42 : decode cX1_expectedCredits 42 = .ok (.iload_n 3, 1) := dk_29 (dk_at dksX1_expectedCredits_1 18 rfl rfl)
theorem dX1_expectedCredits_43 : decode cX1_expectedCredits 43 = .ok (.iload_n 3, 1) := dk_29 (dk_at dksX1_expectedCredits_1 19 rfl rfl)
theorem dX1_expectedCredits_44 : decode cX1_expectedCredits 44 = .ok (.iconst 1, 1) := dk_4 (dk_at dksX1_expectedCredits_1 20 rfl rfl)
theorem dX1_expectedCredits_45 : decode cX1_expectedCredits 45 = .ok (.isub, 1) := dk_100 (dk_at dksX1_expectedCredits_1 21 rfl rfl)
theorem dX1_expectedCredits_46 : decode cX1_expectedCredits 46 = .ok (.iand, 1) := dk_126 (dk_at dksX1_expectedCredits_1 22 rfl rfl)
theorem dX1_expectedCredits_47 : decode cX1_expectedCredits 47 = .ok (.istore_n 3, 1) := dk_62 (dk_at dksX1_expectedCredits_1 23 rfl rfl)
theorem dX1_expectedCredits_48 : decode cX1_expectedCredits 48 = .ok (.goto (-33), 3) := dk_167 255 223 (dk_at dksX1_expectedCredits_2 0 rfl rfl)
theorem dX1_expectedCredits_51 : decode cX1_expectedCredits 51 = .ok (.iload_n 2, 1) := dk_28 (dk_at dksX1_expectedCredits_2 3 rfl rfl)
theorem dX1_expectedCredits_52 : decode cX1_expectedCredits 52 = .ok (.ireturn, 1) := dk_172 (dk_at dksX1_expectedCredits_2 4 rfl rfl)
abbrev cX1_freeVan : ByteArray := prog_1_method_87_code
def yX1_freeVan : MethodName := ⟨RX1, "freeVan", "(II)I"⟩
def dkwX1_freeVan_4 : List UInt8 := [132, 6, 1, 167, 255, 204, 21, 4, 172]
abbrev dktX1_freeVan_4 : List UInt8 := dkwX1_freeVan_4 ++ []
def dkwX1_freeVan_3 : List UInt8 := [182, 1, 225, 54, 7, 21, 7, 21, 5, 163, 0, 6, 167, 0, 11, 21, 6, 54, 4, 21, 7, 54, 5]
abbrev dktX1_freeVan_3 : List UInt8 := dkwX1_freeVan_3 ++ dktX1_freeVan_4
def dkwX1_freeVan_2 : List UInt8 := [180, 0, 15, 180, 0, 19, 185, 0, 153, 1, 0, 162, 0, 41, 42, 21, 6, 27, 184, 1, 181, 28, 50]
abbrev dktX1_freeVan_2 : List UInt8 := dkwX1_freeVan_2 ++ dktX1_freeVan_3
def dkwX1_freeVan_1 : List UInt8 := [153, 0, 7, 4, 167, 0, 4, 3, 184, 1, 130, 2, 54, 4, 3, 54, 5, 3, 54, 6, 21, 6, 42]
abbrev dktX1_freeVan_1 : List UInt8 := dkwX1_freeVan_1 ++ dktX1_freeVan_2
def dkwX1_freeVan_0 : List UInt8 := [42, 182, 1, 119, 78, 27, 3, 17, 5, 160, 184, 1, 66, 153, 0, 16, 28, 3, 5, 184, 1, 66]
abbrev dktX1_freeVan_0 : List UInt8 := dkwX1_freeVan_0 ++ dktX1_freeVan_1
theorem dksX1_freeVan_0 : cX1_freeVan.data.toList.drop 0 = dktX1_freeVan_0 := by decide +kernel
theorem dksX1_freeVan_1 : cX1_freeVan.data.toList.drop 22 = dktX1_freeVan_1 := dk_seg dksX1_freeVan_0 22 rfl rfl
theorem dksX1_freeVan_2 : cX1_freeVan.data.toList.drop 45 = dktX1_freeVan_2 := dk_seg dksX1_freeVan_1 23 rfl rfl
theorem dksX1_freeVan_3 : cX1_freeVan.data.toList.drop 68 = dktX1_freeVan_3 := dk_seg dksX1_freeVan_2 23 rfl rfl
theorem dksX1_freeVan_4 : cX1_freeVan.data.toList.drop 91 = dktX1_freeVan_4 := dk_seg dksX1_freeVan_3 23 rfl rfl
theorem dX1_freeVan_0 : decode cX1_freeVan 0 = .ok (.aload_n 0, 1) := dk_42 (dk_at dksX1_freeVan_0 0 rfl rfl)
theorem dX1_freeVan_1 : decode cX1_freeVan 1 = .ok (.invokevirtual 375, 3) := dk_182 1 119 (dk_at dksX1_freeVan_0 1 rfl rfl)
theorem dX1_freeVan_4 : decode cX1_freeVan 4 = .ok (.astore_n 3, 1) := dk_78 (dk_at dksX1_freeVan_0 4 rfl rfl)
theorem dX1_freeVan_5 : decode cX1_freeVan 5 = .ok (.iload_n 1, 1) := dk_27 (dk_at dksX1_freeVan_0 5 rfl rfl)
theorem dX1_freeVan_6 : decode cX1_freeVan 6 = .ok (.iconst 0, 1) := dk_3 (dk_at dksX1_freeVan_0 6 rfl rfl)
theorem dX1_freeVan_7 : decode cX1_freeVan 7 = .ok (.sipush 1440, 3) := dk_17 5 160 (dk_at dksX1_freeVan_0 7 rfl rfl)
theorem dX1_freeVan_10 : decode cX1_freeVan 10 = .ok (.invokestatic 322, 3) := dk_184 1 66 (dk_at dksX1_freeVan_0 10 rfl rfl)
theorem dX1_freeVan_13 : decode cX1_freeVan 13 = .ok (.ifCond .eq 16, 3) := dk_153 0 16 (dk_at dksX1_freeVan_0 13 rfl rfl)
theorem dX1_freeVan_16 : decode cX1_freeVan 16 = .ok (.iload_n 2, 1) := dk_28 (dk_at dksX1_freeVan_0 16 rfl rfl)
theorem dX1_freeVan_17 : decode cX1_freeVan 17 = .ok (.iconst 0, 1) := dk_3 (dk_at dksX1_freeVan_0 17 rfl rfl)
theorem dX1_freeVan_18 : decode cX1_freeVan 18 = .ok (.iconst 2, 1) := dk_5 (dk_at dksX1_freeVan_0 18 rfl rfl)
theorem dX1_freeVan_19 : decode cX1_freeVan 19 = .ok (.invokestatic 322, 3) := dk_184 1 66 (dk_at dksX1_freeVan_0 19 rfl rfl)
theorem dX1_freeVan_22 : decode cX1_freeVan 22 = .ok (.ifCond .eq 7, 3) := dk_153 0 7 (dk_at dksX1_freeVan_1 0 rfl rfl)
theorem dX1_freeVan_25 : decode cX1_freeVan 25 = .ok (.iconst 1, 1) := dk_4 (dk_at dksX1_freeVan_1 3 rfl rfl)
theorem dX1_freeVan_26 : decode cX1_freeVan 26 = .ok (.goto 4, 3) := dk_167 0 4 (dk_at dksX1_freeVan_1 4 rfl rfl)
theorem dX1_freeVan_29 : decode cX1_freeVan 29 = .ok (.iconst 0, 1) := dk_3 (dk_at dksX1_freeVan_1 7 rfl rfl)
theorem dX1_freeVan_30 : decode cX1_freeVan 30 = .ok (.invokestatic 386, 3) := dk_184 1 130 (dk_at dksX1_freeVan_1 8 rfl rfl)
theorem dX1_freeVan_33 : decode cX1_freeVan 33 = .ok (.iconst (-1), 1) := dk_2 (dk_at dksX1_freeVan_1 11 rfl rfl)
theorem dX1_freeVan_34 : decode cX1_freeVan 34 = .ok (.istore 4, 2) := dk_54 4 (dk_at dksX1_freeVan_1 12 rfl rfl)
theorem dX1_freeVan_36 : decode cX1_freeVan 36 = .ok (.iconst 0, 1) := dk_3 (dk_at dksX1_freeVan_1 14 rfl rfl)
theorem dX1_freeVan_37 : decode cX1_freeVan 37 = .ok (.istore 5, 2) := dk_54 5 (dk_at dksX1_freeVan_1 15 rfl rfl)
theorem dX1_freeVan_39 : decode cX1_freeVan 39 = .ok (.iconst 0, 1) := dk_3 (dk_at dksX1_freeVan_1 17 rfl rfl)
theorem dX1_freeVan_40 : decode cX1_freeVan 40 = .ok (.istore 6, 2) := dk_54 6 (dk_at dksX1_freeVan_1 18 rfl rfl)
theorem dX1_freeVan_42 : decode cX1_freeVan 42 = .ok (.iload 6, 2) := dk_21 6 (dk_at dksX1_freeVan_1 20 rfl rfl)
theorem dX1_freeVan_44 : decode cX1_freeVan 44 = .ok (.aload_n 0, 1) := dk_42 (dk_at dksX1_freeVan_1 22 rfl rfl)
theorem dX1_freeVan_45 : decode cX1_freeVan 45 = .ok (.getfield 15, 3) := dk_180 0 15 (dk_at dksX1_freeVan_2 0 rfl rfl)
theorem dX1_freeVan_48 : decode cX1_freeVan 48 = .ok (.getfield 19, 3) := dk_180 0 19 (dk_at dksX1_freeVan_2 3 rfl rfl)
theorem dX1_freeVan_51 : decode cX1_freeVan 51 = .ok (.invokeinterface 153 1, 5) := by decide +kernel
theorem dX1_freeVan_56 : decode cX1_freeVan 56 = .ok (.if_icmp .ge 41, 3) := dk_162 0 41 (dk_at dksX1_freeVan_2 11 rfl rfl)
theorem dX1_freeVan_59 : decode cX1_freeVan 59 = .ok (.aload_n 0, 1) := dk_42 (dk_at dksX1_freeVan_2 14 rfl rfl)
theorem dX1_freeVan_60 : decode cX1_freeVan 60 = .ok (.iload 6, 2) := dk_21 6 (dk_at dksX1_freeVan_2 15 rfl rfl)
theorem dX1_freeVan_62 : decode cX1_freeVan 62 = .ok (.iload_n 1, 1) := dk_27 (dk_at dksX1_freeVan_2 17 rfl rfl)
theorem dX1_freeVan_63 : decode cX1_freeVan 63 = .ok (.invokestatic 437, 3) := dk_184 1 181 (dk_at dksX1_freeVan_2 18 rfl rfl)
theorem dX1_freeVan_66 : decode cX1_freeVan 66 = .ok (.iload_n 2, 1) := dk_28 (dk_at dksX1_freeVan_2 21 rfl rfl)
theorem dX1_freeVan_67 : decode cX1_freeVan 67 = .ok (.aaload, 1) := dk_50 (dk_at dksX1_freeVan_2 22 rfl rfl)
theorem dX1_freeVan_68 : decode cX1_freeVan 68 = .ok (.invokevirtual 481, 3) := dk_182 1 225 (dk_at dksX1_freeVan_3 0 rfl rfl)
theorem dX1_freeVan_71 : decode cX1_freeVan 71 = .ok (.istore 7, 2) := dk_54 7 (dk_at dksX1_freeVan_3 3 rfl rfl)
theorem dX1_freeVan_73 : decode cX1_freeVan 73 = .ok (.iload 7, 2) := dk_21 7 (dk_at dksX1_freeVan_3 5 rfl rfl)
theorem dX1_freeVan_75 : decode cX1_freeVan 75 = .ok (.iload 5, 2) := dk_21 5 (dk_at dksX1_freeVan_3 7 rfl rfl)
theorem dX1_freeVan_77 : decode cX1_freeVan 77 = .ok (.if_icmp .gt 6, 3) := dk_163 0 6 (dk_at dksX1_freeVan_3 9 rfl rfl)
theorem dX1_freeVan_80 : decode cX1_freeVan 80 = .ok (.goto 11, 3) := dk_167 0 11 (dk_at dksX1_freeVan_3 12 rfl rfl)
theorem dX1_freeVan_83 : decode cX1_freeVan 83 = .ok (.iload 6, 2) := dk_21 6 (dk_at dksX1_freeVan_3 15 rfl rfl)
theorem dX1_freeVan_85 : decode cX1_freeVan 85 = .ok (.istore 4, 2) := dk_54 4 (dk_at dksX1_freeVan_3 17 rfl rfl)
theorem dX1_freeVan_87 : decode cX1_freeVan 87 = .ok (.iload 7, 2) := dk_21 7 (dk_at dksX1_freeVan_3 19 rfl rfl)
theorem dX1_freeVan_89 : decode cX1_freeVan 89 = .ok (.istore 5, 2) := dk_54 5 (dk_at dksX1_freeVan_3 21 rfl rfl)
theorem dX1_freeVan_91 : decode cX1_freeVan 91 = .ok (.iinc 6 1, 3) := dk_132 6 1 (dk_at dksX1_freeVan_4 0 rfl rfl)
theorem dX1_freeVan_94 : decode cX1_freeVan 94 = .ok (.goto (-52), 3) := dk_167 255 204 (dk_at dksX1_freeVan_4 3 rfl rfl)
theorem dX1_freeVan_97 : decode cX1_freeVan 97 = .ok (.iload 4, 2) := dk_21 4 (dk_at dksX1_freeVan_4 6 rfl rfl)
theorem dX1_freeVan_99 : decode cX1_freeVan 99 = .ok (.ireturn, 1) := dk_172 (dk_at dksX1_freeVan_4 8 rfl rfl)
abbrev cX1_freeAt : ByteArray := prog_1_method_86_code
def yX1_freeAt : MethodName := ⟨RX1, "freeAt", "(IILRideDesk$Kind;)I"⟩
def dkwX1_freeAt_5 : List UInt8 := [184, 0, 255, 172]
abbrev dktX1_freeAt_5 : List UInt8 := dkwX1_freeAt_5 ++ []
def dkwX1_freeAt_4 : List UInt8 := [166, 0, 6, 21, 6, 172, 45, 178, 1, 222, 166, 0, 8, 21, 7, 167, 0, 10, 21, 6, 21, 7]
abbrev dktX1_freeAt_4 : List UInt8 := dkwX1_freeAt_4 ++ dktX1_freeAt_5
def dkwX1_freeAt_3 : List UInt8 := [192, 0, 83, 180, 0, 108, 42, 25, 4, 21, 5, 4, 182, 1, 140, 100, 54, 7, 45, 178, 1, 219]
abbrev dktX1_freeAt_3 : List UInt8 := dkwX1_freeAt_3 ++ dktX1_freeAt_4
def dkwX1_freeAt_2 : List UInt8 := [25, 4, 21, 5, 3, 182, 1, 140, 100, 54, 6, 42, 180, 0, 15, 180, 0, 19, 27, 185, 0, 25, 2, 0]
abbrev dktX1_freeAt_2 : List UInt8 := dkwX1_freeAt_2 ++ dktX1_freeAt_3
def dkwX1_freeAt_1 : List UInt8 := [4, 100, 54, 5, 42, 180, 0, 15, 180, 0, 19, 27, 185, 0, 25, 2, 0, 192, 0, 83, 180, 0, 105, 42]
abbrev dktX1_freeAt_1 : List UInt8 := dkwX1_freeAt_1 ++ dktX1_freeAt_2
def dkwX1_freeAt_0 : List UInt8 := [42, 180, 1, 112, 180, 0, 156, 27, 50, 58, 4, 25, 4, 25, 4, 28, 186, 1, 212, 0, 0, 184, 1, 215]
abbrev dktX1_freeAt_0 : List UInt8 := dkwX1_freeAt_0 ++ dktX1_freeAt_1
theorem dksX1_freeAt_0 : cX1_freeAt.data.toList.drop 0 = dktX1_freeAt_0 := by decide +kernel
theorem dksX1_freeAt_1 : cX1_freeAt.data.toList.drop 24 = dktX1_freeAt_1 := dk_seg dksX1_freeAt_0 24 rfl rfl
theorem dksX1_freeAt_2 : cX1_freeAt.data.toList.drop 48 = dktX1_freeAt_2 := dk_seg dksX1_freeAt_1 24 rfl rfl
theorem dksX1_freeAt_3 : cX1_freeAt.data.toList.drop 72 = dktX1_freeAt_3 := dk_seg dksX1_freeAt_2 24 rfl rfl
theorem dksX1_freeAt_4 : cX1_freeAt.data.toList.drop 94 = dktX1_freeAt_4 := dk_seg dksX1_freeAt_3 22 rfl rfl
theorem dksX1_freeAt_5 : cX1_freeAt.data.toList.drop 116 = dktX1_freeAt_5 := dk_seg dksX1_freeAt_4 22 rfl rfl
theorem dX1_freeAt_0 : decode cX1_freeAt 0 = .ok (.aload_n 0, 1) := dk_42 (dk_at dksX1_freeAt_0 0 rfl rfl)
theorem dX1_freeAt_1 : decode cX1_freeAt 1 = .ok (.getfield 368, 3) := dk_180 1 112 (dk_at dksX1_freeAt_0 1 rfl rfl)
theorem dX1_freeAt_4 : decode cX1_freeAt 4 = .ok (.getfield 156, 3) := dk_180 0 156 (dk_at dksX1_freeAt_0 4 rfl rfl)
theorem dX1_freeAt_7 : decode cX1_freeAt 7 = .ok (.iload_n 1, 1) := dk_27 (dk_at dksX1_freeAt_0 7 rfl rfl)
theorem dX1_freeAt_8 : decode cX1_freeAt 8 = .ok (.aaload, 1) := dk_50 (dk_at dksX1_freeAt_0 8 rfl rfl)
theorem dX1_freeAt_9 : decode cX1_freeAt 9 = .ok (.astore 4, 2) := dk_58 4 (dk_at dksX1_freeAt_0 9 rfl rfl)
theorem dX1_freeAt_11 : decode cX1_freeAt 11 = .ok (.aload 4, 2) := dk_25 4 (dk_at dksX1_freeAt_0 11 rfl rfl)
theorem dX1_freeAt_13 : decode cX1_freeAt 13 = .ok (.aload 4, 2) := dk_25 4 (dk_at dksX1_freeAt_0 13 rfl rfl)
theorem dX1_freeAt_15 : decode cX1_freeAt 15 = .ok (.iload_n 2, 1) := dk_28 (dk_at dksX1_freeAt_0 15 rfl rfl)
theorem dX1_freeAt_16 : decode cX1_freeAt 16 = .ok (.invokedynamic 468, 5) := by decide +kernel
theorem dX1_freeAt_21 : decode cX1_freeAt 21 = .ok (.invokestatic 471, 3) := dk_184 1 215 (dk_at dksX1_freeAt_0 21 rfl rfl)
theorem dX1_freeAt_24 : decode cX1_freeAt 24 = .ok (.iconst 1, 1) := dk_4 (dk_at dksX1_freeAt_1 0 rfl rfl)
theorem dX1_freeAt_25 : decode cX1_freeAt 25 = .ok (.isub, 1) := dk_100 (dk_at dksX1_freeAt_1 1 rfl rfl)
theorem dX1_freeAt_26 : decode cX1_freeAt 26 = .ok (.istore 5, 2) := dk_54 5 (dk_at dksX1_freeAt_1 2 rfl rfl)
theorem dX1_freeAt_28 : decode cX1_freeAt 28 = .ok (.aload_n 0, 1) := dk_42 (dk_at dksX1_freeAt_1 4 rfl rfl)
theorem dX1_freeAt_29 : decode cX1_freeAt 29 = .ok (.getfield 15, 3) := dk_180 0 15 (dk_at dksX1_freeAt_1 5 rfl rfl)
theorem dX1_freeAt_32 : decode cX1_freeAt 32 = .ok (.getfield 19, 3) := dk_180 0 19 (dk_at dksX1_freeAt_1 8 rfl rfl)
theorem dX1_freeAt_35 : decode cX1_freeAt 35 = .ok (.iload_n 1, 1) := dk_27 (dk_at dksX1_freeAt_1 11 rfl rfl)
theorem dX1_freeAt_36 : decode cX1_freeAt 36 = .ok (.invokeinterface 25 2, 5) := by decide +kernel
theorem dX1_freeAt_41 : decode cX1_freeAt 41 = .ok (.checkcast 83, 3) := dk_192 0 83 (dk_at dksX1_freeAt_1 17 rfl rfl)
theorem dX1_freeAt_44 : decode cX1_freeAt 44 = .ok (.getfield 105, 3) := dk_180 0 105 (dk_at dksX1_freeAt_1 20 rfl rfl)
theorem dX1_freeAt_47 : decode cX1_freeAt 47 = .ok (.aload_n 0, 1) := dk_42 (dk_at dksX1_freeAt_1 23 rfl rfl)
theorem dX1_freeAt_48 : decode cX1_freeAt 48 = .ok (.aload 4, 2) := dk_25 4 (dk_at dksX1_freeAt_2 0 rfl rfl)
theorem dX1_freeAt_50 : decode cX1_freeAt 50 = .ok (.iload 5, 2) := dk_21 5 (dk_at dksX1_freeAt_2 2 rfl rfl)
theorem dX1_freeAt_52 : decode cX1_freeAt 52 = .ok (.iconst 0, 1) := dk_3 (dk_at dksX1_freeAt_2 4 rfl rfl)
theorem dX1_freeAt_53 : decode cX1_freeAt 53 = .ok (.invokevirtual 396, 3) := dk_182 1 140 (dk_at dksX1_freeAt_2 5 rfl rfl)
theorem dX1_freeAt_56 : decode cX1_freeAt 56 = .ok (.isub, 1) := dk_100 (dk_at dksX1_freeAt_2 8 rfl rfl)
theorem dX1_freeAt_57 : decode cX1_freeAt 57 = .ok (.istore 6, 2) := dk_54 6 (dk_at dksX1_freeAt_2 9 rfl rfl)
theorem dX1_freeAt_59 : decode cX1_freeAt 59 = .ok (.aload_n 0, 1) := dk_42 (dk_at dksX1_freeAt_2 11 rfl rfl)
theorem dX1_freeAt_60 : decode cX1_freeAt 60 = .ok (.getfield 15, 3) := dk_180 0 15 (dk_at dksX1_freeAt_2 12 rfl rfl)
theorem dX1_freeAt_63 : decode cX1_freeAt 63 = .ok (.getfield 19, 3) := dk_180 0 19 (dk_at dksX1_freeAt_2 15 rfl rfl)
theorem dX1_freeAt_66 : decode cX1_freeAt 66 = .ok (.iload_n 1, 1) := dk_27 (dk_at dksX1_freeAt_2 18 rfl rfl)
theorem dX1_freeAt_67 : decode cX1_freeAt 67 = .ok (.invokeinterface 25 2, 5) := by decide +kernel
theorem dX1_freeAt_72 : decode cX1_freeAt 72 = .ok (.checkcast 83, 3) := dk_192 0 83 (dk_at dksX1_freeAt_3 0 rfl rfl)
theorem dX1_freeAt_75 : decode cX1_freeAt 75 = .ok (.getfield 108, 3) := dk_180 0 108 (dk_at dksX1_freeAt_3 3 rfl rfl)
theorem dX1_freeAt_78 : decode cX1_freeAt 78 = .ok (.aload_n 0, 1) := dk_42 (dk_at dksX1_freeAt_3 6 rfl rfl)
theorem dX1_freeAt_79 : decode cX1_freeAt 79 = .ok (.aload 4, 2) := dk_25 4 (dk_at dksX1_freeAt_3 7 rfl rfl)
theorem dX1_freeAt_81 : decode cX1_freeAt 81 = .ok (.iload 5, 2) := dk_21 5 (dk_at dksX1_freeAt_3 9 rfl rfl)
theorem dX1_freeAt_83 : decode cX1_freeAt 83 = .ok (.iconst 1, 1) := dk_4 (dk_at dksX1_freeAt_3 11 rfl rfl)
theorem dX1_freeAt_84 : decode cX1_freeAt 84 = .ok (.invokevirtual 396, 3) := dk_182 1 140 (dk_at dksX1_freeAt_3 12 rfl rfl)
theorem dX1_freeAt_87 : decode cX1_freeAt 87 = .ok (.isub, 1) := dk_100 (dk_at dksX1_freeAt_3 15 rfl rfl)
theorem dX1_freeAt_88 : decode cX1_freeAt 88 = .ok (.istore 7, 2) := dk_54 7 (dk_at dksX1_freeAt_3 16 rfl rfl)
theorem dX1_freeAt_90 : decode cX1_freeAt 90 = .ok (.aload_n 3, 1) := dk_45 (dk_at dksX1_freeAt_3 18 rfl rfl)
theorem dX1_freeAt_91 : decode cX1_freeAt 91 = .ok (.getstatic 475, 3) := dk_178 1 219 (dk_at dksX1_freeAt_3 19 rfl rfl)
theorem dX1_freeAt_94 : decode cX1_freeAt 94 = .ok (.if_acmp .ne 6, 3) := dk_166 0 6 (dk_at dksX1_freeAt_4 0 rfl rfl)
theorem dX1_freeAt_97 : decode cX1_freeAt 97 = .ok (.iload 6, 2) := dk_21 6 (dk_at dksX1_freeAt_4 3 rfl rfl)
theorem dX1_freeAt_99 : decode cX1_freeAt 99 = .ok (.ireturn, 1) := dk_172 (dk_at dksX1_freeAt_4 5 rfl rfl)
theorem dX1_freeAt_100 : decode cX1_freeAt 100 = .ok (.aload_n 3, 1) := dk_45 (dk_at dksX1_freeAt_4 6 rfl rfl)
theorem dX1_freeAt_101 : decode cX1_freeAt 101 = .ok (.getstatic 478, 3) := dk_178 1 222 (dk_at dksX1_freeAt_4 7 rfl rfl)
theorem dX1_freeAt_104 : decode cX1_freeAt 104 = .ok (.if_acmp .ne 8, 3) := dk_166 0 8 (dk_at dksX1_freeAt_4 10 rfl rfl)
theorem dX1_freeAt_107 : decode cX1_freeAt 107 = .ok (.iload 7, 2) := dk_21 7 (dk_at dksX1_freeAt_4 13 rfl rfl)
theorem dX1_freeAt_109 : decode cX1_freeAt 109 = .ok (.goto 10, 3) := dk_167 0 10 (dk_at dksX1_freeAt_4 15 rfl rfl)
theorem dX1_freeAt_112 : decode cX1_freeAt 112 = .ok (.iload 6, 2) := dk_21 6 (dk_at dksX1_freeAt_4 18 rfl rfl)
theorem dX1_freeAt_114 : decode cX1_freeAt 114 = .ok (.iload 7, 2) := dk_21 7 (dk_at dksX1_freeAt_4 20 rfl rfl)
theorem dX1_freeAt_116 : decode cX1_freeAt 116 = .ok (.invokestatic 255, 3) := dk_184 0 255 (dk_at dksX1_freeAt_5 0 rfl rfl)
theorem dX1_freeAt_119 : decode cX1_freeAt 119 = .ok (.ireturn, 1) := dk_172 (dk_at dksX1_freeAt_5 3 rfl rfl)
abbrev cX1_lambda_freeAt_0 : ByteArray := prog_1_method_105_code
def yX1_lambda_freeAt_0 : MethodName := ⟨RX1, "lambda$freeAt$0", "(LRideDesk$Route;II)Z"⟩
def dkwX1_lambda_freeAt_0_0 : List UInt8 := [42, 180, 0, 51, 28, 46, 27, 163, 0, 7, 4, 167, 0, 4, 3, 172]
abbrev dktX1_lambda_freeAt_0_0 : List UInt8 := dkwX1_lambda_freeAt_0_0 ++ []
theorem dksX1_lambda_freeAt_0_0 : cX1_lambda_freeAt_0.data.toList.drop 0 = dktX1_lambda_freeAt_0_0 := by decide +kernel
theorem dX1_lambda_freeAt_0_0 : decode cX1_lambda_freeAt_0 0 = .ok (.aload_n 0, 1) := dk_42 (dk_at dksX1_lambda_freeAt_0_0 0 rfl rfl)
theorem dX1_lambda_freeAt_0_1 : decode cX1_lambda_freeAt_0 1 = .ok (.getfield 51, 3) := dk_180 0 51 (dk_at dksX1_lambda_freeAt_0_0 1 rfl rfl)
theorem dX1_lambda_freeAt_0_4 : decode cX1_lambda_freeAt_0 4 = .ok (.iload_n 2, 1) := dk_28 (dk_at dksX1_lambda_freeAt_0_0 4 rfl rfl)
theorem dX1_lambda_freeAt_0_5 : decode cX1_lambda_freeAt_0 5 = .ok (.iaload, 1) := dk_46 (dk_at dksX1_lambda_freeAt_0_0 5 rfl rfl)
theorem dX1_lambda_freeAt_0_6 : decode cX1_lambda_freeAt_0 6 = .ok (.iload_n 1, 1) := dk_27 (dk_at dksX1_lambda_freeAt_0_0 6 rfl rfl)
theorem dX1_lambda_freeAt_0_7 : decode cX1_lambda_freeAt_0 7 = .ok (.if_icmp .gt 7, 3) := dk_163 0 7 (dk_at dksX1_lambda_freeAt_0_0 7 rfl rfl)
theorem dX1_lambda_freeAt_0_10 : decode cX1_lambda_freeAt_0 10 = .ok (.iconst 1, 1) := dk_4 (dk_at dksX1_lambda_freeAt_0_0 10 rfl rfl)
theorem dX1_lambda_freeAt_0_11 : decode cX1_lambda_freeAt_0 11 = .ok (.goto 4, 3) := dk_167 0 4 (dk_at dksX1_lambda_freeAt_0_0 11 rfl rfl)
theorem dX1_lambda_freeAt_0_14 : decode cX1_lambda_freeAt_0 14 = .ok (.iconst 0, 1) := dk_3 (dk_at dksX1_lambda_freeAt_0_0 14 rfl rfl)
theorem dX1_lambda_freeAt_0_15 : decode cX1_lambda_freeAt_0 15 = .ok (.ireturn, 1) := dk_172 (dk_at dksX1_lambda_freeAt_0_0 15 rfl rfl)
abbrev cX1_countOf : ByteArray := prog_1_method_2_code
def yX1_countOf : MethodName := ⟨RX1, "countOf", "(LRideDesk$Route;LRideDesk$Test;)I"⟩
def dkwX1_countOf_1 : List UInt8 := [167, 0, 4, 3, 96, 61, 132, 3, 1, 167, 255, 227, 28, 172]
abbrev dktX1_countOf_1 : List UInt8 := dkwX1_countOf_1 ++ []
def dkwX1_countOf_0 : List UInt8 := [3, 61, 3, 62, 29, 42, 180, 0, 3, 162, 0, 27, 28, 43, 29, 185, 0, 9, 2, 0, 153, 0, 7, 4]
abbrev dktX1_countOf_0 : List UInt8 := dkwX1_countOf_0 ++ dktX1_countOf_1
theorem dksX1_countOf_0 : cX1_countOf.data.toList.drop 0 = dktX1_countOf_0 := by decide +kernel
theorem dksX1_countOf_1 : cX1_countOf.data.toList.drop 24 = dktX1_countOf_1 := dk_seg dksX1_countOf_0 24 rfl rfl
theorem dX1_countOf_0 : decode cX1_countOf 0 = .ok (.iconst 0, 1) := dk_3 (dk_at dksX1_countOf_0 0 rfl rfl)
theorem dX1_countOf_1 : decode cX1_countOf 1 = .ok (.istore_n 2, 1) := dk_61 (dk_at dksX1_countOf_0 1 rfl rfl)
theorem dX1_countOf_2 : decode cX1_countOf 2 = .ok (.iconst 0, 1) := dk_3 (dk_at dksX1_countOf_0 2 rfl rfl)
theorem dX1_countOf_3 : decode cX1_countOf 3 = .ok (.istore_n 3, 1) := dk_62 (dk_at dksX1_countOf_0 3 rfl rfl)
theorem dX1_countOf_4 : decode cX1_countOf 4 = .ok (.iload_n 3, 1) := dk_29 (dk_at dksX1_countOf_0 4 rfl rfl)
theorem dX1_countOf_5 : decode cX1_countOf 5 = .ok (.aload_n 0, 1) := dk_42 (dk_at dksX1_countOf_0 5 rfl rfl)
theorem dX1_countOf_6 : decode cX1_countOf 6 = .ok (.getfield 3, 3) := dk_180 0 3 (dk_at dksX1_countOf_0 6 rfl rfl)
theorem dX1_countOf_9 : decode cX1_countOf 9 = .ok (.if_icmp .ge 27, 3) := dk_162 0 27 (dk_at dksX1_countOf_0 9 rfl rfl)
theorem dX1_countOf_12 : decode cX1_countOf 12 = .ok (.iload_n 2, 1) := dk_28 (dk_at dksX1_countOf_0 12 rfl rfl)
theorem dX1_countOf_13 : decode cX1_countOf 13 = .ok (.aload_n 1, 1) := dk_43 (dk_at dksX1_countOf_0 13 rfl rfl)
theorem dX1_countOf_14 : decode cX1_countOf 14 = .ok (.iload_n 3, 1) := dk_29 (dk_at dksX1_countOf_0 14 rfl rfl)
theorem dX1_countOf_15 : decode cX1_countOf 15 = .ok (.invokeinterface 9 2, 5) := by decide +kernel
theorem dX1_countOf_20 : decode cX1_countOf 20 = .ok (.ifCond .eq 7, 3) := dk_153 0 7 (dk_at dksX1_countOf_0 20 rfl rfl)
theorem dX1_countOf_23 : decode cX1_countOf 23 = .ok (.iconst 1, 1) := dk_4 (dk_at dksX1_countOf_0 23 rfl rfl)
theorem dX1_countOf_24 : decode cX1_countOf 24 = .ok (.goto 4, 3) := dk_167 0 4 (dk_at dksX1_countOf_1 0 rfl rfl)
theorem dX1_countOf_27 : decode cX1_countOf 27 = .ok (.iconst 0, 1) := dk_3 (dk_at dksX1_countOf_1 3 rfl rfl)
theorem dX1_countOf_28 : decode cX1_countOf 28 = .ok (.iadd, 1) := dk_96 (dk_at dksX1_countOf_1 4 rfl rfl)
theorem dX1_countOf_29 : decode cX1_countOf 29 = .ok (.istore_n 2, 1) := dk_61 (dk_at dksX1_countOf_1 5 rfl rfl)
theorem dX1_countOf_30 : decode cX1_countOf 30 = .ok (.iinc 3 1, 3) := dk_132 3 1 (dk_at dksX1_countOf_1 6 rfl rfl)
theorem dX1_countOf_33 : decode cX1_countOf 33 = .ok (.goto (-29), 3) := dk_167 255 227 (dk_at dksX1_countOf_1 9 rfl rfl)
theorem dX1_countOf_36 : decode cX1_countOf 36 = .ok (.iload_n 2, 1) := dk_28 (dk_at dksX1_countOf_1 12 rfl rfl)
theorem dX1_countOf_37 : decode cX1_countOf 37 = .ok (.ireturn, 1) := dk_172 (dk_at dksX1_countOf_1 13 rfl rfl)
abbrev cX1_savings : ByteArray := prog_1_method_91_code
def yX1_savings : MethodName := ⟨RX1, "savings", "(I)I"⟩
def dkwX1_savings_1 : List UInt8 := [62, 42, 42, 180, 1, 112, 182, 1, 163, 42, 44, 182, 1, 163, 100, 172]
abbrev dktX1_savings_1 : List UInt8 := dkwX1_savings_1 ++ []
def dkwX1_savings_0 : List UInt8 := [42, 27, 182, 1, 152, 182, 1, 253, 77, 42, 44, 27, 182, 2, 0, 184, 1, 130, 42, 44, 27, 182, 2, 3]
abbrev dktX1_savings_0 : List UInt8 := dkwX1_savings_0 ++ dktX1_savings_1
theorem dksX1_savings_0 : cX1_savings.data.toList.drop 0 = dktX1_savings_0 := by decide +kernel
theorem dksX1_savings_1 : cX1_savings.data.toList.drop 24 = dktX1_savings_1 := dk_seg dksX1_savings_0 24 rfl rfl
theorem dX1_savings_0 : decode cX1_savings 0 = .ok (.aload_n 0, 1) := dk_42 (dk_at dksX1_savings_0 0 rfl rfl)
theorem dX1_savings_1 : decode cX1_savings 1 = .ok (.iload_n 1, 1) := dk_27 (dk_at dksX1_savings_0 1 rfl rfl)
theorem dX1_savings_2 : decode cX1_savings 2 = .ok (.invokevirtual 408, 3) := dk_182 1 152 (dk_at dksX1_savings_0 2 rfl rfl)
theorem dX1_savings_5 : decode cX1_savings 5 = .ok (.invokevirtual 509, 3) := dk_182 1 253 (dk_at dksX1_savings_0 5 rfl rfl)
theorem dX1_savings_8 : decode cX1_savings 8 = .ok (.astore_n 2, 1) := dk_77 (dk_at dksX1_savings_0 8 rfl rfl)
theorem dX1_savings_9 : decode cX1_savings 9 = .ok (.aload_n 0, 1) := dk_42 (dk_at dksX1_savings_0 9 rfl rfl)
theorem dX1_savings_10 : decode cX1_savings 10 = .ok (.aload_n 2, 1) := dk_44 (dk_at dksX1_savings_0 10 rfl rfl)
theorem dX1_savings_11 : decode cX1_savings 11 = .ok (.iload_n 1, 1) := dk_27 (dk_at dksX1_savings_0 11 rfl rfl)
theorem dX1_savings_12 : decode cX1_savings 12 = .ok (.invokevirtual 512, 3) := dk_182 2 0 (dk_at dksX1_savings_0 12 rfl rfl)
theorem dX1_savings_15 : decode cX1_savings 15 = .ok (.invokestatic 386, 3) := dk_184 1 130 (dk_at dksX1_savings_0 15 rfl rfl)
theorem dX1_savings_18 : decode cX1_savings 18 = .ok (.aload_n 0, 1) := dk_42 (dk_at dksX1_savings_0 18 rfl rfl)
theorem dX1_savings_19 : decode cX1_savings 19 = .ok (.aload_n 2, 1) := dk_44 (dk_at dksX1_savings_0 19 rfl rfl)
theorem dX1_savings_20 : decode cX1_savings 20 = .ok (.iload_n 1, 1) := dk_27 (dk_at dksX1_savings_0 20 rfl rfl)
theorem dX1_savings_21 : decode cX1_savings 21 = .ok (.invokevirtual 515, 3) := dk_182 2 3 (dk_at dksX1_savings_0 21 rfl rfl)
theorem dX1_savings_24 : decode cX1_savings 24 = .ok (.istore_n 3, 1) := dk_62 (dk_at dksX1_savings_1 0 rfl rfl)
theorem dX1_savings_25 : decode cX1_savings 25 = .ok (.aload_n 0, 1) := dk_42 (dk_at dksX1_savings_1 1 rfl rfl)
theorem dX1_savings_26 : decode cX1_savings 26 = .ok (.aload_n 0, 1) := dk_42 (dk_at dksX1_savings_1 2 rfl rfl)
theorem dX1_savings_27 : decode cX1_savings 27 = .ok (.getfield 368, 3) := dk_180 1 112 (dk_at dksX1_savings_1 3 rfl rfl)
theorem dX1_savings_30 : decode cX1_savings 30 = .ok (.invokevirtual 419, 3) := dk_182 1 163 (dk_at dksX1_savings_1 6 rfl rfl)
theorem dX1_savings_33 : decode cX1_savings 33 = .ok (.aload_n 0, 1) := dk_42 (dk_at dksX1_savings_1 9 rfl rfl)
theorem dX1_savings_34 : decode cX1_savings 34 = .ok (.aload_n 2, 1) := dk_44 (dk_at dksX1_savings_1 10 rfl rfl)
theorem dX1_savings_35 : decode cX1_savings 35 = .ok (.invokevirtual 419, 3) := dk_182 1 163 (dk_at dksX1_savings_1 11 rfl rfl)
theorem dX1_savings_38 : decode cX1_savings 38 = .ok (.isub, 1) := dk_100 (dk_at dksX1_savings_1 14 rfl rfl)
theorem dX1_savings_39 : decode cX1_savings 39 = .ok (.ireturn, 1) := dk_172 (dk_at dksX1_savings_1 15 rfl rfl)
abbrev cX1_isFree : ByteArray := prog_1_method_90_code
def yX1_isFree : MethodName := ⟨RX1, "isFree", "(LRideDesk$State;I)Z"⟩
def dkwX1_isFree_2 : List UInt8 := [4, 167, 0, 4, 3, 172]
abbrev dktX1_isFree_2 : List UInt8 := dkwX1_isFree_2 ++ []
def dkwX1_isFree_1 : List UInt8 := [180, 0, 156, 29, 50, 28, 4, 182, 0, 247, 42, 43, 43, 180, 0, 156, 29, 50, 182, 0, 160, 161, 0, 7]
abbrev dktX1_isFree_1 : List UInt8 := dkwX1_isFree_1 ++ dktX1_isFree_2
def dkwX1_isFree_0 : List UInt8 := [42, 43, 28, 182, 1, 24, 62, 43, 180, 0, 232, 28, 46, 4, 160, 0, 37, 29, 2, 159, 0, 32, 43]
abbrev dktX1_isFree_0 : List UInt8 := dkwX1_isFree_0 ++ dktX1_isFree_1
theorem dksX1_isFree_0 : cX1_isFree.data.toList.drop 0 = dktX1_isFree_0 := by decide +kernel
theorem dksX1_isFree_1 : cX1_isFree.data.toList.drop 23 = dktX1_isFree_1 := dk_seg dksX1_isFree_0 23 rfl rfl
theorem dksX1_isFree_2 : cX1_isFree.data.toList.drop 47 = dktX1_isFree_2 := dk_seg dksX1_isFree_1 24 rfl rfl
theorem dX1_isFree_0 : decode cX1_isFree 0 = .ok (.aload_n 0, 1) := dk_42 (dk_at dksX1_isFree_0 0 rfl rfl)
theorem dX1_isFree_1 : decode cX1_isFree 1 = .ok (.aload_n 1, 1) := dk_43 (dk_at dksX1_isFree_0 1 rfl rfl)
theorem dX1_isFree_2 : decode cX1_isFree 2 = .ok (.iload_n 2, 1) := dk_28 (dk_at dksX1_isFree_0 2 rfl rfl)
theorem dX1_isFree_3 : decode cX1_isFree 3 = .ok (.invokevirtual 280, 3) := dk_182 1 24 (dk_at dksX1_isFree_0 3 rfl rfl)
theorem dX1_isFree_6 : decode cX1_isFree 6 = .ok (.istore_n 3, 1) := dk_62 (dk_at dksX1_isFree_0 6 rfl rfl)
theorem dX1_isFree_7 : decode cX1_isFree 7 = .ok (.aload_n 1, 1) := dk_43 (dk_at dksX1_isFree_0 7 rfl rfl)
theorem dX1_isFree_8 : decode cX1_isFree 8 = .ok (.getfield 232, 3) := dk_180 0 232 (dk_at dksX1_isFree_0 8 rfl rfl)
theorem dX1_isFree_11 : decode cX1_isFree 11 = .ok (.iload_n 2, 1) := dk_28 (dk_at dksX1_isFree_0 11 rfl rfl)
theorem dX1_isFree_12 : decode cX1_isFree 12 = .ok (.iaload, 1) := dk_46 (dk_at dksX1_isFree_0 12 rfl rfl)
theorem dX1_isFree_13 : decode cX1_isFree 13 = .ok (.iconst 1, 1) := dk_4 (dk_at dksX1_isFree_0 13 rfl rfl)
theorem dX1_isFree_14 : decode cX1_isFree 14 = .ok (.if_icmp .ne 37, 3) := dk_160 0 37 (dk_at dksX1_isFree_0 14 rfl rfl)
theorem dX1_isFree_17 : decode cX1_isFree 17 = .ok (.iload_n 3, 1) := dk_29 (dk_at dksX1_isFree_0 17 rfl rfl)
theorem dX1_isFree_18 : decode cX1_isFree 18 = .ok (.iconst (-1), 1) := dk_2 (dk_at dksX1_isFree_0 18 rfl rfl)
theorem dX1_isFree_19 : decode cX1_isFree 19 = .ok (.if_icmp .eq 32, 3) := dk_159 0 32 (dk_at dksX1_isFree_0 19 rfl rfl)
theorem dX1_isFree_22 : decode cX1_isFree 22 = .ok (.aload_n 1, 1) := dk_43 (dk_at dksX1_isFree_0 22 rfl rfl)
theorem dX1_isFree_23 : decode cX1_isFree 23 = .ok (.getfield 156, 3) := dk_180 0 156 (dk_at dksX1_isFree_1 0 rfl rfl)
theorem dX1_isFree_26 : decode cX1_isFree 26 = .ok (.iload_n 3, 1) := dk_29 (dk_at dksX1_isFree_1 3 rfl rfl)
theorem dX1_isFree_27 : decode cX1_isFree 27 = .ok (.aaload, 1) := dk_50 (dk_at dksX1_isFree_1 4 rfl rfl)
theorem dX1_isFree_28 : decode cX1_isFree 28 = .ok (.iload_n 2, 1) := dk_28 (dk_at dksX1_isFree_1 5 rfl rfl)
theorem dX1_isFree_29 : decode cX1_isFree 29 = .ok (.iconst 1, 1) := dk_4 (dk_at dksX1_isFree_1 6 rfl rfl)
theorem dX1_isFree_30 : decode cX1_isFree 30 = .ok (.invokevirtual 247, 3) := dk_182 0 247 (dk_at dksX1_isFree_1 7 rfl rfl)
theorem dX1_isFree_33 : decode cX1_isFree 33 = .ok (.aload_n 0, 1) := dk_42 (dk_at dksX1_isFree_1 10 rfl rfl)
theorem dX1_isFree_34 : decode cX1_isFree 34 = .ok (.aload_n 1, 1) := dk_43 (dk_at dksX1_isFree_1 11 rfl rfl)
theorem dX1_isFree_35 : decode cX1_isFree 35 = .ok (.aload_n 1, 1) := dk_43 (dk_at dksX1_isFree_1 12 rfl rfl)
theorem dX1_isFree_36 : decode cX1_isFree 36 = .ok (.getfield 156, 3) := dk_180 0 156 (dk_at dksX1_isFree_1 13 rfl rfl)
theorem dX1_isFree_39 : decode cX1_isFree 39 = .ok (.iload_n 3, 1) := dk_29 (dk_at dksX1_isFree_1 16 rfl rfl)
theorem dX1_isFree_40 : decode cX1_isFree 40 = .ok (.aaload, 1) := dk_50 (dk_at dksX1_isFree_1 17 rfl rfl)
theorem dX1_isFree_41 : decode cX1_isFree 41 = .ok (.invokevirtual 160, 3) := dk_182 0 160 (dk_at dksX1_isFree_1 18 rfl rfl)
theorem dX1_isFree_44 : decode cX1_isFree 44 = .ok (.if_icmp .lt 7, 3) := dk_161 0 7 (dk_at dksX1_isFree_1 21 rfl rfl)
theorem dX1_isFree_47 : decode cX1_isFree 47 = .ok (.iconst 1, 1) := dk_4 (dk_at dksX1_isFree_2 0 rfl rfl)
theorem dX1_isFree_48 : decode cX1_isFree 48 = .ok (.goto 4, 3) := dk_167 0 4 (dk_at dksX1_isFree_2 1 rfl rfl)
theorem dX1_isFree_51 : decode cX1_isFree 51 = .ok (.iconst 0, 1) := dk_3 (dk_at dksX1_isFree_2 4 rfl rfl)
theorem dX1_isFree_52 : decode cX1_isFree 52 = .ok (.ireturn, 1) := dk_172 (dk_at dksX1_isFree_2 5 rfl rfl)
abbrev cX1_cancels : ByteArray := prog_1_method_26_code
def yX1_cancels : MethodName := ⟨RX1, "cancels", "(LRideDesk$State;I)I"⟩
def dkwX1_cancels_1 : List UInt8 := [182, 1, 27, 172]
abbrev dktX1_cancels_1 : List UInt8 := dkwX1_cancels_1 ++ []
def dkwX1_cancels_0 : List UInt8 := [42, 43, 28, 182, 1, 24, 62, 42, 43, 29, 28, 182, 1, 14, 43, 180, 0, 232, 28, 7, 79, 42, 43, 29]
abbrev dktX1_cancels_0 : List UInt8 := dkwX1_cancels_0 ++ dktX1_cancels_1
theorem dksX1_cancels_0 : cX1_cancels.data.toList.drop 0 = dktX1_cancels_0 := by decide +kernel
theorem dksX1_cancels_1 : cX1_cancels.data.toList.drop 24 = dktX1_cancels_1 := dk_seg dksX1_cancels_0 24 rfl rfl
theorem dX1_cancels_0 : decode cX1_cancels 0 = .ok (.aload_n 0, 1) := dk_42 (dk_at dksX1_cancels_0 0 rfl rfl)
theorem dX1_cancels_1 : decode cX1_cancels 1 = .ok (.aload_n 1, 1) := dk_43 (dk_at dksX1_cancels_0 1 rfl rfl)
theorem dX1_cancels_2 : decode cX1_cancels 2 = .ok (.iload_n 2, 1) := dk_28 (dk_at dksX1_cancels_0 2 rfl rfl)
theorem dX1_cancels_3 : decode cX1_cancels 3 = .ok (.invokevirtual 280, 3) := dk_182 1 24 (dk_at dksX1_cancels_0 3 rfl rfl)
theorem dX1_cancels_6 : decode cX1_cancels 6 = .ok (.istore_n 3, 1) := dk_62 (dk_at dksX1_cancels_0 6 rfl rfl)
theorem dX1_cancels_7 : decode cX1_cancels 7 = .ok (.aload_n 0, 1) := dk_42 (dk_at dksX1_cancels_0 7 rfl rfl)
theorem dX1_cancels_8 : decode cX1_cancels 8 = .ok (.aload_n 1, 1) := dk_43 (dk_at dksX1_cancels_0 8 rfl rfl)
theorem dX1_cancels_9 : decode cX1_cancels 9 = .ok (.iload_n 3, 1) := dk_29 (dk_at dksX1_cancels_0 9 rfl rfl)
theorem dX1_cancels_10 : decode cX1_cancels 10 = .ok (.iload_n 2, 1) := dk_28 (dk_at dksX1_cancels_0 10 rfl rfl)
theorem dX1_cancels_11 : decode cX1_cancels 11 = .ok (.invokevirtual 270, 3) := dk_182 1 14 (dk_at dksX1_cancels_0 11 rfl rfl)
theorem dX1_cancels_14 : decode cX1_cancels 14 = .ok (.aload_n 1, 1) := dk_43 (dk_at dksX1_cancels_0 14 rfl rfl)
theorem dX1_cancels_15 : decode cX1_cancels 15 = .ok (.getfield 232, 3) := dk_180 0 232 (dk_at dksX1_cancels_0 15 rfl rfl)
theorem dX1_cancels_18 : decode cX1_cancels 18 = .ok (.iload_n 2, 1) := dk_28 (dk_at dksX1_cancels_0 18 rfl rfl)
theorem dX1_cancels_19 : decode cX1_cancels 19 = .ok (.iconst 4, 1) := dk_7 (dk_at dksX1_cancels_0 19 rfl rfl)
theorem dX1_cancels_20 : decode cX1_cancels 20 = .ok (.iastore, 1) := dk_79 (dk_at dksX1_cancels_0 20 rfl rfl)
theorem dX1_cancels_21 : decode cX1_cancels 21 = .ok (.aload_n 0, 1) := dk_42 (dk_at dksX1_cancels_0 21 rfl rfl)
theorem dX1_cancels_22 : decode cX1_cancels 22 = .ok (.aload_n 1, 1) := dk_43 (dk_at dksX1_cancels_0 22 rfl rfl)
theorem dX1_cancels_23 : decode cX1_cancels 23 = .ok (.iload_n 3, 1) := dk_29 (dk_at dksX1_cancels_0 23 rfl rfl)
theorem dX1_cancels_24 : decode cX1_cancels 24 = .ok (.invokevirtual 283, 3) := dk_182 1 27 (dk_at dksX1_cancels_1 0 rfl rfl)
theorem dX1_cancels_27 : decode cX1_cancels 27 = .ok (.ireturn, 1) := dk_172 (dk_at dksX1_cancels_1 3 rfl rfl)
abbrev cX1_removes : ByteArray := prog_1_method_22_code
def yX1_removes : MethodName := ⟨RX1, "removes", "(LRideDesk$State;II)V"⟩
def dkwX1_removes_2 : List UInt8 := [28, 25, 4, 21, 5, 25, 4, 180, 0, 3, 184, 0, 255, 182, 1, 2, 177]
abbrev dktX1_removes_2 : List UInt8 := dkwX1_removes_2 ++ []
def dkwX1_removes_1 : List UInt8 := [182, 0, 247, 182, 0, 251, 58, 6, 25, 4, 25, 4, 29, 4, 182, 0, 247, 182, 0, 251, 58, 7, 42, 43]
abbrev dktX1_removes_1 : List UInt8 := dkwX1_removes_1 ++ dktX1_removes_2
def dkwX1_removes_0 : List UInt8 := [43, 180, 0, 156, 28, 50, 58, 4, 42, 43, 25, 4, 182, 0, 160, 54, 5, 25, 4, 25, 4, 29, 3]
abbrev dktX1_removes_0 : List UInt8 := dkwX1_removes_0 ++ dktX1_removes_1
theorem dksX1_removes_0 : cX1_removes.data.toList.drop 0 = dktX1_removes_0 := by decide +kernel
theorem dksX1_removes_1 : cX1_removes.data.toList.drop 23 = dktX1_removes_1 := dk_seg dksX1_removes_0 23 rfl rfl
theorem dksX1_removes_2 : cX1_removes.data.toList.drop 47 = dktX1_removes_2 := dk_seg dksX1_removes_1 24 rfl rfl
theorem dX1_removes_0 : decode cX1_removes 0 = .ok (.aload_n 1, 1) := dk_43 (dk_at dksX1_removes_0 0 rfl rfl)
theorem dX1_removes_1 : decode cX1_removes 1 = .ok (.getfield 156, 3) := dk_180 0 156 (dk_at dksX1_removes_0 1 rfl rfl)
theorem dX1_removes_4 : decode cX1_removes 4 = .ok (.iload_n 2, 1) := dk_28 (dk_at dksX1_removes_0 4 rfl rfl)
theorem dX1_removes_5 : decode cX1_removes 5 = .ok (.aaload, 1) := dk_50 (dk_at dksX1_removes_0 5 rfl rfl)
theorem dX1_removes_6 : decode cX1_removes 6 = .ok (.astore 4, 2) := dk_58 4 (dk_at dksX1_removes_0 6 rfl rfl)
theorem dX1_removes_8 : decode cX1_removes 8 = .ok (.aload_n 0, 1) := dk_42 (dk_at dksX1_removes_0 8 rfl rfl)
theorem dX1_removes_9 : decode cX1_removes 9 = .ok (.aload_n 1, 1) := dk_43 (dk_at dksX1_removes_0 9 rfl rfl)
theorem dX1_removes_10 : decode cX1_removes 10 = .ok (.aload 4, 2) := dk_25 4 (dk_at dksX1_removes_0 10 rfl rfl)
theorem dX1_removes_12 : decode cX1_removes 12 = .ok (.invokevirtual 160, 3) := dk_182 0 160 (dk_at dksX1_removes_0 12 rfl rfl)
theorem dX1_removes_15 : decode cX1_removes 15 = .ok (.istore 5, 2) := dk_54 5 (dk_at dksX1_removes_0 15 rfl rfl)
theorem dX1_removes_17 : decode cX1_removes 17 = .ok (.aload 4, 2) := dk_25 4 (dk_at dksX1_removes_0 17 rfl rfl)
theorem dX1_removes_19 : decode cX1_removes 19 = .ok (.aload 4, 2) := dk_25 4 (dk_at dksX1_removes_0 19 rfl rfl)
theorem dX1_removes_21 : decode cX1_removes 21 = .ok (.iload_n 3, 1) := dk_29 (dk_at dksX1_removes_0 21 rfl rfl)
theorem dX1_removes_22 : decode cX1_removes 22 = .ok (.iconst 0, 1) := dk_3 (dk_at dksX1_removes_0 22 rfl rfl)
theorem dX1_removes_23 : decode cX1_removes 23 = .ok (.invokevirtual 247, 3) := dk_182 0 247 (dk_at dksX1_removes_1 0 rfl rfl)
theorem dX1_removes_26 : decode cX1_removes 26 = .ok (.invokevirtual 251, 3) := dk_182 0 251 (dk_at dksX1_removes_1 3 rfl rfl)
theorem dX1_removes_29 : decode cX1_removes 29 = .ok (.astore 6, 2) := dk_58 6 (dk_at dksX1_removes_1 6 rfl rfl)
theorem dX1_removes_31 : decode cX1_removes 31 = .ok (.aload 4, 2) := dk_25 4 (dk_at dksX1_removes_1 8 rfl rfl)
theorem dX1_removes_33 : decode cX1_removes 33 = .ok (.aload 4, 2) := dk_25 4 (dk_at dksX1_removes_1 10 rfl rfl)
theorem dX1_removes_35 : decode cX1_removes 35 = .ok (.iload_n 3, 1) := dk_29 (dk_at dksX1_removes_1 12 rfl rfl)
theorem dX1_removes_36 : decode cX1_removes 36 = .ok (.iconst 1, 1) := dk_4 (dk_at dksX1_removes_1 13 rfl rfl)
theorem dX1_removes_37 : decode cX1_removes 37 = .ok (.invokevirtual 247, 3) := dk_182 0 247 (dk_at dksX1_removes_1 14 rfl rfl)
theorem dX1_removes_40 : decode cX1_removes 40 = .ok (.invokevirtual 251, 3) := dk_182 0 251 (dk_at dksX1_removes_1 17 rfl rfl)
theorem dX1_removes_43 : decode cX1_removes 43 = .ok (.astore 7, 2) := dk_58 7 (dk_at dksX1_removes_1 20 rfl rfl)
theorem dX1_removes_45 : decode cX1_removes 45 = .ok (.aload_n 0, 1) := dk_42 (dk_at dksX1_removes_1 22 rfl rfl)
theorem dX1_removes_46 : decode cX1_removes 46 = .ok (.aload_n 1, 1) := dk_43 (dk_at dksX1_removes_1 23 rfl rfl)
theorem dX1_removes_47 : decode cX1_removes 47 = .ok (.iload_n 2, 1) := dk_28 (dk_at dksX1_removes_2 0 rfl rfl)
theorem dX1_removes_48 : decode cX1_removes 48 = .ok (.aload 4, 2) := dk_25 4 (dk_at dksX1_removes_2 1 rfl rfl)
theorem dX1_removes_50 : decode cX1_removes 50 = .ok (.iload 5, 2) := dk_21 5 (dk_at dksX1_removes_2 3 rfl rfl)
theorem dX1_removes_52 : decode cX1_removes 52 = .ok (.aload 4, 2) := dk_25 4 (dk_at dksX1_removes_2 5 rfl rfl)
theorem dX1_removes_54 : decode cX1_removes 54 = .ok (.getfield 3, 3) := dk_180 0 3 (dk_at dksX1_removes_2 7 rfl rfl)
theorem dX1_removes_57 : decode cX1_removes 57 = .ok (.invokestatic 255, 3) := dk_184 0 255 (dk_at dksX1_removes_2 10 rfl rfl)
theorem dX1_removes_60 : decode cX1_removes 60 = .ok (.invokevirtual 258, 3) := dk_182 1 2 (dk_at dksX1_removes_2 13 rfl rfl)
theorem dX1_removes_63 : decode cX1_removes 63 = .ok (.return_, 1) := dk_177 (dk_at dksX1_removes_2 16 rfl rfl)
abbrev cX1_time : ByteArray := prog_1_method_10_code
def yX1_time : MethodName := ⟨RX1, "time", "(LRideDesk$State;ILRideDesk$Route;I)V"⟩
def dkwX1_time_5 : List UInt8 := [132, 5, 1, 167, 255, 143, 177]
abbrev dktX1_time_5 : List UInt8 := dkwX1_time_5 ++ []
def dkwX1_time_4 : List UInt8 := [50, 43, 45, 180, 0, 69, 21, 5, 46, 42, 28, 45, 21, 5, 182, 0, 92, 96, 182, 0, 102, 79]
abbrev dktX1_time_4 : List UInt8 := dkwX1_time_4 ++ dktX1_time_5
def dkwX1_time_3 : List UInt8 := [180, 0, 72, 184, 0, 96, 167, 0, 5, 21, 6, 79, 45, 180, 0, 51, 21, 5, 45, 180, 0, 33, 21, 5]
abbrev dktX1_time_3 : List UInt8 := dkwX1_time_3 ++ dktX1_time_4
def dkwX1_time_2 : List UInt8 := [100, 182, 0, 88, 54, 6, 45, 180, 0, 69, 21, 5, 21, 5, 21, 4, 160, 0, 15, 21, 6, 43]
abbrev dktX1_time_2 : List UInt8 := dkwX1_time_2 ++ dktX1_time_3
def dkwX1_time_1 : List UInt8 := [180, 0, 19, 28, 185, 0, 25, 2, 0, 192, 0, 83, 180, 0, 85, 167, 0, 13, 42, 43, 45, 21, 5, 4]
abbrev dktX1_time_1 : List UInt8 := dkwX1_time_1 ++ dktX1_time_2
def dkwX1_time_0 : List UInt8 := [21, 4, 54, 5, 21, 5, 45, 180, 0, 3, 162, 0, 110, 21, 5, 154, 0, 25, 42, 180, 0, 15]
abbrev dktX1_time_0 : List UInt8 := dkwX1_time_0 ++ dktX1_time_1
theorem dksX1_time_0 : cX1_time.data.toList.drop 0 = dktX1_time_0 := by decide +kernel
theorem dksX1_time_1 : cX1_time.data.toList.drop 22 = dktX1_time_1 := dk_seg dksX1_time_0 22 rfl rfl
theorem dksX1_time_2 : cX1_time.data.toList.drop 46 = dktX1_time_2 := dk_seg dksX1_time_1 24 rfl rfl
theorem dksX1_time_3 : cX1_time.data.toList.drop 68 = dktX1_time_3 := dk_seg dksX1_time_2 22 rfl rfl
theorem dksX1_time_4 : cX1_time.data.toList.drop 92 = dktX1_time_4 := dk_seg dksX1_time_3 24 rfl rfl
theorem dksX1_time_5 : cX1_time.data.toList.drop 114 = dktX1_time_5 := dk_seg dksX1_time_4 22 rfl rfl
theorem dX1_time_0 : decode cX1_time 0 = .ok (.iload 4, 2) := dk_21 4 (dk_at dksX1_time_0 0 rfl rfl)
theorem dX1_time_2 : decode cX1_time 2 = .ok (.istore 5, 2) := dk_54 5 (dk_at dksX1_time_0 2 rfl rfl)
theorem dX1_time_4 : decode cX1_time 4 = .ok (.iload 5, 2) := dk_21 5 (dk_at dksX1_time_0 4 rfl rfl)
theorem dX1_time_6 : decode cX1_time 6 = .ok (.aload_n 3, 1) := dk_45 (dk_at dksX1_time_0 6 rfl rfl)
theorem dX1_time_7 : decode cX1_time 7 = .ok (.getfield 3, 3) := dk_180 0 3 (dk_at dksX1_time_0 7 rfl rfl)
theorem dX1_time_10 : decode cX1_time 10 = .ok (.if_icmp .ge 110, 3) := dk_162 0 110 (dk_at dksX1_time_0 10 rfl rfl)
theorem dX1_time_13 : decode cX1_time 13 = .ok (.iload 5, 2) := dk_21 5 (dk_at dksX1_time_0 13 rfl rfl)
theorem dX1_time_15 : decode cX1_time 15 = .ok (.ifCond .ne 25, 3) := dk_154 0 25 (dk_at dksX1_time_0 15 rfl rfl)
theorem dX1_time_18 : decode cX1_time 18 = .ok (.aload_n 0, 1) := dk_42 (dk_at dksX1_time_0 18 rfl rfl)
theorem dX1_time_19 : decode cX1_time 19 = .ok (.getfield 15, 3) := dk_180 0 15 (dk_at dksX1_time_0 19 rfl rfl)
theorem dX1_time_22 : decode cX1_time 22 = .ok (.getfield 19, 3) := dk_180 0 19 (dk_at dksX1_time_1 0 rfl rfl)
theorem dX1_time_25 : decode cX1_time 25 = .ok (.iload_n 2, 1) := dk_28 (dk_at dksX1_time_1 3 rfl rfl)
theorem dX1_time_26 : decode cX1_time 26 = .ok (.invokeinterface 25 2, 5) := by decide +kernel
theorem dX1_time_31 : decode cX1_time 31 = .ok (.checkcast 83, 3) := dk_192 0 83 (dk_at dksX1_time_1 9 rfl rfl)
theorem dX1_time_34 : decode cX1_time 34 = .ok (.getfield 85, 3) := dk_180 0 85 (dk_at dksX1_time_1 12 rfl rfl)
theorem dX1_time_37 : decode cX1_time 37 = .ok (.goto 13, 3) := dk_167 0 13 (dk_at dksX1_time_1 15 rfl rfl)
theorem dX1_time_40 : decode cX1_time 40 = .ok (.aload_n 0, 1) := dk_42 (dk_at dksX1_time_1 18 rfl rfl)
theorem dX1_time_41 : decode cX1_time 41 = .ok (.aload_n 1, 1) := dk_43 (dk_at dksX1_time_1 19 rfl rfl)
theorem dX1_time_42 : decode cX1_time 42 = .ok (.aload_n 3, 1) := dk_45 (dk_at dksX1_time_1 20 rfl rfl)
theorem dX1_time_43 : decode cX1_time 43 = .ok (.iload 5, 2) := dk_21 5 (dk_at dksX1_time_1 21 rfl rfl)
theorem dX1_time_45 : decode cX1_time 45 = .ok (.iconst 1, 1) := dk_4 (dk_at dksX1_time_1 23 rfl rfl)
theorem dX1_time_46 : decode cX1_time 46 = .ok (.isub, 1) := dk_100 (dk_at dksX1_time_2 0 rfl rfl)
theorem dX1_time_47 : decode cX1_time 47 = .ok (.invokevirtual 88, 3) := dk_182 0 88 (dk_at dksX1_time_2 1 rfl rfl)
theorem dX1_time_50 : decode cX1_time 50 = .ok (.istore 6, 2) := dk_54 6 (dk_at dksX1_time_2 4 rfl rfl)
theorem dX1_time_52 : decode cX1_time 52 = .ok (.aload_n 3, 1) := dk_45 (dk_at dksX1_time_2 6 rfl rfl)
theorem dX1_time_53 : decode cX1_time 53 = .ok (.getfield 69, 3) := dk_180 0 69 (dk_at dksX1_time_2 7 rfl rfl)
theorem dX1_time_56 : decode cX1_time 56 = .ok (.iload 5, 2) := dk_21 5 (dk_at dksX1_time_2 10 rfl rfl)
theorem dX1_time_58 : decode cX1_time 58 = .ok (.iload 5, 2) := dk_21 5 (dk_at dksX1_time_2 12 rfl rfl)
theorem dX1_time_60 : decode cX1_time 60 = .ok (.iload 4, 2) := dk_21 4 (dk_at dksX1_time_2 14 rfl rfl)
theorem dX1_time_62 : decode cX1_time 62 = .ok (.if_icmp .ne 15, 3) := dk_160 0 15 (dk_at dksX1_time_2 16 rfl rfl)
theorem dX1_time_65 : decode cX1_time 65 = .ok (.iload 6, 2) := dk_21 6 (dk_at dksX1_time_2 19 rfl rfl)
theorem dX1_time_67 : decode cX1_time 67 = .ok (.aload_n 1, 1) := dk_43 (dk_at dksX1_time_2 21 rfl rfl)
theorem dX1_time_68 : decode cX1_time 68 = .ok (.getfield 72, 3) := dk_180 0 72 (dk_at dksX1_time_3 0 rfl rfl)
theorem dX1_time_71 : decode cX1_time 71 = .ok (.invokestatic 96, 3) := dk_184 0 96 (dk_at dksX1_time_3 3 rfl rfl)
theorem dX1_time_74 : decode cX1_time 74 = .ok (.goto 5, 3) := dk_167 0 5 (dk_at dksX1_time_3 6 rfl rfl)
theorem dX1_time_77 : decode cX1_time 77 = .ok (.iload 6, 2) := dk_21 6 (dk_at dksX1_time_3 9 rfl rfl)
theorem dX1_time_79 : decode cX1_time 79 = .ok (.iastore, 1) := dk_79 (dk_at dksX1_time_3 11 rfl rfl)
theorem dX1_time_80 : decode cX1_time 80 = .ok (.aload_n 3, 1) := dk_45 (dk_at dksX1_time_3 12 rfl rfl)
theorem dX1_time_81 : decode cX1_time 81 = .ok (.getfield 51, 3) := dk_180 0 51 (dk_at dksX1_time_3 13 rfl rfl)
theorem dX1_time_84 : decode cX1_time 84 = .ok (.iload 5, 2) := dk_21 5 (dk_at dksX1_time_3 16 rfl rfl)
theorem dX1_time_86 : decode cX1_time 86 = .ok (.aload_n 3, 1) := dk_45 (dk_at dksX1_time_3 18 rfl rfl)
theorem dX1_time_87 : decode cX1_time 87 = .ok (.getfield 33, 3) := dk_180 0 33 (dk_at dksX1_time_3 19 rfl rfl)
theorem dX1_time_90 : decode cX1_time 90 = .ok (.iload 5, 2) := dk_21 5 (dk_at dksX1_time_3 22 rfl rfl)
theorem dX1_time_92 : decode cX1_time 92 = .ok (.aaload, 1) := dk_50 (dk_at dksX1_time_4 0 rfl rfl)
theorem dX1_time_93 : decode cX1_time 93 = .ok (.aload_n 1, 1) := dk_43 (dk_at dksX1_time_4 1 rfl rfl)
theorem dX1_time_94 : decode cX1_time 94 = .ok (.aload_n 3, 1) := dk_45 (dk_at dksX1_time_4 2 rfl rfl)
theorem dX1_time_95 : decode cX1_time 95 = .ok (.getfield 69, 3) := dk_180 0 69 (dk_at dksX1_time_4 3 rfl rfl)
theorem dX1_time_98 : decode cX1_time 98 = .ok (.iload 5, 2) := dk_21 5 (dk_at dksX1_time_4 6 rfl rfl)
theorem dX1_time_100 : decode cX1_time 100 = .ok (.iaload, 1) := dk_46 (dk_at dksX1_time_4 8 rfl rfl)
theorem dX1_time_101 : decode cX1_time 101 = .ok (.aload_n 0, 1) := dk_42 (dk_at dksX1_time_4 9 rfl rfl)
theorem dX1_time_102 : decode cX1_time 102 = .ok (.iload_n 2, 1) := dk_28 (dk_at dksX1_time_4 10 rfl rfl)
theorem dX1_time_103 : decode cX1_time 103 = .ok (.aload_n 3, 1) := dk_45 (dk_at dksX1_time_4 11 rfl rfl)
theorem dX1_time_104 : decode cX1_time 104 = .ok (.iload 5, 2) := dk_21 5 (dk_at dksX1_time_4 12 rfl rfl)
theorem dX1_time_106 : decode cX1_time 106 = .ok (.invokevirtual 92, 3) := dk_182 0 92 (dk_at dksX1_time_4 14 rfl rfl)
theorem dX1_time_109 : decode cX1_time 109 = .ok (.iadd, 1) := dk_96 (dk_at dksX1_time_4 17 rfl rfl)
theorem dX1_time_110 : decode cX1_time 110 = .ok (.invokevirtual 102, 3) := dk_182 0 102 (dk_at dksX1_time_4 18 rfl rfl)
theorem dX1_time_113 : decode cX1_time 113 = .ok (.iastore, 1) := dk_79 (dk_at dksX1_time_4 21 rfl rfl)
theorem dX1_time_114 : decode cX1_time 114 = .ok (.iinc 5 1, 3) := dk_132 5 1 (dk_at dksX1_time_5 0 rfl rfl)
theorem dX1_time_117 : decode cX1_time 117 = .ok (.goto (-113), 3) := dk_167 255 143 (dk_at dksX1_time_5 3 rfl rfl)
theorem dX1_time_120 : decode cX1_time 120 = .ok (.return_, 1) := dk_177 (dk_at dksX1_time_5 6 rfl rfl)
abbrev cX1_repairs : ByteArray := prog_1_method_25_code
def yX1_repairs : MethodName := ⟨RX1, "repairs", "(LRideDesk$State;I)I"⟩
def dkwX1_repairs_4 : List UInt8 := [21, 5, 4, 100, 126, 54, 5, 167, 255, 191, 21, 4, 172]
abbrev dktX1_repairs_4 : List UInt8 := dkwX1_repairs_4 ++ []
def dkwX1_repairs_3 : List UInt8 := [180, 0, 241, 21, 6, 16, 60, 42, 180, 0, 15, 180, 0, 141, 180, 1, 21, 104, 79, 132, 4, 1, 21, 5]
abbrev dktX1_repairs_3 : List UInt8 := dkwX1_repairs_3 ++ dktX1_repairs_4
def dkwX1_repairs_2 : List UInt8 := [42, 43, 21, 6, 182, 0, 244, 153, 0, 6, 167, 0, 34, 43, 180, 0, 232, 21, 6, 8, 79, 43]
abbrev dktX1_repairs_2 : List UInt8 := dkwX1_repairs_2 ++ dktX1_repairs_3
def dkwX1_repairs_1 : List UInt8 := [172, 3, 54, 4, 42, 43, 28, 182, 1, 18, 54, 5, 21, 5, 153, 0, 66, 21, 5, 184, 1, 9, 54, 6]
abbrev dktX1_repairs_1 : List UInt8 := dkwX1_repairs_1 ++ dktX1_repairs_2
def dkwX1_repairs_0 : List UInt8 := [43, 180, 0, 156, 28, 50, 78, 42, 43, 28, 45, 42, 43, 45, 182, 0, 160, 182, 0, 164, 153, 0, 5, 3]
abbrev dktX1_repairs_0 : List UInt8 := dkwX1_repairs_0 ++ dktX1_repairs_1
theorem dksX1_repairs_0 : cX1_repairs.data.toList.drop 0 = dktX1_repairs_0 := by decide +kernel
theorem dksX1_repairs_1 : cX1_repairs.data.toList.drop 24 = dktX1_repairs_1 := dk_seg dksX1_repairs_0 24 rfl rfl
theorem dksX1_repairs_2 : cX1_repairs.data.toList.drop 48 = dktX1_repairs_2 := dk_seg dksX1_repairs_1 24 rfl rfl
theorem dksX1_repairs_3 : cX1_repairs.data.toList.drop 70 = dktX1_repairs_3 := dk_seg dksX1_repairs_2 22 rfl rfl
theorem dksX1_repairs_4 : cX1_repairs.data.toList.drop 94 = dktX1_repairs_4 := dk_seg dksX1_repairs_3 24 rfl rfl
theorem dX1_repairs_0 : decode cX1_repairs 0 = .ok (.aload_n 1, 1) := dk_43 (dk_at dksX1_repairs_0 0 rfl rfl)
theorem dX1_repairs_1 : decode cX1_repairs 1 = .ok (.getfield 156, 3) := dk_180 0 156 (dk_at dksX1_repairs_0 1 rfl rfl)
theorem dX1_repairs_4 : decode cX1_repairs 4 = .ok (.iload_n 2, 1) := dk_28 (dk_at dksX1_repairs_0 4 rfl rfl)
theorem dX1_repairs_5 : decode cX1_repairs 5 = .ok (.aaload, 1) := dk_50 (dk_at dksX1_repairs_0 5 rfl rfl)
theorem dX1_repairs_6 : decode cX1_repairs 6 = .ok (.astore_n 3, 1) := dk_78 (dk_at dksX1_repairs_0 6 rfl rfl)
theorem dX1_repairs_7 : decode cX1_repairs 7 = .ok (.aload_n 0, 1) := dk_42 (dk_at dksX1_repairs_0 7 rfl rfl)
theorem dX1_repairs_8 : decode cX1_repairs 8 = .ok (.aload_n 1, 1) := dk_43 (dk_at dksX1_repairs_0 8 rfl rfl)
theorem dX1_repairs_9 : decode cX1_repairs 9 = .ok (.iload_n 2, 1) := dk_28 (dk_at dksX1_repairs_0 9 rfl rfl)
theorem dX1_repairs_10 : decode cX1_repairs 10 = .ok (.aload_n 3, 1) := dk_45 (dk_at dksX1_repairs_0 10 rfl rfl)
theorem dX1_repairs_11 : decode cX1_repairs 11 = .ok (.aload_n 0, 1) := dk_42 (dk_at dksX1_repairs_0 11 rfl rfl)
theorem dX1_repairs_12 : decode cX1_repairs 12 = .ok (.aload_n 1, 1) := dk_43 (dk_at dksX1_repairs_0 12 rfl rfl)
theorem dX1_repairs_13 : decode cX1_repairs 13 = .ok (.aload_n 3, 1) := dk_45 (dk_at dksX1_repairs_0 13 rfl rfl)
theorem dX1_repairs_14 : decode cX1_repairs 14 = .ok (.invokevirtual 160, 3) := dk_182 0 160 (dk_at dksX1_repairs_0 14 rfl rfl)
theorem dX1_repairs_17 : decode cX1_repairs 17 = .ok (.invokevirtual 164, 3) := dk_182 0 164 (dk_at dksX1_repairs_0 17 rfl rfl)
theorem dX1_repairs_20 : decode cX1_repairs 20 = .ok (.ifCond .eq 5, 3) := dk_153 0 5 (dk_at dksX1_repairs_0 20 rfl rfl)
theorem dX1_repairs_23 : decode cX1_repairs 23 = .ok (.iconst 0, 1) := dk_3 (dk_at dksX1_repairs_0 23 rfl rfl)
theorem dX1_repairs_24 : decode cX1_repairs 24 = .ok (.ireturn, 1) := dk_172 (dk_at dksX1_repairs_1 0 rfl rfl)
theorem dX1_repairs_25 : decode cX1_repairs 25 = .ok (.iconst 0, 1) := dk_3 (dk_at dksX1_repairs_1 1 rfl rfl)
theorem dX1_repairs_26 : decode cX1_repairs 26 = .ok (.istore 4, 2) := dk_54 4 (dk_at dksX1_repairs_1 2 rfl rfl)
theorem dX1_repairs_28 : decode cX1_repairs 28 = .ok (.aload_n 0, 1) := dk_42 (dk_at dksX1_repairs_1 4 rfl rfl)
theorem dX1_repairs_29 : decode cX1_repairs 29 = .ok (.aload_n 1, 1) := dk_43 (dk_at dksX1_repairs_1 5 rfl rfl)
theorem dX1_repairs_30 : decode cX1_repairs 30 = .ok (.iload_n 2, 1) := dk_28 (dk_at dksX1_repairs_1 6 rfl rfl)
theorem dX1_repairs_31 : decode cX1_repairs 31 = .ok (.invokevirtual 274, 3) := dk_182 1 18 (dk_at dksX1_repairs_1 7 rfl rfl)
theorem dX1_repairs_34 : decode cX1_repairs 34 = .ok (.istore 5, 2) := dk_54 5 (dk_at dksX1_repairs_1 10 rfl rfl)
theorem dX1_repairs_36 : decode cX1_repairs 36 = .ok (.iload 5, 2) := dk_21 5 (dk_at dksX1_repairs_1 12 rfl rfl)
theorem dX1_repairs_38 : decode cX1_repairs 38 = .ok (.ifCond .eq 66, 3) := dk_153 0 66 (dk_at dksX1_repairs_1 14 rfl rfl)
theorem dX1_repairs_41 : decode cX1_repairs 41 = .ok (.iload 5, 2) := dk_21 5 (dk_at dksX1_repairs_1 17 rfl rfl)
theorem dX1_repairs_43 : decode cX1_repairs 43 = .ok (.invokestatic 265, 3) := dk_184 1 9 (dk_at dksX1_repairs_1 19 rfl rfl)
theorem dX1_repairs_46 : decode cX1_repairs 46 = .ok (.istore 6, 2) := dk_54 6 (dk_at dksX1_repairs_1 22 rfl rfl)
theorem dX1_repairs_48 : decode cX1_repairs 48 = .ok (.aload_n 0, 1) := dk_42 (dk_at dksX1_repairs_2 0 rfl rfl)
theorem dX1_repairs_49 : decode cX1_repairs 49 = .ok (.aload_n 1, 1) := dk_43 (dk_at dksX1_repairs_2 1 rfl rfl)
theorem dX1_repairs_50 : decode cX1_repairs 50 = .ok (.iload 6, 2) := dk_21 6 (dk_at dksX1_repairs_2 2 rfl rfl)
theorem dX1_repairs_52 : decode cX1_repairs 52 = .ok (.invokevirtual 244, 3) := dk_182 0 244 (dk_at dksX1_repairs_2 4 rfl rfl)
theorem dX1_repairs_55 : decode cX1_repairs 55 = .ok (.ifCond .eq 6, 3) := dk_153 0 6 (dk_at dksX1_repairs_2 7 rfl rfl)
theorem dX1_repairs_58 : decode cX1_repairs 58 = .ok (.goto 34, 3) := dk_167 0 34 (dk_at dksX1_repairs_2 10 rfl rfl)
theorem dX1_repairs_61 : decode cX1_repairs 61 = .ok (.aload_n 1, 1) := dk_43 (dk_at dksX1_repairs_2 13 rfl rfl)
theorem dX1_repairs_62 : decode cX1_repairs 62 = .ok (.getfield 232, 3) := dk_180 0 232 (dk_at dksX1_repairs_2 14 rfl rfl)
theorem dX1_repairs_65 : decode cX1_repairs 65 = .ok (.iload 6, 2) := dk_21 6 (dk_at dksX1_repairs_2 17 rfl rfl)
theorem dX1_repairs_67 : decode cX1_repairs 67 = .ok (.iconst 5, 1) := dk_8 (dk_at dksX1_repairs_2 19 rfl rfl)
theorem dX1_repairs_68 : decode cX1_repairs 68 = .ok (.iastore, 1) := dk_79 (dk_at dksX1_repairs_2 20 rfl rfl)
theorem dX1_repairs_69 : decode cX1_repairs 69 = .ok (.aload_n 1, 1) := dk_43 (dk_at dksX1_repairs_2 21 rfl rfl)
theorem dX1_repairs_70 : decode cX1_repairs 70 = .ok (.getfield 241, 3) := dk_180 0 241 (dk_at dksX1_repairs_3 0 rfl rfl)
theorem dX1_repairs_73 : decode cX1_repairs 73 = .ok (.iload 6, 2) := dk_21 6 (dk_at dksX1_repairs_3 3 rfl rfl)
theorem dX1_repairs_75 : decode cX1_repairs 75 = .ok (.bipush 60, 2) := dk_16 60 (dk_at dksX1_repairs_3 5 rfl rfl)
theorem dX1_repairs_77 : decode cX1_repairs 77 = .ok (.aload_n 0, 1) := dk_42 (dk_at dksX1_repairs_3 7 rfl rfl)
theorem dX1_repairs_78 : decode cX1_repairs 78 = .ok (.getfield 15, 3) := dk_180 0 15 (dk_at dksX1_repairs_3 8 rfl rfl)
theorem dX1_repairs_81 : decode cX1_repairs 81 = .ok (.getfield 141, 3) := dk_180 0 141 (dk_at dksX1_repairs_3 11 rfl rfl)
theorem dX1_repairs_84 : decode cX1_repairs 84 = .ok (.getfield 277, 3) := dk_180 1 21 (dk_at dksX1_repairs_3 14 rfl rfl)
theorem dX1_repairs_87 : decode cX1_repairs 87 = .ok (.imul, 1) := dk_104 (dk_at dksX1_repairs_3 17 rfl rfl)
theorem dX1_repairs_88 : decode cX1_repairs 88 = .ok (.iastore, 1) := dk_79 (dk_at dksX1_repairs_3 18 rfl rfl)
theorem dX1_repairs_89 : decode cX1_repairs 89 = .ok (.iinc 4 1, 3) := dk_132 4 1 (dk_at dksX1_repairs_3 19 rfl rfl)
theorem dX1_repairs_92 : decode cX1_repairs 92 = .ok (.iload 5, 2) := dk_21 5 (dk_at dksX1_repairs_3 22 rfl rfl)
theorem dX1_repairs_94 : decode cX1_repairs 94 = .ok (.iload 5, 2) := dk_21 5 (dk_at dksX1_repairs_4 0 rfl rfl)
theorem dX1_repairs_96 : decode cX1_repairs 96 = .ok (.iconst 1, 1) := dk_4 (dk_at dksX1_repairs_4 2 rfl rfl)
theorem dX1_repairs_97 : decode cX1_repairs 97 = .ok (.isub, 1) := dk_100 (dk_at dksX1_repairs_4 3 rfl rfl)
theorem dX1_repairs_98 : decode cX1_repairs 98 = .ok (.iand, 1) := dk_126 (dk_at dksX1_repairs_4 4 rfl rfl)
theorem dX1_repairs_99 : decode cX1_repairs 99 = .ok (.istore 5, 2) := dk_54 5 (dk_at dksX1_repairs_4 5 rfl rfl)
theorem dX1_repairs_101 : decode cX1_repairs 101 = .ok (.goto (-65), 3) := dk_167 255 191 (dk_at dksX1_repairs_4 7 rfl rfl)
theorem dX1_repairs_104 : decode cX1_repairs 104 = .ok (.iload 4, 2) := dk_21 4 (dk_at dksX1_repairs_4 10 rfl rfl)
theorem dX1_repairs_106 : decode cX1_repairs 106 = .ok (.ireturn, 1) := dk_172 (dk_at dksX1_repairs_4 12 rfl rfl)
abbrev cX1_isPossible : ByteArray := prog_1_method_11_code
def yX1_isPossible : MethodName := ⟨RX1, "isPossible", "(LRideDesk$State;ILRideDesk$Route;I)Z"⟩
def dkwX1_isPossible_8 : List UInt8 := [163, 0, 7, 4, 167, 0, 4, 3, 172]
abbrev dktX1_isPossible_8 : List UInt8 := dkwX1_isPossible_8 ++ []
def dkwX1_isPossible_7 : List UInt8 := [167, 255, 128, 45, 180, 0, 3, 153, 0, 19, 42, 43, 28, 45, 182, 0, 131, 43, 180, 0, 135, 28, 46]
abbrev dktX1_isPossible_7 : List UInt8 := dkwX1_isPossible_7 ++ dktX1_isPossible_8
def dkwX1_isPossible_6 : List UInt8 := [155, 0, 19, 21, 7, 155, 0, 14, 42, 43, 45, 21, 8, 182, 0, 128, 154, 0, 5, 3, 172, 132, 8, 1]
abbrev dktX1_isPossible_6 : List UInt8 := dkwX1_isPossible_6 ++ dktX1_isPossible_7
def dkwX1_isPossible_5 : List UInt8 := [180, 0, 61, 42, 43, 45, 21, 8, 182, 0, 88, 79, 21, 8, 21, 4, 162, 0, 6, 167, 0, 26, 21, 6]
abbrev dktX1_isPossible_5 : List UInt8 := dkwX1_isPossible_5 ++ dktX1_isPossible_6
def dkwX1_isPossible_4 : List UInt8 := [180, 0, 122, 182, 0, 118, 100, 54, 7, 25, 9, 193, 0, 123, 153, 0, 21, 42, 180, 0, 125, 25, 9]
abbrev dktX1_isPossible_4 : List UInt8 := dkwX1_isPossible_4 ++ dktX1_isPossible_5
def dkwX1_isPossible_3 : List UInt8 := [25, 10, 180, 0, 111, 180, 0, 115, 182, 0, 118, 100, 54, 6, 21, 7, 25, 9, 25, 10, 180, 0, 111]
abbrev dktX1_isPossible_3 : List UInt8 := dkwX1_isPossible_3 ++ dktX1_isPossible_4
def dkwX1_isPossible_2 : List UInt8 := [180, 0, 33, 21, 8, 50, 58, 9, 43, 180, 0, 55, 25, 9, 180, 0, 61, 50, 58, 10, 21, 6, 25, 9]
abbrev dktX1_isPossible_2 : List UInt8 := dkwX1_isPossible_2 ++ dktX1_isPossible_3
def dkwX1_isPossible_1 : List UInt8 := [54, 6, 25, 5, 180, 0, 108, 54, 7, 3, 54, 8, 21, 8, 45, 180, 0, 3, 162, 0, 125, 45]
abbrev dktX1_isPossible_1 : List UInt8 := dkwX1_isPossible_1 ++ dktX1_isPossible_2
def dkwX1_isPossible_0 : List UInt8 := [42, 180, 0, 15, 180, 0, 19, 28, 185, 0, 25, 2, 0, 192, 0, 83, 58, 5, 25, 5, 180, 0, 105]
abbrev dktX1_isPossible_0 : List UInt8 := dkwX1_isPossible_0 ++ dktX1_isPossible_1
theorem dksX1_isPossible_0 : cX1_isPossible.data.toList.drop 0 = dktX1_isPossible_0 := by decide +kernel
theorem dksX1_isPossible_1 : cX1_isPossible.data.toList.drop 23 = dktX1_isPossible_1 := dk_seg dksX1_isPossible_0 23 rfl rfl
theorem dksX1_isPossible_2 : cX1_isPossible.data.toList.drop 45 = dktX1_isPossible_2 := dk_seg dksX1_isPossible_1 22 rfl rfl
theorem dksX1_isPossible_3 : cX1_isPossible.data.toList.drop 69 = dktX1_isPossible_3 := dk_seg dksX1_isPossible_2 24 rfl rfl
theorem dksX1_isPossible_4 : cX1_isPossible.data.toList.drop 92 = dktX1_isPossible_4 := dk_seg dksX1_isPossible_3 23 rfl rfl
theorem dksX1_isPossible_5 : cX1_isPossible.data.toList.drop 115 = dktX1_isPossible_5 := dk_seg dksX1_isPossible_4 23 rfl rfl
theorem dksX1_isPossible_6 : cX1_isPossible.data.toList.drop 139 = dktX1_isPossible_6 := dk_seg dksX1_isPossible_5 24 rfl rfl
theorem dksX1_isPossible_7 : cX1_isPossible.data.toList.drop 163 = dktX1_isPossible_7 := dk_seg dksX1_isPossible_6 24 rfl rfl
theorem dksX1_isPossible_8 : cX1_isPossible.data.toList.drop 186 = dktX1_isPossible_8 := dk_seg dksX1_isPossible_7 23 rfl rfl
theorem dX1_isPossible_0 : decode cX1_isPossible 0 = .ok (.aload_n 0, 1) := dk_42 (dk_at dksX1_isPossible_0 0 rfl rfl)
theorem dX1_isPossible_1 : decode cX1_isPossible 1 = .ok (.getfield 15, 3) := dk_180 0 15 (dk_at dksX1_isPossible_0 1 rfl rfl)
theorem dX1_isPossible_4 : decode cX1_isPossible 4 = .ok (.getfield 19, 3) := dk_180 0 19 (dk_at dksX1_isPossible_0 4 rfl rfl)
theorem dX1_isPossible_7 : decode cX1_isPossible 7 = .ok (.iload_n 2, 1) := dk_28 (dk_at dksX1_isPossible_0 7 rfl rfl)
theorem dX1_isPossible_8 : decode cX1_isPossible 8 = .ok (.invokeinterface 25 2, 5) := by decide +kernel
theorem dX1_isPossible_13 : decode cX1_isPossible 13 = .ok (.checkcast 83, 3) := dk_192 0 83 (dk_at dksX1_isPossible_0 13 rfl rfl)
theorem dX1_isPossible_16 : decode cX1_isPossible 16 = .ok (.astore 5, 2) := dk_58 5 (dk_at dksX1_isPossible_0 16 rfl rfl)
theorem dX1_isPossible_18 : decode cX1_isPossible 18 = .ok (.aload 5, 2) := dk_25 5 (dk_at dksX1_isPossible_0 18 rfl rfl)
theorem dX1_isPossible_20 : decode cX1_isPossible 20 = .ok (.getfield 105, 3) := dk_180 0 105 (dk_at dksX1_isPossible_0 20 rfl rfl)
theorem dX1_isPossible_23 : decode cX1_isPossible 23 = .ok (.istore 6, 2) := dk_54 6 (dk_at dksX1_isPossible_1 0 rfl rfl)
theorem dX1_isPossible_25 : decode cX1_isPossible 25 = .ok (.aload 5, 2) := dk_25 5 (dk_at dksX1_isPossible_1 2 rfl rfl)
theorem dX1_isPossible_27 : decode cX1_isPossible 27 = .ok (.getfield 108, 3) := dk_180 0 108 (dk_at dksX1_isPossible_1 4 rfl rfl)
theorem dX1_isPossible_30 : decode cX1_isPossible 30 = .ok (.istore 7, 2) := dk_54 7 (dk_at dksX1_isPossible_1 7 rfl rfl)
theorem dX1_isPossible_32 : decode cX1_isPossible 32 = .ok (.iconst 0, 1) := dk_3 (dk_at dksX1_isPossible_1 9 rfl rfl)
theorem dX1_isPossible_33 : decode cX1_isPossible 33 = .ok (.istore 8, 2) := dk_54 8 (dk_at dksX1_isPossible_1 10 rfl rfl)
theorem dX1_isPossible_35 : decode cX1_isPossible 35 = .ok (.iload 8, 2) := dk_21 8 (dk_at dksX1_isPossible_1 12 rfl rfl)
theorem dX1_isPossible_37 : decode cX1_isPossible 37 = .ok (.aload_n 3, 1) := dk_45 (dk_at dksX1_isPossible_1 14 rfl rfl)
theorem dX1_isPossible_38 : decode cX1_isPossible 38 = .ok (.getfield 3, 3) := dk_180 0 3 (dk_at dksX1_isPossible_1 15 rfl rfl)
theorem dX1_isPossible_41 : decode cX1_isPossible 41 = .ok (.if_icmp .ge 125, 3) := dk_162 0 125 (dk_at dksX1_isPossible_1 18 rfl rfl)
theorem dX1_isPossible_44 : decode cX1_isPossible 44 = .ok (.aload_n 3, 1) := dk_45 (dk_at dksX1_isPossible_1 21 rfl rfl)
theorem dX1_isPossible_45 : decode cX1_isPossible 45 = .ok (.getfield 33, 3) := dk_180 0 33 (dk_at dksX1_isPossible_2 0 rfl rfl)
theorem dX1_isPossible_48 : decode cX1_isPossible 48 = .ok (.iload 8, 2) := dk_21 8 (dk_at dksX1_isPossible_2 3 rfl rfl)
theorem dX1_isPossible_50 : decode cX1_isPossible 50 = .ok (.aaload, 1) := dk_50 (dk_at dksX1_isPossible_2 5 rfl rfl)
theorem dX1_isPossible_51 : decode cX1_isPossible 51 = .ok (.astore 9, 2) := dk_58 9 (dk_at dksX1_isPossible_2 6 rfl rfl)
theorem dX1_isPossible_53 : decode cX1_isPossible 53 = .ok (.aload_n 1, 1) := dk_43 (dk_at dksX1_isPossible_2 8 rfl rfl)
theorem dX1_isPossible_54 : decode cX1_isPossible 54 = .ok (.getfield 55, 3) := dk_180 0 55 (dk_at dksX1_isPossible_2 9 rfl rfl)
theorem dX1_isPossible_57 : decode cX1_isPossible 57 = .ok (.aload 9, 2) := dk_25 9 (dk_at dksX1_isPossible_2 12 rfl rfl)
theorem dX1_isPossible_59 : decode cX1_isPossible 59 = .ok (.getfield 61, 3) := dk_180 0 61 (dk_at dksX1_isPossible_2 14 rfl rfl)
theorem dX1_isPossible_62 : decode cX1_isPossible 62 = .ok (.aaload, 1) := dk_50 (dk_at dksX1_isPossible_2 17 rfl rfl)
theorem dX1_isPossible_63 : decode cX1_isPossible 63 = .ok (.astore 10, 2) := dk_58 10 (dk_at dksX1_isPossible_2 18 rfl rfl)
theorem dX1_isPossible_65 : decode cX1_isPossible 65 = .ok (.iload 6, 2) := dk_21 6 (dk_at dksX1_isPossible_2 20 rfl rfl)
theorem dX1_isPossible_67 : decode cX1_isPossible 67 = .ok (.aload 9, 2) := dk_25 9 (dk_at dksX1_isPossible_2 22 rfl rfl)
theorem dX1_isPossible_69 : decode cX1_isPossible 69 = .ok (.aload 10, 2) := dk_25 10 (dk_at dksX1_isPossible_3 0 rfl rfl)
theorem dX1_isPossible_71 : decode cX1_isPossible 71 = .ok (.getfield 111, 3) := dk_180 0 111 (dk_at dksX1_isPossible_3 2 rfl rfl)
theorem dX1_isPossible_74 : decode cX1_isPossible 74 = .ok (.getfield 115, 3) := dk_180 0 115 (dk_at dksX1_isPossible_3 5 rfl rfl)
theorem dX1_isPossible_77 : decode cX1_isPossible 77 = .ok (.invokevirtual 118, 3) := dk_182 0 118 (dk_at dksX1_isPossible_3 8 rfl rfl)
theorem dX1_isPossible_80 : decode cX1_isPossible 80 = .ok (.isub, 1) := dk_100 (dk_at dksX1_isPossible_3 11 rfl rfl)
theorem dX1_isPossible_81 : decode cX1_isPossible 81 = .ok (.istore 6, 2) := dk_54 6 (dk_at dksX1_isPossible_3 12 rfl rfl)
theorem dX1_isPossible_83 : decode cX1_isPossible 83 = .ok (.iload 7, 2) := dk_21 7 (dk_at dksX1_isPossible_3 14 rfl rfl)
theorem dX1_isPossible_85 : decode cX1_isPossible 85 = .ok (.aload 9, 2) := dk_25 9 (dk_at dksX1_isPossible_3 16 rfl rfl)
theorem dX1_isPossible_87 : decode cX1_isPossible 87 = .ok (.aload 10, 2) := dk_25 10 (dk_at dksX1_isPossible_3 18 rfl rfl)
theorem dX1_isPossible_89 : decode cX1_isPossible 89 = .ok (.getfield 111, 3) := dk_180 0 111 (dk_at dksX1_isPossible_3 20 rfl rfl)
theorem dX1_isPossible_92 : decode cX1_isPossible 92 = .ok (.getfield 122, 3) := dk_180 0 122 (dk_at dksX1_isPossible_4 0 rfl rfl)
theorem dX1_isPossible_95 : decode cX1_isPossible 95 = .ok (.invokevirtual 118, 3) := dk_182 0 118 (dk_at dksX1_isPossible_4 3 rfl rfl)
theorem dX1_isPossible_98 : decode cX1_isPossible 98 = .ok (.isub, 1) := dk_100 (dk_at dksX1_isPossible_4 6 rfl rfl)
theorem dX1_isPossible_99 : decode cX1_isPossible 99 = .ok (.istore 7, 2) := dk_54 7 (dk_at dksX1_isPossible_4 7 rfl rfl)
theorem dX1_isPossible_101 : decode cX1_isPossible 101 = .ok (.aload 9, 2) := dk_25 9 (dk_at dksX1_isPossible_4 9 rfl rfl)
theorem dX1_isPossible_103 : decode cX1_isPossible 103 = .ok (.instanceof 123, 3) := dk_193 0 123 (dk_at dksX1_isPossible_4 11 rfl rfl)
theorem dX1_isPossible_106 : decode cX1_isPossible 106 = .ok (.ifCond .eq 21, 3) := dk_153 0 21 (dk_at dksX1_isPossible_4 14 rfl rfl)
theorem dX1_isPossible_109 : decode cX1_isPossible 109 = .ok (.aload_n 0, 1) := dk_42 (dk_at dksX1_isPossible_4 17 rfl rfl)
theorem dX1_isPossible_110 : decode cX1_isPossible 110 = .ok (.getfield 125, 3) := dk_180 0 125 (dk_at dksX1_isPossible_4 18 rfl rfl)
theorem dX1_isPossible_113 : decode cX1_isPossible 113 = .ok (.aload 9, 2) := dk_25 9 (dk_at dksX1_isPossible_4 21 rfl rfl)
theorem dX1_isPossible_115 : decode cX1_isPossible 115 = .ok (.getfield 61, 3) := dk_180 0 61 (dk_at dksX1_isPossible_5 0 rfl rfl)
theorem dX1_isPossible_118 : decode cX1_isPossible 118 = .ok (.aload_n 0, 1) := dk_42 (dk_at dksX1_isPossible_5 3 rfl rfl)
theorem dX1_isPossible_119 : decode cX1_isPossible 119 = .ok (.aload_n 1, 1) := dk_43 (dk_at dksX1_isPossible_5 4 rfl rfl)
theorem dX1_isPossible_120 : decode cX1_isPossible 120 = .ok (.aload_n 3, 1) := dk_45 (dk_at dksX1_isPossible_5 5 rfl rfl)
theorem dX1_isPossible_121 : decode cX1_isPossible 121 = .ok (.iload 8, 2) := dk_21 8 (dk_at dksX1_isPossible_5 6 rfl rfl)
theorem dX1_isPossible_123 : decode cX1_isPossible 123 = .ok (.invokevirtual 88, 3) := dk_182 0 88 (dk_at dksX1_isPossible_5 8 rfl rfl)
theorem dX1_isPossible_126 : decode cX1_isPossible 126 = .ok (.iastore, 1) := dk_79 (dk_at dksX1_isPossible_5 11 rfl rfl)
theorem dX1_isPossible_127 : decode cX1_isPossible 127 = .ok (.iload 8, 2) := dk_21 8 (dk_at dksX1_isPossible_5 12 rfl rfl)
theorem dX1_isPossible_129 : decode cX1_isPossible 129 = .ok (.iload 4, 2) := dk_21 4 (dk_at dksX1_isPossible_5 14 rfl rfl)
theorem dX1_isPossible_131 : decode cX1_isPossible 131 = .ok (.if_icmp .ge 6, 3) := dk_162 0 6 (dk_at dksX1_isPossible_5 16 rfl rfl)
theorem dX1_isPossible_134 : decode cX1_isPossible 134 = .ok (.goto 26, 3) := dk_167 0 26 (dk_at dksX1_isPossible_5 19 rfl rfl)
theorem dX1_isPossible_137 : decode cX1_isPossible 137 = .ok (.iload 6, 2) := dk_21 6 (dk_at dksX1_isPossible_5 22 rfl rfl)
theorem dX1_isPossible_139 : decode cX1_isPossible 139 = .ok (.ifCond .lt 19, 3) := dk_155 0 19 (dk_at dksX1_isPossible_6 0 rfl rfl)
theorem dX1_isPossible_142 : decode cX1_isPossible 142 = .ok (.iload 7, 2) := dk_21 7 (dk_at dksX1_isPossible_6 3 rfl rfl)
theorem dX1_isPossible_144 : decode cX1_isPossible 144 = .ok (.ifCond .lt 14, 3) := dk_155 0 14 (dk_at dksX1_isPossible_6 5 rfl rfl)
theorem dX1_isPossible_147 : decode cX1_isPossible 147 = .ok (.aload_n 0, 1) := dk_42 (dk_at dksX1_isPossible_6 8 rfl rfl)
theorem dX1_isPossible_148 : decode cX1_isPossible 148 = .ok (.aload_n 1, 1) := dk_43 (dk_at dksX1_isPossible_6 9 rfl rfl)
theorem dX1_isPossible_149 : decode cX1_isPossible 149 = .ok (.aload_n 3, 1) := dk_45 (dk_at dksX1_isPossible_6 10 rfl rfl)
theorem dX1_isPossible_150 : decode cX1_isPossible 150 = .ok (.iload 8, 2) := dk_21 8 (dk_at dksX1_isPossible_6 11 rfl rfl)
theorem dX1_isPossible_152 : decode cX1_isPossible 152 = .ok (.invokevirtual 128, 3) := dk_182 0 128 (dk_at dksX1_isPossible_6 13 rfl rfl)
theorem dX1_isPossible_155 : decode cX1_isPossible 155 = .ok (.ifCond .ne 5, 3) := dk_154 0 5 (dk_at dksX1_isPossible_6 16 rfl rfl)
theorem dX1_isPossible_158 : decode cX1_isPossible 158 = .ok (.iconst 0, 1) := dk_3 (dk_at dksX1_isPossible_6 19 rfl rfl)
theorem dX1_isPossible_159 : decode cX1_isPossible 159 = .ok (.ireturn, 1) := dk_172 (dk_at dksX1_isPossible_6 20 rfl rfl)
theorem dX1_isPossible_160 : decode cX1_isPossible 160 = .ok (.iinc 8 1, 3) := dk_132 8 1 (dk_at dksX1_isPossible_6 21 rfl rfl)
theorem dX1_isPossible_163 : decode cX1_isPossible 163 = .ok (.goto (-128), 3) := dk_167 255 128 (dk_at dksX1_isPossible_7 0 rfl rfl)
theorem dX1_isPossible_166 : decode cX1_isPossible 166 = .ok (.aload_n 3, 1) := dk_45 (dk_at dksX1_isPossible_7 3 rfl rfl)
theorem dX1_isPossible_167 : decode cX1_isPossible 167 = .ok (.getfield 3, 3) := dk_180 0 3 (dk_at dksX1_isPossible_7 4 rfl rfl)
theorem dX1_isPossible_170 : decode cX1_isPossible 170 = .ok (.ifCond .eq 19, 3) := dk_153 0 19 (dk_at dksX1_isPossible_7 7 rfl rfl)
theorem dX1_isPossible_173 : decode cX1_isPossible 173 = .ok (.aload_n 0, 1) := dk_42 (dk_at dksX1_isPossible_7 10 rfl rfl)
theorem dX1_isPossible_174 : decode cX1_isPossible 174 = .ok (.aload_n 1, 1) := dk_43 (dk_at dksX1_isPossible_7 11 rfl rfl)
theorem dX1_isPossible_175 : decode cX1_isPossible 175 = .ok (.iload_n 2, 1) := dk_28 (dk_at dksX1_isPossible_7 12 rfl rfl)
theorem dX1_isPossible_176 : decode cX1_isPossible 176 = .ok (.aload_n 3, 1) := dk_45 (dk_at dksX1_isPossible_7 13 rfl rfl)
theorem dX1_isPossible_177 : decode cX1_isPossible 177 = .ok (.invokevirtual 131, 3) := dk_182 0 131 (dk_at dksX1_isPossible_7 14 rfl rfl)
theorem dX1_isPossible_180 : decode cX1_isPossible 180 = .ok (.aload_n 1, 1) := dk_43 (dk_at dksX1_isPossible_7 17 rfl rfl)
theorem dX1_isPossible_181 : decode cX1_isPossible 181 = .ok (.getfield 135, 3) := dk_180 0 135 (dk_at dksX1_isPossible_7 18 rfl rfl)
theorem dX1_isPossible_184 : decode cX1_isPossible 184 = .ok (.iload_n 2, 1) := dk_28 (dk_at dksX1_isPossible_7 21 rfl rfl)
theorem dX1_isPossible_185 : decode cX1_isPossible 185 = .ok (.iaload, 1) := dk_46 (dk_at dksX1_isPossible_7 22 rfl rfl)
theorem dX1_isPossible_186 : decode cX1_isPossible 186 = .ok (.if_icmp .gt 7, 3) := dk_163 0 7 (dk_at dksX1_isPossible_8 0 rfl rfl)
theorem dX1_isPossible_189 : decode cX1_isPossible 189 = .ok (.iconst 1, 1) := dk_4 (dk_at dksX1_isPossible_8 3 rfl rfl)
theorem dX1_isPossible_190 : decode cX1_isPossible 190 = .ok (.goto 4, 3) := dk_167 0 4 (dk_at dksX1_isPossible_8 4 rfl rfl)
theorem dX1_isPossible_193 : decode cX1_isPossible 193 = .ok (.iconst 0, 1) := dk_3 (dk_at dksX1_isPossible_8 7 rfl rfl)
theorem dX1_isPossible_194 : decode cX1_isPossible 194 = .ok (.ireturn, 1) := dk_172 (dk_at dksX1_isPossible_8 8 rfl rfl)
abbrev cX1_takesOut : ByteArray := prog_1_method_24_code
def yX1_takesOut : MethodName := ⟨RX1, "takesOut", "(LRideDesk$State;I)I"⟩
def dkwX1_takesOut_1 : List UInt8 := [21, 4, 184, 1, 9, 182, 1, 14, 21, 4, 21, 4, 4, 100, 126, 54, 4, 167, 255, 231, 29, 172]
abbrev dktX1_takesOut_1 : List UInt8 := dkwX1_takesOut_1 ++ []
def dkwX1_takesOut_0 : List UInt8 := [42, 43, 43, 180, 0, 156, 28, 50, 182, 1, 6, 62, 29, 54, 4, 21, 4, 153, 0, 26, 42, 43, 28]
abbrev dktX1_takesOut_0 : List UInt8 := dkwX1_takesOut_0 ++ dktX1_takesOut_1
theorem dksX1_takesOut_0 : cX1_takesOut.data.toList.drop 0 = dktX1_takesOut_0 := by decide +kernel
theorem dksX1_takesOut_1 : cX1_takesOut.data.toList.drop 23 = dktX1_takesOut_1 := dk_seg dksX1_takesOut_0 23 rfl rfl
theorem dX1_takesOut_0 : decode cX1_takesOut 0 = .ok (.aload_n 0, 1) := dk_42 (dk_at dksX1_takesOut_0 0 rfl rfl)
theorem dX1_takesOut_1 : decode cX1_takesOut 1 = .ok (.aload_n 1, 1) := dk_43 (dk_at dksX1_takesOut_0 1 rfl rfl)
theorem dX1_takesOut_2 : decode cX1_takesOut 2 = .ok (.aload_n 1, 1) := dk_43 (dk_at dksX1_takesOut_0 2 rfl rfl)
theorem dX1_takesOut_3 : decode cX1_takesOut 3 = .ok (.getfield 156, 3) := dk_180 0 156 (dk_at dksX1_takesOut_0 3 rfl rfl)
theorem dX1_takesOut_6 : decode cX1_takesOut 6 = .ok (.iload_n 2, 1) := dk_28 (dk_at dksX1_takesOut_0 6 rfl rfl)
theorem dX1_takesOut_7 : decode cX1_takesOut 7 = .ok (.aaload, 1) := dk_50 (dk_at dksX1_takesOut_0 7 rfl rfl)
theorem dX1_takesOut_8 : decode cX1_takesOut 8 = .ok (.invokevirtual 262, 3) := dk_182 1 6 (dk_at dksX1_takesOut_0 8 rfl rfl)
theorem dX1_takesOut_11 : decode cX1_takesOut 11 = .ok (.istore_n 3, 1) := dk_62 (dk_at dksX1_takesOut_0 11 rfl rfl)
theorem dX1_takesOut_12 : decode cX1_takesOut 12 = .ok (.iload_n 3, 1) := dk_29 (dk_at dksX1_takesOut_0 12 rfl rfl)
theorem dX1_takesOut_13 : decode cX1_takesOut 13 = .ok (.istore 4, 2) := dk_54 4 (dk_at dksX1_takesOut_0 13 rfl rfl)
theorem dX1_takesOut_15 : decode cX1_takesOut 15 = .ok (.iload 4, 2) := dk_21 4 (dk_at dksX1_takesOut_0 15 rfl rfl)
theorem dX1_takesOut_17 : decode cX1_takesOut 17 = .ok (.ifCond .eq 26, 3) := dk_153 0 26 (dk_at dksX1_takesOut_0 17 rfl rfl)
theorem dX1_takesOut_20 : decode cX1_takesOut 20 = .ok (.aload_n 0, 1) := dk_42 (dk_at dksX1_takesOut_0 20 rfl rfl)
theorem dX1_takesOut_21 : decode cX1_takesOut 21 = .ok (.aload_n 1, 1) := dk_43 (dk_at dksX1_takesOut_0 21 rfl rfl)
theorem dX1_takesOut_22 : decode cX1_takesOut 22 = .ok (.iload_n 2, 1) := dk_28 (dk_at dksX1_takesOut_0 22 rfl rfl)
theorem dX1_takesOut_23 : decode cX1_takesOut 23 = .ok (.iload 4, 2) := dk_21 4 (dk_at dksX1_takesOut_1 0 rfl rfl)
theorem dX1_takesOut_25 : decode cX1_takesOut 25 = .ok (.invokestatic 265, 3) := dk_184 1 9 (dk_at dksX1_takesOut_1 2 rfl rfl)
theorem dX1_takesOut_28 : decode cX1_takesOut 28 = .ok (.invokevirtual 270, 3) := dk_182 1 14 (dk_at dksX1_takesOut_1 5 rfl rfl)
theorem dX1_takesOut_31 : decode cX1_takesOut 31 = .ok (.iload 4, 2) := dk_21 4 (dk_at dksX1_takesOut_1 8 rfl rfl)
theorem dX1_takesOut_33 : decode cX1_takesOut 33 = .ok (.iload 4, 2) := dk_21 4 (dk_at dksX1_takesOut_1 10 rfl rfl)
theorem dX1_takesOut_35 : decode cX1_takesOut 35 = .ok (.iconst 1, 1) := dk_4 (dk_at dksX1_takesOut_1 12 rfl rfl)
theorem dX1_takesOut_36 : decode cX1_takesOut 36 = .ok (.isub, 1) := dk_100 (dk_at dksX1_takesOut_1 13 rfl rfl)
theorem dX1_takesOut_37 : decode cX1_takesOut 37 = .ok (.iand, 1) := dk_126 (dk_at dksX1_takesOut_1 14 rfl rfl)
theorem dX1_takesOut_38 : decode cX1_takesOut 38 = .ok (.istore 4, 2) := dk_54 4 (dk_at dksX1_takesOut_1 15 rfl rfl)
theorem dX1_takesOut_40 : decode cX1_takesOut 40 = .ok (.goto (-25), 3) := dk_167 255 231 (dk_at dksX1_takesOut_1 17 rfl rfl)
theorem dX1_takesOut_43 : decode cX1_takesOut 43 = .ok (.iload_n 3, 1) := dk_29 (dk_at dksX1_takesOut_1 20 rfl rfl)
theorem dX1_takesOut_44 : decode cX1_takesOut 44 = .ok (.ireturn, 1) := dk_172 (dk_at dksX1_takesOut_1 21 rfl rfl)
abbrev cX1_free : ByteArray := prog_1_method_23_code
def yX1_free : MethodName := ⟨RX1, "free", "(LRideDesk$State;LRideDesk$Route;)I"⟩
def dkwX1_free_2 : List UInt8 := [3, 128, 62, 132, 4, 1, 167, 255, 212, 29, 172]
abbrev dktX1_free_2 : List UInt8 := dkwX1_free_2 ++ []
def dkwX1_free_1 : List UInt8 := [21, 4, 50, 193, 0, 123, 153, 0, 18, 4, 44, 180, 0, 33, 21, 4, 50, 180, 0, 61, 120, 167, 0, 4]
abbrev dktX1_free_1 : List UInt8 := dkwX1_free_1 ++ dktX1_free_2
def dkwX1_free_0 : List UInt8 := [3, 62, 42, 43, 44, 182, 0, 160, 54, 4, 21, 4, 44, 180, 0, 3, 162, 0, 41, 29, 44, 180, 0, 33]
abbrev dktX1_free_0 : List UInt8 := dkwX1_free_0 ++ dktX1_free_1
theorem dksX1_free_0 : cX1_free.data.toList.drop 0 = dktX1_free_0 := by decide +kernel
theorem dksX1_free_1 : cX1_free.data.toList.drop 24 = dktX1_free_1 := dk_seg dksX1_free_0 24 rfl rfl
theorem dksX1_free_2 : cX1_free.data.toList.drop 48 = dktX1_free_2 := dk_seg dksX1_free_1 24 rfl rfl
theorem dX1_free_0 : decode cX1_free 0 = .ok (.iconst 0, 1) := dk_3 (dk_at dksX1_free_0 0 rfl rfl)
theorem dX1_free_1 : decode cX1_free 1 = .ok (.istore_n 3, 1) := dk_62 (dk_at dksX1_free_0 1 rfl rfl)
theorem dX1_free_2 : decode cX1_free 2 = .ok (.aload_n 0, 1) := dk_42 (dk_at dksX1_free_0 2 rfl rfl)
theorem dX1_free_3 : decode cX1_free 3 = .ok (.aload_n 1, 1) := dk_43 (dk_at dksX1_free_0 3 rfl rfl)
theorem dX1_free_4 : decode cX1_free 4 = .ok (.aload_n 2, 1) := dk_44 (dk_at dksX1_free_0 4 rfl rfl)
theorem dX1_free_5 : decode cX1_free 5 = .ok (.invokevirtual 160, 3) := dk_182 0 160 (dk_at dksX1_free_0 5 rfl rfl)
theorem dX1_free_8 : decode cX1_free 8 = .ok (.istore 4, 2) := dk_54 4 (dk_at dksX1_free_0 8 rfl rfl)
theorem dX1_free_10 : decode cX1_free 10 = .ok (.iload 4, 2) := dk_21 4 (dk_at dksX1_free_0 10 rfl rfl)
theorem dX1_free_12 : decode cX1_free 12 = .ok (.aload_n 2, 1) := dk_44 (dk_at dksX1_free_0 12 rfl rfl)
theorem dX1_free_13 : decode cX1_free 13 = .ok (.getfield 3, 3) := dk_180 0 3 (dk_at dksX1_free_0 13 rfl rfl)
theorem dX1_free_16 : decode cX1_free 16 = .ok (.if_icmp .ge 41, 3) := dk_162 0 41 (dk_at dksX1_free_0 16 rfl rfl)
theorem dX1_free_19 : decode cX1_free 19 = .ok (.iload_n 3, 1) := dk_29 (dk_at dksX1_free_0 19 rfl rfl)
theorem dX1_free_20 : decode cX1_free 20 = .ok (.aload_n 2, 1) := dk_44 (dk_at dksX1_free_0 20 rfl rfl)
theorem dX1_free_21 : decode cX1_free 21 = .ok (.getfield 33, 3) := dk_180 0 33 (dk_at dksX1_free_0 21 rfl rfl)
theorem dX1_free_24 : decode cX1_free 24 = .ok (.iload 4, 2) := dk_21 4 (dk_at dksX1_free_1 0 rfl rfl)
theorem dX1_free_26 : decode cX1_free 26 = .ok (.aaload, 1) := dk_50 (dk_at dksX1_free_1 2 rfl rfl)
theorem dX1_free_27 : decode cX1_free 27 = .ok (.instanceof 123, 3) := dk_193 0 123 (dk_at dksX1_free_1 3 rfl rfl)
theorem dX1_free_30 : decode cX1_free 30 = .ok (.ifCond .eq 18, 3) := dk_153 0 18 (dk_at dksX1_free_1 6 rfl rfl)
theorem dX1_free_33 : decode cX1_free 33 = .ok (.iconst 1, 1) := dk_4 (dk_at dksX1_free_1 9 rfl rfl)
theorem dX1_free_34 : decode cX1_free 34 = .ok (.aload_n 2, 1) := dk_44 (dk_at dksX1_free_1 10 rfl rfl)
theorem dX1_free_35 : decode cX1_free 35 = .ok (.getfield 33, 3) := dk_180 0 33 (dk_at dksX1_free_1 11 rfl rfl)
theorem dX1_free_38 : decode cX1_free 38 = .ok (.iload 4, 2) := dk_21 4 (dk_at dksX1_free_1 14 rfl rfl)
theorem dX1_free_40 : decode cX1_free 40 = .ok (.aaload, 1) := dk_50 (dk_at dksX1_free_1 16 rfl rfl)
theorem dX1_free_41 : decode cX1_free 41 = .ok (.getfield 61, 3) := dk_180 0 61 (dk_at dksX1_free_1 17 rfl rfl)
theorem dX1_free_44 : decode cX1_free 44 = .ok (.ishl, 1) := dk_120 (dk_at dksX1_free_1 20 rfl rfl)
theorem dX1_free_45 : decode cX1_free 45 = .ok (.goto 4, 3) := dk_167 0 4 (dk_at dksX1_free_1 21 rfl rfl)
theorem dX1_free_48 : decode cX1_free 48 = .ok (.iconst 0, 1) := dk_3 (dk_at dksX1_free_2 0 rfl rfl)
theorem dX1_free_49 : decode cX1_free 49 = .ok (.ior, 1) := dk_128 (dk_at dksX1_free_2 1 rfl rfl)
theorem dX1_free_50 : decode cX1_free 50 = .ok (.istore_n 3, 1) := dk_62 (dk_at dksX1_free_2 2 rfl rfl)
theorem dX1_free_51 : decode cX1_free 51 = .ok (.iinc 4 1, 3) := dk_132 4 1 (dk_at dksX1_free_2 3 rfl rfl)
theorem dX1_free_54 : decode cX1_free 54 = .ok (.goto (-44), 3) := dk_167 255 212 (dk_at dksX1_free_2 6 rfl rfl)
theorem dX1_free_57 : decode cX1_free 57 = .ok (.iload_n 3, 1) := dk_29 (dk_at dksX1_free_2 9 rfl rfl)
theorem dX1_free_58 : decode cX1_free 58 = .ok (.ireturn, 1) := dk_172 (dk_at dksX1_free_2 10 rfl rfl)
abbrev cX1_manifest : ByteArray := prog_1_method_88_code
def yX1_manifest : MethodName := ⟨RX1, "manifest", "(I)I"⟩
def dkwX1_manifest_7 : List UInt8 := [21, 5, 182, 1, 249, 145, 84, 132, 5, 1, 167, 255, 229, 42, 180, 1, 60, 190, 172]
abbrev dktX1_manifest_7 : List UInt8 := dkwX1_manifest_7 ++ []
def dkwX1_manifest_6 : List UInt8 := [181, 1, 60, 3, 54, 5, 21, 5, 42, 180, 1, 60, 190, 162, 0, 23, 42, 180, 1, 60, 21, 5, 45]
abbrev dktX1_manifest_6 : List UInt8 := dkwX1_manifest_6 ++ dktX1_manifest_7
def dkwX1_manifest_5 : List UInt8 := [162, 0, 10, 45, 16, 42, 182, 1, 240, 87, 132, 5, 1, 167, 255, 160, 42, 45, 182, 1, 246, 188, 8]
abbrev dktX1_manifest_5 : List UInt8 := dkwX1_manifest_5 ++ dktX1_manifest_6
def dkwX1_manifest_4 : List UInt8 := [182, 1, 243, 16, 64, 182, 1, 240, 44, 180, 0, 51, 21, 5, 46, 182, 1, 243, 87, 21, 5, 21, 4]
abbrev dktX1_manifest_4 : List UInt8 := dkwX1_manifest_4 ++ dktX1_manifest_5
def dkwX1_manifest_3 : List UInt8 := [153, 0, 8, 16, 80, 167, 0, 5, 16, 68, 182, 1, 240, 44, 180, 0, 33, 21, 5, 50, 180, 0, 61]
abbrev dktX1_manifest_3 : List UInt8 := dkwX1_manifest_3 ++ dktX1_manifest_4
def dkwX1_manifest_2 : List UInt8 := [19, 1, 232, 167, 0, 6, 19, 1, 234, 182, 1, 236, 44, 180, 0, 33, 21, 5, 50, 193, 0, 123]
abbrev dktX1_manifest_2 : List UInt8 := dkwX1_manifest_2 ++ dktX1_manifest_3
def dkwX1_manifest_1 : List UInt8 := [182, 0, 160, 54, 4, 3, 54, 5, 21, 5, 44, 180, 0, 3, 162, 0, 93, 45, 21, 5, 154, 0, 9]
abbrev dktX1_manifest_1 : List UInt8 := dkwX1_manifest_1 ++ dktX1_manifest_2
def dkwX1_manifest_0 : List UInt8 := [42, 27, 182, 1, 122, 77, 187, 1, 229, 89, 16, 64, 183, 1, 231, 78, 42, 42, 180, 1, 112, 44]
abbrev dktX1_manifest_0 : List UInt8 := dkwX1_manifest_0 ++ dktX1_manifest_1
theorem dksX1_manifest_0 : cX1_manifest.data.toList.drop 0 = dktX1_manifest_0 := by decide +kernel
theorem dksX1_manifest_1 : cX1_manifest.data.toList.drop 22 = dktX1_manifest_1 := dk_seg dksX1_manifest_0 22 rfl rfl
theorem dksX1_manifest_2 : cX1_manifest.data.toList.drop 45 = dktX1_manifest_2 := dk_seg dksX1_manifest_1 23 rfl rfl
theorem dksX1_manifest_3 : cX1_manifest.data.toList.drop 67 = dktX1_manifest_3 := dk_seg dksX1_manifest_2 22 rfl rfl
theorem dksX1_manifest_4 : cX1_manifest.data.toList.drop 90 = dktX1_manifest_4 := dk_seg dksX1_manifest_3 23 rfl rfl
theorem dksX1_manifest_5 : cX1_manifest.data.toList.drop 113 = dktX1_manifest_5 := dk_seg dksX1_manifest_4 23 rfl rfl
theorem dksX1_manifest_6 : cX1_manifest.data.toList.drop 136 = dktX1_manifest_6 := dk_seg dksX1_manifest_5 23 rfl rfl
theorem dksX1_manifest_7 : cX1_manifest.data.toList.drop 159 = dktX1_manifest_7 := dk_seg dksX1_manifest_6 23 rfl rfl
theorem dX1_manifest_0 : decode cX1_manifest 0 = .ok (.aload_n 0, 1) := dk_42 (dk_at dksX1_manifest_0 0 rfl rfl)
theorem dX1_manifest_1 : decode cX1_manifest 1 = .ok (.iload_n 1, 1) := dk_27 (dk_at dksX1_manifest_0 1 rfl rfl)
theorem dX1_manifest_2 : decode cX1_manifest 2 = .ok (.invokevirtual 378, 3) := dk_182 1 122 (dk_at dksX1_manifest_0 2 rfl rfl)
theorem dX1_manifest_5 : decode cX1_manifest 5 = .ok (.astore_n 2, 1) := dk_77 (dk_at dksX1_manifest_0 5 rfl rfl)
theorem dX1_manifest_6 : decode cX1_manifest 6 = .ok (.new 485, 3) := dk_187 1 229 (dk_at dksX1_manifest_0 6 rfl rfl)
theorem dX1_manifest_9 : decode cX1_manifest 9 = .ok (.dup, 1) := dk_89 (dk_at dksX1_manifest_0 9 rfl rfl)
theorem dX1_manifest_10 : decode cX1_manifest 10 = .ok (.bipush 64, 2) := dk_16 64 (dk_at dksX1_manifest_0 10 rfl rfl)
theorem dX1_manifest_12 : decode cX1_manifest 12 = .ok (.invokespecial 487, 3) := dk_183 1 231 (dk_at dksX1_manifest_0 12 rfl rfl)
theorem dX1_manifest_15 : decode cX1_manifest 15 = .ok (.astore_n 3, 1) := dk_78 (dk_at dksX1_manifest_0 15 rfl rfl)
theorem dX1_manifest_16 : decode cX1_manifest 16 = .ok (.aload_n 0, 1) := dk_42 (dk_at dksX1_manifest_0 16 rfl rfl)
theorem dX1_manifest_17 : decode cX1_manifest 17 = .ok (.aload_n 0, 1) := dk_42 (dk_at dksX1_manifest_0 17 rfl rfl)
theorem dX1_manifest_18 : decode cX1_manifest 18 = .ok (.getfield 368, 3) := dk_180 1 112 (dk_at dksX1_manifest_0 18 rfl rfl)
theorem dX1_manifest_21 : decode cX1_manifest 21 = .ok (.aload_n 2, 1) := dk_44 (dk_at dksX1_manifest_0 21 rfl rfl)
theorem dX1_manifest_22 : decode cX1_manifest 22 = .ok (.invokevirtual 160, 3) := dk_182 0 160 (dk_at dksX1_manifest_1 0 rfl rfl)
theorem dX1_manifest_25 : decode cX1_manifest 25 = .ok (.istore 4, 2) := dk_54 4 (dk_at dksX1_manifest_1 3 rfl rfl)
theorem dX1_manifest_27 : decode cX1_manifest 27 = .ok (.iconst 0, 1) := dk_3 (dk_at dksX1_manifest_1 5 rfl rfl)
theorem dX1_manifest_28 : decode cX1_manifest 28 = .ok (.istore 5, 2) := dk_54 5 (dk_at dksX1_manifest_1 6 rfl rfl)
theorem dX1_manifest_30 : decode cX1_manifest 30 = .ok (.iload 5, 2) := dk_21 5 (dk_at dksX1_manifest_1 8 rfl rfl)
theorem dX1_manifest_32 : decode cX1_manifest 32 = .ok (.aload_n 2, 1) := dk_44 (dk_at dksX1_manifest_1 10 rfl rfl)
theorem dX1_manifest_33 : decode cX1_manifest 33 = .ok (.getfield 3, 3) := dk_180 0 3 (dk_at dksX1_manifest_1 11 rfl rfl)
theorem dX1_manifest_36 : decode cX1_manifest 36 = .ok (.if_icmp .ge 93, 3) := dk_162 0 93 (dk_at dksX1_manifest_1 14 rfl rfl)
theorem dX1_manifest_39 : decode cX1_manifest 39 = .ok (.aload_n 3, 1) := dk_45 (dk_at dksX1_manifest_1 17 rfl rfl)
theorem dX1_manifest_40 : decode cX1_manifest 40 = .ok (.iload 5, 2) := dk_21 5 (dk_at dksX1_manifest_1 18 rfl rfl)
theorem dX1_manifest_42 : decode cX1_manifest 42 = .ok (.ifCond .ne 9, 3) := dk_154 0 9 (dk_at dksX1_manifest_1 20 rfl rfl)
theorem dX1_manifest_45 : decode cX1_manifest 45 = .ok (.ldc_w 488, 3) := dk_19 1 232 (dk_at dksX1_manifest_2 0 rfl rfl)
theorem dX1_manifest_48 : decode cX1_manifest 48 = .ok (.goto 6, 3) := dk_167 0 6 (dk_at dksX1_manifest_2 3 rfl rfl)
theorem dX1_manifest_51 : decode cX1_manifest 51 = .ok (.ldc_w 490, 3) := dk_19 1 234 (dk_at dksX1_manifest_2 6 rfl rfl)
theorem dX1_manifest_54 : decode cX1_manifest 54 = .ok (.invokevirtual 492, 3) := dk_182 1 236 (dk_at dksX1_manifest_2 9 rfl rfl)
theorem dX1_manifest_57 : decode cX1_manifest 57 = .ok (.aload_n 2, 1) := dk_44 (dk_at dksX1_manifest_2 12 rfl rfl)
theorem dX1_manifest_58 : decode cX1_manifest 58 = .ok (.getfield 33, 3) := dk_180 0 33 (dk_at dksX1_manifest_2 13 rfl rfl)
theorem dX1_manifest_61 : decode cX1_manifest 61 = .ok (.iload 5, 2) := dk_21 5 (dk_at dksX1_manifest_2 16 rfl rfl)
theorem dX1_manifest_63 : decode cX1_manifest 63 = .ok (.aaload, 1) := dk_50 (dk_at dksX1_manifest_2 18 rfl rfl)
theorem dX1_manifest_64 : decode cX1_manifest 64 = .ok (.instanceof 123, 3) := dk_193 0 123 (dk_at dksX1_manifest_2 19 rfl rfl)
theorem dX1_manifest_67 : decode cX1_manifest 67 = .ok (.ifCond .eq 8, 3) := dk_153 0 8 (dk_at dksX1_manifest_3 0 rfl rfl)
theorem dX1_manifest_70 : decode cX1_manifest 70 = .ok (.bipush 80, 2) := dk_16 80 (dk_at dksX1_manifest_3 3 rfl rfl)
theorem dX1_manifest_72 : decode cX1_manifest 72 = .ok (.goto 5, 3) := dk_167 0 5 (dk_at dksX1_manifest_3 5 rfl rfl)
theorem dX1_manifest_75 : decode cX1_manifest 75 = .ok (.bipush 68, 2) := dk_16 68 (dk_at dksX1_manifest_3 8 rfl rfl)
theorem dX1_manifest_77 : decode cX1_manifest 77 = .ok (.invokevirtual 496, 3) := dk_182 1 240 (dk_at dksX1_manifest_3 10 rfl rfl)
theorem dX1_manifest_80 : decode cX1_manifest 80 = .ok (.aload_n 2, 1) := dk_44 (dk_at dksX1_manifest_3 13 rfl rfl)
theorem dX1_manifest_81 : decode cX1_manifest 81 = .ok (.getfield 33, 3) := dk_180 0 33 (dk_at dksX1_manifest_3 14 rfl rfl)
theorem dX1_manifest_84 : decode cX1_manifest 84 = .ok (.iload 5, 2) := dk_21 5 (dk_at dksX1_manifest_3 17 rfl rfl)
theorem dX1_manifest_86 : decode cX1_manifest 86 = .ok (.aaload, 1) := dk_50 (dk_at dksX1_manifest_3 19 rfl rfl)
theorem dX1_manifest_87 : decode cX1_manifest 87 = .ok (.getfield 61, 3) := dk_180 0 61 (dk_at dksX1_manifest_3 20 rfl rfl)
theorem dX1_manifest_90 : decode cX1_manifest 90 = .ok (.invokevirtual 499, 3) := dk_182 1 243 (dk_at dksX1_manifest_4 0 rfl rfl)
theorem dX1_manifest_93 : decode cX1_manifest 93 = .ok (.bipush 64, 2) := dk_16 64 (dk_at dksX1_manifest_4 3 rfl rfl)
theorem dX1_manifest_95 : decode cX1_manifest 95 = .ok (.invokevirtual 496, 3) := dk_182 1 240 (dk_at dksX1_manifest_4 5 rfl rfl)
theorem dX1_manifest_98 : decode cX1_manifest 98 = .ok (.aload_n 2, 1) := dk_44 (dk_at dksX1_manifest_4 8 rfl rfl)
theorem dX1_manifest_99 : decode cX1_manifest 99 = .ok (.getfield 51, 3) := dk_180 0 51 (dk_at dksX1_manifest_4 9 rfl rfl)
theorem dX1_manifest_102 : decode cX1_manifest 102 = .ok (.iload 5, 2) := dk_21 5 (dk_at dksX1_manifest_4 12 rfl rfl)
theorem dX1_manifest_104 : decode cX1_manifest 104 = .ok (.iaload, 1) := dk_46 (dk_at dksX1_manifest_4 14 rfl rfl)
theorem dX1_manifest_105 : decode cX1_manifest 105 = .ok (.invokevirtual 499, 3) := dk_182 1 243 (dk_at dksX1_manifest_4 15 rfl rfl)
theorem dX1_manifest_108 : decode cX1_manifest 108 = .ok (.pop, 1) := dk_87 (dk_at dksX1_manifest_4 18 rfl rfl)
theorem dX1_manifest_109 : decode cX1_manifest 109 = .ok (.iload 5, 2) := dk_21 5 (dk_at dksX1_manifest_4 19 rfl rfl)
theorem dX1_manifest_111 : decode cX1_manifest 111 = .ok (.iload 4, 2) := dk_21 4 (dk_at dksX1_manifest_4 21 rfl rfl)
theorem dX1_manifest_113 : decode cX1_manifest 113 = .ok (.if_icmp .ge 10, 3) := dk_162 0 10 (dk_at dksX1_manifest_5 0 rfl rfl)
theorem dX1_manifest_116 : decode cX1_manifest 116 = .ok (.aload_n 3, 1) := dk_45 (dk_at dksX1_manifest_5 3 rfl rfl)
theorem dX1_manifest_117 : decode cX1_manifest 117 = .ok (.bipush 42, 2) := dk_16 42 (dk_at dksX1_manifest_5 4 rfl rfl)
theorem dX1_manifest_119 : decode cX1_manifest 119 = .ok (.invokevirtual 496, 3) := dk_182 1 240 (dk_at dksX1_manifest_5 6 rfl rfl)
theorem dX1_manifest_122 : decode cX1_manifest 122 = .ok (.pop, 1) := dk_87 (dk_at dksX1_manifest_5 9 rfl rfl)
theorem dX1_manifest_123 : decode cX1_manifest 123 = .ok (.iinc 5 1, 3) := dk_132 5 1 (dk_at dksX1_manifest_5 10 rfl rfl)
theorem dX1_manifest_126 : decode cX1_manifest 126 = .ok (.goto (-96), 3) := dk_167 255 160 (dk_at dksX1_manifest_5 13 rfl rfl)
theorem dX1_manifest_129 : decode cX1_manifest 129 = .ok (.aload_n 0, 1) := dk_42 (dk_at dksX1_manifest_5 16 rfl rfl)
theorem dX1_manifest_130 : decode cX1_manifest 130 = .ok (.aload_n 3, 1) := dk_45 (dk_at dksX1_manifest_5 17 rfl rfl)
theorem dX1_manifest_131 : decode cX1_manifest 131 = .ok (.invokevirtual 502, 3) := dk_182 1 246 (dk_at dksX1_manifest_5 18 rfl rfl)
theorem dX1_manifest_134 : decode cX1_manifest 134 = .ok (.newarray .byte, 2) := dk_188_8 (dk_at dksX1_manifest_5 21 rfl rfl)
theorem dX1_manifest_136 : decode cX1_manifest 136 = .ok (.putfield 316, 3) := dk_181 1 60 (dk_at dksX1_manifest_6 0 rfl rfl)
theorem dX1_manifest_139 : decode cX1_manifest 139 = .ok (.iconst 0, 1) := dk_3 (dk_at dksX1_manifest_6 3 rfl rfl)
theorem dX1_manifest_140 : decode cX1_manifest 140 = .ok (.istore 5, 2) := dk_54 5 (dk_at dksX1_manifest_6 4 rfl rfl)
theorem dX1_manifest_142 : decode cX1_manifest 142 = .ok (.iload 5, 2) := dk_21 5 (dk_at dksX1_manifest_6 6 rfl rfl)
theorem dX1_manifest_144 : decode cX1_manifest 144 = .ok (.aload_n 0, 1) := dk_42 (dk_at dksX1_manifest_6 8 rfl rfl)
theorem dX1_manifest_145 : decode cX1_manifest 145 = .ok (.getfield 316, 3) := dk_180 1 60 (dk_at dksX1_manifest_6 9 rfl rfl)
theorem dX1_manifest_148 : decode cX1_manifest 148 = .ok (.arraylength, 1) := dk_190 (dk_at dksX1_manifest_6 12 rfl rfl)
theorem dX1_manifest_149 : decode cX1_manifest 149 = .ok (.if_icmp .ge 23, 3) := dk_162 0 23 (dk_at dksX1_manifest_6 13 rfl rfl)
theorem dX1_manifest_152 : decode cX1_manifest 152 = .ok (.aload_n 0, 1) := dk_42 (dk_at dksX1_manifest_6 16 rfl rfl)
theorem dX1_manifest_153 : decode cX1_manifest 153 = .ok (.getfield 316, 3) := dk_180 1 60 (dk_at dksX1_manifest_6 17 rfl rfl)
theorem dX1_manifest_156 : decode cX1_manifest 156 = .ok (.iload 5, 2) := dk_21 5 (dk_at dksX1_manifest_6 20 rfl rfl)
theorem dX1_manifest_158 : decode cX1_manifest 158 = .ok (.aload_n 3, 1) := dk_45 (dk_at dksX1_manifest_6 22 rfl rfl)
theorem dX1_manifest_159 : decode cX1_manifest 159 = .ok (.iload 5, 2) := dk_21 5 (dk_at dksX1_manifest_7 0 rfl rfl)
theorem dX1_manifest_161 : decode cX1_manifest 161 = .ok (.invokevirtual 505, 3) := dk_182 1 249 (dk_at dksX1_manifest_7 2 rfl rfl)
theorem dX1_manifest_164 : decode cX1_manifest 164 = .ok (.i2b, 1) := dk_145 (dk_at dksX1_manifest_7 5 rfl rfl)
theorem dX1_manifest_165 : decode cX1_manifest 165 = .ok (.bastore, 1) := dk_84 (dk_at dksX1_manifest_7 6 rfl rfl)
theorem dX1_manifest_166 : decode cX1_manifest 166 = .ok (.iinc 5 1, 3) := dk_132 5 1 (dk_at dksX1_manifest_7 7 rfl rfl)
theorem dX1_manifest_169 : decode cX1_manifest 169 = .ok (.goto (-27), 3) := dk_167 255 229 (dk_at dksX1_manifest_7 10 rfl rfl)
theorem dX1_manifest_172 : decode cX1_manifest 172 = .ok (.aload_n 0, 1) := dk_42 (dk_at dksX1_manifest_7 13 rfl rfl)
theorem dX1_manifest_173 : decode cX1_manifest 173 = .ok (.getfield 316, 3) := dk_180 1 60 (dk_at dksX1_manifest_7 14 rfl rfl)
theorem dX1_manifest_176 : decode cX1_manifest 176 = .ok (.arraylength, 1) := dk_190 (dk_at dksX1_manifest_7 17 rfl rfl)
theorem dX1_manifest_177 : decode cX1_manifest 177 = .ok (.ireturn, 1) := dk_172 (dk_at dksX1_manifest_7 18 rfl rfl)
abbrev cX1_manifestByte : ByteArray := prog_1_method_89_code
def yX1_manifestByte : MethodName := ⟨RX1, "manifestByte", "(I)I"⟩
def dkwX1_manifestByte_0 : List UInt8 := [27, 3, 42, 180, 1, 60, 190, 4, 100, 184, 1, 66, 184, 1, 70, 42, 180, 1, 60, 27, 51, 172]
abbrev dktX1_manifestByte_0 : List UInt8 := dkwX1_manifestByte_0 ++ []
theorem dksX1_manifestByte_0 : cX1_manifestByte.data.toList.drop 0 = dktX1_manifestByte_0 := by decide +kernel
theorem dX1_manifestByte_0 : decode cX1_manifestByte 0 = .ok (.iload_n 1, 1) := dk_27 (dk_at dksX1_manifestByte_0 0 rfl rfl)
theorem dX1_manifestByte_1 : decode cX1_manifestByte 1 = .ok (.iconst 0, 1) := dk_3 (dk_at dksX1_manifestByte_0 1 rfl rfl)
theorem dX1_manifestByte_2 : decode cX1_manifestByte 2 = .ok (.aload_n 0, 1) := dk_42 (dk_at dksX1_manifestByte_0 2 rfl rfl)
theorem dX1_manifestByte_3 : decode cX1_manifestByte 3 = .ok (.getfield 316, 3) := dk_180 1 60 (dk_at dksX1_manifestByte_0 3 rfl rfl)
theorem dX1_manifestByte_6 : decode cX1_manifestByte 6 = .ok (.arraylength, 1) := dk_190 (dk_at dksX1_manifestByte_0 6 rfl rfl)
theorem dX1_manifestByte_7 : decode cX1_manifestByte 7 = .ok (.iconst 1, 1) := dk_4 (dk_at dksX1_manifestByte_0 7 rfl rfl)
theorem dX1_manifestByte_8 : decode cX1_manifestByte 8 = .ok (.isub, 1) := dk_100 (dk_at dksX1_manifestByte_0 8 rfl rfl)
theorem dX1_manifestByte_9 : decode cX1_manifestByte 9 = .ok (.invokestatic 322, 3) := dk_184 1 66 (dk_at dksX1_manifestByte_0 9 rfl rfl)
theorem dX1_manifestByte_12 : decode cX1_manifestByte 12 = .ok (.invokestatic 326, 3) := dk_184 1 70 (dk_at dksX1_manifestByte_0 12 rfl rfl)
theorem dX1_manifestByte_15 : decode cX1_manifestByte 15 = .ok (.aload_n 0, 1) := dk_42 (dk_at dksX1_manifestByte_0 15 rfl rfl)
theorem dX1_manifestByte_16 : decode cX1_manifestByte 16 = .ok (.getfield 316, 3) := dk_180 1 60 (dk_at dksX1_manifestByte_0 16 rfl rfl)
theorem dX1_manifestByte_19 : decode cX1_manifestByte 19 = .ok (.iload_n 1, 1) := dk_27 (dk_at dksX1_manifestByte_0 19 rfl rfl)
theorem dX1_manifestByte_20 : decode cX1_manifestByte 20 = .ok (.baload, 1) := dk_51 (dk_at dksX1_manifestByte_0 20 rfl rfl)
theorem dX1_manifestByte_21 : decode cX1_manifestByte 21 = .ok (.ireturn, 1) := dk_172 (dk_at dksX1_manifestByte_0 21 rfl rfl)
abbrev cX1_request : ByteArray := prog_1_method_93_code
def yX1_request : MethodName := ⟨RX1, "request", "(IIIIII)I"⟩
def dkwX1_request_2 : List UInt8 := [29, 21, 4, 21, 5, 182, 1, 192, 21, 6, 182, 2, 17, 172]
abbrev dktX1_request_2 : List UInt8 := dkwX1_request_2 ++ []
def dkwX1_request_1 : List UInt8 := [180, 0, 235, 16, 24, 160, 0, 11, 187, 1, 116, 89, 183, 1, 118, 191, 42, 42, 182, 2, 14, 42, 27, 28]
abbrev dktX1_request_1 : List UInt8 := dkwX1_request_1 ++ dktX1_request_2
def dkwX1_request_0 : List UInt8 := [42, 182, 1, 119, 58, 7, 27, 28, 29, 21, 4, 21, 5, 21, 6, 184, 1, 188, 184, 1, 130, 25, 7]
abbrev dktX1_request_0 : List UInt8 := dkwX1_request_0 ++ dktX1_request_1
theorem dksX1_request_0 : cX1_request.data.toList.drop 0 = dktX1_request_0 := by decide +kernel
theorem dksX1_request_1 : cX1_request.data.toList.drop 23 = dktX1_request_1 := dk_seg dksX1_request_0 23 rfl rfl
theorem dksX1_request_2 : cX1_request.data.toList.drop 47 = dktX1_request_2 := dk_seg dksX1_request_1 24 rfl rfl
theorem dX1_request_0 : decode cX1_request 0 = .ok (.aload_n 0, 1) := dk_42 (dk_at dksX1_request_0 0 rfl rfl)
theorem dX1_request_1 : decode cX1_request 1 = .ok (.invokevirtual 375, 3) := dk_182 1 119 (dk_at dksX1_request_0 1 rfl rfl)
theorem dX1_request_4 : decode cX1_request 4 = .ok (.astore 7, 2) := dk_58 7 (dk_at dksX1_request_0 4 rfl rfl)
theorem dX1_request_6 : decode cX1_request 6 = .ok (.iload_n 1, 1) := dk_27 (dk_at dksX1_request_0 6 rfl rfl)
theorem dX1_request_7 : decode cX1_request 7 = .ok (.iload_n 2, 1) := dk_28 (dk_at dksX1_request_0 7 rfl rfl)
theorem dX1_request_8 : decode cX1_request 8 = .ok (.iload_n 3, 1) := dk_29 (dk_at dksX1_request_0 8 rfl rfl)
theorem dX1_request_9 : decode cX1_request 9 = .ok (.iload 4, 2) := dk_21 4 (dk_at dksX1_request_0 9 rfl rfl)
theorem dX1_request_11 : decode cX1_request 11 = .ok (.iload 5, 2) := dk_21 5 (dk_at dksX1_request_0 11 rfl rfl)
theorem dX1_request_13 : decode cX1_request 13 = .ok (.iload 6, 2) := dk_21 6 (dk_at dksX1_request_0 13 rfl rfl)
theorem dX1_request_15 : decode cX1_request 15 = .ok (.invokestatic 444, 3) := dk_184 1 188 (dk_at dksX1_request_0 15 rfl rfl)
theorem dX1_request_18 : decode cX1_request 18 = .ok (.invokestatic 386, 3) := dk_184 1 130 (dk_at dksX1_request_0 18 rfl rfl)
theorem dX1_request_21 : decode cX1_request 21 = .ok (.aload 7, 2) := dk_25 7 (dk_at dksX1_request_0 21 rfl rfl)
theorem dX1_request_23 : decode cX1_request 23 = .ok (.getfield 235, 3) := dk_180 0 235 (dk_at dksX1_request_1 0 rfl rfl)
theorem dX1_request_26 : decode cX1_request 26 = .ok (.bipush 24, 2) := dk_16 24 (dk_at dksX1_request_1 3 rfl rfl)
theorem dX1_request_28 : decode cX1_request 28 = .ok (.if_icmp .ne 11, 3) := dk_160 0 11 (dk_at dksX1_request_1 5 rfl rfl)
theorem dX1_request_31 : decode cX1_request 31 = .ok (.new 372, 3) := dk_187 1 116 (dk_at dksX1_request_1 8 rfl rfl)
theorem dX1_request_34 : decode cX1_request 34 = .ok (.dup, 1) := dk_89 (dk_at dksX1_request_1 11 rfl rfl)
theorem dX1_request_35 : decode cX1_request 35 = .ok (.invokespecial 374, 3) := dk_183 1 118 (dk_at dksX1_request_1 12 rfl rfl)
theorem dX1_request_38 : decode cX1_request 38 = .ok (.athrow, 1) := dk_191 (dk_at dksX1_request_1 15 rfl rfl)
theorem dX1_request_39 : decode cX1_request 39 = .ok (.aload_n 0, 1) := dk_42 (dk_at dksX1_request_1 16 rfl rfl)
theorem dX1_request_40 : decode cX1_request 40 = .ok (.aload_n 0, 1) := dk_42 (dk_at dksX1_request_1 17 rfl rfl)
theorem dX1_request_41 : decode cX1_request 41 = .ok (.invokevirtual 526, 3) := dk_182 2 14 (dk_at dksX1_request_1 18 rfl rfl)
theorem dX1_request_44 : decode cX1_request 44 = .ok (.aload_n 0, 1) := dk_42 (dk_at dksX1_request_1 21 rfl rfl)
theorem dX1_request_45 : decode cX1_request 45 = .ok (.iload_n 1, 1) := dk_27 (dk_at dksX1_request_1 22 rfl rfl)
theorem dX1_request_46 : decode cX1_request 46 = .ok (.iload_n 2, 1) := dk_28 (dk_at dksX1_request_1 23 rfl rfl)
theorem dX1_request_47 : decode cX1_request 47 = .ok (.iload_n 3, 1) := dk_29 (dk_at dksX1_request_2 0 rfl rfl)
theorem dX1_request_48 : decode cX1_request 48 = .ok (.iload 4, 2) := dk_21 4 (dk_at dksX1_request_2 1 rfl rfl)
theorem dX1_request_50 : decode cX1_request 50 = .ok (.iload 5, 2) := dk_21 5 (dk_at dksX1_request_2 3 rfl rfl)
theorem dX1_request_52 : decode cX1_request 52 = .ok (.invokevirtual 448, 3) := dk_182 1 192 (dk_at dksX1_request_2 5 rfl rfl)
theorem dX1_request_55 : decode cX1_request 55 = .ok (.iload 6, 2) := dk_21 6 (dk_at dksX1_request_2 8 rfl rfl)
theorem dX1_request_57 : decode cX1_request 57 = .ok (.invokevirtual 529, 3) := dk_182 2 17 (dk_at dksX1_request_2 10 rfl rfl)
theorem dX1_request_60 : decode cX1_request 60 = .ok (.ireturn, 1) := dk_172 (dk_at dksX1_request_2 13 rfl rfl)
abbrev cX1_remember : ByteArray := prog_1_method_92_code
def yX1_remember : MethodName := ⟨RX1, "remember", "()LRideDesk$State;"⟩
def dkwX1_remember_2 : List UInt8 := [176]
abbrev dktX1_remember_2 : List UInt8 := dkwX1_remember_2 ++ []
def dkwX1_remember_1 : List UInt8 := [192, 0, 56, 76, 42, 180, 1, 44, 42, 180, 1, 112, 182, 1, 253, 185, 2, 10, 2, 0, 42, 180, 1, 112]
abbrev dktX1_remember_1 : List UInt8 := dkwX1_remember_1 ++ dktX1_remember_2
def dkwX1_remember_0 : List UInt8 := [42, 180, 1, 44, 185, 2, 6, 1, 0, 16, 6, 160, 0, 16, 42, 180, 1, 44, 185, 2, 7, 1, 0]
abbrev dktX1_remember_0 : List UInt8 := dkwX1_remember_0 ++ dktX1_remember_1
theorem dksX1_remember_0 : cX1_remember.data.toList.drop 0 = dktX1_remember_0 := by decide +kernel
theorem dksX1_remember_1 : cX1_remember.data.toList.drop 23 = dktX1_remember_1 := dk_seg dksX1_remember_0 23 rfl rfl
theorem dksX1_remember_2 : cX1_remember.data.toList.drop 47 = dktX1_remember_2 := dk_seg dksX1_remember_1 24 rfl rfl
theorem dX1_remember_0 : decode cX1_remember 0 = .ok (.aload_n 0, 1) := dk_42 (dk_at dksX1_remember_0 0 rfl rfl)
theorem dX1_remember_1 : decode cX1_remember 1 = .ok (.getfield 300, 3) := dk_180 1 44 (dk_at dksX1_remember_0 1 rfl rfl)
theorem dX1_remember_4 : decode cX1_remember 4 = .ok (.invokeinterface 518 1, 5) := by decide +kernel
theorem dX1_remember_9 : decode cX1_remember 9 = .ok (.bipush 6, 2) := dk_16 6 (dk_at dksX1_remember_0 9 rfl rfl)
theorem dX1_remember_11 : decode cX1_remember 11 = .ok (.if_icmp .ne 16, 3) := dk_160 0 16 (dk_at dksX1_remember_0 11 rfl rfl)
theorem dX1_remember_14 : decode cX1_remember 14 = .ok (.aload_n 0, 1) := dk_42 (dk_at dksX1_remember_0 14 rfl rfl)
theorem dX1_remember_15 : decode cX1_remember 15 = .ok (.getfield 300, 3) := dk_180 1 44 (dk_at dksX1_remember_0 15 rfl rfl)
theorem dX1_remember_18 : decode cX1_remember 18 = .ok (.invokeinterface 519 1, 5) := by decide +kernel
theorem dX1_remember_23 : decode cX1_remember 23 = .ok (.checkcast 56, 3) := dk_192 0 56 (dk_at dksX1_remember_1 0 rfl rfl)
theorem dX1_remember_26 : decode cX1_remember 26 = .ok (.astore_n 1, 1) := dk_76 (dk_at dksX1_remember_1 3 rfl rfl)
theorem dX1_remember_27 : decode cX1_remember 27 = .ok (.aload_n 0, 1) := dk_42 (dk_at dksX1_remember_1 4 rfl rfl)
theorem dX1_remember_28 : decode cX1_remember 28 = .ok (.getfield 300, 3) := dk_180 1 44 (dk_at dksX1_remember_1 5 rfl rfl)
theorem dX1_remember_31 : decode cX1_remember 31 = .ok (.aload_n 0, 1) := dk_42 (dk_at dksX1_remember_1 8 rfl rfl)
theorem dX1_remember_32 : decode cX1_remember 32 = .ok (.getfield 368, 3) := dk_180 1 112 (dk_at dksX1_remember_1 9 rfl rfl)
theorem dX1_remember_35 : decode cX1_remember 35 = .ok (.invokevirtual 509, 3) := dk_182 1 253 (dk_at dksX1_remember_1 12 rfl rfl)
theorem dX1_remember_38 : decode cX1_remember 38 = .ok (.invokeinterface 522 2, 5) := by decide +kernel
theorem dX1_remember_43 : decode cX1_remember 43 = .ok (.aload_n 0, 1) := dk_42 (dk_at dksX1_remember_1 20 rfl rfl)
theorem dX1_remember_44 : decode cX1_remember 44 = .ok (.getfield 368, 3) := dk_180 1 112 (dk_at dksX1_remember_1 21 rfl rfl)
theorem dX1_remember_47 : decode cX1_remember 47 = .ok (.areturn, 1) := dk_176 (dk_at dksX1_remember_2 0 rfl rfl)
abbrev cX1_cancel : ByteArray := prog_1_method_94_code
def yX1_cancel : MethodName := ⟨RX1, "cancel", "(I)I"⟩
def dkwX1_cancel_0 : List UInt8 := [42, 42, 27, 182, 1, 152, 27, 182, 2, 0, 184, 1, 130, 42, 42, 182, 2, 14, 27, 182, 2, 3, 172]
abbrev dktX1_cancel_0 : List UInt8 := dkwX1_cancel_0 ++ []
theorem dksX1_cancel_0 : cX1_cancel.data.toList.drop 0 = dktX1_cancel_0 := by decide +kernel
theorem dX1_cancel_0 : decode cX1_cancel 0 = .ok (.aload_n 0, 1) := dk_42 (dk_at dksX1_cancel_0 0 rfl rfl)
theorem dX1_cancel_1 : decode cX1_cancel 1 = .ok (.aload_n 0, 1) := dk_42 (dk_at dksX1_cancel_0 1 rfl rfl)
theorem dX1_cancel_2 : decode cX1_cancel 2 = .ok (.iload_n 1, 1) := dk_27 (dk_at dksX1_cancel_0 2 rfl rfl)
theorem dX1_cancel_3 : decode cX1_cancel 3 = .ok (.invokevirtual 408, 3) := dk_182 1 152 (dk_at dksX1_cancel_0 3 rfl rfl)
theorem dX1_cancel_6 : decode cX1_cancel 6 = .ok (.iload_n 1, 1) := dk_27 (dk_at dksX1_cancel_0 6 rfl rfl)
theorem dX1_cancel_7 : decode cX1_cancel 7 = .ok (.invokevirtual 512, 3) := dk_182 2 0 (dk_at dksX1_cancel_0 7 rfl rfl)
theorem dX1_cancel_10 : decode cX1_cancel 10 = .ok (.invokestatic 386, 3) := dk_184 1 130 (dk_at dksX1_cancel_0 10 rfl rfl)
theorem dX1_cancel_13 : decode cX1_cancel 13 = .ok (.aload_n 0, 1) := dk_42 (dk_at dksX1_cancel_0 13 rfl rfl)
theorem dX1_cancel_14 : decode cX1_cancel 14 = .ok (.aload_n 0, 1) := dk_42 (dk_at dksX1_cancel_0 14 rfl rfl)
theorem dX1_cancel_15 : decode cX1_cancel 15 = .ok (.invokevirtual 526, 3) := dk_182 2 14 (dk_at dksX1_cancel_0 15 rfl rfl)
theorem dX1_cancel_18 : decode cX1_cancel 18 = .ok (.iload_n 1, 1) := dk_27 (dk_at dksX1_cancel_0 18 rfl rfl)
theorem dX1_cancel_19 : decode cX1_cancel 19 = .ok (.invokevirtual 515, 3) := dk_182 2 3 (dk_at dksX1_cancel_0 19 rfl rfl)
theorem dX1_cancel_22 : decode cX1_cancel 22 = .ok (.ireturn, 1) := dk_172 (dk_at dksX1_cancel_0 22 rfl rfl)
abbrev cX1_postpone : ByteArray := prog_1_method_95_code
def yX1_postpone : MethodName := ⟨RX1, "postpone", "(II)I"⟩
def dkwX1_postpone_5 : List UInt8 := [181, 1, 112, 25, 4, 180, 0, 238, 27, 46, 172]
abbrev dktX1_postpone_5 : List UInt8 := dkwX1_postpone_5 ++ []
def dkwX1_postpone_4 : List UInt8 := [180, 0, 238, 27, 42, 25, 4, 27, 4, 182, 1, 156, 79, 42, 182, 2, 14, 58, 5, 42, 25, 4]
abbrev dktX1_postpone_4 : List UInt8 := dkwX1_postpone_4 ++ dktX1_postpone_5
def dkwX1_postpone_3 : List UInt8 := [153, 0, 16, 42, 25, 4, 182, 2, 21, 153, 0, 7, 4, 167, 0, 4, 3, 184, 1, 130, 25, 4]
abbrev dktX1_postpone_3 : List UInt8 := dkwX1_postpone_3 ++ dktX1_postpone_4
def dkwX1_postpone_2 : List UInt8 := [182, 1, 24, 27, 182, 1, 14, 25, 4, 180, 0, 138, 27, 28, 79, 42, 25, 4, 27, 182, 0, 244]
abbrev dktX1_postpone_2 : List UInt8 := dkwX1_postpone_2 ++ dktX1_postpone_3
def dkwX1_postpone_1 : List UInt8 := [153, 0, 7, 4, 167, 0, 4, 3, 184, 1, 130, 45, 182, 1, 253, 58, 4, 42, 25, 4, 42, 25, 4, 27]
abbrev dktX1_postpone_1 : List UInt8 := dkwX1_postpone_1 ++ dktX1_postpone_2
def dkwX1_postpone_0 : List UInt8 := [42, 27, 182, 1, 152, 78, 42, 45, 27, 182, 2, 0, 153, 0, 18, 28, 3, 17, 5, 160, 184, 1, 66]
abbrev dktX1_postpone_0 : List UInt8 := dkwX1_postpone_0 ++ dktX1_postpone_1
theorem dksX1_postpone_0 : cX1_postpone.data.toList.drop 0 = dktX1_postpone_0 := by decide +kernel
theorem dksX1_postpone_1 : cX1_postpone.data.toList.drop 23 = dktX1_postpone_1 := dk_seg dksX1_postpone_0 23 rfl rfl
theorem dksX1_postpone_2 : cX1_postpone.data.toList.drop 47 = dktX1_postpone_2 := dk_seg dksX1_postpone_1 24 rfl rfl
theorem dksX1_postpone_3 : cX1_postpone.data.toList.drop 69 = dktX1_postpone_3 := dk_seg dksX1_postpone_2 22 rfl rfl
theorem dksX1_postpone_4 : cX1_postpone.data.toList.drop 91 = dktX1_postpone_4 := dk_seg dksX1_postpone_3 22 rfl rfl
theorem dksX1_postpone_5 : cX1_postpone.data.toList.drop 113 = dktX1_postpone_5 := dk_seg dksX1_postpone_4 22 rfl rfl
theorem dX1_postpone_0 : decode cX1_postpone 0 = .ok (.aload_n 0, 1) := dk_42 (dk_at dksX1_postpone_0 0 rfl rfl)
theorem dX1_postpone_1 : decode cX1_postpone 1 = .ok (.iload_n 1, 1) := dk_27 (dk_at dksX1_postpone_0 1 rfl rfl)
theorem dX1_postpone_2 : decode cX1_postpone 2 = .ok (.invokevirtual 408, 3) := dk_182 1 152 (dk_at dksX1_postpone_0 2 rfl rfl)
theorem dX1_postpone_5 : decode cX1_postpone 5 = .ok (.astore_n 3, 1) := dk_78 (dk_at dksX1_postpone_0 5 rfl rfl)
theorem dX1_postpone_6 : decode cX1_postpone 6 = .ok (.aload_n 0, 1) := dk_42 (dk_at dksX1_postpone_0 6 rfl rfl)
theorem dX1_postpone_7 : decode cX1_postpone 7 = .ok (.aload_n 3, 1) := dk_45 (dk_at dksX1_postpone_0 7 rfl rfl)
theorem dX1_postpone_8 : decode cX1_postpone 8 = .ok (.iload_n 1, 1) := dk_27 (dk_at dksX1_postpone_0 8 rfl rfl)
theorem dX1_postpone_9 : decode cX1_postpone 9 = .ok (.invokevirtual 512, 3) := dk_182 2 0 (dk_at dksX1_postpone_0 9 rfl rfl)
theorem dX1_postpone_12 : decode cX1_postpone 12 = .ok (.ifCond .eq 18, 3) := dk_153 0 18 (dk_at dksX1_postpone_0 12 rfl rfl)
theorem dX1_postpone_15 : decode cX1_postpone 15 = .ok (.iload_n 2, 1) := dk_28 (dk_at dksX1_postpone_0 15 rfl rfl)
theorem dX1_postpone_16 : decode cX1_postpone 16 = .ok (.iconst 0, 1) := dk_3 (dk_at dksX1_postpone_0 16 rfl rfl)
theorem dX1_postpone_17 : decode cX1_postpone 17 = .ok (.sipush 1440, 3) := dk_17 5 160 (dk_at dksX1_postpone_0 17 rfl rfl)
theorem dX1_postpone_20 : decode cX1_postpone 20 = .ok (.invokestatic 322, 3) := dk_184 1 66 (dk_at dksX1_postpone_0 20 rfl rfl)
theorem dX1_postpone_23 : decode cX1_postpone 23 = .ok (.ifCond .eq 7, 3) := dk_153 0 7 (dk_at dksX1_postpone_1 0 rfl rfl)
theorem dX1_postpone_26 : decode cX1_postpone 26 = .ok (.iconst 1, 1) := dk_4 (dk_at dksX1_postpone_1 3 rfl rfl)
theorem dX1_postpone_27 : decode cX1_postpone 27 = .ok (.goto 4, 3) := dk_167 0 4 (dk_at dksX1_postpone_1 4 rfl rfl)
theorem dX1_postpone_30 : decode cX1_postpone 30 = .ok (.iconst 0, 1) := dk_3 (dk_at dksX1_postpone_1 7 rfl rfl)
theorem dX1_postpone_31 : decode cX1_postpone 31 = .ok (.invokestatic 386, 3) := dk_184 1 130 (dk_at dksX1_postpone_1 8 rfl rfl)
theorem dX1_postpone_34 : decode cX1_postpone 34 = .ok (.aload_n 3, 1) := dk_45 (dk_at dksX1_postpone_1 11 rfl rfl)
theorem dX1_postpone_35 : decode cX1_postpone 35 = .ok (.invokevirtual 509, 3) := dk_182 1 253 (dk_at dksX1_postpone_1 12 rfl rfl)
theorem dX1_postpone_38 : decode cX1_postpone 38 = .ok (.astore 4, 2) := dk_58 4 (dk_at dksX1_postpone_1 15 rfl rfl)
theorem dX1_postpone_40 : decode cX1_postpone 40 = .ok (.aload_n 0, 1) := dk_42 (dk_at dksX1_postpone_1 17 rfl rfl)
theorem dX1_postpone_41 : decode cX1_postpone 41 = .ok (.aload 4, 2) := dk_25 4 (dk_at dksX1_postpone_1 18 rfl rfl)
theorem dX1_postpone_43 : decode cX1_postpone 43 = .ok (.aload_n 0, 1) := dk_42 (dk_at dksX1_postpone_1 20 rfl rfl)
theorem dX1_postpone_44 : decode cX1_postpone 44 = .ok (.aload 4, 2) := dk_25 4 (dk_at dksX1_postpone_1 21 rfl rfl)
theorem dX1_postpone_46 : decode cX1_postpone 46 = .ok (.iload_n 1, 1) := dk_27 (dk_at dksX1_postpone_1 23 rfl rfl)
theorem dX1_postpone_47 : decode cX1_postpone 47 = .ok (.invokevirtual 280, 3) := dk_182 1 24 (dk_at dksX1_postpone_2 0 rfl rfl)
theorem dX1_postpone_50 : decode cX1_postpone 50 = .ok (.iload_n 1, 1) := dk_27 (dk_at dksX1_postpone_2 3 rfl rfl)
theorem dX1_postpone_51 : decode cX1_postpone 51 = .ok (.invokevirtual 270, 3) := dk_182 1 14 (dk_at dksX1_postpone_2 4 rfl rfl)
theorem dX1_postpone_54 : decode cX1_postpone 54 = .ok (.aload 4, 2) := dk_25 4 (dk_at dksX1_postpone_2 7 rfl rfl)
theorem dX1_postpone_56 : decode cX1_postpone 56 = .ok (.getfield 138, 3) := dk_180 0 138 (dk_at dksX1_postpone_2 9 rfl rfl)
theorem dX1_postpone_59 : decode cX1_postpone 59 = .ok (.iload_n 1, 1) := dk_27 (dk_at dksX1_postpone_2 12 rfl rfl)
theorem dX1_postpone_60 : decode cX1_postpone 60 = .ok (.iload_n 2, 1) := dk_28 (dk_at dksX1_postpone_2 13 rfl rfl)
theorem dX1_postpone_61 : decode cX1_postpone 61 = .ok (.iastore, 1) := dk_79 (dk_at dksX1_postpone_2 14 rfl rfl)
theorem dX1_postpone_62 : decode cX1_postpone 62 = .ok (.aload_n 0, 1) := dk_42 (dk_at dksX1_postpone_2 15 rfl rfl)
theorem dX1_postpone_63 : decode cX1_postpone 63 = .ok (.aload 4, 2) := dk_25 4 (dk_at dksX1_postpone_2 16 rfl rfl)
theorem dX1_postpone_65 : decode cX1_postpone 65 = .ok (.iload_n 1, 1) := dk_27 (dk_at dksX1_postpone_2 18 rfl rfl)
theorem dX1_postpone_66 : decode cX1_postpone 66 = .ok (.invokevirtual 244, 3) := dk_182 0 244 (dk_at dksX1_postpone_2 19 rfl rfl)
theorem dX1_postpone_69 : decode cX1_postpone 69 = .ok (.ifCond .eq 16, 3) := dk_153 0 16 (dk_at dksX1_postpone_3 0 rfl rfl)
theorem dX1_postpone_72 : decode cX1_postpone 72 = .ok (.aload_n 0, 1) := dk_42 (dk_at dksX1_postpone_3 3 rfl rfl)
theorem dX1_postpone_73 : decode cX1_postpone 73 = .ok (.aload 4, 2) := dk_25 4 (dk_at dksX1_postpone_3 4 rfl rfl)
theorem dX1_postpone_75 : decode cX1_postpone 75 = .ok (.invokevirtual 533, 3) := dk_182 2 21 (dk_at dksX1_postpone_3 6 rfl rfl)
theorem dX1_postpone_78 : decode cX1_postpone 78 = .ok (.ifCond .eq 7, 3) := dk_153 0 7 (dk_at dksX1_postpone_3 9 rfl rfl)
theorem dX1_postpone_81 : decode cX1_postpone 81 = .ok (.iconst 1, 1) := dk_4 (dk_at dksX1_postpone_3 12 rfl rfl)
theorem dX1_postpone_82 : decode cX1_postpone 82 = .ok (.goto 4, 3) := dk_167 0 4 (dk_at dksX1_postpone_3 13 rfl rfl)
theorem dX1_postpone_85 : decode cX1_postpone 85 = .ok (.iconst 0, 1) := dk_3 (dk_at dksX1_postpone_3 16 rfl rfl)
theorem dX1_postpone_86 : decode cX1_postpone 86 = .ok (.invokestatic 386, 3) := dk_184 1 130 (dk_at dksX1_postpone_3 17 rfl rfl)
theorem dX1_postpone_89 : decode cX1_postpone 89 = .ok (.aload 4, 2) := dk_25 4 (dk_at dksX1_postpone_3 20 rfl rfl)
theorem dX1_postpone_91 : decode cX1_postpone 91 = .ok (.getfield 238, 3) := dk_180 0 238 (dk_at dksX1_postpone_4 0 rfl rfl)
theorem dX1_postpone_94 : decode cX1_postpone 94 = .ok (.iload_n 1, 1) := dk_27 (dk_at dksX1_postpone_4 3 rfl rfl)
theorem dX1_postpone_95 : decode cX1_postpone 95 = .ok (.aload_n 0, 1) := dk_42 (dk_at dksX1_postpone_4 4 rfl rfl)
theorem dX1_postpone_96 : decode cX1_postpone 96 = .ok (.aload 4, 2) := dk_25 4 (dk_at dksX1_postpone_4 5 rfl rfl)
theorem dX1_postpone_98 : decode cX1_postpone 98 = .ok (.iload_n 1, 1) := dk_27 (dk_at dksX1_postpone_4 7 rfl rfl)
theorem dX1_postpone_99 : decode cX1_postpone 99 = .ok (.iconst 1, 1) := dk_4 (dk_at dksX1_postpone_4 8 rfl rfl)
theorem dX1_postpone_100 : decode cX1_postpone 100 = .ok (.invokevirtual 412, 3) := dk_182 1 156 (dk_at dksX1_postpone_4 9 rfl rfl)
theorem dX1_postpone_103 : decode cX1_postpone 103 = .ok (.iastore, 1) := dk_79 (dk_at dksX1_postpone_4 12 rfl rfl)
theorem dX1_postpone_104 : decode cX1_postpone 104 = .ok (.aload_n 0, 1) := dk_42 (dk_at dksX1_postpone_4 13 rfl rfl)
theorem dX1_postpone_105 : decode cX1_postpone 105 = .ok (.invokevirtual 526, 3) := dk_182 2 14 (dk_at dksX1_postpone_4 14 rfl rfl)
theorem dX1_postpone_108 : decode cX1_postpone 108 = .ok (.astore 5, 2) := dk_58 5 (dk_at dksX1_postpone_4 17 rfl rfl)
theorem dX1_postpone_110 : decode cX1_postpone 110 = .ok (.aload_n 0, 1) := dk_42 (dk_at dksX1_postpone_4 19 rfl rfl)
theorem dX1_postpone_111 : decode cX1_postpone 111 = .ok (.aload 4, 2) := dk_25 4 (dk_at dksX1_postpone_4 20 rfl rfl)
theorem dX1_postpone_113 : decode cX1_postpone 113 = .ok (.putfield 368, 3) := dk_181 1 112 (dk_at dksX1_postpone_5 0 rfl rfl)
theorem dX1_postpone_116 : decode cX1_postpone 116 = .ok (.aload 4, 2) := dk_25 4 (dk_at dksX1_postpone_5 3 rfl rfl)
theorem dX1_postpone_118 : decode cX1_postpone 118 = .ok (.getfield 238, 3) := dk_180 0 238 (dk_at dksX1_postpone_5 5 rfl rfl)
theorem dX1_postpone_121 : decode cX1_postpone 121 = .ok (.iload_n 1, 1) := dk_27 (dk_at dksX1_postpone_5 8 rfl rfl)
theorem dX1_postpone_122 : decode cX1_postpone 122 = .ok (.iaload, 1) := dk_46 (dk_at dksX1_postpone_5 9 rfl rfl)
theorem dX1_postpone_123 : decode cX1_postpone 123 = .ok (.ireturn, 1) := dk_172 (dk_at dksX1_postpone_5 10 rfl rfl)
abbrev cX1_arePossible : ByteArray := prog_1_method_13_code
def yX1_arePossible : MethodName := ⟨RX1, "arePossible", "(LRideDesk$State;)Z"⟩
def dkwX1_arePossible_2 : List UInt8 := [132, 2, 1, 167, 255, 209, 4, 172]
abbrev dktX1_arePossible_2 : List UInt8 := dkwX1_arePossible_2 ++ []
def dkwX1_arePossible_1 : List UInt8 := [180, 0, 156, 28, 50, 42, 43, 43, 180, 0, 156, 28, 50, 182, 0, 160, 182, 0, 164, 154, 0, 5, 3, 172]
abbrev dktX1_arePossible_1 : List UInt8 := dkwX1_arePossible_1 ++ dktX1_arePossible_2
def dkwX1_arePossible_0 : List UInt8 := [3, 61, 28, 42, 180, 0, 15, 180, 0, 19, 185, 0, 153, 1, 0, 162, 0, 37, 42, 43, 28, 43]
abbrev dktX1_arePossible_0 : List UInt8 := dkwX1_arePossible_0 ++ dktX1_arePossible_1
theorem dksX1_arePossible_0 : cX1_arePossible.data.toList.drop 0 = dktX1_arePossible_0 := by decide +kernel
theorem dksX1_arePossible_1 : cX1_arePossible.data.toList.drop 22 = dktX1_arePossible_1 := dk_seg dksX1_arePossible_0 22 rfl rfl
theorem dksX1_arePossible_2 : cX1_arePossible.data.toList.drop 46 = dktX1_arePossible_2 := dk_seg dksX1_arePossible_1 24 rfl rfl
theorem dX1_arePossible_0 : decode cX1_arePossible 0 = .ok (.iconst 0, 1) := dk_3 (dk_at dksX1_arePossible_0 0 rfl rfl)
theorem dX1_arePossible_1 : decode cX1_arePossible 1 = .ok (.istore_n 2, 1) := dk_61 (dk_at dksX1_arePossible_0 1 rfl rfl)
theorem dX1_arePossible_2 : decode cX1_arePossible 2 = .ok (.iload_n 2, 1) := dk_28 (dk_at dksX1_arePossible_0 2 rfl rfl)
theorem dX1_arePossible_3 : decode cX1_arePossible 3 = .ok (.aload_n 0, 1) := dk_42 (dk_at dksX1_arePossible_0 3 rfl rfl)
theorem dX1_arePossible_4 : decode cX1_arePossible 4 = .ok (.getfield 15, 3) := dk_180 0 15 (dk_at dksX1_arePossible_0 4 rfl rfl)
theorem dX1_arePossible_7 : decode cX1_arePossible 7 = .ok (.getfield 19, 3) := dk_180 0 19 (dk_at dksX1_arePossible_0 7 rfl rfl)
theorem dX1_arePossible_10 : decode cX1_arePossible 10 = .ok (.invokeinterface 153 1, 5) := by decide +kernel
theorem dX1_arePossible_15 : decode cX1_arePossible 15 = .ok (.if_icmp .ge 37, 3) := dk_162 0 37 (dk_at dksX1_arePossible_0 15 rfl rfl)
theorem dX1_arePossible_18 : decode cX1_arePossible 18 = .ok (.aload_n 0, 1) := dk_42 (dk_at dksX1_arePossible_0 18 rfl rfl)
theorem dX1_arePossible_19 : decode cX1_arePossible 19 = .ok (.aload_n 1, 1) := dk_43 (dk_at dksX1_arePossible_0 19 rfl rfl)
theorem dX1_arePossible_20 : decode cX1_arePossible 20 = .ok (.iload_n 2, 1) := dk_28 (dk_at dksX1_arePossible_0 20 rfl rfl)
theorem dX1_arePossible_21 : decode cX1_arePossible 21 = .ok (.aload_n 1, 1) := dk_43 (dk_at dksX1_arePossible_0 21 rfl rfl)
theorem dX1_arePossible_22 : decode cX1_arePossible 22 = .ok (.getfield 156, 3) := dk_180 0 156 (dk_at dksX1_arePossible_1 0 rfl rfl)
theorem dX1_arePossible_25 : decode cX1_arePossible 25 = .ok (.iload_n 2, 1) := dk_28 (dk_at dksX1_arePossible_1 3 rfl rfl)
theorem dX1_arePossible_26 : decode cX1_arePossible 26 = .ok (.aaload, 1) := dk_50 (dk_at dksX1_arePossible_1 4 rfl rfl)
theorem dX1_arePossible_27 : decode cX1_arePossible 27 = .ok (.aload_n 0, 1) := dk_42 (dk_at dksX1_arePossible_1 5 rfl rfl)
theorem dX1_arePossible_28 : decode cX1_arePossible 28 = .ok (.aload_n 1, 1) := dk_43 (dk_at dksX1_arePossible_1 6 rfl rfl)
theorem dX1_arePossible_29 : decode cX1_arePossible 29 = .ok (.aload_n 1, 1) := dk_43 (dk_at dksX1_arePossible_1 7 rfl rfl)
theorem dX1_arePossible_30 : decode cX1_arePossible 30 = .ok (.getfield 156, 3) := dk_180 0 156 (dk_at dksX1_arePossible_1 8 rfl rfl)
theorem dX1_arePossible_33 : decode cX1_arePossible 33 = .ok (.iload_n 2, 1) := dk_28 (dk_at dksX1_arePossible_1 11 rfl rfl)
theorem dX1_arePossible_34 : decode cX1_arePossible 34 = .ok (.aaload, 1) := dk_50 (dk_at dksX1_arePossible_1 12 rfl rfl)
theorem dX1_arePossible_35 : decode cX1_arePossible 35 = .ok (.invokevirtual 160, 3) := dk_182 0 160 (dk_at dksX1_arePossible_1 13 rfl rfl)
theorem dX1_arePossible_38 : decode cX1_arePossible 38 = .ok (.invokevirtual 164, 3) := dk_182 0 164 (dk_at dksX1_arePossible_1 16 rfl rfl)
theorem dX1_arePossible_41 : decode cX1_arePossible 41 = .ok (.ifCond .ne 5, 3) := dk_154 0 5 (dk_at dksX1_arePossible_1 19 rfl rfl)
theorem dX1_arePossible_44 : decode cX1_arePossible 44 = .ok (.iconst 0, 1) := dk_3 (dk_at dksX1_arePossible_1 22 rfl rfl)
theorem dX1_arePossible_45 : decode cX1_arePossible 45 = .ok (.ireturn, 1) := dk_172 (dk_at dksX1_arePossible_1 23 rfl rfl)
theorem dX1_arePossible_46 : decode cX1_arePossible 46 = .ok (.iinc 2 1, 3) := dk_132 2 1 (dk_at dksX1_arePossible_2 0 rfl rfl)
theorem dX1_arePossible_49 : decode cX1_arePossible 49 = .ok (.goto (-47), 3) := dk_167 255 209 (dk_at dksX1_arePossible_2 3 rfl rfl)
theorem dX1_arePossible_52 : decode cX1_arePossible 52 = .ok (.iconst 1, 1) := dk_4 (dk_at dksX1_arePossible_2 6 rfl rfl)
theorem dX1_arePossible_53 : decode cX1_arePossible 53 = .ok (.ireturn, 1) := dk_172 (dk_at dksX1_arePossible_2 7 rfl rfl)
abbrev cX1_setUntil : ByteArray := prog_1_method_96_code
def yX1_setUntil : MethodName := ⟨RX1, "setUntil", "(II)I"⟩
def dkwX1_setUntil_4 : List UInt8 := [182, 2, 14, 58, 6, 25, 6, 180, 0, 135, 27, 28, 79, 42, 25, 6, 27, 182, 1, 27, 172]
abbrev dktX1_setUntil_4 : List UInt8 := dkwX1_setUntil_4 ++ []
def dkwX1_setUntil_3 : List UInt8 := [27, 50, 42, 25, 4, 25, 4, 180, 0, 156, 27, 50, 182, 0, 160, 182, 0, 164, 184, 1, 130, 42]
abbrev dktX1_setUntil_3 : List UInt8 := dkwX1_setUntil_3 ++ dktX1_setUntil_4
def dkwX1_setUntil_2 : List UInt8 := [180, 0, 135, 27, 28, 79, 42, 25, 4, 27, 182, 1, 18, 54, 5, 42, 25, 4, 27, 25, 4, 180, 0, 156]
abbrev dktX1_setUntil_2 : List UInt8 := dkwX1_setUntil_2 ++ dktX1_setUntil_3
def dkwX1_setUntil_1 : List UInt8 := [180, 0, 85, 17, 5, 160, 184, 1, 66, 184, 1, 130, 42, 180, 1, 112, 182, 1, 253, 58, 4, 25, 4]
abbrev dktX1_setUntil_1 : List UInt8 := dkwX1_setUntil_1 ++ dktX1_setUntil_2
def dkwX1_setUntil_0 : List UInt8 := [42, 27, 182, 1, 122, 78, 28, 42, 180, 0, 15, 180, 0, 19, 27, 185, 0, 25, 2, 0, 192, 0, 83]
abbrev dktX1_setUntil_0 : List UInt8 := dkwX1_setUntil_0 ++ dktX1_setUntil_1
theorem dksX1_setUntil_0 : cX1_setUntil.data.toList.drop 0 = dktX1_setUntil_0 := by decide +kernel
theorem dksX1_setUntil_1 : cX1_setUntil.data.toList.drop 23 = dktX1_setUntil_1 := dk_seg dksX1_setUntil_0 23 rfl rfl
theorem dksX1_setUntil_2 : cX1_setUntil.data.toList.drop 46 = dktX1_setUntil_2 := dk_seg dksX1_setUntil_1 23 rfl rfl
theorem dksX1_setUntil_3 : cX1_setUntil.data.toList.drop 70 = dktX1_setUntil_3 := dk_seg dksX1_setUntil_2 24 rfl rfl
theorem dksX1_setUntil_4 : cX1_setUntil.data.toList.drop 92 = dktX1_setUntil_4 := dk_seg dksX1_setUntil_3 22 rfl rfl
theorem dX1_setUntil_0 : decode cX1_setUntil 0 = .ok (.aload_n 0, 1) := dk_42 (dk_at dksX1_setUntil_0 0 rfl rfl)
theorem dX1_setUntil_1 : decode cX1_setUntil 1 = .ok (.iload_n 1, 1) := dk_27 (dk_at dksX1_setUntil_0 1 rfl rfl)
theorem dX1_setUntil_2 : decode cX1_setUntil 2 = .ok (.invokevirtual 378, 3) := dk_182 1 122 (dk_at dksX1_setUntil_0 2 rfl rfl)
theorem dX1_setUntil_5 : decode cX1_setUntil 5 = .ok (.astore_n 3, 1) := dk_78 (dk_at dksX1_setUntil_0 5 rfl rfl)
theorem dX1_setUntil_6 : decode cX1_setUntil 6 = .ok (.iload_n 2, 1) := dk_28 (dk_at dksX1_setUntil_0 6 rfl rfl)
theorem dX1_setUntil_7 : decode cX1_setUntil 7 = .ok (.aload_n 0, 1) := dk_42 (dk_at dksX1_setUntil_0 7 rfl rfl)
theorem dX1_setUntil_8 : decode cX1_setUntil 8 = .ok (.getfield 15, 3) := dk_180 0 15 (dk_at dksX1_setUntil_0 8 rfl rfl)
theorem dX1_setUntil_11 : decode cX1_setUntil 11 = .ok (.getfield 19, 3) := dk_180 0 19 (dk_at dksX1_setUntil_0 11 rfl rfl)
theorem dX1_setUntil_14 : decode cX1_setUntil 14 = .ok (.iload_n 1, 1) := dk_27 (dk_at dksX1_setUntil_0 14 rfl rfl)
theorem dX1_setUntil_15 : decode cX1_setUntil 15 = .ok (.invokeinterface 25 2, 5) := by decide +kernel
theorem dX1_setUntil_20 : decode cX1_setUntil 20 = .ok (.checkcast 83, 3) := dk_192 0 83 (dk_at dksX1_setUntil_0 20 rfl rfl)
theorem dX1_setUntil_23 : decode cX1_setUntil 23 = .ok (.getfield 85, 3) := dk_180 0 85 (dk_at dksX1_setUntil_1 0 rfl rfl)
theorem dX1_setUntil_26 : decode cX1_setUntil 26 = .ok (.sipush 1440, 3) := dk_17 5 160 (dk_at dksX1_setUntil_1 3 rfl rfl)
theorem dX1_setUntil_29 : decode cX1_setUntil 29 = .ok (.invokestatic 322, 3) := dk_184 1 66 (dk_at dksX1_setUntil_1 6 rfl rfl)
theorem dX1_setUntil_32 : decode cX1_setUntil 32 = .ok (.invokestatic 386, 3) := dk_184 1 130 (dk_at dksX1_setUntil_1 9 rfl rfl)
theorem dX1_setUntil_35 : decode cX1_setUntil 35 = .ok (.aload_n 0, 1) := dk_42 (dk_at dksX1_setUntil_1 12 rfl rfl)
theorem dX1_setUntil_36 : decode cX1_setUntil 36 = .ok (.getfield 368, 3) := dk_180 1 112 (dk_at dksX1_setUntil_1 13 rfl rfl)
theorem dX1_setUntil_39 : decode cX1_setUntil 39 = .ok (.invokevirtual 509, 3) := dk_182 1 253 (dk_at dksX1_setUntil_1 16 rfl rfl)
theorem dX1_setUntil_42 : decode cX1_setUntil 42 = .ok (.astore 4, 2) := dk_58 4 (dk_at dksX1_setUntil_1 19 rfl rfl)
theorem dX1_setUntil_44 : decode cX1_setUntil 44 = .ok (.aload 4, 2) := dk_25 4 (dk_at dksX1_setUntil_1 21 rfl rfl)
theorem dX1_setUntil_46 : decode cX1_setUntil 46 = .ok (.getfield 135, 3) := dk_180 0 135 (dk_at dksX1_setUntil_2 0 rfl rfl)
theorem dX1_setUntil_49 : decode cX1_setUntil 49 = .ok (.iload_n 1, 1) := dk_27 (dk_at dksX1_setUntil_2 3 rfl rfl)
theorem dX1_setUntil_50 : decode cX1_setUntil 50 = .ok (.iload_n 2, 1) := dk_28 (dk_at dksX1_setUntil_2 4 rfl rfl)
theorem dX1_setUntil_51 : decode cX1_setUntil 51 = .ok (.iastore, 1) := dk_79 (dk_at dksX1_setUntil_2 5 rfl rfl)
theorem dX1_setUntil_52 : decode cX1_setUntil 52 = .ok (.aload_n 0, 1) := dk_42 (dk_at dksX1_setUntil_2 6 rfl rfl)
theorem dX1_setUntil_53 : decode cX1_setUntil 53 = .ok (.aload 4, 2) := dk_25 4 (dk_at dksX1_setUntil_2 7 rfl rfl)
theorem dX1_setUntil_55 : decode cX1_setUntil 55 = .ok (.iload_n 1, 1) := dk_27 (dk_at dksX1_setUntil_2 9 rfl rfl)
theorem dX1_setUntil_56 : decode cX1_setUntil 56 = .ok (.invokevirtual 274, 3) := dk_182 1 18 (dk_at dksX1_setUntil_2 10 rfl rfl)
theorem dX1_setUntil_59 : decode cX1_setUntil 59 = .ok (.istore 5, 2) := dk_54 5 (dk_at dksX1_setUntil_2 13 rfl rfl)
theorem dX1_setUntil_61 : decode cX1_setUntil 61 = .ok (.aload_n 0, 1) := dk_42 (dk_at dksX1_setUntil_2 15 rfl rfl)
theorem dX1_setUntil_62 : decode cX1_setUntil 62 = .ok (.aload 4, 2) := dk_25 4 (dk_at dksX1_setUntil_2 16 rfl rfl)
theorem dX1_setUntil_64 : decode cX1_setUntil 64 = .ok (.iload_n 1, 1) := dk_27 (dk_at dksX1_setUntil_2 18 rfl rfl)
theorem dX1_setUntil_65 : decode cX1_setUntil 65 = .ok (.aload 4, 2) := dk_25 4 (dk_at dksX1_setUntil_2 19 rfl rfl)
theorem dX1_setUntil_67 : decode cX1_setUntil 67 = .ok (.getfield 156, 3) := dk_180 0 156 (dk_at dksX1_setUntil_2 21 rfl rfl)
theorem dX1_setUntil_70 : decode cX1_setUntil 70 = .ok (.iload_n 1, 1) := dk_27 (dk_at dksX1_setUntil_3 0 rfl rfl)
theorem dX1_setUntil_71 : decode cX1_setUntil 71 = .ok (.aaload, 1) := dk_50 (dk_at dksX1_setUntil_3 1 rfl rfl)
theorem dX1_setUntil_72 : decode cX1_setUntil 72 = .ok (.aload_n 0, 1) := dk_42 (dk_at dksX1_setUntil_3 2 rfl rfl)
theorem dX1_setUntil_73 : decode cX1_setUntil 73 = .ok (.aload 4, 2) := dk_25 4 (dk_at dksX1_setUntil_3 3 rfl rfl)
theorem dX1_setUntil_75 : decode cX1_setUntil 75 = .ok (.aload 4, 2) := dk_25 4 (dk_at dksX1_setUntil_3 5 rfl rfl)
theorem dX1_setUntil_77 : decode cX1_setUntil 77 = .ok (.getfield 156, 3) := dk_180 0 156 (dk_at dksX1_setUntil_3 7 rfl rfl)
theorem dX1_setUntil_80 : decode cX1_setUntil 80 = .ok (.iload_n 1, 1) := dk_27 (dk_at dksX1_setUntil_3 10 rfl rfl)
theorem dX1_setUntil_81 : decode cX1_setUntil 81 = .ok (.aaload, 1) := dk_50 (dk_at dksX1_setUntil_3 11 rfl rfl)
theorem dX1_setUntil_82 : decode cX1_setUntil 82 = .ok (.invokevirtual 160, 3) := dk_182 0 160 (dk_at dksX1_setUntil_3 12 rfl rfl)
theorem dX1_setUntil_85 : decode cX1_setUntil 85 = .ok (.invokevirtual 164, 3) := dk_182 0 164 (dk_at dksX1_setUntil_3 15 rfl rfl)
theorem dX1_setUntil_88 : decode cX1_setUntil 88 = .ok (.invokestatic 386, 3) := dk_184 1 130 (dk_at dksX1_setUntil_3 18 rfl rfl)
theorem dX1_setUntil_91 : decode cX1_setUntil 91 = .ok (.aload_n 0, 1) := dk_42 (dk_at dksX1_setUntil_3 21 rfl rfl)
theorem dX1_setUntil_92 : decode cX1_setUntil 92 = .ok (.invokevirtual 526, 3) := dk_182 2 14 (dk_at dksX1_setUntil_4 0 rfl rfl)
theorem dX1_setUntil_95 : decode cX1_setUntil 95 = .ok (.astore 6, 2) := dk_58 6 (dk_at dksX1_setUntil_4 3 rfl rfl)
theorem dX1_setUntil_97 : decode cX1_setUntil 97 = .ok (.aload 6, 2) := dk_25 6 (dk_at dksX1_setUntil_4 5 rfl rfl)
theorem dX1_setUntil_99 : decode cX1_setUntil 99 = .ok (.getfield 135, 3) := dk_180 0 135 (dk_at dksX1_setUntil_4 7 rfl rfl)
theorem dX1_setUntil_102 : decode cX1_setUntil 102 = .ok (.iload_n 1, 1) := dk_27 (dk_at dksX1_setUntil_4 10 rfl rfl)
theorem dX1_setUntil_103 : decode cX1_setUntil 103 = .ok (.iload_n 2, 1) := dk_28 (dk_at dksX1_setUntil_4 11 rfl rfl)
theorem dX1_setUntil_104 : decode cX1_setUntil 104 = .ok (.iastore, 1) := dk_79 (dk_at dksX1_setUntil_4 12 rfl rfl)
theorem dX1_setUntil_105 : decode cX1_setUntil 105 = .ok (.aload_n 0, 1) := dk_42 (dk_at dksX1_setUntil_4 13 rfl rfl)
theorem dX1_setUntil_106 : decode cX1_setUntil 106 = .ok (.aload 6, 2) := dk_25 6 (dk_at dksX1_setUntil_4 14 rfl rfl)
theorem dX1_setUntil_108 : decode cX1_setUntil 108 = .ok (.iload_n 1, 1) := dk_27 (dk_at dksX1_setUntil_4 16 rfl rfl)
theorem dX1_setUntil_109 : decode cX1_setUntil 109 = .ok (.invokevirtual 283, 3) := dk_182 1 27 (dk_at dksX1_setUntil_4 17 rfl rfl)
theorem dX1_setUntil_112 : decode cX1_setUntil 112 = .ok (.ireturn, 1) := dk_172 (dk_at dksX1_setUntil_4 20 rfl rfl)
abbrev cX1_improve : ByteArray := prog_1_method_97_code
def yX1_improve : MethodName := ⟨RX1, "improve", "()I"⟩
def dkwX1_improve_5 : List UInt8 := [181, 1, 112, 132, 4, 1, 167, 255, 157, 29, 42, 42, 180, 1, 112, 182, 1, 163, 100, 172]
abbrev dktX1_improve_5 : List UInt8 := dkwX1_improve_5 ++ []
def dkwX1_improve_4 : List UInt8 := [153, 0, 26, 42, 25, 5, 182, 1, 163, 42, 42, 180, 1, 112, 182, 1, 163, 162, 0, 9, 42, 25, 5]
abbrev dktX1_improve_4 : List UInt8 := dkwX1_improve_4 ++ dktX1_improve_5
def dkwX1_improve_3 : List UInt8 := [21, 4, 182, 1, 14, 42, 25, 5, 21, 4, 182, 0, 244, 153, 0, 35, 42, 25, 5, 182, 2, 21]
abbrev dktX1_improve_3 : List UInt8 := dkwX1_improve_3 ++ dktX1_improve_4
def dkwX1_improve_2 : List UInt8 := [167, 0, 71, 42, 180, 1, 112, 182, 1, 253, 58, 5, 42, 25, 5, 42, 25, 5, 21, 4, 182, 1, 24]
abbrev dktX1_improve_2 : List UInt8 := dkwX1_improve_2 ++ dktX1_improve_3
def dkwX1_improve_1 : List UInt8 := [180, 1, 112, 180, 0, 235, 162, 0, 93, 42, 42, 180, 1, 112, 21, 4, 182, 2, 0, 154, 0, 6]
abbrev dktX1_improve_1 : List UInt8 := dkwX1_improve_1 ++ dktX1_improve_2
def dkwX1_improve_0 : List UInt8 := [42, 182, 1, 119, 76, 42, 182, 2, 14, 77, 42, 43, 182, 1, 163, 62, 3, 54, 4, 21, 4, 42]
abbrev dktX1_improve_0 : List UInt8 := dkwX1_improve_0 ++ dktX1_improve_1
theorem dksX1_improve_0 : cX1_improve.data.toList.drop 0 = dktX1_improve_0 := by decide +kernel
theorem dksX1_improve_1 : cX1_improve.data.toList.drop 22 = dktX1_improve_1 := dk_seg dksX1_improve_0 22 rfl rfl
theorem dksX1_improve_2 : cX1_improve.data.toList.drop 44 = dktX1_improve_2 := dk_seg dksX1_improve_1 22 rfl rfl
theorem dksX1_improve_3 : cX1_improve.data.toList.drop 67 = dktX1_improve_3 := dk_seg dksX1_improve_2 23 rfl rfl
theorem dksX1_improve_4 : cX1_improve.data.toList.drop 89 = dktX1_improve_4 := dk_seg dksX1_improve_3 22 rfl rfl
theorem dksX1_improve_5 : cX1_improve.data.toList.drop 112 = dktX1_improve_5 := dk_seg dksX1_improve_4 23 rfl rfl
theorem dX1_improve_0 : decode cX1_improve 0 = .ok (.aload_n 0, 1) := dk_42 (dk_at dksX1_improve_0 0 rfl rfl)
theorem dX1_improve_1 : decode cX1_improve 1 = .ok (.invokevirtual 375, 3) := dk_182 1 119 (dk_at dksX1_improve_0 1 rfl rfl)
theorem dX1_improve_4 : decode cX1_improve 4 = .ok (.astore_n 1, 1) := dk_76 (dk_at dksX1_improve_0 4 rfl rfl)
theorem dX1_improve_5 : decode cX1_improve 5 = .ok (.aload_n 0, 1) := dk_42 (dk_at dksX1_improve_0 5 rfl rfl)
theorem dX1_improve_6 : decode cX1_improve 6 = .ok (.invokevirtual 526, 3) := dk_182 2 14 (dk_at dksX1_improve_0 6 rfl rfl)
theorem dX1_improve_9 : decode cX1_improve 9 = .ok (.astore_n 2, 1) := dk_77 (dk_at dksX1_improve_0 9 rfl rfl)
theorem dX1_improve_10 : decode cX1_improve 10 = .ok (.aload_n 0, 1) := dk_42 (dk_at dksX1_improve_0 10 rfl rfl)
theorem dX1_improve_11 : decode cX1_improve 11 = .ok (.aload_n 1, 1) := dk_43 (dk_at dksX1_improve_0 11 rfl rfl)
theorem dX1_improve_12 : decode cX1_improve 12 = .ok (.invokevirtual 419, 3) := dk_182 1 163 (dk_at dksX1_improve_0 12 rfl rfl)
theorem dX1_improve_15 : decode cX1_improve 15 = .ok (.istore_n 3, 1) := dk_62 (dk_at dksX1_improve_0 15 rfl rfl)
theorem dX1_improve_16 : decode cX1_improve 16 = .ok (.iconst 0, 1) := dk_3 (dk_at dksX1_improve_0 16 rfl rfl)
theorem dX1_improve_17 : decode cX1_improve 17 = .ok (.istore 4, 2) := dk_54 4 (dk_at dksX1_improve_0 17 rfl rfl)
theorem dX1_improve_19 : decode cX1_improve 19 = .ok (.iload 4, 2) := dk_21 4 (dk_at dksX1_improve_0 19 rfl rfl)
theorem dX1_improve_21 : decode cX1_improve 21 = .ok (.aload_n 0, 1) := dk_42 (dk_at dksX1_improve_0 21 rfl rfl)
theorem dX1_improve_22 : decode cX1_improve 22 = .ok (.getfield 368, 3) := dk_180 1 112 (dk_at dksX1_improve_1 0 rfl rfl)
theorem dX1_improve_25 : decode cX1_improve 25 = .ok (.getfield 235, 3) := dk_180 0 235 (dk_at dksX1_improve_1 3 rfl rfl)
theorem dX1_improve_28 : decode cX1_improve 28 = .ok (.if_icmp .ge 93, 3) := dk_162 0 93 (dk_at dksX1_improve_1 6 rfl rfl)
theorem dX1_improve_31 : decode cX1_improve 31 = .ok (.aload_n 0, 1) := dk_42 (dk_at dksX1_improve_1 9 rfl rfl)
theorem dX1_improve_32 : decode cX1_improve 32 = .ok (.aload_n 0, 1) := dk_42 (dk_at dksX1_improve_1 10 rfl rfl)
theorem dX1_improve_33 : decode cX1_improve 33 = .ok (.getfield 368, 3) := dk_180 1 112 (dk_at dksX1_improve_1 11 rfl rfl)
theorem dX1_improve_36 : decode cX1_improve 36 = .ok (.iload 4, 2) := dk_21 4 (dk_at dksX1_improve_1 14 rfl rfl)
theorem dX1_improve_38 : decode cX1_improve 38 = .ok (.invokevirtual 512, 3) := dk_182 2 0 (dk_at dksX1_improve_1 16 rfl rfl)
theorem dX1_improve_41 : decode cX1_improve 41 = .ok (.ifCond .ne 6, 3) := dk_154 0 6 (dk_at dksX1_improve_1 19 rfl rfl)
theorem dX1_improve_44 : decode cX1_improve 44 = .ok (.goto 71, 3) := dk_167 0 71 (dk_at dksX1_improve_2 0 rfl rfl)
theorem dX1_improve_47 : decode cX1_improve 47 = .ok (.aload_n 0, 1) := dk_42 (dk_at dksX1_improve_2 3 rfl rfl)
theorem dX1_improve_48 : decode cX1_improve 48 = .ok (.getfield 368, 3) := dk_180 1 112 (dk_at dksX1_improve_2 4 rfl rfl)
theorem dX1_improve_51 : decode cX1_improve 51 = .ok (.invokevirtual 509, 3) := dk_182 1 253 (dk_at dksX1_improve_2 7 rfl rfl)
theorem dX1_improve_54 : decode cX1_improve 54 = .ok (.astore 5, 2) := dk_58 5 (dk_at dksX1_improve_2 10 rfl rfl)
theorem dX1_improve_56 : decode cX1_improve 56 = .ok (.aload_n 0, 1) := dk_42 (dk_at dksX1_improve_2 12 rfl rfl)
theorem dX1_improve_57 : decode cX1_improve 57 = .ok (.aload 5, 2) := dk_25 5 (dk_at dksX1_improve_2 13 rfl rfl)
theorem dX1_improve_59 : decode cX1_improve 59 = .ok (.aload_n 0, 1) := dk_42 (dk_at dksX1_improve_2 15 rfl rfl)
theorem dX1_improve_60 : decode cX1_improve 60 = .ok (.aload 5, 2) := dk_25 5 (dk_at dksX1_improve_2 16 rfl rfl)
theorem dX1_improve_62 : decode cX1_improve 62 = .ok (.iload 4, 2) := dk_21 4 (dk_at dksX1_improve_2 18 rfl rfl)
theorem dX1_improve_64 : decode cX1_improve 64 = .ok (.invokevirtual 280, 3) := dk_182 1 24 (dk_at dksX1_improve_2 20 rfl rfl)
theorem dX1_improve_67 : decode cX1_improve 67 = .ok (.iload 4, 2) := dk_21 4 (dk_at dksX1_improve_3 0 rfl rfl)
theorem dX1_improve_69 : decode cX1_improve 69 = .ok (.invokevirtual 270, 3) := dk_182 1 14 (dk_at dksX1_improve_3 2 rfl rfl)
theorem dX1_improve_72 : decode cX1_improve 72 = .ok (.aload_n 0, 1) := dk_42 (dk_at dksX1_improve_3 5 rfl rfl)
theorem dX1_improve_73 : decode cX1_improve 73 = .ok (.aload 5, 2) := dk_25 5 (dk_at dksX1_improve_3 6 rfl rfl)
theorem dX1_improve_75 : decode cX1_improve 75 = .ok (.iload 4, 2) := dk_21 4 (dk_at dksX1_improve_3 8 rfl rfl)
theorem dX1_improve_77 : decode cX1_improve 77 = .ok (.invokevirtual 244, 3) := dk_182 0 244 (dk_at dksX1_improve_3 10 rfl rfl)
theorem dX1_improve_80 : decode cX1_improve 80 = .ok (.ifCond .eq 35, 3) := dk_153 0 35 (dk_at dksX1_improve_3 13 rfl rfl)
theorem dX1_improve_83 : decode cX1_improve 83 = .ok (.aload_n 0, 1) := dk_42 (dk_at dksX1_improve_3 16 rfl rfl)
theorem dX1_improve_84 : decode cX1_improve 84 = .ok (.aload 5, 2) := dk_25 5 (dk_at dksX1_improve_3 17 rfl rfl)
theorem dX1_improve_86 : decode cX1_improve 86 = .ok (.invokevirtual 533, 3) := dk_182 2 21 (dk_at dksX1_improve_3 19 rfl rfl)
theorem dX1_improve_89 : decode cX1_improve 89 = .ok (.ifCond .eq 26, 3) := dk_153 0 26 (dk_at dksX1_improve_4 0 rfl rfl)
theorem dX1_improve_92 : decode cX1_improve 92 = .ok (.aload_n 0, 1) := dk_42 (dk_at dksX1_improve_4 3 rfl rfl)
theorem dX1_improve_93 : decode cX1_improve 93 = .ok (.aload 5, 2) := dk_25 5 (dk_at dksX1_improve_4 4 rfl rfl)
theorem dX1_improve_95 : decode cX1_improve 95 = .ok (.invokevirtual 419, 3) := dk_182 1 163 (dk_at dksX1_improve_4 6 rfl rfl)
theorem dX1_improve_98 : decode cX1_improve 98 = .ok (.aload_n 0, 1) := dk_42 (dk_at dksX1_improve_4 9 rfl rfl)
theorem dX1_improve_99 : decode cX1_improve 99 = .ok (.aload_n 0, 1) := dk_42 (dk_at dksX1_improve_4 10 rfl rfl)
theorem dX1_improve_100 : decode cX1_improve 100 = .ok (.getfield 368, 3) := dk_180 1 112 (dk_at dksX1_improve_4 11 rfl rfl)
theorem dX1_improve_103 : decode cX1_improve 103 = .ok (.invokevirtual 419, 3) := dk_182 1 163 (dk_at dksX1_improve_4 14 rfl rfl)
theorem dX1_improve_106 : decode cX1_improve 106 = .ok (.if_icmp .ge 9, 3) := dk_162 0 9 (dk_at dksX1_improve_4 17 rfl rfl)
theorem dX1_improve_109 : decode cX1_improve 109 = .ok (.aload_n 0, 1) := dk_42 (dk_at dksX1_improve_4 20 rfl rfl)
theorem dX1_improve_110 : decode cX1_improve 110 = .ok (.aload 5, 2) := dk_25 5 (dk_at dksX1_improve_4 21 rfl rfl)
theorem dX1_improve_112 : decode cX1_improve 112 = .ok (.putfield 368, 3) := dk_181 1 112 (dk_at dksX1_improve_5 0 rfl rfl)
theorem dX1_improve_115 : decode cX1_improve 115 = .ok (.iinc 4 1, 3) := dk_132 4 1 (dk_at dksX1_improve_5 3 rfl rfl)
theorem dX1_improve_118 : decode cX1_improve 118 = .ok (.goto (-99), 3) := dk_167 255 157 (dk_at dksX1_improve_5 6 rfl rfl)
theorem dX1_improve_121 : decode cX1_improve 121 = .ok (.iload_n 3, 1) := dk_29 (dk_at dksX1_improve_5 9 rfl rfl)
theorem dX1_improve_122 : decode cX1_improve 122 = .ok (.aload_n 0, 1) := dk_42 (dk_at dksX1_improve_5 10 rfl rfl)
theorem dX1_improve_123 : decode cX1_improve 123 = .ok (.aload_n 0, 1) := dk_42 (dk_at dksX1_improve_5 11 rfl rfl)
theorem dX1_improve_124 : decode cX1_improve 124 = .ok (.getfield 368, 3) := dk_180 1 112 (dk_at dksX1_improve_5 12 rfl rfl)
theorem dX1_improve_127 : decode cX1_improve 127 = .ok (.invokevirtual 419, 3) := dk_182 1 163 (dk_at dksX1_improve_5 15 rfl rfl)
theorem dX1_improve_130 : decode cX1_improve 130 = .ok (.isub, 1) := dk_100 (dk_at dksX1_improve_5 18 rfl rfl)
theorem dX1_improve_131 : decode cX1_improve 131 = .ok (.ireturn, 1) := dk_172 (dk_at dksX1_improve_5 19 rfl rfl)
abbrev cX1_advance : ByteArray := prog_1_method_99_code
def yX1_advance : MethodName := ⟨RX1, "advance", "(I)I"⟩
def dkwX1_advance_7 : List UInt8 := [167, 255, 151, 21, 4, 172]
abbrev dktX1_advance_7 : List UInt8 := dkwX1_advance_7 ++ []
def dkwX1_advance_6 : List UInt8 := [182, 0, 75, 154, 0, 12, 42, 44, 25, 6, 21, 7, 182, 2, 27, 132, 7, 1, 167, 255, 204, 132, 5, 1]
abbrev dktX1_advance_6 : List UInt8 := dkwX1_advance_6 ++ dktX1_advance_7
def dkwX1_advance_5 : List UInt8 := [25, 6, 180, 0, 51, 21, 7, 46, 44, 180, 0, 72, 163, 0, 27, 25, 6, 180, 0, 33, 21, 7, 50, 44]
abbrev dktX1_advance_5 : List UInt8 := dkwX1_advance_5 ++ dktX1_advance_6
def dkwX1_advance_4 : List UInt8 := [186, 2, 24, 0, 0, 184, 1, 215, 96, 54, 4, 3, 54, 7, 21, 7, 25, 6, 180, 0, 3, 162, 0, 48]
abbrev dktX1_advance_4 : List UInt8 := dkwX1_advance_4 ++ dktX1_advance_5
def dkwX1_advance_3 : List UInt8 := [185, 0, 153, 1, 0, 162, 0, 94, 44, 180, 0, 156, 21, 5, 50, 58, 6, 21, 4, 25, 6, 25, 6, 44]
abbrev dktX1_advance_3 : List UInt8 := dkwX1_advance_3 ++ dktX1_advance_4
def dkwX1_advance_2 : List UInt8 := [27, 96, 181, 0, 72, 3, 54, 4, 3, 54, 5, 21, 5, 42, 180, 0, 15, 180, 0, 19]
abbrev dktX1_advance_2 : List UInt8 := dkwX1_advance_2 ++ dktX1_advance_3
def dkwX1_advance_1 : List UInt8 := [17, 5, 160, 163, 0, 7, 4, 167, 0, 4, 3, 184, 1, 130, 42, 182, 2, 14, 78, 44, 89, 180, 0, 72]
abbrev dktX1_advance_1 : List UInt8 := dkwX1_advance_1 ++ dktX1_advance_2
def dkwX1_advance_0 : List UInt8 := [42, 182, 1, 119, 77, 27, 4, 17, 5, 160, 184, 1, 66, 153, 0, 19, 44, 180, 0, 72, 27, 96]
abbrev dktX1_advance_0 : List UInt8 := dkwX1_advance_0 ++ dktX1_advance_1
theorem dksX1_advance_0 : cX1_advance.data.toList.drop 0 = dktX1_advance_0 := by decide +kernel
theorem dksX1_advance_1 : cX1_advance.data.toList.drop 22 = dktX1_advance_1 := dk_seg dksX1_advance_0 22 rfl rfl
theorem dksX1_advance_2 : cX1_advance.data.toList.drop 46 = dktX1_advance_2 := dk_seg dksX1_advance_1 24 rfl rfl
theorem dksX1_advance_3 : cX1_advance.data.toList.drop 66 = dktX1_advance_3 := dk_seg dksX1_advance_2 20 rfl rfl
theorem dksX1_advance_4 : cX1_advance.data.toList.drop 90 = dktX1_advance_4 := dk_seg dksX1_advance_3 24 rfl rfl
theorem dksX1_advance_5 : cX1_advance.data.toList.drop 114 = dktX1_advance_5 := dk_seg dksX1_advance_4 24 rfl rfl
theorem dksX1_advance_6 : cX1_advance.data.toList.drop 138 = dktX1_advance_6 := dk_seg dksX1_advance_5 24 rfl rfl
theorem dksX1_advance_7 : cX1_advance.data.toList.drop 162 = dktX1_advance_7 := dk_seg dksX1_advance_6 24 rfl rfl
theorem dX1_advance_0 : decode cX1_advance 0 = .ok (.aload_n 0, 1) := dk_42 (dk_at dksX1_advance_0 0 rfl rfl)
theorem dX1_advance_1 : decode cX1_advance 1 = .ok (.invokevirtual 375, 3) := dk_182 1 119 (dk_at dksX1_advance_0 1 rfl rfl)
theorem dX1_advance_4 : decode cX1_advance 4 = .ok (.astore_n 2, 1) := dk_77 (dk_at dksX1_advance_0 4 rfl rfl)
theorem dX1_advance_5 : decode cX1_advance 5 = .ok (.iload_n 1, 1) := dk_27 (dk_at dksX1_advance_0 5 rfl rfl)
theorem dX1_advance_6 : decode cX1_advance 6 = .ok (.iconst 1, 1) := dk_4 (dk_at dksX1_advance_0 6 rfl rfl)
theorem dX1_advance_7 : decode cX1_advance 7 = .ok (.sipush 1440, 3) := dk_17 5 160 (dk_at dksX1_advance_0 7 rfl rfl)
theorem dX1_advance_10 : decode cX1_advance 10 = .ok (.invokestatic 322, 3) := dk_184 1 66 (dk_at dksX1_advance_0 10 rfl rfl)
theorem dX1_advance_13 : decode cX1_advance 13 = .ok (.ifCond .eq 19, 3) := dk_153 0 19 (dk_at dksX1_advance_0 13 rfl rfl)
theorem dX1_advance_16 : decode cX1_advance 16 = .ok (.aload_n 2, 1) := dk_44 (dk_at dksX1_advance_0 16 rfl rfl)
theorem dX1_advance_17 : decode cX1_advance 17 = .ok (.getfield 72, 3) := dk_180 0 72 (dk_at dksX1_advance_0 17 rfl rfl)
theorem dX1_advance_20 : decode cX1_advance 20 = .ok (.iload_n 1, 1) := dk_27 (dk_at dksX1_advance_0 20 rfl rfl)
theorem dX1_advance_21 : decode cX1_advance 21 = .ok (.iadd, 1) := dk_96 (dk_at dksX1_advance_0 21 rfl rfl)
theorem dX1_advance_22 : decode cX1_advance 22 = .ok (.sipush 1440, 3) := dk_17 5 160 (dk_at dksX1_advance_1 0 rfl rfl)
theorem dX1_advance_25 : decode cX1_advance 25 = .ok (.if_icmp .gt 7, 3) := dk_163 0 7 (dk_at dksX1_advance_1 3 rfl rfl)
theorem dX1_advance_28 : decode cX1_advance 28 = .ok (.iconst 1, 1) := dk_4 (dk_at dksX1_advance_1 6 rfl rfl)
theorem dX1_advance_29 : decode cX1_advance 29 = .ok (.goto 4, 3) := dk_167 0 4 (dk_at dksX1_advance_1 7 rfl rfl)
theorem dX1_advance_32 : decode cX1_advance 32 = .ok (.iconst 0, 1) := dk_3 (dk_at dksX1_advance_1 10 rfl rfl)
theorem dX1_advance_33 : decode cX1_advance 33 = .ok (.invokestatic 386, 3) := dk_184 1 130 (dk_at dksX1_advance_1 11 rfl rfl)
theorem dX1_advance_36 : decode cX1_advance 36 = .ok (.aload_n 0, 1) := dk_42 (dk_at dksX1_advance_1 14 rfl rfl)
theorem dX1_advance_37 : decode cX1_advance 37 = .ok (.invokevirtual 526, 3) := dk_182 2 14 (dk_at dksX1_advance_1 15 rfl rfl)
theorem dX1_advance_40 : decode cX1_advance 40 = .ok (.astore_n 3, 1) := dk_78 (dk_at dksX1_advance_1 18 rfl rfl)
theorem dX1_advance_41 : decode cX1_advance 41 = .ok (.aload_n 2, 1) := dk_44 (dk_at dksX1_advance_1 19 rfl rfl)
theorem dX1_advance_42 : decode cX1_advance 42 = .ok (.dup, 1) := dk_89 (dk_at dksX1_advance_1 20 rfl rfl)
theorem dX1_advance_43 : decode cX1_advance 43 = .ok (.getfield 72, 3) := dk_180 0 72 (dk_at dksX1_advance_1 21 rfl rfl)
theorem dX1_advance_46 : decode cX1_advance 46 = .ok (.iload_n 1, 1) := dk_27 (dk_at dksX1_advance_2 0 rfl rfl)
theorem dX1_advance_47 : decode cX1_advance 47 = .ok (.iadd, 1) := dk_96 (dk_at dksX1_advance_2 1 rfl rfl)
theorem dX1_advance_48 : decode cX1_advance 48 = .ok (.putfield 72, 3) := dk_181 0 72 (dk_at dksX1_advance_2 2 rfl rfl)
theorem dX1_advance_51 : decode cX1_advance 51 = .ok (.iconst 0, 1) := dk_3 (dk_at dksX1_advance_2 5 rfl rfl)
theorem dX1_advance_52 : decode cX1_advance 52 = .ok (.istore 4, 2) := dk_54 4 (dk_at dksX1_advance_2 6 rfl rfl)
theorem dX1_advance_54 : decode cX1_advance 54 = .ok (.iconst 0, 1) := dk_3 (dk_at dksX1_advance_2 8 rfl rfl)
theorem dX1_advance_55 : decode cX1_advance 55 = .ok (.istore 5, 2) := dk_54 5 (dk_at dksX1_advance_2 9 rfl rfl)
theorem dX1_advance_57 : decode cX1_advance 57 = .ok (.iload 5, 2) := dk_21 5 (dk_at dksX1_advance_2 11 rfl rfl)
theorem dX1_advance_59 : decode cX1_advance 59 = .ok (.aload_n 0, 1) := dk_42 (dk_at dksX1_advance_2 13 rfl rfl)
theorem dX1_advance_60 : decode cX1_advance 60 = .ok (.getfield 15, 3) := dk_180 0 15 (dk_at dksX1_advance_2 14 rfl rfl)
theorem dX1_advance_63 : decode cX1_advance 63 = .ok (.getfield 19, 3) := dk_180 0 19 (dk_at dksX1_advance_2 17 rfl rfl)
theorem dX1_advance_66 : decode cX1_advance 66 = .ok (.invokeinterface 153 1, 5) := by decide +kernel
theorem dX1_advance_71 : decode cX1_advance 71 = .ok (.if_icmp .ge 94, 3) := dk_162 0 94 (dk_at dksX1_advance_3 5 rfl rfl)
theorem dX1_advance_74 : decode cX1_advance 74 = .ok (.aload_n 2, 1) := dk_44 (dk_at dksX1_advance_3 8 rfl rfl)
theorem dX1_advance_75 : decode cX1_advance 75 = .ok (.getfield 156, 3) := dk_180 0 156 (dk_at dksX1_advance_3 9 rfl rfl)
theorem dX1_advance_78 : decode cX1_advance 78 = .ok (.iload 5, 2) := dk_21 5 (dk_at dksX1_advance_3 12 rfl rfl)
theorem dX1_advance_80 : decode cX1_advance 80 = .ok (.aaload, 1) := dk_50 (dk_at dksX1_advance_3 14 rfl rfl)
theorem dX1_advance_81 : decode cX1_advance 81 = .ok (.astore 6, 2) := dk_58 6 (dk_at dksX1_advance_3 15 rfl rfl)
theorem dX1_advance_83 : decode cX1_advance 83 = .ok (.iload 4, 2) := dk_21 4 (dk_at dksX1_advance_3 17 rfl rfl)
theorem dX1_advance_85 : decode cX1_advance 85 = .ok (.aload 6, 2) := dk_25 6 (dk_at dksX1_advance_3 19 rfl rfl)
theorem dX1_advance_87 : decode cX1_advance 87 = .ok (.aload 6, 2) := dk_25 6 (dk_at dksX1_advance_3 21 rfl rfl)
theorem dX1_advance_89 : decode cX1_advance 89 = .ok (.aload_n 2, 1) := dk_44 (dk_at dksX1_advance_3 23 rfl rfl)
theorem dX1_advance_90 : decode cX1_advance 90 = .ok (.invokedynamic 536, 5) := by decide +kernel
theorem dX1_advance_95 : decode cX1_advance 95 = .ok (.invokestatic 471, 3) := dk_184 1 215 (dk_at dksX1_advance_4 5 rfl rfl)
theorem dX1_advance_98 : decode cX1_advance 98 = .ok (.iadd, 1) := dk_96 (dk_at dksX1_advance_4 8 rfl rfl)
theorem dX1_advance_99 : decode cX1_advance 99 = .ok (.istore 4, 2) := dk_54 4 (dk_at dksX1_advance_4 9 rfl rfl)
theorem dX1_advance_101 : decode cX1_advance 101 = .ok (.iconst 0, 1) := dk_3 (dk_at dksX1_advance_4 11 rfl rfl)
theorem dX1_advance_102 : decode cX1_advance 102 = .ok (.istore 7, 2) := dk_54 7 (dk_at dksX1_advance_4 12 rfl rfl)
theorem dX1_advance_104 : decode cX1_advance 104 = .ok (.iload 7, 2) := dk_21 7 (dk_at dksX1_advance_4 14 rfl rfl)
theorem dX1_advance_106 : decode cX1_advance 106 = .ok (.aload 6, 2) := dk_25 6 (dk_at dksX1_advance_4 16 rfl rfl)
theorem dX1_advance_108 : decode cX1_advance 108 = .ok (.getfield 3, 3) := dk_180 0 3 (dk_at dksX1_advance_4 18 rfl rfl)
theorem dX1_advance_111 : decode cX1_advance 111 = .ok (.if_icmp .ge 48, 3) := dk_162 0 48 (dk_at dksX1_advance_4 21 rfl rfl)
theorem dX1_advance_114 : decode cX1_advance 114 = .ok (.aload 6, 2) := dk_25 6 (dk_at dksX1_advance_5 0 rfl rfl)
theorem dX1_advance_116 : decode cX1_advance 116 = .ok (.getfield 51, 3) := dk_180 0 51 (dk_at dksX1_advance_5 2 rfl rfl)
theorem dX1_advance_119 : decode cX1_advance 119 = .ok (.iload 7, 2) := dk_21 7 (dk_at dksX1_advance_5 5 rfl rfl)
theorem dX1_advance_121 : decode cX1_advance 121 = .ok (.iaload, 1) := dk_46 (dk_at dksX1_advance_5 7 rfl rfl)
theorem dX1_advance_122 : decode cX1_advance 122 = .ok (.aload_n 2, 1) := dk_44 (dk_at dksX1_advance_5 8 rfl rfl)
theorem dX1_advance_123 : decode cX1_advance 123 = .ok (.getfield 72, 3) := dk_180 0 72 (dk_at dksX1_advance_5 9 rfl rfl)
theorem dX1_advance_126 : decode cX1_advance 126 = .ok (.if_icmp .gt 27, 3) := dk_163 0 27 (dk_at dksX1_advance_5 12 rfl rfl)
theorem dX1_advance_129 : decode cX1_advance 129 = .ok (.aload 6, 2) := dk_25 6 (dk_at dksX1_advance_5 15 rfl rfl)
theorem dX1_advance_131 : decode cX1_advance 131 = .ok (.getfield 33, 3) := dk_180 0 33 (dk_at dksX1_advance_5 17 rfl rfl)
theorem dX1_advance_134 : decode cX1_advance 134 = .ok (.iload 7, 2) := dk_21 7 (dk_at dksX1_advance_5 20 rfl rfl)
theorem dX1_advance_136 : decode cX1_advance 136 = .ok (.aaload, 1) := dk_50 (dk_at dksX1_advance_5 22 rfl rfl)
theorem dX1_advance_137 : decode cX1_advance 137 = .ok (.aload_n 2, 1) := dk_44 (dk_at dksX1_advance_5 23 rfl rfl)
theorem dX1_advance_138 : decode cX1_advance 138 = .ok (.invokevirtual 75, 3) := dk_182 0 75 (dk_at dksX1_advance_6 0 rfl rfl)
theorem dX1_advance_141 : decode cX1_advance 141 = .ok (.ifCond .ne 12, 3) := dk_154 0 12 (dk_at dksX1_advance_6 3 rfl rfl)
theorem dX1_advance_144 : decode cX1_advance 144 = .ok (.aload_n 0, 1) := dk_42 (dk_at dksX1_advance_6 6 rfl rfl)
theorem dX1_advance_145 : decode cX1_advance 145 = .ok (.aload_n 2, 1) := dk_44 (dk_at dksX1_advance_6 7 rfl rfl)
theorem dX1_advance_146 : decode cX1_advance 146 = .ok (.aload 6, 2) := dk_25 6 (dk_at dksX1_advance_6 8 rfl rfl)
theorem dX1_advance_148 : decode cX1_advance 148 = .ok (.iload 7, 2) := dk_21 7 (dk_at dksX1_advance_6 10 rfl rfl)
theorem dX1_advance_150 : decode cX1_advance 150 = .ok (.invokevirtual 539, 3) := dk_182 2 27 (dk_at dksX1_advance_6 12 rfl rfl)
theorem dX1_advance_153 : decode cX1_advance 153 = .ok (.iinc 7 1, 3) := dk_132 7 1 (dk_at dksX1_advance_6 15 rfl rfl)
theorem dX1_advance_156 : decode cX1_advance 156 = .ok (.goto (-52), 3) := dk_167 255 204 (dk_at dksX1_advance_6 18 rfl rfl)
theorem dX1_advance_159 : decode cX1_advance 159 = .ok (.iinc 5 1, 3) := dk_132 5 1 (dk_at dksX1_advance_6 21 rfl rfl)
theorem dX1_advance_162 : decode cX1_advance 162 = .ok (.goto (-105), 3) := dk_167 255 151 (dk_at dksX1_advance_7 0 rfl rfl)
theorem dX1_advance_165 : decode cX1_advance 165 = .ok (.iload 4, 2) := dk_21 4 (dk_at dksX1_advance_7 3 rfl rfl)
theorem dX1_advance_167 : decode cX1_advance 167 = .ok (.ireturn, 1) := dk_172 (dk_at dksX1_advance_7 5 rfl rfl)
abbrev cX1_lambda_advance_1 : ByteArray := prog_1_method_104_code
def yX1_lambda_advance_1 : MethodName := ⟨RX1, "lambda$advance$1", "(LRideDesk$Route;LRideDesk$State;I)Z"⟩
def dkwX1_lambda_advance_1_1 : List UInt8 := [154, 0, 7, 4, 167, 0, 4, 3, 172]
abbrev dktX1_lambda_advance_1_1 : List UInt8 := dkwX1_lambda_advance_1_1 ++ []
def dkwX1_lambda_advance_1_0 : List UInt8 := [42, 180, 0, 51, 28, 46, 43, 180, 0, 72, 163, 0, 20, 42, 180, 0, 33, 28, 50, 43, 182, 0, 75]
abbrev dktX1_lambda_advance_1_0 : List UInt8 := dkwX1_lambda_advance_1_0 ++ dktX1_lambda_advance_1_1
theorem dksX1_lambda_advance_1_0 : cX1_lambda_advance_1.data.toList.drop 0 = dktX1_lambda_advance_1_0 := by decide +kernel
theorem dksX1_lambda_advance_1_1 : cX1_lambda_advance_1.data.toList.drop 23 = dktX1_lambda_advance_1_1 := dk_seg dksX1_lambda_advance_1_0 23 rfl rfl
theorem dX1_lambda_advance_1_0 : decode cX1_lambda_advance_1 0 = .ok (.aload_n 0, 1) := dk_42 (dk_at dksX1_lambda_advance_1_0 0 rfl rfl)
theorem dX1_lambda_advance_1_1 : decode cX1_lambda_advance_1 1 = .ok (.getfield 51, 3) := dk_180 0 51 (dk_at dksX1_lambda_advance_1_0 1 rfl rfl)
theorem dX1_lambda_advance_1_4 : decode cX1_lambda_advance_1 4 = .ok (.iload_n 2, 1) := dk_28 (dk_at dksX1_lambda_advance_1_0 4 rfl rfl)
theorem dX1_lambda_advance_1_5 : decode cX1_lambda_advance_1 5 = .ok (.iaload, 1) := dk_46 (dk_at dksX1_lambda_advance_1_0 5 rfl rfl)
theorem dX1_lambda_advance_1_6 : decode cX1_lambda_advance_1 6 = .ok (.aload_n 1, 1) := dk_43 (dk_at dksX1_lambda_advance_1_0 6 rfl rfl)
theorem dX1_lambda_advance_1_7 : decode cX1_lambda_advance_1 7 = .ok (.getfield 72, 3) := dk_180 0 72 (dk_at dksX1_lambda_advance_1_0 7 rfl rfl)
theorem dX1_lambda_advance_1_10 : decode cX1_lambda_advance_1 10 = .ok (.if_icmp .gt 20, 3) := dk_163 0 20 (dk_at dksX1_lambda_advance_1_0 10 rfl rfl)
theorem dX1_lambda_advance_1_13 : decode cX1_lambda_advance_1 13 = .ok (.aload_n 0, 1) := dk_42 (dk_at dksX1_lambda_advance_1_0 13 rfl rfl)
theorem dX1_lambda_advance_1_14 : decode cX1_lambda_advance_1 14 = .ok (.getfield 33, 3) := dk_180 0 33 (dk_at dksX1_lambda_advance_1_0 14 rfl rfl)
theorem dX1_lambda_advance_1_17 : decode cX1_lambda_advance_1 17 = .ok (.iload_n 2, 1) := dk_28 (dk_at dksX1_lambda_advance_1_0 17 rfl rfl)
theorem dX1_lambda_advance_1_18 : decode cX1_lambda_advance_1 18 = .ok (.aaload, 1) := dk_50 (dk_at dksX1_lambda_advance_1_0 18 rfl rfl)
theorem dX1_lambda_advance_1_19 : decode cX1_lambda_advance_1 19 = .ok (.aload_n 1, 1) := dk_43 (dk_at dksX1_lambda_advance_1_0 19 rfl rfl)
theorem dX1_lambda_advance_1_20 : decode cX1_lambda_advance_1 20 = .ok (.invokevirtual 75, 3) := dk_182 0 75 (dk_at dksX1_lambda_advance_1_0 20 rfl rfl)
theorem dX1_lambda_advance_1_23 : decode cX1_lambda_advance_1 23 = .ok (.ifCond .ne 7, 3) := dk_154 0 7 (dk_at dksX1_lambda_advance_1_1 0 rfl rfl)
theorem dX1_lambda_advance_1_26 : decode cX1_lambda_advance_1 26 = .ok (.iconst 1, 1) := dk_4 (dk_at dksX1_lambda_advance_1_1 3 rfl rfl)
theorem dX1_lambda_advance_1_27 : decode cX1_lambda_advance_1 27 = .ok (.goto 4, 3) := dk_167 0 4 (dk_at dksX1_lambda_advance_1_1 4 rfl rfl)
theorem dX1_lambda_advance_1_30 : decode cX1_lambda_advance_1 30 = .ok (.iconst 0, 1) := dk_3 (dk_at dksX1_lambda_advance_1_1 7 rfl rfl)
theorem dX1_lambda_advance_1_31 : decode cX1_lambda_advance_1 31 = .ok (.ireturn, 1) := dk_172 (dk_at dksX1_lambda_advance_1_1 8 rfl rfl)
abbrev cX1_executes : ByteArray := prog_1_method_98_code
def yX1_executes : MethodName := ⟨RX1, "executes", "(LRideDesk$State;LRideDesk$Route;I)V"⟩
def dkwX1_executes_4 : List UInt8 := [79, 177]
abbrev dktX1_executes_4 : List UInt8 := dkwX1_executes_4 ++ []
def dkwX1_executes_3 : List UInt8 := [21, 4, 21, 5, 158, 0, 19, 42, 180, 0, 15, 180, 0, 141, 180, 1, 21, 21, 5, 104, 167, 0, 4, 3]
abbrev dktX1_executes_3 : List UInt8 := dkwX1_executes_3 ++ dktX1_executes_4
def dkwX1_executes_2 : List UInt8 := [180, 0, 238, 21, 4, 46, 100, 42, 180, 0, 15, 180, 0, 141, 180, 1, 200, 100, 54, 5, 43, 180, 0, 241]
abbrev dktX1_executes_2 : List UInt8 := dkwX1_executes_2 ++ dktX1_executes_3
def dkwX1_executes_1 : List UInt8 := [180, 0, 232, 21, 4, 6, 79, 177, 43, 180, 0, 232, 21, 4, 5, 79, 44, 180, 0, 51, 29, 46, 43]
abbrev dktX1_executes_1 : List UInt8 := dkwX1_executes_1 ++ dktX1_executes_2
def dkwX1_executes_0 : List UInt8 := [44, 180, 0, 33, 29, 50, 180, 0, 61, 54, 4, 44, 180, 0, 33, 29, 50, 193, 0, 175, 153, 0, 12, 43]
abbrev dktX1_executes_0 : List UInt8 := dkwX1_executes_0 ++ dktX1_executes_1
theorem dksX1_executes_0 : cX1_executes.data.toList.drop 0 = dktX1_executes_0 := by decide +kernel
theorem dksX1_executes_1 : cX1_executes.data.toList.drop 24 = dktX1_executes_1 := dk_seg dksX1_executes_0 24 rfl rfl
theorem dksX1_executes_2 : cX1_executes.data.toList.drop 47 = dktX1_executes_2 := dk_seg dksX1_executes_1 23 rfl rfl
theorem dksX1_executes_3 : cX1_executes.data.toList.drop 71 = dktX1_executes_3 := dk_seg dksX1_executes_2 24 rfl rfl
theorem dksX1_executes_4 : cX1_executes.data.toList.drop 95 = dktX1_executes_4 := dk_seg dksX1_executes_3 24 rfl rfl
theorem dX1_executes_0 : decode cX1_executes 0 = .ok (.aload_n 2, 1) := dk_44 (dk_at dksX1_executes_0 0 rfl rfl)
theorem dX1_executes_1 : decode cX1_executes 1 = .ok (.getfield 33, 3) := dk_180 0 33 (dk_at dksX1_executes_0 1 rfl rfl)
theorem dX1_executes_4 : decode cX1_executes 4 = .ok (.iload_n 3, 1) := dk_29 (dk_at dksX1_executes_0 4 rfl rfl)
theorem dX1_executes_5 : decode cX1_executes 5 = .ok (.aaload, 1) := dk_50 (dk_at dksX1_executes_0 5 rfl rfl)
theorem dX1_executes_6 : decode cX1_executes 6 = .ok (.getfield 61, 3) := dk_180 0 61 (dk_at dksX1_executes_0 6 rfl rfl)
theorem dX1_executes_9 : decode cX1_executes 9 = .ok (.istore 4, 2) := dk_54 4 (dk_at dksX1_executes_0 9 rfl rfl)
theorem dX1_executes_11 : decode cX1_executes 11 = .ok (.aload_n 2, 1) := dk_44 (dk_at dksX1_executes_0 11 rfl rfl)
theorem dX1_executes_12 : decode cX1_executes 12 = .ok (.getfield 33, 3) := dk_180 0 33 (dk_at dksX1_executes_0 12 rfl rfl)
theorem dX1_executes_15 : decode cX1_executes 15 = .ok (.iload_n 3, 1) := dk_29 (dk_at dksX1_executes_0 15 rfl rfl)
theorem dX1_executes_16 : decode cX1_executes 16 = .ok (.aaload, 1) := dk_50 (dk_at dksX1_executes_0 16 rfl rfl)
theorem dX1_executes_17 : decode cX1_executes 17 = .ok (.instanceof 175, 3) := dk_193 0 175 (dk_at dksX1_executes_0 17 rfl rfl)
theorem dX1_executes_20 : decode cX1_executes 20 = .ok (.ifCond .eq 12, 3) := dk_153 0 12 (dk_at dksX1_executes_0 20 rfl rfl)
theorem dX1_executes_23 : decode cX1_executes 23 = .ok (.aload_n 1, 1) := dk_43 (dk_at dksX1_executes_0 23 rfl rfl)
theorem dX1_executes_24 : decode cX1_executes 24 = .ok (.getfield 232, 3) := dk_180 0 232 (dk_at dksX1_executes_1 0 rfl rfl)
theorem dX1_executes_27 : decode cX1_executes 27 = .ok (.iload 4, 2) := dk_21 4 (dk_at dksX1_executes_1 3 rfl rfl)
theorem dX1_executes_29 : decode cX1_executes 29 = .ok (.iconst 3, 1) := dk_6 (dk_at dksX1_executes_1 5 rfl rfl)
theorem dX1_executes_30 : decode cX1_executes 30 = .ok (.iastore, 1) := dk_79 (dk_at dksX1_executes_1 6 rfl rfl)
theorem dX1_executes_31 : decode cX1_executes 31 = .ok (.return_, 1) := dk_177 (dk_at dksX1_executes_1 7 rfl rfl)
theorem dX1_executes_32 : decode cX1_executes 32 = .ok (.aload_n 1, 1) := dk_43 (dk_at dksX1_executes_1 8 rfl rfl)
theorem dX1_executes_33 : decode cX1_executes 33 = .ok (.getfield 232, 3) := dk_180 0 232 (dk_at dksX1_executes_1 9 rfl rfl)
theorem dX1_executes_36 : decode cX1_executes 36 = .ok (.iload 4, 2) := dk_21 4 (dk_at dksX1_executes_1 12 rfl rfl)
theorem dX1_executes_38 : decode cX1_executes 38 = .ok (.iconst 2, 1) := dk_5 (dk_at dksX1_executes_1 14 rfl rfl)
theorem dX1_executes_39 : decode cX1_executes 39 = .ok (.iastore, 1) := dk_79 (dk_at dksX1_executes_1 15 rfl rfl)
theorem dX1_executes_40 : decode cX1_executes 40 = .ok (.aload_n 2, 1) := dk_44 (dk_at dksX1_executes_1 16 rfl rfl)
theorem dX1_executes_41 : decode cX1_executes 41 = .ok (.getfield 51, 3) := dk_180 0 51 (dk_at dksX1_executes_1 17 rfl rfl)
theorem dX1_executes_44 : decode cX1_executes 44 = .ok (.iload_n 3, 1) := dk_29 (dk_at dksX1_executes_1 20 rfl rfl)
theorem dX1_executes_45 : decode cX1_executes 45 = .ok (.iaload, 1) := dk_46 (dk_at dksX1_executes_1 21 rfl rfl)
theorem dX1_executes_46 : decode cX1_executes 46 = .ok (.aload_n 1, 1) := dk_43 (dk_at dksX1_executes_1 22 rfl rfl)
theorem dX1_executes_47 : decode cX1_executes 47 = .ok (.getfield 238, 3) := dk_180 0 238 (dk_at dksX1_executes_2 0 rfl rfl)
theorem dX1_executes_50 : decode cX1_executes 50 = .ok (.iload 4, 2) := dk_21 4 (dk_at dksX1_executes_2 3 rfl rfl)
theorem dX1_executes_52 : decode cX1_executes 52 = .ok (.iaload, 1) := dk_46 (dk_at dksX1_executes_2 5 rfl rfl)
theorem dX1_executes_53 : decode cX1_executes 53 = .ok (.isub, 1) := dk_100 (dk_at dksX1_executes_2 6 rfl rfl)
theorem dX1_executes_54 : decode cX1_executes 54 = .ok (.aload_n 0, 1) := dk_42 (dk_at dksX1_executes_2 7 rfl rfl)
theorem dX1_executes_55 : decode cX1_executes 55 = .ok (.getfield 15, 3) := dk_180 0 15 (dk_at dksX1_executes_2 8 rfl rfl)
theorem dX1_executes_58 : decode cX1_executes 58 = .ok (.getfield 141, 3) := dk_180 0 141 (dk_at dksX1_executes_2 11 rfl rfl)
theorem dX1_executes_61 : decode cX1_executes 61 = .ok (.getfield 456, 3) := dk_180 1 200 (dk_at dksX1_executes_2 14 rfl rfl)
theorem dX1_executes_64 : decode cX1_executes 64 = .ok (.isub, 1) := dk_100 (dk_at dksX1_executes_2 17 rfl rfl)
theorem dX1_executes_65 : decode cX1_executes 65 = .ok (.istore 5, 2) := dk_54 5 (dk_at dksX1_executes_2 18 rfl rfl)
theorem dX1_executes_67 : decode cX1_executes 67 = .ok (.aload_n 1, 1) := dk_43 (dk_at dksX1_executes_2 20 rfl rfl)
theorem dX1_executes_68 : decode cX1_executes 68 = .ok (.getfield 241, 3) := dk_180 0 241 (dk_at dksX1_executes_2 21 rfl rfl)
theorem dX1_executes_71 : decode cX1_executes 71 = .ok (.iload 4, 2) := dk_21 4 (dk_at dksX1_executes_3 0 rfl rfl)
theorem dX1_executes_73 : decode cX1_executes 73 = .ok (.iload 5, 2) := dk_21 5 (dk_at dksX1_executes_3 2 rfl rfl)
theorem dX1_executes_75 : decode cX1_executes 75 = .ok (.ifCond .le 19, 3) := dk_158 0 19 (dk_at dksX1_executes_3 4 rfl rfl)
theorem dX1_executes_78 : decode cX1_executes 78 = .ok (.aload_n 0, 1) := dk_42 (dk_at dksX1_executes_3 7 rfl rfl)
theorem dX1_executes_79 : decode cX1_executes 79 = .ok (.getfield 15, 3) := dk_180 0 15 (dk_at dksX1_executes_3 8 rfl rfl)
theorem dX1_executes_82 : decode cX1_executes 82 = .ok (.getfield 141, 3) := dk_180 0 141 (dk_at dksX1_executes_3 11 rfl rfl)
theorem dX1_executes_85 : decode cX1_executes 85 = .ok (.getfield 277, 3) := dk_180 1 21 (dk_at dksX1_executes_3 14 rfl rfl)
theorem dX1_executes_88 : decode cX1_executes 88 = .ok (.iload 5, 2) := dk_21 5 (dk_at dksX1_executes_3 17 rfl rfl)
theorem dX1_executes_90 : decode cX1_executes 90 = .ok (.imul, 1) := dk_104 (dk_at dksX1_executes_3 19 rfl rfl)
theorem dX1_executes_91 : decode cX1_executes 91 = .ok (.goto 4, 3) := dk_167 0 4 (dk_at dksX1_executes_3 20 rfl rfl)
theorem dX1_executes_94 : decode cX1_executes 94 = .ok (.iconst 0, 1) := dk_3 (dk_at dksX1_executes_3 23 rfl rfl)
theorem dX1_executes_95 : decode cX1_executes 95 = .ok (.iastore, 1) := dk_79 (dk_at dksX1_executes_4 0 rfl rfl)
theorem dX1_executes_96 : decode cX1_executes 96 = .ok (.return_, 1) := dk_177 (dk_at dksX1_executes_4 1 rfl rfl)
abbrev cX1_undo : ByteArray := prog_1_method_100_code
def yX1_undo : MethodName := ⟨RX1, "undo", "()I"⟩
def dkwX1_undo_1 : List UInt8 := [180, 1, 44, 185, 2, 34, 1, 0, 192, 0, 56, 181, 1, 112, 42, 180, 1, 44, 185, 2, 6, 1, 0, 172]
abbrev dktX1_undo_1 : List UInt8 := dkwX1_undo_1 ++ []
def dkwX1_undo_0 : List UInt8 := [42, 180, 1, 44, 185, 2, 31, 1, 0, 153, 0, 11, 187, 1, 116, 89, 183, 1, 118, 191, 42, 42]
abbrev dktX1_undo_0 : List UInt8 := dkwX1_undo_0 ++ dktX1_undo_1
theorem dksX1_undo_0 : cX1_undo.data.toList.drop 0 = dktX1_undo_0 := by decide +kernel
theorem dksX1_undo_1 : cX1_undo.data.toList.drop 22 = dktX1_undo_1 := dk_seg dksX1_undo_0 22 rfl rfl
theorem dX1_undo_0 : decode cX1_undo 0 = .ok (.aload_n 0, 1) := dk_42 (dk_at dksX1_undo_0 0 rfl rfl)
theorem dX1_undo_1 : decode cX1_undo 1 = .ok (.getfield 300, 3) := dk_180 1 44 (dk_at dksX1_undo_0 1 rfl rfl)
theorem dX1_undo_4 : decode cX1_undo 4 = .ok (.invokeinterface 543 1, 5) := by decide +kernel
theorem dX1_undo_9 : decode cX1_undo 9 = .ok (.ifCond .eq 11, 3) := dk_153 0 11 (dk_at dksX1_undo_0 9 rfl rfl)
theorem dX1_undo_12 : decode cX1_undo 12 = .ok (.new 372, 3) := dk_187 1 116 (dk_at dksX1_undo_0 12 rfl rfl)
theorem dX1_undo_15 : decode cX1_undo 15 = .ok (.dup, 1) := dk_89 (dk_at dksX1_undo_0 15 rfl rfl)
theorem dX1_undo_16 : decode cX1_undo 16 = .ok (.invokespecial 374, 3) := dk_183 1 118 (dk_at dksX1_undo_0 16 rfl rfl)
theorem dX1_undo_19 : decode cX1_undo 19 = .ok (.athrow, 1) := dk_191 (dk_at dksX1_undo_0 19 rfl rfl)
theorem dX1_undo_20 : decode cX1_undo 20 = .ok (.aload_n 0, 1) := dk_42 (dk_at dksX1_undo_0 20 rfl rfl)
theorem dX1_undo_21 : decode cX1_undo 21 = .ok (.aload_n 0, 1) := dk_42 (dk_at dksX1_undo_0 21 rfl rfl)
theorem dX1_undo_22 : decode cX1_undo 22 = .ok (.getfield 300, 3) := dk_180 1 44 (dk_at dksX1_undo_1 0 rfl rfl)
theorem dX1_undo_25 : decode cX1_undo 25 = .ok (.invokeinterface 546 1, 5) := by decide +kernel
theorem dX1_undo_30 : decode cX1_undo 30 = .ok (.checkcast 56, 3) := dk_192 0 56 (dk_at dksX1_undo_1 8 rfl rfl)
theorem dX1_undo_33 : decode cX1_undo 33 = .ok (.putfield 368, 3) := dk_181 1 112 (dk_at dksX1_undo_1 11 rfl rfl)
theorem dX1_undo_36 : decode cX1_undo 36 = .ok (.aload_n 0, 1) := dk_42 (dk_at dksX1_undo_1 14 rfl rfl)
theorem dX1_undo_37 : decode cX1_undo 37 = .ok (.getfield 300, 3) := dk_180 1 44 (dk_at dksX1_undo_1 15 rfl rfl)
theorem dX1_undo_40 : decode cX1_undo 40 = .ok (.invokeinterface 518 1, 5) := by decide +kernel
theorem dX1_undo_45 : decode cX1_undo 45 = .ok (.ireturn, 1) := dk_172 (dk_at dksX1_undo_1 23 rfl rfl)
abbrev cX1_save : ByteArray := prog_1_method_102_code
def yX1_save : MethodName := ⟨RX1, "save", "(I)I"⟩
def dkwX1_save_1 : List UInt8 := [44, 180, 0, 72, 172]
abbrev dktX1_save_1 : List UInt8 := dkwX1_save_1 ++ []
def dkwX1_save_0 : List UInt8 := [42, 182, 1, 119, 77, 27, 3, 4, 184, 1, 66, 184, 1, 70, 42, 180, 1, 48, 27, 44, 182, 1, 253, 83]
abbrev dktX1_save_0 : List UInt8 := dkwX1_save_0 ++ dktX1_save_1
theorem dksX1_save_0 : cX1_save.data.toList.drop 0 = dktX1_save_0 := by decide +kernel
theorem dksX1_save_1 : cX1_save.data.toList.drop 24 = dktX1_save_1 := dk_seg dksX1_save_0 24 rfl rfl
theorem dX1_save_0 : decode cX1_save 0 = .ok (.aload_n 0, 1) := dk_42 (dk_at dksX1_save_0 0 rfl rfl)
theorem dX1_save_1 : decode cX1_save 1 = .ok (.invokevirtual 375, 3) := dk_182 1 119 (dk_at dksX1_save_0 1 rfl rfl)
theorem dX1_save_4 : decode cX1_save 4 = .ok (.astore_n 2, 1) := dk_77 (dk_at dksX1_save_0 4 rfl rfl)
theorem dX1_save_5 : decode cX1_save 5 = .ok (.iload_n 1, 1) := dk_27 (dk_at dksX1_save_0 5 rfl rfl)
theorem dX1_save_6 : decode cX1_save 6 = .ok (.iconst 0, 1) := dk_3 (dk_at dksX1_save_0 6 rfl rfl)
theorem dX1_save_7 : decode cX1_save 7 = .ok (.iconst 1, 1) := dk_4 (dk_at dksX1_save_0 7 rfl rfl)
theorem dX1_save_8 : decode cX1_save 8 = .ok (.invokestatic 322, 3) := dk_184 1 66 (dk_at dksX1_save_0 8 rfl rfl)
theorem dX1_save_11 : decode cX1_save 11 = .ok (.invokestatic 326, 3) := dk_184 1 70 (dk_at dksX1_save_0 11 rfl rfl)
theorem dX1_save_14 : decode cX1_save 14 = .ok (.aload_n 0, 1) := dk_42 (dk_at dksX1_save_0 14 rfl rfl)
theorem dX1_save_15 : decode cX1_save 15 = .ok (.getfield 304, 3) := dk_180 1 48 (dk_at dksX1_save_0 15 rfl rfl)
theorem dX1_save_18 : decode cX1_save 18 = .ok (.iload_n 1, 1) := dk_27 (dk_at dksX1_save_0 18 rfl rfl)
theorem dX1_save_19 : decode cX1_save 19 = .ok (.aload_n 2, 1) := dk_44 (dk_at dksX1_save_0 19 rfl rfl)
theorem dX1_save_20 : decode cX1_save 20 = .ok (.invokevirtual 509, 3) := dk_182 1 253 (dk_at dksX1_save_0 20 rfl rfl)
theorem dX1_save_23 : decode cX1_save 23 = .ok (.aastore, 1) := dk_83 (dk_at dksX1_save_0 23 rfl rfl)
theorem dX1_save_24 : decode cX1_save 24 = .ok (.aload_n 2, 1) := dk_44 (dk_at dksX1_save_1 0 rfl rfl)
theorem dX1_save_25 : decode cX1_save 25 = .ok (.getfield 72, 3) := dk_180 0 72 (dk_at dksX1_save_1 1 rfl rfl)
theorem dX1_save_28 : decode cX1_save 28 = .ok (.ireturn, 1) := dk_172 (dk_at dksX1_save_1 4 rfl rfl)
abbrev cX1_restore : ByteArray := prog_1_method_103_code
def yX1_restore : MethodName := ⟨RX1, "restore", "(I)I"⟩
def dkwX1_restore_2 : List UInt8 := [185, 1, 82, 1, 0, 42, 180, 1, 112, 180, 0, 72, 172]
abbrev dktX1_restore_2 : List UInt8 := dkwX1_restore_2 ++ []
def dkwX1_restore_1 : List UInt8 := [183, 1, 118, 191, 42, 42, 180, 1, 48, 27, 50, 182, 1, 253, 181, 1, 112, 42, 180, 1, 44]
abbrev dktX1_restore_1 : List UInt8 := dkwX1_restore_1 ++ dktX1_restore_2
def dkwX1_restore_0 : List UInt8 := [27, 3, 4, 184, 1, 66, 184, 1, 70, 42, 180, 1, 48, 27, 50, 199, 0, 11, 187, 1, 116, 89]
abbrev dktX1_restore_0 : List UInt8 := dkwX1_restore_0 ++ dktX1_restore_1
theorem dksX1_restore_0 : cX1_restore.data.toList.drop 0 = dktX1_restore_0 := by decide +kernel
theorem dksX1_restore_1 : cX1_restore.data.toList.drop 22 = dktX1_restore_1 := dk_seg dksX1_restore_0 22 rfl rfl
theorem dksX1_restore_2 : cX1_restore.data.toList.drop 43 = dktX1_restore_2 := dk_seg dksX1_restore_1 21 rfl rfl
theorem dX1_restore_0 : decode cX1_restore 0 = .ok (.iload_n 1, 1) := dk_27 (dk_at dksX1_restore_0 0 rfl rfl)
theorem dX1_restore_1 : decode cX1_restore 1 = .ok (.iconst 0, 1) := dk_3 (dk_at dksX1_restore_0 1 rfl rfl)
theorem dX1_restore_2 : decode cX1_restore 2 = .ok (.iconst 1, 1) := dk_4 (dk_at dksX1_restore_0 2 rfl rfl)
theorem dX1_restore_3 : decode cX1_restore 3 = .ok (.invokestatic 322, 3) := dk_184 1 66 (dk_at dksX1_restore_0 3 rfl rfl)
theorem dX1_restore_6 : decode cX1_restore 6 = .ok (.invokestatic 326, 3) := dk_184 1 70 (dk_at dksX1_restore_0 6 rfl rfl)
theorem dX1_restore_9 : decode cX1_restore 9 = .ok (.aload_n 0, 1) := dk_42 (dk_at dksX1_restore_0 9 rfl rfl)
theorem dX1_restore_10 : decode cX1_restore 10 = .ok (.getfield 304, 3) := dk_180 1 48 (dk_at dksX1_restore_0 10 rfl rfl)
theorem dX1_restore_13 : decode cX1_restore 13 = .ok (.iload_n 1, 1) := dk_27 (dk_at dksX1_restore_0 13 rfl rfl)
theorem dX1_restore_14 : decode cX1_restore 14 = .ok (.aaload, 1) := dk_50 (dk_at dksX1_restore_0 14 rfl rfl)
theorem dX1_restore_15 : decode cX1_restore 15 = .ok (.ifnonnull 11, 3) := dk_199 0 11 (dk_at dksX1_restore_0 15 rfl rfl)
theorem dX1_restore_18 : decode cX1_restore 18 = .ok (.new 372, 3) := dk_187 1 116 (dk_at dksX1_restore_0 18 rfl rfl)
theorem dX1_restore_21 : decode cX1_restore 21 = .ok (.dup, 1) := dk_89 (dk_at dksX1_restore_0 21 rfl rfl)
theorem dX1_restore_22 : decode cX1_restore 22 = .ok (.invokespecial 374, 3) := dk_183 1 118 (dk_at dksX1_restore_1 0 rfl rfl)
theorem dX1_restore_25 : decode cX1_restore 25 = .ok (.athrow, 1) := dk_191 (dk_at dksX1_restore_1 3 rfl rfl)
theorem dX1_restore_26 : decode cX1_restore 26 = .ok (.aload_n 0, 1) := dk_42 (dk_at dksX1_restore_1 4 rfl rfl)
theorem dX1_restore_27 : decode cX1_restore 27 = .ok (.aload_n 0, 1) := dk_42 (dk_at dksX1_restore_1 5 rfl rfl)
theorem dX1_restore_28 : decode cX1_restore 28 = .ok (.getfield 304, 3) := dk_180 1 48 (dk_at dksX1_restore_1 6 rfl rfl)
theorem dX1_restore_31 : decode cX1_restore 31 = .ok (.iload_n 1, 1) := dk_27 (dk_at dksX1_restore_1 9 rfl rfl)
theorem dX1_restore_32 : decode cX1_restore 32 = .ok (.aaload, 1) := dk_50 (dk_at dksX1_restore_1 10 rfl rfl)
theorem dX1_restore_33 : decode cX1_restore 33 = .ok (.invokevirtual 509, 3) := dk_182 1 253 (dk_at dksX1_restore_1 11 rfl rfl)
theorem dX1_restore_36 : decode cX1_restore 36 = .ok (.putfield 368, 3) := dk_181 1 112 (dk_at dksX1_restore_1 14 rfl rfl)
theorem dX1_restore_39 : decode cX1_restore 39 = .ok (.aload_n 0, 1) := dk_42 (dk_at dksX1_restore_1 17 rfl rfl)
theorem dX1_restore_40 : decode cX1_restore 40 = .ok (.getfield 300, 3) := dk_180 1 44 (dk_at dksX1_restore_1 18 rfl rfl)
theorem dX1_restore_43 : decode cX1_restore 43 = .ok (.invokeinterface 338 1, 5) := by decide +kernel
theorem dX1_restore_48 : decode cX1_restore 48 = .ok (.aload_n 0, 1) := dk_42 (dk_at dksX1_restore_2 5 rfl rfl)
theorem dX1_restore_49 : decode cX1_restore 49 = .ok (.getfield 368, 3) := dk_180 1 112 (dk_at dksX1_restore_2 6 rfl rfl)
theorem dX1_restore_52 : decode cX1_restore 52 = .ok (.getfield 72, 3) := dk_180 0 72 (dk_at dksX1_restore_2 9 rfl rfl)
theorem dX1_restore_55 : decode cX1_restore 55 = .ok (.ireturn, 1) := dk_172 (dk_at dksX1_restore_2 12 rfl rfl)
theorem q147 : (Jvm.Cond.initialized "RideDesk") ∈ lw_all := lw_g (lw_at lw_m1 1 rfl) rfl
theorem q193 : (Jvm.Cond.instantiable "RideDesk" (17 : Nat)) ∈ lw_all := lw_g (lw_at lw_m1 47 rfl) rfl
theorem q195 : (Jvm.Cond.instanceMethod ({ cls := "RideDesk", name := "<init>", desc := "()V" } : Jvm.MethodName)) ∈ lw_all := lw_g (lw_at lw_m1 49 rfl) rfl
theorem q196 : (Jvm.Cond.code ({ cls := "RideDesk", name := "<init>", desc := "()V" } : Jvm.MethodName) prog_1_method_28_code (1 : Nat) (Option.none : Option Jvm.ClassFile.FieldType)) ∈ lw_all := lw_g (lw_at lw_m1 50 rfl) rfl
theorem q197 : (Jvm.Cond.methodLink "RideDesk" (290 : Nat) ({ cls := "java/lang/Object", name := "<init>", desc := "()V" } : Jvm.MethodName)) ∈ lw_all := lw_g (lw_at lw_m1 51 rfl) rfl
theorem q200 : (Jvm.Cond.classLink "RideDesk" (295 : Nat) "java/util/ArrayDeque") ∈ lw_all := lw_g (lw_at lw_m1 54 rfl) rfl
theorem q202 : (Jvm.Cond.methodLink "RideDesk" (297 : Nat) ({ cls := "java/util/ArrayDeque", name := "<init>", desc := "(I)V" } : Jvm.MethodName)) ∈ lw_all := lw_g (lw_at lw_m1 56 rfl) rfl
theorem q222 : (Jvm.Cond.classLink "RideDesk" (56 : Nat) "RideDesk$State") ∈ lw_all := lw_g (lw_at lw_m1 76 rfl) rfl
theorem q224 : (Jvm.Cond.classLink "RideDesk" (4 : Nat) "RideDesk$Route") ∈ lw_all := lw_g (lw_at lw_m1 78 rfl) rfl
theorem q226 : (Jvm.Cond.methodLinkNest "RideDesk" (308 : Nat) ({ cls := "RideDesk$Route", name := "<init>", desc := "()V" } : Jvm.MethodName) "RideDesk") ∈ lw_tbl := lw_at lw_m1 80 rfl
theorem q233 : (Jvm.Cond.fieldLinkNest "RideDesk" (33 : Nat) "RideDesk$Route" "stops" "[LRideDesk$Stop;" "RideDesk") ∈ lw_tbl := lw_at lw_m1 87 rfl
theorem q236 : (Jvm.Cond.fieldLinkNest "RideDesk" (69 : Nat) "RideDesk$Route" "departure" "[I" "RideDesk") ∈ lw_tbl := lw_at lw_m1 90 rfl
theorem q238 : (Jvm.Cond.fieldLinkNest "RideDesk" (51 : Nat) "RideDesk$Route" "begin" "[I" "RideDesk") ∈ lw_tbl := lw_at lw_m1 92 rfl
theorem q239 : (Jvm.Cond.fieldLinkNest "RideDesk" (3 : Nat) "RideDesk$Route" "size" "I" "RideDesk") ∈ lw_tbl := lw_at lw_m1 93 rfl
theorem q252 : (Jvm.Cond.fieldLink "RideDesk" (15 : Nat) "RideDesk" "plan" "LRideDesk$Plan;") ∈ lw_all := lw_g (lw_at lw_m1 106 rfl) rfl
theorem q255 : (Jvm.Cond.fieldLink "RideDesk" (368 : Nat) "RideDesk" "now" "LRideDesk$State;") ∈ lw_all := lw_g (lw_at lw_m1 109 rfl) rfl
theorem q256 : (Jvm.Cond.fieldLink "RideDesk" (300 : Nat) "RideDesk" "undos" "Ljava/util/Deque;") ∈ lw_all := lw_g (lw_at lw_m1 110 rfl) rfl
theorem q257 : (Jvm.Cond.fieldLink "RideDesk" (304 : Nat) "RideDesk" "slots" "[LRideDesk$State;") ∈ lw_all := lw_g (lw_at lw_m1 111 rfl) rfl
theorem q258 : (Jvm.Cond.fieldLink "RideDesk" (125 : Nat) "RideDesk" "picked" "[I") ∈ lw_all := lw_g (lw_at lw_m1 112 rfl) rfl
theorem q259 : (Jvm.Cond.fieldLink "RideDesk" (210 : Nat) "RideDesk" "tried" "LRideDesk$Route;") ∈ lw_all := lw_g (lw_at lw_m1 113 rfl) rfl
theorem q260 : (Jvm.Cond.fieldLink "RideDesk" (225 : Nat) "RideDesk" "best" "LRideDesk$Route;") ∈ lw_all := lw_g (lw_at lw_m1 114 rfl) rfl
theorem q261 : (Jvm.Cond.fieldLink "RideDesk" (181 : Nat) "RideDesk" "bestVan" "I") ∈ lw_all := lw_g (lw_at lw_m1 115 rfl) rfl
theorem q262 : (Jvm.Cond.fieldLink "RideDesk" (203 : Nat) "RideDesk" "bestMore" "I") ∈ lw_all := lw_g (lw_at lw_m1 116 rfl) rfl
theorem q263 : (Jvm.Cond.fieldLink "RideDesk" (197 : Nat) "RideDesk" "byPickup" "[I") ∈ lw_all := lw_g (lw_at lw_m1 117 rfl) rfl
theorem q264 : (Jvm.Cond.fieldLink "RideDesk" (200 : Nat) "RideDesk" "byDrop" "[I") ∈ lw_all := lw_g (lw_at lw_m1 118 rfl) rfl
theorem q265 : (Jvm.Cond.fieldLink "RideDesk" (194 : Nat) "RideDesk" "both" "[I") ∈ lw_all := lw_g (lw_at lw_m1 119 rfl) rfl
theorem q267 : (Jvm.Cond.fieldLink "RideDesk" (309 : Nat) "RideDesk" "buffer" "[B") ∈ lw_all := lw_g (lw_at lw_m1 121 rfl) rfl
theorem q268 : (Jvm.Cond.fieldLink "RideDesk" (319 : Nat) "RideDesk" "buffered" "I") ∈ lw_all := lw_g (lw_at lw_m1 122 rfl) rfl
theorem q269 : (Jvm.Cond.fieldLink "RideDesk" (352 : Nat) "RideDesk" "parseError" "I") ∈ lw_all := lw_g (lw_at lw_m1 123 rfl) rfl
theorem q270 : (Jvm.Cond.fieldLink "RideDesk" (313 : Nat) "RideDesk" "errorPosition" "I") ∈ lw_all := lw_g (lw_at lw_m1 124 rfl) rfl
theorem q271 : (Jvm.Cond.fieldLink "RideDesk" (316 : Nat) "RideDesk" "page" "[B") ∈ lw_all := lw_g (lw_at lw_m1 125 rfl) rfl
theorem q272 : (Jvm.Cond.lays "RideDesk" "RideDesk" "plan" "LRideDesk$Plan;") ∈ lw_all := lw_g (lw_at lw_m1 126 rfl) rfl
theorem q273 : (Jvm.Cond.soleField "RideDesk" "plan") ∈ lw_all := lw_g (lw_at lw_m1 127 rfl) rfl
theorem q274 : (Jvm.Cond.lays "RideDesk" "RideDesk" "now" "LRideDesk$State;") ∈ lw_all := lw_g (lw_at lw_m1 128 rfl) rfl
theorem q275 : (Jvm.Cond.soleField "RideDesk" "now") ∈ lw_all := lw_g (lw_at lw_m1 129 rfl) rfl
theorem q276 : (Jvm.Cond.laysFinal "RideDesk" "RideDesk" "undos" "Ljava/util/Deque;") ∈ lw_all := lw_g (lw_at lw_m1 130 rfl) rfl
theorem q277 : (Jvm.Cond.soleField "RideDesk" "undos") ∈ lw_all := lw_g (lw_at lw_m1 131 rfl) rfl
theorem q278 : (Jvm.Cond.laysFinal "RideDesk" "RideDesk" "slots" "[LRideDesk$State;") ∈ lw_all := lw_g (lw_at lw_m1 132 rfl) rfl
theorem q279 : (Jvm.Cond.soleField "RideDesk" "slots") ∈ lw_all := lw_g (lw_at lw_m1 133 rfl) rfl
theorem q280 : (Jvm.Cond.laysFinal "RideDesk" "RideDesk" "picked" "[I") ∈ lw_all := lw_g (lw_at lw_m1 134 rfl) rfl
theorem q281 : (Jvm.Cond.soleField "RideDesk" "picked") ∈ lw_all := lw_g (lw_at lw_m1 135 rfl) rfl
theorem q282 : (Jvm.Cond.laysFinal "RideDesk" "RideDesk" "tried" "LRideDesk$Route;") ∈ lw_all := lw_g (lw_at lw_m1 136 rfl) rfl
theorem q283 : (Jvm.Cond.soleField "RideDesk" "tried") ∈ lw_all := lw_g (lw_at lw_m1 137 rfl) rfl
theorem q284 : (Jvm.Cond.laysFinal "RideDesk" "RideDesk" "best" "LRideDesk$Route;") ∈ lw_all := lw_g (lw_at lw_m1 138 rfl) rfl
theorem q285 : (Jvm.Cond.soleField "RideDesk" "best") ∈ lw_all := lw_g (lw_at lw_m1 139 rfl) rfl
theorem q286 : (Jvm.Cond.lays "RideDesk" "RideDesk" "bestVan" "I") ∈ lw_all := lw_g (lw_at lw_m1 140 rfl) rfl
theorem q287 : (Jvm.Cond.soleField "RideDesk" "bestVan") ∈ lw_all := lw_g (lw_at lw_m1 141 rfl) rfl
theorem q288 : (Jvm.Cond.lays "RideDesk" "RideDesk" "bestMore" "I") ∈ lw_all := lw_g (lw_at lw_m1 142 rfl) rfl
theorem q289 : (Jvm.Cond.soleField "RideDesk" "bestMore") ∈ lw_all := lw_g (lw_at lw_m1 143 rfl) rfl
theorem q290 : (Jvm.Cond.laysFinal "RideDesk" "RideDesk" "byPickup" "[I") ∈ lw_all := lw_g (lw_at lw_m1 144 rfl) rfl
theorem q291 : (Jvm.Cond.soleField "RideDesk" "byPickup") ∈ lw_all := lw_g (lw_at lw_m1 145 rfl) rfl
theorem q292 : (Jvm.Cond.laysFinal "RideDesk" "RideDesk" "byDrop" "[I") ∈ lw_all := lw_g (lw_at lw_m1 146 rfl) rfl
theorem q293 : (Jvm.Cond.soleField "RideDesk" "byDrop") ∈ lw_all := lw_g (lw_at lw_m1 147 rfl) rfl
theorem q294 : (Jvm.Cond.laysFinal "RideDesk" "RideDesk" "both" "[I") ∈ lw_all := lw_g (lw_at lw_m1 148 rfl) rfl
theorem q295 : (Jvm.Cond.soleField "RideDesk" "both") ∈ lw_all := lw_g (lw_at lw_m1 149 rfl) rfl
theorem q296 : (Jvm.Cond.laysFinal "RideDesk" "RideDesk" "buffer" "[B") ∈ lw_all := lw_g (lw_at lw_m1 150 rfl) rfl
theorem q297 : (Jvm.Cond.soleField "RideDesk" "buffer") ∈ lw_all := lw_g (lw_at lw_m1 151 rfl) rfl
theorem q298 : (Jvm.Cond.lays "RideDesk" "RideDesk" "buffered" "I") ∈ lw_all := lw_g (lw_at lw_m1 152 rfl) rfl
theorem q299 : (Jvm.Cond.soleField "RideDesk" "buffered") ∈ lw_all := lw_g (lw_at lw_m1 153 rfl) rfl
theorem q300 : (Jvm.Cond.lays "RideDesk" "RideDesk" "parseError" "I") ∈ lw_all := lw_g (lw_at lw_m1 154 rfl) rfl
theorem q301 : (Jvm.Cond.soleField "RideDesk" "parseError") ∈ lw_all := lw_g (lw_at lw_m1 155 rfl) rfl
theorem q302 : (Jvm.Cond.lays "RideDesk" "RideDesk" "errorPosition" "I") ∈ lw_all := lw_g (lw_at lw_m1 156 rfl) rfl
theorem q303 : (Jvm.Cond.soleField "RideDesk" "errorPosition") ∈ lw_all := lw_g (lw_at lw_m1 157 rfl) rfl
theorem q304 : (Jvm.Cond.lays "RideDesk" "RideDesk" "page" "[B") ∈ lw_all := lw_g (lw_at lw_m1 158 rfl) rfl
theorem q305 : (Jvm.Cond.soleField "RideDesk" "page") ∈ lw_all := lw_g (lw_at lw_m1 159 rfl) rfl
theorem q306 : (Jvm.Cond.superclass "RideDesk" "java/lang/Object") ∈ lw_all := lw_g (lw_at lw_m1 160 rfl) rfl
theorem q309 : (Jvm.Cond.instanceMethod ({ cls := "RideDesk", name := "append", desc := "(IIIII)I" } : Jvm.MethodName)) ∈ lw_all := lw_g (lw_at lw_m1 163 rfl) rfl
theorem q310 : (Jvm.Cond.selects "RideDesk" ({ cls := "RideDesk", name := "append", desc := "(IIIII)I" } : Jvm.MethodName) ({ cls := "RideDesk", name := "append", desc := "(IIIII)I" } : Jvm.MethodName)) ∈ lw_all := lw_g (lw_at lw_m1 164 rfl) rfl
theorem q311 : (Jvm.Cond.code ({ cls := "RideDesk", name := "append", desc := "(IIIII)I" } : Jvm.MethodName) prog_1_method_29_code (12 : Nat) (Option.some Jvm.ClassFile.FieldType.int)) ∈ lw_all := lw_g (lw_at lw_m1 165 rfl) rfl
theorem q313 : (Jvm.Cond.instanceMethod ({ cls := "RideDesk", name := "parseError", desc := "()I" } : Jvm.MethodName)) ∈ lw_all := lw_g (lw_at lw_m1 167 rfl) rfl
theorem q314 : (Jvm.Cond.selects "RideDesk" ({ cls := "RideDesk", name := "parseError", desc := "()I" } : Jvm.MethodName) ({ cls := "RideDesk", name := "parseError", desc := "()I" } : Jvm.MethodName)) ∈ lw_all := lw_g (lw_at lw_m1 168 rfl) rfl
theorem q315 : (Jvm.Cond.code ({ cls := "RideDesk", name := "parseError", desc := "()I" } : Jvm.MethodName) prog_1_method_31_code (1 : Nat) (Option.some Jvm.ClassFile.FieldType.int)) ∈ lw_all := lw_g (lw_at lw_m1 169 rfl) rfl
theorem q317 : (Jvm.Cond.instanceMethod ({ cls := "RideDesk", name := "errorPosition", desc := "()I" } : Jvm.MethodName)) ∈ lw_all := lw_g (lw_at lw_m1 171 rfl) rfl
theorem q318 : (Jvm.Cond.selects "RideDesk" ({ cls := "RideDesk", name := "errorPosition", desc := "()I" } : Jvm.MethodName) ({ cls := "RideDesk", name := "errorPosition", desc := "()I" } : Jvm.MethodName)) ∈ lw_all := lw_g (lw_at lw_m1 172 rfl) rfl
theorem q319 : (Jvm.Cond.code ({ cls := "RideDesk", name := "errorPosition", desc := "()I" } : Jvm.MethodName) prog_1_method_32_code (1 : Nat) (Option.some Jvm.ClassFile.FieldType.int)) ∈ lw_all := lw_g (lw_at lw_m1 173 rfl) rfl
theorem q321 : (Jvm.Cond.instanceMethod ({ cls := "RideDesk", name := "buffered", desc := "()I" } : Jvm.MethodName)) ∈ lw_all := lw_g (lw_at lw_m1 175 rfl) rfl
theorem q322 : (Jvm.Cond.selects "RideDesk" ({ cls := "RideDesk", name := "buffered", desc := "()I" } : Jvm.MethodName) ({ cls := "RideDesk", name := "buffered", desc := "()I" } : Jvm.MethodName)) ∈ lw_all := lw_g (lw_at lw_m1 176 rfl) rfl
theorem q323 : (Jvm.Cond.code ({ cls := "RideDesk", name := "buffered", desc := "()I" } : Jvm.MethodName) prog_1_method_33_code (1 : Nat) (Option.some Jvm.ClassFile.FieldType.int)) ∈ lw_all := lw_g (lw_at lw_m1 177 rfl) rfl
theorem q325 : (Jvm.Cond.instanceMethod ({ cls := "RideDesk", name := "vans", desc := "()I" } : Jvm.MethodName)) ∈ lw_all := lw_g (lw_at lw_m1 179 rfl) rfl
theorem q326 : (Jvm.Cond.selects "RideDesk" ({ cls := "RideDesk", name := "vans", desc := "()I" } : Jvm.MethodName) ({ cls := "RideDesk", name := "vans", desc := "()I" } : Jvm.MethodName)) ∈ lw_all := lw_g (lw_at lw_m1 180 rfl) rfl
theorem q327 : (Jvm.Cond.code ({ cls := "RideDesk", name := "vans", desc := "()I" } : Jvm.MethodName) prog_1_method_40_code (1 : Nat) (Option.some Jvm.ClassFile.FieldType.int)) ∈ lw_all := lw_g (lw_at lw_m1 181 rfl) rfl
theorem q328 : (Jvm.Cond.interfaceEntry "RideDesk" (153 : Nat)) ∈ lw_tbl := lw_at lw_m1 182 rfl
theorem q329 : (Jvm.Cond.methodLink "RideDesk" (153 : Nat) ({ cls := "java/util/List", name := "size", desc := "()I" } : Jvm.MethodName)) ∈ lw_all := lw_g (lw_at lw_m1 183 rfl) rfl
theorem q339 : (Jvm.Cond.instanceMethod ({ cls := "RideDesk", name := "clock", desc := "()I" } : Jvm.MethodName)) ∈ lw_all := lw_g (lw_at lw_m1 193 rfl) rfl
theorem q340 : (Jvm.Cond.selects "RideDesk" ({ cls := "RideDesk", name := "clock", desc := "()I" } : Jvm.MethodName) ({ cls := "RideDesk", name := "clock", desc := "()I" } : Jvm.MethodName)) ∈ lw_all := lw_g (lw_at lw_m1 194 rfl) rfl
theorem q341 : (Jvm.Cond.code ({ cls := "RideDesk", name := "clock", desc := "()I" } : Jvm.MethodName) prog_1_method_41_code (1 : Nat) (Option.some Jvm.ClassFile.FieldType.int)) ∈ lw_all := lw_g (lw_at lw_m1 195 rfl) rfl
theorem q343 : (Jvm.Cond.instanceMethod ({ cls := "RideDesk", name := "calls", desc := "()I" } : Jvm.MethodName)) ∈ lw_all := lw_g (lw_at lw_m1 197 rfl) rfl
theorem q344 : (Jvm.Cond.selects "RideDesk" ({ cls := "RideDesk", name := "calls", desc := "()I" } : Jvm.MethodName) ({ cls := "RideDesk", name := "calls", desc := "()I" } : Jvm.MethodName)) ∈ lw_all := lw_g (lw_at lw_m1 198 rfl) rfl
theorem q345 : (Jvm.Cond.code ({ cls := "RideDesk", name := "calls", desc := "()I" } : Jvm.MethodName) prog_1_method_59_code (1 : Nat) (Option.some Jvm.ClassFile.FieldType.int)) ∈ lw_all := lw_g (lw_at lw_m1 199 rfl) rfl
theorem q347 : (Jvm.Cond.instanceMethod ({ cls := "RideDesk", name := "credits", desc := "()I" } : Jvm.MethodName)) ∈ lw_all := lw_g (lw_at lw_m1 201 rfl) rfl
theorem q348 : (Jvm.Cond.selects "RideDesk" ({ cls := "RideDesk", name := "credits", desc := "()I" } : Jvm.MethodName) ({ cls := "RideDesk", name := "credits", desc := "()I" } : Jvm.MethodName)) ∈ lw_all := lw_g (lw_at lw_m1 202 rfl) rfl
theorem q349 : (Jvm.Cond.code ({ cls := "RideDesk", name := "credits", desc := "()I" } : Jvm.MethodName) prog_1_method_73_code (3 : Nat) (Option.some Jvm.ClassFile.FieldType.int)) ∈ lw_all := lw_g (lw_at lw_m1 203 rfl) rfl
theorem q351 : (Jvm.Cond.instanceMethod ({ cls := "RideDesk", name := "drivingAll", desc := "()I" } : Jvm.MethodName)) ∈ lw_all := lw_g (lw_at lw_m1 205 rfl) rfl
theorem q352 : (Jvm.Cond.selects "RideDesk" ({ cls := "RideDesk", name := "drivingAll", desc := "()I" } : Jvm.MethodName) ({ cls := "RideDesk", name := "drivingAll", desc := "()I" } : Jvm.MethodName)) ∈ lw_all := lw_g (lw_at lw_m1 206 rfl) rfl
theorem q353 : (Jvm.Cond.code ({ cls := "RideDesk", name := "drivingAll", desc := "()I" } : Jvm.MethodName) prog_1_method_74_code (1 : Nat) (Option.some Jvm.ClassFile.FieldType.int)) ∈ lw_all := lw_g (lw_at lw_m1 207 rfl) rfl
theorem q354 : (Jvm.Cond.methodLink "RideDesk" (419 : Nat) ({ cls := "RideDesk", name := "drivingAll", desc := "(LRideDesk$State;)I" } : Jvm.MethodName)) ∈ lw_all := lw_g (lw_at lw_m1 208 rfl) rfl
theorem q355 : (Jvm.Cond.privateMethod ({ cls := "RideDesk", name := "drivingAll", desc := "(LRideDesk$State;)I" } : Jvm.MethodName)) ∈ lw_tbl := lw_at lw_m1 209 rfl
theorem q356 : (Jvm.Cond.instanceMethod ({ cls := "RideDesk", name := "drivingAll", desc := "(LRideDesk$State;)I" } : Jvm.MethodName)) ∈ lw_all := lw_g (lw_at lw_m1 210 rfl) rfl
theorem q357 : (Jvm.Cond.code ({ cls := "RideDesk", name := "drivingAll", desc := "(LRideDesk$State;)I" } : Jvm.MethodName) prog_1_method_27_code (4 : Nat) (Option.some Jvm.ClassFile.FieldType.int)) ∈ lw_all := lw_g (lw_at lw_m1 211 rfl) rfl
theorem q358 : (Jvm.Cond.methodLink "RideDesk" (286 : Nat) ({ cls := "RideDesk", name := "driving", desc := "(ILRideDesk$Route;)I" } : Jvm.MethodName)) ∈ lw_all := lw_g (lw_at lw_m1 212 rfl) rfl
theorem q359 : (Jvm.Cond.privateMethod ({ cls := "RideDesk", name := "driving", desc := "(ILRideDesk$Route;)I" } : Jvm.MethodName)) ∈ lw_tbl := lw_at lw_m1 213 rfl
theorem q360 : (Jvm.Cond.instanceMethod ({ cls := "RideDesk", name := "driving", desc := "(ILRideDesk$Route;)I" } : Jvm.MethodName)) ∈ lw_all := lw_g (lw_at lw_m1 214 rfl) rfl
theorem q361 : (Jvm.Cond.code ({ cls := "RideDesk", name := "driving", desc := "(ILRideDesk$Route;)I" } : Jvm.MethodName) prog_1_method_9_code (5 : Nat) (Option.some Jvm.ClassFile.FieldType.int)) ∈ lw_all := lw_g (lw_at lw_m1 215 rfl) rfl
theorem q362 : (Jvm.Cond.interfaceEntry "RideDesk" (25 : Nat)) ∈ lw_tbl := lw_at lw_m1 216 rfl
theorem q363 : (Jvm.Cond.methodLink "RideDesk" (25 : Nat) ({ cls := "java/util/List", name := "get", desc := "(I)Ljava/lang/Object;" } : Jvm.MethodName)) ∈ lw_all := lw_g (lw_at lw_m1 217 rfl) rfl
theorem q381 : (Jvm.Cond.classLink "RideDesk" (31 : Nat) "RideDesk$Spot") ∈ lw_all := lw_g (lw_at lw_m1 235 rfl) rfl
theorem q382 : (Jvm.Cond.methodLink "RideDesk" (47 : Nat) ({ cls := "RideDesk$Plan", name := "way", desc := "(LRideDesk$Spot;LRideDesk$Spot;)I" } : Jvm.MethodName)) ∈ lw_all := lw_g (lw_at lw_m1 236 rfl) rfl
theorem q398 : (Jvm.Cond.methodLink "RideDesk" (92 : Nat) ({ cls := "RideDesk", name := "wayTo", desc := "(ILRideDesk$Route;I)I" } : Jvm.MethodName)) ∈ lw_all := lw_g (lw_at lw_m2 12 rfl) rfl
theorem q399 : (Jvm.Cond.privateMethod ({ cls := "RideDesk", name := "wayTo", desc := "(ILRideDesk$Route;I)I" } : Jvm.MethodName)) ∈ lw_tbl := lw_at lw_m2 13 rfl
theorem q400 : (Jvm.Cond.instanceMethod ({ cls := "RideDesk", name := "wayTo", desc := "(ILRideDesk$Route;I)I" } : Jvm.MethodName)) ∈ lw_all := lw_g (lw_at lw_m2 14 rfl) rfl
theorem q401 : (Jvm.Cond.code ({ cls := "RideDesk", name := "wayTo", desc := "(ILRideDesk$Route;I)I" } : Jvm.MethodName) prog_1_method_4_code (4 : Nat) (Option.some Jvm.ClassFile.FieldType.int)) ∈ lw_all := lw_g (lw_at lw_m2 15 rfl) rfl
theorem q402 : (Jvm.Cond.methodLink "RideDesk" (43 : Nat) ({ cls := "RideDesk", name := "spotBefore", desc := "(ILRideDesk$Route;I)LRideDesk$Spot;" } : Jvm.MethodName)) ∈ lw_all := lw_g (lw_at lw_m2 16 rfl) rfl
theorem q403 : (Jvm.Cond.privateMethod ({ cls := "RideDesk", name := "spotBefore", desc := "(ILRideDesk$Route;I)LRideDesk$Spot;" } : Jvm.MethodName)) ∈ lw_tbl := lw_at lw_m2 17 rfl
theorem q404 : (Jvm.Cond.instanceMethod ({ cls := "RideDesk", name := "spotBefore", desc := "(ILRideDesk$Route;I)LRideDesk$Spot;" } : Jvm.MethodName)) ∈ lw_all := lw_g (lw_at lw_m2 18 rfl) rfl
theorem q405 : (Jvm.Cond.code ({ cls := "RideDesk", name := "spotBefore", desc := "(ILRideDesk$Route;I)LRideDesk$Spot;" } : Jvm.MethodName) prog_1_method_3_code (4 : Nat) (Option.some (Jvm.ClassFile.FieldType.object "RideDesk$Spot"))) ∈ lw_all := lw_g (lw_at lw_m2 19 rfl) rfl
theorem q407 : (Jvm.Cond.instanceMethod ({ cls := "RideDesk", name := "undoable", desc := "()I" } : Jvm.MethodName)) ∈ lw_all := lw_g (lw_at lw_m2 21 rfl) rfl
theorem q408 : (Jvm.Cond.selects "RideDesk" ({ cls := "RideDesk", name := "undoable", desc := "()I" } : Jvm.MethodName) ({ cls := "RideDesk", name := "undoable", desc := "()I" } : Jvm.MethodName)) ∈ lw_all := lw_g (lw_at lw_m2 22 rfl) rfl
theorem q409 : (Jvm.Cond.code ({ cls := "RideDesk", name := "undoable", desc := "()I" } : Jvm.MethodName) prog_1_method_101_code (1 : Nat) (Option.some Jvm.ClassFile.FieldType.int)) ∈ lw_all := lw_g (lw_at lw_m2 23 rfl) rfl
theorem q410 : (Jvm.Cond.interfaceEntry "RideDesk" (518 : Nat)) ∈ lw_tbl := lw_at lw_m2 24 rfl
theorem q411 : (Jvm.Cond.methodLink "RideDesk" (518 : Nat) ({ cls := "java/util/Deque", name := "size", desc := "()I" } : Jvm.MethodName)) ∈ lw_all := lw_g (lw_at lw_m2 25 rfl) rfl
theorem q506 : (Jvm.Cond.instanceMethod ({ cls := "RideDesk", name := "load", desc := "(I)I" } : Jvm.MethodName)) ∈ lw_all := lw_g (lw_at lw_m2 120 rfl) rfl
theorem q507 : (Jvm.Cond.selects "RideDesk" ({ cls := "RideDesk", name := "load", desc := "(I)I" } : Jvm.MethodName) ({ cls := "RideDesk", name := "load", desc := "(I)I" } : Jvm.MethodName)) ∈ lw_all := lw_g (lw_at lw_m2 121 rfl) rfl
theorem q508 : (Jvm.Cond.codeWith ({ cls := "RideDesk", name := "load", desc := "(I)I" } : Jvm.MethodName) prog_1_method_30_code (6 : Nat) (Option.some Jvm.ClassFile.FieldType.int) [((16 : Nat), (52 : Nat), (70 : Nat), (355 : Nat)), ((16 : Nat), (52 : Nat), (92 : Nat), (0 : Nat)), ((70 : Nat), (94 : Nat), (92 : Nat), (0 : Nat))]) ∈ lw_all := lw_g (lw_at lw_m2 122 rfl) rfl
theorem q509 : (Jvm.Cond.classLink "RideDesk" (355 : Nat) "RideDesk$FormatException") ∈ lw_all := lw_g (lw_at lw_m2 123 rfl) rfl
theorem q510 : (Jvm.Cond.methodLink "RideDesk" (322 : Nat) ({ cls := "RideDesk", name := "in", desc := "(III)Z" } : Jvm.MethodName)) ∈ lw_all := lw_g (lw_at lw_m2 124 rfl) rfl
theorem q511 : (Jvm.Cond.static ({ cls := "RideDesk", name := "in", desc := "(III)Z" } : Jvm.MethodName)) ∈ lw_all := lw_g (lw_at lw_m2 125 rfl) rfl
theorem q512 : (Jvm.Cond.code ({ cls := "RideDesk", name := "in", desc := "(III)Z" } : Jvm.MethodName) prog_1_method_1_code (3 : Nat) (Option.some Jvm.ClassFile.FieldType.boolean)) ∈ lw_all := lw_g (lw_at lw_m2 126 rfl) rfl
theorem q513 : (Jvm.Cond.methodLink "RideDesk" (326 : Nat) ({ cls := "RideDesk", name := "checkIndex", desc := "(Z)V" } : Jvm.MethodName)) ∈ lw_all := lw_g (lw_at lw_m2 127 rfl) rfl
theorem q514 : (Jvm.Cond.static ({ cls := "RideDesk", name := "checkIndex", desc := "(Z)V" } : Jvm.MethodName)) ∈ lw_all := lw_g (lw_at lw_m2 128 rfl) rfl
theorem q515 : (Jvm.Cond.code ({ cls := "RideDesk", name := "checkIndex", desc := "(Z)V" } : Jvm.MethodName) prog_1_method_34_code (1 : Nat) (Option.none : Option Jvm.ClassFile.FieldType)) ∈ lw_all := lw_g (lw_at lw_m2 129 rfl) rfl
theorem q516 : (Jvm.Cond.classLink "RideDesk" (365 : Nat) "java/lang/IndexOutOfBoundsException") ∈ lw_all := lw_g (lw_at lw_m2 130 rfl) rfl
theorem q525 : (Jvm.Cond.methodLink "RideDesk" (367 : Nat) ({ cls := "java/lang/IndexOutOfBoundsException", name := "<init>", desc := "()V" } : Jvm.MethodName)) ∈ lw_all := lw_g (lw_at lw_m2 139 rfl) rfl
theorem q537 : (Jvm.Cond.classLink "RideDesk" (330 : Nat) "RideDesk$Parser") ∈ lw_all := lw_g (lw_at lw_m2 151 rfl) rfl
theorem q539 : (Jvm.Cond.methodLink "RideDesk" (332 : Nat) ({ cls := "RideDesk$Parser", name := "<init>", desc := "(LRideDesk;I)V" } : Jvm.MethodName)) ∈ lw_all := lw_g (lw_at lw_m2 153 rfl) rfl
theorem q558 : (Jvm.Cond.fieldLinkNest "RideDesk" (145 : Nat) "RideDesk$Rules" "window" "I" "RideDesk") ∈ lw_tbl := lw_at lw_m2 172 rfl
theorem q569 : (Jvm.Cond.fieldLinkNest "RideDesk" (456 : Nat) "RideDesk$Rules" "grace" "I" "RideDesk") ∈ lw_tbl := lw_at lw_m2 183 rfl
theorem q571 : (Jvm.Cond.fieldLinkNest "RideDesk" (277 : Nat) "RideDesk$Rules" "rate" "I" "RideDesk") ∈ lw_tbl := lw_at lw_m2 185 rfl
theorem q870 : (Jvm.Cond.fieldLinkNest "RideDesk" (141 : Nat) "RideDesk$Plan" "rules" "LRideDesk$Rules;" "RideDesk") ∈ lw_tbl := lw_at lw_m4 4 rfl
theorem q875 : (Jvm.Cond.fieldLinkNest "RideDesk" (19 : Nat) "RideDesk$Plan" "vans" "Ljava/util/List;" "RideDesk") ∈ lw_tbl := lw_at lw_m4 9 rfl
theorem q918 : (Jvm.Cond.methodLink "RideDesk" (335 : Nat) ({ cls := "RideDesk$Parser", name := "text", desc := "()V" } : Jvm.MethodName)) ∈ lw_all := lw_g (lw_at lw_m4 52 rfl) rfl
theorem q1020 : (Jvm.Cond.fieldLinkNest "RideDesk" (357 : Nat) "RideDesk$FormatException" "kind" "I" "RideDesk") ∈ lw_tbl := lw_at lw_m4 154 rfl
theorem q1022 : (Jvm.Cond.fieldLinkNest "RideDesk" (359 : Nat) "RideDesk$FormatException" "position" "I" "RideDesk") ∈ lw_tbl := lw_at lw_m4 156 rfl
theorem q1180 : (Jvm.Cond.selects "RideDesk" ({ cls := "java/lang/Object", name := "getClass", desc := "()Ljava/lang/Class;" } : Jvm.MethodName) ({ cls := "java/lang/Object", name := "getClass", desc := "()Ljava/lang/Class;" } : Jvm.MethodName)) ∈ lw_all := lw_g (lw_at lw_m5 74 rfl) rfl
theorem q1253 : (Jvm.Cond.fieldLinkNest "RideDesk" (105 : Nat) "RideDesk$Van" "seats" "I" "RideDesk") ∈ lw_tbl := lw_at lw_m5 147 rfl
theorem q1255 : (Jvm.Cond.fieldLinkNest "RideDesk" (108 : Nat) "RideDesk$Van" "wheels" "I" "RideDesk") ∈ lw_tbl := lw_at lw_m5 149 rfl
theorem q1257 : (Jvm.Cond.fieldLinkNest "RideDesk" (85 : Nat) "RideDesk$Van" "from" "I" "RideDesk") ∈ lw_tbl := lw_at lw_m5 151 rfl
theorem q1311 : (Jvm.Cond.fieldLinkNest "RideDesk" (168 : Nat) "RideDesk$Call" "home" "LRideDesk$Spot;" "RideDesk") ∈ lw_tbl := lw_at lw_m5 205 rfl
theorem q1313 : (Jvm.Cond.fieldLinkNest "RideDesk" (177 : Nat) "RideDesk$Call" "goal" "LRideDesk$Spot;" "RideDesk") ∈ lw_tbl := lw_at lw_m5 207 rfl
theorem q1315 : (Jvm.Cond.fieldLinkNest "RideDesk" (111 : Nat) "RideDesk$Call" "kind" "LRideDesk$Kind;" "RideDesk") ∈ lw_tbl := lw_at lw_m5 209 rfl
theorem q1317 : (Jvm.Cond.fieldLinkNest "RideDesk" (150 : Nat) "RideDesk$Call" "limit" "I" "RideDesk") ∈ lw_tbl := lw_at lw_m5 211 rfl
theorem q1319 : (Jvm.Cond.fieldLinkNest "RideDesk" (64 : Nat) "RideDesk$Call" "service" "I" "RideDesk") ∈ lw_tbl := lw_at lw_m5 213 rfl
theorem q1345 : (Jvm.Cond.fieldLinkNest "RideDesk" (156 : Nat) "RideDesk$State" "routes" "[LRideDesk$Route;" "RideDesk") ∈ lw_tbl := lw_at lw_m5 239 rfl
theorem q1347 : (Jvm.Cond.fieldLinkNest "RideDesk" (135 : Nat) "RideDesk$State" "until" "[I" "RideDesk") ∈ lw_tbl := lw_at lw_m6 1 rfl
theorem q1351 : (Jvm.Cond.fieldLinkNest "RideDesk" (232 : Nat) "RideDesk$State" "state" "[I" "RideDesk") ∈ lw_tbl := lw_at lw_m6 5 rfl
theorem q1354 : (Jvm.Cond.fieldLinkNest "RideDesk" (138 : Nat) "RideDesk$State" "ready" "[I" "RideDesk") ∈ lw_tbl := lw_at lw_m6 8 rfl
theorem q1356 : (Jvm.Cond.fieldLinkNest "RideDesk" (238 : Nat) "RideDesk$State" "promise" "[I" "RideDesk") ∈ lw_tbl := lw_at lw_m6 10 rfl
theorem q1358 : (Jvm.Cond.fieldLinkNest "RideDesk" (241 : Nat) "RideDesk$State" "credit" "[I" "RideDesk") ∈ lw_tbl := lw_at lw_m6 12 rfl
theorem q1360 : (Jvm.Cond.fieldLinkNest "RideDesk" (55 : Nat) "RideDesk$State" "calls" "[LRideDesk$Call;" "RideDesk") ∈ lw_tbl := lw_at lw_m6 14 rfl
theorem q1362 : (Jvm.Cond.fieldLinkNest "RideDesk" (235 : Nat) "RideDesk$State" "callCount" "I" "RideDesk") ∈ lw_tbl := lw_at lw_m6 16 rfl
theorem q1364 : (Jvm.Cond.fieldLinkNest "RideDesk" (72 : Nat) "RideDesk$State" "clock" "I" "RideDesk") ∈ lw_tbl := lw_at lw_m6 18 rfl
theorem q1391 : (Jvm.Cond.privateMethod ({ cls := "RideDesk", name := "adds", desc := "(LRideDesk$State;LRideDesk$Call;I)I" } : Jvm.MethodName)) ∈ lw_tbl := lw_at lw_m6 45 rfl
theorem q1392 : (Jvm.Cond.instanceMethod ({ cls := "RideDesk", name := "adds", desc := "(LRideDesk$State;LRideDesk$Call;I)I" } : Jvm.MethodName)) ∈ lw_all := lw_g (lw_at lw_m6 46 rfl) rfl
theorem q1393 : (Jvm.Cond.code ({ cls := "RideDesk", name := "adds", desc := "(LRideDesk$State;LRideDesk$Call;I)I" } : Jvm.MethodName) prog_1_method_20_code (5 : Nat) (Option.some Jvm.ClassFile.FieldType.int)) ∈ lw_all := lw_g (lw_at lw_m6 47 rfl) rfl
theorem q1394 : (Jvm.Cond.methodLink "RideDesk" (244 : Nat) ({ cls := "RideDesk", name := "inserts", desc := "(LRideDesk$State;I)Z" } : Jvm.MethodName)) ∈ lw_all := lw_g (lw_at lw_m6 48 rfl) rfl
theorem q1395 : (Jvm.Cond.privateMethod ({ cls := "RideDesk", name := "inserts", desc := "(LRideDesk$State;I)Z" } : Jvm.MethodName)) ∈ lw_tbl := lw_at lw_m6 49 rfl
theorem q1396 : (Jvm.Cond.instanceMethod ({ cls := "RideDesk", name := "inserts", desc := "(LRideDesk$State;I)Z" } : Jvm.MethodName)) ∈ lw_all := lw_g (lw_at lw_m6 50 rfl) rfl
theorem q1397 : (Jvm.Cond.code ({ cls := "RideDesk", name := "inserts", desc := "(LRideDesk$State;I)Z" } : Jvm.MethodName) prog_1_method_19_code (3 : Nat) (Option.some Jvm.ClassFile.FieldType.boolean)) ∈ lw_all := lw_g (lw_at lw_m6 51 rfl) rfl
theorem q1398 : (Jvm.Cond.methodLink "RideDesk" (228 : Nat) ({ cls := "RideDesk", name := "finds", desc := "(LRideDesk$State;I)Z" } : Jvm.MethodName)) ∈ lw_all := lw_g (lw_at lw_m6 52 rfl) rfl
theorem q1399 : (Jvm.Cond.privateMethod ({ cls := "RideDesk", name := "finds", desc := "(LRideDesk$State;I)Z" } : Jvm.MethodName)) ∈ lw_tbl := lw_at lw_m6 53 rfl
theorem q1400 : (Jvm.Cond.instanceMethod ({ cls := "RideDesk", name := "finds", desc := "(LRideDesk$State;I)Z" } : Jvm.MethodName)) ∈ lw_all := lw_g (lw_at lw_m6 54 rfl) rfl
theorem q1401 : (Jvm.Cond.code ({ cls := "RideDesk", name := "finds", desc := "(LRideDesk$State;I)Z" } : Jvm.MethodName) prog_1_method_14_code (12 : Nat) (Option.some Jvm.ClassFile.FieldType.boolean)) ∈ lw_all := lw_g (lw_at lw_m6 55 rfl) rfl
theorem q1402 : (Jvm.Cond.classLink "RideDesk" (123 : Nat) "RideDesk$Pickup") ∈ lw_all := lw_g (lw_at lw_m6 56 rfl) rfl
theorem q1404 : (Jvm.Cond.methodLink "RideDesk" (171 : Nat) ({ cls := "RideDesk$Pickup", name := "<init>", desc := "(ILRideDesk$Spot;)V" } : Jvm.MethodName)) ∈ lw_all := lw_g (lw_at lw_m6 58 rfl) rfl
theorem q1416 : (Jvm.Cond.fieldLink "RideDesk" (61 : Nat) "RideDesk$Stop" "call" "I") ∈ lw_all := lw_g (lw_at lw_m6 70 rfl) rfl
theorem q1419 : (Jvm.Cond.fieldLink "RideDesk" (37 : Nat) "RideDesk$Stop" "spot" "LRideDesk$Spot;") ∈ lw_all := lw_g (lw_at lw_m6 73 rfl) rfl
theorem q1420 : (Jvm.Cond.fieldLink "RideDesk" (188 : Nat) "RideDesk$Pickup" "spot" "LRideDesk$Spot;") ∈ lw_all := lw_g (lw_at lw_m6 74 rfl) rfl
theorem q1422 : (Jvm.Cond.fieldLink "RideDesk" (189 : Nat) "RideDesk$Drop" "spot" "LRideDesk$Spot;") ∈ lw_all := lw_g (lw_at lw_m6 76 rfl) rfl
theorem q1429 : (Jvm.Cond.classLink "RideDesk" (175 : Nat) "RideDesk$Drop") ∈ lw_all := lw_g (lw_at lw_m6 83 rfl) rfl
theorem q1431 : (Jvm.Cond.methodLink "RideDesk" (180 : Nat) ({ cls := "RideDesk$Drop", name := "<init>", desc := "(ILRideDesk$Spot;)V" } : Jvm.MethodName)) ∈ lw_all := lw_g (lw_at lw_m6 85 rfl) rfl
theorem q1438 : (Jvm.Cond.methodLink "RideDesk" (160 : Nat) ({ cls := "RideDesk", name := "fixed", desc := "(LRideDesk$State;LRideDesk$Route;)I" } : Jvm.MethodName)) ∈ lw_all := lw_g (lw_at lw_m6 92 rfl) rfl
theorem q1439 : (Jvm.Cond.privateMethod ({ cls := "RideDesk", name := "fixed", desc := "(LRideDesk$State;LRideDesk$Route;)I" } : Jvm.MethodName)) ∈ lw_tbl := lw_at lw_m6 93 rfl
theorem q1440 : (Jvm.Cond.instanceMethod ({ cls := "RideDesk", name := "fixed", desc := "(LRideDesk$State;LRideDesk$Route;)I" } : Jvm.MethodName)) ∈ lw_all := lw_g (lw_at lw_m6 94 rfl) rfl
theorem q1441 : (Jvm.Cond.code ({ cls := "RideDesk", name := "fixed", desc := "(LRideDesk$State;LRideDesk$Route;)I" } : Jvm.MethodName) prog_1_method_7_code (4 : Nat) (Option.some Jvm.ClassFile.FieldType.int)) ∈ lw_all := lw_g (lw_at lw_m6 95 rfl) rfl
theorem q1442 : (Jvm.Cond.methodLink "RideDesk" (79 : Nat) ({ cls := "RideDesk", name := "isFixed", desc := "(LRideDesk$State;LRideDesk$Route;I)Z" } : Jvm.MethodName)) ∈ lw_all := lw_g (lw_at lw_m6 96 rfl) rfl
theorem q1443 : (Jvm.Cond.privateMethod ({ cls := "RideDesk", name := "isFixed", desc := "(LRideDesk$State;LRideDesk$Route;I)Z" } : Jvm.MethodName)) ∈ lw_tbl := lw_at lw_m6 97 rfl
theorem q1444 : (Jvm.Cond.instanceMethod ({ cls := "RideDesk", name := "isFixed", desc := "(LRideDesk$State;LRideDesk$Route;I)Z" } : Jvm.MethodName)) ∈ lw_all := lw_g (lw_at lw_m6 98 rfl) rfl
theorem q1445 : (Jvm.Cond.code ({ cls := "RideDesk", name := "isFixed", desc := "(LRideDesk$State;LRideDesk$Route;I)Z" } : Jvm.MethodName) prog_1_method_6_code (4 : Nat) (Option.some Jvm.ClassFile.FieldType.boolean)) ∈ lw_all := lw_g (lw_at lw_m6 99 rfl) rfl
theorem q1446 : (Jvm.Cond.methodLink "RideDesk" (75 : Nat) ({ cls := "RideDesk$Stop", name := "isExecuted", desc := "(LRideDesk$State;)Z" } : Jvm.MethodName)) ∈ lw_all := lw_g (lw_at lw_m6 100 rfl) rfl
theorem q1455 : (Jvm.Cond.methodLink "RideDesk" (184 : Nat) ({ cls := "RideDesk", name := "leastEnd", desc := "(LRideDesk$State;ILRideDesk$Route;I)I" } : Jvm.MethodName)) ∈ lw_all := lw_g (lw_at lw_m6 109 rfl) rfl
theorem q1456 : (Jvm.Cond.privateMethod ({ cls := "RideDesk", name := "leastEnd", desc := "(LRideDesk$State;ILRideDesk$Route;I)I" } : Jvm.MethodName)) ∈ lw_tbl := lw_at lw_m6 110 rfl
theorem q1457 : (Jvm.Cond.instanceMethod ({ cls := "RideDesk", name := "leastEnd", desc := "(LRideDesk$State;ILRideDesk$Route;I)I" } : Jvm.MethodName)) ∈ lw_all := lw_g (lw_at lw_m6 111 rfl) rfl
theorem q1458 : (Jvm.Cond.code ({ cls := "RideDesk", name := "leastEnd", desc := "(LRideDesk$State;ILRideDesk$Route;I)I" } : Jvm.MethodName) prog_1_method_16_code (7 : Nat) (Option.some Jvm.ClassFile.FieldType.int)) ∈ lw_all := lw_g (lw_at lw_m6 112 rfl) rfl
theorem q1459 : (Jvm.Cond.classLink "RideDesk" (83 : Nat) "RideDesk$Van") ∈ lw_all := lw_g (lw_at lw_m6 113 rfl) rfl
theorem q1460 : (Jvm.Cond.methodLink "RideDesk" (88 : Nat) ({ cls := "RideDesk", name := "finish", desc := "(LRideDesk$State;LRideDesk$Route;I)I" } : Jvm.MethodName)) ∈ lw_all := lw_g (lw_at lw_m6 114 rfl) rfl
theorem q1461 : (Jvm.Cond.privateMethod ({ cls := "RideDesk", name := "finish", desc := "(LRideDesk$State;LRideDesk$Route;I)I" } : Jvm.MethodName)) ∈ lw_tbl := lw_at lw_m6 115 rfl
theorem q1462 : (Jvm.Cond.instanceMethod ({ cls := "RideDesk", name := "finish", desc := "(LRideDesk$State;LRideDesk$Route;I)I" } : Jvm.MethodName)) ∈ lw_all := lw_g (lw_at lw_m6 116 rfl) rfl
theorem q1463 : (Jvm.Cond.code ({ cls := "RideDesk", name := "finish", desc := "(LRideDesk$State;LRideDesk$Route;I)I" } : Jvm.MethodName) prog_1_method_5_code (4 : Nat) (Option.some Jvm.ClassFile.FieldType.int)) ∈ lw_all := lw_g (lw_at lw_m6 117 rfl) rfl
theorem q1464 : (Jvm.Cond.methodLink "RideDesk" (96 : Nat) ({ cls := "java/lang/Math", name := "max", desc := "(II)I" } : Jvm.MethodName)) ∈ lw_all := lw_g (lw_at lw_m6 118 rfl) rfl
theorem q1465 : (Jvm.Cond.methodLink "RideDesk" (190 : Nat) ({ cls := "RideDesk", name := "layDetours", desc := "(ILRideDesk$Route;LRideDesk$Spot;LRideDesk$Spot;)V" } : Jvm.MethodName)) ∈ lw_all := lw_g (lw_at lw_m6 119 rfl) rfl
theorem q1466 : (Jvm.Cond.privateMethod ({ cls := "RideDesk", name := "layDetours", desc := "(ILRideDesk$Route;LRideDesk$Spot;LRideDesk$Spot;)V" } : Jvm.MethodName)) ∈ lw_tbl := lw_at lw_m6 120 rfl
theorem q1467 : (Jvm.Cond.instanceMethod ({ cls := "RideDesk", name := "layDetours", desc := "(ILRideDesk$Route;LRideDesk$Spot;LRideDesk$Spot;)V" } : Jvm.MethodName)) ∈ lw_all := lw_g (lw_at lw_m6 121 rfl) rfl
theorem q1468 : (Jvm.Cond.code ({ cls := "RideDesk", name := "layDetours", desc := "(ILRideDesk$Route;LRideDesk$Spot;LRideDesk$Spot;)V" } : Jvm.MethodName) prog_1_method_15_code (10 : Nat) (Option.none : Option Jvm.ClassFile.FieldType)) ∈ lw_all := lw_g (lw_at lw_m6 122 rfl) rfl
theorem q1469 : (Jvm.Cond.methodLink "RideDesk" (206 : Nat) ({ cls := "RideDesk", name := "tries", desc := "(LRideDesk$State;IILRideDesk$Pickup;ILRideDesk$Drop;II)V" } : Jvm.MethodName)) ∈ lw_all := lw_g (lw_at lw_m6 123 rfl) rfl
theorem q1470 : (Jvm.Cond.privateMethod ({ cls := "RideDesk", name := "tries", desc := "(LRideDesk$State;IILRideDesk$Pickup;ILRideDesk$Drop;II)V" } : Jvm.MethodName)) ∈ lw_tbl := lw_at lw_m6 124 rfl
theorem q1471 : (Jvm.Cond.instanceMethod ({ cls := "RideDesk", name := "tries", desc := "(LRideDesk$State;IILRideDesk$Pickup;ILRideDesk$Drop;II)V" } : Jvm.MethodName)) ∈ lw_all := lw_g (lw_at lw_m6 125 rfl) rfl
theorem q1472 : (Jvm.Cond.code ({ cls := "RideDesk", name := "tries", desc := "(LRideDesk$State;IILRideDesk$Pickup;ILRideDesk$Drop;II)V" } : Jvm.MethodName) prog_1_method_17_code (9 : Nat) (Option.none : Option Jvm.ClassFile.FieldType)) ∈ lw_all := lw_g (lw_at lw_m6 126 rfl) rfl
theorem q1473 : (Jvm.Cond.methodLink "RideDesk" (214 : Nat) ({ cls := "RideDesk$Route", name := "become", desc := "(LRideDesk$Route;)V" } : Jvm.MethodName)) ∈ lw_all := lw_g (lw_at lw_m6 127 rfl) rfl
theorem q1478 : (Jvm.Cond.methodLink "RideDesk" (218 : Nat) ({ cls := "RideDesk$Route", name := "insert", desc := "(ILRideDesk$Stop;)V" } : Jvm.MethodName)) ∈ lw_all := lw_g (lw_at lw_m6 132 rfl) rfl
theorem q1482 : (Jvm.Cond.methodLink "RideDesk" (222 : Nat) ({ cls := "RideDesk", name := "canBe", desc := "(LRideDesk$State;ILRideDesk$Route;I)Z" } : Jvm.MethodName)) ∈ lw_all := lw_g (lw_at lw_m6 136 rfl) rfl
theorem q1483 : (Jvm.Cond.privateMethod ({ cls := "RideDesk", name := "canBe", desc := "(LRideDesk$State;ILRideDesk$Route;I)Z" } : Jvm.MethodName)) ∈ lw_tbl := lw_at lw_m6 137 rfl
theorem q1484 : (Jvm.Cond.instanceMethod ({ cls := "RideDesk", name := "canBe", desc := "(LRideDesk$State;ILRideDesk$Route;I)Z" } : Jvm.MethodName)) ∈ lw_all := lw_g (lw_at lw_m6 138 rfl) rfl
theorem q1485 : (Jvm.Cond.code ({ cls := "RideDesk", name := "canBe", desc := "(LRideDesk$State;ILRideDesk$Route;I)Z" } : Jvm.MethodName) prog_1_method_18_code (12 : Nat) (Option.some Jvm.ClassFile.FieldType.boolean)) ∈ lw_all := lw_g (lw_at lw_m6 139 rfl) rfl
theorem q1486 : (Jvm.Cond.methodLink "RideDesk" (118 : Nat) ({ cls := "RideDesk$Stop", name := "taken", desc := "(I)I" } : Jvm.MethodName)) ∈ lw_all := lw_g (lw_at lw_m6 140 rfl) rfl
theorem q1495 : (Jvm.Cond.methodLink "RideDesk" (102 : Nat) ({ cls := "RideDesk$Stop", name := "begin", desc := "(LRideDesk$State;I)I" } : Jvm.MethodName)) ∈ lw_all := lw_g (lw_at lw_m6 149 rfl) rfl
theorem q1505 : (Jvm.Cond.methodLink "RideDesk" (128 : Nat) ({ cls := "RideDesk", name := "isInTime", desc := "(LRideDesk$State;LRideDesk$Route;I)Z" } : Jvm.MethodName)) ∈ lw_all := lw_g (lw_at lw_m6 159 rfl) rfl
theorem q1506 : (Jvm.Cond.privateMethod ({ cls := "RideDesk", name := "isInTime", desc := "(LRideDesk$State;LRideDesk$Route;I)Z" } : Jvm.MethodName)) ∈ lw_tbl := lw_at lw_m6 160 rfl
theorem q1507 : (Jvm.Cond.instanceMethod ({ cls := "RideDesk", name := "isInTime", desc := "(LRideDesk$State;LRideDesk$Route;I)Z" } : Jvm.MethodName)) ∈ lw_all := lw_g (lw_at lw_m6 161 rfl) rfl
theorem q1508 : (Jvm.Cond.code ({ cls := "RideDesk", name := "isInTime", desc := "(LRideDesk$State;LRideDesk$Route;I)Z" } : Jvm.MethodName) prog_1_method_12_code (5 : Nat) (Option.some Jvm.ClassFile.FieldType.boolean)) ∈ lw_all := lw_g (lw_at lw_m6 162 rfl) rfl
theorem q1509 : (Jvm.Cond.methodLink "RideDesk" (131 : Nat) ({ cls := "RideDesk", name := "end", desc := "(LRideDesk$State;ILRideDesk$Route;)I" } : Jvm.MethodName)) ∈ lw_all := lw_g (lw_at lw_m6 163 rfl) rfl
theorem q1510 : (Jvm.Cond.privateMethod ({ cls := "RideDesk", name := "end", desc := "(LRideDesk$State;ILRideDesk$Route;)I" } : Jvm.MethodName)) ∈ lw_tbl := lw_at lw_m6 164 rfl
theorem q1511 : (Jvm.Cond.instanceMethod ({ cls := "RideDesk", name := "end", desc := "(LRideDesk$State;ILRideDesk$Route;)I" } : Jvm.MethodName)) ∈ lw_all := lw_g (lw_at lw_m6 165 rfl) rfl
theorem q1512 : (Jvm.Cond.code ({ cls := "RideDesk", name := "end", desc := "(LRideDesk$State;ILRideDesk$Route;)I" } : Jvm.MethodName) prog_1_method_8_code (4 : Nat) (Option.some Jvm.ClassFile.FieldType.int)) ∈ lw_all := lw_g (lw_at lw_m6 166 rfl) rfl
theorem q1513 : (Jvm.Cond.methodLink "RideDesk" (247 : Nat) ({ cls := "RideDesk$Route", name := "placeOf", desc := "(IZ)I" } : Jvm.MethodName)) ∈ lw_all := lw_g (lw_at lw_m6 167 rfl) rfl
theorem q1518 : (Jvm.Cond.interfaceEntry "RideDesk" (338 : Nat)) ∈ lw_tbl := lw_at lw_m6 172 rfl
theorem q1529 : (Jvm.Cond.methodLink "RideDesk" (343 : Nat) ({ cls := "java/util/Arrays", name := "fill", desc := "([Ljava/lang/Object;Ljava/lang/Object;)V" } : Jvm.MethodName)) ∈ lw_all := lw_g (lw_at lw_m6 183 rfl) rfl
theorem q1532 : (Jvm.Cond.methodLink "RideDesk" (349 : Nat) ({ cls := "RideDesk", name := "inState", desc := "(I)I" } : Jvm.MethodName)) ∈ lw_all := lw_g (lw_at lw_m6 186 rfl) rfl
theorem q1533 : (Jvm.Cond.privateMethod ({ cls := "RideDesk", name := "inState", desc := "(I)I" } : Jvm.MethodName)) ∈ lw_tbl := lw_at lw_m6 187 rfl
theorem q1534 : (Jvm.Cond.instanceMethod ({ cls := "RideDesk", name := "inState", desc := "(I)I" } : Jvm.MethodName)) ∈ lw_all := lw_g (lw_at lw_m6 188 rfl) rfl
theorem q1535 : (Jvm.Cond.code ({ cls := "RideDesk", name := "inState", desc := "(I)I" } : Jvm.MethodName) prog_1_method_71_code (4 : Nat) (Option.some Jvm.ClassFile.FieldType.int)) ∈ lw_all := lw_g (lw_at lw_m6 189 rfl) rfl
theorem q1536 : (Jvm.Cond.classLink "RideDesk" (362 : Nat) "java/lang/IllegalArgumentException") ∈ lw_all := lw_g (lw_at lw_m6 190 rfl) rfl
theorem q1537 : (Jvm.Cond.methodLink "RideDesk" (364 : Nat) ({ cls := "java/lang/IllegalArgumentException", name := "<init>", desc := "()V" } : Jvm.MethodName)) ∈ lw_all := lw_g (lw_at lw_m6 191 rfl) rfl
theorem q1546 : (Jvm.Cond.instanceMethod ({ cls := "RideDesk", name := "until", desc := "(I)I" } : Jvm.MethodName)) ∈ lw_all := lw_g (lw_at lw_m6 200 rfl) rfl
theorem q1547 : (Jvm.Cond.selects "RideDesk" ({ cls := "RideDesk", name := "until", desc := "(I)I" } : Jvm.MethodName) ({ cls := "RideDesk", name := "until", desc := "(I)I" } : Jvm.MethodName)) ∈ lw_all := lw_g (lw_at lw_m6 201 rfl) rfl
theorem q1548 : (Jvm.Cond.code ({ cls := "RideDesk", name := "until", desc := "(I)I" } : Jvm.MethodName) prog_1_method_42_code (3 : Nat) (Option.some Jvm.ClassFile.FieldType.int)) ∈ lw_all := lw_g (lw_at lw_m6 202 rfl) rfl
theorem q1549 : (Jvm.Cond.methodLink "RideDesk" (378 : Nat) ({ cls := "RideDesk", name := "route", desc := "(I)LRideDesk$Route;" } : Jvm.MethodName)) ∈ lw_all := lw_g (lw_at lw_m6 203 rfl) rfl
theorem q1550 : (Jvm.Cond.privateMethod ({ cls := "RideDesk", name := "route", desc := "(I)LRideDesk$Route;" } : Jvm.MethodName)) ∈ lw_tbl := lw_at lw_m6 204 rfl
theorem q1551 : (Jvm.Cond.instanceMethod ({ cls := "RideDesk", name := "route", desc := "(I)LRideDesk$Route;" } : Jvm.MethodName)) ∈ lw_all := lw_g (lw_at lw_m6 205 rfl) rfl
theorem q1552 : (Jvm.Cond.code ({ cls := "RideDesk", name := "route", desc := "(I)LRideDesk$Route;" } : Jvm.MethodName) prog_1_method_37_code (3 : Nat) (Option.some (Jvm.ClassFile.FieldType.object "RideDesk$Route"))) ∈ lw_all := lw_g (lw_at lw_m6 206 rfl) rfl
theorem q1553 : (Jvm.Cond.methodLink "RideDesk" (375 : Nat) ({ cls := "RideDesk", name := "state", desc := "()LRideDesk$State;" } : Jvm.MethodName)) ∈ lw_all := lw_g (lw_at lw_m6 207 rfl) rfl
theorem q1554 : (Jvm.Cond.privateMethod ({ cls := "RideDesk", name := "state", desc := "()LRideDesk$State;" } : Jvm.MethodName)) ∈ lw_tbl := lw_at lw_m6 208 rfl
theorem q1555 : (Jvm.Cond.instanceMethod ({ cls := "RideDesk", name := "state", desc := "()LRideDesk$State;" } : Jvm.MethodName)) ∈ lw_all := lw_g (lw_at lw_m6 209 rfl) rfl
theorem q1556 : (Jvm.Cond.code ({ cls := "RideDesk", name := "state", desc := "()LRideDesk$State;" } : Jvm.MethodName) prog_1_method_36_code (1 : Nat) (Option.some (Jvm.ClassFile.FieldType.object "RideDesk$State"))) ∈ lw_all := lw_g (lw_at lw_m6 210 rfl) rfl
theorem q1557 : (Jvm.Cond.classLink "RideDesk" (372 : Nat) "java/lang/IllegalStateException") ∈ lw_all := lw_g (lw_at lw_m6 211 rfl) rfl
theorem q1566 : (Jvm.Cond.methodLink "RideDesk" (374 : Nat) ({ cls := "java/lang/IllegalStateException", name := "<init>", desc := "()V" } : Jvm.MethodName)) ∈ lw_all := lw_g (lw_at lw_m6 220 rfl) rfl
theorem q1576 : (Jvm.Cond.instanceMethod ({ cls := "RideDesk", name := "minutesBetween", desc := "(IIII)I" } : Jvm.MethodName)) ∈ lw_all := lw_g (lw_at lw_m6 230 rfl) rfl
theorem q1577 : (Jvm.Cond.selects "RideDesk" ({ cls := "RideDesk", name := "minutesBetween", desc := "(IIII)I" } : Jvm.MethodName) ({ cls := "RideDesk", name := "minutesBetween", desc := "(IIII)I" } : Jvm.MethodName)) ∈ lw_all := lw_g (lw_at lw_m6 231 rfl) rfl
theorem q1578 : (Jvm.Cond.code ({ cls := "RideDesk", name := "minutesBetween", desc := "(IIII)I" } : Jvm.MethodName) prog_1_method_43_code (6 : Nat) (Option.some Jvm.ClassFile.FieldType.int)) ∈ lw_all := lw_g (lw_at lw_m6 232 rfl) rfl
theorem q1579 : (Jvm.Cond.methodLink "RideDesk" (382 : Nat) ({ cls := "RideDesk$Spot", name := "isRight", desc := "([I)Z" } : Jvm.MethodName)) ∈ lw_all := lw_g (lw_at lw_m6 233 rfl) rfl
theorem q1583 : (Jvm.Cond.methodLink "RideDesk" (386 : Nat) ({ cls := "RideDesk", name := "checkRange", desc := "(Z)V" } : Jvm.MethodName)) ∈ lw_all := lw_g (lw_at lw_m6 237 rfl) rfl
theorem q1584 : (Jvm.Cond.static ({ cls := "RideDesk", name := "checkRange", desc := "(Z)V" } : Jvm.MethodName)) ∈ lw_all := lw_g (lw_at lw_m6 238 rfl) rfl
theorem q1585 : (Jvm.Cond.code ({ cls := "RideDesk", name := "checkRange", desc := "(Z)V" } : Jvm.MethodName) prog_1_method_35_code (1 : Nat) (Option.none : Option Jvm.ClassFile.FieldType)) ∈ lw_all := lw_g (lw_at lw_m6 239 rfl) rfl
theorem q1586 : (Jvm.Cond.methodLink "RideDesk" (389 : Nat) ({ cls := "RideDesk$Spot", name := "<init>", desc := "(II)V" } : Jvm.MethodName)) ∈ lw_all := lw_g (lw_at lw_m7 0 rfl) rfl
theorem q1591 : (Jvm.Cond.instanceMethod ({ cls := "RideDesk", name := "stops", desc := "(I)I" } : Jvm.MethodName)) ∈ lw_all := lw_g (lw_at lw_m7 5 rfl) rfl
theorem q1592 : (Jvm.Cond.selects "RideDesk" ({ cls := "RideDesk", name := "stops", desc := "(I)I" } : Jvm.MethodName) ({ cls := "RideDesk", name := "stops", desc := "(I)I" } : Jvm.MethodName)) ∈ lw_all := lw_g (lw_at lw_m7 6 rfl) rfl
theorem q1593 : (Jvm.Cond.code ({ cls := "RideDesk", name := "stops", desc := "(I)I" } : Jvm.MethodName) prog_1_method_44_code (2 : Nat) (Option.some Jvm.ClassFile.FieldType.int)) ∈ lw_all := lw_g (lw_at lw_m7 7 rfl) rfl
theorem q1598 : (Jvm.Cond.instanceMethod ({ cls := "RideDesk", name := "fixedStops", desc := "(I)I" } : Jvm.MethodName)) ∈ lw_all := lw_g (lw_at lw_m7 12 rfl) rfl
theorem q1599 : (Jvm.Cond.selects "RideDesk" ({ cls := "RideDesk", name := "fixedStops", desc := "(I)I" } : Jvm.MethodName) ({ cls := "RideDesk", name := "fixedStops", desc := "(I)I" } : Jvm.MethodName)) ∈ lw_all := lw_g (lw_at lw_m7 13 rfl) rfl
theorem q1600 : (Jvm.Cond.code ({ cls := "RideDesk", name := "fixedStops", desc := "(I)I" } : Jvm.MethodName) prog_1_method_45_code (3 : Nat) (Option.some Jvm.ClassFile.FieldType.int)) ∈ lw_all := lw_g (lw_at lw_m7 14 rfl) rfl
theorem q1605 : (Jvm.Cond.instanceMethod ({ cls := "RideDesk", name := "callAt", desc := "(II)I" } : Jvm.MethodName)) ∈ lw_all := lw_g (lw_at lw_m7 19 rfl) rfl
theorem q1606 : (Jvm.Cond.selects "RideDesk" ({ cls := "RideDesk", name := "callAt", desc := "(II)I" } : Jvm.MethodName) ({ cls := "RideDesk", name := "callAt", desc := "(II)I" } : Jvm.MethodName)) ∈ lw_all := lw_g (lw_at lw_m7 20 rfl) rfl
theorem q1607 : (Jvm.Cond.code ({ cls := "RideDesk", name := "callAt", desc := "(II)I" } : Jvm.MethodName) prog_1_method_46_code (3 : Nat) (Option.some Jvm.ClassFile.FieldType.int)) ∈ lw_all := lw_g (lw_at lw_m7 21 rfl) rfl
theorem q1608 : (Jvm.Cond.methodLink "RideDesk" (392 : Nat) ({ cls := "RideDesk", name := "routeAt", desc := "(II)LRideDesk$Route;" } : Jvm.MethodName)) ∈ lw_all := lw_g (lw_at lw_m7 22 rfl) rfl
theorem q1609 : (Jvm.Cond.privateMethod ({ cls := "RideDesk", name := "routeAt", desc := "(II)LRideDesk$Route;" } : Jvm.MethodName)) ∈ lw_tbl := lw_at lw_m7 23 rfl
theorem q1610 : (Jvm.Cond.instanceMethod ({ cls := "RideDesk", name := "routeAt", desc := "(II)LRideDesk$Route;" } : Jvm.MethodName)) ∈ lw_all := lw_g (lw_at lw_m7 24 rfl) rfl
theorem q1611 : (Jvm.Cond.code ({ cls := "RideDesk", name := "routeAt", desc := "(II)LRideDesk$Route;" } : Jvm.MethodName) prog_1_method_38_code (4 : Nat) (Option.some (Jvm.ClassFile.FieldType.object "RideDesk$Route"))) ∈ lw_all := lw_g (lw_at lw_m7 25 rfl) rfl
theorem q1616 : (Jvm.Cond.instanceMethod ({ cls := "RideDesk", name := "isPickup", desc := "(II)Z" } : Jvm.MethodName)) ∈ lw_all := lw_g (lw_at lw_m7 30 rfl) rfl
theorem q1617 : (Jvm.Cond.selects "RideDesk" ({ cls := "RideDesk", name := "isPickup", desc := "(II)Z" } : Jvm.MethodName) ({ cls := "RideDesk", name := "isPickup", desc := "(II)Z" } : Jvm.MethodName)) ∈ lw_all := lw_g (lw_at lw_m7 31 rfl) rfl
theorem q1618 : (Jvm.Cond.code ({ cls := "RideDesk", name := "isPickup", desc := "(II)Z" } : Jvm.MethodName) prog_1_method_47_code (3 : Nat) (Option.some Jvm.ClassFile.FieldType.boolean)) ∈ lw_all := lw_g (lw_at lw_m7 32 rfl) rfl
theorem q1623 : (Jvm.Cond.instanceMethod ({ cls := "RideDesk", name := "departureOf", desc := "(II)I" } : Jvm.MethodName)) ∈ lw_all := lw_g (lw_at lw_m7 37 rfl) rfl
theorem q1624 : (Jvm.Cond.selects "RideDesk" ({ cls := "RideDesk", name := "departureOf", desc := "(II)I" } : Jvm.MethodName) ({ cls := "RideDesk", name := "departureOf", desc := "(II)I" } : Jvm.MethodName)) ∈ lw_all := lw_g (lw_at lw_m7 38 rfl) rfl
theorem q1625 : (Jvm.Cond.code ({ cls := "RideDesk", name := "departureOf", desc := "(II)I" } : Jvm.MethodName) prog_1_method_48_code (3 : Nat) (Option.some Jvm.ClassFile.FieldType.int)) ∈ lw_all := lw_g (lw_at lw_m7 39 rfl) rfl
theorem q1630 : (Jvm.Cond.instanceMethod ({ cls := "RideDesk", name := "beginOf", desc := "(II)I" } : Jvm.MethodName)) ∈ lw_all := lw_g (lw_at lw_m7 44 rfl) rfl
theorem q1631 : (Jvm.Cond.selects "RideDesk" ({ cls := "RideDesk", name := "beginOf", desc := "(II)I" } : Jvm.MethodName) ({ cls := "RideDesk", name := "beginOf", desc := "(II)I" } : Jvm.MethodName)) ∈ lw_all := lw_g (lw_at lw_m7 45 rfl) rfl
theorem q1632 : (Jvm.Cond.code ({ cls := "RideDesk", name := "beginOf", desc := "(II)I" } : Jvm.MethodName) prog_1_method_49_code (3 : Nat) (Option.some Jvm.ClassFile.FieldType.int)) ∈ lw_all := lw_g (lw_at lw_m7 46 rfl) rfl
theorem q1637 : (Jvm.Cond.instanceMethod ({ cls := "RideDesk", name := "freeSeats", desc := "(II)I" } : Jvm.MethodName)) ∈ lw_all := lw_g (lw_at lw_m7 51 rfl) rfl
theorem q1638 : (Jvm.Cond.selects "RideDesk" ({ cls := "RideDesk", name := "freeSeats", desc := "(II)I" } : Jvm.MethodName) ({ cls := "RideDesk", name := "freeSeats", desc := "(II)I" } : Jvm.MethodName)) ∈ lw_all := lw_g (lw_at lw_m7 52 rfl) rfl
theorem q1639 : (Jvm.Cond.code ({ cls := "RideDesk", name := "freeSeats", desc := "(II)I" } : Jvm.MethodName) prog_1_method_51_code (4 : Nat) (Option.some Jvm.ClassFile.FieldType.int)) ∈ lw_all := lw_g (lw_at lw_m7 53 rfl) rfl
theorem q1640 : (Jvm.Cond.methodLink "RideDesk" (396 : Nat) ({ cls := "RideDesk", name := "needed", desc := "(LRideDesk$Route;IZ)I" } : Jvm.MethodName)) ∈ lw_all := lw_g (lw_at lw_m7 54 rfl) rfl
theorem q1641 : (Jvm.Cond.privateMethod ({ cls := "RideDesk", name := "needed", desc := "(LRideDesk$Route;IZ)I" } : Jvm.MethodName)) ∈ lw_tbl := lw_at lw_m7 55 rfl
theorem q1642 : (Jvm.Cond.instanceMethod ({ cls := "RideDesk", name := "needed", desc := "(LRideDesk$Route;IZ)I" } : Jvm.MethodName)) ∈ lw_all := lw_g (lw_at lw_m7 56 rfl) rfl
theorem q1643 : (Jvm.Cond.code ({ cls := "RideDesk", name := "needed", desc := "(LRideDesk$Route;IZ)I" } : Jvm.MethodName) prog_1_method_50_code (7 : Nat) (Option.some Jvm.ClassFile.FieldType.int)) ∈ lw_all := lw_g (lw_at lw_m7 57 rfl) rfl
theorem q1648 : (Jvm.Cond.instanceMethod ({ cls := "RideDesk", name := "freeWheels", desc := "(II)I" } : Jvm.MethodName)) ∈ lw_all := lw_g (lw_at lw_m7 62 rfl) rfl
theorem q1649 : (Jvm.Cond.selects "RideDesk" ({ cls := "RideDesk", name := "freeWheels", desc := "(II)I" } : Jvm.MethodName) ({ cls := "RideDesk", name := "freeWheels", desc := "(II)I" } : Jvm.MethodName)) ∈ lw_all := lw_g (lw_at lw_m7 63 rfl) rfl
theorem q1650 : (Jvm.Cond.code ({ cls := "RideDesk", name := "freeWheels", desc := "(II)I" } : Jvm.MethodName) prog_1_method_52_code (4 : Nat) (Option.some Jvm.ClassFile.FieldType.int)) ∈ lw_all := lw_g (lw_at lw_m7 64 rfl) rfl
theorem q1655 : (Jvm.Cond.instanceMethod ({ cls := "RideDesk", name := "slack", desc := "(II)I" } : Jvm.MethodName)) ∈ lw_all := lw_g (lw_at lw_m7 69 rfl) rfl
theorem q1656 : (Jvm.Cond.selects "RideDesk" ({ cls := "RideDesk", name := "slack", desc := "(II)I" } : Jvm.MethodName) ({ cls := "RideDesk", name := "slack", desc := "(II)I" } : Jvm.MethodName)) ∈ lw_all := lw_g (lw_at lw_m7 70 rfl) rfl
theorem q1657 : (Jvm.Cond.code ({ cls := "RideDesk", name := "slack", desc := "(II)I" } : Jvm.MethodName) prog_1_method_54_code (5 : Nat) (Option.some Jvm.ClassFile.FieldType.int)) ∈ lw_all := lw_g (lw_at lw_m7 71 rfl) rfl
theorem q1658 : (Jvm.Cond.methodLink "RideDesk" (400 : Nat) ({ cls := "RideDesk", name := "bears", desc := "(ILRideDesk$Route;II)Z" } : Jvm.MethodName)) ∈ lw_all := lw_g (lw_at lw_m7 72 rfl) rfl
theorem q1659 : (Jvm.Cond.privateMethod ({ cls := "RideDesk", name := "bears", desc := "(ILRideDesk$Route;II)Z" } : Jvm.MethodName)) ∈ lw_tbl := lw_at lw_m7 73 rfl
theorem q1660 : (Jvm.Cond.instanceMethod ({ cls := "RideDesk", name := "bears", desc := "(ILRideDesk$Route;II)Z" } : Jvm.MethodName)) ∈ lw_all := lw_g (lw_at lw_m7 74 rfl) rfl
theorem q1661 : (Jvm.Cond.code ({ cls := "RideDesk", name := "bears", desc := "(ILRideDesk$Route;II)Z" } : Jvm.MethodName) prog_1_method_53_code (6 : Nat) (Option.some Jvm.ClassFile.FieldType.boolean)) ∈ lw_all := lw_g (lw_at lw_m7 75 rfl) rfl
theorem q1666 : (Jvm.Cond.instanceMethod ({ cls := "RideDesk", name := "endOf", desc := "(I)I" } : Jvm.MethodName)) ∈ lw_all := lw_g (lw_at lw_m7 80 rfl) rfl
theorem q1667 : (Jvm.Cond.selects "RideDesk" ({ cls := "RideDesk", name := "endOf", desc := "(I)I" } : Jvm.MethodName) ({ cls := "RideDesk", name := "endOf", desc := "(I)I" } : Jvm.MethodName)) ∈ lw_all := lw_g (lw_at lw_m7 81 rfl) rfl
theorem q1668 : (Jvm.Cond.code ({ cls := "RideDesk", name := "endOf", desc := "(I)I" } : Jvm.MethodName) prog_1_method_55_code (3 : Nat) (Option.some Jvm.ClassFile.FieldType.int)) ∈ lw_all := lw_g (lw_at lw_m7 82 rfl) rfl
theorem q1673 : (Jvm.Cond.instanceMethod ({ cls := "RideDesk", name := "driving", desc := "(I)I" } : Jvm.MethodName)) ∈ lw_all := lw_g (lw_at lw_m7 87 rfl) rfl
theorem q1674 : (Jvm.Cond.selects "RideDesk" ({ cls := "RideDesk", name := "driving", desc := "(I)I" } : Jvm.MethodName) ({ cls := "RideDesk", name := "driving", desc := "(I)I" } : Jvm.MethodName)) ∈ lw_all := lw_g (lw_at lw_m7 88 rfl) rfl
theorem q1675 : (Jvm.Cond.code ({ cls := "RideDesk", name := "driving", desc := "(I)I" } : Jvm.MethodName) prog_1_method_56_code (2 : Nat) (Option.some Jvm.ClassFile.FieldType.int)) ∈ lw_all := lw_g (lw_at lw_m7 89 rfl) rfl
theorem q1680 : (Jvm.Cond.instanceMethod ({ cls := "RideDesk", name := "busiest", desc := "(I)I" } : Jvm.MethodName)) ∈ lw_all := lw_g (lw_at lw_m7 94 rfl) rfl
theorem q1681 : (Jvm.Cond.selects "RideDesk" ({ cls := "RideDesk", name := "busiest", desc := "(I)I" } : Jvm.MethodName) ({ cls := "RideDesk", name := "busiest", desc := "(I)I" } : Jvm.MethodName)) ∈ lw_all := lw_g (lw_at lw_m7 95 rfl) rfl
theorem q1682 : (Jvm.Cond.code ({ cls := "RideDesk", name := "busiest", desc := "(I)I" } : Jvm.MethodName) prog_1_method_58_code (7 : Nat) (Option.some Jvm.ClassFile.FieldType.int)) ∈ lw_all := lw_g (lw_at lw_m7 96 rfl) rfl
theorem q1683 : (Jvm.Cond.methodLink "RideDesk" (404 : Nat) ({ cls := "RideDesk", name := "isBusier", desc := "(II)Z" } : Jvm.MethodName)) ∈ lw_all := lw_g (lw_at lw_m7 97 rfl) rfl
theorem q1684 : (Jvm.Cond.privateMethod ({ cls := "RideDesk", name := "isBusier", desc := "(II)Z" } : Jvm.MethodName)) ∈ lw_tbl := lw_at lw_m7 98 rfl
theorem q1685 : (Jvm.Cond.instanceMethod ({ cls := "RideDesk", name := "isBusier", desc := "(II)Z" } : Jvm.MethodName)) ∈ lw_all := lw_g (lw_at lw_m7 99 rfl) rfl
theorem q1686 : (Jvm.Cond.code ({ cls := "RideDesk", name := "isBusier", desc := "(II)Z" } : Jvm.MethodName) prog_1_method_57_code (5 : Nat) (Option.some Jvm.ClassFile.FieldType.boolean)) ∈ lw_all := lw_g (lw_at lw_m7 100 rfl) rfl
theorem q1691 : (Jvm.Cond.instanceMethod ({ cls := "RideDesk", name := "stateOf", desc := "(I)I" } : Jvm.MethodName)) ∈ lw_all := lw_g (lw_at lw_m7 105 rfl) rfl
theorem q1692 : (Jvm.Cond.selects "RideDesk" ({ cls := "RideDesk", name := "stateOf", desc := "(I)I" } : Jvm.MethodName) ({ cls := "RideDesk", name := "stateOf", desc := "(I)I" } : Jvm.MethodName)) ∈ lw_all := lw_g (lw_at lw_m7 106 rfl) rfl
theorem q1693 : (Jvm.Cond.code ({ cls := "RideDesk", name := "stateOf", desc := "(I)I" } : Jvm.MethodName) prog_1_method_60_code (2 : Nat) (Option.some Jvm.ClassFile.FieldType.int)) ∈ lw_all := lw_g (lw_at lw_m7 107 rfl) rfl
theorem q1694 : (Jvm.Cond.methodLink "RideDesk" (408 : Nat) ({ cls := "RideDesk", name := "stateOfCall", desc := "(I)LRideDesk$State;" } : Jvm.MethodName)) ∈ lw_all := lw_g (lw_at lw_m7 108 rfl) rfl
theorem q1695 : (Jvm.Cond.privateMethod ({ cls := "RideDesk", name := "stateOfCall", desc := "(I)LRideDesk$State;" } : Jvm.MethodName)) ∈ lw_tbl := lw_at lw_m7 109 rfl
theorem q1696 : (Jvm.Cond.instanceMethod ({ cls := "RideDesk", name := "stateOfCall", desc := "(I)LRideDesk$State;" } : Jvm.MethodName)) ∈ lw_all := lw_g (lw_at lw_m7 110 rfl) rfl
theorem q1697 : (Jvm.Cond.code ({ cls := "RideDesk", name := "stateOfCall", desc := "(I)LRideDesk$State;" } : Jvm.MethodName) prog_1_method_39_code (3 : Nat) (Option.some (Jvm.ClassFile.FieldType.object "RideDesk$State"))) ∈ lw_all := lw_g (lw_at lw_m7 111 rfl) rfl
theorem q1702 : (Jvm.Cond.instanceMethod ({ cls := "RideDesk", name := "vanOf", desc := "(I)I" } : Jvm.MethodName)) ∈ lw_all := lw_g (lw_at lw_m7 116 rfl) rfl
theorem q1703 : (Jvm.Cond.selects "RideDesk" ({ cls := "RideDesk", name := "vanOf", desc := "(I)I" } : Jvm.MethodName) ({ cls := "RideDesk", name := "vanOf", desc := "(I)I" } : Jvm.MethodName)) ∈ lw_all := lw_g (lw_at lw_m7 117 rfl) rfl
theorem q1704 : (Jvm.Cond.code ({ cls := "RideDesk", name := "vanOf", desc := "(I)I" } : Jvm.MethodName) prog_1_method_61_code (2 : Nat) (Option.some Jvm.ClassFile.FieldType.int)) ∈ lw_all := lw_g (lw_at lw_m7 118 rfl) rfl
theorem q1705 : (Jvm.Cond.methodLink "RideDesk" (280 : Nat) ({ cls := "RideDesk", name := "vanOf", desc := "(LRideDesk$State;I)I" } : Jvm.MethodName)) ∈ lw_all := lw_g (lw_at lw_m7 119 rfl) rfl
theorem q1706 : (Jvm.Cond.privateMethod ({ cls := "RideDesk", name := "vanOf", desc := "(LRideDesk$State;I)I" } : Jvm.MethodName)) ∈ lw_tbl := lw_at lw_m7 120 rfl
theorem q1707 : (Jvm.Cond.instanceMethod ({ cls := "RideDesk", name := "vanOf", desc := "(LRideDesk$State;I)I" } : Jvm.MethodName)) ∈ lw_all := lw_g (lw_at lw_m7 121 rfl) rfl
theorem q1708 : (Jvm.Cond.code ({ cls := "RideDesk", name := "vanOf", desc := "(LRideDesk$State;I)I" } : Jvm.MethodName) prog_1_method_21_code (4 : Nat) (Option.some Jvm.ClassFile.FieldType.int)) ∈ lw_all := lw_g (lw_at lw_m7 122 rfl) rfl
theorem q1713 : (Jvm.Cond.instanceMethod ({ cls := "RideDesk", name := "pickupTime", desc := "(I)I" } : Jvm.MethodName)) ∈ lw_all := lw_g (lw_at lw_m7 127 rfl) rfl
theorem q1714 : (Jvm.Cond.selects "RideDesk" ({ cls := "RideDesk", name := "pickupTime", desc := "(I)I" } : Jvm.MethodName) ({ cls := "RideDesk", name := "pickupTime", desc := "(I)I" } : Jvm.MethodName)) ∈ lw_all := lw_g (lw_at lw_m7 128 rfl) rfl
theorem q1715 : (Jvm.Cond.code ({ cls := "RideDesk", name := "pickupTime", desc := "(I)I" } : Jvm.MethodName) prog_1_method_63_code (2 : Nat) (Option.some Jvm.ClassFile.FieldType.int)) ∈ lw_all := lw_g (lw_at lw_m7 129 rfl) rfl
theorem q1716 : (Jvm.Cond.methodLink "RideDesk" (412 : Nat) ({ cls := "RideDesk", name := "beginBy", desc := "(LRideDesk$State;IZ)I" } : Jvm.MethodName)) ∈ lw_all := lw_g (lw_at lw_m7 130 rfl) rfl
theorem q1717 : (Jvm.Cond.privateMethod ({ cls := "RideDesk", name := "beginBy", desc := "(LRideDesk$State;IZ)I" } : Jvm.MethodName)) ∈ lw_tbl := lw_at lw_m7 131 rfl
theorem q1718 : (Jvm.Cond.instanceMethod ({ cls := "RideDesk", name := "beginBy", desc := "(LRideDesk$State;IZ)I" } : Jvm.MethodName)) ∈ lw_all := lw_g (lw_at lw_m7 132 rfl) rfl
theorem q1719 : (Jvm.Cond.code ({ cls := "RideDesk", name := "beginBy", desc := "(LRideDesk$State;IZ)I" } : Jvm.MethodName) prog_1_method_62_code (5 : Nat) (Option.some Jvm.ClassFile.FieldType.int)) ∈ lw_all := lw_g (lw_at lw_m7 133 rfl) rfl
theorem q1724 : (Jvm.Cond.instanceMethod ({ cls := "RideDesk", name := "dropTime", desc := "(I)I" } : Jvm.MethodName)) ∈ lw_all := lw_g (lw_at lw_m7 138 rfl) rfl
theorem q1725 : (Jvm.Cond.selects "RideDesk" ({ cls := "RideDesk", name := "dropTime", desc := "(I)I" } : Jvm.MethodName) ({ cls := "RideDesk", name := "dropTime", desc := "(I)I" } : Jvm.MethodName)) ∈ lw_all := lw_g (lw_at lw_m7 139 rfl) rfl
theorem q1726 : (Jvm.Cond.code ({ cls := "RideDesk", name := "dropTime", desc := "(I)I" } : Jvm.MethodName) prog_1_method_64_code (2 : Nat) (Option.some Jvm.ClassFile.FieldType.int)) ∈ lw_all := lw_g (lw_at lw_m7 140 rfl) rfl
theorem q1731 : (Jvm.Cond.instanceMethod ({ cls := "RideDesk", name := "rideOf", desc := "(I)I" } : Jvm.MethodName)) ∈ lw_all := lw_g (lw_at lw_m7 145 rfl) rfl
theorem q1732 : (Jvm.Cond.selects "RideDesk" ({ cls := "RideDesk", name := "rideOf", desc := "(I)I" } : Jvm.MethodName) ({ cls := "RideDesk", name := "rideOf", desc := "(I)I" } : Jvm.MethodName)) ∈ lw_all := lw_g (lw_at lw_m7 146 rfl) rfl
theorem q1733 : (Jvm.Cond.code ({ cls := "RideDesk", name := "rideOf", desc := "(I)I" } : Jvm.MethodName) prog_1_method_66_code (2 : Nat) (Option.some Jvm.ClassFile.FieldType.int)) ∈ lw_all := lw_g (lw_at lw_m7 147 rfl) rfl
theorem q1734 : (Jvm.Cond.methodLink "RideDesk" (416 : Nat) ({ cls := "RideDesk", name := "ride", desc := "(LRideDesk$State;I)I" } : Jvm.MethodName)) ∈ lw_all := lw_g (lw_at lw_m7 148 rfl) rfl
theorem q1735 : (Jvm.Cond.privateMethod ({ cls := "RideDesk", name := "ride", desc := "(LRideDesk$State;I)I" } : Jvm.MethodName)) ∈ lw_tbl := lw_at lw_m7 149 rfl
theorem q1736 : (Jvm.Cond.instanceMethod ({ cls := "RideDesk", name := "ride", desc := "(LRideDesk$State;I)I" } : Jvm.MethodName)) ∈ lw_all := lw_g (lw_at lw_m7 150 rfl) rfl
theorem q1737 : (Jvm.Cond.code ({ cls := "RideDesk", name := "ride", desc := "(LRideDesk$State;I)I" } : Jvm.MethodName) prog_1_method_65_code (4 : Nat) (Option.some Jvm.ClassFile.FieldType.int)) ∈ lw_all := lw_g (lw_at lw_m7 151 rfl) rfl
theorem q1742 : (Jvm.Cond.instanceMethod ({ cls := "RideDesk", name := "rideLimit", desc := "(I)I" } : Jvm.MethodName)) ∈ lw_all := lw_g (lw_at lw_m7 156 rfl) rfl
theorem q1743 : (Jvm.Cond.selects "RideDesk" ({ cls := "RideDesk", name := "rideLimit", desc := "(I)I" } : Jvm.MethodName) ({ cls := "RideDesk", name := "rideLimit", desc := "(I)I" } : Jvm.MethodName)) ∈ lw_all := lw_g (lw_at lw_m7 157 rfl) rfl
theorem q1744 : (Jvm.Cond.code ({ cls := "RideDesk", name := "rideLimit", desc := "(I)I" } : Jvm.MethodName) prog_1_method_67_code (2 : Nat) (Option.some Jvm.ClassFile.FieldType.int)) ∈ lw_all := lw_g (lw_at lw_m7 158 rfl) rfl
theorem q1749 : (Jvm.Cond.instanceMethod ({ cls := "RideDesk", name := "readyOf", desc := "(I)I" } : Jvm.MethodName)) ∈ lw_all := lw_g (lw_at lw_m7 163 rfl) rfl
theorem q1750 : (Jvm.Cond.selects "RideDesk" ({ cls := "RideDesk", name := "readyOf", desc := "(I)I" } : Jvm.MethodName) ({ cls := "RideDesk", name := "readyOf", desc := "(I)I" } : Jvm.MethodName)) ∈ lw_all := lw_g (lw_at lw_m7 164 rfl) rfl
theorem q1751 : (Jvm.Cond.code ({ cls := "RideDesk", name := "readyOf", desc := "(I)I" } : Jvm.MethodName) prog_1_method_68_code (2 : Nat) (Option.some Jvm.ClassFile.FieldType.int)) ∈ lw_all := lw_g (lw_at lw_m7 165 rfl) rfl
theorem q1756 : (Jvm.Cond.instanceMethod ({ cls := "RideDesk", name := "promiseOf", desc := "(I)I" } : Jvm.MethodName)) ∈ lw_all := lw_g (lw_at lw_m7 170 rfl) rfl
theorem q1757 : (Jvm.Cond.selects "RideDesk" ({ cls := "RideDesk", name := "promiseOf", desc := "(I)I" } : Jvm.MethodName) ({ cls := "RideDesk", name := "promiseOf", desc := "(I)I" } : Jvm.MethodName)) ∈ lw_all := lw_g (lw_at lw_m7 171 rfl) rfl
theorem q1758 : (Jvm.Cond.code ({ cls := "RideDesk", name := "promiseOf", desc := "(I)I" } : Jvm.MethodName) prog_1_method_69_code (2 : Nat) (Option.some Jvm.ClassFile.FieldType.int)) ∈ lw_all := lw_g (lw_at lw_m7 172 rfl) rfl
theorem q1763 : (Jvm.Cond.instanceMethod ({ cls := "RideDesk", name := "creditOf", desc := "(I)I" } : Jvm.MethodName)) ∈ lw_all := lw_g (lw_at lw_m7 177 rfl) rfl
theorem q1764 : (Jvm.Cond.selects "RideDesk" ({ cls := "RideDesk", name := "creditOf", desc := "(I)I" } : Jvm.MethodName) ({ cls := "RideDesk", name := "creditOf", desc := "(I)I" } : Jvm.MethodName)) ∈ lw_all := lw_g (lw_at lw_m7 178 rfl) rfl
theorem q1765 : (Jvm.Cond.code ({ cls := "RideDesk", name := "creditOf", desc := "(I)I" } : Jvm.MethodName) prog_1_method_70_code (2 : Nat) (Option.some Jvm.ClassFile.FieldType.int)) ∈ lw_all := lw_g (lw_at lw_m7 179 rfl) rfl
theorem q1770 : (Jvm.Cond.instanceMethod ({ cls := "RideDesk", name := "callsIn", desc := "(I)I" } : Jvm.MethodName)) ∈ lw_all := lw_g (lw_at lw_m7 184 rfl) rfl
theorem q1771 : (Jvm.Cond.selects "RideDesk" ({ cls := "RideDesk", name := "callsIn", desc := "(I)I" } : Jvm.MethodName) ({ cls := "RideDesk", name := "callsIn", desc := "(I)I" } : Jvm.MethodName)) ∈ lw_all := lw_g (lw_at lw_m7 185 rfl) rfl
theorem q1772 : (Jvm.Cond.code ({ cls := "RideDesk", name := "callsIn", desc := "(I)I" } : Jvm.MethodName) prog_1_method_72_code (3 : Nat) (Option.some Jvm.ClassFile.FieldType.int)) ∈ lw_all := lw_g (lw_at lw_m7 186 rfl) rfl
theorem q1777 : (Jvm.Cond.instanceMethod ({ cls := "RideDesk", name := "meanDetour", desc := "()F" } : Jvm.MethodName)) ∈ lw_all := lw_g (lw_at lw_m7 191 rfl) rfl
theorem q1778 : (Jvm.Cond.selects "RideDesk" ({ cls := "RideDesk", name := "meanDetour", desc := "()F" } : Jvm.MethodName) ({ cls := "RideDesk", name := "meanDetour", desc := "()F" } : Jvm.MethodName)) ∈ lw_all := lw_g (lw_at lw_m7 192 rfl) rfl
theorem q1779 : (Jvm.Cond.code ({ cls := "RideDesk", name := "meanDetour", desc := "()F" } : Jvm.MethodName) prog_1_method_75_code (6 : Nat) (Option.some Jvm.ClassFile.FieldType.float)) ∈ lw_all := lw_g (lw_at lw_m7 193 rfl) rfl
theorem q1784 : (Jvm.Cond.instanceMethod ({ cls := "RideDesk", name := "occupancy", desc := "(I)F" } : Jvm.MethodName)) ∈ lw_all := lw_g (lw_at lw_m7 198 rfl) rfl
theorem q1785 : (Jvm.Cond.selects "RideDesk" ({ cls := "RideDesk", name := "occupancy", desc := "(I)F" } : Jvm.MethodName) ({ cls := "RideDesk", name := "occupancy", desc := "(I)F" } : Jvm.MethodName)) ∈ lw_all := lw_g (lw_at lw_m7 199 rfl) rfl
theorem q1786 : (Jvm.Cond.code ({ cls := "RideDesk", name := "occupancy", desc := "(I)F" } : Jvm.MethodName) prog_1_method_76_code (8 : Nat) (Option.some Jvm.ClassFile.FieldType.float)) ∈ lw_all := lw_g (lw_at lw_m7 200 rfl) rfl
theorem q1787 : (Jvm.Cond.methodLink "RideDesk" (423 : Nat) ({ cls := "RideDesk$Route", name := "iterator", desc := "()Ljava/util/Iterator;" } : Jvm.MethodName)) ∈ lw_all := lw_g (lw_at lw_m7 201 rfl) rfl
theorem q1804 : (Jvm.Cond.interfaceEntry "RideDesk" (427 : Nat)) ∈ lw_tbl := lw_at lw_m7 218 rfl
theorem q1805 : (Jvm.Cond.methodLink "RideDesk" (427 : Nat) ({ cls := "java/util/Iterator", name := "hasNext", desc := "()Z" } : Jvm.MethodName)) ∈ lw_all := lw_g (lw_at lw_m7 219 rfl) rfl
theorem q1814 : (Jvm.Cond.interfaceEntry "RideDesk" (433 : Nat)) ∈ lw_tbl := lw_at lw_m7 228 rfl
theorem q1815 : (Jvm.Cond.methodLink "RideDesk" (433 : Nat) ({ cls := "java/util/Iterator", name := "next", desc := "()Ljava/lang/Object;" } : Jvm.MethodName)) ∈ lw_all := lw_g (lw_at lw_m7 229 rfl) rfl
theorem q1842 : (Jvm.Cond.classLink "RideDesk" (38 : Nat) "RideDesk$Stop") ∈ lw_all := lw_g (lw_at lw_m8 16 rfl) rfl
theorem q1847 : (Jvm.Cond.instanceMethod ({ cls := "RideDesk", name := "offer", desc := "(IIIIII)I" } : Jvm.MethodName)) ∈ lw_all := lw_g (lw_at lw_m8 21 rfl) rfl
theorem q1848 : (Jvm.Cond.selects "RideDesk" ({ cls := "RideDesk", name := "offer", desc := "(IIIIII)I" } : Jvm.MethodName) ({ cls := "RideDesk", name := "offer", desc := "(IIIIII)I" } : Jvm.MethodName)) ∈ lw_all := lw_g (lw_at lw_m8 22 rfl) rfl
theorem q1849 : (Jvm.Cond.code ({ cls := "RideDesk", name := "offer", desc := "(IIIIII)I" } : Jvm.MethodName) prog_1_method_80_code (8 : Nat) (Option.some Jvm.ClassFile.FieldType.int)) ∈ lw_all := lw_g (lw_at lw_m8 23 rfl) rfl
theorem q1850 : (Jvm.Cond.methodLink "RideDesk" (444 : Nat) ({ cls := "RideDesk", name := "isRequest", desc := "(IIIIII)Z" } : Jvm.MethodName)) ∈ lw_all := lw_g (lw_at lw_m8 24 rfl) rfl
theorem q1851 : (Jvm.Cond.static ({ cls := "RideDesk", name := "isRequest", desc := "(IIIIII)Z" } : Jvm.MethodName)) ∈ lw_all := lw_g (lw_at lw_m8 25 rfl) rfl
theorem q1852 : (Jvm.Cond.code ({ cls := "RideDesk", name := "isRequest", desc := "(IIIIII)Z" } : Jvm.MethodName) prog_1_method_77_code (6 : Nat) (Option.some Jvm.ClassFile.FieldType.boolean)) ∈ lw_all := lw_g (lw_at lw_m8 26 rfl) rfl
theorem q1853 : (Jvm.Cond.methodLink "RideDesk" (448 : Nat) ({ cls := "RideDesk", name := "callOf", desc := "(IIIII)LRideDesk$Call;" } : Jvm.MethodName)) ∈ lw_all := lw_g (lw_at lw_m8 27 rfl) rfl
theorem q1854 : (Jvm.Cond.privateMethod ({ cls := "RideDesk", name := "callOf", desc := "(IIIII)LRideDesk$Call;" } : Jvm.MethodName)) ∈ lw_tbl := lw_at lw_m8 28 rfl
theorem q1855 : (Jvm.Cond.instanceMethod ({ cls := "RideDesk", name := "callOf", desc := "(IIIII)LRideDesk$Call;" } : Jvm.MethodName)) ∈ lw_all := lw_g (lw_at lw_m8 29 rfl) rfl
theorem q1856 : (Jvm.Cond.code ({ cls := "RideDesk", name := "callOf", desc := "(IIIII)LRideDesk$Call;" } : Jvm.MethodName) prog_1_method_78_code (6 : Nat) (Option.some (Jvm.ClassFile.FieldType.object "RideDesk$Call"))) ∈ lw_all := lw_g (lw_at lw_m8 30 rfl) rfl
theorem q1857 : (Jvm.Cond.classLink "RideDesk" (65 : Nat) "RideDesk$Call") ∈ lw_all := lw_g (lw_at lw_m8 31 rfl) rfl
theorem q1858 : (Jvm.Cond.methodLink "RideDesk" (437 : Nat) ({ cls := "RideDesk$Kind", name := "values", desc := "()[LRideDesk$Kind;" } : Jvm.MethodName)) ∈ lw_all := lw_g (lw_at lw_m8 32 rfl) rfl
theorem q1869 : (Jvm.Cond.methodLink "RideDesk" (441 : Nat) ({ cls := "RideDesk$Call", name := "<init>", desc := "(LRideDesk$Spot;LRideDesk$Spot;LRideDesk$Kind;LRideDesk$Plan;)V" } : Jvm.MethodName)) ∈ lw_all := lw_g (lw_at lw_m8 43 rfl) rfl
theorem q1870 : (Jvm.Cond.methodLink "RideDesk" (452 : Nat) ({ cls := "RideDesk", name := "wouldFit", desc := "(LRideDesk$Call;I)Z" } : Jvm.MethodName)) ∈ lw_all := lw_g (lw_at lw_m8 44 rfl) rfl
theorem q1871 : (Jvm.Cond.privateMethod ({ cls := "RideDesk", name := "wouldFit", desc := "(LRideDesk$Call;I)Z" } : Jvm.MethodName)) ∈ lw_tbl := lw_at lw_m8 45 rfl
theorem q1872 : (Jvm.Cond.instanceMethod ({ cls := "RideDesk", name := "wouldFit", desc := "(LRideDesk$Call;I)Z" } : Jvm.MethodName)) ∈ lw_all := lw_g (lw_at lw_m8 46 rfl) rfl
theorem q1873 : (Jvm.Cond.code ({ cls := "RideDesk", name := "wouldFit", desc := "(LRideDesk$Call;I)Z" } : Jvm.MethodName) prog_1_method_79_code (3 : Nat) (Option.some Jvm.ClassFile.FieldType.boolean)) ∈ lw_all := lw_g (lw_at lw_m8 47 rfl) rfl
theorem q1878 : (Jvm.Cond.instanceMethod ({ cls := "RideDesk", name := "offeredVan", desc := "(IIIIII)I" } : Jvm.MethodName)) ∈ lw_all := lw_g (lw_at lw_m8 52 rfl) rfl
theorem q1879 : (Jvm.Cond.selects "RideDesk" ({ cls := "RideDesk", name := "offeredVan", desc := "(IIIIII)I" } : Jvm.MethodName) ({ cls := "RideDesk", name := "offeredVan", desc := "(IIIIII)I" } : Jvm.MethodName)) ∈ lw_all := lw_g (lw_at lw_m8 53 rfl) rfl
theorem q1880 : (Jvm.Cond.code ({ cls := "RideDesk", name := "offeredVan", desc := "(IIIIII)I" } : Jvm.MethodName) prog_1_method_81_code (8 : Nat) (Option.some Jvm.ClassFile.FieldType.int)) ∈ lw_all := lw_g (lw_at lw_m8 54 rfl) rfl
theorem q1885 : (Jvm.Cond.instanceMethod ({ cls := "RideDesk", name := "soonest", desc := "(IIIIII)I" } : Jvm.MethodName)) ∈ lw_all := lw_g (lw_at lw_m8 59 rfl) rfl
theorem q1886 : (Jvm.Cond.selects "RideDesk" ({ cls := "RideDesk", name := "soonest", desc := "(IIIIII)I" } : Jvm.MethodName) ({ cls := "RideDesk", name := "soonest", desc := "(IIIIII)I" } : Jvm.MethodName)) ∈ lw_all := lw_g (lw_at lw_m8 60 rfl) rfl
theorem q1887 : (Jvm.Cond.code ({ cls := "RideDesk", name := "soonest", desc := "(IIIIII)I" } : Jvm.MethodName) prog_1_method_82_code (11 : Nat) (Option.some Jvm.ClassFile.FieldType.int)) ∈ lw_all := lw_g (lw_at lw_m8 61 rfl) rfl
theorem q1888 : (Jvm.Cond.methodLink "RideDesk" (255 : Nat) ({ cls := "java/lang/Math", name := "min", desc := "(II)I" } : Jvm.MethodName)) ∈ lw_all := lw_g (lw_at lw_m8 62 rfl) rfl
theorem q1893 : (Jvm.Cond.instanceMethod ({ cls := "RideDesk", name := "lateCalls", desc := "()I" } : Jvm.MethodName)) ∈ lw_all := lw_g (lw_at lw_m8 67 rfl) rfl
theorem q1894 : (Jvm.Cond.selects "RideDesk" ({ cls := "RideDesk", name := "lateCalls", desc := "()I" } : Jvm.MethodName) ({ cls := "RideDesk", name := "lateCalls", desc := "()I" } : Jvm.MethodName)) ∈ lw_all := lw_g (lw_at lw_m8 68 rfl) rfl
theorem q1895 : (Jvm.Cond.code ({ cls := "RideDesk", name := "lateCalls", desc := "()I" } : Jvm.MethodName) prog_1_method_84_code (4 : Nat) (Option.some Jvm.ClassFile.FieldType.int)) ∈ lw_all := lw_g (lw_at lw_m8 69 rfl) rfl
theorem q1896 : (Jvm.Cond.methodLink "RideDesk" (459 : Nat) ({ cls := "RideDesk", name := "lateness", desc := "(LRideDesk$State;I)I" } : Jvm.MethodName)) ∈ lw_all := lw_g (lw_at lw_m8 70 rfl) rfl
theorem q1897 : (Jvm.Cond.privateMethod ({ cls := "RideDesk", name := "lateness", desc := "(LRideDesk$State;I)I" } : Jvm.MethodName)) ∈ lw_tbl := lw_at lw_m8 71 rfl
theorem q1898 : (Jvm.Cond.instanceMethod ({ cls := "RideDesk", name := "lateness", desc := "(LRideDesk$State;I)I" } : Jvm.MethodName)) ∈ lw_all := lw_g (lw_at lw_m8 72 rfl) rfl
theorem q1899 : (Jvm.Cond.code ({ cls := "RideDesk", name := "lateness", desc := "(LRideDesk$State;I)I" } : Jvm.MethodName) prog_1_method_83_code (3 : Nat) (Option.some Jvm.ClassFile.FieldType.int)) ∈ lw_all := lw_g (lw_at lw_m8 73 rfl) rfl
theorem q1904 : (Jvm.Cond.instanceMethod ({ cls := "RideDesk", name := "expectedCredits", desc := "()I" } : Jvm.MethodName)) ∈ lw_all := lw_g (lw_at lw_m8 78 rfl) rfl
theorem q1905 : (Jvm.Cond.selects "RideDesk" ({ cls := "RideDesk", name := "expectedCredits", desc := "()I" } : Jvm.MethodName) ({ cls := "RideDesk", name := "expectedCredits", desc := "()I" } : Jvm.MethodName)) ∈ lw_all := lw_g (lw_at lw_m8 79 rfl) rfl
theorem q1906 : (Jvm.Cond.code ({ cls := "RideDesk", name := "expectedCredits", desc := "()I" } : Jvm.MethodName) prog_1_method_85_code (4 : Nat) (Option.some Jvm.ClassFile.FieldType.int)) ∈ lw_all := lw_g (lw_at lw_m8 80 rfl) rfl
theorem q1907 : (Jvm.Cond.methodLink "RideDesk" (462 : Nat) ({ cls := "RideDesk", name := "credits", desc := "()I" } : Jvm.MethodName)) ∈ lw_all := lw_g (lw_at lw_m8 81 rfl) rfl
theorem q1908 : (Jvm.Cond.methodLink "RideDesk" (465 : Nat) ({ cls := "RideDesk", name := "lateCalls", desc := "()I" } : Jvm.MethodName)) ∈ lw_all := lw_g (lw_at lw_m8 82 rfl) rfl
theorem q1909 : (Jvm.Cond.methodLink "RideDesk" (265 : Nat) ({ cls := "java/lang/Integer", name := "numberOfTrailingZeros", desc := "(I)I" } : Jvm.MethodName)) ∈ lw_all := lw_g (lw_at lw_m8 83 rfl) rfl
theorem q1917 : (Jvm.Cond.instanceMethod ({ cls := "RideDesk", name := "freeVan", desc := "(II)I" } : Jvm.MethodName)) ∈ lw_all := lw_g (lw_at lw_m8 91 rfl) rfl
theorem q1918 : (Jvm.Cond.selects "RideDesk" ({ cls := "RideDesk", name := "freeVan", desc := "(II)I" } : Jvm.MethodName) ({ cls := "RideDesk", name := "freeVan", desc := "(II)I" } : Jvm.MethodName)) ∈ lw_all := lw_g (lw_at lw_m8 92 rfl) rfl
theorem q1919 : (Jvm.Cond.code ({ cls := "RideDesk", name := "freeVan", desc := "(II)I" } : Jvm.MethodName) prog_1_method_87_code (8 : Nat) (Option.some Jvm.ClassFile.FieldType.int)) ∈ lw_all := lw_g (lw_at lw_m8 93 rfl) rfl
theorem q1920 : (Jvm.Cond.methodLink "RideDesk" (481 : Nat) ({ cls := "RideDesk", name := "freeAt", desc := "(IILRideDesk$Kind;)I" } : Jvm.MethodName)) ∈ lw_all := lw_g (lw_at lw_m8 94 rfl) rfl
theorem q1921 : (Jvm.Cond.privateMethod ({ cls := "RideDesk", name := "freeAt", desc := "(IILRideDesk$Kind;)I" } : Jvm.MethodName)) ∈ lw_tbl := lw_at lw_m8 95 rfl
theorem q1922 : (Jvm.Cond.instanceMethod ({ cls := "RideDesk", name := "freeAt", desc := "(IILRideDesk$Kind;)I" } : Jvm.MethodName)) ∈ lw_all := lw_g (lw_at lw_m8 96 rfl) rfl
theorem q1923 : (Jvm.Cond.code ({ cls := "RideDesk", name := "freeAt", desc := "(IILRideDesk$Kind;)I" } : Jvm.MethodName) prog_1_method_86_code (8 : Nat) (Option.some Jvm.ClassFile.FieldType.int)) ∈ lw_all := lw_g (lw_at lw_m8 97 rfl) rfl
theorem q1924 : (Jvm.Cond.static ({ cls := "RideDesk", name := "lambda$freeAt$0", desc := "(LRideDesk$Route;II)Z" } : Jvm.MethodName)) ∈ lw_all := lw_g (lw_at lw_m8 98 rfl) rfl
theorem q1925 : (Jvm.Cond.code ({ cls := "RideDesk", name := "lambda$freeAt$0", desc := "(LRideDesk$Route;II)Z" } : Jvm.MethodName) prog_1_method_105_code (3 : Nat) (Option.some Jvm.ClassFile.FieldType.boolean)) ∈ lw_all := lw_g (lw_at lw_m8 99 rfl) rfl
theorem q1926 : (Jvm.Cond.methodLink "RideDesk" (471 : Nat) ({ cls := "RideDesk", name := "countOf", desc := "(LRideDesk$Route;LRideDesk$Test;)I" } : Jvm.MethodName)) ∈ lw_all := lw_g (lw_at lw_m8 100 rfl) rfl
theorem q1927 : (Jvm.Cond.static ({ cls := "RideDesk", name := "countOf", desc := "(LRideDesk$Route;LRideDesk$Test;)I" } : Jvm.MethodName)) ∈ lw_all := lw_g (lw_at lw_m8 101 rfl) rfl
theorem q1928 : (Jvm.Cond.code ({ cls := "RideDesk", name := "countOf", desc := "(LRideDesk$Route;LRideDesk$Test;)I" } : Jvm.MethodName) prog_1_method_2_code (4 : Nat) (Option.some Jvm.ClassFile.FieldType.int)) ∈ lw_all := lw_g (lw_at lw_m8 102 rfl) rfl
theorem q1929 : (Jvm.Cond.interfaceEntry "RideDesk" (9 : Nat)) ∈ lw_tbl := lw_at lw_m8 103 rfl
theorem q1930 : (Jvm.Cond.methodLink "RideDesk" (9 : Nat) ({ cls := "RideDesk$Test", name := "isGood", desc := "(I)Z" } : Jvm.MethodName)) ∈ lw_all := lw_g (lw_at lw_m8 104 rfl) rfl
theorem q1933 : (Jvm.Cond.fieldLink "RideDesk" (475 : Nat) "RideDesk$Kind" "WALK" "LRideDesk$Kind;") ∈ lw_all := lw_g (lw_at lw_m8 107 rfl) rfl
theorem q1934 : (Jvm.Cond.fieldLink "RideDesk" (478 : Nat) "RideDesk$Kind" "CHAIR" "LRideDesk$Kind;") ∈ lw_all := lw_g (lw_at lw_m8 108 rfl) rfl
theorem q1939 : (Jvm.Cond.instanceMethod ({ cls := "RideDesk", name := "savings", desc := "(I)I" } : Jvm.MethodName)) ∈ lw_all := lw_g (lw_at lw_m8 113 rfl) rfl
theorem q1940 : (Jvm.Cond.selects "RideDesk" ({ cls := "RideDesk", name := "savings", desc := "(I)I" } : Jvm.MethodName) ({ cls := "RideDesk", name := "savings", desc := "(I)I" } : Jvm.MethodName)) ∈ lw_all := lw_g (lw_at lw_m8 114 rfl) rfl
theorem q1941 : (Jvm.Cond.code ({ cls := "RideDesk", name := "savings", desc := "(I)I" } : Jvm.MethodName) prog_1_method_91_code (4 : Nat) (Option.some Jvm.ClassFile.FieldType.int)) ∈ lw_all := lw_g (lw_at lw_m8 115 rfl) rfl
theorem q1942 : (Jvm.Cond.methodLink "RideDesk" (509 : Nat) ({ cls := "RideDesk$State", name := "copy", desc := "()LRideDesk$State;" } : Jvm.MethodName)) ∈ lw_all := lw_g (lw_at lw_m8 116 rfl) rfl
theorem q1953 : (Jvm.Cond.methodLink "RideDesk" (512 : Nat) ({ cls := "RideDesk", name := "isFree", desc := "(LRideDesk$State;I)Z" } : Jvm.MethodName)) ∈ lw_all := lw_g (lw_at lw_m8 127 rfl) rfl
theorem q1954 : (Jvm.Cond.privateMethod ({ cls := "RideDesk", name := "isFree", desc := "(LRideDesk$State;I)Z" } : Jvm.MethodName)) ∈ lw_tbl := lw_at lw_m8 128 rfl
theorem q1955 : (Jvm.Cond.instanceMethod ({ cls := "RideDesk", name := "isFree", desc := "(LRideDesk$State;I)Z" } : Jvm.MethodName)) ∈ lw_all := lw_g (lw_at lw_m8 129 rfl) rfl
theorem q1956 : (Jvm.Cond.code ({ cls := "RideDesk", name := "isFree", desc := "(LRideDesk$State;I)Z" } : Jvm.MethodName) prog_1_method_90_code (4 : Nat) (Option.some Jvm.ClassFile.FieldType.boolean)) ∈ lw_all := lw_g (lw_at lw_m8 130 rfl) rfl
theorem q1957 : (Jvm.Cond.methodLink "RideDesk" (515 : Nat) ({ cls := "RideDesk", name := "cancels", desc := "(LRideDesk$State;I)I" } : Jvm.MethodName)) ∈ lw_all := lw_g (lw_at lw_m8 131 rfl) rfl
theorem q1958 : (Jvm.Cond.privateMethod ({ cls := "RideDesk", name := "cancels", desc := "(LRideDesk$State;I)I" } : Jvm.MethodName)) ∈ lw_tbl := lw_at lw_m8 132 rfl
theorem q1959 : (Jvm.Cond.instanceMethod ({ cls := "RideDesk", name := "cancels", desc := "(LRideDesk$State;I)I" } : Jvm.MethodName)) ∈ lw_all := lw_g (lw_at lw_m8 133 rfl) rfl
theorem q1960 : (Jvm.Cond.code ({ cls := "RideDesk", name := "cancels", desc := "(LRideDesk$State;I)I" } : Jvm.MethodName) prog_1_method_26_code (4 : Nat) (Option.some Jvm.ClassFile.FieldType.int)) ∈ lw_all := lw_g (lw_at lw_m8 134 rfl) rfl
theorem q1961 : (Jvm.Cond.methodLink "RideDesk" (270 : Nat) ({ cls := "RideDesk", name := "removes", desc := "(LRideDesk$State;II)V" } : Jvm.MethodName)) ∈ lw_all := lw_g (lw_at lw_m8 135 rfl) rfl
theorem q1962 : (Jvm.Cond.privateMethod ({ cls := "RideDesk", name := "removes", desc := "(LRideDesk$State;II)V" } : Jvm.MethodName)) ∈ lw_tbl := lw_at lw_m8 136 rfl
theorem q1963 : (Jvm.Cond.instanceMethod ({ cls := "RideDesk", name := "removes", desc := "(LRideDesk$State;II)V" } : Jvm.MethodName)) ∈ lw_all := lw_g (lw_at lw_m8 137 rfl) rfl
theorem q1964 : (Jvm.Cond.code ({ cls := "RideDesk", name := "removes", desc := "(LRideDesk$State;II)V" } : Jvm.MethodName) prog_1_method_22_code (8 : Nat) (Option.none : Option Jvm.ClassFile.FieldType)) ∈ lw_all := lw_g (lw_at lw_m8 138 rfl) rfl
theorem q1965 : (Jvm.Cond.methodLink "RideDesk" (251 : Nat) ({ cls := "RideDesk$Route", name := "remove", desc := "(I)LRideDesk$Stop;" } : Jvm.MethodName)) ∈ lw_all := lw_g (lw_at lw_m8 139 rfl) rfl
theorem q1969 : (Jvm.Cond.methodLink "RideDesk" (258 : Nat) ({ cls := "RideDesk", name := "time", desc := "(LRideDesk$State;ILRideDesk$Route;I)V" } : Jvm.MethodName)) ∈ lw_all := lw_g (lw_at lw_m8 143 rfl) rfl
theorem q1970 : (Jvm.Cond.privateMethod ({ cls := "RideDesk", name := "time", desc := "(LRideDesk$State;ILRideDesk$Route;I)V" } : Jvm.MethodName)) ∈ lw_tbl := lw_at lw_m8 144 rfl
theorem q1971 : (Jvm.Cond.instanceMethod ({ cls := "RideDesk", name := "time", desc := "(LRideDesk$State;ILRideDesk$Route;I)V" } : Jvm.MethodName)) ∈ lw_all := lw_g (lw_at lw_m8 145 rfl) rfl
theorem q1972 : (Jvm.Cond.code ({ cls := "RideDesk", name := "time", desc := "(LRideDesk$State;ILRideDesk$Route;I)V" } : Jvm.MethodName) prog_1_method_10_code (7 : Nat) (Option.none : Option Jvm.ClassFile.FieldType)) ∈ lw_all := lw_g (lw_at lw_m8 146 rfl) rfl
theorem q1973 : (Jvm.Cond.methodLink "RideDesk" (283 : Nat) ({ cls := "RideDesk", name := "repairs", desc := "(LRideDesk$State;I)I" } : Jvm.MethodName)) ∈ lw_all := lw_g (lw_at lw_m8 147 rfl) rfl
theorem q1974 : (Jvm.Cond.privateMethod ({ cls := "RideDesk", name := "repairs", desc := "(LRideDesk$State;I)I" } : Jvm.MethodName)) ∈ lw_tbl := lw_at lw_m8 148 rfl
theorem q1975 : (Jvm.Cond.instanceMethod ({ cls := "RideDesk", name := "repairs", desc := "(LRideDesk$State;I)I" } : Jvm.MethodName)) ∈ lw_all := lw_g (lw_at lw_m8 149 rfl) rfl
theorem q1976 : (Jvm.Cond.code ({ cls := "RideDesk", name := "repairs", desc := "(LRideDesk$State;I)I" } : Jvm.MethodName) prog_1_method_25_code (7 : Nat) (Option.some Jvm.ClassFile.FieldType.int)) ∈ lw_all := lw_g (lw_at lw_m8 150 rfl) rfl
theorem q1977 : (Jvm.Cond.methodLink "RideDesk" (164 : Nat) ({ cls := "RideDesk", name := "isPossible", desc := "(LRideDesk$State;ILRideDesk$Route;I)Z" } : Jvm.MethodName)) ∈ lw_all := lw_g (lw_at lw_m8 151 rfl) rfl
theorem q1978 : (Jvm.Cond.privateMethod ({ cls := "RideDesk", name := "isPossible", desc := "(LRideDesk$State;ILRideDesk$Route;I)Z" } : Jvm.MethodName)) ∈ lw_tbl := lw_at lw_m8 152 rfl
theorem q1979 : (Jvm.Cond.instanceMethod ({ cls := "RideDesk", name := "isPossible", desc := "(LRideDesk$State;ILRideDesk$Route;I)Z" } : Jvm.MethodName)) ∈ lw_all := lw_g (lw_at lw_m8 153 rfl) rfl
theorem q1980 : (Jvm.Cond.code ({ cls := "RideDesk", name := "isPossible", desc := "(LRideDesk$State;ILRideDesk$Route;I)Z" } : Jvm.MethodName) prog_1_method_11_code (11 : Nat) (Option.some Jvm.ClassFile.FieldType.boolean)) ∈ lw_all := lw_g (lw_at lw_m8 154 rfl) rfl
theorem q1981 : (Jvm.Cond.methodLink "RideDesk" (274 : Nat) ({ cls := "RideDesk", name := "takesOut", desc := "(LRideDesk$State;I)I" } : Jvm.MethodName)) ∈ lw_all := lw_g (lw_at lw_m8 155 rfl) rfl
theorem q1982 : (Jvm.Cond.privateMethod ({ cls := "RideDesk", name := "takesOut", desc := "(LRideDesk$State;I)I" } : Jvm.MethodName)) ∈ lw_tbl := lw_at lw_m8 156 rfl
theorem q1983 : (Jvm.Cond.instanceMethod ({ cls := "RideDesk", name := "takesOut", desc := "(LRideDesk$State;I)I" } : Jvm.MethodName)) ∈ lw_all := lw_g (lw_at lw_m8 157 rfl) rfl
theorem q1984 : (Jvm.Cond.code ({ cls := "RideDesk", name := "takesOut", desc := "(LRideDesk$State;I)I" } : Jvm.MethodName) prog_1_method_24_code (5 : Nat) (Option.some Jvm.ClassFile.FieldType.int)) ∈ lw_all := lw_g (lw_at lw_m8 158 rfl) rfl
theorem q1985 : (Jvm.Cond.methodLink "RideDesk" (262 : Nat) ({ cls := "RideDesk", name := "free", desc := "(LRideDesk$State;LRideDesk$Route;)I" } : Jvm.MethodName)) ∈ lw_all := lw_g (lw_at lw_m8 159 rfl) rfl
theorem q1986 : (Jvm.Cond.privateMethod ({ cls := "RideDesk", name := "free", desc := "(LRideDesk$State;LRideDesk$Route;)I" } : Jvm.MethodName)) ∈ lw_tbl := lw_at lw_m8 160 rfl
theorem q1987 : (Jvm.Cond.instanceMethod ({ cls := "RideDesk", name := "free", desc := "(LRideDesk$State;LRideDesk$Route;)I" } : Jvm.MethodName)) ∈ lw_all := lw_g (lw_at lw_m8 161 rfl) rfl
theorem q1988 : (Jvm.Cond.code ({ cls := "RideDesk", name := "free", desc := "(LRideDesk$State;LRideDesk$Route;)I" } : Jvm.MethodName) prog_1_method_23_code (5 : Nat) (Option.some Jvm.ClassFile.FieldType.int)) ∈ lw_all := lw_g (lw_at lw_m8 162 rfl) rfl
theorem q1993 : (Jvm.Cond.instanceMethod ({ cls := "RideDesk", name := "manifest", desc := "(I)I" } : Jvm.MethodName)) ∈ lw_all := lw_g (lw_at lw_m8 167 rfl) rfl
theorem q1994 : (Jvm.Cond.selects "RideDesk" ({ cls := "RideDesk", name := "manifest", desc := "(I)I" } : Jvm.MethodName) ({ cls := "RideDesk", name := "manifest", desc := "(I)I" } : Jvm.MethodName)) ∈ lw_all := lw_g (lw_at lw_m8 168 rfl) rfl
theorem q1995 : (Jvm.Cond.code ({ cls := "RideDesk", name := "manifest", desc := "(I)I" } : Jvm.MethodName) prog_1_method_88_code (6 : Nat) (Option.some Jvm.ClassFile.FieldType.int)) ∈ lw_all := lw_g (lw_at lw_m8 169 rfl) rfl
theorem q1996 : (Jvm.Cond.classLink "RideDesk" (485 : Nat) "java/lang/StringBuilder") ∈ lw_all := lw_g (lw_at lw_m8 170 rfl) rfl
theorem q1997 : (Jvm.Cond.methodLink "RideDesk" (487 : Nat) ({ cls := "java/lang/StringBuilder", name := "<init>", desc := "(I)V" } : Jvm.MethodName)) ∈ lw_all := lw_g (lw_at lw_m8 171 rfl) rfl
theorem q1998 : (Jvm.Cond.stringRef "RideDesk" (488 : Nat) "") ∈ lw_tbl := lw_at lw_m8 172 rfl
theorem q1999 : (Jvm.Cond.stringRef "RideDesk" (490 : Nat) ";") ∈ lw_tbl := lw_at lw_m8 173 rfl
theorem q2000 : (Jvm.Cond.methodLink "RideDesk" (492 : Nat) ({ cls := "java/lang/StringBuilder", name := "append", desc := "(Ljava/lang/String;)Ljava/lang/StringBuilder;" } : Jvm.MethodName)) ∈ lw_all := lw_g (lw_at lw_m8 174 rfl) rfl
theorem q2001 : (Jvm.Cond.methodLink "RideDesk" (496 : Nat) ({ cls := "java/lang/StringBuilder", name := "append", desc := "(C)Ljava/lang/StringBuilder;" } : Jvm.MethodName)) ∈ lw_all := lw_g (lw_at lw_m8 175 rfl) rfl
theorem q2002 : (Jvm.Cond.methodLink "RideDesk" (499 : Nat) ({ cls := "java/lang/StringBuilder", name := "append", desc := "(I)Ljava/lang/StringBuilder;" } : Jvm.MethodName)) ∈ lw_all := lw_g (lw_at lw_m8 176 rfl) rfl
theorem q2003 : (Jvm.Cond.methodLink "RideDesk" (502 : Nat) ({ cls := "java/lang/StringBuilder", name := "length", desc := "()I" } : Jvm.MethodName)) ∈ lw_all := lw_g (lw_at lw_m8 177 rfl) rfl
theorem q2004 : (Jvm.Cond.methodLink "RideDesk" (505 : Nat) ({ cls := "java/lang/StringBuilder", name := "charAt", desc := "(I)C" } : Jvm.MethodName)) ∈ lw_all := lw_g (lw_at lw_m8 178 rfl) rfl
theorem q2018 : (Jvm.Cond.instanceMethod ({ cls := "RideDesk", name := "manifestByte", desc := "(I)I" } : Jvm.MethodName)) ∈ lw_all := lw_g (lw_at lw_m8 192 rfl) rfl
theorem q2019 : (Jvm.Cond.selects "RideDesk" ({ cls := "RideDesk", name := "manifestByte", desc := "(I)I" } : Jvm.MethodName) ({ cls := "RideDesk", name := "manifestByte", desc := "(I)I" } : Jvm.MethodName)) ∈ lw_all := lw_g (lw_at lw_m8 193 rfl) rfl
theorem q2020 : (Jvm.Cond.code ({ cls := "RideDesk", name := "manifestByte", desc := "(I)I" } : Jvm.MethodName) prog_1_method_89_code (2 : Nat) (Option.some Jvm.ClassFile.FieldType.int)) ∈ lw_all := lw_g (lw_at lw_m8 194 rfl) rfl
theorem q2025 : (Jvm.Cond.instanceMethod ({ cls := "RideDesk", name := "request", desc := "(IIIIII)I" } : Jvm.MethodName)) ∈ lw_all := lw_g (lw_at lw_m8 199 rfl) rfl
theorem q2026 : (Jvm.Cond.selects "RideDesk" ({ cls := "RideDesk", name := "request", desc := "(IIIIII)I" } : Jvm.MethodName) ({ cls := "RideDesk", name := "request", desc := "(IIIIII)I" } : Jvm.MethodName)) ∈ lw_all := lw_g (lw_at lw_m8 200 rfl) rfl
theorem q2027 : (Jvm.Cond.code ({ cls := "RideDesk", name := "request", desc := "(IIIIII)I" } : Jvm.MethodName) prog_1_method_93_code (8 : Nat) (Option.some Jvm.ClassFile.FieldType.int)) ∈ lw_all := lw_g (lw_at lw_m8 201 rfl) rfl
theorem q2028 : (Jvm.Cond.methodLink "RideDesk" (526 : Nat) ({ cls := "RideDesk", name := "remember", desc := "()LRideDesk$State;" } : Jvm.MethodName)) ∈ lw_all := lw_g (lw_at lw_m8 202 rfl) rfl
theorem q2029 : (Jvm.Cond.privateMethod ({ cls := "RideDesk", name := "remember", desc := "()LRideDesk$State;" } : Jvm.MethodName)) ∈ lw_tbl := lw_at lw_m8 203 rfl
theorem q2030 : (Jvm.Cond.instanceMethod ({ cls := "RideDesk", name := "remember", desc := "()LRideDesk$State;" } : Jvm.MethodName)) ∈ lw_all := lw_g (lw_at lw_m8 204 rfl) rfl
theorem q2031 : (Jvm.Cond.code ({ cls := "RideDesk", name := "remember", desc := "()LRideDesk$State;" } : Jvm.MethodName) prog_1_method_92_code (2 : Nat) (Option.some (Jvm.ClassFile.FieldType.object "RideDesk$State"))) ∈ lw_all := lw_g (lw_at lw_m8 205 rfl) rfl
theorem q2032 : (Jvm.Cond.interfaceEntry "RideDesk" (519 : Nat)) ∈ lw_tbl := lw_at lw_m8 206 rfl
theorem q2033 : (Jvm.Cond.methodLink "RideDesk" (519 : Nat) ({ cls := "java/util/Deque", name := "removeFirst", desc := "()Ljava/lang/Object;" } : Jvm.MethodName)) ∈ lw_all := lw_g (lw_at lw_m8 207 rfl) rfl
theorem q2051 : (Jvm.Cond.interfaceEntry "RideDesk" (522 : Nat)) ∈ lw_tbl := lw_at lw_m8 225 rfl
theorem q2052 : (Jvm.Cond.methodLink "RideDesk" (522 : Nat) ({ cls := "java/util/Deque", name := "addLast", desc := "(Ljava/lang/Object;)V" } : Jvm.MethodName)) ∈ lw_all := lw_g (lw_at lw_m8 226 rfl) rfl
theorem q2077 : (Jvm.Cond.methodLink "RideDesk" (529 : Nat) ({ cls := "RideDesk", name := "adds", desc := "(LRideDesk$State;LRideDesk$Call;I)I" } : Jvm.MethodName)) ∈ lw_all := lw_g (lw_at lw_m9 11 rfl) rfl
theorem q2082 : (Jvm.Cond.instanceMethod ({ cls := "RideDesk", name := "cancel", desc := "(I)I" } : Jvm.MethodName)) ∈ lw_all := lw_g (lw_at lw_m9 16 rfl) rfl
theorem q2083 : (Jvm.Cond.selects "RideDesk" ({ cls := "RideDesk", name := "cancel", desc := "(I)I" } : Jvm.MethodName) ({ cls := "RideDesk", name := "cancel", desc := "(I)I" } : Jvm.MethodName)) ∈ lw_all := lw_g (lw_at lw_m9 17 rfl) rfl
theorem q2084 : (Jvm.Cond.code ({ cls := "RideDesk", name := "cancel", desc := "(I)I" } : Jvm.MethodName) prog_1_method_94_code (2 : Nat) (Option.some Jvm.ClassFile.FieldType.int)) ∈ lw_all := lw_g (lw_at lw_m9 18 rfl) rfl
theorem q2089 : (Jvm.Cond.instanceMethod ({ cls := "RideDesk", name := "postpone", desc := "(II)I" } : Jvm.MethodName)) ∈ lw_all := lw_g (lw_at lw_m9 23 rfl) rfl
theorem q2090 : (Jvm.Cond.selects "RideDesk" ({ cls := "RideDesk", name := "postpone", desc := "(II)I" } : Jvm.MethodName) ({ cls := "RideDesk", name := "postpone", desc := "(II)I" } : Jvm.MethodName)) ∈ lw_all := lw_g (lw_at lw_m9 24 rfl) rfl
theorem q2091 : (Jvm.Cond.code ({ cls := "RideDesk", name := "postpone", desc := "(II)I" } : Jvm.MethodName) prog_1_method_95_code (6 : Nat) (Option.some Jvm.ClassFile.FieldType.int)) ∈ lw_all := lw_g (lw_at lw_m9 25 rfl) rfl
theorem q2092 : (Jvm.Cond.methodLink "RideDesk" (533 : Nat) ({ cls := "RideDesk", name := "arePossible", desc := "(LRideDesk$State;)Z" } : Jvm.MethodName)) ∈ lw_all := lw_g (lw_at lw_m9 26 rfl) rfl
theorem q2093 : (Jvm.Cond.privateMethod ({ cls := "RideDesk", name := "arePossible", desc := "(LRideDesk$State;)Z" } : Jvm.MethodName)) ∈ lw_tbl := lw_at lw_m9 27 rfl
theorem q2094 : (Jvm.Cond.instanceMethod ({ cls := "RideDesk", name := "arePossible", desc := "(LRideDesk$State;)Z" } : Jvm.MethodName)) ∈ lw_all := lw_g (lw_at lw_m9 28 rfl) rfl
theorem q2095 : (Jvm.Cond.code ({ cls := "RideDesk", name := "arePossible", desc := "(LRideDesk$State;)Z" } : Jvm.MethodName) prog_1_method_13_code (3 : Nat) (Option.some Jvm.ClassFile.FieldType.boolean)) ∈ lw_all := lw_g (lw_at lw_m9 29 rfl) rfl
theorem q2100 : (Jvm.Cond.instanceMethod ({ cls := "RideDesk", name := "setUntil", desc := "(II)I" } : Jvm.MethodName)) ∈ lw_all := lw_g (lw_at lw_m9 34 rfl) rfl
theorem q2101 : (Jvm.Cond.selects "RideDesk" ({ cls := "RideDesk", name := "setUntil", desc := "(II)I" } : Jvm.MethodName) ({ cls := "RideDesk", name := "setUntil", desc := "(II)I" } : Jvm.MethodName)) ∈ lw_all := lw_g (lw_at lw_m9 35 rfl) rfl
theorem q2102 : (Jvm.Cond.code ({ cls := "RideDesk", name := "setUntil", desc := "(II)I" } : Jvm.MethodName) prog_1_method_96_code (7 : Nat) (Option.some Jvm.ClassFile.FieldType.int)) ∈ lw_all := lw_g (lw_at lw_m9 36 rfl) rfl
theorem q2107 : (Jvm.Cond.instanceMethod ({ cls := "RideDesk", name := "improve", desc := "()I" } : Jvm.MethodName)) ∈ lw_all := lw_g (lw_at lw_m9 41 rfl) rfl
theorem q2108 : (Jvm.Cond.selects "RideDesk" ({ cls := "RideDesk", name := "improve", desc := "()I" } : Jvm.MethodName) ({ cls := "RideDesk", name := "improve", desc := "()I" } : Jvm.MethodName)) ∈ lw_all := lw_g (lw_at lw_m9 42 rfl) rfl
theorem q2109 : (Jvm.Cond.code ({ cls := "RideDesk", name := "improve", desc := "()I" } : Jvm.MethodName) prog_1_method_97_code (6 : Nat) (Option.some Jvm.ClassFile.FieldType.int)) ∈ lw_all := lw_g (lw_at lw_m9 43 rfl) rfl
theorem q2114 : (Jvm.Cond.instanceMethod ({ cls := "RideDesk", name := "advance", desc := "(I)I" } : Jvm.MethodName)) ∈ lw_all := lw_g (lw_at lw_m9 48 rfl) rfl
theorem q2115 : (Jvm.Cond.selects "RideDesk" ({ cls := "RideDesk", name := "advance", desc := "(I)I" } : Jvm.MethodName) ({ cls := "RideDesk", name := "advance", desc := "(I)I" } : Jvm.MethodName)) ∈ lw_all := lw_g (lw_at lw_m9 49 rfl) rfl
theorem q2116 : (Jvm.Cond.code ({ cls := "RideDesk", name := "advance", desc := "(I)I" } : Jvm.MethodName) prog_1_method_99_code (8 : Nat) (Option.some Jvm.ClassFile.FieldType.int)) ∈ lw_all := lw_g (lw_at lw_m9 50 rfl) rfl
theorem q2117 : (Jvm.Cond.static ({ cls := "RideDesk", name := "lambda$advance$1", desc := "(LRideDesk$Route;LRideDesk$State;I)Z" } : Jvm.MethodName)) ∈ lw_all := lw_g (lw_at lw_m9 51 rfl) rfl
theorem q2118 : (Jvm.Cond.code ({ cls := "RideDesk", name := "lambda$advance$1", desc := "(LRideDesk$Route;LRideDesk$State;I)Z" } : Jvm.MethodName) prog_1_method_104_code (3 : Nat) (Option.some Jvm.ClassFile.FieldType.boolean)) ∈ lw_all := lw_g (lw_at lw_m9 52 rfl) rfl
theorem q2119 : (Jvm.Cond.methodLink "RideDesk" (539 : Nat) ({ cls := "RideDesk", name := "executes", desc := "(LRideDesk$State;LRideDesk$Route;I)V" } : Jvm.MethodName)) ∈ lw_all := lw_g (lw_at lw_m9 53 rfl) rfl
theorem q2120 : (Jvm.Cond.privateMethod ({ cls := "RideDesk", name := "executes", desc := "(LRideDesk$State;LRideDesk$Route;I)V" } : Jvm.MethodName)) ∈ lw_tbl := lw_at lw_m9 54 rfl
theorem q2121 : (Jvm.Cond.instanceMethod ({ cls := "RideDesk", name := "executes", desc := "(LRideDesk$State;LRideDesk$Route;I)V" } : Jvm.MethodName)) ∈ lw_all := lw_g (lw_at lw_m9 55 rfl) rfl
theorem q2122 : (Jvm.Cond.code ({ cls := "RideDesk", name := "executes", desc := "(LRideDesk$State;LRideDesk$Route;I)V" } : Jvm.MethodName) prog_1_method_98_code (6 : Nat) (Option.none : Option Jvm.ClassFile.FieldType)) ∈ lw_all := lw_g (lw_at lw_m9 56 rfl) rfl
theorem q2127 : (Jvm.Cond.instanceMethod ({ cls := "RideDesk", name := "undo", desc := "()I" } : Jvm.MethodName)) ∈ lw_all := lw_g (lw_at lw_m9 61 rfl) rfl
theorem q2128 : (Jvm.Cond.selects "RideDesk" ({ cls := "RideDesk", name := "undo", desc := "()I" } : Jvm.MethodName) ({ cls := "RideDesk", name := "undo", desc := "()I" } : Jvm.MethodName)) ∈ lw_all := lw_g (lw_at lw_m9 62 rfl) rfl
theorem q2129 : (Jvm.Cond.code ({ cls := "RideDesk", name := "undo", desc := "()I" } : Jvm.MethodName) prog_1_method_100_code (1 : Nat) (Option.some Jvm.ClassFile.FieldType.int)) ∈ lw_all := lw_g (lw_at lw_m9 63 rfl) rfl
theorem q2130 : (Jvm.Cond.interfaceEntry "RideDesk" (543 : Nat)) ∈ lw_tbl := lw_at lw_m9 64 rfl
theorem q2138 : (Jvm.Cond.interfaceEntry "RideDesk" (546 : Nat)) ∈ lw_tbl := lw_at lw_m9 72 rfl
theorem q2139 : (Jvm.Cond.methodLink "RideDesk" (546 : Nat) ({ cls := "java/util/Deque", name := "removeLast", desc := "()Ljava/lang/Object;" } : Jvm.MethodName)) ∈ lw_all := lw_g (lw_at lw_m9 73 rfl) rfl
theorem q2158 : (Jvm.Cond.instanceMethod ({ cls := "RideDesk", name := "save", desc := "(I)I" } : Jvm.MethodName)) ∈ lw_all := lw_g (lw_at lw_m9 92 rfl) rfl
theorem q2159 : (Jvm.Cond.selects "RideDesk" ({ cls := "RideDesk", name := "save", desc := "(I)I" } : Jvm.MethodName) ({ cls := "RideDesk", name := "save", desc := "(I)I" } : Jvm.MethodName)) ∈ lw_all := lw_g (lw_at lw_m9 93 rfl) rfl
theorem q2160 : (Jvm.Cond.code ({ cls := "RideDesk", name := "save", desc := "(I)I" } : Jvm.MethodName) prog_1_method_102_code (3 : Nat) (Option.some Jvm.ClassFile.FieldType.int)) ∈ lw_all := lw_g (lw_at lw_m9 94 rfl) rfl
theorem q2165 : (Jvm.Cond.instanceMethod ({ cls := "RideDesk", name := "restore", desc := "(I)I" } : Jvm.MethodName)) ∈ lw_all := lw_g (lw_at lw_m9 99 rfl) rfl
theorem q2166 : (Jvm.Cond.selects "RideDesk" ({ cls := "RideDesk", name := "restore", desc := "(I)I" } : Jvm.MethodName) ({ cls := "RideDesk", name := "restore", desc := "(I)I" } : Jvm.MethodName)) ∈ lw_all := lw_g (lw_at lw_m9 100 rfl) rfl
theorem q2167 : (Jvm.Cond.code ({ cls := "RideDesk", name := "restore", desc := "(I)I" } : Jvm.MethodName) prog_1_method_103_code (2 : Nat) (Option.some Jvm.ClassFile.FieldType.int)) ∈ lw_all := lw_g (lw_at lw_m9 101 rfl) rfl
theorem q2891 : (Jvm.Cond.castable "RideDesk" "java/lang/Object") ∈ lw_tbl := lw_at lw_m12 105 rfl
theorem q2937 : (Jvm.Cond.fieldLink "RideDesk" (115 : Nat) "RideDesk$Kind" "seats" "I") ∈ lw_all := lw_g (lw_at lw_m12 151 rfl) rfl
theorem q2938 : (Jvm.Cond.fieldLink "RideDesk" (122 : Nat) "RideDesk$Kind" "wheels" "I") ∈ lw_all := lw_g (lw_at lw_m12 152 rfl) rfl
theorem in_X1 : ∀ w ∈ wsX10, w ∈ lw_all := lw_in wsX10 [272, 274, 276, 278, 280, 282, 284, 286, 288, 290, 292, 294, 296, 298, 300, 302, 304] (by decide +kernel) (by decide +kernel)

