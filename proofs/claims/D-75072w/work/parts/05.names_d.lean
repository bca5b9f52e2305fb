/-! java/util/AbstractCollection -/
set_option maxRecDepth 100000
def RJ0 : String := "java/util/AbstractCollection"
abbrev cJ0_init : ByteArray := prog_50_method_1_code
def yJ0_init : MethodName := ⟨RJ0, "<init>", "()V"⟩
theorem dJ0_init_0 : decode cJ0_init 0 = .ok (.aload_n 0, 1) := by decide +kernel
theorem dJ0_init_1 : decode cJ0_init 1 = .ok (.invokespecial 1, 3) := by decide +kernel
theorem dJ0_init_4 : decode cJ0_init 4 = .ok (.return_, 1) := by decide +kernel
theorem q148 : (Jvm.Cond.initialized "java/util/AbstractCollection") ∈ lw_all := lw_g (lw_at lw_m1 2 rfl) rfl
theorem q206 : (Jvm.Cond.instanceMethod ({ cls := "java/util/AbstractCollection", name := "<init>", desc := "()V" } : Jvm.MethodName)) ∈ lw_all := lw_g (lw_at lw_m1 60 rfl) rfl
theorem q207 : (Jvm.Cond.code ({ cls := "java/util/AbstractCollection", name := "<init>", desc := "()V" } : Jvm.MethodName) prog_50_method_1_code (1 : Nat) (Option.none : Option Jvm.ClassFile.FieldType)) ∈ lw_all := lw_g (lw_at lw_m1 61 rfl) rfl
theorem q208 : (Jvm.Cond.methodLink "java/util/AbstractCollection" (1 : Nat) ({ cls := "java/lang/Object", name := "<init>", desc := "()V" } : Jvm.MethodName)) ∈ lw_all := lw_g (lw_at lw_m1 62 rfl) rfl

/-! java/util/ArrayDeque -/
set_option maxRecDepth 100000
def RJ1 : String := "java/util/ArrayDeque"
def TJ1 : u_T := fun k => match k with
  | 0 => ("java/util/ArrayDeque", "elements", "[Ljava/lang/Object;", false)
  | 1 => ("java/util/ArrayDeque", "head", "I", false)
  | _ => ("java/util/ArrayDeque", "tail", "I", false)
def tyJ1 : Nat → FieldType := fun k => match k with
  | 0 => .array (.object "java/lang/Object")
  | 1 => .int
  | _ => .int
abbrev wsJ10 : List Cond := u_ws RJ1 TJ1 3
theorem nmJ1 : ∀ a, a < 3 → ∀ b, b < 3 → a ≠ b → (TJ1 a).2.1 ≠ (TJ1 b).2.1 := by decide +kernel
theorem tyJ1_ok : ∀ k, k < 3 → parseFieldDescriptor (TJ1 k).2.2.1 = some (tyJ1 k) := by decide +kernel
abbrev cJ1_init : ByteArray := prog_52_method_4_code
def yJ1_init : MethodName := ⟨RJ1, "<init>", "(I)V"⟩
def dkwJ1_init_1 : List UInt8 := [167, 0, 6, 27, 4, 96, 189, 0, 47, 181, 0, 3, 177]
abbrev dktJ1_init_1 : List UInt8 := dkwJ1_init_1 ++ []
def dkwJ1_init_0 : List UInt8 := [42, 183, 0, 42, 42, 27, 4, 162, 0, 7, 4, 167, 0, 17, 27, 18, 41, 160, 0, 8, 18, 41]
abbrev dktJ1_init_0 : List UInt8 := dkwJ1_init_0 ++ dktJ1_init_1
theorem dksJ1_init_0 : cJ1_init.data.toList.drop 0 = dktJ1_init_0 := by decide +kernel
theorem dksJ1_init_1 : cJ1_init.data.toList.drop 22 = dktJ1_init_1 := dk_seg dksJ1_init_0 22 rfl rfl
theorem dJ1_init_0 : decode cJ1_init 0 = .ok (.aload_n 0, 1) := dk_42 (dk_at dksJ1_init_0 0 rfl rfl)
theorem dJ1_init_1 : decode cJ1_init 1 = .ok (.invokespecial 42, 3) := dk_183 0 42 (dk_at dksJ1_init_0 1 rfl rfl)
theorem dJ1_init_4 : decode cJ1_init 4 = .ok (.aload_n 0, 1) := dk_42 (dk_at dksJ1_init_0 4 rfl rfl)
theorem dJ1_init_5 : decode cJ1_init 5 = .ok (.iload_n 1, 1) := dk_27 (dk_at dksJ1_init_0 5 rfl rfl)
theorem dJ1_init_6 : decode cJ1_init 6 = .ok (.iconst 1, 1) := dk_4 (dk_at dksJ1_init_0 6 rfl rfl)
theorem dJ1_init_7 : decode cJ1_init 7 = .ok (.if_icmp .ge 7, 3) := dk_162 0 7 (dk_at dksJ1_init_0 7 rfl rfl)
theorem dJ1_init_10 : decode cJ1_init 10 = .ok (.iconst 1, 1) := dk_4 (dk_at dksJ1_init_0 10 rfl rfl)
theorem dJ1_init_11 : decode cJ1_init 11 = .ok (.goto 17, 3) := dk_167 0 17 (dk_at dksJ1_init_0 11 rfl rfl)
theorem dJ1_init_14 : decode cJ1_init 14 = .ok (.iload_n 1, 1) := dk_27 (dk_at dksJ1_init_0 14 rfl rfl)
theorem dJ1_init_15 : decode cJ1_init 15 = .ok (.ldc 41, 2) := dk_18 41 (dk_at dksJ1_init_0 15 rfl rfl)
theorem dJ1_init_17 : decode cJ1_init 17 = .ok (.if_icmp .ne 8, 3) := dk_160 0 8 (dk_at dksJ1_init_0 17 rfl rfl)
theorem dJ1_init_20 : decode cJ1_init 20 = .ok (.ldc 41, 2) := dk_18 41 (dk_at dksJ1_init_0 20 rfl rfl)
theorem dJ1_init_22 : decode cJ1_init 22 = .ok (.goto 6, 3) := dk_167 0 6 (dk_at dksJ1_init_1 0 rfl rfl)
theorem dJ1_init_25 : decode cJ1_init 25 = .ok (.iload_n 1, 1) := dk_27 (dk_at dksJ1_init_1 3 rfl rfl)
theorem dJ1_init_26 : decode cJ1_init 26 = .ok (.iconst 1, 1) := dk_4 (dk_at dksJ1_init_1 4 rfl rfl)
theorem dJ1_init_27 : decode cJ1_init 27 = .ok (.iadd, 1) := dk_96 (dk_at dksJ1_init_1 5 rfl rfl)
theorem dJ1_init_28 : decode cJ1_init 28 = .ok (.anewarray 47, 3) := dk_189 0 47 (dk_at dksJ1_init_1 6 rfl rfl)
theorem dJ1_init_31 : decode cJ1_init 31 = .ok (.putfield 3, 3) := dk_181 0 3 (dk_at dksJ1_init_1 9 rfl rfl)
theorem dJ1_init_34 : decode cJ1_init 34 = .ok (.return_, 1) := dk_177 (dk_at dksJ1_init_1 12 rfl rfl)
abbrev cJ1_size : ByteArray := prog_52_method_37_code
def yJ1_size : MethodName := ⟨RJ1, "size", "()I"⟩
def dkwJ1_size_0 : List UInt8 := [42, 180, 0, 20, 42, 180, 0, 24, 42, 180, 0, 3, 190, 184, 0, 127, 172]
abbrev dktJ1_size_0 : List UInt8 := dkwJ1_size_0 ++ []
theorem dksJ1_size_0 : cJ1_size.data.toList.drop 0 = dktJ1_size_0 := by decide +kernel
theorem dJ1_size_0 : decode cJ1_size 0 = .ok (.aload_n 0, 1) := dk_42 (dk_at dksJ1_size_0 0 rfl rfl)
theorem dJ1_size_1 : decode cJ1_size 1 = .ok (.getfield 20, 3) := dk_180 0 20 (dk_at dksJ1_size_0 1 rfl rfl)
theorem dJ1_size_4 : decode cJ1_size 4 = .ok (.aload_n 0, 1) := dk_42 (dk_at dksJ1_size_0 4 rfl rfl)
theorem dJ1_size_5 : decode cJ1_size 5 = .ok (.getfield 24, 3) := dk_180 0 24 (dk_at dksJ1_size_0 5 rfl rfl)
theorem dJ1_size_8 : decode cJ1_size 8 = .ok (.aload_n 0, 1) := dk_42 (dk_at dksJ1_size_0 8 rfl rfl)
theorem dJ1_size_9 : decode cJ1_size 9 = .ok (.getfield 3, 3) := dk_180 0 3 (dk_at dksJ1_size_0 9 rfl rfl)
theorem dJ1_size_12 : decode cJ1_size 12 = .ok (.arraylength, 1) := dk_190 (dk_at dksJ1_size_0 12 rfl rfl)
theorem dJ1_size_13 : decode cJ1_size 13 = .ok (.invokestatic 127, 3) := dk_184 0 127 (dk_at dksJ1_size_0 13 rfl rfl)
theorem dJ1_size_16 : decode cJ1_size 16 = .ok (.ireturn, 1) := dk_172 (dk_at dksJ1_size_0 16 rfl rfl)
abbrev cJ1_sub : ByteArray := prog_52_method_9_code
def yJ1_sub : MethodName := ⟨RJ1, "sub", "(III)I"⟩
def dkwJ1_sub_0 : List UInt8 := [26, 27, 100, 89, 59, 156, 0, 7, 26, 28, 96, 59, 26, 172]
abbrev dktJ1_sub_0 : List UInt8 := dkwJ1_sub_0 ++ []
theorem dksJ1_sub_0 : cJ1_sub.data.toList.drop 0 = dktJ1_sub_0 := by decide +kernel
theorem dJ1_sub_0 : decode cJ1_sub 0 = .ok (.iload_n 0, 1) := dk_26 (dk_at dksJ1_sub_0 0 rfl rfl)
theorem dJ1_sub_1 : decode cJ1_sub 1 = .ok (.iload_n 1, 1) := dk_27 (dk_at dksJ1_sub_0 1 rfl rfl)
theorem dJ1_sub_2 : decode cJ1_sub 2 = .ok (.isub, 1) := dk_100 (dk_at dksJ1_sub_0 2 rfl rfl)
theorem dJ1_sub_3 : decode cJ1_sub 3 = .ok (.dup, 1) := dk_89 (dk_at dksJ1_sub_0 3 rfl rfl)
theorem dJ1_sub_4 : decode cJ1_sub 4 = .ok (.istore_n 0, 1) := dk_59 (dk_at dksJ1_sub_0 4 rfl rfl)
theorem dJ1_sub_5 : decode cJ1_sub 5 = .ok (.ifCond .ge 7, 3) := dk_156 0 7 (dk_at dksJ1_sub_0 5 rfl rfl)
theorem dJ1_sub_8 : decode cJ1_sub 8 = .ok (.iload_n 0, 1) := dk_26 (dk_at dksJ1_sub_0 8 rfl rfl)
theorem dJ1_sub_9 : decode cJ1_sub 9 = .ok (.iload_n 2, 1) := dk_28 (dk_at dksJ1_sub_0 9 rfl rfl)
theorem dJ1_sub_10 : decode cJ1_sub 10 = .ok (.iadd, 1) := dk_96 (dk_at dksJ1_sub_0 10 rfl rfl)
theorem dJ1_sub_11 : decode cJ1_sub 11 = .ok (.istore_n 0, 1) := dk_59 (dk_at dksJ1_sub_0 11 rfl rfl)
theorem dJ1_sub_12 : decode cJ1_sub 12 = .ok (.iload_n 0, 1) := dk_26 (dk_at dksJ1_sub_0 12 rfl rfl)
theorem dJ1_sub_13 : decode cJ1_sub 13 = .ok (.ireturn, 1) := dk_172 (dk_at dksJ1_sub_0 13 rfl rfl)
abbrev cJ1_clear : ByteArray := prog_52_method_53_code
def yJ1_clear : MethodName := ⟨RJ1, "clear", "()V"⟩
def dkwJ1_clear_1 : List UInt8 := [181, 0, 24, 177]
abbrev dktJ1_clear_1 : List UInt8 := dkwJ1_clear_1 ++ []
def dkwJ1_clear_0 : List UInt8 := [42, 180, 0, 3, 42, 180, 0, 24, 42, 180, 0, 20, 184, 0, 181, 42, 42, 3, 90, 181, 0, 20]
abbrev dktJ1_clear_0 : List UInt8 := dkwJ1_clear_0 ++ dktJ1_clear_1
theorem dksJ1_clear_0 : cJ1_clear.data.toList.drop 0 = dktJ1_clear_0 := by decide +kernel
theorem dksJ1_clear_1 : cJ1_clear.data.toList.drop 22 = dktJ1_clear_1 := dk_seg dksJ1_clear_0 22 rfl rfl
theorem dJ1_clear_0 : decode cJ1_clear 0 = .ok (.aload_n 0, 1) := dk_42 (dk_at dksJ1_clear_0 0 rfl rfl)
theorem dJ1_clear_1 : decode cJ1_clear 1 = .ok (.getfield 3, 3) := dk_180 0 3 (dk_at dksJ1_clear_0 1 rfl rfl)
theorem dJ1_clear_4 : decode cJ1_clear 4 = .ok (.aload_n 0, 1) := dk_42 (dk_at dksJ1_clear_0 4 rfl rfl)
theorem dJ1_clear_5 : decode cJ1_clear 5 = .ok (.getfield 24, 3) := dk_180 0 24 (dk_at dksJ1_clear_0 5 rfl rfl)
theorem dJ1_clear_8 : decode cJ1_clear 8 = .ok (.aload_n 0, 1) := dk_42 (dk_at dksJ1_clear_0 8 rfl rfl)
theorem dJ1_clear_9 : decode cJ1_clear 9 = .ok (.getfield 20, 3) := dk_180 0 20 (dk_at dksJ1_clear_0 9 rfl rfl)
theorem dJ1_clear_12 : decode cJ1_clear 12 = .ok (.invokestatic 181, 3) := dk_184 0 181 (dk_at dksJ1_clear_0 12 rfl rfl)
theorem dJ1_clear_15 : decode cJ1_clear 15 = .ok (.aload_n 0, 1) := dk_42 (dk_at dksJ1_clear_0 15 rfl rfl)
theorem dJ1_clear_16 : decode cJ1_clear 16 = .ok (.aload_n 0, 1) := dk_42 (dk_at dksJ1_clear_0 16 rfl rfl)
theorem dJ1_clear_17 : decode cJ1_clear 17 = .ok (.iconst 0, 1) := dk_3 (dk_at dksJ1_clear_0 17 rfl rfl)
theorem dJ1_clear_18 : decode cJ1_clear 18 = .ok (.dup_x1, 1) := dk_90 (dk_at dksJ1_clear_0 18 rfl rfl)
theorem dJ1_clear_19 : decode cJ1_clear 19 = .ok (.putfield 20, 3) := dk_181 0 20 (dk_at dksJ1_clear_0 19 rfl rfl)
theorem dJ1_clear_22 : decode cJ1_clear 22 = .ok (.putfield 24, 3) := dk_181 0 24 (dk_at dksJ1_clear_1 0 rfl rfl)
theorem dJ1_clear_25 : decode cJ1_clear 25 = .ok (.return_, 1) := dk_177 (dk_at dksJ1_clear_1 3 rfl rfl)
abbrev cJ1_circularClear : ByteArray := prog_52_method_54_code
def yJ1_circularClear : MethodName := ⟨RJ1, "circularClear", "([Ljava/lang/Object;II)V"⟩
def dkwJ1_circularClear_1 : List UInt8 := [167, 255, 244, 29, 28, 160, 0, 6, 167, 0, 10, 3, 60, 28, 62, 167, 255, 229, 177]
abbrev dktJ1_circularClear_1 : List UInt8 := dkwJ1_circularClear_1 ++ []
def dkwJ1_circularClear_0 : List UInt8 := [27, 28, 163, 0, 7, 28, 167, 0, 5, 42, 190, 62, 27, 29, 162, 0, 13, 42, 27, 1, 83, 132, 1, 1]
abbrev dktJ1_circularClear_0 : List UInt8 := dkwJ1_circularClear_0 ++ dktJ1_circularClear_1
theorem dksJ1_circularClear_0 : cJ1_circularClear.data.toList.drop 0 = dktJ1_circularClear_0 := by decide +kernel
theorem dksJ1_circularClear_1 : cJ1_circularClear.data.toList.drop 24 = dktJ1_circularClear_1 := dk_seg dksJ1_circularClear_0 24 rfl rfl
theorem dJ1_circularClear_0 : decode cJ1_circularClear 0 = .ok (.iload_n 1, 1) := dk_27 (dk_at dksJ1_circularClear_0 0 rfl rfl)
theorem dJ1_circularClear_1 : decode cJ1_circularClear 1 = .ok (.iload_n 2, 1) := dk_28 (dk_at dksJ1_circularClear_0 1 rfl rfl)
theorem dJ1_circularClear_2 : decode cJ1_circularClear 2 = .ok (.if_icmp .gt 7, 3) := dk_163 0 7 (dk_at dksJ1_circularClear_0 2 rfl rfl)
theorem dJ1_circularClear_5 : decode cJ1_circularClear 5 = .ok (.iload_n 2, 1) := dk_28 (dk_at dksJ1_circularClear_0 5 rfl rfl)
theorem dJ1_circularClear_6 : decode cJ1_circularClear 6 = .ok (.goto 5, 3) := dk_167 0 5 (dk_at dksJ1_circularClear_0 6 rfl rfl)
theorem dJ1_circularClear_9 : decode cJ1_circularClear 9 = .ok (.aload_n 0, 1) := dk_42 (dk_at dksJ1_circularClear_0 9 rfl rfl)
theorem dJ1_circularClear_10 : decode cJ1_circularClear 10 = .ok (.arraylength, 1) := dk_190 (dk_at dksJ1_circularClear_0 10 rfl rfl)
theorem dJ1_circularClear_11 : decode cJ1_circularClear 11 = .ok (.istore_n 3, 1) := dk_62 (dk_at dksJ1_circularClear_0 11 rfl rfl)
theorem dJ1_circularClear_12 : decode cJ1_circularClear 12 = .ok (.iload_n 1, 1) := dk_27 (dk_at dksJ1_circularClear_0 12 rfl rfl)
theorem dJ1_circularClear_13 : decode cJ1_circularClear 13 = .ok (.iload_n 3, 1) := dk_29 (dk_at dksJ1_circularClear_0 13 rfl rfl)
theorem dJ1_circularClear_14 : decode cJ1_circularClear 14 = .ok (.if_icmp .ge 13, 3) := dk_162 0 13 (dk_at dksJ1_circularClear_0 14 rfl rfl)
theorem dJ1_circularClear_17 : decode cJ1_circularClear 17 = .ok (.aload_n 0, 1) := dk_42 (dk_at dksJ1_circularClear_0 17 rfl rfl)
theorem dJ1_circularClear_18 : decode cJ1_circularClear 18 = .ok (.iload_n 1, 1) := dk_27 (dk_at dksJ1_circularClear_0 18 rfl rfl)
theorem dJ1_circularClear_19 : decode cJ1_circularClear 19 = .ok (.aconst_null, 1) := dk_1 (dk_at dksJ1_circularClear_0 19 rfl rfl)
theorem dJ1_circularClear_20 : decode cJ1_circularClear 20 = .ok (.aastore, 1) := dk_83 (dk_at dksJ1_circularClear_0 20 rfl rfl)
theorem dJ1_circularClear_21 : decode cJ1_circularClear 21 = .ok (.iinc 1 1, 3) := dk_132 1 1 (dk_at dksJ1_circularClear_0 21 rfl rfl)
theorem dJ1_circularClear_24 : decode cJ1_circularClear 24 = .ok (.goto (-12), 3) := dk_167 255 244 (dk_at dksJ1_circularClear_1 0 rfl rfl)
theorem dJ1_circularClear_27 : decode cJ1_circularClear 27 = .ok (.iload_n 3, 1) := dk_29 (dk_at dksJ1_circularClear_1 3 rfl rfl)
theorem dJ1_circularClear_28 : decode cJ1_circularClear 28 = .ok (.iload_n 2, 1) := dk_28 (dk_at dksJ1_circularClear_1 4 rfl rfl)
theorem dJ1_circularClear_29 : decode cJ1_circularClear 29 = .ok (.if_icmp .ne 6, 3) := dk_160 0 6 (dk_at dksJ1_circularClear_1 5 rfl rfl)
theorem dJ1_circularClear_32 : decode cJ1_circularClear 32 = .ok (.goto 10, 3) := dk_167 0 10 (dk_at dksJ1_circularClear_1 8 rfl rfl)
theorem dJ1_circularClear_35 : decode cJ1_circularClear 35 = .ok (.iconst 0, 1) := dk_3 (dk_at dksJ1_circularClear_1 11 rfl rfl)
theorem dJ1_circularClear_36 : decode cJ1_circularClear 36 = .ok (.istore_n 1, 1) := dk_60 (dk_at dksJ1_circularClear_1 12 rfl rfl)
theorem dJ1_circularClear_37 : decode cJ1_circularClear 37 = .ok (.iload_n 2, 1) := dk_28 (dk_at dksJ1_circularClear_1 13 rfl rfl)
theorem dJ1_circularClear_38 : decode cJ1_circularClear 38 = .ok (.istore_n 3, 1) := dk_62 (dk_at dksJ1_circularClear_1 14 rfl rfl)
theorem dJ1_circularClear_39 : decode cJ1_circularClear 39 = .ok (.goto (-27), 3) := dk_167 255 229 (dk_at dksJ1_circularClear_1 15 rfl rfl)
theorem dJ1_circularClear_42 : decode cJ1_circularClear 42 = .ok (.return_, 1) := dk_177 (dk_at dksJ1_circularClear_1 18 rfl rfl)
abbrev cJ1_removeFirst : ByteArray := prog_52_method_18_code
def yJ1_removeFirst : MethodName := ⟨RJ1, "removeFirst", "()Ljava/lang/Object;"⟩
def dkwJ1_removeFirst_0 : List UInt8 := [42, 182, 0, 93, 76, 43, 199, 0, 11, 187, 0, 97, 89, 183, 0, 99, 191, 43, 176]
abbrev dktJ1_removeFirst_0 : List UInt8 := dkwJ1_removeFirst_0 ++ []
theorem dksJ1_removeFirst_0 : cJ1_removeFirst.data.toList.drop 0 = dktJ1_removeFirst_0 := by decide +kernel
theorem dJ1_removeFirst_0 : decode cJ1_removeFirst 0 = .ok (.aload_n 0, 1) := dk_42 (dk_at dksJ1_removeFirst_0 0 rfl rfl)
theorem dJ1_removeFirst_1 : decode cJ1_removeFirst 1 = .ok (.invokevirtual 93, 3) := dk_182 0 93 (dk_at dksJ1_removeFirst_0 1 rfl rfl)
theorem dJ1_removeFirst_4 : decode cJ1_removeFirst 4 = .ok (.astore_n 1, 1) := dk_76 (dk_at dksJ1_removeFirst_0 4 rfl rfl)
theorem dJ1_removeFirst_5 : decode cJ1_removeFirst 5 = .ok (.aload_n 1, 1) := dk_43 (dk_at dksJ1_removeFirst_0 5 rfl rfl)
theorem dJ1_removeFirst_6 : decode cJ1_removeFirst 6 = .ok (.ifnonnull 11, 3) := dk_199 0 11 (dk_at dksJ1_removeFirst_0 6 rfl rfl)
theorem dJ1_removeFirst_9 : decode cJ1_removeFirst 9 = .ok (.new 97, 3) := dk_187 0 97 (dk_at dksJ1_removeFirst_0 9 rfl rfl)
theorem dJ1_removeFirst_12 : decode cJ1_removeFirst 12 = .ok (.dup, 1) := dk_89 (dk_at dksJ1_removeFirst_0 12 rfl rfl)
theorem dJ1_removeFirst_13 : decode cJ1_removeFirst 13 = .ok (.invokespecial 99, 3) := dk_183 0 99 (dk_at dksJ1_removeFirst_0 13 rfl rfl)
theorem dJ1_removeFirst_16 : decode cJ1_removeFirst 16 = .ok (.athrow, 1) := dk_191 (dk_at dksJ1_removeFirst_0 16 rfl rfl)
theorem dJ1_removeFirst_17 : decode cJ1_removeFirst 17 = .ok (.aload_n 1, 1) := dk_43 (dk_at dksJ1_removeFirst_0 17 rfl rfl)
theorem dJ1_removeFirst_18 : decode cJ1_removeFirst 18 = .ok (.areturn, 1) := dk_176 (dk_at dksJ1_removeFirst_0 18 rfl rfl)
abbrev cJ1_pollFirst : ByteArray := prog_52_method_20_code
def yJ1_pollFirst : MethodName := ⟨RJ1, "pollFirst", "()Ljava/lang/Object;"⟩
def dkwJ1_pollFirst_1 : List UInt8 := [42, 28, 43, 190, 184, 0, 74, 181, 0, 24, 45, 176]
abbrev dktJ1_pollFirst_1 : List UInt8 := dkwJ1_pollFirst_1 ++ []
def dkwJ1_pollFirst_0 : List UInt8 := [42, 180, 0, 3, 89, 76, 42, 180, 0, 24, 89, 61, 184, 0, 103, 78, 45, 198, 0, 17, 43, 28, 1, 83]
abbrev dktJ1_pollFirst_0 : List UInt8 := dkwJ1_pollFirst_0 ++ dktJ1_pollFirst_1
theorem dksJ1_pollFirst_0 : cJ1_pollFirst.data.toList.drop 0 = dktJ1_pollFirst_0 := by decide +kernel
theorem dksJ1_pollFirst_1 : cJ1_pollFirst.data.toList.drop 24 = dktJ1_pollFirst_1 := dk_seg dksJ1_pollFirst_0 24 rfl rfl
theorem dJ1_pollFirst_0 : decode cJ1_pollFirst 0 = .ok (.aload_n 0, 1) := dk_42 (dk_at dksJ1_pollFirst_0 0 rfl rfl)
theorem dJ1_pollFirst_1 : decode cJ1_pollFirst 1 = .ok (.getfield 3, 3) := dk_180 0 3 (dk_at dksJ1_pollFirst_0 1 rfl rfl)
theorem dJ1_pollFirst_4 : decode cJ1_pollFirst 4 = .ok (.dup, 1) := dk_89 (dk_at dksJ1_pollFirst_0 4 rfl rfl)
theorem dJ1_pollFirst_5 : decode cJ1_pollFirst 5 = .ok (.astore_n 1, 1) := dk_76 (dk_at dksJ1_pollFirst_0 5 rfl rfl)
theorem dJ1_pollFirst_6 : decode cJ1_pollFirst 6 = .ok (.aload_n 0, 1) := dk_42 (dk_at dksJ1_pollFirst_0 6 rfl rfl)
theorem dJ1_pollFirst_7 : decode cJ1_pollFirst 7 = .ok (.getfield 24, 3) := dk_180 0 24 (dk_at dksJ1_pollFirst_0 7 rfl rfl)
theorem dJ1_pollFirst_10 : decode cJ1_pollFirst 10 = .ok (.dup, 1) := dk_89 (dk_at dksJ1_pollFirst_0 10 rfl rfl)
theorem dJ1_pollFirst_11 : decode cJ1_pollFirst 11 = .ok (.istore_n 2, 1) := dk_61 (dk_at dksJ1_pollFirst_0 11 rfl rfl)
theorem dJ1_pollFirst_12 : decode cJ1_pollFirst 12 = .ok (.invokestatic 103, 3) := dk_184 0 103 (dk_at dksJ1_pollFirst_0 12 rfl rfl)
theorem dJ1_pollFirst_15 : decode cJ1_pollFirst 15 = .ok (.astore_n 3, 1) := dk_78 (dk_at dksJ1_pollFirst_0 15 rfl rfl)
theorem dJ1_pollFirst_16 : decode cJ1_pollFirst 16 = .ok (.aload_n 3, 1) := dk_45 (dk_at dksJ1_pollFirst_0 16 rfl rfl)
theorem dJ1_pollFirst_17 : decode cJ1_pollFirst 17 = .ok (.ifnull 17, 3) := dk_198 0 17 (dk_at dksJ1_pollFirst_0 17 rfl rfl)
theorem dJ1_pollFirst_20 : decode cJ1_pollFirst 20 = .ok (.aload_n 1, 1) := dk_43 (dk_at dksJ1_pollFirst_0 20 rfl rfl)
theorem dJ1_pollFirst_21 : decode cJ1_pollFirst 21 = .ok (.iload_n 2, 1) := dk_28 (dk_at dksJ1_pollFirst_0 21 rfl rfl)
theorem dJ1_pollFirst_22 : decode cJ1_pollFirst 22 = .ok (.aconst_null, 1) := dk_1 (dk_at dksJ1_pollFirst_0 22 rfl rfl)
theorem dJ1_pollFirst_23 : decode cJ1_pollFirst 23 = .ok (.aastore, 1) := dk_83 (dk_at dksJ1_pollFirst_0 23 rfl rfl)
theorem dJ1_pollFirst_24 : decode cJ1_pollFirst 24 = .ok (.aload_n 0, 1) := dk_42 (dk_at dksJ1_pollFirst_1 0 rfl rfl)
theorem dJ1_pollFirst_25 : decode cJ1_pollFirst 25 = .ok (.iload_n 2, 1) := dk_28 (dk_at dksJ1_pollFirst_1 1 rfl rfl)
theorem dJ1_pollFirst_26 : decode cJ1_pollFirst 26 = .ok (.aload_n 1, 1) := dk_43 (dk_at dksJ1_pollFirst_1 2 rfl rfl)
theorem dJ1_pollFirst_27 : decode cJ1_pollFirst 27 = .ok (.arraylength, 1) := dk_190 (dk_at dksJ1_pollFirst_1 3 rfl rfl)
theorem dJ1_pollFirst_28 : decode cJ1_pollFirst 28 = .ok (.invokestatic 74, 3) := dk_184 0 74 (dk_at dksJ1_pollFirst_1 4 rfl rfl)
theorem dJ1_pollFirst_31 : decode cJ1_pollFirst 31 = .ok (.putfield 24, 3) := dk_181 0 24 (dk_at dksJ1_pollFirst_1 7 rfl rfl)
theorem dJ1_pollFirst_34 : decode cJ1_pollFirst 34 = .ok (.aload_n 3, 1) := dk_45 (dk_at dksJ1_pollFirst_1 10 rfl rfl)
theorem dJ1_pollFirst_35 : decode cJ1_pollFirst 35 = .ok (.areturn, 1) := dk_176 (dk_at dksJ1_pollFirst_1 11 rfl rfl)
abbrev cJ1_elementAt : ByteArray := prog_52_method_10_code
def yJ1_elementAt : MethodName := ⟨RJ1, "elementAt", "([Ljava/lang/Object;I)Ljava/lang/Object;"⟩
def dkwJ1_elementAt_0 : List UInt8 := [42, 27, 50, 176]
abbrev dktJ1_elementAt_0 : List UInt8 := dkwJ1_elementAt_0 ++ []
theorem dksJ1_elementAt_0 : cJ1_elementAt.data.toList.drop 0 = dktJ1_elementAt_0 := by decide +kernel
theorem dJ1_elementAt_0 : decode cJ1_elementAt 0 = .ok (.aload_n 0, 1) := dk_42 (dk_at dksJ1_elementAt_0 0 rfl rfl)
theorem dJ1_elementAt_1 : decode cJ1_elementAt 1 = .ok (.iload_n 1, 1) := dk_27 (dk_at dksJ1_elementAt_0 1 rfl rfl)
theorem dJ1_elementAt_2 : decode cJ1_elementAt 2 = .ok (.aaload, 1) := dk_50 (dk_at dksJ1_elementAt_0 2 rfl rfl)
theorem dJ1_elementAt_3 : decode cJ1_elementAt 3 = .ok (.areturn, 1) := dk_176 (dk_at dksJ1_elementAt_0 3 rfl rfl)
abbrev cJ1_inc : ByteArray := prog_52_method_6_code
def yJ1_inc : MethodName := ⟨RJ1, "inc", "(II)I"⟩
def dkwJ1_inc_0 : List UInt8 := [132, 0, 1, 26, 27, 161, 0, 5, 3, 59, 26, 172]
abbrev dktJ1_inc_0 : List UInt8 := dkwJ1_inc_0 ++ []
theorem dksJ1_inc_0 : cJ1_inc.data.toList.drop 0 = dktJ1_inc_0 := by decide +kernel
theorem dJ1_inc_0 : decode cJ1_inc 0 = .ok (.iinc 0 1, 3) := dk_132 0 1 (dk_at dksJ1_inc_0 0 rfl rfl)
theorem dJ1_inc_3 : decode cJ1_inc 3 = .ok (.iload_n 0, 1) := dk_26 (dk_at dksJ1_inc_0 3 rfl rfl)
theorem dJ1_inc_4 : decode cJ1_inc 4 = .ok (.iload_n 1, 1) := dk_27 (dk_at dksJ1_inc_0 4 rfl rfl)
theorem dJ1_inc_5 : decode cJ1_inc 5 = .ok (.if_icmp .lt 5, 3) := dk_161 0 5 (dk_at dksJ1_inc_0 5 rfl rfl)
theorem dJ1_inc_8 : decode cJ1_inc 8 = .ok (.iconst 0, 1) := dk_3 (dk_at dksJ1_inc_0 8 rfl rfl)
theorem dJ1_inc_9 : decode cJ1_inc 9 = .ok (.istore_n 0, 1) := dk_59 (dk_at dksJ1_inc_0 9 rfl rfl)
theorem dJ1_inc_10 : decode cJ1_inc 10 = .ok (.iload_n 0, 1) := dk_26 (dk_at dksJ1_inc_0 10 rfl rfl)
theorem dJ1_inc_11 : decode cJ1_inc 11 = .ok (.ireturn, 1) := dk_172 (dk_at dksJ1_inc_0 11 rfl rfl)
abbrev cJ1_addLast : ByteArray := prog_52_method_13_code
def yJ1_addLast : MethodName := ⟨RJ1, "addLast", "(Ljava/lang/Object;)V"⟩
def dkwJ1_addLast_2 : List UInt8 := [182, 0, 71, 177]
abbrev dktJ1_addLast_2 : List UInt8 := dkwJ1_addLast_2 ++ []
def dkwJ1_addLast_1 : List UInt8 := [42, 180, 0, 24, 42, 42, 180, 0, 20, 44, 190, 184, 0, 74, 90, 181, 0, 20, 160, 0, 8, 42, 4]
abbrev dktJ1_addLast_1 : List UInt8 := dkwJ1_addLast_1 ++ dktJ1_addLast_2
def dkwJ1_addLast_0 : List UInt8 := [43, 199, 0, 11, 187, 0, 65, 89, 183, 0, 67, 191, 42, 180, 0, 3, 77, 44, 42, 180, 0, 20, 43, 83]
abbrev dktJ1_addLast_0 : List UInt8 := dkwJ1_addLast_0 ++ dktJ1_addLast_1
theorem dksJ1_addLast_0 : cJ1_addLast.data.toList.drop 0 = dktJ1_addLast_0 := by decide +kernel
theorem dksJ1_addLast_1 : cJ1_addLast.data.toList.drop 24 = dktJ1_addLast_1 := dk_seg dksJ1_addLast_0 24 rfl rfl
theorem dksJ1_addLast_2 : cJ1_addLast.data.toList.drop 47 = dktJ1_addLast_2 := dk_seg dksJ1_addLast_1 23 rfl rfl
theorem dJ1_addLast_0 : decode cJ1_addLast 0 = .ok (.aload_n 1, 1) := dk_43 (dk_at dksJ1_addLast_0 0 rfl rfl)
theorem dJ1_addLast_1 : decode cJ1_addLast 1 = .ok (.ifnonnull 11, 3) := dk_199 0 11 (dk_at dksJ1_addLast_0 1 rfl rfl)
theorem dJ1_addLast_4 : decode cJ1_addLast 4 = .ok (.new 65, 3) := dk_187 0 65 (dk_at dksJ1_addLast_0 4 rfl rfl)
theorem dJ1_addLast_7 : decode cJ1_addLast 7 = .ok (.dup, 1) := dk_89 (dk_at dksJ1_addLast_0 7 rfl rfl)
theorem dJ1_addLast_8 : decode cJ1_addLast 8 = .ok (.invokespecial 67, 3) := dk_183 0 67 (dk_at dksJ1_addLast_0 8 rfl rfl)
theorem dJ1_addLast_11 : decode cJ1_addLast 11 = .ok (.athrow, 1) := dk_191 (dk_at dksJ1_addLast_0 11 rfl rfl)
theorem dJ1_addLast_12 : decode cJ1_addLast 12 = .ok (.aload_n 0, 1) := dk_42 (dk_at dksJ1_addLast_0 12 rfl rfl)
theorem dJ1_addLast_13 : decode cJ1_addLast 13 = .ok (.getfield 3, 3) := dk_180 0 3 (dk_at dksJ1_addLast_0 13 rfl rfl)
theorem dJ1_addLast_16 : decode cJ1_addLast 16 = .ok (.astore_n 2, 1) := dk_77 (dk_at dksJ1_addLast_0 16 rfl rfl)
theorem dJ1_addLast_17 : decode cJ1_addLast 17 = .ok (.aload_n 2, 1) := dk_44 (dk_at dksJ1_addLast_0 17 rfl rfl)
theorem dJ1_addLast_18 : decode cJ1_addLast 18 = .ok (.aload_n 0, 1) := dk_42 (dk_at dksJ1_addLast_0 18 rfl rfl)
theorem dJ1_addLast_19 : decode cJ1_addLast 19 = .ok (.getfield 20, 3) := dk_180 0 20 (dk_at dksJ1_addLast_0 19 rfl rfl)
theorem dJ1_addLast_22 : decode cJ1_addLast 22 = .ok (.aload_n 1, 1) := dk_43 (dk_at dksJ1_addLast_0 22 rfl rfl)
theorem dJ1_addLast_23 : decode cJ1_addLast 23 = .ok (.aastore, 1) := dk_83 (dk_at dksJ1_addLast_0 23 rfl rfl)
theorem dJ1_addLast_24 : decode cJ1_addLast 24 = .ok (.aload_n 0, 1) := dk_42 (dk_at dksJ1_addLast_1 0 rfl rfl)
theorem dJ1_addLast_25 : decode cJ1_addLast 25 = .ok (.getfield 24, 3) := dk_180 0 24 (dk_at dksJ1_addLast_1 1 rfl rfl)
theorem dJ1_addLast_28 : decode cJ1_addLast 28 = .ok (.aload_n 0, 1) := dk_42 (dk_at dksJ1_addLast_1 4 rfl rfl)
theorem dJ1_addLast_29 : decode cJ1_addLast 29 = .ok (.aload_n 0, 1) := dk_42 (dk_at dksJ1_addLast_1 5 rfl rfl)
theorem dJ1_addLast_30 : decode cJ1_addLast 30 = .ok (.getfield 20, 3) := dk_180 0 20 (dk_at dksJ1_addLast_1 6 rfl rfl)
theorem dJ1_addLast_33 : decode cJ1_addLast 33 = .ok (.aload_n 2, 1) := dk_44 (dk_at dksJ1_addLast_1 9 rfl rfl)
theorem dJ1_addLast_34 : decode cJ1_addLast 34 = .ok (.arraylength, 1) := dk_190 (dk_at dksJ1_addLast_1 10 rfl rfl)
theorem dJ1_addLast_35 : decode cJ1_addLast 35 = .ok (.invokestatic 74, 3) := dk_184 0 74 (dk_at dksJ1_addLast_1 11 rfl rfl)
theorem dJ1_addLast_38 : decode cJ1_addLast 38 = .ok (.dup_x1, 1) := dk_90 (dk_at dksJ1_addLast_1 14 rfl rfl)
theorem dJ1_addLast_39 : decode cJ1_addLast 39 = .ok (.putfield 20, 3) := dk_181 0 20 (dk_at dksJ1_addLast_1 15 rfl rfl)
theorem dJ1_addLast_42 : decode cJ1_addLast 42 = .ok (.if_icmp .ne 8, 3) := dk_160 0 8 (dk_at dksJ1_addLast_1 18 rfl rfl)
theorem dJ1_addLast_45 : decode cJ1_addLast 45 = .ok (.aload_n 0, 1) := dk_42 (dk_at dksJ1_addLast_1 21 rfl rfl)
theorem dJ1_addLast_46 : decode cJ1_addLast 46 = .ok (.iconst 1, 1) := dk_4 (dk_at dksJ1_addLast_1 22 rfl rfl)
theorem dJ1_addLast_47 : decode cJ1_addLast 47 = .ok (.invokevirtual 71, 3) := dk_182 0 71 (dk_at dksJ1_addLast_2 0 rfl rfl)
theorem dJ1_addLast_50 : decode cJ1_addLast 50 = .ok (.return_, 1) := dk_177 (dk_at dksJ1_addLast_2 3 rfl rfl)
abbrev cJ1_grow : ByteArray := prog_52_method_1_code
def yJ1_grow : MethodName := ⟨RJ1, "grow", "(I)V"⟩
def dkwJ1_grow_7 : List UInt8 := [177]
abbrev dktJ1_grow_7 : List UInt8 := dkwJ1_grow_7 ++ []
def dkwJ1_grow_6 : List UInt8 := [181, 0, 24, 54, 8, 21, 7, 21, 8, 162, 0, 15, 25, 5, 21, 7, 1, 83, 132, 7, 1, 167, 255, 240]
abbrev dktJ1_grow_6 : List UInt8 := dkwJ1_grow_6 ++ dktJ1_grow_7
def dkwJ1_grow_5 : List UInt8 := [42, 180, 0, 24, 100, 184, 0, 27, 42, 180, 0, 24, 54, 7, 42, 89, 180, 0, 24, 21, 6, 96, 90]
abbrev dktJ1_grow_5 : List UInt8 := dkwJ1_grow_5 ++ dktJ1_grow_6
def dkwJ1_grow_4 : List UInt8 := [198, 0, 71, 29, 28, 100, 54, 6, 25, 5, 42, 180, 0, 24, 25, 5, 42, 180, 0, 24, 21, 6, 96, 28]
abbrev dktJ1_grow_4 : List UInt8 := dkwJ1_grow_4 ++ dktJ1_grow_5
def dkwJ1_grow_3 : List UInt8 := [180, 0, 24, 161, 0, 24, 42, 180, 0, 20, 42, 180, 0, 24, 160, 0, 81, 25, 5, 42, 180, 0, 24, 50]
abbrev dktJ1_grow_3 : List UInt8 := dkwJ1_grow_3 ++ dktJ1_grow_4
def dkwJ1_grow_2 : List UInt8 := [182, 0, 10, 62, 42, 42, 180, 0, 3, 29, 184, 0, 14, 90, 181, 0, 3, 58, 5, 42, 180, 0, 20, 42]
abbrev dktJ1_grow_2 : List UInt8 := dkwJ1_grow_2 ++ dktJ1_grow_3
def dkwJ1_grow_1 : List UInt8 := [21, 4, 27, 161, 0, 15, 28, 21, 4, 96, 89, 62, 18, 9, 100, 158, 0, 11, 42, 27, 21, 4]
abbrev dktJ1_grow_1 : List UInt8 := dkwJ1_grow_1 ++ dktJ1_grow_2
def dkwJ1_grow_0 : List UInt8 := [42, 180, 0, 3, 190, 61, 28, 16, 64, 162, 0, 9, 28, 5, 96, 167, 0, 6, 28, 4, 122, 54, 4]
abbrev dktJ1_grow_0 : List UInt8 := dkwJ1_grow_0 ++ dktJ1_grow_1
theorem dksJ1_grow_0 : cJ1_grow.data.toList.drop 0 = dktJ1_grow_0 := by decide +kernel
theorem dksJ1_grow_1 : cJ1_grow.data.toList.drop 23 = dktJ1_grow_1 := dk_seg dksJ1_grow_0 23 rfl rfl
theorem dksJ1_grow_2 : cJ1_grow.data.toList.drop 45 = dktJ1_grow_2 := dk_seg dksJ1_grow_1 22 rfl rfl
theorem dksJ1_grow_3 : cJ1_grow.data.toList.drop 69 = dktJ1_grow_3 := dk_seg dksJ1_grow_2 24 rfl rfl
theorem dksJ1_grow_4 : cJ1_grow.data.toList.drop 93 = dktJ1_grow_4 := dk_seg dksJ1_grow_3 24 rfl rfl
theorem dksJ1_grow_5 : cJ1_grow.data.toList.drop 117 = dktJ1_grow_5 := dk_seg dksJ1_grow_4 24 rfl rfl
theorem dksJ1_grow_6 : cJ1_grow.data.toList.drop 140 = dktJ1_grow_6 := dk_seg dksJ1_grow_5 23 rfl rfl
theorem dksJ1_grow_7 : cJ1_grow.data.toList.drop 164 = dktJ1_grow_7 := dk_seg dksJ1_grow_6 24 rfl rfl
theorem dJ1_grow_0 : decode cJ1_grow 0 = .ok (.aload_n 0, 1) := dk_42 (dk_at dksJ1_grow_0 0 rfl rfl)
theorem dJ1_grow_1 : decode cJ1_grow 1 = .ok (.getfield 3, 3) := dk_180 0 3 (dk_at dksJ1_grow_0 1 rfl rfl)
theorem dJ1_grow_4 : decode cJ1_grow 4 = .ok (.arraylength, 1) := dk_190 (dk_at dksJ1_grow_0 4 rfl rfl)
theorem dJ1_grow_5 : decode cJ1_grow 5 = .ok (.istore_n 2, 1) := dk_61 (dk_at dksJ1_grow_0 5 rfl rfl)
theorem dJ1_grow_6 : decode cJ1_grow 6 = .ok (.iload_n 2, 1) := dk_28 (dk_at dksJ1_grow_0 6 rfl rfl)
theorem dJ1_grow_7 : decode cJ1_grow 7 = .ok (.bipush 64, 2) := dk_16 64 (dk_at dksJ1_grow_0 7 rfl rfl)
theorem dJ1_grow_9 : decode cJ1_grow 9 = .ok (.if_icmp .ge 9, 3) := dk_162 0 9 (dk_at dksJ1_grow_0 9 rfl rfl)
theorem dJ1_grow_12 : decode cJ1_grow 12 = .ok (.iload_n 2, 1) := dk_28 (dk_at dksJ1_grow_0 12 rfl rfl)
theorem dJ1_grow_13 : decode cJ1_grow 13 = .ok (.iconst 2, 1) := dk_5 (dk_at dksJ1_grow_0 13 rfl rfl)
theorem dJ1_grow_14 : decode cJ1_grow 14 = .ok (.iadd, 1) := dk_96 (dk_at dksJ1_grow_0 14 rfl rfl)
theorem dJ1_grow_15 : decode cJ1_grow 15 = .ok (.goto 6, 3) := dk_167 0 6 (dk_at dksJ1_grow_0 15 rfl rfl)
theorem dJ1_grow_18 : decode cJ1_grow 18 = .ok (.iload_n 2, 1) := dk_28 (dk_at dksJ1_grow_0 18 rfl rfl)
theorem dJ1_grow_19 : decode cJ1_grow 19 = .ok (.iconst 1, 1) := dk_4 (dk_at dksJ1_grow_0 19 rfl rfl)
theorem dJ1_grow_20 : decode cJ1_grow 20 = .ok (.ishr, 1) := dk_122 (dk_at dksJ1_grow_0 20 rfl rfl)
theorem dJ1_grow_21 : decode cJ1_grow 21 = .ok (.istore 4, 2) := dk_54 4 (dk_at dksJ1_grow_0 21 rfl rfl)
theorem dJ1_grow_23 : decode cJ1_grow 23 = .ok (.iload 4, 2) := dk_21 4 (dk_at dksJ1_grow_1 0 rfl rfl)
theorem dJ1_grow_25 : decode cJ1_grow 25 = .ok (.iload_n 1, 1) := dk_27 (dk_at dksJ1_grow_1 2 rfl rfl)
theorem dJ1_grow_26 : decode cJ1_grow 26 = .ok (.if_icmp .lt 15, 3) := dk_161 0 15 (dk_at dksJ1_grow_1 3 rfl rfl)
theorem dJ1_grow_29 : decode cJ1_grow 29 = .ok (.iload_n 2, 1) := dk_28 (dk_at dksJ1_grow_1 6 rfl rfl)
theorem dJ1_grow_30 : decode cJ1_grow 30 = .ok (.iload 4, 2) := dk_21 4 (dk_at dksJ1_grow_1 7 rfl rfl)
theorem dJ1_grow_32 : decode cJ1_grow 32 = .ok (.iadd, 1) := dk_96 (dk_at dksJ1_grow_1 9 rfl rfl)
theorem dJ1_grow_33 : decode cJ1_grow 33 = .ok (.dup, 1) := dk_89 (dk_at dksJ1_grow_1 10 rfl rfl)
theorem dJ1_grow_34 : decode cJ1_grow 34 = .ok (.istore_n 3, 1) := dk_62 (dk_at dksJ1_grow_1 11 rfl rfl)
theorem dJ1_grow_35 : decode cJ1_grow 35 = .ok (.ldc 9, 2) := dk_18 9 (dk_at dksJ1_grow_1 12 rfl rfl)
theorem dJ1_grow_37 : decode cJ1_grow 37 = .ok (.isub, 1) := dk_100 (dk_at dksJ1_grow_1 14 rfl rfl)
theorem dJ1_grow_38 : decode cJ1_grow 38 = .ok (.ifCond .le 11, 3) := dk_158 0 11 (dk_at dksJ1_grow_1 15 rfl rfl)
theorem dJ1_grow_41 : decode cJ1_grow 41 = .ok (.aload_n 0, 1) := dk_42 (dk_at dksJ1_grow_1 18 rfl rfl)
theorem dJ1_grow_42 : decode cJ1_grow 42 = .ok (.iload_n 1, 1) := dk_27 (dk_at dksJ1_grow_1 19 rfl rfl)
theorem dJ1_grow_43 : decode cJ1_grow 43 = .ok (.iload 4, 2) := dk_21 4 (dk_at dksJ1_grow_1 20 rfl rfl)
theorem dJ1_grow_45 : decode cJ1_grow 45 = .ok (.invokevirtual 10, 3) := dk_182 0 10 (dk_at dksJ1_grow_2 0 rfl rfl)
theorem dJ1_grow_48 : decode cJ1_grow 48 = .ok (.istore_n 3, 1) := dk_62 (dk_at dksJ1_grow_2 3 rfl rfl)
theorem dJ1_grow_49 : decode cJ1_grow 49 = .ok (.aload_n 0, 1) := dk_42 (dk_at dksJ1_grow_2 4 rfl rfl)
theorem dJ1_grow_50 : decode cJ1_grow 50 = .ok (.aload_n 0, 1) := dk_42 (dk_at dksJ1_grow_2 5 rfl rfl)
theorem dJ1_grow_51 : decode cJ1_grow 51 = .ok (.getfield 3, 3) := dk_180 0 3 (dk_at dksJ1_grow_2 6 rfl rfl)
theorem dJ1_grow_54 : decode cJ1_grow 54 = .ok (.iload_n 3, 1) := dk_29 (dk_at dksJ1_grow_2 9 rfl rfl)
theorem dJ1_grow_55 : decode cJ1_grow 55 = .ok (.invokestatic 14, 3) := dk_184 0 14 (dk_at dksJ1_grow_2 10 rfl rfl)
theorem dJ1_grow_58 : decode cJ1_grow 58 = .ok (.dup_x1, 1) := dk_90 (dk_at dksJ1_grow_2 13 rfl rfl)
theorem dJ1_grow_59 : decode cJ1_grow 59 = .ok (.putfield 3, 3) := dk_181 0 3 (dk_at dksJ1_grow_2 14 rfl rfl)
theorem dJ1_grow_62 : decode cJ1_grow 62 = .ok (.astore 5, 2) := dk_58 5 (dk_at dksJ1_grow_2 17 rfl rfl)
theorem dJ1_grow_64 : decode cJ1_grow 64 = .ok (.aload_n 0, 1) := dk_42 (dk_at dksJ1_grow_2 19 rfl rfl)
theorem dJ1_grow_65 : decode cJ1_grow 65 = .ok (.getfield 20, 3) := dk_180 0 20 (dk_at dksJ1_grow_2 20 rfl rfl)
theorem dJ1_grow_68 : decode cJ1_grow 68 = .ok (.aload_n 0, 1) := dk_42 (dk_at dksJ1_grow_2 23 rfl rfl)
theorem dJ1_grow_69 : decode cJ1_grow 69 = .ok (.getfield 24, 3) := dk_180 0 24 (dk_at dksJ1_grow_3 0 rfl rfl)
theorem dJ1_grow_72 : decode cJ1_grow 72 = .ok (.if_icmp .lt 24, 3) := dk_161 0 24 (dk_at dksJ1_grow_3 3 rfl rfl)
theorem dJ1_grow_75 : decode cJ1_grow 75 = .ok (.aload_n 0, 1) := dk_42 (dk_at dksJ1_grow_3 6 rfl rfl)
theorem dJ1_grow_76 : decode cJ1_grow 76 = .ok (.getfield 20, 3) := dk_180 0 20 (dk_at dksJ1_grow_3 7 rfl rfl)
theorem dJ1_grow_79 : decode cJ1_grow 79 = .ok (.aload_n 0, 1) := dk_42 (dk_at dksJ1_grow_3 10 rfl rfl)
theorem dJ1_grow_80 : decode cJ1_grow 80 = .ok (.getfield 24, 3) := dk_180 0 24 (dk_at dksJ1_grow_3 11 rfl rfl)
theorem dJ1_grow_83 : decode cJ1_grow 83 = .ok (.if_icmp .ne 81, 3) := dk_160 0 81 (dk_at dksJ1_grow_3 14 rfl rfl)
theorem dJ1_grow_86 : decode cJ1_grow 86 = .ok (.aload 5, 2) := dk_25 5 (dk_at dksJ1_grow_3 17 rfl rfl)
theorem dJ1_grow_88 : decode cJ1_grow 88 = .ok (.aload_n 0, 1) := dk_42 (dk_at dksJ1_grow_3 19 rfl rfl)
theorem dJ1_grow_89 : decode cJ1_grow 89 = .ok (.getfield 24, 3) := dk_180 0 24 (dk_at dksJ1_grow_3 20 rfl rfl)
theorem dJ1_grow_92 : decode cJ1_grow 92 = .ok (.aaload, 1) := dk_50 (dk_at dksJ1_grow_3 23 rfl rfl)
theorem dJ1_grow_93 : decode cJ1_grow 93 = .ok (.ifnull 71, 3) := dk_198 0 71 (dk_at dksJ1_grow_4 0 rfl rfl)
theorem dJ1_grow_96 : decode cJ1_grow 96 = .ok (.iload_n 3, 1) := dk_29 (dk_at dksJ1_grow_4 3 rfl rfl)
theorem dJ1_grow_97 : decode cJ1_grow 97 = .ok (.iload_n 2, 1) := dk_28 (dk_at dksJ1_grow_4 4 rfl rfl)
theorem dJ1_grow_98 : decode cJ1_grow 98 = .ok (.isub, 1) := dk_100 (dk_at dksJ1_grow_4 5 rfl rfl)
theorem dJ1_grow_99 : decode cJ1_grow 99 = .ok (.istore 6, 2) := dk_54 6 (dk_at dksJ1_grow_4 6 rfl rfl)
theorem dJ1_grow_101 : decode cJ1_grow 101 = .ok (.aload 5, 2) := dk_25 5 (dk_at dksJ1_grow_4 8 rfl rfl)
theorem dJ1_grow_103 : decode cJ1_grow 103 = .ok (.aload_n 0, 1) := dk_42 (dk_at dksJ1_grow_4 10 rfl rfl)
theorem dJ1_grow_104 : decode cJ1_grow 104 = .ok (.getfield 24, 3) := dk_180 0 24 (dk_at dksJ1_grow_4 11 rfl rfl)
theorem dJ1_grow_107 : decode cJ1_grow 107 = .ok (.aload 5, 2) := dk_25 5 (dk_at dksJ1_grow_4 14 rfl rfl)
theorem dJ1_grow_109 : decode cJ1_grow 109 = .ok (.aload_n 0, 1) := dk_42 (dk_at dksJ1_grow_4 16 rfl rfl)
theorem dJ1_grow_110 : decode cJ1_grow 110 = .ok (.getfield 24, 3) := dk_180 0 24 (dk_at dksJ1_grow_4 17 rfl rfl)
theorem dJ1_grow_113 : decode cJ1_grow 113 = .ok (.iload 6, 2) := dk_21 6 (dk_at dksJ1_grow_4 20 rfl rfl)
theorem dJ1_grow_115 : decode cJ1_grow 115 = .ok (.iadd, 1) := dk_96 (dk_at dksJ1_grow_4 22 rfl rfl)
theorem dJ1_grow_116 : decode cJ1_grow 116 = .ok (.iload_n 2, 1) := dk_28 (dk_at dksJ1_grow_4 23 rfl rfl)
theorem dJ1_grow_117 : decode cJ1_grow 117 = .ok (.aload_n 0, 1) := dk_42 (dk_at dksJ1_grow_5 0 rfl rfl)
theorem dJ1_grow_118 : decode cJ1_grow 118 = .ok (.getfield 24, 3) := dk_180 0 24 (dk_at dksJ1_grow_5 1 rfl rfl)
theorem dJ1_grow_121 : decode cJ1_grow 121 = .ok (.isub, 1) := dk_100 (dk_at dksJ1_grow_5 4 rfl rfl)
theorem dJ1_grow_122 : decode cJ1_grow 122 = .ok (.invokestatic 27, 3) := dk_184 0 27 (dk_at dksJ1_grow_5 5 rfl rfl)
theorem dJ1_grow_125 : decode cJ1_grow 125 = .ok (.aload_n 0, 1) := dk_42 (dk_at dksJ1_grow_5 8 rfl rfl)
theorem dJ1_grow_126 : decode cJ1_grow 126 = .ok (.getfield 24, 3) := dk_180 0 24 (dk_at dksJ1_grow_5 9 rfl rfl)
theorem dJ1_grow_129 : decode cJ1_grow 129 = .ok (.istore 7, 2) := dk_54 7 (dk_at dksJ1_grow_5 12 rfl rfl)
theorem dJ1_grow_131 : decode cJ1_grow 131 = .ok (.aload_n 0, 1) := dk_42 (dk_at dksJ1_grow_5 14 rfl rfl)
theorem dJ1_grow_132 : decode cJ1_grow 132 = .ok (.dup, 1) := dk_89 (dk_at dksJ1_grow_5 15 rfl rfl)
theorem dJ1_grow_133 : decode cJ1_grow 133 = .ok (.getfield 24, 3) := dk_180 0 24 (dk_at dksJ1_grow_5 16 rfl rfl)
theorem dJ1_grow_136 : decode cJ1_grow 136 = .ok (.iload 6, 2) := dk_21 6 (dk_at dksJ1_grow_5 19 rfl rfl)
theorem dJ1_grow_138 : decode cJ1_grow 138 = .ok (.iadd, 1) := dk_96 (dk_at dksJ1_grow_5 21 rfl rfl)
theorem dJ1_grow_139 : decode cJ1_grow 139 = .ok (.dup_x1, 1) := dk_90 (dk_at dksJ1_grow_5 22 rfl rfl)
theorem dJ1_grow_140 : decode cJ1_grow 140 = .ok (.putfield 24, 3) := dk_181 0 24 (dk_at dksJ1_grow_6 0 rfl rfl)
theorem dJ1_grow_143 : decode cJ1_grow 143 = .ok (.istore 8, 2) := dk_54 8 (dk_at dksJ1_grow_6 3 rfl rfl)
theorem dJ1_grow_145 : decode cJ1_grow 145 = .ok (.iload 7, 2) := dk_21 7 (dk_at dksJ1_grow_6 5 rfl rfl)
theorem dJ1_grow_147 : decode cJ1_grow 147 = .ok (.iload 8, 2) := dk_21 8 (dk_at dksJ1_grow_6 7 rfl rfl)
theorem dJ1_grow_149 : decode cJ1_grow 149 = .ok (.if_icmp .ge 15, 3) := dk_162 0 15 (dk_at dksJ1_grow_6 9 rfl rfl)
theorem dJ1_grow_152 : decode cJ1_grow 152 = .ok (.aload 5, 2) := dk_25 5 (dk_at dksJ1_grow_6 12 rfl rfl)
theorem dJ1_grow_154 : decode cJ1_grow 154 = .ok (.iload 7, 2) := dk_21 7 (dk_at dksJ1_grow_6 14 rfl rfl)
theorem dJ1_grow_156 : decode cJ1_grow 156 = .ok (.aconst_null, 1) := dk_1 (dk_at dksJ1_grow_6 16 rfl rfl)
theorem dJ1_grow_157 : decode cJ1_grow 157 = .ok (.aastore, 1) := dk_83 (dk_at dksJ1_grow_6 17 rfl rfl)
theorem dJ1_grow_158 : decode cJ1_grow 158 = .ok (.iinc 7 1, 3) := dk_132 7 1 (dk_at dksJ1_grow_6 18 rfl rfl)
theorem dJ1_grow_161 : decode cJ1_grow 161 = .ok (.goto (-16), 3) := dk_167 255 240 (dk_at dksJ1_grow_6 21 rfl rfl)
theorem dJ1_grow_164 : decode cJ1_grow 164 = .ok (.return_, 1) := dk_177 (dk_at dksJ1_grow_7 0 rfl rfl)
abbrev cJ1_newCapacity : ByteArray := prog_52_method_2_code
def yJ1_newCapacity : MethodName := ⟨RJ1, "newCapacity", "(II)I"⟩
def dkwJ1_newCapacity_2 : List UInt8 := [18, 9, 100, 156, 0, 9, 29, 28, 96, 167, 0, 5, 18, 9, 172]
abbrev dktJ1_newCapacity_2 : List UInt8 := dkwJ1_newCapacity_2 ++ []
def dkwJ1_newCapacity_1 : List UInt8 := [187, 0, 33, 89, 18, 35, 183, 0, 37, 191, 18, 41, 172, 27, 28, 164, 0, 6, 21, 4, 172, 29, 28, 96]
abbrev dktJ1_newCapacity_1 : List UInt8 := dkwJ1_newCapacity_1 ++ dktJ1_newCapacity_2
def dkwJ1_newCapacity_0 : List UInt8 := [42, 180, 0, 3, 190, 62, 29, 27, 96, 89, 54, 4, 18, 9, 100, 158, 0, 21, 21, 4, 156, 0, 13]
abbrev dktJ1_newCapacity_0 : List UInt8 := dkwJ1_newCapacity_0 ++ dktJ1_newCapacity_1
theorem dksJ1_newCapacity_0 : cJ1_newCapacity.data.toList.drop 0 = dktJ1_newCapacity_0 := by decide +kernel
theorem dksJ1_newCapacity_1 : cJ1_newCapacity.data.toList.drop 23 = dktJ1_newCapacity_1 := dk_seg dksJ1_newCapacity_0 23 rfl rfl
theorem dksJ1_newCapacity_2 : cJ1_newCapacity.data.toList.drop 47 = dktJ1_newCapacity_2 := dk_seg dksJ1_newCapacity_1 24 rfl rfl
theorem dJ1_newCapacity_0 : decode cJ1_newCapacity 0 = .ok (.aload_n 0, 1) := dk_42 (dk_at dksJ1_newCapacity_0 0 rfl rfl)
theorem dJ1_newCapacity_1 : decode cJ1_newCapacity 1 = .ok (.getfield 3, 3) := dk_180 0 3 (dk_at dksJ1_newCapacity_0 1 rfl rfl)
theorem dJ1_newCapacity_4 : decode cJ1_newCapacity 4 = .ok (.arraylength, 1) := dk_190 (dk_at dksJ1_newCapacity_0 4 rfl rfl)
theorem dJ1_newCapacity_5 : decode cJ1_newCapacity 5 = .ok (.istore_n 3, 1) := dk_62 (dk_at dksJ1_newCapacity_0 5 rfl rfl)
theorem dJ1_newCapacity_6 : decode cJ1_newCapacity 6 = .ok (.iload_n 3, 1) := dk_29 (dk_at dksJ1_newCapacity_0 6 rfl rfl)
theorem dJ1_newCapacity_7 : decode cJ1_newCapacity 7 = .ok (.iload_n 1, 1) := dk_27 (dk_at dksJ1_newCapacity_0 7 rfl rfl)
theorem dJ1_newCapacity_8 : decode cJ1_newCapacity 8 = .ok (.iadd, 1) := dk_96 (dk_at dksJ1_newCapacity_0 8 rfl rfl)
theorem dJ1_newCapacity_9 : decode cJ1_newCapacity 9 = .ok (.dup, 1) := dk_89 (dk_at dksJ1_newCapacity_0 9 rfl rfl)
theorem dJ1_newCapacity_10 : decode cJ1_newCapacity 10 = .ok (.istore 4, 2) := dk_54 4 (dk_at dksJ1_newCapacity_0 10 rfl rfl)
theorem dJ1_newCapacity_12 : decode cJ1_newCapacity 12 = .ok (.ldc 9, 2) := dk_18 9 (dk_at dksJ1_newCapacity_0 12 rfl rfl)
theorem dJ1_newCapacity_14 : decode cJ1_newCapacity 14 = .ok (.isub, 1) := dk_100 (dk_at dksJ1_newCapacity_0 14 rfl rfl)
theorem dJ1_newCapacity_15 : decode cJ1_newCapacity 15 = .ok (.ifCond .le 21, 3) := dk_158 0 21 (dk_at dksJ1_newCapacity_0 15 rfl rfl)
theorem dJ1_newCapacity_18 : decode cJ1_newCapacity 18 = .ok (.iload 4, 2) := dk_21 4 (dk_at dksJ1_newCapacity_0 18 rfl rfl)
theorem dJ1_newCapacity_20 : decode cJ1_newCapacity 20 = .ok (.ifCond .ge 13, 3) := dk_156 0 13 (dk_at dksJ1_newCapacity_0 20 rfl rfl)
theorem dJ1_newCapacity_23 : decode cJ1_newCapacity 23 = .ok (.new 33, 3) := dk_187 0 33 (dk_at dksJ1_newCapacity_1 0 rfl rfl)
theorem dJ1_newCapacity_26 : decode cJ1_newCapacity 26 = .ok (.dup, 1) := dk_89 (dk_at dksJ1_newCapacity_1 3 rfl rfl)
theorem dJ1_newCapacity_27 : decode cJ1_newCapacity 27 = .ok (.ldc 35, 2) := dk_18 35 (dk_at dksJ1_newCapacity_1 4 rfl rfl)
theorem dJ1_newCapacity_29 : decode cJ1_newCapacity 29 = .ok (.invokespecial 37, 3) := dk_183 0 37 (dk_at dksJ1_newCapacity_1 6 rfl rfl)
theorem dJ1_newCapacity_32 : decode cJ1_newCapacity 32 = .ok (.athrow, 1) := dk_191 (dk_at dksJ1_newCapacity_1 9 rfl rfl)
theorem dJ1_newCapacity_33 : decode cJ1_newCapacity 33 = .ok (.ldc 41, 2) := dk_18 41 (dk_at dksJ1_newCapacity_1 10 rfl rfl)
theorem dJ1_newCapacity_35 : decode cJ1_newCapacity 35 = .ok (.ireturn, 1) := dk_172 (dk_at dksJ1_newCapacity_1 12 rfl rfl)
theorem dJ1_newCapacity_36 : decode cJ1_newCapacity 36 = .ok (.iload_n 1, 1) := dk_27 (dk_at dksJ1_newCapacity_1 13 rfl rfl)
theorem dJ1_newCapacity_37 : decode cJ1_newCapacity 37 = .ok (.iload_n 2, 1) := dk_28 (dk_at dksJ1_newCapacity_1 14 rfl rfl)
theorem dJ1_newCapacity_38 : decode cJ1_newCapacity 38 = .ok (.if_icmp .le 6, 3) := dk_164 0 6 (dk_at dksJ1_newCapacity_1 15 rfl rfl)
theorem dJ1_newCapacity_41 : decode cJ1_newCapacity 41 = .ok (.iload 4, 2) := dk_21 4 (dk_at dksJ1_newCapacity_1 18 rfl rfl)
theorem dJ1_newCapacity_43 : decode cJ1_newCapacity 43 = .ok (.ireturn, 1) := dk_172 (dk_at dksJ1_newCapacity_1 20 rfl rfl)
theorem dJ1_newCapacity_44 : decode cJ1_newCapacity 44 = .ok (.iload_n 3, 1) := dk_29 (dk_at dksJ1_newCapacity_1 21 rfl rfl)
theorem dJ1_newCapacity_45 : decode cJ1_newCapacity 45 = .ok (.iload_n 2, 1) := dk_28 (dk_at dksJ1_newCapacity_1 22 rfl rfl)
theorem dJ1_newCapacity_46 : decode cJ1_newCapacity 46 = .ok (.iadd, 1) := dk_96 (dk_at dksJ1_newCapacity_1 23 rfl rfl)
theorem dJ1_newCapacity_47 : decode cJ1_newCapacity 47 = .ok (.ldc 9, 2) := dk_18 9 (dk_at dksJ1_newCapacity_2 0 rfl rfl)
theorem dJ1_newCapacity_49 : decode cJ1_newCapacity 49 = .ok (.isub, 1) := dk_100 (dk_at dksJ1_newCapacity_2 2 rfl rfl)
theorem dJ1_newCapacity_50 : decode cJ1_newCapacity 50 = .ok (.ifCond .ge 9, 3) := dk_156 0 9 (dk_at dksJ1_newCapacity_2 3 rfl rfl)
theorem dJ1_newCapacity_53 : decode cJ1_newCapacity 53 = .ok (.iload_n 3, 1) := dk_29 (dk_at dksJ1_newCapacity_2 6 rfl rfl)
theorem dJ1_newCapacity_54 : decode cJ1_newCapacity 54 = .ok (.iload_n 2, 1) := dk_28 (dk_at dksJ1_newCapacity_2 7 rfl rfl)
theorem dJ1_newCapacity_55 : decode cJ1_newCapacity 55 = .ok (.iadd, 1) := dk_96 (dk_at dksJ1_newCapacity_2 8 rfl rfl)
theorem dJ1_newCapacity_56 : decode cJ1_newCapacity 56 = .ok (.goto 5, 3) := dk_167 0 5 (dk_at dksJ1_newCapacity_2 9 rfl rfl)
theorem dJ1_newCapacity_59 : decode cJ1_newCapacity 59 = .ok (.ldc 9, 2) := dk_18 9 (dk_at dksJ1_newCapacity_2 12 rfl rfl)
theorem dJ1_newCapacity_61 : decode cJ1_newCapacity 61 = .ok (.ireturn, 1) := dk_172 (dk_at dksJ1_newCapacity_2 14 rfl rfl)
abbrev cJ1_isEmpty : ByteArray := prog_52_method_38_code
def yJ1_isEmpty : MethodName := ⟨RJ1, "isEmpty", "()Z"⟩
def dkwJ1_isEmpty_0 : List UInt8 := [42, 180, 0, 24, 42, 180, 0, 20, 160, 0, 7, 4, 167, 0, 4, 3, 172]
abbrev dktJ1_isEmpty_0 : List UInt8 := dkwJ1_isEmpty_0 ++ []
theorem dksJ1_isEmpty_0 : cJ1_isEmpty.data.toList.drop 0 = dktJ1_isEmpty_0 := by decide +kernel
theorem dJ1_isEmpty_0 : decode cJ1_isEmpty 0 = .ok (.aload_n 0, 1) := dk_42 (dk_at dksJ1_isEmpty_0 0 rfl rfl)
theorem dJ1_isEmpty_1 : decode cJ1_isEmpty 1 = .ok (.getfield 24, 3) := dk_180 0 24 (dk_at dksJ1_isEmpty_0 1 rfl rfl)
theorem dJ1_isEmpty_4 : decode cJ1_isEmpty 4 = .ok (.aload_n 0, 1) := dk_42 (dk_at dksJ1_isEmpty_0 4 rfl rfl)
theorem dJ1_isEmpty_5 : decode cJ1_isEmpty 5 = .ok (.getfield 20, 3) := dk_180 0 20 (dk_at dksJ1_isEmpty_0 5 rfl rfl)
theorem dJ1_isEmpty_8 : decode cJ1_isEmpty 8 = .ok (.if_icmp .ne 7, 3) := dk_160 0 7 (dk_at dksJ1_isEmpty_0 8 rfl rfl)
theorem dJ1_isEmpty_11 : decode cJ1_isEmpty 11 = .ok (.iconst 1, 1) := dk_4 (dk_at dksJ1_isEmpty_0 11 rfl rfl)
theorem dJ1_isEmpty_12 : decode cJ1_isEmpty 12 = .ok (.goto 4, 3) := dk_167 0 4 (dk_at dksJ1_isEmpty_0 12 rfl rfl)
theorem dJ1_isEmpty_15 : decode cJ1_isEmpty 15 = .ok (.iconst 0, 1) := dk_3 (dk_at dksJ1_isEmpty_0 15 rfl rfl)
theorem dJ1_isEmpty_16 : decode cJ1_isEmpty 16 = .ok (.ireturn, 1) := dk_172 (dk_at dksJ1_isEmpty_0 16 rfl rfl)
abbrev cJ1_removeLast : ByteArray := prog_52_method_19_code
def yJ1_removeLast : MethodName := ⟨RJ1, "removeLast", "()Ljava/lang/Object;"⟩
def dkwJ1_removeLast_0 : List UInt8 := [42, 182, 0, 100, 76, 43, 199, 0, 11, 187, 0, 97, 89, 183, 0, 99, 191, 43, 176]
abbrev dktJ1_removeLast_0 : List UInt8 := dkwJ1_removeLast_0 ++ []
theorem dksJ1_removeLast_0 : cJ1_removeLast.data.toList.drop 0 = dktJ1_removeLast_0 := by decide +kernel
theorem dJ1_removeLast_0 : decode cJ1_removeLast 0 = .ok (.aload_n 0, 1) := dk_42 (dk_at dksJ1_removeLast_0 0 rfl rfl)
theorem dJ1_removeLast_1 : decode cJ1_removeLast 1 = .ok (.invokevirtual 100, 3) := dk_182 0 100 (dk_at dksJ1_removeLast_0 1 rfl rfl)
theorem dJ1_removeLast_4 : decode cJ1_removeLast 4 = .ok (.astore_n 1, 1) := dk_76 (dk_at dksJ1_removeLast_0 4 rfl rfl)
theorem dJ1_removeLast_5 : decode cJ1_removeLast 5 = .ok (.aload_n 1, 1) := dk_43 (dk_at dksJ1_removeLast_0 5 rfl rfl)
theorem dJ1_removeLast_6 : decode cJ1_removeLast 6 = .ok (.ifnonnull 11, 3) := dk_199 0 11 (dk_at dksJ1_removeLast_0 6 rfl rfl)
theorem dJ1_removeLast_9 : decode cJ1_removeLast 9 = .ok (.new 97, 3) := dk_187 0 97 (dk_at dksJ1_removeLast_0 9 rfl rfl)
theorem dJ1_removeLast_12 : decode cJ1_removeLast 12 = .ok (.dup, 1) := dk_89 (dk_at dksJ1_removeLast_0 12 rfl rfl)
theorem dJ1_removeLast_13 : decode cJ1_removeLast 13 = .ok (.invokespecial 99, 3) := dk_183 0 99 (dk_at dksJ1_removeLast_0 13 rfl rfl)
theorem dJ1_removeLast_16 : decode cJ1_removeLast 16 = .ok (.athrow, 1) := dk_191 (dk_at dksJ1_removeLast_0 16 rfl rfl)
theorem dJ1_removeLast_17 : decode cJ1_removeLast 17 = .ok (.aload_n 1, 1) := dk_43 (dk_at dksJ1_removeLast_0 17 rfl rfl)
theorem dJ1_removeLast_18 : decode cJ1_removeLast 18 = .ok (.areturn, 1) := dk_176 (dk_at dksJ1_removeLast_0 18 rfl rfl)
abbrev cJ1_pollLast : ByteArray := prog_52_method_21_code
def yJ1_pollLast : MethodName := ⟨RJ1, "pollLast", "()Ljava/lang/Object;"⟩
def dkwJ1_pollLast_1 : List UInt8 := [198, 0, 12, 43, 42, 28, 90, 181, 0, 20, 1, 83, 45, 176]
abbrev dktJ1_pollLast_1 : List UInt8 := dkwJ1_pollLast_1 ++ []
def dkwJ1_pollLast_0 : List UInt8 := [42, 180, 0, 3, 89, 76, 42, 180, 0, 20, 43, 190, 184, 0, 68, 89, 61, 184, 0, 103, 78, 45]
abbrev dktJ1_pollLast_0 : List UInt8 := dkwJ1_pollLast_0 ++ dktJ1_pollLast_1
theorem dksJ1_pollLast_0 : cJ1_pollLast.data.toList.drop 0 = dktJ1_pollLast_0 := by decide +kernel
theorem dksJ1_pollLast_1 : cJ1_pollLast.data.toList.drop 22 = dktJ1_pollLast_1 := dk_seg dksJ1_pollLast_0 22 rfl rfl
theorem dJ1_pollLast_0 : decode cJ1_pollLast 0 = .ok (.aload_n 0, 1) := dk_42 (dk_at dksJ1_pollLast_0 0 rfl rfl)
theorem dJ1_pollLast_1 : decode cJ1_pollLast 1 = .ok (.getfield 3, 3) := dk_180 0 3 (dk_at dksJ1_pollLast_0 1 rfl rfl)
theorem dJ1_pollLast_4 : decode cJ1_pollLast 4 = .ok (.dup, 1) := dk_89 (dk_at dksJ1_pollLast_0 4 rfl rfl)
theorem dJ1_pollLast_5 : decode cJ1_pollLast 5 = .ok (.astore_n 1, 1) := dk_76 (dk_at dksJ1_pollLast_0 5 rfl rfl)
theorem dJ1_pollLast_6 : decode cJ1_pollLast 6 = .ok (.aload_n 0, 1) := dk_42 (dk_at dksJ1_pollLast_0 6 rfl rfl)
theorem dJ1_pollLast_7 : decode cJ1_pollLast 7 = .ok (.getfield 20, 3) := dk_180 0 20 (dk_at dksJ1_pollLast_0 7 rfl rfl)
theorem dJ1_pollLast_10 : decode cJ1_pollLast 10 = .ok (.aload_n 1, 1) := dk_43 (dk_at dksJ1_pollLast_0 10 rfl rfl)
theorem dJ1_pollLast_11 : decode cJ1_pollLast 11 = .ok (.arraylength, 1) := dk_190 (dk_at dksJ1_pollLast_0 11 rfl rfl)
theorem dJ1_pollLast_12 : decode cJ1_pollLast 12 = .ok (.invokestatic 68, 3) := dk_184 0 68 (dk_at dksJ1_pollLast_0 12 rfl rfl)
theorem dJ1_pollLast_15 : decode cJ1_pollLast 15 = .ok (.dup, 1) := dk_89 (dk_at dksJ1_pollLast_0 15 rfl rfl)
theorem dJ1_pollLast_16 : decode cJ1_pollLast 16 = .ok (.istore_n 2, 1) := dk_61 (dk_at dksJ1_pollLast_0 16 rfl rfl)
theorem dJ1_pollLast_17 : decode cJ1_pollLast 17 = .ok (.invokestatic 103, 3) := dk_184 0 103 (dk_at dksJ1_pollLast_0 17 rfl rfl)
theorem dJ1_pollLast_20 : decode cJ1_pollLast 20 = .ok (.astore_n 3, 1) := dk_78 (dk_at dksJ1_pollLast_0 20 rfl rfl)
theorem dJ1_pollLast_21 : decode cJ1_pollLast 21 = .ok (.aload_n 3, 1) := dk_45 (dk_at dksJ1_pollLast_0 21 rfl rfl)
theorem dJ1_pollLast_22 : decode cJ1_pollLast 22 = .ok (.ifnull 12, 3) := dk_198 0 12 (dk_at dksJ1_pollLast_1 0 rfl rfl)
theorem dJ1_pollLast_25 : decode cJ1_pollLast 25 = .ok (.aload_n 1, 1) := dk_43 (dk_at dksJ1_pollLast_1 3 rfl rfl)
theorem dJ1_pollLast_26 : decode cJ1_pollLast 26 = .ok (.aload_n 0, 1) := dk_42 (dk_at dksJ1_pollLast_1 4 rfl rfl)
theorem dJ1_pollLast_27 : decode cJ1_pollLast 27 = .ok (.iload_n 2, 1) := dk_28 (dk_at dksJ1_pollLast_1 5 rfl rfl)
theorem dJ1_pollLast_28 : decode cJ1_pollLast 28 = .ok (.dup_x1, 1) := dk_90 (dk_at dksJ1_pollLast_1 6 rfl rfl)
theorem dJ1_pollLast_29 : decode cJ1_pollLast 29 = .ok (.putfield 20, 3) := dk_181 0 20 (dk_at dksJ1_pollLast_1 7 rfl rfl)
theorem dJ1_pollLast_32 : decode cJ1_pollLast 32 = .ok (.aconst_null, 1) := dk_1 (dk_at dksJ1_pollLast_1 10 rfl rfl)
theorem dJ1_pollLast_33 : decode cJ1_pollLast 33 = .ok (.aastore, 1) := dk_83 (dk_at dksJ1_pollLast_1 11 rfl rfl)
theorem dJ1_pollLast_34 : decode cJ1_pollLast 34 = .ok (.aload_n 3, 1) := dk_45 (dk_at dksJ1_pollLast_1 12 rfl rfl)
theorem dJ1_pollLast_35 : decode cJ1_pollLast 35 = .ok (.areturn, 1) := dk_176 (dk_at dksJ1_pollLast_1 13 rfl rfl)
abbrev cJ1_dec : ByteArray := prog_52_method_7_code
def yJ1_dec : MethodName := ⟨RJ1, "dec", "(II)I"⟩
def dkwJ1_dec_0 : List UInt8 := [132, 0, 255, 26, 156, 0, 7, 27, 4, 100, 59, 26, 172]
abbrev dktJ1_dec_0 : List UInt8 := dkwJ1_dec_0 ++ []
theorem dksJ1_dec_0 : cJ1_dec.data.toList.drop 0 = dktJ1_dec_0 := by decide +kernel
theorem dJ1_dec_0 : decode cJ1_dec 0 = .ok (.iinc 0 (-1), 3) := dk_132 0 255 (dk_at dksJ1_dec_0 0 rfl rfl)
theorem dJ1_dec_3 : decode cJ1_dec 3 = .ok (.iload_n 0, 1) := dk_26 (dk_at dksJ1_dec_0 3 rfl rfl)
theorem dJ1_dec_4 : decode cJ1_dec 4 = .ok (.ifCond .ge 7, 3) := dk_156 0 7 (dk_at dksJ1_dec_0 4 rfl rfl)
theorem dJ1_dec_7 : decode cJ1_dec 7 = .ok (.iload_n 1, 1) := dk_27 (dk_at dksJ1_dec_0 7 rfl rfl)
theorem dJ1_dec_8 : decode cJ1_dec 8 = .ok (.iconst 1, 1) := dk_4 (dk_at dksJ1_dec_0 8 rfl rfl)
theorem dJ1_dec_9 : decode cJ1_dec 9 = .ok (.isub, 1) := dk_100 (dk_at dksJ1_dec_0 9 rfl rfl)
theorem dJ1_dec_10 : decode cJ1_dec 10 = .ok (.istore_n 0, 1) := dk_59 (dk_at dksJ1_dec_0 10 rfl rfl)
theorem dJ1_dec_11 : decode cJ1_dec 11 = .ok (.iload_n 0, 1) := dk_26 (dk_at dksJ1_dec_0 11 rfl rfl)
theorem dJ1_dec_12 : decode cJ1_dec 12 = .ok (.ireturn, 1) := dk_172 (dk_at dksJ1_dec_0 12 rfl rfl)
theorem q149 : (Jvm.Cond.initialized "java/util/ArrayDeque") ∈ lw_all := lw_g (lw_at lw_m1 3 rfl) rfl
theorem q201 : (Jvm.Cond.instantiable "java/util/ArrayDeque" (3 : Nat)) ∈ lw_all := lw_g (lw_at lw_m1 55 rfl) rfl
theorem q203 : (Jvm.Cond.instanceMethod ({ cls := "java/util/ArrayDeque", name := "<init>", desc := "(I)V" } : Jvm.MethodName)) ∈ lw_all := lw_g (lw_at lw_m1 57 rfl) rfl
theorem q204 : (Jvm.Cond.code ({ cls := "java/util/ArrayDeque", name := "<init>", desc := "(I)V" } : Jvm.MethodName) prog_52_method_4_code (2 : Nat) (Option.none : Option Jvm.ClassFile.FieldType)) ∈ lw_all := lw_g (lw_at lw_m1 58 rfl) rfl
theorem q205 : (Jvm.Cond.methodLink "java/util/ArrayDeque" (42 : Nat) ({ cls := "java/util/AbstractCollection", name := "<init>", desc := "()V" } : Jvm.MethodName)) ∈ lw_all := lw_g (lw_at lw_m1 59 rfl) rfl
theorem q209 : (Jvm.Cond.constant "java/util/ArrayDeque" (41 : Nat) (2147483647 : Int32)) ∈ lw_all := lw_g (lw_at lw_m1 63 rfl) rfl
theorem q210 : (Jvm.Cond.classLink "java/util/ArrayDeque" (47 : Nat) "java/lang/Object") ∈ lw_all := lw_g (lw_at lw_m1 64 rfl) rfl
theorem q212 : (Jvm.Cond.fieldLink "java/util/ArrayDeque" (3 : Nat) "java/util/ArrayDeque" "elements" "[Ljava/lang/Object;") ∈ lw_all := lw_g (lw_at lw_m1 66 rfl) rfl
theorem q213 : (Jvm.Cond.fieldLink "java/util/ArrayDeque" (24 : Nat) "java/util/ArrayDeque" "head" "I") ∈ lw_all := lw_g (lw_at lw_m1 67 rfl) rfl
theorem q214 : (Jvm.Cond.fieldLink "java/util/ArrayDeque" (20 : Nat) "java/util/ArrayDeque" "tail" "I") ∈ lw_all := lw_g (lw_at lw_m1 68 rfl) rfl
theorem q215 : (Jvm.Cond.lays "java/util/ArrayDeque" "java/util/ArrayDeque" "elements" "[Ljava/lang/Object;") ∈ lw_all := lw_g (lw_at lw_m1 69 rfl) rfl
theorem q216 : (Jvm.Cond.soleField "java/util/ArrayDeque" "elements") ∈ lw_all := lw_g (lw_at lw_m1 70 rfl) rfl
theorem q217 : (Jvm.Cond.lays "java/util/ArrayDeque" "java/util/ArrayDeque" "head" "I") ∈ lw_all := lw_g (lw_at lw_m1 71 rfl) rfl
theorem q218 : (Jvm.Cond.soleField "java/util/ArrayDeque" "head") ∈ lw_all := lw_g (lw_at lw_m1 72 rfl) rfl
theorem q219 : (Jvm.Cond.lays "java/util/ArrayDeque" "java/util/ArrayDeque" "tail" "I") ∈ lw_all := lw_g (lw_at lw_m1 73 rfl) rfl
theorem q220 : (Jvm.Cond.soleField "java/util/ArrayDeque" "tail") ∈ lw_all := lw_g (lw_at lw_m1 74 rfl) rfl
theorem q221 : (Jvm.Cond.superclass "java/util/ArrayDeque" "java/util/AbstractCollection") ∈ lw_all := lw_g (lw_at lw_m1 75 rfl) rfl
theorem q414 : (Jvm.Cond.castable "java/util/ArrayDeque" "java/util/Deque") ∈ lw_tbl := lw_at lw_m2 28 rfl
theorem q415 : (Jvm.Cond.selects "java/util/ArrayDeque" ({ cls := "java/util/Deque", name := "size", desc := "()I" } : Jvm.MethodName) ({ cls := "java/util/ArrayDeque", name := "size", desc := "()I" } : Jvm.MethodName)) ∈ lw_all := lw_g (lw_at lw_m2 29 rfl) rfl
theorem q416 : (Jvm.Cond.unhidden "java/util/ArrayDeque" "size" "()I") ∈ lw_tbl := lw_at lw_m2 30 rfl
theorem q417 : (Jvm.Cond.instanceMethod ({ cls := "java/util/ArrayDeque", name := "size", desc := "()I" } : Jvm.MethodName)) ∈ lw_all := lw_g (lw_at lw_m2 31 rfl) rfl
theorem q418 : (Jvm.Cond.publicMethod ({ cls := "java/util/ArrayDeque", name := "size", desc := "()I" } : Jvm.MethodName)) ∈ lw_tbl := lw_at lw_m2 32 rfl
theorem q419 : (Jvm.Cond.code ({ cls := "java/util/ArrayDeque", name := "size", desc := "()I" } : Jvm.MethodName) prog_52_method_37_code (1 : Nat) (Option.some Jvm.ClassFile.FieldType.int)) ∈ lw_all := lw_g (lw_at lw_m2 33 rfl) rfl
theorem q420 : (Jvm.Cond.methodLink "java/util/ArrayDeque" (127 : Nat) ({ cls := "java/util/ArrayDeque", name := "sub", desc := "(III)I" } : Jvm.MethodName)) ∈ lw_all := lw_g (lw_at lw_m2 34 rfl) rfl
theorem q421 : (Jvm.Cond.static ({ cls := "java/util/ArrayDeque", name := "sub", desc := "(III)I" } : Jvm.MethodName)) ∈ lw_all := lw_g (lw_at lw_m2 35 rfl) rfl
theorem q422 : (Jvm.Cond.code ({ cls := "java/util/ArrayDeque", name := "sub", desc := "(III)I" } : Jvm.MethodName) prog_52_method_9_code (3 : Nat) (Option.some Jvm.ClassFile.FieldType.int)) ∈ lw_all := lw_g (lw_at lw_m2 36 rfl) rfl
theorem q1206 : (Jvm.Cond.selects "java/util/ArrayDeque" ({ cls := "java/lang/Object", name := "getClass", desc := "()Ljava/lang/Class;" } : Jvm.MethodName) ({ cls := "java/lang/Object", name := "getClass", desc := "()Ljava/lang/Class;" } : Jvm.MethodName)) ∈ lw_all := lw_g (lw_at lw_m5 100 rfl) rfl
theorem q1521 : (Jvm.Cond.selects "java/util/ArrayDeque" ({ cls := "java/util/Collection", name := "clear", desc := "()V" } : Jvm.MethodName) ({ cls := "java/util/ArrayDeque", name := "clear", desc := "()V" } : Jvm.MethodName)) ∈ lw_all := lw_g (lw_at lw_m6 175 rfl) rfl
theorem q1522 : (Jvm.Cond.unhidden "java/util/ArrayDeque" "clear" "()V") ∈ lw_tbl := lw_at lw_m6 176 rfl
theorem q1523 : (Jvm.Cond.instanceMethod ({ cls := "java/util/ArrayDeque", name := "clear", desc := "()V" } : Jvm.MethodName)) ∈ lw_all := lw_g (lw_at lw_m6 177 rfl) rfl
theorem q1524 : (Jvm.Cond.publicMethod ({ cls := "java/util/ArrayDeque", name := "clear", desc := "()V" } : Jvm.MethodName)) ∈ lw_tbl := lw_at lw_m6 178 rfl
theorem q1525 : (Jvm.Cond.code ({ cls := "java/util/ArrayDeque", name := "clear", desc := "()V" } : Jvm.MethodName) prog_52_method_53_code (1 : Nat) (Option.none : Option Jvm.ClassFile.FieldType)) ∈ lw_all := lw_g (lw_at lw_m6 179 rfl) rfl
theorem q1526 : (Jvm.Cond.methodLink "java/util/ArrayDeque" (181 : Nat) ({ cls := "java/util/ArrayDeque", name := "circularClear", desc := "([Ljava/lang/Object;II)V" } : Jvm.MethodName)) ∈ lw_all := lw_g (lw_at lw_m6 180 rfl) rfl
theorem q1527 : (Jvm.Cond.static ({ cls := "java/util/ArrayDeque", name := "circularClear", desc := "([Ljava/lang/Object;II)V" } : Jvm.MethodName)) ∈ lw_all := lw_g (lw_at lw_m6 181 rfl) rfl
theorem q1528 : (Jvm.Cond.code ({ cls := "java/util/ArrayDeque", name := "circularClear", desc := "([Ljava/lang/Object;II)V" } : Jvm.MethodName) prog_52_method_54_code (4 : Nat) (Option.none : Option Jvm.ClassFile.FieldType)) ∈ lw_all := lw_g (lw_at lw_m6 182 rfl) rfl
theorem q2036 : (Jvm.Cond.selects "java/util/ArrayDeque" ({ cls := "java/util/Deque", name := "removeFirst", desc := "()Ljava/lang/Object;" } : Jvm.MethodName) ({ cls := "java/util/ArrayDeque", name := "removeFirst", desc := "()Ljava/lang/Object;" } : Jvm.MethodName)) ∈ lw_all := lw_g (lw_at lw_m8 210 rfl) rfl
theorem q2037 : (Jvm.Cond.unhidden "java/util/ArrayDeque" "removeFirst" "()Ljava/lang/Object;") ∈ lw_tbl := lw_at lw_m8 211 rfl
theorem q2038 : (Jvm.Cond.instanceMethod ({ cls := "java/util/ArrayDeque", name := "removeFirst", desc := "()Ljava/lang/Object;" } : Jvm.MethodName)) ∈ lw_all := lw_g (lw_at lw_m8 212 rfl) rfl
theorem q2039 : (Jvm.Cond.publicMethod ({ cls := "java/util/ArrayDeque", name := "removeFirst", desc := "()Ljava/lang/Object;" } : Jvm.MethodName)) ∈ lw_tbl := lw_at lw_m8 213 rfl
theorem q2040 : (Jvm.Cond.code ({ cls := "java/util/ArrayDeque", name := "removeFirst", desc := "()Ljava/lang/Object;" } : Jvm.MethodName) prog_52_method_18_code (2 : Nat) (Option.some (Jvm.ClassFile.FieldType.object "java/lang/Object"))) ∈ lw_all := lw_g (lw_at lw_m8 214 rfl) rfl
theorem q2041 : (Jvm.Cond.methodLink "java/util/ArrayDeque" (93 : Nat) ({ cls := "java/util/ArrayDeque", name := "pollFirst", desc := "()Ljava/lang/Object;" } : Jvm.MethodName)) ∈ lw_all := lw_g (lw_at lw_m8 215 rfl) rfl
theorem q2042 : (Jvm.Cond.instanceMethod ({ cls := "java/util/ArrayDeque", name := "pollFirst", desc := "()Ljava/lang/Object;" } : Jvm.MethodName)) ∈ lw_all := lw_g (lw_at lw_m8 216 rfl) rfl
theorem q2043 : (Jvm.Cond.selects "java/util/ArrayDeque" ({ cls := "java/util/ArrayDeque", name := "pollFirst", desc := "()Ljava/lang/Object;" } : Jvm.MethodName) ({ cls := "java/util/ArrayDeque", name := "pollFirst", desc := "()Ljava/lang/Object;" } : Jvm.MethodName)) ∈ lw_all := lw_g (lw_at lw_m8 217 rfl) rfl
theorem q2044 : (Jvm.Cond.code ({ cls := "java/util/ArrayDeque", name := "pollFirst", desc := "()Ljava/lang/Object;" } : Jvm.MethodName) prog_52_method_20_code (4 : Nat) (Option.some (Jvm.ClassFile.FieldType.object "java/lang/Object"))) ∈ lw_all := lw_g (lw_at lw_m8 218 rfl) rfl
theorem q2045 : (Jvm.Cond.methodLink "java/util/ArrayDeque" (103 : Nat) ({ cls := "java/util/ArrayDeque", name := "elementAt", desc := "([Ljava/lang/Object;I)Ljava/lang/Object;" } : Jvm.MethodName)) ∈ lw_all := lw_g (lw_at lw_m8 219 rfl) rfl
theorem q2046 : (Jvm.Cond.static ({ cls := "java/util/ArrayDeque", name := "elementAt", desc := "([Ljava/lang/Object;I)Ljava/lang/Object;" } : Jvm.MethodName)) ∈ lw_all := lw_g (lw_at lw_m8 220 rfl) rfl
theorem q2047 : (Jvm.Cond.code ({ cls := "java/util/ArrayDeque", name := "elementAt", desc := "([Ljava/lang/Object;I)Ljava/lang/Object;" } : Jvm.MethodName) prog_52_method_10_code (2 : Nat) (Option.some (Jvm.ClassFile.FieldType.object "java/lang/Object"))) ∈ lw_all := lw_g (lw_at lw_m8 221 rfl) rfl
theorem q2048 : (Jvm.Cond.methodLink "java/util/ArrayDeque" (74 : Nat) ({ cls := "java/util/ArrayDeque", name := "inc", desc := "(II)I" } : Jvm.MethodName)) ∈ lw_all := lw_g (lw_at lw_m8 222 rfl) rfl
theorem q2049 : (Jvm.Cond.static ({ cls := "java/util/ArrayDeque", name := "inc", desc := "(II)I" } : Jvm.MethodName)) ∈ lw_all := lw_g (lw_at lw_m8 223 rfl) rfl
theorem q2050 : (Jvm.Cond.code ({ cls := "java/util/ArrayDeque", name := "inc", desc := "(II)I" } : Jvm.MethodName) prog_52_method_6_code (2 : Nat) (Option.some Jvm.ClassFile.FieldType.int)) ∈ lw_all := lw_g (lw_at lw_m8 224 rfl) rfl
theorem q2055 : (Jvm.Cond.selects "java/util/ArrayDeque" ({ cls := "java/util/Deque", name := "addLast", desc := "(Ljava/lang/Object;)V" } : Jvm.MethodName) ({ cls := "java/util/ArrayDeque", name := "addLast", desc := "(Ljava/lang/Object;)V" } : Jvm.MethodName)) ∈ lw_all := lw_g (lw_at lw_m8 229 rfl) rfl
theorem q2056 : (Jvm.Cond.unhidden "java/util/ArrayDeque" "addLast" "(Ljava/lang/Object;)V") ∈ lw_tbl := lw_at lw_m8 230 rfl
theorem q2057 : (Jvm.Cond.instanceMethod ({ cls := "java/util/ArrayDeque", name := "addLast", desc := "(Ljava/lang/Object;)V" } : Jvm.MethodName)) ∈ lw_all := lw_g (lw_at lw_m8 231 rfl) rfl
theorem q2058 : (Jvm.Cond.publicMethod ({ cls := "java/util/ArrayDeque", name := "addLast", desc := "(Ljava/lang/Object;)V" } : Jvm.MethodName)) ∈ lw_tbl := lw_at lw_m8 232 rfl
theorem q2059 : (Jvm.Cond.code ({ cls := "java/util/ArrayDeque", name := "addLast", desc := "(Ljava/lang/Object;)V" } : Jvm.MethodName) prog_52_method_13_code (3 : Nat) (Option.none : Option Jvm.ClassFile.FieldType)) ∈ lw_all := lw_g (lw_at lw_m8 233 rfl) rfl
theorem q2060 : (Jvm.Cond.methodLink "java/util/ArrayDeque" (71 : Nat) ({ cls := "java/util/ArrayDeque", name := "grow", desc := "(I)V" } : Jvm.MethodName)) ∈ lw_all := lw_g (lw_at lw_m8 234 rfl) rfl
theorem q2061 : (Jvm.Cond.privateMethod ({ cls := "java/util/ArrayDeque", name := "grow", desc := "(I)V" } : Jvm.MethodName)) ∈ lw_tbl := lw_at lw_m8 235 rfl
theorem q2062 : (Jvm.Cond.instanceMethod ({ cls := "java/util/ArrayDeque", name := "grow", desc := "(I)V" } : Jvm.MethodName)) ∈ lw_all := lw_g (lw_at lw_m8 236 rfl) rfl
theorem q2063 : (Jvm.Cond.code ({ cls := "java/util/ArrayDeque", name := "grow", desc := "(I)V" } : Jvm.MethodName) prog_52_method_1_code (9 : Nat) (Option.none : Option Jvm.ClassFile.FieldType)) ∈ lw_all := lw_g (lw_at lw_m8 237 rfl) rfl
theorem q2064 : (Jvm.Cond.constant "java/util/ArrayDeque" (9 : Nat) (2147483639 : Int32)) ∈ lw_all := lw_g (lw_at lw_m8 238 rfl) rfl
theorem q2065 : (Jvm.Cond.methodLink "java/util/ArrayDeque" (10 : Nat) ({ cls := "java/util/ArrayDeque", name := "newCapacity", desc := "(II)I" } : Jvm.MethodName)) ∈ lw_all := lw_g (lw_at lw_m8 239 rfl) rfl
theorem q2066 : (Jvm.Cond.privateMethod ({ cls := "java/util/ArrayDeque", name := "newCapacity", desc := "(II)I" } : Jvm.MethodName)) ∈ lw_tbl := lw_at lw_m9 0 rfl
theorem q2067 : (Jvm.Cond.instanceMethod ({ cls := "java/util/ArrayDeque", name := "newCapacity", desc := "(II)I" } : Jvm.MethodName)) ∈ lw_all := lw_g (lw_at lw_m9 1 rfl) rfl
theorem q2068 : (Jvm.Cond.code ({ cls := "java/util/ArrayDeque", name := "newCapacity", desc := "(II)I" } : Jvm.MethodName) prog_52_method_2_code (5 : Nat) (Option.some Jvm.ClassFile.FieldType.int)) ∈ lw_all := lw_g (lw_at lw_m9 2 rfl) rfl
theorem q2069 : (Jvm.Cond.classLink "java/util/ArrayDeque" (33 : Nat) "java/lang/IllegalStateException") ∈ lw_all := lw_g (lw_at lw_m9 3 rfl) rfl
theorem q2070 : (Jvm.Cond.stringRef "java/util/ArrayDeque" (35 : Nat) "Sorry, deque too big") ∈ lw_tbl := lw_at lw_m9 4 rfl
theorem q2071 : (Jvm.Cond.methodLink "java/util/ArrayDeque" (37 : Nat) ({ cls := "java/lang/IllegalStateException", name := "<init>", desc := "(Ljava/lang/String;)V" } : Jvm.MethodName)) ∈ lw_all := lw_g (lw_at lw_m9 5 rfl) rfl
theorem q2075 : (Jvm.Cond.methodLink "java/util/ArrayDeque" (14 : Nat) ({ cls := "java/util/Arrays", name := "copyOf", desc := "([Ljava/lang/Object;I)[Ljava/lang/Object;" } : Jvm.MethodName)) ∈ lw_all := lw_g (lw_at lw_m9 9 rfl) rfl
theorem q2076 : (Jvm.Cond.methodLink "java/util/ArrayDeque" (27 : Nat) ({ cls := "java/lang/System", name := "arraycopy", desc := "(Ljava/lang/Object;ILjava/lang/Object;II)V" } : Jvm.MethodName)) ∈ lw_all := lw_g (lw_at lw_m9 10 rfl) rfl
theorem q2133 : (Jvm.Cond.selects "java/util/ArrayDeque" ({ cls := "java/util/Collection", name := "isEmpty", desc := "()Z" } : Jvm.MethodName) ({ cls := "java/util/ArrayDeque", name := "isEmpty", desc := "()Z" } : Jvm.MethodName)) ∈ lw_all := lw_g (lw_at lw_m9 67 rfl) rfl
theorem q2134 : (Jvm.Cond.unhidden "java/util/ArrayDeque" "isEmpty" "()Z") ∈ lw_tbl := lw_at lw_m9 68 rfl
theorem q2135 : (Jvm.Cond.instanceMethod ({ cls := "java/util/ArrayDeque", name := "isEmpty", desc := "()Z" } : Jvm.MethodName)) ∈ lw_all := lw_g (lw_at lw_m9 69 rfl) rfl
theorem q2136 : (Jvm.Cond.publicMethod ({ cls := "java/util/ArrayDeque", name := "isEmpty", desc := "()Z" } : Jvm.MethodName)) ∈ lw_tbl := lw_at lw_m9 70 rfl
theorem q2137 : (Jvm.Cond.code ({ cls := "java/util/ArrayDeque", name := "isEmpty", desc := "()Z" } : Jvm.MethodName) prog_52_method_38_code (1 : Nat) (Option.some Jvm.ClassFile.FieldType.boolean)) ∈ lw_all := lw_g (lw_at lw_m9 71 rfl) rfl
theorem q2142 : (Jvm.Cond.selects "java/util/ArrayDeque" ({ cls := "java/util/Deque", name := "removeLast", desc := "()Ljava/lang/Object;" } : Jvm.MethodName) ({ cls := "java/util/ArrayDeque", name := "removeLast", desc := "()Ljava/lang/Object;" } : Jvm.MethodName)) ∈ lw_all := lw_g (lw_at lw_m9 76 rfl) rfl
theorem q2143 : (Jvm.Cond.unhidden "java/util/ArrayDeque" "removeLast" "()Ljava/lang/Object;") ∈ lw_tbl := lw_at lw_m9 77 rfl
theorem q2144 : (Jvm.Cond.instanceMethod ({ cls := "java/util/ArrayDeque", name := "removeLast", desc := "()Ljava/lang/Object;" } : Jvm.MethodName)) ∈ lw_all := lw_g (lw_at lw_m9 78 rfl) rfl
theorem q2145 : (Jvm.Cond.publicMethod ({ cls := "java/util/ArrayDeque", name := "removeLast", desc := "()Ljava/lang/Object;" } : Jvm.MethodName)) ∈ lw_tbl := lw_at lw_m9 79 rfl
theorem q2146 : (Jvm.Cond.code ({ cls := "java/util/ArrayDeque", name := "removeLast", desc := "()Ljava/lang/Object;" } : Jvm.MethodName) prog_52_method_19_code (2 : Nat) (Option.some (Jvm.ClassFile.FieldType.object "java/lang/Object"))) ∈ lw_all := lw_g (lw_at lw_m9 80 rfl) rfl
theorem q2147 : (Jvm.Cond.methodLink "java/util/ArrayDeque" (100 : Nat) ({ cls := "java/util/ArrayDeque", name := "pollLast", desc := "()Ljava/lang/Object;" } : Jvm.MethodName)) ∈ lw_all := lw_g (lw_at lw_m9 81 rfl) rfl
theorem q2148 : (Jvm.Cond.instanceMethod ({ cls := "java/util/ArrayDeque", name := "pollLast", desc := "()Ljava/lang/Object;" } : Jvm.MethodName)) ∈ lw_all := lw_g (lw_at lw_m9 82 rfl) rfl
theorem q2149 : (Jvm.Cond.selects "java/util/ArrayDeque" ({ cls := "java/util/ArrayDeque", name := "pollLast", desc := "()Ljava/lang/Object;" } : Jvm.MethodName) ({ cls := "java/util/ArrayDeque", name := "pollLast", desc := "()Ljava/lang/Object;" } : Jvm.MethodName)) ∈ lw_all := lw_g (lw_at lw_m9 83 rfl) rfl
theorem q2150 : (Jvm.Cond.code ({ cls := "java/util/ArrayDeque", name := "pollLast", desc := "()Ljava/lang/Object;" } : Jvm.MethodName) prog_52_method_21_code (4 : Nat) (Option.some (Jvm.ClassFile.FieldType.object "java/lang/Object"))) ∈ lw_all := lw_g (lw_at lw_m9 84 rfl) rfl
theorem q2151 : (Jvm.Cond.methodLink "java/util/ArrayDeque" (68 : Nat) ({ cls := "java/util/ArrayDeque", name := "dec", desc := "(II)I" } : Jvm.MethodName)) ∈ lw_all := lw_g (lw_at lw_m9 85 rfl) rfl
theorem q2152 : (Jvm.Cond.static ({ cls := "java/util/ArrayDeque", name := "dec", desc := "(II)I" } : Jvm.MethodName)) ∈ lw_all := lw_g (lw_at lw_m9 86 rfl) rfl
theorem q2153 : (Jvm.Cond.code ({ cls := "java/util/ArrayDeque", name := "dec", desc := "(II)I" } : Jvm.MethodName) prog_52_method_7_code (2 : Nat) (Option.some Jvm.ClassFile.FieldType.int)) ∈ lw_all := lw_g (lw_at lw_m9 87 rfl) rfl
theorem q2892 : (Jvm.Cond.castable "java/util/ArrayDeque" "java/lang/Object") ∈ lw_tbl := lw_at lw_m12 106 rfl
theorem in_J1 : ∀ w ∈ wsJ10, w ∈ lw_all := lw_in wsJ10 [215, 217, 219] (by decide +kernel) (by decide +kernel)

/-! java/lang/IllegalArgumentException -/
set_option maxRecDepth 100000
def RJ10 : String := "java/lang/IllegalArgumentException"
def TJ10 : u_T := fun k => match k with
  | 0 => ("java/lang/Throwable", "cause", "Ljava/lang/Throwable;", false)
  | 1 => ("java/lang/Throwable", "stackTrace", "[Ljava/lang/StackTraceElement;", false)
  | 2 => ("java/lang/Throwable", "suppressedExceptions", "Ljava/util/List;", false)
  | 3 => ("java/lang/Throwable", "detailMessage", "Ljava/lang/String;", false)
  | 4 => ("java/lang/Throwable", "backtrace", "Ljava/lang/Object;", false)
  | _ => ("java/lang/Throwable", "depth", "I", false)
def tyJ10 : Nat → FieldType := fun k => match k with
  | 0 => .object "java/lang/Throwable"
  | 1 => .array (.object "java/lang/StackTraceElement")
  | 2 => .object "java/util/List"
  | 3 => .object "java/lang/String"
  | 4 => .object "java/lang/Object"
  | _ => .int
abbrev wsJ100 : List Cond := u_ws RJ10 TJ10 6
theorem nmJ10 : ∀ a, a < 6 → ∀ b, b < 6 → a ≠ b → (TJ10 a).2.1 ≠ (TJ10 b).2.1 := by decide +kernel
theorem tyJ10_ok : ∀ k, k < 6 → parseFieldDescriptor (TJ10 k).2.2.1 = some (tyJ10 k) := by decide +kernel
abbrev cJ10_init : ByteArray := prog_33_method_2_code
def yJ10_init : MethodName := ⟨RJ10, "<init>", "(Ljava/lang/String;)V"⟩
def dkwJ10_init_0 : List UInt8 := [42, 43, 183, 0, 7, 177]
abbrev dktJ10_init_0 : List UInt8 := dkwJ10_init_0 ++ []
theorem dksJ10_init_0 : cJ10_init.data.toList.drop 0 = dktJ10_init_0 := by decide +kernel
theorem dJ10_init_0 : decode cJ10_init 0 = .ok (.aload_n 0, 1) := dk_42 (dk_at dksJ10_init_0 0 rfl rfl)
theorem dJ10_init_1 : decode cJ10_init 1 = .ok (.aload_n 1, 1) := dk_43 (dk_at dksJ10_init_0 1 rfl rfl)
theorem dJ10_init_2 : decode cJ10_init 2 = .ok (.invokespecial 7, 3) := dk_183 0 7 (dk_at dksJ10_init_0 2 rfl rfl)
theorem dJ10_init_5 : decode cJ10_init 5 = .ok (.return_, 1) := dk_177 (dk_at dksJ10_init_0 5 rfl rfl)
abbrev cJ10_init_2 : ByteArray := prog_33_method_1_code
def yJ10_init_2 : MethodName := ⟨RJ10, "<init>", "()V"⟩
theorem dJ10_init_2_0 : decode cJ10_init_2 0 = .ok (.aload_n 0, 1) := by decide +kernel
theorem dJ10_init_2_1 : decode cJ10_init_2 1 = .ok (.invokespecial 1, 3) := by decide +kernel
theorem dJ10_init_2_4 : decode cJ10_init_2 4 = .ok (.return_, 1) := by decide +kernel
theorem q165 : (Jvm.Cond.initialized "java/lang/IllegalArgumentException") ∈ lw_all := lw_g (lw_at lw_m1 19 rfl) rfl
theorem q452 : (Jvm.Cond.selects "java/lang/IllegalArgumentException" ({ cls := "java/lang/Throwable", name := "fillInStackTrace", desc := "()Ljava/lang/Throwable;" } : Jvm.MethodName) ({ cls := "java/lang/Throwable", name := "fillInStackTrace", desc := "()Ljava/lang/Throwable;" } : Jvm.MethodName)) ∈ lw_all := lw_g (lw_at lw_m2 66 rfl) rfl
theorem q600 : (Jvm.Cond.instantiable "java/lang/IllegalArgumentException" (6 : Nat)) ∈ lw_all := lw_g (lw_at lw_m2 214 rfl) rfl
theorem q601 : (Jvm.Cond.castable "java/lang/IllegalArgumentException" "java/lang/IllegalArgumentException") ∈ lw_tbl := lw_at lw_m2 215 rfl
theorem q602 : (Jvm.Cond.selects "java/lang/IllegalArgumentException" ({ cls := "java/lang/Throwable", name := "fillInStackTrace", desc := "(I)Ljava/lang/Throwable;" } : Jvm.MethodName) ({ cls := "java/lang/Throwable", name := "fillInStackTrace", desc := "(I)Ljava/lang/Throwable;" } : Jvm.MethodName)) ∈ lw_all := lw_g (lw_at lw_m2 216 rfl) rfl
theorem q603 : (Jvm.Cond.lays "java/lang/IllegalArgumentException" "java/lang/Throwable" "cause" "Ljava/lang/Throwable;") ∈ lw_all := lw_g (lw_at lw_m2 217 rfl) rfl
theorem q604 : (Jvm.Cond.lays "java/lang/IllegalArgumentException" "java/lang/Throwable" "stackTrace" "[Ljava/lang/StackTraceElement;") ∈ lw_all := lw_g (lw_at lw_m2 218 rfl) rfl
theorem q605 : (Jvm.Cond.lays "java/lang/IllegalArgumentException" "java/lang/Throwable" "suppressedExceptions" "Ljava/util/List;") ∈ lw_all := lw_g (lw_at lw_m2 219 rfl) rfl
theorem q606 : (Jvm.Cond.lays "java/lang/IllegalArgumentException" "java/lang/Throwable" "detailMessage" "Ljava/lang/String;") ∈ lw_all := lw_g (lw_at lw_m2 220 rfl) rfl
theorem q607 : (Jvm.Cond.lays "java/lang/IllegalArgumentException" "java/lang/Throwable" "backtrace" "Ljava/lang/Object;") ∈ lw_all := lw_g (lw_at lw_m2 221 rfl) rfl
theorem q828 : (Jvm.Cond.instanceMethod ({ cls := "java/lang/IllegalArgumentException", name := "<init>", desc := "(Ljava/lang/String;)V" } : Jvm.MethodName)) ∈ lw_all := lw_g (lw_at lw_m3 202 rfl) rfl
theorem q829 : (Jvm.Cond.code ({ cls := "java/lang/IllegalArgumentException", name := "<init>", desc := "(Ljava/lang/String;)V" } : Jvm.MethodName) prog_33_method_2_code (2 : Nat) (Option.none : Option Jvm.ClassFile.FieldType)) ∈ lw_all := lw_g (lw_at lw_m3 203 rfl) rfl
theorem q830 : (Jvm.Cond.methodLink "java/lang/IllegalArgumentException" (7 : Nat) ({ cls := "java/lang/RuntimeException", name := "<init>", desc := "(Ljava/lang/String;)V" } : Jvm.MethodName)) ∈ lw_all := lw_g (lw_at lw_m3 204 rfl) rfl
theorem q831 : (Jvm.Cond.lays "java/lang/IllegalArgumentException" "java/lang/Throwable" "depth" "I") ∈ lw_all := lw_g (lw_at lw_m3 205 rfl) rfl
theorem q832 : (Jvm.Cond.superclass "java/lang/IllegalArgumentException" "java/lang/RuntimeException") ∈ lw_all := lw_g (lw_at lw_m3 206 rfl) rfl
theorem q1200 : (Jvm.Cond.selects "java/lang/IllegalArgumentException" ({ cls := "java/lang/Object", name := "getClass", desc := "()Ljava/lang/Class;" } : Jvm.MethodName) ({ cls := "java/lang/Object", name := "getClass", desc := "()Ljava/lang/Class;" } : Jvm.MethodName)) ∈ lw_all := lw_g (lw_at lw_m5 94 rfl) rfl
theorem q1538 : (Jvm.Cond.instanceMethod ({ cls := "java/lang/IllegalArgumentException", name := "<init>", desc := "()V" } : Jvm.MethodName)) ∈ lw_all := lw_g (lw_at lw_m6 192 rfl) rfl
theorem q1539 : (Jvm.Cond.code ({ cls := "java/lang/IllegalArgumentException", name := "<init>", desc := "()V" } : Jvm.MethodName) prog_33_method_1_code (1 : Nat) (Option.none : Option Jvm.ClassFile.FieldType)) ∈ lw_all := lw_g (lw_at lw_m6 193 rfl) rfl
theorem q1540 : (Jvm.Cond.methodLink "java/lang/IllegalArgumentException" (1 : Nat) ({ cls := "java/lang/RuntimeException", name := "<init>", desc := "()V" } : Jvm.MethodName)) ∈ lw_all := lw_g (lw_at lw_m6 194 rfl) rfl
theorem q2901 : (Jvm.Cond.castable "java/lang/IllegalArgumentException" "java/lang/Object") ∈ lw_tbl := lw_at lw_m12 115 rfl
theorem in_J10 : ∀ w ∈ wsJ100, w ∈ lw_all := lw_in wsJ100 [603, 604, 605, 606, 607, 831] (by decide +kernel) (by decide +kernel)

/-! java/lang/AbstractStringBuilder -/
set_option maxRecDepth 100000
def RJ11 : String := "java/lang/AbstractStringBuilder"
abbrev cJ11_init : ByteArray := prog_25_method_2_code
def yJ11_init : MethodName := ⟨RJ11, "<init>", "(I)V"⟩
def dkwJ11_init_1 : List UInt8 := [167, 0, 16, 42, 27, 184, 0, 26, 181, 0, 15, 42, 4, 181, 0, 22, 177]
abbrev dktJ11_init_1 : List UInt8 := dkwJ11_init_1 ++ []
def dkwJ11_init_0 : List UInt8 := [42, 183, 0, 3, 178, 0, 18, 153, 0, 18, 42, 27, 188, 8, 181, 0, 15, 42, 3, 181, 0, 22]
abbrev dktJ11_init_0 : List UInt8 := dkwJ11_init_0 ++ dktJ11_init_1
theorem dksJ11_init_0 : cJ11_init.data.toList.drop 0 = dktJ11_init_0 := by decide +kernel
theorem dksJ11_init_1 : cJ11_init.data.toList.drop 22 = dktJ11_init_1 := dk_seg dksJ11_init_0 22 rfl rfl
theorem dJ11_init_0 : decode cJ11_init 0 = .ok (.aload_n 0, 1) := dk_42 (dk_at dksJ11_init_0 0 rfl rfl)
theorem dJ11_init_1 : decode cJ11_init 1 = .ok (.invokespecial 3, 3) := dk_183 0 3 (dk_at dksJ11_init_0 1 rfl rfl)
theorem dJ11_init_4 : decode cJ11_init 4 = .ok (.getstatic 18, 3) := dk_178 0 18 (dk_at dksJ11_init_0 4 rfl rfl)
theorem dJ11_init_7 : decode cJ11_init 7 = .ok (.ifCond .eq 18, 3) := dk_153 0 18 (dk_at dksJ11_init_0 7 rfl rfl)
theorem dJ11_init_10 : decode cJ11_init 10 = .ok (.aload_n 0, 1) := dk_42 (dk_at dksJ11_init_0 10 rfl rfl)
theorem dJ11_init_11 : decode cJ11_init 11 = .ok (.iload_n 1, 1) := dk_27 (dk_at dksJ11_init_0 11 rfl rfl)
theorem dJ11_init_12 : decode cJ11_init 12 = .ok (.newarray .byte, 2) := dk_188_8 (dk_at dksJ11_init_0 12 rfl rfl)
theorem dJ11_init_14 : decode cJ11_init 14 = .ok (.putfield 15, 3) := dk_181 0 15 (dk_at dksJ11_init_0 14 rfl rfl)
theorem dJ11_init_17 : decode cJ11_init 17 = .ok (.aload_n 0, 1) := dk_42 (dk_at dksJ11_init_0 17 rfl rfl)
theorem dJ11_init_18 : decode cJ11_init 18 = .ok (.iconst 0, 1) := dk_3 (dk_at dksJ11_init_0 18 rfl rfl)
theorem dJ11_init_19 : decode cJ11_init 19 = .ok (.putfield 22, 3) := dk_181 0 22 (dk_at dksJ11_init_0 19 rfl rfl)
theorem dJ11_init_22 : decode cJ11_init 22 = .ok (.goto 16, 3) := dk_167 0 16 (dk_at dksJ11_init_1 0 rfl rfl)
theorem dJ11_init_25 : decode cJ11_init 25 = .ok (.aload_n 0, 1) := dk_42 (dk_at dksJ11_init_1 3 rfl rfl)
theorem dJ11_init_26 : decode cJ11_init 26 = .ok (.iload_n 1, 1) := dk_27 (dk_at dksJ11_init_1 4 rfl rfl)
theorem dJ11_init_27 : decode cJ11_init 27 = .ok (.invokestatic 26, 3) := dk_184 0 26 (dk_at dksJ11_init_1 5 rfl rfl)
theorem dJ11_init_30 : decode cJ11_init 30 = .ok (.putfield 15, 3) := dk_181 0 15 (dk_at dksJ11_init_1 8 rfl rfl)
theorem dJ11_init_33 : decode cJ11_init 33 = .ok (.aload_n 0, 1) := dk_42 (dk_at dksJ11_init_1 11 rfl rfl)
theorem dJ11_init_34 : decode cJ11_init 34 = .ok (.iconst 1, 1) := dk_4 (dk_at dksJ11_init_1 12 rfl rfl)
theorem dJ11_init_35 : decode cJ11_init 35 = .ok (.putfield 22, 3) := dk_181 0 22 (dk_at dksJ11_init_1 13 rfl rfl)
theorem dJ11_init_38 : decode cJ11_init 38 = .ok (.return_, 1) := dk_177 (dk_at dksJ11_init_1 16 rfl rfl)
abbrev cJ11_append : ByteArray := prog_25_method_22_code
def yJ11_append : MethodName := ⟨RJ11, "append", "(Ljava/lang/String;)Ljava/lang/AbstractStringBuilder;"⟩
def dkwJ11_append_1 : List UInt8 := [42, 42, 180, 0, 79, 43, 182, 0, 208, 42, 89, 180, 0, 79, 28, 96, 181, 0, 79, 42, 176]
abbrev dktJ11_append_1 : List UInt8 := dkwJ11_append_1 ++ []
def dkwJ11_append_0 : List UInt8 := [43, 199, 0, 8, 42, 182, 0, 204, 176, 43, 182, 0, 32, 61, 42, 42, 180, 0, 79, 28, 96, 182, 0, 100]
abbrev dktJ11_append_0 : List UInt8 := dkwJ11_append_0 ++ dktJ11_append_1
theorem dksJ11_append_0 : cJ11_append.data.toList.drop 0 = dktJ11_append_0 := by decide +kernel
theorem dksJ11_append_1 : cJ11_append.data.toList.drop 24 = dktJ11_append_1 := dk_seg dksJ11_append_0 24 rfl rfl
theorem dJ11_append_0 : decode cJ11_append 0 = .ok (.aload_n 1, 1) := dk_43 (dk_at dksJ11_append_0 0 rfl rfl)
theorem dJ11_append_1 : decode cJ11_append 1 = .ok (.ifnonnull 8, 3) := dk_199 0 8 (dk_at dksJ11_append_0 1 rfl rfl)
theorem dJ11_append_4 : decode cJ11_append 4 = .ok (.aload_n 0, 1) := dk_42 (dk_at dksJ11_append_0 4 rfl rfl)
theorem dJ11_append_5 : decode cJ11_append 5 = .ok (.invokevirtual 204, 3) := dk_182 0 204 (dk_at dksJ11_append_0 5 rfl rfl)
theorem dJ11_append_8 : decode cJ11_append 8 = .ok (.areturn, 1) := dk_176 (dk_at dksJ11_append_0 8 rfl rfl)
theorem dJ11_append_9 : decode cJ11_append 9 = .ok (.aload_n 1, 1) := dk_43 (dk_at dksJ11_append_0 9 rfl rfl)
theorem dJ11_append_10 : decode cJ11_append 10 = .ok (.invokevirtual 32, 3) := dk_182 0 32 (dk_at dksJ11_append_0 10 rfl rfl)
theorem dJ11_append_13 : decode cJ11_append 13 = .ok (.istore_n 2, 1) := dk_61 (dk_at dksJ11_append_0 13 rfl rfl)
theorem dJ11_append_14 : decode cJ11_append 14 = .ok (.aload_n 0, 1) := dk_42 (dk_at dksJ11_append_0 14 rfl rfl)
theorem dJ11_append_15 : decode cJ11_append 15 = .ok (.aload_n 0, 1) := dk_42 (dk_at dksJ11_append_0 15 rfl rfl)
theorem dJ11_append_16 : decode cJ11_append 16 = .ok (.getfield 79, 3) := dk_180 0 79 (dk_at dksJ11_append_0 16 rfl rfl)
theorem dJ11_append_19 : decode cJ11_append 19 = .ok (.iload_n 2, 1) := dk_28 (dk_at dksJ11_append_0 19 rfl rfl)
theorem dJ11_append_20 : decode cJ11_append 20 = .ok (.iadd, 1) := dk_96 (dk_at dksJ11_append_0 20 rfl rfl)
theorem dJ11_append_21 : decode cJ11_append 21 = .ok (.invokevirtual 100, 3) := dk_182 0 100 (dk_at dksJ11_append_0 21 rfl rfl)
theorem dJ11_append_24 : decode cJ11_append 24 = .ok (.aload_n 0, 1) := dk_42 (dk_at dksJ11_append_1 0 rfl rfl)
theorem dJ11_append_25 : decode cJ11_append 25 = .ok (.aload_n 0, 1) := dk_42 (dk_at dksJ11_append_1 1 rfl rfl)
theorem dJ11_append_26 : decode cJ11_append 26 = .ok (.getfield 79, 3) := dk_180 0 79 (dk_at dksJ11_append_1 2 rfl rfl)
theorem dJ11_append_29 : decode cJ11_append 29 = .ok (.aload_n 1, 1) := dk_43 (dk_at dksJ11_append_1 5 rfl rfl)
theorem dJ11_append_30 : decode cJ11_append 30 = .ok (.invokevirtual 208, 3) := dk_182 0 208 (dk_at dksJ11_append_1 6 rfl rfl)
theorem dJ11_append_33 : decode cJ11_append 33 = .ok (.aload_n 0, 1) := dk_42 (dk_at dksJ11_append_1 9 rfl rfl)
theorem dJ11_append_34 : decode cJ11_append 34 = .ok (.dup, 1) := dk_89 (dk_at dksJ11_append_1 10 rfl rfl)
theorem dJ11_append_35 : decode cJ11_append 35 = .ok (.getfield 79, 3) := dk_180 0 79 (dk_at dksJ11_append_1 11 rfl rfl)
theorem dJ11_append_38 : decode cJ11_append 38 = .ok (.iload_n 2, 1) := dk_28 (dk_at dksJ11_append_1 14 rfl rfl)
theorem dJ11_append_39 : decode cJ11_append 39 = .ok (.iadd, 1) := dk_96 (dk_at dksJ11_append_1 15 rfl rfl)
theorem dJ11_append_40 : decode cJ11_append 40 = .ok (.putfield 79, 3) := dk_181 0 79 (dk_at dksJ11_append_1 16 rfl rfl)
theorem dJ11_append_43 : decode cJ11_append 43 = .ok (.aload_n 0, 1) := dk_42 (dk_at dksJ11_append_1 19 rfl rfl)
theorem dJ11_append_44 : decode cJ11_append 44 = .ok (.areturn, 1) := dk_176 (dk_at dksJ11_append_1 20 rfl rfl)
abbrev cJ11_appendNull : ByteArray := prog_25_method_26_code
def yJ11_appendNull : MethodName := ⟨RJ11, "appendNull", "()Ljava/lang/AbstractStringBuilder;"⟩
def dkwJ11_appendNull_3 : List UInt8 := [184, 0, 226, 60, 42, 27, 181, 0, 79, 42, 176]
abbrev dktJ11_appendNull_3 : List UInt8 := dkwJ11_appendNull_3 ++ []
def dkwJ11_appendNull_2 : List UInt8 := [16, 108, 84, 44, 27, 132, 1, 1, 16, 108, 84, 167, 0, 17, 44, 27, 16, 110, 16, 117, 16, 108, 16, 108]
abbrev dktJ11_appendNull_2 : List UInt8 := dkwJ11_appendNull_2 ++ dktJ11_appendNull_3
def dkwJ11_appendNull_1 : List UInt8 := [153, 0, 38, 44, 27, 132, 1, 1, 16, 110, 84, 44, 27, 132, 1, 1, 16, 117, 84, 44, 27, 132, 1, 1]
abbrev dktJ11_appendNull_1 : List UInt8 := dkwJ11_appendNull_1 ++ dktJ11_appendNull_2
def dkwJ11_appendNull_0 : List UInt8 := [42, 42, 180, 0, 79, 7, 96, 182, 0, 100, 42, 180, 0, 79, 60, 42, 180, 0, 15, 77, 42, 182, 0, 83]
abbrev dktJ11_appendNull_0 : List UInt8 := dkwJ11_appendNull_0 ++ dktJ11_appendNull_1
theorem dksJ11_appendNull_0 : cJ11_appendNull.data.toList.drop 0 = dktJ11_appendNull_0 := by decide +kernel
theorem dksJ11_appendNull_1 : cJ11_appendNull.data.toList.drop 24 = dktJ11_appendNull_1 := dk_seg dksJ11_appendNull_0 24 rfl rfl
theorem dksJ11_appendNull_2 : cJ11_appendNull.data.toList.drop 48 = dktJ11_appendNull_2 := dk_seg dksJ11_appendNull_1 24 rfl rfl
theorem dksJ11_appendNull_3 : cJ11_appendNull.data.toList.drop 72 = dktJ11_appendNull_3 := dk_seg dksJ11_appendNull_2 24 rfl rfl
theorem dJ11_appendNull_0 : decode cJ11_appendNull 0 = .ok (.aload_n 0, 1) := dk_42 (dk_at dksJ11_appendNull_0 0 rfl rfl)
theorem dJ11_appendNull_1 : decode cJ11_appendNull 1 = .ok (.aload_n 0, 1) := dk_42 (dk_at dksJ11_appendNull_0 1 rfl rfl)
theorem dJ11_appendNull_2 : decode cJ11_appendNull 2 = .ok (.getfield 79, 3) := dk_180 0 79 (dk_at dksJ11_appendNull_0 2 rfl rfl)
theorem dJ11_appendNull_5 : decode cJ11_appendNull 5 = .ok (.iconst 4, 1) := dk_7 (dk_at dksJ11_appendNull_0 5 rfl rfl)
theorem dJ11_appendNull_6 : decode cJ11_appendNull 6 = .ok (.iadd, 1) := dk_96 (dk_at dksJ11_appendNull_0 6 rfl rfl)
theorem dJ11_appendNull_7 : decode cJ11_appendNull 7 = .ok (.invokevirtual 100, 3) := dk_182 0 100 (dk_at dksJ11_appendNull_0 7 rfl rfl)
theorem dJ11_appendNull_10 : decode cJ11_appendNull 10 = .ok (.aload_n 0, 1) := dk_42 (dk_at dksJ11_appendNull_0 10 rfl rfl)
theorem dJ11_appendNull_11 : decode cJ11_appendNull 11 = .ok (.getfield 79, 3) := dk_180 0 79 (dk_at dksJ11_appendNull_0 11 rfl rfl)
theorem dJ11_appendNull_14 : decode cJ11_appendNull 14 = .ok (.istore_n 1, 1) := dk_60 (dk_at dksJ11_appendNull_0 14 rfl rfl)
theorem dJ11_appendNull_15 : decode cJ11_appendNull 15 = .ok (.aload_n 0, 1) := dk_42 (dk_at dksJ11_appendNull_0 15 rfl rfl)
theorem dJ11_appendNull_16 : decode cJ11_appendNull 16 = .ok (.getfield 15, 3) := dk_180 0 15 (dk_at dksJ11_appendNull_0 16 rfl rfl)
theorem dJ11_appendNull_19 : decode cJ11_appendNull 19 = .ok (.astore_n 2, 1) := dk_77 (dk_at dksJ11_appendNull_0 19 rfl rfl)
theorem dJ11_appendNull_20 : decode cJ11_appendNull 20 = .ok (.aload_n 0, 1) := dk_42 (dk_at dksJ11_appendNull_0 20 rfl rfl)
theorem dJ11_appendNull_21 : decode cJ11_appendNull 21 = .ok (.invokevirtual 83, 3) := dk_182 0 83 (dk_at dksJ11_appendNull_0 21 rfl rfl)
theorem dJ11_appendNull_24 : decode cJ11_appendNull 24 = .ok (.ifCond .eq 38, 3) := dk_153 0 38 (dk_at dksJ11_appendNull_1 0 rfl rfl)
theorem dJ11_appendNull_27 : decode cJ11_appendNull 27 = .ok (.aload_n 2, 1) := dk_44 (dk_at dksJ11_appendNull_1 3 rfl rfl)
theorem dJ11_appendNull_28 : decode cJ11_appendNull 28 = .ok (.iload_n 1, 1) := dk_27 (dk_at dksJ11_appendNull_1 4 rfl rfl)
theorem dJ11_appendNull_29 : decode cJ11_appendNull 29 = .ok (.iinc 1 1, 3) := dk_132 1 1 (dk_at dksJ11_appendNull_1 5 rfl rfl)
theorem dJ11_appendNull_32 : decode cJ11_appendNull 32 = .ok (.bipush 110, 2) := dk_16 110 (dk_at dksJ11_appendNull_1 8 rfl rfl)
theorem dJ11_appendNull_34 : decode cJ11_appendNull 34 = .ok (.bastore, 1) := dk_84 (dk_at dksJ11_appendNull_1 10 rfl rfl)
theorem dJ11_appendNull_35 : decode cJ11_appendNull 35 = .ok (.aload_n 2, 1) := dk_44 (dk_at dksJ11_appendNull_1 11 rfl rfl)
theorem dJ11_appendNull_36 : decode cJ11_appendNull 36 = .ok (.iload_n 1, 1) := dk_27 (dk_at dksJ11_appendNull_1 12 rfl rfl)
theorem dJ11_appendNull_37 : decode cJ11_appendNull 37 = .ok (.iinc 1 1, 3) := dk_132 1 1 (dk_at dksJ11_appendNull_1 13 rfl rfl)
theorem dJ11_appendNull_40 : decode cJ11_appendNull 40 = .ok (.bipush 117, 2) := dk_16 117 (dk_at dksJ11_appendNull_1 16 rfl rfl)
theorem dJ11_appendNull_42 : decode cJ11_appendNull 42 = .ok (.bastore, 1) := dk_84 (dk_at dksJ11_appendNull_1 18 rfl rfl)
theorem dJ11_appendNull_43 : decode cJ11_appendNull 43 = .ok (.aload_n 2, 1) := dk_44 (dk_at dksJ11_appendNull_1 19 rfl rfl)
theorem dJ11_appendNull_44 : decode cJ11_appendNull 44 = .ok (.iload_n 1, 1) := dk_27 (dk_at dksJ11_appendNull_1 20 rfl rfl)
theorem dJ11_appendNull_45 : decode cJ11_appendNull 45 = .ok (.iinc 1 1, 3) := dk_132 1 1 (dk_at dksJ11_appendNull_1 21 rfl rfl)
theorem dJ11_appendNull_48 : decode cJ11_appendNull 48 = .ok (.bipush 108, 2) := dk_16 108 (dk_at dksJ11_appendNull_2 0 rfl rfl)
theorem dJ11_appendNull_50 : decode cJ11_appendNull 50 = .ok (.bastore, 1) := dk_84 (dk_at dksJ11_appendNull_2 2 rfl rfl)
theorem dJ11_appendNull_51 : decode cJ11_appendNull 51 = .ok (.aload_n 2, 1) := dk_44 (dk_at dksJ11_appendNull_2 3 rfl rfl)
theorem dJ11_appendNull_52 : decode cJ11_appendNull 52 = .ok (.iload_n 1, 1) := dk_27 (dk_at dksJ11_appendNull_2 4 rfl rfl)
theorem dJ11_appendNull_53 : decode cJ11_appendNull 53 = .ok (.iinc 1 1, 3) := dk_132 1 1 (dk_at dksJ11_appendNull_2 5 rfl rfl)
theorem dJ11_appendNull_56 : decode cJ11_appendNull 56 = .ok (.bipush 108, 2) := dk_16 108 (dk_at dksJ11_appendNull_2 8 rfl rfl)
theorem dJ11_appendNull_58 : decode cJ11_appendNull 58 = .ok (.bastore, 1) := dk_84 (dk_at dksJ11_appendNull_2 10 rfl rfl)
theorem dJ11_appendNull_59 : decode cJ11_appendNull 59 = .ok (.goto 17, 3) := dk_167 0 17 (dk_at dksJ11_appendNull_2 11 rfl rfl)
theorem dJ11_appendNull_62 : decode cJ11_appendNull 62 = .ok (.aload_n 2, 1) := dk_44 (dk_at dksJ11_appendNull_2 14 rfl rfl)
theorem dJ11_appendNull_63 : decode cJ11_appendNull 63 = .ok (.iload_n 1, 1) := dk_27 (dk_at dksJ11_appendNull_2 15 rfl rfl)
theorem dJ11_appendNull_64 : decode cJ11_appendNull 64 = .ok (.bipush 110, 2) := dk_16 110 (dk_at dksJ11_appendNull_2 16 rfl rfl)
theorem dJ11_appendNull_66 : decode cJ11_appendNull 66 = .ok (.bipush 117, 2) := dk_16 117 (dk_at dksJ11_appendNull_2 18 rfl rfl)
theorem dJ11_appendNull_68 : decode cJ11_appendNull 68 = .ok (.bipush 108, 2) := dk_16 108 (dk_at dksJ11_appendNull_2 20 rfl rfl)
theorem dJ11_appendNull_70 : decode cJ11_appendNull 70 = .ok (.bipush 108, 2) := dk_16 108 (dk_at dksJ11_appendNull_2 22 rfl rfl)
theorem dJ11_appendNull_72 : decode cJ11_appendNull 72 = .ok (.invokestatic 226, 3) := dk_184 0 226 (dk_at dksJ11_appendNull_3 0 rfl rfl)
theorem dJ11_appendNull_75 : decode cJ11_appendNull 75 = .ok (.istore_n 1, 1) := dk_60 (dk_at dksJ11_appendNull_3 3 rfl rfl)
theorem dJ11_appendNull_76 : decode cJ11_appendNull 76 = .ok (.aload_n 0, 1) := dk_42 (dk_at dksJ11_appendNull_3 4 rfl rfl)
theorem dJ11_appendNull_77 : decode cJ11_appendNull 77 = .ok (.iload_n 1, 1) := dk_27 (dk_at dksJ11_appendNull_3 5 rfl rfl)
theorem dJ11_appendNull_78 : decode cJ11_appendNull 78 = .ok (.putfield 79, 3) := dk_181 0 79 (dk_at dksJ11_appendNull_3 6 rfl rfl)
theorem dJ11_appendNull_81 : decode cJ11_appendNull 81 = .ok (.aload_n 0, 1) := dk_42 (dk_at dksJ11_appendNull_3 9 rfl rfl)
theorem dJ11_appendNull_82 : decode cJ11_appendNull 82 = .ok (.areturn, 1) := dk_176 (dk_at dksJ11_appendNull_3 10 rfl rfl)
abbrev cJ11_ensureCapacityInternal : ByteArray := prog_25_method_9_code
def yJ11_ensureCapacityInternal : MethodName := ⟨RJ11, "ensureCapacityInternal", "(I)V"⟩
def dkwJ11_ensureCapacityInternal_1 : List UInt8 := [182, 0, 104, 42, 180, 0, 22, 120, 184, 0, 108, 181, 0, 15, 177]
abbrev dktJ11_ensureCapacityInternal_1 : List UInt8 := dkwJ11_ensureCapacityInternal_1 ++ []
def dkwJ11_ensureCapacityInternal_0 : List UInt8 := [42, 180, 0, 15, 190, 42, 180, 0, 22, 122, 61, 27, 28, 100, 158, 0, 24, 42, 42, 180, 0, 15, 42, 27]
abbrev dktJ11_ensureCapacityInternal_0 : List UInt8 := dkwJ11_ensureCapacityInternal_0 ++ dktJ11_ensureCapacityInternal_1
theorem dksJ11_ensureCapacityInternal_0 : cJ11_ensureCapacityInternal.data.toList.drop 0 = dktJ11_ensureCapacityInternal_0 := by decide +kernel
theorem dksJ11_ensureCapacityInternal_1 : cJ11_ensureCapacityInternal.data.toList.drop 24 = dktJ11_ensureCapacityInternal_1 := dk_seg dksJ11_ensureCapacityInternal_0 24 rfl rfl
theorem dJ11_ensureCapacityInternal_0 : decode cJ11_ensureCapacityInternal 0 = .ok (.aload_n 0, 1) := dk_42 (dk_at dksJ11_ensureCapacityInternal_0 0 rfl rfl)
theorem dJ11_ensureCapacityInternal_1 : decode cJ11_ensureCapacityInternal 1 = .ok (.getfield 15, 3) := dk_180 0 15 (dk_at dksJ11_ensureCapacityInternal_0 1 rfl rfl)
theorem dJ11_ensureCapacityInternal_4 : decode cJ11_ensureCapacityInternal 4 = .ok (.arraylength, 1) := dk_190 (dk_at dksJ11_ensureCapacityInternal_0 4 rfl rfl)
theorem dJ11_ensureCapacityInternal_5 : decode cJ11_ensureCapacityInternal 5 = .ok (.aload_n 0, 1) := dk_42 (dk_at dksJ11_ensureCapacityInternal_0 5 rfl rfl)
theorem dJ11_ensureCapacityInternal_6 : decode cJ11_ensureCapacityInternal 6 = .ok (.getfield 22, 3) := dk_180 0 22 (dk_at dksJ11_ensureCapacityInternal_0 6 rfl rfl)
theorem dJ11_ensureCapacityInternal_9 : decode cJ11_ensureCapacityInternal 9 = .ok (.ishr, 1) := dk_122 (dk_at dksJ11_ensureCapacityInternal_0 9 rfl rfl)
theorem dJ11_ensureCapacityInternal_10 : decode cJ11_ensureCapacityInternal 10 = .ok (.istore_n 2, 1) := dk_61 (dk_at dksJ11_ensureCapacityInternal_0 10 rfl rfl)
theorem dJ11_ensureCapacityInternal_11 : decode cJ11_ensureCapacityInternal 11 = .ok (.iload_n 1, 1) := dk_27 (dk_at dksJ11_ensureCapacityInternal_0 11 rfl rfl)
theorem dJ11_ensureCapacityInternal_12 : decode cJ11_ensureCapacityInternal 12 = .ok (.iload_n 2, 1) := dk_28 (dk_at dksJ11_ensureCapacityInternal_0 12 rfl rfl)
theorem dJ11_ensureCapacityInternal_13 : decode cJ11_ensureCapacityInternal 13 = .ok (.isub, 1) := dk_100 (dk_at dksJ11_ensureCapacityInternal_0 13 rfl rfl)
theorem dJ11_ensureCapacityInternal_14 : decode cJ11_ensureCapacityInternal 14 = .ok (.ifCond .le 24, 3) := dk_158 0 24 (dk_at dksJ11_ensureCapacityInternal_0 14 rfl rfl)
theorem dJ11_ensureCapacityInternal_17 : decode cJ11_ensureCapacityInternal 17 = .ok (.aload_n 0, 1) := dk_42 (dk_at dksJ11_ensureCapacityInternal_0 17 rfl rfl)
theorem dJ11_ensureCapacityInternal_18 : decode cJ11_ensureCapacityInternal 18 = .ok (.aload_n 0, 1) := dk_42 (dk_at dksJ11_ensureCapacityInternal_0 18 rfl rfl)
theorem dJ11_ensureCapacityInternal_19 : decode cJ11_ensureCapacityInternal 19 = .ok (.getfield 15, 3) := dk_180 0 15 (dk_at dksJ11_ensureCapacityInternal_0 19 rfl rfl)
theorem dJ11_ensureCapacityInternal_22 : decode cJ11_ensureCapacityInternal 22 = .ok (.aload_n 0, 1) := dk_42 (dk_at dksJ11_ensureCapacityInternal_0 22 rfl rfl)
theorem dJ11_ensureCapacityInternal_23 : decode cJ11_ensureCapacityInternal 23 = .ok (.iload_n 1, 1) := dk_27 (dk_at dksJ11_ensureCapacityInternal_0 23 rfl rfl)
theorem dJ11_ensureCapacityInternal_24 : decode cJ11_ensureCapacityInternal 24 = .ok (.invokevirtual 104, 3) := dk_182 0 104 (dk_at dksJ11_ensureCapacityInternal_1 0 rfl rfl)
theorem dJ11_ensureCapacityInternal_27 : decode cJ11_ensureCapacityInternal 27 = .ok (.aload_n 0, 1) := dk_42 (dk_at dksJ11_ensureCapacityInternal_1 3 rfl rfl)
theorem dJ11_ensureCapacityInternal_28 : decode cJ11_ensureCapacityInternal 28 = .ok (.getfield 22, 3) := dk_180 0 22 (dk_at dksJ11_ensureCapacityInternal_1 4 rfl rfl)
theorem dJ11_ensureCapacityInternal_31 : decode cJ11_ensureCapacityInternal 31 = .ok (.ishl, 1) := dk_120 (dk_at dksJ11_ensureCapacityInternal_1 7 rfl rfl)
theorem dJ11_ensureCapacityInternal_32 : decode cJ11_ensureCapacityInternal 32 = .ok (.invokestatic 108, 3) := dk_184 0 108 (dk_at dksJ11_ensureCapacityInternal_1 8 rfl rfl)
theorem dJ11_ensureCapacityInternal_35 : decode cJ11_ensureCapacityInternal 35 = .ok (.putfield 15, 3) := dk_181 0 15 (dk_at dksJ11_ensureCapacityInternal_1 11 rfl rfl)
theorem dJ11_ensureCapacityInternal_38 : decode cJ11_ensureCapacityInternal 38 = .ok (.return_, 1) := dk_177 (dk_at dksJ11_ensureCapacityInternal_1 14 rfl rfl)
abbrev cJ11_newCapacity : ByteArray := prog_25_method_10_code
def yJ11_newCapacity : MethodName := ⟨RJ11, "newCapacity", "(I)I"⟩
def dkwJ11_newCapacity_2 : List UInt8 := [183, 0, 124, 191, 21, 5, 42, 180, 0, 22, 122, 172]
abbrev dktJ11_newCapacity_2 : List UInt8 := dkwJ11_newCapacity_2 ++ []
def dkwJ11_newCapacity_1 : List UInt8 := [180, 0, 22, 120, 96, 184, 0, 114, 54, 5, 21, 5, 18, 39, 160, 0, 13, 187, 0, 120, 89, 18, 122]
abbrev dktJ11_newCapacity_1 : List UInt8 := dkwJ11_newCapacity_1 ++ dktJ11_newCapacity_2
def dkwJ11_newCapacity_0 : List UInt8 := [42, 180, 0, 15, 190, 61, 27, 42, 180, 0, 22, 120, 62, 29, 28, 100, 54, 4, 28, 21, 4, 28, 5, 42]
abbrev dktJ11_newCapacity_0 : List UInt8 := dkwJ11_newCapacity_0 ++ dktJ11_newCapacity_1
theorem dksJ11_newCapacity_0 : cJ11_newCapacity.data.toList.drop 0 = dktJ11_newCapacity_0 := by decide +kernel
theorem dksJ11_newCapacity_1 : cJ11_newCapacity.data.toList.drop 24 = dktJ11_newCapacity_1 := dk_seg dksJ11_newCapacity_0 24 rfl rfl
theorem dksJ11_newCapacity_2 : cJ11_newCapacity.data.toList.drop 47 = dktJ11_newCapacity_2 := dk_seg dksJ11_newCapacity_1 23 rfl rfl
theorem dJ11_newCapacity_0 : decode cJ11_newCapacity 0 = .ok (.aload_n 0, 1) := dk_42 (dk_at dksJ11_newCapacity_0 0 rfl rfl)
theorem dJ11_newCapacity_1 : decode cJ11_newCapacity 1 = .ok (.getfield 15, 3) := dk_180 0 15 (dk_at dksJ11_newCapacity_0 1 rfl rfl)
theorem dJ11_newCapacity_4 : decode cJ11_newCapacity 4 = .ok (.arraylength, 1) := dk_190 (dk_at dksJ11_newCapacity_0 4 rfl rfl)
theorem dJ11_newCapacity_5 : decode cJ11_newCapacity 5 = .ok (.istore_n 2, 1) := dk_61 (dk_at dksJ11_newCapacity_0 5 rfl rfl)
theorem dJ11_newCapacity_6 : decode cJ11_newCapacity 6 = .ok (.iload_n 1, 1) := dk_27 (dk_at dksJ11_newCapacity_0 6 rfl rfl)
theorem dJ11_newCapacity_7 : decode cJ11_newCapacity 7 = .ok (.aload_n 0, 1) := dk_42 (dk_at dksJ11_newCapacity_0 7 rfl rfl)
theorem dJ11_newCapacity_8 : decode cJ11_newCapacity 8 = .ok (.getfield 22, 3) := dk_180 0 22 (dk_at dksJ11_newCapacity_0 8 rfl rfl)
theorem dJ11_newCapacity_11 : decode cJ11_newCapacity 11 = .ok (.ishl, 1) := dk_120 (dk_at dksJ11_newCapacity_0 11 rfl rfl)
theorem dJ11_newCapacity_12 : decode cJ11_newCapacity 12 = .ok (.istore_n 3, 1) := dk_62 (dk_at dksJ11_newCapacity_0 12 rfl rfl)
theorem dJ11_newCapacity_13 : decode cJ11_newCapacity 13 = .ok (.iload_n 3, 1) := dk_29 (dk_at dksJ11_newCapacity_0 13 rfl rfl)
theorem dJ11_newCapacity_14 : decode cJ11_newCapacity 14 = .ok (.iload_n 2, 1) := dk_28 (dk_at dksJ11_newCapacity_0 14 rfl rfl)
theorem dJ11_newCapacity_15 : decode cJ11_newCapacity 15 = .ok (.isub, 1) := dk_100 (dk_at dksJ11_newCapacity_0 15 rfl rfl)
theorem dJ11_newCapacity_16 : decode cJ11_newCapacity 16 = .ok (.istore 4, 2) := dk_54 4 (dk_at dksJ11_newCapacity_0 16 rfl rfl)
theorem dJ11_newCapacity_18 : decode cJ11_newCapacity 18 = .ok (.iload_n 2, 1) := dk_28 (dk_at dksJ11_newCapacity_0 18 rfl rfl)
theorem dJ11_newCapacity_19 : decode cJ11_newCapacity 19 = .ok (.iload 4, 2) := dk_21 4 (dk_at dksJ11_newCapacity_0 19 rfl rfl)
theorem dJ11_newCapacity_21 : decode cJ11_newCapacity 21 = .ok (.iload_n 2, 1) := dk_28 (dk_at dksJ11_newCapacity_0 21 rfl rfl)
theorem dJ11_newCapacity_22 : decode cJ11_newCapacity 22 = .ok (.iconst 2, 1) := dk_5 (dk_at dksJ11_newCapacity_0 22 rfl rfl)
theorem dJ11_newCapacity_23 : decode cJ11_newCapacity 23 = .ok (.aload_n 0, 1) := dk_42 (dk_at dksJ11_newCapacity_0 23 rfl rfl)
theorem dJ11_newCapacity_24 : decode cJ11_newCapacity 24 = .ok (.getfield 22, 3) := dk_180 0 22 (dk_at dksJ11_newCapacity_1 0 rfl rfl)
theorem dJ11_newCapacity_27 : decode cJ11_newCapacity 27 = .ok (.ishl, 1) := dk_120 (dk_at dksJ11_newCapacity_1 3 rfl rfl)
theorem dJ11_newCapacity_28 : decode cJ11_newCapacity 28 = .ok (.iadd, 1) := dk_96 (dk_at dksJ11_newCapacity_1 4 rfl rfl)
theorem dJ11_newCapacity_29 : decode cJ11_newCapacity 29 = .ok (.invokestatic 114, 3) := dk_184 0 114 (dk_at dksJ11_newCapacity_1 5 rfl rfl)
theorem dJ11_newCapacity_32 : decode cJ11_newCapacity 32 = .ok (.istore 5, 2) := dk_54 5 (dk_at dksJ11_newCapacity_1 8 rfl rfl)
theorem dJ11_newCapacity_34 : decode cJ11_newCapacity 34 = .ok (.iload 5, 2) := dk_21 5 (dk_at dksJ11_newCapacity_1 10 rfl rfl)
theorem dJ11_newCapacity_36 : decode cJ11_newCapacity 36 = .ok (.ldc 39, 2) := dk_18 39 (dk_at dksJ11_newCapacity_1 12 rfl rfl)
theorem dJ11_newCapacity_38 : decode cJ11_newCapacity 38 = .ok (.if_icmp .ne 13, 3) := dk_160 0 13 (dk_at dksJ11_newCapacity_1 14 rfl rfl)
theorem dJ11_newCapacity_41 : decode cJ11_newCapacity 41 = .ok (.new 120, 3) := dk_187 0 120 (dk_at dksJ11_newCapacity_1 17 rfl rfl)
theorem dJ11_newCapacity_44 : decode cJ11_newCapacity 44 = .ok (.dup, 1) := dk_89 (dk_at dksJ11_newCapacity_1 20 rfl rfl)
theorem dJ11_newCapacity_45 : decode cJ11_newCapacity 45 = .ok (.ldc 122, 2) := dk_18 122 (dk_at dksJ11_newCapacity_1 21 rfl rfl)
theorem dJ11_newCapacity_47 : decode cJ11_newCapacity 47 = .ok (.invokespecial 124, 3) := dk_183 0 124 (dk_at dksJ11_newCapacity_2 0 rfl rfl)
theorem dJ11_newCapacity_50 : decode cJ11_newCapacity 50 = .ok (.athrow, 1) := dk_191 (dk_at dksJ11_newCapacity_2 3 rfl rfl)
theorem dJ11_newCapacity_51 : decode cJ11_newCapacity 51 = .ok (.iload 5, 2) := dk_21 5 (dk_at dksJ11_newCapacity_2 4 rfl rfl)
theorem dJ11_newCapacity_53 : decode cJ11_newCapacity 53 = .ok (.aload_n 0, 1) := dk_42 (dk_at dksJ11_newCapacity_2 6 rfl rfl)
theorem dJ11_newCapacity_54 : decode cJ11_newCapacity 54 = .ok (.getfield 22, 3) := dk_180 0 22 (dk_at dksJ11_newCapacity_2 7 rfl rfl)
theorem dJ11_newCapacity_57 : decode cJ11_newCapacity 57 = .ok (.ishr, 1) := dk_122 (dk_at dksJ11_newCapacity_2 10 rfl rfl)
theorem dJ11_newCapacity_58 : decode cJ11_newCapacity 58 = .ok (.ireturn, 1) := dk_172 (dk_at dksJ11_newCapacity_2 11 rfl rfl)
abbrev cJ11_isLatin1 : ByteArray := prog_25_method_68_code
def yJ11_isLatin1 : MethodName := ⟨RJ11, "isLatin1", "()Z"⟩
def dkwJ11_isLatin1_0 : List UInt8 := [178, 0, 18, 153, 0, 14, 42, 180, 0, 22, 154, 0, 7, 4, 167, 0, 4, 3, 172]
abbrev dktJ11_isLatin1_0 : List UInt8 := dkwJ11_isLatin1_0 ++ []
theorem dksJ11_isLatin1_0 : cJ11_isLatin1.data.toList.drop 0 = dktJ11_isLatin1_0 := by decide +kernel
theorem dJ11_isLatin1_0 : decode cJ11_isLatin1 0 = .ok (.getstatic 18, 3) := dk_178 0 18 (dk_at dksJ11_isLatin1_0 0 rfl rfl)
theorem dJ11_isLatin1_3 : decode cJ11_isLatin1 3 = .ok (.ifCond .eq 14, 3) := dk_153 0 14 (dk_at dksJ11_isLatin1_0 3 rfl rfl)
theorem dJ11_isLatin1_6 : decode cJ11_isLatin1 6 = .ok (.aload_n 0, 1) := dk_42 (dk_at dksJ11_isLatin1_0 6 rfl rfl)
theorem dJ11_isLatin1_7 : decode cJ11_isLatin1 7 = .ok (.getfield 22, 3) := dk_180 0 22 (dk_at dksJ11_isLatin1_0 7 rfl rfl)
theorem dJ11_isLatin1_10 : decode cJ11_isLatin1 10 = .ok (.ifCond .ne 7, 3) := dk_154 0 7 (dk_at dksJ11_isLatin1_0 10 rfl rfl)
theorem dJ11_isLatin1_13 : decode cJ11_isLatin1 13 = .ok (.iconst 1, 1) := dk_4 (dk_at dksJ11_isLatin1_0 13 rfl rfl)
theorem dJ11_isLatin1_14 : decode cJ11_isLatin1 14 = .ok (.goto 4, 3) := dk_167 0 4 (dk_at dksJ11_isLatin1_0 14 rfl rfl)
theorem dJ11_isLatin1_17 : decode cJ11_isLatin1 17 = .ok (.iconst 0, 1) := dk_3 (dk_at dksJ11_isLatin1_0 17 rfl rfl)
theorem dJ11_isLatin1_18 : decode cJ11_isLatin1 18 = .ok (.ireturn, 1) := dk_172 (dk_at dksJ11_isLatin1_0 18 rfl rfl)
abbrev cJ11_putStringAt : ByteArray := prog_25_method_73_code
def yJ11_putStringAt : MethodName := ⟨RJ11, "putStringAt", "(ILjava/lang/String;)V"⟩
def dkwJ11_putStringAt_0 : List UInt8 := [42, 44, 182, 1, 141, 44, 42, 180, 0, 15, 27, 42, 180, 0, 22, 182, 1, 143, 177]
abbrev dktJ11_putStringAt_0 : List UInt8 := dkwJ11_putStringAt_0 ++ []
theorem dksJ11_putStringAt_0 : cJ11_putStringAt.data.toList.drop 0 = dktJ11_putStringAt_0 := by decide +kernel
theorem dJ11_putStringAt_0 : decode cJ11_putStringAt 0 = .ok (.aload_n 0, 1) := dk_42 (dk_at dksJ11_putStringAt_0 0 rfl rfl)
theorem dJ11_putStringAt_1 : decode cJ11_putStringAt 1 = .ok (.aload_n 2, 1) := dk_44 (dk_at dksJ11_putStringAt_0 1 rfl rfl)
theorem dJ11_putStringAt_2 : decode cJ11_putStringAt 2 = .ok (.invokevirtual 397, 3) := dk_182 1 141 (dk_at dksJ11_putStringAt_0 2 rfl rfl)
theorem dJ11_putStringAt_5 : decode cJ11_putStringAt 5 = .ok (.aload_n 2, 1) := dk_44 (dk_at dksJ11_putStringAt_0 5 rfl rfl)
theorem dJ11_putStringAt_6 : decode cJ11_putStringAt 6 = .ok (.aload_n 0, 1) := dk_42 (dk_at dksJ11_putStringAt_0 6 rfl rfl)
theorem dJ11_putStringAt_7 : decode cJ11_putStringAt 7 = .ok (.getfield 15, 3) := dk_180 0 15 (dk_at dksJ11_putStringAt_0 7 rfl rfl)
theorem dJ11_putStringAt_10 : decode cJ11_putStringAt 10 = .ok (.iload_n 1, 1) := dk_27 (dk_at dksJ11_putStringAt_0 10 rfl rfl)
theorem dJ11_putStringAt_11 : decode cJ11_putStringAt 11 = .ok (.aload_n 0, 1) := dk_42 (dk_at dksJ11_putStringAt_0 11 rfl rfl)
theorem dJ11_putStringAt_12 : decode cJ11_putStringAt 12 = .ok (.getfield 22, 3) := dk_180 0 22 (dk_at dksJ11_putStringAt_0 12 rfl rfl)
theorem dJ11_putStringAt_15 : decode cJ11_putStringAt 15 = .ok (.invokevirtual 399, 3) := dk_182 1 143 (dk_at dksJ11_putStringAt_0 15 rfl rfl)
theorem dJ11_putStringAt_18 : decode cJ11_putStringAt 18 = .ok (.return_, 1) := dk_177 (dk_at dksJ11_putStringAt_0 18 rfl rfl)
abbrev cJ11_inflateIfNeededFor : ByteArray := prog_25_method_71_code
def yJ11_inflateIfNeededFor : MethodName := ⟨RJ11, "inflateIfNeededFor", "(Ljava/lang/String;)V"⟩
def dkwJ11_inflateIfNeededFor_0 : List UInt8 := [178, 0, 18, 153, 0, 18, 42, 180, 0, 22, 43, 182, 0, 40, 159, 0, 7, 42, 182, 0, 195, 177]
abbrev dktJ11_inflateIfNeededFor_0 : List UInt8 := dkwJ11_inflateIfNeededFor_0 ++ []
theorem dksJ11_inflateIfNeededFor_0 : cJ11_inflateIfNeededFor.data.toList.drop 0 = dktJ11_inflateIfNeededFor_0 := by decide +kernel
theorem dJ11_inflateIfNeededFor_0 : decode cJ11_inflateIfNeededFor 0 = .ok (.getstatic 18, 3) := dk_178 0 18 (dk_at dksJ11_inflateIfNeededFor_0 0 rfl rfl)
theorem dJ11_inflateIfNeededFor_3 : decode cJ11_inflateIfNeededFor 3 = .ok (.ifCond .eq 18, 3) := dk_153 0 18 (dk_at dksJ11_inflateIfNeededFor_0 3 rfl rfl)
theorem dJ11_inflateIfNeededFor_6 : decode cJ11_inflateIfNeededFor 6 = .ok (.aload_n 0, 1) := dk_42 (dk_at dksJ11_inflateIfNeededFor_0 6 rfl rfl)
theorem dJ11_inflateIfNeededFor_7 : decode cJ11_inflateIfNeededFor 7 = .ok (.getfield 22, 3) := dk_180 0 22 (dk_at dksJ11_inflateIfNeededFor_0 7 rfl rfl)
theorem dJ11_inflateIfNeededFor_10 : decode cJ11_inflateIfNeededFor 10 = .ok (.aload_n 1, 1) := dk_43 (dk_at dksJ11_inflateIfNeededFor_0 10 rfl rfl)
theorem dJ11_inflateIfNeededFor_11 : decode cJ11_inflateIfNeededFor 11 = .ok (.invokevirtual 40, 3) := dk_182 0 40 (dk_at dksJ11_inflateIfNeededFor_0 11 rfl rfl)
theorem dJ11_inflateIfNeededFor_14 : decode cJ11_inflateIfNeededFor 14 = .ok (.if_icmp .eq 7, 3) := dk_159 0 7 (dk_at dksJ11_inflateIfNeededFor_0 14 rfl rfl)
theorem dJ11_inflateIfNeededFor_17 : decode cJ11_inflateIfNeededFor 17 = .ok (.aload_n 0, 1) := dk_42 (dk_at dksJ11_inflateIfNeededFor_0 17 rfl rfl)
theorem dJ11_inflateIfNeededFor_18 : decode cJ11_inflateIfNeededFor 18 = .ok (.invokevirtual 195, 3) := dk_182 0 195 (dk_at dksJ11_inflateIfNeededFor_0 18 rfl rfl)
theorem dJ11_inflateIfNeededFor_21 : decode cJ11_inflateIfNeededFor 21 = .ok (.return_, 1) := dk_177 (dk_at dksJ11_inflateIfNeededFor_0 21 rfl rfl)
abbrev cJ11_inflate : ByteArray := prog_25_method_11_code
def yJ11_inflate : MethodName := ⟨RJ11, "inflate", "()V"⟩
def dkwJ11_inflate_1 : List UInt8 := [42, 180, 0, 79, 184, 0, 125, 42, 43, 181, 0, 15, 42, 4, 181, 0, 22, 177]
abbrev dktJ11_inflate_1 : List UInt8 := dkwJ11_inflate_1 ++ []
def dkwJ11_inflate_0 : List UInt8 := [42, 182, 0, 83, 154, 0, 4, 177, 42, 180, 0, 15, 190, 184, 0, 26, 76, 42, 180, 0, 15, 3, 43, 3]
abbrev dktJ11_inflate_0 : List UInt8 := dkwJ11_inflate_0 ++ dktJ11_inflate_1
theorem dksJ11_inflate_0 : cJ11_inflate.data.toList.drop 0 = dktJ11_inflate_0 := by decide +kernel
theorem dksJ11_inflate_1 : cJ11_inflate.data.toList.drop 24 = dktJ11_inflate_1 := dk_seg dksJ11_inflate_0 24 rfl rfl
theorem dJ11_inflate_0 : decode cJ11_inflate 0 = .ok (.aload_n 0, 1) := dk_42 (dk_at dksJ11_inflate_0 0 rfl rfl)
theorem dJ11_inflate_1 : decode cJ11_inflate 1 = .ok (.invokevirtual 83, 3) := dk_182 0 83 (dk_at dksJ11_inflate_0 1 rfl rfl)
theorem dJ11_inflate_4 : decode cJ11_inflate 4 = .ok (.ifCond .ne 4, 3) := dk_154 0 4 (dk_at dksJ11_inflate_0 4 rfl rfl)
theorem dJ11_inflate_7 : decode cJ11_inflate 7 = .ok (.return_, 1) := dk_177 (dk_at dksJ11_inflate_0 7 rfl rfl)
theorem dJ11_inflate_8 : decode cJ11_inflate 8 = .ok (.aload_n 0, 1) := dk_42 (dk_at dksJ11_inflate_0 8 rfl rfl)
theorem dJ11_inflate_9 : decode cJ11_inflate 9 = .ok (.getfield 15, 3) := dk_180 0 15 (dk_at dksJ11_inflate_0 9 rfl rfl)
theorem dJ11_inflate_12 : decode cJ11_inflate 12 = .ok (.arraylength, 1) := dk_190 (dk_at dksJ11_inflate_0 12 rfl rfl)
theorem dJ11_inflate_13 : decode cJ11_inflate 13 = .ok (.invokestatic 26, 3) := dk_184 0 26 (dk_at dksJ11_inflate_0 13 rfl rfl)
theorem dJ11_inflate_16 : decode cJ11_inflate 16 = .ok (.astore_n 1, 1) := dk_76 (dk_at dksJ11_inflate_0 16 rfl rfl)
theorem dJ11_inflate_17 : decode cJ11_inflate 17 = .ok (.aload_n 0, 1) := dk_42 (dk_at dksJ11_inflate_0 17 rfl rfl)
theorem dJ11_inflate_18 : decode cJ11_inflate 18 = .ok (.getfield 15, 3) := dk_180 0 15 (dk_at dksJ11_inflate_0 18 rfl rfl)
theorem dJ11_inflate_21 : decode cJ11_inflate 21 = .ok (.iconst 0, 1) := dk_3 (dk_at dksJ11_inflate_0 21 rfl rfl)
theorem dJ11_inflate_22 : decode cJ11_inflate 22 = .ok (.aload_n 1, 1) := dk_43 (dk_at dksJ11_inflate_0 22 rfl rfl)
theorem dJ11_inflate_23 : decode cJ11_inflate 23 = .ok (.iconst 0, 1) := dk_3 (dk_at dksJ11_inflate_0 23 rfl rfl)
theorem dJ11_inflate_24 : decode cJ11_inflate 24 = .ok (.aload_n 0, 1) := dk_42 (dk_at dksJ11_inflate_1 0 rfl rfl)
theorem dJ11_inflate_25 : decode cJ11_inflate 25 = .ok (.getfield 79, 3) := dk_180 0 79 (dk_at dksJ11_inflate_1 1 rfl rfl)
theorem dJ11_inflate_28 : decode cJ11_inflate 28 = .ok (.invokestatic 125, 3) := dk_184 0 125 (dk_at dksJ11_inflate_1 4 rfl rfl)
theorem dJ11_inflate_31 : decode cJ11_inflate 31 = .ok (.aload_n 0, 1) := dk_42 (dk_at dksJ11_inflate_1 7 rfl rfl)
theorem dJ11_inflate_32 : decode cJ11_inflate 32 = .ok (.aload_n 1, 1) := dk_43 (dk_at dksJ11_inflate_1 8 rfl rfl)
theorem dJ11_inflate_33 : decode cJ11_inflate 33 = .ok (.putfield 15, 3) := dk_181 0 15 (dk_at dksJ11_inflate_1 9 rfl rfl)
theorem dJ11_inflate_36 : decode cJ11_inflate 36 = .ok (.aload_n 0, 1) := dk_42 (dk_at dksJ11_inflate_1 12 rfl rfl)
theorem dJ11_inflate_37 : decode cJ11_inflate 37 = .ok (.iconst 1, 1) := dk_4 (dk_at dksJ11_inflate_1 13 rfl rfl)
theorem dJ11_inflate_38 : decode cJ11_inflate 38 = .ok (.putfield 22, 3) := dk_181 0 22 (dk_at dksJ11_inflate_1 14 rfl rfl)
theorem dJ11_inflate_41 : decode cJ11_inflate 41 = .ok (.return_, 1) := dk_177 (dk_at dksJ11_inflate_1 17 rfl rfl)
abbrev cJ11_append_2 : ByteArray := prog_25_method_32_code
def yJ11_append_2 : MethodName := ⟨RJ11, "append", "(I)Ljava/lang/AbstractStringBuilder;"⟩
def dkwJ11_append_2_2 : List UInt8 := [42, 29, 181, 0, 79, 42, 176]
abbrev dktJ11_append_2_2 : List UInt8 := dkwJ11_append_2_2 ++ []
def dkwJ11_append_2_1 : List UInt8 := [27, 29, 42, 180, 0, 15, 184, 0, 248, 87, 167, 0, 14, 27, 28, 29, 42, 180, 0, 15, 184, 0, 251, 87]
abbrev dktJ11_append_2_1 : List UInt8 := dkwJ11_append_2_1 ++ dktJ11_append_2_2
def dkwJ11_append_2_0 : List UInt8 := [42, 180, 0, 79, 61, 28, 27, 184, 0, 245, 96, 62, 42, 29, 182, 0, 100, 42, 182, 0, 83, 153, 0, 16]
abbrev dktJ11_append_2_0 : List UInt8 := dkwJ11_append_2_0 ++ dktJ11_append_2_1
theorem dksJ11_append_2_0 : cJ11_append_2.data.toList.drop 0 = dktJ11_append_2_0 := by decide +kernel
theorem dksJ11_append_2_1 : cJ11_append_2.data.toList.drop 24 = dktJ11_append_2_1 := dk_seg dksJ11_append_2_0 24 rfl rfl
theorem dksJ11_append_2_2 : cJ11_append_2.data.toList.drop 48 = dktJ11_append_2_2 := dk_seg dksJ11_append_2_1 24 rfl rfl
theorem dJ11_append_2_0 : decode cJ11_append_2 0 = .ok (.aload_n 0, 1) := dk_42 (dk_at dksJ11_append_2_0 0 rfl rfl)
theorem dJ11_append_2_1 : decode cJ11_append_2 1 = .ok (.getfield 79, 3) := dk_180 0 79 (dk_at dksJ11_append_2_0 1 rfl rfl)
theorem dJ11_append_2_4 : decode cJ11_append_2 4 = .ok (.istore_n 2, 1) := dk_61 (dk_at dksJ11_append_2_0 4 rfl rfl)
theorem dJ11_append_2_5 : decode cJ11_append_2 5 = .ok (.iload_n 2, 1) := dk_28 (dk_at dksJ11_append_2_0 5 rfl rfl)
theorem dJ11_append_2_6 : decode cJ11_append_2 6 = .ok (.iload_n 1, 1) := dk_27 (dk_at dksJ11_append_2_0 6 rfl rfl)
theorem dJ11_append_2_7 : decode cJ11_append_2 7 = .ok (.invokestatic 245, 3) := dk_184 0 245 (dk_at dksJ11_append_2_0 7 rfl rfl)
theorem dJ11_append_2_10 : decode cJ11_append_2 10 = .ok (.iadd, 1) := dk_96 (dk_at dksJ11_append_2_0 10 rfl rfl)
theorem dJ11_append_2_11 : decode cJ11_append_2 11 = .ok (.istore_n 3, 1) := dk_62 (dk_at dksJ11_append_2_0 11 rfl rfl)
theorem dJ11_append_2_12 : decode cJ11_append_2 12 = .ok (.aload_n 0, 1) := dk_42 (dk_at dksJ11_append_2_0 12 rfl rfl)
theorem dJ11_append_2_13 : decode cJ11_append_2 13 = .ok (.iload_n 3, 1) := dk_29 (dk_at dksJ11_append_2_0 13 rfl rfl)
theorem dJ11_append_2_14 : decode cJ11_append_2 14 = .ok (.invokevirtual 100, 3) := dk_182 0 100 (dk_at dksJ11_append_2_0 14 rfl rfl)
theorem dJ11_append_2_17 : decode cJ11_append_2 17 = .ok (.aload_n 0, 1) := dk_42 (dk_at dksJ11_append_2_0 17 rfl rfl)
theorem dJ11_append_2_18 : decode cJ11_append_2 18 = .ok (.invokevirtual 83, 3) := dk_182 0 83 (dk_at dksJ11_append_2_0 18 rfl rfl)
theorem dJ11_append_2_21 : decode cJ11_append_2 21 = .ok (.ifCond .eq 16, 3) := dk_153 0 16 (dk_at dksJ11_append_2_0 21 rfl rfl)
theorem dJ11_append_2_24 : decode cJ11_append_2 24 = .ok (.iload_n 1, 1) := dk_27 (dk_at dksJ11_append_2_1 0 rfl rfl)
theorem dJ11_append_2_25 : decode cJ11_append_2 25 = .ok (.iload_n 3, 1) := dk_29 (dk_at dksJ11_append_2_1 1 rfl rfl)
theorem dJ11_append_2_26 : decode cJ11_append_2 26 = .ok (.aload_n 0, 1) := dk_42 (dk_at dksJ11_append_2_1 2 rfl rfl)
theorem dJ11_append_2_27 : decode cJ11_append_2 27 = .ok (.getfield 15, 3) := dk_180 0 15 (dk_at dksJ11_append_2_1 3 rfl rfl)
theorem dJ11_append_2_30 : decode cJ11_append_2 30 = .ok (.invokestatic 248, 3) := dk_184 0 248 (dk_at dksJ11_append_2_1 6 rfl rfl)
theorem dJ11_append_2_33 : decode cJ11_append_2 33 = .ok (.pop, 1) := dk_87 (dk_at dksJ11_append_2_1 9 rfl rfl)
theorem dJ11_append_2_34 : decode cJ11_append_2 34 = .ok (.goto 14, 3) := dk_167 0 14 (dk_at dksJ11_append_2_1 10 rfl rfl)
theorem dJ11_append_2_37 : decode cJ11_append_2 37 = .ok (.iload_n 1, 1) := dk_27 (dk_at dksJ11_append_2_1 13 rfl rfl)
theorem dJ11_append_2_38 : decode cJ11_append_2 38 = .ok (.iload_n 2, 1) := dk_28 (dk_at dksJ11_append_2_1 14 rfl rfl)
theorem dJ11_append_2_39 : decode cJ11_append_2 39 = .ok (.iload_n 3, 1) := dk_29 (dk_at dksJ11_append_2_1 15 rfl rfl)
theorem dJ11_append_2_40 : decode cJ11_append_2 40 = .ok (.aload_n 0, 1) := dk_42 (dk_at dksJ11_append_2_1 16 rfl rfl)
theorem dJ11_append_2_41 : decode cJ11_append_2 41 = .ok (.getfield 15, 3) := dk_180 0 15 (dk_at dksJ11_append_2_1 17 rfl rfl)
theorem dJ11_append_2_44 : decode cJ11_append_2 44 = .ok (.invokestatic 251, 3) := dk_184 0 251 (dk_at dksJ11_append_2_1 20 rfl rfl)
theorem dJ11_append_2_47 : decode cJ11_append_2 47 = .ok (.pop, 1) := dk_87 (dk_at dksJ11_append_2_1 23 rfl rfl)
theorem dJ11_append_2_48 : decode cJ11_append_2 48 = .ok (.aload_n 0, 1) := dk_42 (dk_at dksJ11_append_2_2 0 rfl rfl)
theorem dJ11_append_2_49 : decode cJ11_append_2 49 = .ok (.iload_n 3, 1) := dk_29 (dk_at dksJ11_append_2_2 1 rfl rfl)
theorem dJ11_append_2_50 : decode cJ11_append_2 50 = .ok (.putfield 79, 3) := dk_181 0 79 (dk_at dksJ11_append_2_2 2 rfl rfl)
theorem dJ11_append_2_53 : decode cJ11_append_2 53 = .ok (.aload_n 0, 1) := dk_42 (dk_at dksJ11_append_2_2 5 rfl rfl)
theorem dJ11_append_2_54 : decode cJ11_append_2 54 = .ok (.areturn, 1) := dk_176 (dk_at dksJ11_append_2_2 6 rfl rfl)
abbrev cJ11_getValue : ByteArray := prog_25_method_64_code
def yJ11_getValue : MethodName := ⟨RJ11, "getValue", "()[B"⟩
theorem dJ11_getValue_0 : decode cJ11_getValue 0 = .ok (.aload_n 0, 1) := by decide +kernel
theorem dJ11_getValue_1 : decode cJ11_getValue 1 = .ok (.getfield 15, 3) := by decide +kernel
theorem dJ11_getValue_4 : decode cJ11_getValue 4 = .ok (.areturn, 1) := by decide +kernel
abbrev cJ11_length : ByteArray := prog_25_method_6_code
def yJ11_length : MethodName := ⟨RJ11, "length", "()I"⟩
theorem dJ11_length_0 : decode cJ11_length 0 = .ok (.aload_n 0, 1) := by decide +kernel
theorem dJ11_length_1 : decode cJ11_length 1 = .ok (.getfield 79, 3) := by decide +kernel
theorem dJ11_length_4 : decode cJ11_length 4 = .ok (.ireturn, 1) := by decide +kernel
abbrev cJ11_append_3 : ByteArray := prog_25_method_31_code
def yJ11_append_3 : MethodName := ⟨RJ11, "append", "(C)Ljava/lang/AbstractStringBuilder;"⟩
def dkwJ11_append_3_3 : List UInt8 := [181, 0, 79, 27, 184, 0, 197, 42, 176]
abbrev dktJ11_append_3_3 : List UInt8 := dkwJ11_append_3_3 ++ []
def dkwJ11_append_3_2 : List UInt8 := [182, 0, 83, 153, 0, 7, 42, 182, 0, 195, 42, 180, 0, 15, 42, 89, 180, 0, 79, 90, 4, 96]
abbrev dktJ11_append_3_2 : List UInt8 := dkwJ11_append_3_2 ++ dktJ11_append_3_3
def dkwJ11_append_3_1 : List UInt8 := [42, 180, 0, 15, 42, 89, 180, 0, 79, 90, 4, 96, 181, 0, 79, 27, 145, 84, 167, 0, 33, 42]
abbrev dktJ11_append_3_1 : List UInt8 := dkwJ11_append_3_1 ++ dktJ11_append_3_2
def dkwJ11_append_3_0 : List UInt8 := [42, 42, 180, 0, 79, 4, 96, 182, 0, 100, 42, 182, 0, 83, 153, 0, 31, 27, 184, 0, 191, 153, 0, 24]
abbrev dktJ11_append_3_0 : List UInt8 := dkwJ11_append_3_0 ++ dktJ11_append_3_1
theorem dksJ11_append_3_0 : cJ11_append_3.data.toList.drop 0 = dktJ11_append_3_0 := by decide +kernel
theorem dksJ11_append_3_1 : cJ11_append_3.data.toList.drop 24 = dktJ11_append_3_1 := dk_seg dksJ11_append_3_0 24 rfl rfl
theorem dksJ11_append_3_2 : cJ11_append_3.data.toList.drop 46 = dktJ11_append_3_2 := dk_seg dksJ11_append_3_1 22 rfl rfl
theorem dksJ11_append_3_3 : cJ11_append_3.data.toList.drop 68 = dktJ11_append_3_3 := dk_seg dksJ11_append_3_2 22 rfl rfl
theorem dJ11_append_3_0 : decode cJ11_append_3 0 = .ok (.aload_n 0, 1) := dk_42 (dk_at dksJ11_append_3_0 0 rfl rfl)
theorem dJ11_append_3_1 : decode cJ11_append_3 1 = .ok (.aload_n 0, 1) := dk_42 (dk_at dksJ11_append_3_0 1 rfl rfl)
theorem dJ11_append_3_2 : decode cJ11_append_3 2 = .ok (.getfield 79, 3) := dk_180 0 79 (dk_at dksJ11_append_3_0 2 rfl rfl)
theorem dJ11_append_3_5 : decode cJ11_append_3 5 = .ok (.iconst 1, 1) := dk_4 (dk_at dksJ11_append_3_0 5 rfl rfl)
theorem dJ11_append_3_6 : decode cJ11_append_3 6 = .ok (.iadd, 1) := dk_96 (dk_at dksJ11_append_3_0 6 rfl rfl)
theorem dJ11_append_3_7 : decode cJ11_append_3 7 = .ok (.invokevirtual 100, 3) := dk_182 0 100 (dk_at dksJ11_append_3_0 7 rfl rfl)
theorem dJ11_append_3_10 : decode cJ11_append_3 10 = .ok (.aload_n 0, 1) := dk_42 (dk_at dksJ11_append_3_0 10 rfl rfl)
theorem dJ11_append_3_11 : decode cJ11_append_3 11 = .ok (.invokevirtual 83, 3) := dk_182 0 83 (dk_at dksJ11_append_3_0 11 rfl rfl)
theorem dJ11_append_3_14 : decode cJ11_append_3 14 = .ok (.ifCond .eq 31, 3) := dk_153 0 31 (dk_at dksJ11_append_3_0 14 rfl rfl)
theorem dJ11_append_3_17 : decode cJ11_append_3 17 = .ok (.iload_n 1, 1) := dk_27 (dk_at dksJ11_append_3_0 17 rfl rfl)
theorem dJ11_append_3_18 : decode cJ11_append_3 18 = .ok (.invokestatic 191, 3) := dk_184 0 191 (dk_at dksJ11_append_3_0 18 rfl rfl)
theorem dJ11_append_3_21 : decode cJ11_append_3 21 = .ok (.ifCond .eq 24, 3) := dk_153 0 24 (dk_at dksJ11_append_3_0 21 rfl rfl)
theorem dJ11_append_3_24 : decode cJ11_append_3 24 = .ok (.aload_n 0, 1) := dk_42 (dk_at dksJ11_append_3_1 0 rfl rfl)
theorem dJ11_append_3_25 : decode cJ11_append_3 25 = .ok (.getfield 15, 3) := dk_180 0 15 (dk_at dksJ11_append_3_1 1 rfl rfl)
theorem dJ11_append_3_28 : decode cJ11_append_3 28 = .ok (.aload_n 0, 1) := dk_42 (dk_at dksJ11_append_3_1 4 rfl rfl)
theorem dJ11_append_3_29 : decode cJ11_append_3 29 = .ok (.dup, 1) := dk_89 (dk_at dksJ11_append_3_1 5 rfl rfl)
theorem dJ11_append_3_30 : decode cJ11_append_3 30 = .ok (.getfield 79, 3) := dk_180 0 79 (dk_at dksJ11_append_3_1 6 rfl rfl)
theorem dJ11_append_3_33 : decode cJ11_append_3 33 = .ok (.dup_x1, 1) := dk_90 (dk_at dksJ11_append_3_1 9 rfl rfl)
theorem dJ11_append_3_34 : decode cJ11_append_3 34 = .ok (.iconst 1, 1) := dk_4 (dk_at dksJ11_append_3_1 10 rfl rfl)
theorem dJ11_append_3_35 : decode cJ11_append_3 35 = .ok (.iadd, 1) := dk_96 (dk_at dksJ11_append_3_1 11 rfl rfl)
theorem dJ11_append_3_36 : decode cJ11_append_3 36 = .ok (.putfield 79, 3) := dk_181 0 79 (dk_at dksJ11_append_3_1 12 rfl rfl)
theorem dJ11_append_3_39 : decode cJ11_append_3 39 = .ok (.iload_n 1, 1) := dk_27 (dk_at dksJ11_append_3_1 15 rfl rfl)
theorem dJ11_append_3_40 : decode cJ11_append_3 40 = .ok (.i2b, 1) := dk_145 (dk_at dksJ11_append_3_1 16 rfl rfl)
theorem dJ11_append_3_41 : decode cJ11_append_3 41 = .ok (.bastore, 1) := dk_84 (dk_at dksJ11_append_3_1 17 rfl rfl)
theorem dJ11_append_3_42 : decode cJ11_append_3 42 = .ok (.goto 33, 3) := dk_167 0 33 (dk_at dksJ11_append_3_1 18 rfl rfl)
theorem dJ11_append_3_45 : decode cJ11_append_3 45 = .ok (.aload_n 0, 1) := dk_42 (dk_at dksJ11_append_3_1 21 rfl rfl)
theorem dJ11_append_3_46 : decode cJ11_append_3 46 = .ok (.invokevirtual 83, 3) := dk_182 0 83 (dk_at dksJ11_append_3_2 0 rfl rfl)
theorem dJ11_append_3_49 : decode cJ11_append_3 49 = .ok (.ifCond .eq 7, 3) := dk_153 0 7 (dk_at dksJ11_append_3_2 3 rfl rfl)
theorem dJ11_append_3_52 : decode cJ11_append_3 52 = .ok (.aload_n 0, 1) := dk_42 (dk_at dksJ11_append_3_2 6 rfl rfl)
theorem dJ11_append_3_53 : decode cJ11_append_3 53 = .ok (.invokevirtual 195, 3) := dk_182 0 195 (dk_at dksJ11_append_3_2 7 rfl rfl)
theorem dJ11_append_3_56 : decode cJ11_append_3 56 = .ok (.aload_n 0, 1) := dk_42 (dk_at dksJ11_append_3_2 10 rfl rfl)
theorem dJ11_append_3_57 : decode cJ11_append_3 57 = .ok (.getfield 15, 3) := dk_180 0 15 (dk_at dksJ11_append_3_2 11 rfl rfl)
theorem dJ11_append_3_60 : decode cJ11_append_3 60 = .ok (.aload_n 0, 1) := dk_42 (dk_at dksJ11_append_3_2 14 rfl rfl)
theorem dJ11_append_3_61 : decode cJ11_append_3 61 = .ok (.dup, 1) := dk_89 (dk_at dksJ11_append_3_2 15 rfl rfl)
theorem dJ11_append_3_62 : decode cJ11_append_3 62 = .ok (.getfield 79, 3) := dk_180 0 79 (dk_at dksJ11_append_3_2 16 rfl rfl)
theorem dJ11_append_3_65 : decode cJ11_append_3 65 = .ok (.dup_x1, 1) := dk_90 (dk_at dksJ11_append_3_2 19 rfl rfl)
theorem dJ11_append_3_66 : decode cJ11_append_3 66 = .ok (.iconst 1, 1) := dk_4 (dk_at dksJ11_append_3_2 20 rfl rfl)
theorem dJ11_append_3_67 : decode cJ11_append_3 67 = .ok (.iadd, 1) := dk_96 (dk_at dksJ11_append_3_2 21 rfl rfl)
theorem dJ11_append_3_68 : decode cJ11_append_3 68 = .ok (.putfield 79, 3) := dk_181 0 79 (dk_at dksJ11_append_3_3 0 rfl rfl)
theorem dJ11_append_3_71 : decode cJ11_append_3 71 = .ok (.iload_n 1, 1) := dk_27 (dk_at dksJ11_append_3_3 3 rfl rfl)
theorem dJ11_append_3_72 : decode cJ11_append_3 72 = .ok (.invokestatic 197, 3) := dk_184 0 197 (dk_at dksJ11_append_3_3 4 rfl rfl)
theorem dJ11_append_3_75 : decode cJ11_append_3 75 = .ok (.aload_n 0, 1) := dk_42 (dk_at dksJ11_append_3_3 7 rfl rfl)
theorem dJ11_append_3_76 : decode cJ11_append_3 76 = .ok (.areturn, 1) := dk_176 (dk_at dksJ11_append_3_3 8 rfl rfl)
abbrev cJ11_charAt : ByteArray := prog_25_method_14_code
def yJ11_charAt : MethodName := ⟨RJ11, "charAt", "(I)C"⟩
def dkwJ11_charAt_1 : List UInt8 := [21, 4, 184, 0, 144, 28, 154, 0, 12, 45, 27, 51, 17, 0, 255, 126, 146, 172, 45, 27, 184, 0, 148, 172]
abbrev dktJ11_charAt_1 : List UInt8 := dkwJ11_charAt_1 ++ []
def dkwJ11_charAt_0 : List UInt8 := [42, 180, 0, 22, 61, 42, 180, 0, 15, 78, 42, 180, 0, 79, 45, 190, 28, 122, 184, 0, 138, 54, 4, 27]
abbrev dktJ11_charAt_0 : List UInt8 := dkwJ11_charAt_0 ++ dktJ11_charAt_1
theorem dksJ11_charAt_0 : cJ11_charAt.data.toList.drop 0 = dktJ11_charAt_0 := by decide +kernel
theorem dksJ11_charAt_1 : cJ11_charAt.data.toList.drop 24 = dktJ11_charAt_1 := dk_seg dksJ11_charAt_0 24 rfl rfl
theorem dJ11_charAt_0 : decode cJ11_charAt 0 = .ok (.aload_n 0, 1) := dk_42 (dk_at dksJ11_charAt_0 0 rfl rfl)
theorem dJ11_charAt_1 : decode cJ11_charAt 1 = .ok (.getfield 22, 3) := dk_180 0 22 (dk_at dksJ11_charAt_0 1 rfl rfl)
theorem dJ11_charAt_4 : decode cJ11_charAt 4 = .ok (.istore_n 2, 1) := dk_61 (dk_at dksJ11_charAt_0 4 rfl rfl)
theorem dJ11_charAt_5 : decode cJ11_charAt 5 = .ok (.aload_n 0, 1) := dk_42 (dk_at dksJ11_charAt_0 5 rfl rfl)
theorem dJ11_charAt_6 : decode cJ11_charAt 6 = .ok (.getfield 15, 3) := dk_180 0 15 (dk_at dksJ11_charAt_0 6 rfl rfl)
theorem dJ11_charAt_9 : decode cJ11_charAt 9 = .ok (.astore_n 3, 1) := dk_78 (dk_at dksJ11_charAt_0 9 rfl rfl)
theorem dJ11_charAt_10 : decode cJ11_charAt 10 = .ok (.aload_n 0, 1) := dk_42 (dk_at dksJ11_charAt_0 10 rfl rfl)
theorem dJ11_charAt_11 : decode cJ11_charAt 11 = .ok (.getfield 79, 3) := dk_180 0 79 (dk_at dksJ11_charAt_0 11 rfl rfl)
theorem dJ11_charAt_14 : decode cJ11_charAt 14 = .ok (.aload_n 3, 1) := dk_45 (dk_at dksJ11_charAt_0 14 rfl rfl)
theorem dJ11_charAt_15 : decode cJ11_charAt 15 = .ok (.arraylength, 1) := dk_190 (dk_at dksJ11_charAt_0 15 rfl rfl)
theorem dJ11_charAt_16 : decode cJ11_charAt 16 = .ok (.iload_n 2, 1) := dk_28 (dk_at dksJ11_charAt_0 16 rfl rfl)
theorem dJ11_charAt_17 : decode cJ11_charAt 17 = .ok (.ishr, 1) := dk_122 (dk_at dksJ11_charAt_0 17 rfl rfl)
theorem dJ11_charAt_18 : decode cJ11_charAt 18 = .ok (.invokestatic 138, 3) := dk_184 0 138 (dk_at dksJ11_charAt_0 18 rfl rfl)
theorem dJ11_charAt_21 : decode cJ11_charAt 21 = .ok (.istore 4, 2) := dk_54 4 (dk_at dksJ11_charAt_0 21 rfl rfl)
theorem dJ11_charAt_23 : decode cJ11_charAt 23 = .ok (.iload_n 1, 1) := dk_27 (dk_at dksJ11_charAt_0 23 rfl rfl)
theorem dJ11_charAt_24 : decode cJ11_charAt 24 = .ok (.iload 4, 2) := dk_21 4 (dk_at dksJ11_charAt_1 0 rfl rfl)
theorem dJ11_charAt_26 : decode cJ11_charAt 26 = .ok (.invokestatic 144, 3) := dk_184 0 144 (dk_at dksJ11_charAt_1 2 rfl rfl)
theorem dJ11_charAt_29 : decode cJ11_charAt 29 = .ok (.iload_n 2, 1) := dk_28 (dk_at dksJ11_charAt_1 5 rfl rfl)
theorem dJ11_charAt_30 : decode cJ11_charAt 30 = .ok (.ifCond .ne 12, 3) := dk_154 0 12 (dk_at dksJ11_charAt_1 6 rfl rfl)
theorem dJ11_charAt_33 : decode cJ11_charAt 33 = .ok (.aload_n 3, 1) := dk_45 (dk_at dksJ11_charAt_1 9 rfl rfl)
theorem dJ11_charAt_34 : decode cJ11_charAt 34 = .ok (.iload_n 1, 1) := dk_27 (dk_at dksJ11_charAt_1 10 rfl rfl)
theorem dJ11_charAt_35 : decode cJ11_charAt 35 = .ok (.baload, 1) := dk_51 (dk_at dksJ11_charAt_1 11 rfl rfl)
theorem dJ11_charAt_36 : decode cJ11_charAt 36 = .ok (.sipush 255, 3) := dk_17 0 255 (dk_at dksJ11_charAt_1 12 rfl rfl)
theorem dJ11_charAt_39 : decode cJ11_charAt 39 = .ok (.iand, 1) := dk_126 (dk_at dksJ11_charAt_1 15 rfl rfl)
theorem dJ11_charAt_40 : decode cJ11_charAt 40 = .ok (.i2c, 1) := dk_146 (dk_at dksJ11_charAt_1 16 rfl rfl)
theorem dJ11_charAt_41 : decode cJ11_charAt 41 = .ok (.ireturn, 1) := dk_172 (dk_at dksJ11_charAt_1 17 rfl rfl)
theorem dJ11_charAt_42 : decode cJ11_charAt 42 = .ok (.aload_n 3, 1) := dk_45 (dk_at dksJ11_charAt_1 18 rfl rfl)
theorem dJ11_charAt_43 : decode cJ11_charAt 43 = .ok (.iload_n 1, 1) := dk_27 (dk_at dksJ11_charAt_1 19 rfl rfl)
theorem dJ11_charAt_44 : decode cJ11_charAt 44 = .ok (.invokestatic 148, 3) := dk_184 0 148 (dk_at dksJ11_charAt_1 20 rfl rfl)
theorem dJ11_charAt_47 : decode cJ11_charAt 47 = .ok (.ireturn, 1) := dk_172 (dk_at dksJ11_charAt_1 23 rfl rfl)
theorem q166 : (Jvm.Cond.initialized "java/lang/AbstractStringBuilder") ∈ lw_all := lw_g (lw_at lw_m1 20 rfl) rfl
theorem q614 : (Jvm.Cond.instanceMethod ({ cls := "java/lang/AbstractStringBuilder", name := "<init>", desc := "(I)V" } : Jvm.MethodName)) ∈ lw_all := lw_g (lw_at lw_m2 228 rfl) rfl
theorem q615 : (Jvm.Cond.code ({ cls := "java/lang/AbstractStringBuilder", name := "<init>", desc := "(I)V" } : Jvm.MethodName) prog_25_method_2_code (2 : Nat) (Option.none : Option Jvm.ClassFile.FieldType)) ∈ lw_all := lw_g (lw_at lw_m2 229 rfl) rfl
theorem q616 : (Jvm.Cond.methodLink "java/lang/AbstractStringBuilder" (3 : Nat) ({ cls := "java/lang/Object", name := "<init>", desc := "()V" } : Jvm.MethodName)) ∈ lw_all := lw_g (lw_at lw_m2 230 rfl) rfl
theorem q617 : (Jvm.Cond.fieldLink "java/lang/AbstractStringBuilder" (18 : Nat) "java/lang/String" "COMPACT_STRINGS" "Z") ∈ lw_all := lw_g (lw_at lw_m2 231 rfl) rfl
theorem q619 : (Jvm.Cond.methodLink "java/lang/AbstractStringBuilder" (26 : Nat) ({ cls := "java/lang/StringUTF16", name := "newBytesFor", desc := "(I)[B" } : Jvm.MethodName)) ∈ lw_all := lw_g (lw_at lw_m2 233 rfl) rfl
theorem q626 : (Jvm.Cond.fieldLink "java/lang/AbstractStringBuilder" (15 : Nat) "java/lang/AbstractStringBuilder" "value" "[B") ∈ lw_all := lw_g (lw_at lw_m3 0 rfl) rfl
theorem q627 : (Jvm.Cond.fieldLink "java/lang/AbstractStringBuilder" (22 : Nat) "java/lang/AbstractStringBuilder" "coder" "B") ∈ lw_all := lw_g (lw_at lw_m3 1 rfl) rfl
theorem q629 : (Jvm.Cond.fieldLink "java/lang/AbstractStringBuilder" (79 : Nat) "java/lang/AbstractStringBuilder" "count" "I") ∈ lw_all := lw_g (lw_at lw_m3 3 rfl) rfl
theorem q631 : (Jvm.Cond.soleField "java/lang/AbstractStringBuilder" "value") ∈ lw_all := lw_g (lw_at lw_m3 5 rfl) rfl
theorem q633 : (Jvm.Cond.soleField "java/lang/AbstractStringBuilder" "coder") ∈ lw_all := lw_g (lw_at lw_m3 7 rfl) rfl
theorem q635 : (Jvm.Cond.soleField "java/lang/AbstractStringBuilder" "maybeLatin1") ∈ lw_all := lw_g (lw_at lw_m3 9 rfl) rfl
theorem q637 : (Jvm.Cond.soleField "java/lang/AbstractStringBuilder" "count") ∈ lw_all := lw_g (lw_at lw_m3 11 rfl) rfl
theorem q645 : (Jvm.Cond.instanceMethod ({ cls := "java/lang/AbstractStringBuilder", name := "append", desc := "(Ljava/lang/String;)Ljava/lang/AbstractStringBuilder;" } : Jvm.MethodName)) ∈ lw_all := lw_g (lw_at lw_m3 19 rfl) rfl
theorem q646 : (Jvm.Cond.code ({ cls := "java/lang/AbstractStringBuilder", name := "append", desc := "(Ljava/lang/String;)Ljava/lang/AbstractStringBuilder;" } : Jvm.MethodName) prog_25_method_22_code (3 : Nat) (Option.some (Jvm.ClassFile.FieldType.object "java/lang/AbstractStringBuilder"))) ∈ lw_all := lw_g (lw_at lw_m3 20 rfl) rfl
theorem q647 : (Jvm.Cond.methodLink "java/lang/AbstractStringBuilder" (204 : Nat) ({ cls := "java/lang/AbstractStringBuilder", name := "appendNull", desc := "()Ljava/lang/AbstractStringBuilder;" } : Jvm.MethodName)) ∈ lw_all := lw_g (lw_at lw_m3 21 rfl) rfl
theorem q648 : (Jvm.Cond.privateMethod ({ cls := "java/lang/AbstractStringBuilder", name := "appendNull", desc := "()Ljava/lang/AbstractStringBuilder;" } : Jvm.MethodName)) ∈ lw_tbl := lw_at lw_m3 22 rfl
theorem q649 : (Jvm.Cond.instanceMethod ({ cls := "java/lang/AbstractStringBuilder", name := "appendNull", desc := "()Ljava/lang/AbstractStringBuilder;" } : Jvm.MethodName)) ∈ lw_all := lw_g (lw_at lw_m3 23 rfl) rfl
theorem q650 : (Jvm.Cond.code ({ cls := "java/lang/AbstractStringBuilder", name := "appendNull", desc := "()Ljava/lang/AbstractStringBuilder;" } : Jvm.MethodName) prog_25_method_26_code (3 : Nat) (Option.some (Jvm.ClassFile.FieldType.object "java/lang/AbstractStringBuilder"))) ∈ lw_all := lw_g (lw_at lw_m3 24 rfl) rfl
theorem q651 : (Jvm.Cond.methodLink "java/lang/AbstractStringBuilder" (100 : Nat) ({ cls := "java/lang/AbstractStringBuilder", name := "ensureCapacityInternal", desc := "(I)V" } : Jvm.MethodName)) ∈ lw_all := lw_g (lw_at lw_m3 25 rfl) rfl
theorem q652 : (Jvm.Cond.privateMethod ({ cls := "java/lang/AbstractStringBuilder", name := "ensureCapacityInternal", desc := "(I)V" } : Jvm.MethodName)) ∈ lw_tbl := lw_at lw_m3 26 rfl
theorem q653 : (Jvm.Cond.instanceMethod ({ cls := "java/lang/AbstractStringBuilder", name := "ensureCapacityInternal", desc := "(I)V" } : Jvm.MethodName)) ∈ lw_all := lw_g (lw_at lw_m3 27 rfl) rfl
theorem q654 : (Jvm.Cond.code ({ cls := "java/lang/AbstractStringBuilder", name := "ensureCapacityInternal", desc := "(I)V" } : Jvm.MethodName) prog_25_method_9_code (3 : Nat) (Option.none : Option Jvm.ClassFile.FieldType)) ∈ lw_all := lw_g (lw_at lw_m3 28 rfl) rfl
theorem q655 : (Jvm.Cond.methodLink "java/lang/AbstractStringBuilder" (104 : Nat) ({ cls := "java/lang/AbstractStringBuilder", name := "newCapacity", desc := "(I)I" } : Jvm.MethodName)) ∈ lw_all := lw_g (lw_at lw_m3 29 rfl) rfl
theorem q656 : (Jvm.Cond.privateMethod ({ cls := "java/lang/AbstractStringBuilder", name := "newCapacity", desc := "(I)I" } : Jvm.MethodName)) ∈ lw_tbl := lw_at lw_m3 30 rfl
theorem q657 : (Jvm.Cond.instanceMethod ({ cls := "java/lang/AbstractStringBuilder", name := "newCapacity", desc := "(I)I" } : Jvm.MethodName)) ∈ lw_all := lw_g (lw_at lw_m3 31 rfl) rfl
theorem q658 : (Jvm.Cond.code ({ cls := "java/lang/AbstractStringBuilder", name := "newCapacity", desc := "(I)I" } : Jvm.MethodName) prog_25_method_10_code (6 : Nat) (Option.some Jvm.ClassFile.FieldType.int)) ∈ lw_all := lw_g (lw_at lw_m3 32 rfl) rfl
theorem q659 : (Jvm.Cond.methodLink "java/lang/AbstractStringBuilder" (114 : Nat) ({ cls := "jdk/internal/util/ArraysSupport", name := "newLength", desc := "(III)I" } : Jvm.MethodName)) ∈ lw_all := lw_g (lw_at lw_m3 33 rfl) rfl
theorem q669 : (Jvm.Cond.constant "java/lang/AbstractStringBuilder" (39 : Nat) (2147483647 : Int32)) ∈ lw_all := lw_g (lw_at lw_m3 43 rfl) rfl
theorem q670 : (Jvm.Cond.methodLink "java/lang/AbstractStringBuilder" (108 : Nat) ({ cls := "java/util/Arrays", name := "copyOf", desc := "([BI)[B" } : Jvm.MethodName)) ∈ lw_all := lw_g (lw_at lw_m3 44 rfl) rfl
theorem q686 : (Jvm.Cond.methodLink "java/lang/AbstractStringBuilder" (83 : Nat) ({ cls := "java/lang/AbstractStringBuilder", name := "isLatin1", desc := "()Z" } : Jvm.MethodName)) ∈ lw_all := lw_g (lw_at lw_m3 60 rfl) rfl
theorem q687 : (Jvm.Cond.instanceMethod ({ cls := "java/lang/AbstractStringBuilder", name := "isLatin1", desc := "()Z" } : Jvm.MethodName)) ∈ lw_all := lw_g (lw_at lw_m3 61 rfl) rfl
theorem q688 : (Jvm.Cond.sameMethod "java/lang/AbstractStringBuilder" "java/lang/AbstractStringBuilder" "isLatin1" "()Z") ∈ lw_all := lw_g (lw_at lw_m3 62 rfl) rfl
theorem q690 : (Jvm.Cond.code ({ cls := "java/lang/AbstractStringBuilder", name := "isLatin1", desc := "()Z" } : Jvm.MethodName) prog_25_method_68_code (1 : Nat) (Option.some Jvm.ClassFile.FieldType.boolean)) ∈ lw_all := lw_g (lw_at lw_m3 64 rfl) rfl
theorem q691 : (Jvm.Cond.methodLink "java/lang/AbstractStringBuilder" (226 : Nat) ({ cls := "java/lang/StringUTF16", name := "putCharsAt", desc := "([BICCCC)I" } : Jvm.MethodName)) ∈ lw_all := lw_g (lw_at lw_m3 65 rfl) rfl
theorem q717 : (Jvm.Cond.methodLink "java/lang/AbstractStringBuilder" (32 : Nat) ({ cls := "java/lang/String", name := "length", desc := "()I" } : Jvm.MethodName)) ∈ lw_all := lw_g (lw_at lw_m3 91 rfl) rfl
theorem q726 : (Jvm.Cond.methodLink "java/lang/AbstractStringBuilder" (208 : Nat) ({ cls := "java/lang/AbstractStringBuilder", name := "putStringAt", desc := "(ILjava/lang/String;)V" } : Jvm.MethodName)) ∈ lw_all := lw_g (lw_at lw_m3 100 rfl) rfl
theorem q727 : (Jvm.Cond.privateMethod ({ cls := "java/lang/AbstractStringBuilder", name := "putStringAt", desc := "(ILjava/lang/String;)V" } : Jvm.MethodName)) ∈ lw_tbl := lw_at lw_m3 101 rfl
theorem q728 : (Jvm.Cond.instanceMethod ({ cls := "java/lang/AbstractStringBuilder", name := "putStringAt", desc := "(ILjava/lang/String;)V" } : Jvm.MethodName)) ∈ lw_all := lw_g (lw_at lw_m3 102 rfl) rfl
theorem q729 : (Jvm.Cond.code ({ cls := "java/lang/AbstractStringBuilder", name := "putStringAt", desc := "(ILjava/lang/String;)V" } : Jvm.MethodName) prog_25_method_73_code (3 : Nat) (Option.none : Option Jvm.ClassFile.FieldType)) ∈ lw_all := lw_g (lw_at lw_m3 103 rfl) rfl
theorem q730 : (Jvm.Cond.methodLink "java/lang/AbstractStringBuilder" (397 : Nat) ({ cls := "java/lang/AbstractStringBuilder", name := "inflateIfNeededFor", desc := "(Ljava/lang/String;)V" } : Jvm.MethodName)) ∈ lw_all := lw_g (lw_at lw_m3 104 rfl) rfl
theorem q731 : (Jvm.Cond.privateMethod ({ cls := "java/lang/AbstractStringBuilder", name := "inflateIfNeededFor", desc := "(Ljava/lang/String;)V" } : Jvm.MethodName)) ∈ lw_tbl := lw_at lw_m3 105 rfl
theorem q732 : (Jvm.Cond.instanceMethod ({ cls := "java/lang/AbstractStringBuilder", name := "inflateIfNeededFor", desc := "(Ljava/lang/String;)V" } : Jvm.MethodName)) ∈ lw_all := lw_g (lw_at lw_m3 106 rfl) rfl
theorem q733 : (Jvm.Cond.code ({ cls := "java/lang/AbstractStringBuilder", name := "inflateIfNeededFor", desc := "(Ljava/lang/String;)V" } : Jvm.MethodName) prog_25_method_71_code (2 : Nat) (Option.none : Option Jvm.ClassFile.FieldType)) ∈ lw_all := lw_g (lw_at lw_m3 107 rfl) rfl
theorem q734 : (Jvm.Cond.methodLink "java/lang/AbstractStringBuilder" (40 : Nat) ({ cls := "java/lang/String", name := "coder", desc := "()B" } : Jvm.MethodName)) ∈ lw_all := lw_g (lw_at lw_m3 108 rfl) rfl
theorem q735 : (Jvm.Cond.methodLink "java/lang/AbstractStringBuilder" (195 : Nat) ({ cls := "java/lang/AbstractStringBuilder", name := "inflate", desc := "()V" } : Jvm.MethodName)) ∈ lw_all := lw_g (lw_at lw_m3 109 rfl) rfl
theorem q736 : (Jvm.Cond.privateMethod ({ cls := "java/lang/AbstractStringBuilder", name := "inflate", desc := "()V" } : Jvm.MethodName)) ∈ lw_tbl := lw_at lw_m3 110 rfl
theorem q737 : (Jvm.Cond.instanceMethod ({ cls := "java/lang/AbstractStringBuilder", name := "inflate", desc := "()V" } : Jvm.MethodName)) ∈ lw_all := lw_g (lw_at lw_m3 111 rfl) rfl
theorem q738 : (Jvm.Cond.code ({ cls := "java/lang/AbstractStringBuilder", name := "inflate", desc := "()V" } : Jvm.MethodName) prog_25_method_11_code (2 : Nat) (Option.none : Option Jvm.ClassFile.FieldType)) ∈ lw_all := lw_g (lw_at lw_m3 112 rfl) rfl
theorem q739 : (Jvm.Cond.methodLink "java/lang/AbstractStringBuilder" (125 : Nat) ({ cls := "java/lang/StringLatin1", name := "inflate", desc := "([BI[BII)V" } : Jvm.MethodName)) ∈ lw_all := lw_g (lw_at lw_m3 113 rfl) rfl
theorem q754 : (Jvm.Cond.methodLink "java/lang/AbstractStringBuilder" (399 : Nat) ({ cls := "java/lang/String", name := "getBytes", desc := "([BIB)V" } : Jvm.MethodName)) ∈ lw_all := lw_g (lw_at lw_m3 128 rfl) rfl
theorem q765 : (Jvm.Cond.instanceMethod ({ cls := "java/lang/AbstractStringBuilder", name := "append", desc := "(I)Ljava/lang/AbstractStringBuilder;" } : Jvm.MethodName)) ∈ lw_all := lw_g (lw_at lw_m3 139 rfl) rfl
theorem q766 : (Jvm.Cond.code ({ cls := "java/lang/AbstractStringBuilder", name := "append", desc := "(I)Ljava/lang/AbstractStringBuilder;" } : Jvm.MethodName) prog_25_method_32_code (4 : Nat) (Option.some (Jvm.ClassFile.FieldType.object "java/lang/AbstractStringBuilder"))) ∈ lw_all := lw_g (lw_at lw_m3 140 rfl) rfl
theorem q767 : (Jvm.Cond.methodLink "java/lang/AbstractStringBuilder" (245 : Nat) ({ cls := "java/lang/Integer", name := "stringSize", desc := "(I)I" } : Jvm.MethodName)) ∈ lw_all := lw_g (lw_at lw_m3 141 rfl) rfl
theorem q770 : (Jvm.Cond.methodLink "java/lang/AbstractStringBuilder" (248 : Nat) ({ cls := "java/lang/Integer", name := "getChars", desc := "(II[B)I" } : Jvm.MethodName)) ∈ lw_all := lw_g (lw_at lw_m3 144 rfl) rfl
theorem q777 : (Jvm.Cond.methodLink "java/lang/AbstractStringBuilder" (251 : Nat) ({ cls := "java/lang/StringUTF16", name := "getChars", desc := "(III[B)I" } : Jvm.MethodName)) ∈ lw_all := lw_g (lw_at lw_m3 151 rfl) rfl
theorem q798 : (Jvm.Cond.instanceMethod ({ cls := "java/lang/AbstractStringBuilder", name := "getValue", desc := "()[B" } : Jvm.MethodName)) ∈ lw_all := lw_g (lw_at lw_m3 172 rfl) rfl
theorem q799 : (Jvm.Cond.sameMethod "java/lang/AbstractStringBuilder" "java/lang/AbstractStringBuilder" "getValue" "()[B") ∈ lw_all := lw_g (lw_at lw_m3 173 rfl) rfl
theorem q801 : (Jvm.Cond.code ({ cls := "java/lang/AbstractStringBuilder", name := "getValue", desc := "()[B" } : Jvm.MethodName) prog_25_method_64_code (1 : Nat) (Option.some (Jvm.ClassFile.FieldType.array Jvm.ClassFile.FieldType.byte))) ∈ lw_all := lw_g (lw_at lw_m3 175 rfl) rfl
theorem q803 : (Jvm.Cond.instanceMethod ({ cls := "java/lang/AbstractStringBuilder", name := "length", desc := "()I" } : Jvm.MethodName)) ∈ lw_all := lw_g (lw_at lw_m3 177 rfl) rfl
theorem q804 : (Jvm.Cond.sameMethod "java/lang/AbstractStringBuilder" "java/lang/AbstractStringBuilder" "length" "()I") ∈ lw_all := lw_g (lw_at lw_m3 178 rfl) rfl
theorem q809 : (Jvm.Cond.code ({ cls := "java/lang/AbstractStringBuilder", name := "length", desc := "()I" } : Jvm.MethodName) prog_25_method_6_code (1 : Nat) (Option.some Jvm.ClassFile.FieldType.int)) ∈ lw_all := lw_g (lw_at lw_m3 183 rfl) rfl
theorem q950 : (Jvm.Cond.instanceMethod ({ cls := "java/lang/AbstractStringBuilder", name := "append", desc := "(C)Ljava/lang/AbstractStringBuilder;" } : Jvm.MethodName)) ∈ lw_all := lw_g (lw_at lw_m4 84 rfl) rfl
theorem q951 : (Jvm.Cond.code ({ cls := "java/lang/AbstractStringBuilder", name := "append", desc := "(C)Ljava/lang/AbstractStringBuilder;" } : Jvm.MethodName) prog_25_method_31_code (2 : Nat) (Option.some (Jvm.ClassFile.FieldType.object "java/lang/AbstractStringBuilder"))) ∈ lw_all := lw_g (lw_at lw_m4 85 rfl) rfl
theorem q952 : (Jvm.Cond.methodLink "java/lang/AbstractStringBuilder" (191 : Nat) ({ cls := "java/lang/StringLatin1", name := "canEncode", desc := "(C)Z" } : Jvm.MethodName)) ∈ lw_all := lw_g (lw_at lw_m4 86 rfl) rfl
theorem q955 : (Jvm.Cond.methodLink "java/lang/AbstractStringBuilder" (197 : Nat) ({ cls := "java/lang/StringUTF16", name := "putCharSB", desc := "([BII)V" } : Jvm.MethodName)) ∈ lw_all := lw_g (lw_at lw_m4 89 rfl) rfl
theorem q2009 : (Jvm.Cond.instanceMethod ({ cls := "java/lang/AbstractStringBuilder", name := "charAt", desc := "(I)C" } : Jvm.MethodName)) ∈ lw_all := lw_g (lw_at lw_m8 183 rfl) rfl
theorem q2010 : (Jvm.Cond.code ({ cls := "java/lang/AbstractStringBuilder", name := "charAt", desc := "(I)C" } : Jvm.MethodName) prog_25_method_14_code (5 : Nat) (Option.some Jvm.ClassFile.FieldType.char)) ∈ lw_all := lw_g (lw_at lw_m8 184 rfl) rfl
theorem q2011 : (Jvm.Cond.methodLink "java/lang/AbstractStringBuilder" (138 : Nat) ({ cls := "java/lang/Math", name := "min", desc := "(II)I" } : Jvm.MethodName)) ∈ lw_all := lw_g (lw_at lw_m8 185 rfl) rfl
theorem q2012 : (Jvm.Cond.methodLink "java/lang/AbstractStringBuilder" (144 : Nat) ({ cls := "java/lang/String", name := "checkIndex", desc := "(II)V" } : Jvm.MethodName)) ∈ lw_all := lw_g (lw_at lw_m8 186 rfl) rfl
theorem q2013 : (Jvm.Cond.methodLink "java/lang/AbstractStringBuilder" (148 : Nat) ({ cls := "java/lang/StringUTF16", name := "getChar", desc := "([BI)C" } : Jvm.MethodName)) ∈ lw_all := lw_g (lw_at lw_m8 187 rfl) rfl
theorem q2870 : (Jvm.Cond.sameMethod "java/lang/AbstractStringBuilder" "java/lang/AbstractStringBuilder" "append" "(Ljava/lang/String;)Ljava/lang/AbstractStringBuilder;") ∈ lw_all := lw_g (lw_at lw_m12 84 rfl) rfl
theorem q2871 : (Jvm.Cond.sameMethod "java/lang/AbstractStringBuilder" "java/lang/AbstractStringBuilder" "appendNull" "()Ljava/lang/AbstractStringBuilder;") ∈ lw_all := lw_g (lw_at lw_m12 85 rfl) rfl
theorem q2872 : (Jvm.Cond.sameMethod "java/lang/AbstractStringBuilder" "java/lang/AbstractStringBuilder" "ensureCapacityInternal" "(I)V") ∈ lw_all := lw_g (lw_at lw_m12 86 rfl) rfl
theorem q2873 : (Jvm.Cond.sameMethod "java/lang/AbstractStringBuilder" "java/lang/AbstractStringBuilder" "newCapacity" "(I)I") ∈ lw_all := lw_g (lw_at lw_m12 87 rfl) rfl
theorem q2874 : (Jvm.Cond.sameMethod "java/lang/AbstractStringBuilder" "java/lang/AbstractStringBuilder" "putStringAt" "(ILjava/lang/String;)V") ∈ lw_all := lw_g (lw_at lw_m12 88 rfl) rfl
theorem q2875 : (Jvm.Cond.sameMethod "java/lang/AbstractStringBuilder" "java/lang/AbstractStringBuilder" "inflateIfNeededFor" "(Ljava/lang/String;)V") ∈ lw_all := lw_g (lw_at lw_m12 89 rfl) rfl
theorem q2876 : (Jvm.Cond.sameMethod "java/lang/AbstractStringBuilder" "java/lang/AbstractStringBuilder" "inflate" "()V") ∈ lw_all := lw_g (lw_at lw_m12 90 rfl) rfl
theorem q2877 : (Jvm.Cond.sameMethod "java/lang/AbstractStringBuilder" "java/lang/AbstractStringBuilder" "append" "(I)Ljava/lang/AbstractStringBuilder;") ∈ lw_all := lw_g (lw_at lw_m12 91 rfl) rfl
theorem q2878 : (Jvm.Cond.sameMethod "java/lang/AbstractStringBuilder" "java/lang/AbstractStringBuilder" "append" "(C)Ljava/lang/AbstractStringBuilder;") ∈ lw_all := lw_g (lw_at lw_m12 92 rfl) rfl
theorem q2880 : (Jvm.Cond.sameMethod "java/lang/AbstractStringBuilder" "java/lang/AbstractStringBuilder" "charAt" "(I)C") ∈ lw_all := lw_g (lw_at lw_m12 94 rfl) rfl

/-! java/lang/StringBuilder -/
set_option maxRecDepth 100000
def RJ12 : String := "java/lang/StringBuilder"
def TJ12 : u_T := fun k => match k with
  | 0 => ("java/lang/AbstractStringBuilder", "value", "[B", false)
  | 1 => ("java/lang/AbstractStringBuilder", "coder", "B", false)
  | 2 => ("java/lang/AbstractStringBuilder", "maybeLatin1", "Z", false)
  | _ => ("java/lang/AbstractStringBuilder", "count", "I", false)
def tyJ12 : Nat → FieldType := fun k => match k with
  | 0 => .array .byte
  | 1 => .byte
  | 2 => .boolean
  | _ => .int
abbrev wsJ120 : List Cond := u_ws RJ12 TJ12 4
theorem nmJ12 : ∀ a, a < 4 → ∀ b, b < 4 → a ≠ b → (TJ12 a).2.1 ≠ (TJ12 b).2.1 := by decide +kernel
theorem tyJ12_ok : ∀ k, k < 4 → parseFieldDescriptor (TJ12 k).2.2.1 = some (tyJ12 k) := by decide +kernel
abbrev cJ12_init : ByteArray := prog_42_method_1_code
def yJ12_init : MethodName := ⟨RJ12, "<init>", "()V"⟩
def dkwJ12_init_0 : List UInt8 := [42, 16, 16, 183, 0, 1, 177]
abbrev dktJ12_init_0 : List UInt8 := dkwJ12_init_0 ++ []
theorem dksJ12_init_0 : cJ12_init.data.toList.drop 0 = dktJ12_init_0 := by decide +kernel
theorem dJ12_init_0 : decode cJ12_init 0 = .ok (.aload_n 0, 1) := dk_42 (dk_at dksJ12_init_0 0 rfl rfl)
theorem dJ12_init_1 : decode cJ12_init 1 = .ok (.bipush 16, 2) := dk_16 16 (dk_at dksJ12_init_0 1 rfl rfl)
theorem dJ12_init_3 : decode cJ12_init 3 = .ok (.invokespecial 1, 3) := dk_183 0 1 (dk_at dksJ12_init_0 3 rfl rfl)
theorem dJ12_init_6 : decode cJ12_init 6 = .ok (.return_, 1) := dk_177 (dk_at dksJ12_init_0 6 rfl rfl)
abbrev cJ12_append : ByteArray := prog_42_method_7_code
def yJ12_append : MethodName := ⟨RJ12, "append", "(Ljava/lang/String;)Ljava/lang/StringBuilder;"⟩
def dkwJ12_append_0 : List UInt8 := [42, 43, 183, 0, 29, 87, 42, 176]
abbrev dktJ12_append_0 : List UInt8 := dkwJ12_append_0 ++ []
theorem dksJ12_append_0 : cJ12_append.data.toList.drop 0 = dktJ12_append_0 := by decide +kernel
theorem dJ12_append_0 : decode cJ12_append 0 = .ok (.aload_n 0, 1) := dk_42 (dk_at dksJ12_append_0 0 rfl rfl)
theorem dJ12_append_1 : decode cJ12_append 1 = .ok (.aload_n 1, 1) := dk_43 (dk_at dksJ12_append_0 1 rfl rfl)
theorem dJ12_append_2 : decode cJ12_append 2 = .ok (.invokespecial 29, 3) := dk_183 0 29 (dk_at dksJ12_append_0 2 rfl rfl)
theorem dJ12_append_5 : decode cJ12_append 5 = .ok (.pop, 1) := dk_87 (dk_at dksJ12_append_0 5 rfl rfl)
theorem dJ12_append_6 : decode cJ12_append 6 = .ok (.aload_n 0, 1) := dk_42 (dk_at dksJ12_append_0 6 rfl rfl)
theorem dJ12_append_7 : decode cJ12_append 7 = .ok (.areturn, 1) := dk_176 (dk_at dksJ12_append_0 7 rfl rfl)
abbrev cJ12_append_2 : ByteArray := prog_42_method_15_code
def yJ12_append_2 : MethodName := ⟨RJ12, "append", "(I)Ljava/lang/StringBuilder;"⟩
def dkwJ12_append_2_0 : List UInt8 := [42, 27, 183, 0, 53, 87, 42, 176]
abbrev dktJ12_append_2_0 : List UInt8 := dkwJ12_append_2_0 ++ []
theorem dksJ12_append_2_0 : cJ12_append_2.data.toList.drop 0 = dktJ12_append_2_0 := by decide +kernel
theorem dJ12_append_2_0 : decode cJ12_append_2 0 = .ok (.aload_n 0, 1) := dk_42 (dk_at dksJ12_append_2_0 0 rfl rfl)
theorem dJ12_append_2_1 : decode cJ12_append_2 1 = .ok (.iload_n 1, 1) := dk_27 (dk_at dksJ12_append_2_0 1 rfl rfl)
theorem dJ12_append_2_2 : decode cJ12_append_2 2 = .ok (.invokespecial 53, 3) := dk_183 0 53 (dk_at dksJ12_append_2_0 2 rfl rfl)
theorem dJ12_append_2_5 : decode cJ12_append_2 5 = .ok (.pop, 1) := dk_87 (dk_at dksJ12_append_2_0 5 rfl rfl)
theorem dJ12_append_2_6 : decode cJ12_append_2 6 = .ok (.aload_n 0, 1) := dk_42 (dk_at dksJ12_append_2_0 6 rfl rfl)
theorem dJ12_append_2_7 : decode cJ12_append_2 7 = .ok (.areturn, 1) := dk_176 (dk_at dksJ12_append_2_0 7 rfl rfl)
abbrev cJ12_toString : ByteArray := prog_42_method_42_code
def yJ12_toString : MethodName := ⟨RJ12, "toString", "()Ljava/lang/String;"⟩
def dkwJ12_toString_0 : List UInt8 := [187, 0, 18, 89, 42, 183, 0, 137, 176]
abbrev dktJ12_toString_0 : List UInt8 := dkwJ12_toString_0 ++ []
theorem dksJ12_toString_0 : cJ12_toString.data.toList.drop 0 = dktJ12_toString_0 := by decide +kernel
theorem dJ12_toString_0 : decode cJ12_toString 0 = .ok (.new 18, 3) := dk_187 0 18 (dk_at dksJ12_toString_0 0 rfl rfl)
theorem dJ12_toString_3 : decode cJ12_toString 3 = .ok (.dup, 1) := dk_89 (dk_at dksJ12_toString_0 3 rfl rfl)
theorem dJ12_toString_4 : decode cJ12_toString 4 = .ok (.aload_n 0, 1) := dk_42 (dk_at dksJ12_toString_0 4 rfl rfl)
theorem dJ12_toString_5 : decode cJ12_toString 5 = .ok (.invokespecial 137, 3) := dk_183 0 137 (dk_at dksJ12_toString_0 5 rfl rfl)
theorem dJ12_toString_8 : decode cJ12_toString 8 = .ok (.areturn, 1) := dk_176 (dk_at dksJ12_toString_0 8 rfl rfl)
abbrev cJ12_length : ByteArray := prog_42_method_93_code
def yJ12_length : MethodName := ⟨RJ12, "length", "()I"⟩
theorem dJ12_length_0 : decode cJ12_length 0 = .ok (.aload_n 0, 1) := by decide +kernel
theorem dJ12_length_1 : decode cJ12_length 1 = .ok (.invokespecial 343, 3) := by decide +kernel
theorem dJ12_length_4 : decode cJ12_length 4 = .ok (.ireturn, 1) := by decide +kernel
abbrev cJ12_init_2 : ByteArray := prog_42_method_2_code
def yJ12_init_2 : MethodName := ⟨RJ12, "<init>", "(I)V"⟩
def dkwJ12_init_2_0 : List UInt8 := [42, 27, 183, 0, 1, 177]
abbrev dktJ12_init_2_0 : List UInt8 := dkwJ12_init_2_0 ++ []
theorem dksJ12_init_2_0 : cJ12_init_2.data.toList.drop 0 = dktJ12_init_2_0 := by decide +kernel
theorem dJ12_init_2_0 : decode cJ12_init_2 0 = .ok (.aload_n 0, 1) := dk_42 (dk_at dksJ12_init_2_0 0 rfl rfl)
theorem dJ12_init_2_1 : decode cJ12_init_2 1 = .ok (.iload_n 1, 1) := dk_27 (dk_at dksJ12_init_2_0 1 rfl rfl)
theorem dJ12_init_2_2 : decode cJ12_init_2 2 = .ok (.invokespecial 1, 3) := dk_183 0 1 (dk_at dksJ12_init_2_0 2 rfl rfl)
theorem dJ12_init_2_5 : decode cJ12_init_2 5 = .ok (.return_, 1) := dk_177 (dk_at dksJ12_init_2_0 5 rfl rfl)
abbrev cJ12_append_3 : ByteArray := prog_42_method_14_code
def yJ12_append_3 : MethodName := ⟨RJ12, "append", "(C)Ljava/lang/StringBuilder;"⟩
def dkwJ12_append_3_0 : List UInt8 := [42, 27, 183, 0, 50, 87, 42, 176]
abbrev dktJ12_append_3_0 : List UInt8 := dkwJ12_append_3_0 ++ []
theorem dksJ12_append_3_0 : cJ12_append_3.data.toList.drop 0 = dktJ12_append_3_0 := by decide +kernel
theorem dJ12_append_3_0 : decode cJ12_append_3 0 = .ok (.aload_n 0, 1) := dk_42 (dk_at dksJ12_append_3_0 0 rfl rfl)
theorem dJ12_append_3_1 : decode cJ12_append_3 1 = .ok (.iload_n 1, 1) := dk_27 (dk_at dksJ12_append_3_0 1 rfl rfl)
theorem dJ12_append_3_2 : decode cJ12_append_3 2 = .ok (.invokespecial 50, 3) := dk_183 0 50 (dk_at dksJ12_append_3_0 2 rfl rfl)
theorem dJ12_append_3_5 : decode cJ12_append_3 5 = .ok (.pop, 1) := dk_87 (dk_at dksJ12_append_3_0 5 rfl rfl)
theorem dJ12_append_3_6 : decode cJ12_append_3 6 = .ok (.aload_n 0, 1) := dk_42 (dk_at dksJ12_append_3_0 6 rfl rfl)
theorem dJ12_append_3_7 : decode cJ12_append_3 7 = .ok (.areturn, 1) := dk_176 (dk_at dksJ12_append_3_0 7 rfl rfl)
abbrev cJ12_charAt : ByteArray := prog_42_method_88_code
def yJ12_charAt : MethodName := ⟨RJ12, "charAt", "(I)C"⟩
def dkwJ12_charAt_0 : List UInt8 := [42, 27, 183, 1, 73, 172]
abbrev dktJ12_charAt_0 : List UInt8 := dkwJ12_charAt_0 ++ []
theorem dksJ12_charAt_0 : cJ12_charAt.data.toList.drop 0 = dktJ12_charAt_0 := by decide +kernel
theorem dJ12_charAt_0 : decode cJ12_charAt 0 = .ok (.aload_n 0, 1) := dk_42 (dk_at dksJ12_charAt_0 0 rfl rfl)
theorem dJ12_charAt_1 : decode cJ12_charAt 1 = .ok (.iload_n 1, 1) := dk_27 (dk_at dksJ12_charAt_0 1 rfl rfl)
theorem dJ12_charAt_2 : decode cJ12_charAt 2 = .ok (.invokespecial 329, 3) := dk_183 1 73 (dk_at dksJ12_charAt_0 2 rfl rfl)
theorem dJ12_charAt_5 : decode cJ12_charAt 5 = .ok (.ireturn, 1) := dk_172 (dk_at dksJ12_charAt_0 5 rfl rfl)
theorem q167 : (Jvm.Cond.initialized "java/lang/StringBuilder") ∈ lw_all := lw_g (lw_at lw_m1 21 rfl) rfl
theorem q609 : (Jvm.Cond.instantiable "java/lang/StringBuilder" (4 : Nat)) ∈ lw_all := lw_g (lw_at lw_m2 223 rfl) rfl
theorem q611 : (Jvm.Cond.instanceMethod ({ cls := "java/lang/StringBuilder", name := "<init>", desc := "()V" } : Jvm.MethodName)) ∈ lw_all := lw_g (lw_at lw_m2 225 rfl) rfl
theorem q612 : (Jvm.Cond.code ({ cls := "java/lang/StringBuilder", name := "<init>", desc := "()V" } : Jvm.MethodName) prog_42_method_1_code (1 : Nat) (Option.none : Option Jvm.ClassFile.FieldType)) ∈ lw_all := lw_g (lw_at lw_m2 226 rfl) rfl
theorem q613 : (Jvm.Cond.methodLink "java/lang/StringBuilder" (1 : Nat) ({ cls := "java/lang/AbstractStringBuilder", name := "<init>", desc := "(I)V" } : Jvm.MethodName)) ∈ lw_all := lw_g (lw_at lw_m2 227 rfl) rfl
theorem q630 : (Jvm.Cond.lays "java/lang/StringBuilder" "java/lang/AbstractStringBuilder" "value" "[B") ∈ lw_all := lw_g (lw_at lw_m3 4 rfl) rfl
theorem q632 : (Jvm.Cond.lays "java/lang/StringBuilder" "java/lang/AbstractStringBuilder" "coder" "B") ∈ lw_all := lw_g (lw_at lw_m3 6 rfl) rfl
theorem q634 : (Jvm.Cond.lays "java/lang/StringBuilder" "java/lang/AbstractStringBuilder" "maybeLatin1" "Z") ∈ lw_all := lw_g (lw_at lw_m3 8 rfl) rfl
theorem q636 : (Jvm.Cond.lays "java/lang/StringBuilder" "java/lang/AbstractStringBuilder" "count" "I") ∈ lw_all := lw_g (lw_at lw_m3 10 rfl) rfl
theorem q638 : (Jvm.Cond.superclass "java/lang/StringBuilder" "java/lang/AbstractStringBuilder") ∈ lw_all := lw_g (lw_at lw_m3 12 rfl) rfl
theorem q641 : (Jvm.Cond.instanceMethod ({ cls := "java/lang/StringBuilder", name := "append", desc := "(Ljava/lang/String;)Ljava/lang/StringBuilder;" } : Jvm.MethodName)) ∈ lw_all := lw_g (lw_at lw_m3 15 rfl) rfl
theorem q642 : (Jvm.Cond.selects "java/lang/StringBuilder" ({ cls := "java/lang/StringBuilder", name := "append", desc := "(Ljava/lang/String;)Ljava/lang/StringBuilder;" } : Jvm.MethodName) ({ cls := "java/lang/StringBuilder", name := "append", desc := "(Ljava/lang/String;)Ljava/lang/StringBuilder;" } : Jvm.MethodName)) ∈ lw_all := lw_g (lw_at lw_m3 16 rfl) rfl
theorem q643 : (Jvm.Cond.code ({ cls := "java/lang/StringBuilder", name := "append", desc := "(Ljava/lang/String;)Ljava/lang/StringBuilder;" } : Jvm.MethodName) prog_42_method_7_code (2 : Nat) (Option.some (Jvm.ClassFile.FieldType.object "java/lang/StringBuilder"))) ∈ lw_all := lw_g (lw_at lw_m3 17 rfl) rfl
theorem q644 : (Jvm.Cond.methodLink "java/lang/StringBuilder" (29 : Nat) ({ cls := "java/lang/AbstractStringBuilder", name := "append", desc := "(Ljava/lang/String;)Ljava/lang/AbstractStringBuilder;" } : Jvm.MethodName)) ∈ lw_all := lw_g (lw_at lw_m3 18 rfl) rfl
theorem q689 : (Jvm.Cond.selects "java/lang/StringBuilder" ({ cls := "java/lang/AbstractStringBuilder", name := "isLatin1", desc := "()Z" } : Jvm.MethodName) ({ cls := "java/lang/AbstractStringBuilder", name := "isLatin1", desc := "()Z" } : Jvm.MethodName)) ∈ lw_all := lw_g (lw_at lw_m3 63 rfl) rfl
theorem q761 : (Jvm.Cond.instanceMethod ({ cls := "java/lang/StringBuilder", name := "append", desc := "(I)Ljava/lang/StringBuilder;" } : Jvm.MethodName)) ∈ lw_all := lw_g (lw_at lw_m3 135 rfl) rfl
theorem q762 : (Jvm.Cond.selects "java/lang/StringBuilder" ({ cls := "java/lang/StringBuilder", name := "append", desc := "(I)Ljava/lang/StringBuilder;" } : Jvm.MethodName) ({ cls := "java/lang/StringBuilder", name := "append", desc := "(I)Ljava/lang/StringBuilder;" } : Jvm.MethodName)) ∈ lw_all := lw_g (lw_at lw_m3 136 rfl) rfl
theorem q763 : (Jvm.Cond.code ({ cls := "java/lang/StringBuilder", name := "append", desc := "(I)Ljava/lang/StringBuilder;" } : Jvm.MethodName) prog_42_method_15_code (2 : Nat) (Option.some (Jvm.ClassFile.FieldType.object "java/lang/StringBuilder"))) ∈ lw_all := lw_g (lw_at lw_m3 137 rfl) rfl
theorem q764 : (Jvm.Cond.methodLink "java/lang/StringBuilder" (53 : Nat) ({ cls := "java/lang/AbstractStringBuilder", name := "append", desc := "(I)Ljava/lang/AbstractStringBuilder;" } : Jvm.MethodName)) ∈ lw_all := lw_g (lw_at lw_m3 138 rfl) rfl
theorem q786 : (Jvm.Cond.instanceMethod ({ cls := "java/lang/StringBuilder", name := "toString", desc := "()Ljava/lang/String;" } : Jvm.MethodName)) ∈ lw_all := lw_g (lw_at lw_m3 160 rfl) rfl
theorem q787 : (Jvm.Cond.selects "java/lang/StringBuilder" ({ cls := "java/lang/StringBuilder", name := "toString", desc := "()Ljava/lang/String;" } : Jvm.MethodName) ({ cls := "java/lang/StringBuilder", name := "toString", desc := "()Ljava/lang/String;" } : Jvm.MethodName)) ∈ lw_all := lw_g (lw_at lw_m3 161 rfl) rfl
theorem q788 : (Jvm.Cond.code ({ cls := "java/lang/StringBuilder", name := "toString", desc := "()Ljava/lang/String;" } : Jvm.MethodName) prog_42_method_42_code (1 : Nat) (Option.some (Jvm.ClassFile.FieldType.object "java/lang/String"))) ∈ lw_all := lw_g (lw_at lw_m3 162 rfl) rfl
theorem q789 : (Jvm.Cond.classLink "java/lang/StringBuilder" (18 : Nat) "java/lang/String") ∈ lw_all := lw_g (lw_at lw_m3 163 rfl) rfl
theorem q790 : (Jvm.Cond.methodLink "java/lang/StringBuilder" (137 : Nat) ({ cls := "java/lang/String", name := "<init>", desc := "(Ljava/lang/StringBuilder;)V" } : Jvm.MethodName)) ∈ lw_all := lw_g (lw_at lw_m3 164 rfl) rfl
theorem q800 : (Jvm.Cond.selects "java/lang/StringBuilder" ({ cls := "java/lang/AbstractStringBuilder", name := "getValue", desc := "()[B" } : Jvm.MethodName) ({ cls := "java/lang/AbstractStringBuilder", name := "getValue", desc := "()[B" } : Jvm.MethodName)) ∈ lw_all := lw_g (lw_at lw_m3 174 rfl) rfl
theorem q805 : (Jvm.Cond.selects "java/lang/StringBuilder" ({ cls := "java/lang/AbstractStringBuilder", name := "length", desc := "()I" } : Jvm.MethodName) ({ cls := "java/lang/StringBuilder", name := "length", desc := "()I" } : Jvm.MethodName)) ∈ lw_all := lw_g (lw_at lw_m3 179 rfl) rfl
theorem q806 : (Jvm.Cond.instanceMethod ({ cls := "java/lang/StringBuilder", name := "length", desc := "()I" } : Jvm.MethodName)) ∈ lw_all := lw_g (lw_at lw_m3 180 rfl) rfl
theorem q807 : (Jvm.Cond.code ({ cls := "java/lang/StringBuilder", name := "length", desc := "()I" } : Jvm.MethodName) prog_42_method_93_code (1 : Nat) (Option.some Jvm.ClassFile.FieldType.int)) ∈ lw_all := lw_g (lw_at lw_m3 181 rfl) rfl
theorem q808 : (Jvm.Cond.methodLink "java/lang/StringBuilder" (343 : Nat) ({ cls := "java/lang/AbstractStringBuilder", name := "length", desc := "()I" } : Jvm.MethodName)) ∈ lw_all := lw_g (lw_at lw_m3 182 rfl) rfl
theorem q943 : (Jvm.Cond.instanceMethod ({ cls := "java/lang/StringBuilder", name := "<init>", desc := "(I)V" } : Jvm.MethodName)) ∈ lw_all := lw_g (lw_at lw_m4 77 rfl) rfl
theorem q944 : (Jvm.Cond.code ({ cls := "java/lang/StringBuilder", name := "<init>", desc := "(I)V" } : Jvm.MethodName) prog_42_method_2_code (2 : Nat) (Option.none : Option Jvm.ClassFile.FieldType)) ∈ lw_all := lw_g (lw_at lw_m4 78 rfl) rfl
theorem q946 : (Jvm.Cond.instanceMethod ({ cls := "java/lang/StringBuilder", name := "append", desc := "(C)Ljava/lang/StringBuilder;" } : Jvm.MethodName)) ∈ lw_all := lw_g (lw_at lw_m4 80 rfl) rfl
theorem q947 : (Jvm.Cond.selects "java/lang/StringBuilder" ({ cls := "java/lang/StringBuilder", name := "append", desc := "(C)Ljava/lang/StringBuilder;" } : Jvm.MethodName) ({ cls := "java/lang/StringBuilder", name := "append", desc := "(C)Ljava/lang/StringBuilder;" } : Jvm.MethodName)) ∈ lw_all := lw_g (lw_at lw_m4 81 rfl) rfl
theorem q948 : (Jvm.Cond.code ({ cls := "java/lang/StringBuilder", name := "append", desc := "(C)Ljava/lang/StringBuilder;" } : Jvm.MethodName) prog_42_method_14_code (2 : Nat) (Option.some (Jvm.ClassFile.FieldType.object "java/lang/StringBuilder"))) ∈ lw_all := lw_g (lw_at lw_m4 82 rfl) rfl
theorem q949 : (Jvm.Cond.methodLink "java/lang/StringBuilder" (50 : Nat) ({ cls := "java/lang/AbstractStringBuilder", name := "append", desc := "(C)Ljava/lang/AbstractStringBuilder;" } : Jvm.MethodName)) ∈ lw_all := lw_g (lw_at lw_m4 83 rfl) rfl
theorem q1204 : (Jvm.Cond.selects "java/lang/StringBuilder" ({ cls := "java/lang/Object", name := "getClass", desc := "()Ljava/lang/Class;" } : Jvm.MethodName) ({ cls := "java/lang/Object", name := "getClass", desc := "()Ljava/lang/Class;" } : Jvm.MethodName)) ∈ lw_all := lw_g (lw_at lw_m5 98 rfl) rfl
theorem q2005 : (Jvm.Cond.instanceMethod ({ cls := "java/lang/StringBuilder", name := "charAt", desc := "(I)C" } : Jvm.MethodName)) ∈ lw_all := lw_g (lw_at lw_m8 179 rfl) rfl
theorem q2006 : (Jvm.Cond.selects "java/lang/StringBuilder" ({ cls := "java/lang/StringBuilder", name := "charAt", desc := "(I)C" } : Jvm.MethodName) ({ cls := "java/lang/StringBuilder", name := "charAt", desc := "(I)C" } : Jvm.MethodName)) ∈ lw_all := lw_g (lw_at lw_m8 180 rfl) rfl
theorem q2007 : (Jvm.Cond.code ({ cls := "java/lang/StringBuilder", name := "charAt", desc := "(I)C" } : Jvm.MethodName) prog_42_method_88_code (2 : Nat) (Option.some Jvm.ClassFile.FieldType.char)) ∈ lw_all := lw_g (lw_at lw_m8 181 rfl) rfl
theorem q2008 : (Jvm.Cond.methodLink "java/lang/StringBuilder" (329 : Nat) ({ cls := "java/lang/AbstractStringBuilder", name := "charAt", desc := "(I)C" } : Jvm.MethodName)) ∈ lw_all := lw_g (lw_at lw_m8 182 rfl) rfl
theorem q2879 : (Jvm.Cond.selects "java/lang/StringBuilder" ({ cls := "java/lang/StringBuilder", name := "length", desc := "()I" } : Jvm.MethodName) ({ cls := "java/lang/StringBuilder", name := "length", desc := "()I" } : Jvm.MethodName)) ∈ lw_all := lw_g (lw_at lw_m12 93 rfl) rfl
theorem q2902 : (Jvm.Cond.castable "java/lang/StringBuilder" "java/lang/Object") ∈ lw_tbl := lw_at lw_m12 116 rfl
theorem in_J12 : ∀ w ∈ wsJ120, w ∈ lw_all := lw_in wsJ120 [630, 632, 634, 636] (by decide +kernel) (by decide +kernel)

/-! java/lang/StringUTF16 -/
set_option maxRecDepth 100000
def RJ13 : String := "java/lang/StringUTF16"
abbrev cJ13_newBytesFor : ByteArray := prog_44_method_2_code
def yJ13_newBytesFor : MethodName := ⟨RJ13, "newBytesFor", "(I)[B"⟩
def dkwJ13_newBytesFor_0 : List UInt8 := [26, 184, 0, 11, 188, 8, 176]
abbrev dktJ13_newBytesFor_0 : List UInt8 := dkwJ13_newBytesFor_0 ++ []
theorem dksJ13_newBytesFor_0 : cJ13_newBytesFor.data.toList.drop 0 = dktJ13_newBytesFor_0 := by decide +kernel
theorem dJ13_newBytesFor_0 : decode cJ13_newBytesFor 0 = .ok (.iload_n 0, 1) := dk_26 (dk_at dksJ13_newBytesFor_0 0 rfl rfl)
theorem dJ13_newBytesFor_1 : decode cJ13_newBytesFor 1 = .ok (.invokestatic 11, 3) := dk_184 0 11 (dk_at dksJ13_newBytesFor_0 1 rfl rfl)
theorem dJ13_newBytesFor_4 : decode cJ13_newBytesFor 4 = .ok (.newarray .byte, 2) := dk_188_8 (dk_at dksJ13_newBytesFor_0 4 rfl rfl)
theorem dJ13_newBytesFor_6 : decode cJ13_newBytesFor 6 = .ok (.areturn, 1) := dk_176 (dk_at dksJ13_newBytesFor_0 6 rfl rfl)
abbrev cJ13_newBytesLength : ByteArray := prog_44_method_3_code
def yJ13_newBytesLength : MethodName := ⟨RJ13, "newBytesLength", "(I)I"⟩
def dkwJ13_newBytesLength_2 : List UInt8 := [182, 0, 32, 182, 0, 37, 183, 0, 41, 191, 26, 4, 120, 172]
abbrev dktJ13_newBytesLength_2 : List UInt8 := dkwJ13_newBytesLength_2 ++ []
def dkwJ13_newBytesLength_1 : List UInt8 := [187, 0, 23, 89, 183, 0, 25, 18, 26, 182, 0, 28, 26, 182, 0, 32, 18, 35, 182, 0, 28, 18, 20]
abbrev dktJ13_newBytesLength_1 : List UInt8 := dkwJ13_newBytesLength_1 ++ dktJ13_newBytesLength_2
def dkwJ13_newBytesLength_0 : List UInt8 := [26, 156, 0, 11, 187, 0, 17, 89, 183, 0, 19, 191, 26, 18, 20, 161, 0, 40, 187, 0, 21, 89]
abbrev dktJ13_newBytesLength_0 : List UInt8 := dkwJ13_newBytesLength_0 ++ dktJ13_newBytesLength_1
theorem dksJ13_newBytesLength_0 : cJ13_newBytesLength.data.toList.drop 0 = dktJ13_newBytesLength_0 := by decide +kernel
theorem dksJ13_newBytesLength_1 : cJ13_newBytesLength.data.toList.drop 22 = dktJ13_newBytesLength_1 := dk_seg dksJ13_newBytesLength_0 22 rfl rfl
theorem dksJ13_newBytesLength_2 : cJ13_newBytesLength.data.toList.drop 45 = dktJ13_newBytesLength_2 := dk_seg dksJ13_newBytesLength_1 23 rfl rfl
theorem dJ13_newBytesLength_0 : decode cJ13_newBytesLength 0 = .ok (.iload_n 0, 1) := dk_26 (dk_at dksJ13_newBytesLength_0 0 rfl rfl)
theorem dJ13_newBytesLength_1 : decode cJ13_newBytesLength 1 = .ok (.ifCond .ge 11, 3) := dk_156 0 11 (dk_at dksJ13_newBytesLength_0 1 rfl rfl)
theorem dJ13_newBytesLength_4 : decode cJ13_newBytesLength 4 = .ok (.new 17, 3) := dk_187 0 17 (dk_at dksJ13_newBytesLength_0 4 rfl rfl)
theorem dJ13_newBytesLength_7 : decode cJ13_newBytesLength 7 = .ok (.dup, 1) := dk_89 (dk_at dksJ13_newBytesLength_0 7 rfl rfl)
theorem dJ13_newBytesLength_8 : decode cJ13_newBytesLength 8 = .ok (.invokespecial 19, 3) := dk_183 0 19 (dk_at dksJ13_newBytesLength_0 8 rfl rfl)
theorem dJ13_newBytesLength_11 : decode cJ13_newBytesLength 11 = .ok (.athrow, 1) := dk_191 (dk_at dksJ13_newBytesLength_0 11 rfl rfl)
theorem dJ13_newBytesLength_12 : decode cJ13_newBytesLength 12 = .ok (.iload_n 0, 1) := dk_26 (dk_at dksJ13_newBytesLength_0 12 rfl rfl)
theorem dJ13_newBytesLength_13 : decode cJ13_newBytesLength 13 = .ok (.ldc 20, 2) := dk_18 20 (dk_at dksJ13_newBytesLength_0 13 rfl rfl)
theorem dJ13_newBytesLength_15 : decode cJ13_newBytesLength 15 = .ok (.if_icmp .lt 40, 3) := dk_161 0 40 (dk_at dksJ13_newBytesLength_0 15 rfl rfl)
theorem dJ13_newBytesLength_18 : decode cJ13_newBytesLength 18 = .ok (.new 21, 3) := dk_187 0 21 (dk_at dksJ13_newBytesLength_0 18 rfl rfl)
theorem dJ13_newBytesLength_21 : decode cJ13_newBytesLength 21 = .ok (.dup, 1) := dk_89 (dk_at dksJ13_newBytesLength_0 21 rfl rfl)
theorem dJ13_newBytesLength_22 : decode cJ13_newBytesLength 22 = .ok (.new 23, 3) := dk_187 0 23 (dk_at dksJ13_newBytesLength_1 0 rfl rfl)
theorem dJ13_newBytesLength_25 : decode cJ13_newBytesLength 25 = .ok (.dup, 1) := dk_89 (dk_at dksJ13_newBytesLength_1 3 rfl rfl)
theorem dJ13_newBytesLength_26 : decode cJ13_newBytesLength 26 = .ok (.invokespecial 25, 3) := dk_183 0 25 (dk_at dksJ13_newBytesLength_1 4 rfl rfl)
theorem dJ13_newBytesLength_29 : decode cJ13_newBytesLength 29 = .ok (.ldc 26, 2) := dk_18 26 (dk_at dksJ13_newBytesLength_1 7 rfl rfl)
theorem dJ13_newBytesLength_31 : decode cJ13_newBytesLength 31 = .ok (.invokevirtual 28, 3) := dk_182 0 28 (dk_at dksJ13_newBytesLength_1 9 rfl rfl)
theorem dJ13_newBytesLength_34 : decode cJ13_newBytesLength 34 = .ok (.iload_n 0, 1) := dk_26 (dk_at dksJ13_newBytesLength_1 12 rfl rfl)
theorem dJ13_newBytesLength_35 : decode cJ13_newBytesLength 35 = .ok (.invokevirtual 32, 3) := dk_182 0 32 (dk_at dksJ13_newBytesLength_1 13 rfl rfl)
theorem dJ13_newBytesLength_38 : decode cJ13_newBytesLength 38 = .ok (.ldc 35, 2) := dk_18 35 (dk_at dksJ13_newBytesLength_1 16 rfl rfl)
theorem dJ13_newBytesLength_40 : decode cJ13_newBytesLength 40 = .ok (.invokevirtual 28, 3) := dk_182 0 28 (dk_at dksJ13_newBytesLength_1 18 rfl rfl)
theorem dJ13_newBytesLength_43 : decode cJ13_newBytesLength 43 = .ok (.ldc 20, 2) := dk_18 20 (dk_at dksJ13_newBytesLength_1 21 rfl rfl)
theorem dJ13_newBytesLength_45 : decode cJ13_newBytesLength 45 = .ok (.invokevirtual 32, 3) := dk_182 0 32 (dk_at dksJ13_newBytesLength_2 0 rfl rfl)
theorem dJ13_newBytesLength_48 : decode cJ13_newBytesLength 48 = .ok (.invokevirtual 37, 3) := dk_182 0 37 (dk_at dksJ13_newBytesLength_2 3 rfl rfl)
theorem dJ13_newBytesLength_51 : decode cJ13_newBytesLength 51 = .ok (.invokespecial 41, 3) := dk_183 0 41 (dk_at dksJ13_newBytesLength_2 6 rfl rfl)
theorem dJ13_newBytesLength_54 : decode cJ13_newBytesLength 54 = .ok (.athrow, 1) := dk_191 (dk_at dksJ13_newBytesLength_2 9 rfl rfl)
theorem dJ13_newBytesLength_55 : decode cJ13_newBytesLength 55 = .ok (.iload_n 0, 1) := dk_26 (dk_at dksJ13_newBytesLength_2 10 rfl rfl)
theorem dJ13_newBytesLength_56 : decode cJ13_newBytesLength 56 = .ok (.iconst 1, 1) := dk_4 (dk_at dksJ13_newBytesLength_2 11 rfl rfl)
theorem dJ13_newBytesLength_57 : decode cJ13_newBytesLength 57 = .ok (.ishl, 1) := dk_120 (dk_at dksJ13_newBytesLength_2 12 rfl rfl)
theorem dJ13_newBytesLength_58 : decode cJ13_newBytesLength 58 = .ok (.ireturn, 1) := dk_172 (dk_at dksJ13_newBytesLength_2 13 rfl rfl)
abbrev cJ13_putCharsAt : ByteArray := prog_44_method_81_code
def yJ13_putCharsAt : MethodName := ⟨RJ13, "putCharsAt", "([BICCCC)I"⟩
def dkwJ13_putCharsAt_3 : List UInt8 := [21, 6, 172]
abbrev dktJ13_putCharsAt_3 : List UInt8 := dkwJ13_putCharsAt_3 ++ []
def dkwJ13_putCharsAt_2 : List UInt8 := [184, 0, 111, 178, 0, 44, 154, 0, 17, 27, 21, 6, 159, 0, 11, 187, 0, 52, 89, 183, 0, 66, 191]
abbrev dktJ13_putCharsAt_2 : List UInt8 := dkwJ13_putCharsAt_2 ++ dktJ13_putCharsAt_3
def dkwJ13_putCharsAt_1 : List UInt8 := [132, 1, 1, 29, 184, 0, 111, 42, 27, 132, 1, 1, 21, 4, 184, 0, 111, 42, 27, 132, 1, 1, 21, 5]
abbrev dktJ13_putCharsAt_1 : List UInt8 := dkwJ13_putCharsAt_1 ++ dktJ13_putCharsAt_2
def dkwJ13_putCharsAt_0 : List UInt8 := [27, 7, 96, 54, 6, 27, 21, 6, 42, 184, 0, 96, 42, 27, 132, 1, 1, 28, 184, 0, 111, 42, 27]
abbrev dktJ13_putCharsAt_0 : List UInt8 := dkwJ13_putCharsAt_0 ++ dktJ13_putCharsAt_1
theorem dksJ13_putCharsAt_0 : cJ13_putCharsAt.data.toList.drop 0 = dktJ13_putCharsAt_0 := by decide +kernel
theorem dksJ13_putCharsAt_1 : cJ13_putCharsAt.data.toList.drop 23 = dktJ13_putCharsAt_1 := dk_seg dksJ13_putCharsAt_0 23 rfl rfl
theorem dksJ13_putCharsAt_2 : cJ13_putCharsAt.data.toList.drop 47 = dktJ13_putCharsAt_2 := dk_seg dksJ13_putCharsAt_1 24 rfl rfl
theorem dksJ13_putCharsAt_3 : cJ13_putCharsAt.data.toList.drop 70 = dktJ13_putCharsAt_3 := dk_seg dksJ13_putCharsAt_2 23 rfl rfl
theorem dJ13_putCharsAt_0 : decode cJ13_putCharsAt 0 = .ok (.iload_n 1, 1) := dk_27 (dk_at dksJ13_putCharsAt_0 0 rfl rfl)
theorem dJ13_putCharsAt_1 : decode cJ13_putCharsAt 1 = .ok (.iconst 4, 1) := dk_7 (dk_at dksJ13_putCharsAt_0 1 rfl rfl)
theorem dJ13_putCharsAt_2 : decode cJ13_putCharsAt 2 = .ok (.iadd, 1) := dk_96 (dk_at dksJ13_putCharsAt_0 2 rfl rfl)
theorem dJ13_putCharsAt_3 : decode cJ13_putCharsAt 3 = .ok (.istore 6, 2) := dk_54 6 (dk_at dksJ13_putCharsAt_0 3 rfl rfl)
theorem dJ13_putCharsAt_5 : decode cJ13_putCharsAt 5 = .ok (.iload_n 1, 1) := dk_27 (dk_at dksJ13_putCharsAt_0 5 rfl rfl)
theorem dJ13_putCharsAt_6 : decode cJ13_putCharsAt 6 = .ok (.iload 6, 2) := dk_21 6 (dk_at dksJ13_putCharsAt_0 6 rfl rfl)
theorem dJ13_putCharsAt_8 : decode cJ13_putCharsAt 8 = .ok (.aload_n 0, 1) := dk_42 (dk_at dksJ13_putCharsAt_0 8 rfl rfl)
theorem dJ13_putCharsAt_9 : decode cJ13_putCharsAt 9 = .ok (.invokestatic 96, 3) := dk_184 0 96 (dk_at dksJ13_putCharsAt_0 9 rfl rfl)
theorem dJ13_putCharsAt_12 : decode cJ13_putCharsAt 12 = .ok (.aload_n 0, 1) := dk_42 (dk_at dksJ13_putCharsAt_0 12 rfl rfl)
theorem dJ13_putCharsAt_13 : decode cJ13_putCharsAt 13 = .ok (.iload_n 1, 1) := dk_27 (dk_at dksJ13_putCharsAt_0 13 rfl rfl)
theorem dJ13_putCharsAt_14 : decode cJ13_putCharsAt 14 = .ok (.iinc 1 1, 3) := dk_132 1 1 (dk_at dksJ13_putCharsAt_0 14 rfl rfl)
theorem dJ13_putCharsAt_17 : decode cJ13_putCharsAt 17 = .ok (.iload_n 2, 1) := dk_28 (dk_at dksJ13_putCharsAt_0 17 rfl rfl)
theorem dJ13_putCharsAt_18 : decode cJ13_putCharsAt 18 = .ok (.invokestatic 111, 3) := dk_184 0 111 (dk_at dksJ13_putCharsAt_0 18 rfl rfl)
theorem dJ13_putCharsAt_21 : decode cJ13_putCharsAt 21 = .ok (.aload_n 0, 1) := dk_42 (dk_at dksJ13_putCharsAt_0 21 rfl rfl)
theorem dJ13_putCharsAt_22 : decode cJ13_putCharsAt 22 = .ok (.iload_n 1, 1) := dk_27 (dk_at dksJ13_putCharsAt_0 22 rfl rfl)
theorem dJ13_putCharsAt_23 : decode cJ13_putCharsAt 23 = .ok (.iinc 1 1, 3) := dk_132 1 1 (dk_at dksJ13_putCharsAt_1 0 rfl rfl)
theorem dJ13_putCharsAt_26 : decode cJ13_putCharsAt 26 = .ok (.iload_n 3, 1) := dk_29 (dk_at dksJ13_putCharsAt_1 3 rfl rfl)
theorem dJ13_putCharsAt_27 : decode cJ13_putCharsAt 27 = .ok (.invokestatic 111, 3) := dk_184 0 111 (dk_at dksJ13_putCharsAt_1 4 rfl rfl)
theorem dJ13_putCharsAt_30 : decode cJ13_putCharsAt 30 = .ok (.aload_n 0, 1) := dk_42 (dk_at dksJ13_putCharsAt_1 7 rfl rfl)
theorem dJ13_putCharsAt_31 : decode cJ13_putCharsAt 31 = .ok (.iload_n 1, 1) := dk_27 (dk_at dksJ13_putCharsAt_1 8 rfl rfl)
theorem dJ13_putCharsAt_32 : decode cJ13_putCharsAt 32 = .ok (.iinc 1 1, 3) := dk_132 1 1 (dk_at dksJ13_putCharsAt_1 9 rfl rfl)
theorem dJ13_putCharsAt_35 : decode cJ13_putCharsAt 35 = .ok (.iload 4, 2) := dk_21 4 (dk_at dksJ13_putCharsAt_1 12 rfl rfl)
theorem dJ13_putCharsAt_37 : decode cJ13_putCharsAt 37 = .ok (.invokestatic 111, 3) := dk_184 0 111 (dk_at dksJ13_putCharsAt_1 14 rfl rfl)
theorem dJ13_putCharsAt_40 : decode cJ13_putCharsAt 40 = .ok (.aload_n 0, 1) := dk_42 (dk_at dksJ13_putCharsAt_1 17 rfl rfl)
theorem dJ13_putCharsAt_41 : decode cJ13_putCharsAt 41 = .ok (.iload_n 1, 1) := dk_27 (dk_at dksJ13_putCharsAt_1 18 rfl rfl)
theorem dJ13_putCharsAt_42 : decode cJ13_putCharsAt 42 = .ok (.iinc 1 1, 3) := dk_132 1 1 (dk_at dksJ13_putCharsAt_1 19 rfl rfl)
theorem dJ13_putCharsAt_45 : decode cJ13_putCharsAt 45 = .ok (.iload 5, 2) := dk_21 5 (dk_at dksJ13_putCharsAt_1 22 rfl rfl)
theorem dJ13_putCharsAt_47 : decode cJ13_putCharsAt 47 = .ok (.invokestatic 111, 3) := dk_184 0 111 (dk_at dksJ13_putCharsAt_2 0 rfl rfl)
theorem dJ13_putCharsAt_50 : decode cJ13_putCharsAt 50 = .ok (.getstatic 44, 3) := dk_178 0 44 (dk_at dksJ13_putCharsAt_2 3 rfl rfl)
theorem dJ13_putCharsAt_53 : decode cJ13_putCharsAt 53 = .ok (.ifCond .ne 17, 3) := dk_154 0 17 (dk_at dksJ13_putCharsAt_2 6 rfl rfl)
theorem dJ13_putCharsAt_56 : decode cJ13_putCharsAt 56 = .ok (.iload_n 1, 1) := dk_27 (dk_at dksJ13_putCharsAt_2 9 rfl rfl)
theorem dJ13_putCharsAt_57 : decode cJ13_putCharsAt 57 = .ok (.iload 6, 2) := dk_21 6 (dk_at dksJ13_putCharsAt_2 10 rfl rfl)
theorem dJ13_putCharsAt_59 : decode cJ13_putCharsAt 59 = .ok (.if_icmp .eq 11, 3) := dk_159 0 11 (dk_at dksJ13_putCharsAt_2 12 rfl rfl)
theorem dJ13_putCharsAt_62 : decode cJ13_putCharsAt 62 = .ok (.new 52, 3) := dk_187 0 52 (dk_at dksJ13_putCharsAt_2 15 rfl rfl)
theorem dJ13_putCharsAt_65 : decode cJ13_putCharsAt 65 = .ok (.dup, 1) := dk_89 (dk_at dksJ13_putCharsAt_2 18 rfl rfl)
theorem dJ13_putCharsAt_66 : decode cJ13_putCharsAt 66 = .ok (.invokespecial 66, 3) := dk_183 0 66 (dk_at dksJ13_putCharsAt_2 19 rfl rfl)
theorem dJ13_putCharsAt_69 : decode cJ13_putCharsAt 69 = .ok (.athrow, 1) := dk_191 (dk_at dksJ13_putCharsAt_2 22 rfl rfl)
theorem dJ13_putCharsAt_70 : decode cJ13_putCharsAt 70 = .ok (.iload 6, 2) := dk_21 6 (dk_at dksJ13_putCharsAt_3 0 rfl rfl)
theorem dJ13_putCharsAt_72 : decode cJ13_putCharsAt 72 = .ok (.ireturn, 1) := dk_172 (dk_at dksJ13_putCharsAt_3 2 rfl rfl)
abbrev cJ13_checkBoundsBeginEnd : ByteArray := prog_44_method_93_code
def yJ13_checkBoundsBeginEnd : MethodName := ⟨RJ13, "checkBoundsBeginEnd", "(II[B)V"⟩
def dkwJ13_checkBoundsBeginEnd_0 : List UInt8 := [26, 27, 44, 184, 0, 48, 184, 0, 241, 177]
abbrev dktJ13_checkBoundsBeginEnd_0 : List UInt8 := dkwJ13_checkBoundsBeginEnd_0 ++ []
theorem dksJ13_checkBoundsBeginEnd_0 : cJ13_checkBoundsBeginEnd.data.toList.drop 0 = dktJ13_checkBoundsBeginEnd_0 := by decide +kernel
theorem dJ13_checkBoundsBeginEnd_0 : decode cJ13_checkBoundsBeginEnd 0 = .ok (.iload_n 0, 1) := dk_26 (dk_at dksJ13_checkBoundsBeginEnd_0 0 rfl rfl)
theorem dJ13_checkBoundsBeginEnd_1 : decode cJ13_checkBoundsBeginEnd 1 = .ok (.iload_n 1, 1) := dk_27 (dk_at dksJ13_checkBoundsBeginEnd_0 1 rfl rfl)
theorem dJ13_checkBoundsBeginEnd_2 : decode cJ13_checkBoundsBeginEnd 2 = .ok (.aload_n 2, 1) := dk_44 (dk_at dksJ13_checkBoundsBeginEnd_0 2 rfl rfl)
theorem dJ13_checkBoundsBeginEnd_3 : decode cJ13_checkBoundsBeginEnd 3 = .ok (.invokestatic 48, 3) := dk_184 0 48 (dk_at dksJ13_checkBoundsBeginEnd_0 3 rfl rfl)
theorem dJ13_checkBoundsBeginEnd_6 : decode cJ13_checkBoundsBeginEnd 6 = .ok (.invokestatic 241, 3) := dk_184 0 241 (dk_at dksJ13_checkBoundsBeginEnd_0 6 rfl rfl)
theorem dJ13_checkBoundsBeginEnd_9 : decode cJ13_checkBoundsBeginEnd 9 = .ok (.return_, 1) := dk_177 (dk_at dksJ13_checkBoundsBeginEnd_0 9 rfl rfl)
abbrev cJ13_length : ByteArray := prog_44_method_6_code
def yJ13_length : MethodName := ⟨RJ13, "length", "([B)I"⟩
def dkwJ13_length_0 : List UInt8 := [42, 190, 4, 122, 172]
abbrev dktJ13_length_0 : List UInt8 := dkwJ13_length_0 ++ []
theorem dksJ13_length_0 : cJ13_length.data.toList.drop 0 = dktJ13_length_0 := by decide +kernel
theorem dJ13_length_0 : decode cJ13_length 0 = .ok (.aload_n 0, 1) := dk_42 (dk_at dksJ13_length_0 0 rfl rfl)
theorem dJ13_length_1 : decode cJ13_length 1 = .ok (.arraylength, 1) := dk_190 (dk_at dksJ13_length_0 1 rfl rfl)
theorem dJ13_length_2 : decode cJ13_length 2 = .ok (.iconst 1, 1) := dk_4 (dk_at dksJ13_length_0 2 rfl rfl)
theorem dJ13_length_3 : decode cJ13_length 3 = .ok (.ishr, 1) := dk_122 (dk_at dksJ13_length_0 3 rfl rfl)
theorem dJ13_length_4 : decode cJ13_length 4 = .ok (.ireturn, 1) := dk_172 (dk_at dksJ13_length_0 4 rfl rfl)
abbrev cJ13_putChar : ByteArray := prog_44_method_4_code
def yJ13_putChar : MethodName := ⟨RJ13, "putChar", "([BII)V"⟩
def dkwJ13_putChar_2 : List UInt8 := [178, 0, 63, 122, 145, 84, 177]
abbrev dktJ13_putChar_2 : List UInt8 := dkwJ13_putChar_2 ++ []
def dkwJ13_putChar_1 : List UInt8 := [183, 0, 56, 191, 27, 4, 120, 60, 42, 27, 132, 1, 1, 28, 178, 0, 59, 122, 145, 84, 42, 27, 28]
abbrev dktJ13_putChar_1 : List UInt8 := dkwJ13_putChar_1 ++ dktJ13_putChar_2
def dkwJ13_putChar_0 : List UInt8 := [178, 0, 44, 154, 0, 25, 27, 155, 0, 11, 27, 42, 184, 0, 48, 161, 0, 13, 187, 0, 52, 89, 18, 54]
abbrev dktJ13_putChar_0 : List UInt8 := dkwJ13_putChar_0 ++ dktJ13_putChar_1
theorem dksJ13_putChar_0 : cJ13_putChar.data.toList.drop 0 = dktJ13_putChar_0 := by decide +kernel
theorem dksJ13_putChar_1 : cJ13_putChar.data.toList.drop 24 = dktJ13_putChar_1 := dk_seg dksJ13_putChar_0 24 rfl rfl
theorem dksJ13_putChar_2 : cJ13_putChar.data.toList.drop 47 = dktJ13_putChar_2 := dk_seg dksJ13_putChar_1 23 rfl rfl
theorem dJ13_putChar_0 : decode cJ13_putChar 0 = .ok (.getstatic 44, 3) := dk_178 0 44 (dk_at dksJ13_putChar_0 0 rfl rfl)
theorem dJ13_putChar_3 : decode cJ13_putChar 3 = .ok (.ifCond .ne 25, 3) := dk_154 0 25 (dk_at dksJ13_putChar_0 3 rfl rfl)
theorem dJ13_putChar_6 : decode cJ13_putChar 6 = .ok (.iload_n 1, 1) := dk_27 (dk_at dksJ13_putChar_0 6 rfl rfl)
theorem dJ13_putChar_7 : decode cJ13_putChar 7 = .ok (.ifCond .lt 11, 3) := dk_155 0 11 (dk_at dksJ13_putChar_0 7 rfl rfl)
theorem dJ13_putChar_10 : decode cJ13_putChar 10 = .ok (.iload_n 1, 1) := dk_27 (dk_at dksJ13_putChar_0 10 rfl rfl)
theorem dJ13_putChar_11 : decode cJ13_putChar 11 = .ok (.aload_n 0, 1) := dk_42 (dk_at dksJ13_putChar_0 11 rfl rfl)
theorem dJ13_putChar_12 : decode cJ13_putChar 12 = .ok (.invokestatic 48, 3) := dk_184 0 48 (dk_at dksJ13_putChar_0 12 rfl rfl)
theorem dJ13_putChar_15 : decode cJ13_putChar 15 = .ok (.if_icmp .lt 13, 3) := dk_161 0 13 (dk_at dksJ13_putChar_0 15 rfl rfl)
theorem dJ13_putChar_18 : decode cJ13_putChar 18 = .ok (.new 52, 3) := dk_187 0 52 (dk_at dksJ13_putChar_0 18 rfl rfl)
theorem dJ13_putChar_21 : decode cJ13_putChar 21 = .ok (.dup, 1) := dk_89 (dk_at dksJ13_putChar_0 21 rfl rfl)
theorem dJ13_putChar_22 : decode cJ13_putChar 22 = .ok (.ldc 54, 2) := dk_18 54 (dk_at dksJ13_putChar_0 22 rfl rfl)
theorem dJ13_putChar_24 : decode cJ13_putChar 24 = .ok (.invokespecial 56, 3) := dk_183 0 56 (dk_at dksJ13_putChar_1 0 rfl rfl)
theorem dJ13_putChar_27 : decode cJ13_putChar 27 = .ok (.athrow, 1) := dk_191 (dk_at dksJ13_putChar_1 3 rfl rfl)
theorem dJ13_putChar_28 : decode cJ13_putChar 28 = .ok (.iload_n 1, 1) := dk_27 (dk_at dksJ13_putChar_1 4 rfl rfl)
theorem dJ13_putChar_29 : decode cJ13_putChar 29 = .ok (.iconst 1, 1) := dk_4 (dk_at dksJ13_putChar_1 5 rfl rfl)
theorem dJ13_putChar_30 : decode cJ13_putChar 30 = .ok (.ishl, 1) := dk_120 (dk_at dksJ13_putChar_1 6 rfl rfl)
theorem dJ13_putChar_31 : decode cJ13_putChar 31 = .ok (.istore_n 1, 1) := dk_60 (dk_at dksJ13_putChar_1 7 rfl rfl)
theorem dJ13_putChar_32 : decode cJ13_putChar 32 = .ok (.aload_n 0, 1) := dk_42 (dk_at dksJ13_putChar_1 8 rfl rfl)
theorem dJ13_putChar_33 : decode cJ13_putChar 33 = .ok (.iload_n 1, 1) := dk_27 (dk_at dksJ13_putChar_1 9 rfl rfl)
theorem dJ13_putChar_34 : decode cJ13_putChar 34 = .ok (.iinc 1 1, 3) := dk_132 1 1 (dk_at dksJ13_putChar_1 10 rfl rfl)
theorem dJ13_putChar_37 : decode cJ13_putChar 37 = .ok (.iload_n 2, 1) := dk_28 (dk_at dksJ13_putChar_1 13 rfl rfl)
theorem dJ13_putChar_38 : decode cJ13_putChar 38 = .ok (.getstatic 59, 3) := dk_178 0 59 (dk_at dksJ13_putChar_1 14 rfl rfl)
theorem dJ13_putChar_41 : decode cJ13_putChar 41 = .ok (.ishr, 1) := dk_122 (dk_at dksJ13_putChar_1 17 rfl rfl)
theorem dJ13_putChar_42 : decode cJ13_putChar 42 = .ok (.i2b, 1) := dk_145 (dk_at dksJ13_putChar_1 18 rfl rfl)
theorem dJ13_putChar_43 : decode cJ13_putChar 43 = .ok (.bastore, 1) := dk_84 (dk_at dksJ13_putChar_1 19 rfl rfl)
theorem dJ13_putChar_44 : decode cJ13_putChar 44 = .ok (.aload_n 0, 1) := dk_42 (dk_at dksJ13_putChar_1 20 rfl rfl)
theorem dJ13_putChar_45 : decode cJ13_putChar 45 = .ok (.iload_n 1, 1) := dk_27 (dk_at dksJ13_putChar_1 21 rfl rfl)
theorem dJ13_putChar_46 : decode cJ13_putChar 46 = .ok (.iload_n 2, 1) := dk_28 (dk_at dksJ13_putChar_1 22 rfl rfl)
theorem dJ13_putChar_47 : decode cJ13_putChar 47 = .ok (.getstatic 63, 3) := dk_178 0 63 (dk_at dksJ13_putChar_2 0 rfl rfl)
theorem dJ13_putChar_50 : decode cJ13_putChar 50 = .ok (.ishr, 1) := dk_122 (dk_at dksJ13_putChar_2 3 rfl rfl)
theorem dJ13_putChar_51 : decode cJ13_putChar 51 = .ok (.i2b, 1) := dk_145 (dk_at dksJ13_putChar_2 4 rfl rfl)
theorem dJ13_putChar_52 : decode cJ13_putChar 52 = .ok (.bastore, 1) := dk_84 (dk_at dksJ13_putChar_2 5 rfl rfl)
theorem dJ13_putChar_53 : decode cJ13_putChar 53 = .ok (.return_, 1) := dk_177 (dk_at dksJ13_putChar_2 6 rfl rfl)
abbrev cJ13_inflate : ByteArray := prog_44_method_86_code
def yJ13_inflate : MethodName := ⟨RJ13, "inflate", "([BI[BII)V"⟩
def dkwJ13_inflate_1 : List UInt8 := [132, 1, 1, 51, 17, 0, 255, 126, 184, 0, 111, 132, 5, 1, 167, 255, 228, 177]
abbrev dktJ13_inflate_1 : List UInt8 := dkwJ13_inflate_1 ++ []
def dkwJ13_inflate_0 : List UInt8 := [29, 21, 4, 44, 184, 0, 173, 3, 54, 5, 21, 5, 21, 4, 162, 0, 27, 44, 29, 132, 3, 1, 42, 27]
abbrev dktJ13_inflate_0 : List UInt8 := dkwJ13_inflate_0 ++ dktJ13_inflate_1
theorem dksJ13_inflate_0 : cJ13_inflate.data.toList.drop 0 = dktJ13_inflate_0 := by decide +kernel
theorem dksJ13_inflate_1 : cJ13_inflate.data.toList.drop 24 = dktJ13_inflate_1 := dk_seg dksJ13_inflate_0 24 rfl rfl
theorem dJ13_inflate_0 : decode cJ13_inflate 0 = .ok (.iload_n 3, 1) := dk_29 (dk_at dksJ13_inflate_0 0 rfl rfl)
theorem dJ13_inflate_1 : decode cJ13_inflate 1 = .ok (.iload 4, 2) := dk_21 4 (dk_at dksJ13_inflate_0 1 rfl rfl)
theorem dJ13_inflate_3 : decode cJ13_inflate 3 = .ok (.aload_n 2, 1) := dk_44 (dk_at dksJ13_inflate_0 3 rfl rfl)
theorem dJ13_inflate_4 : decode cJ13_inflate 4 = .ok (.invokestatic 173, 3) := dk_184 0 173 (dk_at dksJ13_inflate_0 4 rfl rfl)
theorem dJ13_inflate_7 : decode cJ13_inflate 7 = .ok (.iconst 0, 1) := dk_3 (dk_at dksJ13_inflate_0 7 rfl rfl)
theorem dJ13_inflate_8 : decode cJ13_inflate 8 = .ok (.istore 5, 2) := dk_54 5 (dk_at dksJ13_inflate_0 8 rfl rfl)
theorem dJ13_inflate_10 : decode cJ13_inflate 10 = .ok (.iload 5, 2) := dk_21 5 (dk_at dksJ13_inflate_0 10 rfl rfl)
theorem dJ13_inflate_12 : decode cJ13_inflate 12 = .ok (.iload 4, 2) := dk_21 4 (dk_at dksJ13_inflate_0 12 rfl rfl)
theorem dJ13_inflate_14 : decode cJ13_inflate 14 = .ok (.if_icmp .ge 27, 3) := dk_162 0 27 (dk_at dksJ13_inflate_0 14 rfl rfl)
theorem dJ13_inflate_17 : decode cJ13_inflate 17 = .ok (.aload_n 2, 1) := dk_44 (dk_at dksJ13_inflate_0 17 rfl rfl)
theorem dJ13_inflate_18 : decode cJ13_inflate 18 = .ok (.iload_n 3, 1) := dk_29 (dk_at dksJ13_inflate_0 18 rfl rfl)
theorem dJ13_inflate_19 : decode cJ13_inflate 19 = .ok (.iinc 3 1, 3) := dk_132 3 1 (dk_at dksJ13_inflate_0 19 rfl rfl)
theorem dJ13_inflate_22 : decode cJ13_inflate 22 = .ok (.aload_n 0, 1) := dk_42 (dk_at dksJ13_inflate_0 22 rfl rfl)
theorem dJ13_inflate_23 : decode cJ13_inflate 23 = .ok (.iload_n 1, 1) := dk_27 (dk_at dksJ13_inflate_0 23 rfl rfl)
theorem dJ13_inflate_24 : decode cJ13_inflate 24 = .ok (.iinc 1 1, 3) := dk_132 1 1 (dk_at dksJ13_inflate_1 0 rfl rfl)
theorem dJ13_inflate_27 : decode cJ13_inflate 27 = .ok (.baload, 1) := dk_51 (dk_at dksJ13_inflate_1 3 rfl rfl)
theorem dJ13_inflate_28 : decode cJ13_inflate 28 = .ok (.sipush 255, 3) := dk_17 0 255 (dk_at dksJ13_inflate_1 4 rfl rfl)
theorem dJ13_inflate_31 : decode cJ13_inflate 31 = .ok (.iand, 1) := dk_126 (dk_at dksJ13_inflate_1 7 rfl rfl)
theorem dJ13_inflate_32 : decode cJ13_inflate 32 = .ok (.invokestatic 111, 3) := dk_184 0 111 (dk_at dksJ13_inflate_1 8 rfl rfl)
theorem dJ13_inflate_35 : decode cJ13_inflate 35 = .ok (.iinc 5 1, 3) := dk_132 5 1 (dk_at dksJ13_inflate_1 11 rfl rfl)
theorem dJ13_inflate_38 : decode cJ13_inflate 38 = .ok (.goto (-28), 3) := dk_167 255 228 (dk_at dksJ13_inflate_1 14 rfl rfl)
theorem dJ13_inflate_41 : decode cJ13_inflate 41 = .ok (.return_, 1) := dk_177 (dk_at dksJ13_inflate_1 17 rfl rfl)
abbrev cJ13_checkBoundsOffCount : ByteArray := prog_44_method_94_code
def yJ13_checkBoundsOffCount : MethodName := ⟨RJ13, "checkBoundsOffCount", "(II[B)V"⟩
def dkwJ13_checkBoundsOffCount_0 : List UInt8 := [26, 27, 44, 184, 0, 48, 184, 1, 163, 87, 177]
abbrev dktJ13_checkBoundsOffCount_0 : List UInt8 := dkwJ13_checkBoundsOffCount_0 ++ []
theorem dksJ13_checkBoundsOffCount_0 : cJ13_checkBoundsOffCount.data.toList.drop 0 = dktJ13_checkBoundsOffCount_0 := by decide +kernel
theorem dJ13_checkBoundsOffCount_0 : decode cJ13_checkBoundsOffCount 0 = .ok (.iload_n 0, 1) := dk_26 (dk_at dksJ13_checkBoundsOffCount_0 0 rfl rfl)
theorem dJ13_checkBoundsOffCount_1 : decode cJ13_checkBoundsOffCount 1 = .ok (.iload_n 1, 1) := dk_27 (dk_at dksJ13_checkBoundsOffCount_0 1 rfl rfl)
theorem dJ13_checkBoundsOffCount_2 : decode cJ13_checkBoundsOffCount 2 = .ok (.aload_n 2, 1) := dk_44 (dk_at dksJ13_checkBoundsOffCount_0 2 rfl rfl)
theorem dJ13_checkBoundsOffCount_3 : decode cJ13_checkBoundsOffCount 3 = .ok (.invokestatic 48, 3) := dk_184 0 48 (dk_at dksJ13_checkBoundsOffCount_0 3 rfl rfl)
theorem dJ13_checkBoundsOffCount_6 : decode cJ13_checkBoundsOffCount 6 = .ok (.invokestatic 419, 3) := dk_184 1 163 (dk_at dksJ13_checkBoundsOffCount_0 6 rfl rfl)
theorem dJ13_checkBoundsOffCount_9 : decode cJ13_checkBoundsOffCount 9 = .ok (.pop, 1) := dk_87 (dk_at dksJ13_checkBoundsOffCount_0 9 rfl rfl)
theorem dJ13_checkBoundsOffCount_10 : decode cJ13_checkBoundsOffCount 10 = .ok (.return_, 1) := dk_177 (dk_at dksJ13_checkBoundsOffCount_0 10 rfl rfl)
abbrev cJ13_getChars : ByteArray := prog_44_method_77_code
def yJ13_getChars : MethodName := ⟨RJ13, "getChars", "(III[B)I"⟩
def dkwJ13_getChars_1 : List UInt8 := [159, 0, 11, 187, 0, 52, 89, 183, 0, 66, 191, 21, 4, 172]
abbrev dktJ13_getChars_1 : List UInt8 := dkwJ13_getChars_1 ++ []
def dkwJ13_getChars_0 : List UInt8 := [27, 28, 45, 184, 0, 96, 26, 28, 45, 184, 1, 137, 54, 4, 178, 0, 44, 154, 0, 17, 27, 21, 4]
abbrev dktJ13_getChars_0 : List UInt8 := dkwJ13_getChars_0 ++ dktJ13_getChars_1
theorem dksJ13_getChars_0 : cJ13_getChars.data.toList.drop 0 = dktJ13_getChars_0 := by decide +kernel
theorem dksJ13_getChars_1 : cJ13_getChars.data.toList.drop 23 = dktJ13_getChars_1 := dk_seg dksJ13_getChars_0 23 rfl rfl
theorem dJ13_getChars_0 : decode cJ13_getChars 0 = .ok (.iload_n 1, 1) := dk_27 (dk_at dksJ13_getChars_0 0 rfl rfl)
theorem dJ13_getChars_1 : decode cJ13_getChars 1 = .ok (.iload_n 2, 1) := dk_28 (dk_at dksJ13_getChars_0 1 rfl rfl)
theorem dJ13_getChars_2 : decode cJ13_getChars 2 = .ok (.aload_n 3, 1) := dk_45 (dk_at dksJ13_getChars_0 2 rfl rfl)
theorem dJ13_getChars_3 : decode cJ13_getChars 3 = .ok (.invokestatic 96, 3) := dk_184 0 96 (dk_at dksJ13_getChars_0 3 rfl rfl)
theorem dJ13_getChars_6 : decode cJ13_getChars 6 = .ok (.iload_n 0, 1) := dk_26 (dk_at dksJ13_getChars_0 6 rfl rfl)
theorem dJ13_getChars_7 : decode cJ13_getChars 7 = .ok (.iload_n 2, 1) := dk_28 (dk_at dksJ13_getChars_0 7 rfl rfl)
theorem dJ13_getChars_8 : decode cJ13_getChars 8 = .ok (.aload_n 3, 1) := dk_45 (dk_at dksJ13_getChars_0 8 rfl rfl)
theorem dJ13_getChars_9 : decode cJ13_getChars 9 = .ok (.invokestatic 393, 3) := dk_184 1 137 (dk_at dksJ13_getChars_0 9 rfl rfl)
theorem dJ13_getChars_12 : decode cJ13_getChars 12 = .ok (.istore 4, 2) := dk_54 4 (dk_at dksJ13_getChars_0 12 rfl rfl)
theorem dJ13_getChars_14 : decode cJ13_getChars 14 = .ok (.getstatic 44, 3) := dk_178 0 44 (dk_at dksJ13_getChars_0 14 rfl rfl)
theorem dJ13_getChars_17 : decode cJ13_getChars 17 = .ok (.ifCond .ne 17, 3) := dk_154 0 17 (dk_at dksJ13_getChars_0 17 rfl rfl)
theorem dJ13_getChars_20 : decode cJ13_getChars 20 = .ok (.iload_n 1, 1) := dk_27 (dk_at dksJ13_getChars_0 20 rfl rfl)
theorem dJ13_getChars_21 : decode cJ13_getChars 21 = .ok (.iload 4, 2) := dk_21 4 (dk_at dksJ13_getChars_0 21 rfl rfl)
theorem dJ13_getChars_23 : decode cJ13_getChars 23 = .ok (.if_icmp .eq 11, 3) := dk_159 0 11 (dk_at dksJ13_getChars_1 0 rfl rfl)
theorem dJ13_getChars_26 : decode cJ13_getChars 26 = .ok (.new 52, 3) := dk_187 0 52 (dk_at dksJ13_getChars_1 3 rfl rfl)
theorem dJ13_getChars_29 : decode cJ13_getChars 29 = .ok (.dup, 1) := dk_89 (dk_at dksJ13_getChars_1 6 rfl rfl)
theorem dJ13_getChars_30 : decode cJ13_getChars 30 = .ok (.invokespecial 66, 3) := dk_183 0 66 (dk_at dksJ13_getChars_1 7 rfl rfl)
theorem dJ13_getChars_33 : decode cJ13_getChars 33 = .ok (.athrow, 1) := dk_191 (dk_at dksJ13_getChars_1 10 rfl rfl)
theorem dJ13_getChars_34 : decode cJ13_getChars 34 = .ok (.iload 4, 2) := dk_21 4 (dk_at dksJ13_getChars_1 11 rfl rfl)
theorem dJ13_getChars_36 : decode cJ13_getChars 36 = .ok (.ireturn, 1) := dk_172 (dk_at dksJ13_getChars_1 13 rfl rfl)
abbrev cJ13_getChars_2 : ByteArray := prog_44_method_89_code
def yJ13_getChars_2 : MethodName := ⟨RJ13, "getChars", "(II[B)I"⟩
def dkwJ13_getChars_2_5 : List UInt8 := [132, 5, 255, 21, 5, 16, 45, 184, 0, 111, 21, 5, 172]
abbrev dktJ13_getChars_2_5 : List UInt8 := dkwJ13_getChars_2_5 ++ []
def dkwJ13_getChars_2_4 : List UInt8 := [162, 0, 18, 44, 132, 5, 255, 21, 5, 178, 1, 151, 26, 116, 51, 184, 0, 111, 21, 6, 153, 0, 14, 44]
abbrev dktJ13_getChars_2_4 : List UInt8 := dkwJ13_getChars_2_4 ++ dktJ13_getChars_2_5
def dkwJ13_getChars_2_3 : List UInt8 := [184, 0, 111, 167, 255, 205, 44, 132, 5, 255, 21, 5, 178, 1, 147, 26, 116, 51, 184, 0, 111, 26, 16, 247]
abbrev dktJ13_getChars_2_3 : List UInt8 := dkwJ13_getChars_2_3 ++ dktJ13_getChars_2_4
def dkwJ13_getChars_2_2 : List UInt8 := [21, 5, 178, 1, 147, 21, 4, 51, 184, 0, 111, 44, 132, 5, 255, 21, 5, 178, 1, 151, 21, 4, 51]
abbrev dktJ13_getChars_2_2 : List UInt8 := dkwJ13_getChars_2_2 ++ dktJ13_getChars_2_3
def dkwJ13_getChars_2_1 : List UInt8 := [16, 156, 163, 0, 51, 26, 16, 100, 108, 62, 29, 16, 100, 104, 26, 100, 54, 4, 29, 59, 44, 132, 5, 255]
abbrev dktJ13_getChars_2_1 : List UInt8 := dkwJ13_getChars_2_1 ++ dktJ13_getChars_2_2
def dkwJ13_getChars_2_0 : List UInt8 := [27, 54, 5, 26, 156, 0, 7, 4, 167, 0, 4, 3, 54, 6, 21, 6, 154, 0, 6, 26, 116, 59, 26]
abbrev dktJ13_getChars_2_0 : List UInt8 := dkwJ13_getChars_2_0 ++ dktJ13_getChars_2_1
theorem dksJ13_getChars_2_0 : cJ13_getChars_2.data.toList.drop 0 = dktJ13_getChars_2_0 := by decide +kernel
theorem dksJ13_getChars_2_1 : cJ13_getChars_2.data.toList.drop 23 = dktJ13_getChars_2_1 := dk_seg dksJ13_getChars_2_0 23 rfl rfl
theorem dksJ13_getChars_2_2 : cJ13_getChars_2.data.toList.drop 47 = dktJ13_getChars_2_2 := dk_seg dksJ13_getChars_2_1 24 rfl rfl
theorem dksJ13_getChars_2_3 : cJ13_getChars_2.data.toList.drop 70 = dktJ13_getChars_2_3 := dk_seg dksJ13_getChars_2_2 23 rfl rfl
theorem dksJ13_getChars_2_4 : cJ13_getChars_2.data.toList.drop 94 = dktJ13_getChars_2_4 := dk_seg dksJ13_getChars_2_3 24 rfl rfl
theorem dksJ13_getChars_2_5 : cJ13_getChars_2.data.toList.drop 118 = dktJ13_getChars_2_5 := dk_seg dksJ13_getChars_2_4 24 rfl rfl
theorem dJ13_getChars_2_0 : decode cJ13_getChars_2 0 = .ok (.iload_n 1, 1) := dk_27 (dk_at dksJ13_getChars_2_0 0 rfl rfl)
theorem dJ13_getChars_2_1 : decode cJ13_getChars_2 1 = .ok (.istore 5, 2) := dk_54 5 (dk_at dksJ13_getChars_2_0 1 rfl rfl)
theorem dJ13_getChars_2_3 : decode cJ13_getChars_2 3 = .ok (.iload_n 0, 1) := dk_26 (dk_at dksJ13_getChars_2_0 3 rfl rfl)
theorem dJ13_getChars_2_4 : decode cJ13_getChars_2 4 = .ok (.ifCond .ge 7, 3) := dk_156 0 7 (dk_at dksJ13_getChars_2_0 4 rfl rfl)
theorem dJ13_getChars_2_7 : decode cJ13_getChars_2 7 = .ok (.iconst 1, 1) := dk_4 (dk_at dksJ13_getChars_2_0 7 rfl rfl)
theorem dJ13_getChars_2_8 : decode cJ13_getChars_2 8 = .ok (.goto 4, 3) := dk_167 0 4 (dk_at dksJ13_getChars_2_0 8 rfl rfl)
theorem dJ13_getChars_2_11 : decode cJ13_getChars_2 11 = .ok (.iconst 0, 1) := dk_3 (dk_at dksJ13_getChars_2_0 11 rfl rfl)
theorem dJ13_getChars_2_12 : decode cJ13_getChars_2 12 = .ok (.istore 6, 2) := dk_54 6 (dk_at dksJ13_getChars_2_0 12 rfl rfl)
theorem dJ13_getChars_2_14 : decode cJ13_getChars_2 14 = .ok (.iload 6, 2) := dk_21 6 (dk_at dksJ13_getChars_2_0 14 rfl rfl)
theorem dJ13_getChars_2_16 : decode cJ13_getChars_2 16 = .ok (.ifCond .ne 6, 3) := dk_154 0 6 (dk_at dksJ13_getChars_2_0 16 rfl rfl)
theorem dJ13_getChars_2_19 : decode cJ13_getChars_2 19 = .ok (.iload_n 0, 1) := dk_26 (dk_at dksJ13_getChars_2_0 19 rfl rfl)
theorem dJ13_getChars_2_20 : decode cJ13_getChars_2 20 = .ok (.ineg, 1) := dk_116 (dk_at dksJ13_getChars_2_0 20 rfl rfl)
theorem dJ13_getChars_2_21 : decode cJ13_getChars_2 21 = .ok (.istore_n 0, 1) := dk_59 (dk_at dksJ13_getChars_2_0 21 rfl rfl)
theorem dJ13_getChars_2_22 : decode cJ13_getChars_2 22 = .ok (.iload_n 0, 1) := dk_26 (dk_at dksJ13_getChars_2_0 22 rfl rfl)
theorem dJ13_getChars_2_23 : decode cJ13_getChars_2 23 = .ok (.bipush (-100), 2) := dk_16 156 (dk_at dksJ13_getChars_2_1 0 rfl rfl)
theorem dJ13_getChars_2_25 : decode cJ13_getChars_2 25 = .ok (.if_icmp .gt 51, 3) := dk_163 0 51 (dk_at dksJ13_getChars_2_1 2 rfl rfl)
theorem dJ13_getChars_2_28 : decode cJ13_getChars_2 28 = .ok (.iload_n 0, 1) := dk_26 (dk_at dksJ13_getChars_2_1 5 rfl rfl)
theorem dJ13_getChars_2_29 : decode cJ13_getChars_2 29 = .ok (.bipush 100, 2) := dk_16 100 (dk_at dksJ13_getChars_2_1 6 rfl rfl)
theorem dJ13_getChars_2_31 : decode cJ13_getChars_2 31 = .ok (.idiv, 1) := dk_108 (dk_at dksJ13_getChars_2_1 8 rfl rfl)
theorem dJ13_getChars_2_32 : decode cJ13_getChars_2 32 = .ok (.istore_n 3, 1) := dk_62 (dk_at dksJ13_getChars_2_1 9 rfl rfl)
theorem dJ13_getChars_2_33 : decode cJ13_getChars_2 33 = .ok (.iload_n 3, 1) := dk_29 (dk_at dksJ13_getChars_2_1 10 rfl rfl)
theorem dJ13_getChars_2_34 : decode cJ13_getChars_2 34 = .ok (.bipush 100, 2) := dk_16 100 (dk_at dksJ13_getChars_2_1 11 rfl rfl)
theorem dJ13_getChars_2_36 : decode cJ13_getChars_2 36 = .ok (.imul, 1) := dk_104 (dk_at dksJ13_getChars_2_1 13 rfl rfl)
theorem dJ13_getChars_2_37 : decode cJ13_getChars_2 37 = .ok (.iload_n 0, 1) := dk_26 (dk_at dksJ13_getChars_2_1 14 rfl rfl)
theorem dJ13_getChars_2_38 : decode cJ13_getChars_2 38 = .ok (.isub, 1) := dk_100 (dk_at dksJ13_getChars_2_1 15 rfl rfl)
theorem dJ13_getChars_2_39 : decode cJ13_getChars_2 39 = .ok (.istore 4, 2) := dk_54 4 (dk_at dksJ13_getChars_2_1 16 rfl rfl)
theorem dJ13_getChars_2_41 : decode cJ13_getChars_2 41 = .ok (.iload_n 3, 1) := dk_29 (dk_at dksJ13_getChars_2_1 18 rfl rfl)
theorem dJ13_getChars_2_42 : decode cJ13_getChars_2 42 = .ok (.istore_n 0, 1) := dk_59 (dk_at dksJ13_getChars_2_1 19 rfl rfl)
theorem dJ13_getChars_2_43 : decode cJ13_getChars_2 43 = .ok (.aload_n 2, 1) := dk_44 (dk_at dksJ13_getChars_2_1 20 rfl rfl)
theorem dJ13_getChars_2_44 : decode cJ13_getChars_2 44 = .ok (.iinc 5 (-1), 3) := dk_132 5 255 (dk_at dksJ13_getChars_2_1 21 rfl rfl)
theorem dJ13_getChars_2_47 : decode cJ13_getChars_2 47 = .ok (.iload 5, 2) := dk_21 5 (dk_at dksJ13_getChars_2_2 0 rfl rfl)
theorem dJ13_getChars_2_49 : decode cJ13_getChars_2 49 = .ok (.getstatic 403, 3) := dk_178 1 147 (dk_at dksJ13_getChars_2_2 2 rfl rfl)
theorem dJ13_getChars_2_52 : decode cJ13_getChars_2 52 = .ok (.iload 4, 2) := dk_21 4 (dk_at dksJ13_getChars_2_2 5 rfl rfl)
theorem dJ13_getChars_2_54 : decode cJ13_getChars_2 54 = .ok (.baload, 1) := dk_51 (dk_at dksJ13_getChars_2_2 7 rfl rfl)
theorem dJ13_getChars_2_55 : decode cJ13_getChars_2 55 = .ok (.invokestatic 111, 3) := dk_184 0 111 (dk_at dksJ13_getChars_2_2 8 rfl rfl)
theorem dJ13_getChars_2_58 : decode cJ13_getChars_2 58 = .ok (.aload_n 2, 1) := dk_44 (dk_at dksJ13_getChars_2_2 11 rfl rfl)
theorem dJ13_getChars_2_59 : decode cJ13_getChars_2 59 = .ok (.iinc 5 (-1), 3) := dk_132 5 255 (dk_at dksJ13_getChars_2_2 12 rfl rfl)
theorem dJ13_getChars_2_62 : decode cJ13_getChars_2 62 = .ok (.iload 5, 2) := dk_21 5 (dk_at dksJ13_getChars_2_2 15 rfl rfl)
theorem dJ13_getChars_2_64 : decode cJ13_getChars_2 64 = .ok (.getstatic 407, 3) := dk_178 1 151 (dk_at dksJ13_getChars_2_2 17 rfl rfl)
theorem dJ13_getChars_2_67 : decode cJ13_getChars_2 67 = .ok (.iload 4, 2) := dk_21 4 (dk_at dksJ13_getChars_2_2 20 rfl rfl)
theorem dJ13_getChars_2_69 : decode cJ13_getChars_2 69 = .ok (.baload, 1) := dk_51 (dk_at dksJ13_getChars_2_2 22 rfl rfl)
theorem dJ13_getChars_2_70 : decode cJ13_getChars_2 70 = .ok (.invokestatic 111, 3) := dk_184 0 111 (dk_at dksJ13_getChars_2_3 0 rfl rfl)
theorem dJ13_getChars_2_73 : decode cJ13_getChars_2 73 = .ok (.goto (-51), 3) := dk_167 255 205 (dk_at dksJ13_getChars_2_3 3 rfl rfl)
theorem dJ13_getChars_2_76 : decode cJ13_getChars_2 76 = .ok (.aload_n 2, 1) := dk_44 (dk_at dksJ13_getChars_2_3 6 rfl rfl)
theorem dJ13_getChars_2_77 : decode cJ13_getChars_2 77 = .ok (.iinc 5 (-1), 3) := dk_132 5 255 (dk_at dksJ13_getChars_2_3 7 rfl rfl)
theorem dJ13_getChars_2_80 : decode cJ13_getChars_2 80 = .ok (.iload 5, 2) := dk_21 5 (dk_at dksJ13_getChars_2_3 10 rfl rfl)
theorem dJ13_getChars_2_82 : decode cJ13_getChars_2 82 = .ok (.getstatic 403, 3) := dk_178 1 147 (dk_at dksJ13_getChars_2_3 12 rfl rfl)
theorem dJ13_getChars_2_85 : decode cJ13_getChars_2 85 = .ok (.iload_n 0, 1) := dk_26 (dk_at dksJ13_getChars_2_3 15 rfl rfl)
theorem dJ13_getChars_2_86 : decode cJ13_getChars_2 86 = .ok (.ineg, 1) := dk_116 (dk_at dksJ13_getChars_2_3 16 rfl rfl)
theorem dJ13_getChars_2_87 : decode cJ13_getChars_2 87 = .ok (.baload, 1) := dk_51 (dk_at dksJ13_getChars_2_3 17 rfl rfl)
theorem dJ13_getChars_2_88 : decode cJ13_getChars_2 88 = .ok (.invokestatic 111, 3) := dk_184 0 111 (dk_at dksJ13_getChars_2_3 18 rfl rfl)
theorem dJ13_getChars_2_91 : decode cJ13_getChars_2 91 = .ok (.iload_n 0, 1) := dk_26 (dk_at dksJ13_getChars_2_3 21 rfl rfl)
theorem dJ13_getChars_2_92 : decode cJ13_getChars_2 92 = .ok (.bipush (-9), 2) := dk_16 247 (dk_at dksJ13_getChars_2_3 22 rfl rfl)
theorem dJ13_getChars_2_94 : decode cJ13_getChars_2 94 = .ok (.if_icmp .ge 18, 3) := dk_162 0 18 (dk_at dksJ13_getChars_2_4 0 rfl rfl)
theorem dJ13_getChars_2_97 : decode cJ13_getChars_2 97 = .ok (.aload_n 2, 1) := dk_44 (dk_at dksJ13_getChars_2_4 3 rfl rfl)
theorem dJ13_getChars_2_98 : decode cJ13_getChars_2 98 = .ok (.iinc 5 (-1), 3) := dk_132 5 255 (dk_at dksJ13_getChars_2_4 4 rfl rfl)
theorem dJ13_getChars_2_101 : decode cJ13_getChars_2 101 = .ok (.iload 5, 2) := dk_21 5 (dk_at dksJ13_getChars_2_4 7 rfl rfl)
theorem dJ13_getChars_2_103 : decode cJ13_getChars_2 103 = .ok (.getstatic 407, 3) := dk_178 1 151 (dk_at dksJ13_getChars_2_4 9 rfl rfl)
theorem dJ13_getChars_2_106 : decode cJ13_getChars_2 106 = .ok (.iload_n 0, 1) := dk_26 (dk_at dksJ13_getChars_2_4 12 rfl rfl)
theorem dJ13_getChars_2_107 : decode cJ13_getChars_2 107 = .ok (.ineg, 1) := dk_116 (dk_at dksJ13_getChars_2_4 13 rfl rfl)
theorem dJ13_getChars_2_108 : decode cJ13_getChars_2 108 = .ok (.baload, 1) := dk_51 (dk_at dksJ13_getChars_2_4 14 rfl rfl)
theorem dJ13_getChars_2_109 : decode cJ13_getChars_2 109 = .ok (.invokestatic 111, 3) := dk_184 0 111 (dk_at dksJ13_getChars_2_4 15 rfl rfl)
theorem dJ13_getChars_2_112 : decode cJ13_getChars_2 112 = .ok (.iload 6, 2) := dk_21 6 (dk_at dksJ13_getChars_2_4 18 rfl rfl)
theorem dJ13_getChars_2_114 : decode cJ13_getChars_2 114 = .ok (.ifCond .eq 14, 3) := dk_153 0 14 (dk_at dksJ13_getChars_2_4 20 rfl rfl)
theorem dJ13_getChars_2_117 : decode cJ13_getChars_2 117 = .ok (.aload_n 2, 1) := dk_44 (dk_at dksJ13_getChars_2_4 23 rfl rfl)
theorem dJ13_getChars_2_118 : decode cJ13_getChars_2 118 = .ok (.iinc 5 (-1), 3) := dk_132 5 255 (dk_at dksJ13_getChars_2_5 0 rfl rfl)
theorem dJ13_getChars_2_121 : decode cJ13_getChars_2 121 = .ok (.iload 5, 2) := dk_21 5 (dk_at dksJ13_getChars_2_5 3 rfl rfl)
theorem dJ13_getChars_2_123 : decode cJ13_getChars_2 123 = .ok (.bipush 45, 2) := dk_16 45 (dk_at dksJ13_getChars_2_5 5 rfl rfl)
theorem dJ13_getChars_2_125 : decode cJ13_getChars_2 125 = .ok (.invokestatic 111, 3) := dk_184 0 111 (dk_at dksJ13_getChars_2_5 7 rfl rfl)
theorem dJ13_getChars_2_128 : decode cJ13_getChars_2 128 = .ok (.iload 5, 2) := dk_21 5 (dk_at dksJ13_getChars_2_5 10 rfl rfl)
theorem dJ13_getChars_2_130 : decode cJ13_getChars_2 130 = .ok (.ireturn, 1) := dk_172 (dk_at dksJ13_getChars_2_5 12 rfl rfl)
abbrev cJ13_compress : ByteArray := prog_44_method_17_code
def yJ13_compress : MethodName := ⟨RJ13, "compress", "([BII)[B"⟩
def dkwJ13_compress_2 : List UInt8 := [25, 5, 3, 45, 3, 28, 184, 0, 123, 28, 159, 0, 6, 25, 5, 176, 45, 176]
abbrev dktJ13_compress_2 : List UInt8 := dkwJ13_compress_2 ++ []
def dkwJ13_compress_1 : List UInt8 := [27, 28, 96, 184, 0, 11, 184, 0, 126, 58, 5, 25, 5, 21, 4, 184, 0, 71, 17, 0, 255, 163, 0, 16]
abbrev dktJ13_compress_1 : List UInt8 := dkwJ13_compress_1 ++ dktJ13_compress_2
def dkwJ13_compress_0 : List UInt8 := [28, 188, 8, 78, 42, 27, 45, 3, 28, 184, 0, 123, 54, 4, 21, 4, 28, 159, 0, 47, 42, 27, 4, 120]
abbrev dktJ13_compress_0 : List UInt8 := dkwJ13_compress_0 ++ dktJ13_compress_1
theorem dksJ13_compress_0 : cJ13_compress.data.toList.drop 0 = dktJ13_compress_0 := by decide +kernel
theorem dksJ13_compress_1 : cJ13_compress.data.toList.drop 24 = dktJ13_compress_1 := dk_seg dksJ13_compress_0 24 rfl rfl
theorem dksJ13_compress_2 : cJ13_compress.data.toList.drop 48 = dktJ13_compress_2 := dk_seg dksJ13_compress_1 24 rfl rfl
theorem dJ13_compress_0 : decode cJ13_compress 0 = .ok (.iload_n 2, 1) := dk_28 (dk_at dksJ13_compress_0 0 rfl rfl)
theorem dJ13_compress_1 : decode cJ13_compress 1 = .ok (.newarray .byte, 2) := dk_188_8 (dk_at dksJ13_compress_0 1 rfl rfl)
theorem dJ13_compress_3 : decode cJ13_compress 3 = .ok (.astore_n 3, 1) := dk_78 (dk_at dksJ13_compress_0 3 rfl rfl)
theorem dJ13_compress_4 : decode cJ13_compress 4 = .ok (.aload_n 0, 1) := dk_42 (dk_at dksJ13_compress_0 4 rfl rfl)
theorem dJ13_compress_5 : decode cJ13_compress 5 = .ok (.iload_n 1, 1) := dk_27 (dk_at dksJ13_compress_0 5 rfl rfl)
theorem dJ13_compress_6 : decode cJ13_compress 6 = .ok (.aload_n 3, 1) := dk_45 (dk_at dksJ13_compress_0 6 rfl rfl)
theorem dJ13_compress_7 : decode cJ13_compress 7 = .ok (.iconst 0, 1) := dk_3 (dk_at dksJ13_compress_0 7 rfl rfl)
theorem dJ13_compress_8 : decode cJ13_compress 8 = .ok (.iload_n 2, 1) := dk_28 (dk_at dksJ13_compress_0 8 rfl rfl)
theorem dJ13_compress_9 : decode cJ13_compress 9 = .ok (.invokestatic 123, 3) := dk_184 0 123 (dk_at dksJ13_compress_0 9 rfl rfl)
theorem dJ13_compress_12 : decode cJ13_compress 12 = .ok (.istore 4, 2) := dk_54 4 (dk_at dksJ13_compress_0 12 rfl rfl)
theorem dJ13_compress_14 : decode cJ13_compress 14 = .ok (.iload 4, 2) := dk_21 4 (dk_at dksJ13_compress_0 14 rfl rfl)
theorem dJ13_compress_16 : decode cJ13_compress 16 = .ok (.iload_n 2, 1) := dk_28 (dk_at dksJ13_compress_0 16 rfl rfl)
theorem dJ13_compress_17 : decode cJ13_compress 17 = .ok (.if_icmp .eq 47, 3) := dk_159 0 47 (dk_at dksJ13_compress_0 17 rfl rfl)
theorem dJ13_compress_20 : decode cJ13_compress 20 = .ok (.aload_n 0, 1) := dk_42 (dk_at dksJ13_compress_0 20 rfl rfl)
theorem dJ13_compress_21 : decode cJ13_compress 21 = .ok (.iload_n 1, 1) := dk_27 (dk_at dksJ13_compress_0 21 rfl rfl)
theorem dJ13_compress_22 : decode cJ13_compress 22 = .ok (.iconst 1, 1) := dk_4 (dk_at dksJ13_compress_0 22 rfl rfl)
theorem dJ13_compress_23 : decode cJ13_compress 23 = .ok (.ishl, 1) := dk_120 (dk_at dksJ13_compress_0 23 rfl rfl)
theorem dJ13_compress_24 : decode cJ13_compress 24 = .ok (.iload_n 1, 1) := dk_27 (dk_at dksJ13_compress_1 0 rfl rfl)
theorem dJ13_compress_25 : decode cJ13_compress 25 = .ok (.iload_n 2, 1) := dk_28 (dk_at dksJ13_compress_1 1 rfl rfl)
theorem dJ13_compress_26 : decode cJ13_compress 26 = .ok (.iadd, 1) := dk_96 (dk_at dksJ13_compress_1 2 rfl rfl)
theorem dJ13_compress_27 : decode cJ13_compress 27 = .ok (.invokestatic 11, 3) := dk_184 0 11 (dk_at dksJ13_compress_1 3 rfl rfl)
theorem dJ13_compress_30 : decode cJ13_compress 30 = .ok (.invokestatic 126, 3) := dk_184 0 126 (dk_at dksJ13_compress_1 6 rfl rfl)
theorem dJ13_compress_33 : decode cJ13_compress 33 = .ok (.astore 5, 2) := dk_58 5 (dk_at dksJ13_compress_1 9 rfl rfl)
theorem dJ13_compress_35 : decode cJ13_compress 35 = .ok (.aload 5, 2) := dk_25 5 (dk_at dksJ13_compress_1 11 rfl rfl)
theorem dJ13_compress_37 : decode cJ13_compress 37 = .ok (.iload 4, 2) := dk_21 4 (dk_at dksJ13_compress_1 13 rfl rfl)
theorem dJ13_compress_39 : decode cJ13_compress 39 = .ok (.invokestatic 71, 3) := dk_184 0 71 (dk_at dksJ13_compress_1 15 rfl rfl)
theorem dJ13_compress_42 : decode cJ13_compress 42 = .ok (.sipush 255, 3) := dk_17 0 255 (dk_at dksJ13_compress_1 18 rfl rfl)
theorem dJ13_compress_45 : decode cJ13_compress 45 = .ok (.if_icmp .gt 16, 3) := dk_163 0 16 (dk_at dksJ13_compress_1 21 rfl rfl)
theorem dJ13_compress_48 : decode cJ13_compress 48 = .ok (.aload 5, 2) := dk_25 5 (dk_at dksJ13_compress_2 0 rfl rfl)
theorem dJ13_compress_50 : decode cJ13_compress 50 = .ok (.iconst 0, 1) := dk_3 (dk_at dksJ13_compress_2 2 rfl rfl)
theorem dJ13_compress_51 : decode cJ13_compress 51 = .ok (.aload_n 3, 1) := dk_45 (dk_at dksJ13_compress_2 3 rfl rfl)
theorem dJ13_compress_52 : decode cJ13_compress 52 = .ok (.iconst 0, 1) := dk_3 (dk_at dksJ13_compress_2 4 rfl rfl)
theorem dJ13_compress_53 : decode cJ13_compress 53 = .ok (.iload_n 2, 1) := dk_28 (dk_at dksJ13_compress_2 5 rfl rfl)
theorem dJ13_compress_54 : decode cJ13_compress 54 = .ok (.invokestatic 123, 3) := dk_184 0 123 (dk_at dksJ13_compress_2 6 rfl rfl)
theorem dJ13_compress_57 : decode cJ13_compress 57 = .ok (.iload_n 2, 1) := dk_28 (dk_at dksJ13_compress_2 9 rfl rfl)
theorem dJ13_compress_58 : decode cJ13_compress 58 = .ok (.if_icmp .eq 6, 3) := dk_159 0 6 (dk_at dksJ13_compress_2 10 rfl rfl)
theorem dJ13_compress_61 : decode cJ13_compress 61 = .ok (.aload 5, 2) := dk_25 5 (dk_at dksJ13_compress_2 13 rfl rfl)
theorem dJ13_compress_63 : decode cJ13_compress 63 = .ok (.areturn, 1) := dk_176 (dk_at dksJ13_compress_2 15 rfl rfl)
theorem dJ13_compress_64 : decode cJ13_compress 64 = .ok (.aload_n 3, 1) := dk_45 (dk_at dksJ13_compress_2 16 rfl rfl)
theorem dJ13_compress_65 : decode cJ13_compress 65 = .ok (.areturn, 1) := dk_176 (dk_at dksJ13_compress_2 17 rfl rfl)
abbrev cJ13_compress_2 : ByteArray := prog_44_method_22_code
def yJ13_compress_2 : MethodName := ⟨RJ13, "compress", "([BI[BII)I"⟩
def dkwJ13_compress_2_2 : List UInt8 := [132, 5, 1, 167, 255, 216, 21, 4, 172]
abbrev dktJ13_compress_2_2 : List UInt8 := dkwJ13_compress_2_2 ++ []
def dkwJ13_compress_2_1 : List UInt8 := [21, 6, 17, 0, 255, 164, 0, 6, 21, 5, 172, 44, 29, 21, 6, 145, 84, 132, 1, 1, 132, 3, 1]
abbrev dktJ13_compress_2_1 : List UInt8 := dkwJ13_compress_2_1 ++ dktJ13_compress_2_2
def dkwJ13_compress_2_0 : List UInt8 := [27, 21, 4, 42, 184, 0, 173, 3, 54, 5, 21, 5, 21, 4, 162, 0, 39, 42, 27, 184, 0, 71, 54, 6]
abbrev dktJ13_compress_2_0 : List UInt8 := dkwJ13_compress_2_0 ++ dktJ13_compress_2_1
theorem dksJ13_compress_2_0 : cJ13_compress_2.data.toList.drop 0 = dktJ13_compress_2_0 := by decide +kernel
theorem dksJ13_compress_2_1 : cJ13_compress_2.data.toList.drop 24 = dktJ13_compress_2_1 := dk_seg dksJ13_compress_2_0 24 rfl rfl
theorem dksJ13_compress_2_2 : cJ13_compress_2.data.toList.drop 47 = dktJ13_compress_2_2 := dk_seg dksJ13_compress_2_1 23 rfl rfl
theorem dJ13_compress_2_0 : decode cJ13_compress_2 0 = .ok (.iload_n 1, 1) := dk_27 (dk_at dksJ13_compress_2_0 0 rfl rfl)
theorem dJ13_compress_2_1 : decode cJ13_compress_2 1 = .ok (.iload 4, 2) := dk_21 4 (dk_at dksJ13_compress_2_0 1 rfl rfl)
theorem dJ13_compress_2_3 : decode cJ13_compress_2 3 = .ok (.aload_n 0, 1) := dk_42 (dk_at dksJ13_compress_2_0 3 rfl rfl)
theorem dJ13_compress_2_4 : decode cJ13_compress_2 4 = .ok (.invokestatic 173, 3) := dk_184 0 173 (dk_at dksJ13_compress_2_0 4 rfl rfl)
theorem dJ13_compress_2_7 : decode cJ13_compress_2 7 = .ok (.iconst 0, 1) := dk_3 (dk_at dksJ13_compress_2_0 7 rfl rfl)
theorem dJ13_compress_2_8 : decode cJ13_compress_2 8 = .ok (.istore 5, 2) := dk_54 5 (dk_at dksJ13_compress_2_0 8 rfl rfl)
theorem dJ13_compress_2_10 : decode cJ13_compress_2 10 = .ok (.iload 5, 2) := dk_21 5 (dk_at dksJ13_compress_2_0 10 rfl rfl)
theorem dJ13_compress_2_12 : decode cJ13_compress_2 12 = .ok (.iload 4, 2) := dk_21 4 (dk_at dksJ13_compress_2_0 12 rfl rfl)
theorem dJ13_compress_2_14 : decode cJ13_compress_2 14 = .ok (.if_icmp .ge 39, 3) := dk_162 0 39 (dk_at dksJ13_compress_2_0 14 rfl rfl)
theorem dJ13_compress_2_17 : decode cJ13_compress_2 17 = .ok (.aload_n 0, 1) := dk_42 (dk_at dksJ13_compress_2_0 17 rfl rfl)
theorem dJ13_compress_2_18 : decode cJ13_compress_2 18 = .ok (.iload_n 1, 1) := dk_27 (dk_at dksJ13_compress_2_0 18 rfl rfl)
theorem dJ13_compress_2_19 : decode cJ13_compress_2 19 = .ok (.invokestatic 71, 3) := dk_184 0 71 (dk_at dksJ13_compress_2_0 19 rfl rfl)
theorem dJ13_compress_2_22 : decode cJ13_compress_2 22 = .ok (.istore 6, 2) := dk_54 6 (dk_at dksJ13_compress_2_0 22 rfl rfl)
theorem dJ13_compress_2_24 : decode cJ13_compress_2 24 = .ok (.iload 6, 2) := dk_21 6 (dk_at dksJ13_compress_2_1 0 rfl rfl)
theorem dJ13_compress_2_26 : decode cJ13_compress_2 26 = .ok (.sipush 255, 3) := dk_17 0 255 (dk_at dksJ13_compress_2_1 2 rfl rfl)
theorem dJ13_compress_2_29 : decode cJ13_compress_2 29 = .ok (.if_icmp .le 6, 3) := dk_164 0 6 (dk_at dksJ13_compress_2_1 5 rfl rfl)
theorem dJ13_compress_2_32 : decode cJ13_compress_2 32 = .ok (.iload 5, 2) := dk_21 5 (dk_at dksJ13_compress_2_1 8 rfl rfl)
theorem dJ13_compress_2_34 : decode cJ13_compress_2 34 = .ok (.ireturn, 1) := dk_172 (dk_at dksJ13_compress_2_1 10 rfl rfl)
theorem dJ13_compress_2_35 : decode cJ13_compress_2 35 = .ok (.aload_n 2, 1) := dk_44 (dk_at dksJ13_compress_2_1 11 rfl rfl)
theorem dJ13_compress_2_36 : decode cJ13_compress_2 36 = .ok (.iload_n 3, 1) := dk_29 (dk_at dksJ13_compress_2_1 12 rfl rfl)
theorem dJ13_compress_2_37 : decode cJ13_compress_2 37 = .ok (.iload 6, 2) := dk_21 6 (dk_at dksJ13_compress_2_1 13 rfl rfl)
theorem dJ13_compress_2_39 : decode cJ13_compress_2 39 = .ok (.i2b, 1) := dk_145 (dk_at dksJ13_compress_2_1 15 rfl rfl)
theorem dJ13_compress_2_40 : decode cJ13_compress_2 40 = .ok (.bastore, 1) := dk_84 (dk_at dksJ13_compress_2_1 16 rfl rfl)
theorem dJ13_compress_2_41 : decode cJ13_compress_2 41 = .ok (.iinc 1 1, 3) := dk_132 1 1 (dk_at dksJ13_compress_2_1 17 rfl rfl)
theorem dJ13_compress_2_44 : decode cJ13_compress_2 44 = .ok (.iinc 3 1, 3) := dk_132 3 1 (dk_at dksJ13_compress_2_1 20 rfl rfl)
theorem dJ13_compress_2_47 : decode cJ13_compress_2 47 = .ok (.iinc 5 1, 3) := dk_132 5 1 (dk_at dksJ13_compress_2_2 0 rfl rfl)
theorem dJ13_compress_2_50 : decode cJ13_compress_2 50 = .ok (.goto (-40), 3) := dk_167 255 216 (dk_at dksJ13_compress_2_2 3 rfl rfl)
theorem dJ13_compress_2_53 : decode cJ13_compress_2 53 = .ok (.iload 4, 2) := dk_21 4 (dk_at dksJ13_compress_2_2 6 rfl rfl)
theorem dJ13_compress_2_55 : decode cJ13_compress_2 55 = .ok (.ireturn, 1) := dk_172 (dk_at dksJ13_compress_2_2 8 rfl rfl)
abbrev cJ13_getChar : ByteArray := prog_44_method_5_code
def yJ13_getChar : MethodName := ⟨RJ13, "getChar", "([BI)C"⟩
def dkwJ13_getChar_2 : List UInt8 := [51, 17, 0, 255, 126, 178, 0, 63, 120, 128, 146, 172]
abbrev dktJ13_getChar_2 : List UInt8 := dkwJ13_getChar_2 ++ []
def dkwJ13_getChar_1 : List UInt8 := [183, 0, 56, 191, 27, 4, 120, 60, 42, 27, 132, 1, 1, 51, 17, 0, 255, 126, 178, 0, 59, 120, 42, 27]
abbrev dktJ13_getChar_1 : List UInt8 := dkwJ13_getChar_1 ++ dktJ13_getChar_2
def dkwJ13_getChar_0 : List UInt8 := [178, 0, 44, 154, 0, 25, 27, 155, 0, 11, 27, 42, 184, 0, 48, 161, 0, 13, 187, 0, 52, 89, 18, 54]
abbrev dktJ13_getChar_0 : List UInt8 := dkwJ13_getChar_0 ++ dktJ13_getChar_1
theorem dksJ13_getChar_0 : cJ13_getChar.data.toList.drop 0 = dktJ13_getChar_0 := by decide +kernel
theorem dksJ13_getChar_1 : cJ13_getChar.data.toList.drop 24 = dktJ13_getChar_1 := dk_seg dksJ13_getChar_0 24 rfl rfl
theorem dksJ13_getChar_2 : cJ13_getChar.data.toList.drop 48 = dktJ13_getChar_2 := dk_seg dksJ13_getChar_1 24 rfl rfl
theorem dJ13_getChar_0 : decode cJ13_getChar 0 = .ok (.getstatic 44, 3) := dk_178 0 44 (dk_at dksJ13_getChar_0 0 rfl rfl)
theorem dJ13_getChar_3 : decode cJ13_getChar 3 = .ok (.ifCond .ne 25, 3) := dk_154 0 25 (dk_at dksJ13_getChar_0 3 rfl rfl)
theorem dJ13_getChar_6 : decode cJ13_getChar 6 = .ok (.iload_n 1, 1) := dk_27 (dk_at dksJ13_getChar_0 6 rfl rfl)
theorem dJ13_getChar_7 : decode cJ13_getChar 7 = .ok (.ifCond .lt 11, 3) := dk_155 0 11 (dk_at dksJ13_getChar_0 7 rfl rfl)
theorem dJ13_getChar_10 : decode cJ13_getChar 10 = .ok (.iload_n 1, 1) := dk_27 (dk_at dksJ13_getChar_0 10 rfl rfl)
theorem dJ13_getChar_11 : decode cJ13_getChar 11 = .ok (.aload_n 0, 1) := dk_42 (dk_at dksJ13_getChar_0 11 rfl rfl)
theorem dJ13_getChar_12 : decode cJ13_getChar 12 = .ok (.invokestatic 48, 3) := dk_184 0 48 (dk_at dksJ13_getChar_0 12 rfl rfl)
theorem dJ13_getChar_15 : decode cJ13_getChar 15 = .ok (.if_icmp .lt 13, 3) := dk_161 0 13 (dk_at dksJ13_getChar_0 15 rfl rfl)
theorem dJ13_getChar_18 : decode cJ13_getChar 18 = .ok (.new 52, 3) := dk_187 0 52 (dk_at dksJ13_getChar_0 18 rfl rfl)
theorem dJ13_getChar_21 : decode cJ13_getChar 21 = .ok (.dup, 1) := dk_89 (dk_at dksJ13_getChar_0 21 rfl rfl)
theorem dJ13_getChar_22 : decode cJ13_getChar 22 = .ok (.ldc 54, 2) := dk_18 54 (dk_at dksJ13_getChar_0 22 rfl rfl)
theorem dJ13_getChar_24 : decode cJ13_getChar 24 = .ok (.invokespecial 56, 3) := dk_183 0 56 (dk_at dksJ13_getChar_1 0 rfl rfl)
theorem dJ13_getChar_27 : decode cJ13_getChar 27 = .ok (.athrow, 1) := dk_191 (dk_at dksJ13_getChar_1 3 rfl rfl)
theorem dJ13_getChar_28 : decode cJ13_getChar 28 = .ok (.iload_n 1, 1) := dk_27 (dk_at dksJ13_getChar_1 4 rfl rfl)
theorem dJ13_getChar_29 : decode cJ13_getChar 29 = .ok (.iconst 1, 1) := dk_4 (dk_at dksJ13_getChar_1 5 rfl rfl)
theorem dJ13_getChar_30 : decode cJ13_getChar 30 = .ok (.ishl, 1) := dk_120 (dk_at dksJ13_getChar_1 6 rfl rfl)
theorem dJ13_getChar_31 : decode cJ13_getChar 31 = .ok (.istore_n 1, 1) := dk_60 (dk_at dksJ13_getChar_1 7 rfl rfl)
theorem dJ13_getChar_32 : decode cJ13_getChar 32 = .ok (.aload_n 0, 1) := dk_42 (dk_at dksJ13_getChar_1 8 rfl rfl)
theorem dJ13_getChar_33 : decode cJ13_getChar 33 = .ok (.iload_n 1, 1) := dk_27 (dk_at dksJ13_getChar_1 9 rfl rfl)
theorem dJ13_getChar_34 : decode cJ13_getChar 34 = .ok (.iinc 1 1, 3) := dk_132 1 1 (dk_at dksJ13_getChar_1 10 rfl rfl)
theorem dJ13_getChar_37 : decode cJ13_getChar 37 = .ok (.baload, 1) := dk_51 (dk_at dksJ13_getChar_1 13 rfl rfl)
theorem dJ13_getChar_38 : decode cJ13_getChar 38 = .ok (.sipush 255, 3) := dk_17 0 255 (dk_at dksJ13_getChar_1 14 rfl rfl)
theorem dJ13_getChar_41 : decode cJ13_getChar 41 = .ok (.iand, 1) := dk_126 (dk_at dksJ13_getChar_1 17 rfl rfl)
theorem dJ13_getChar_42 : decode cJ13_getChar 42 = .ok (.getstatic 59, 3) := dk_178 0 59 (dk_at dksJ13_getChar_1 18 rfl rfl)
theorem dJ13_getChar_45 : decode cJ13_getChar 45 = .ok (.ishl, 1) := dk_120 (dk_at dksJ13_getChar_1 21 rfl rfl)
theorem dJ13_getChar_46 : decode cJ13_getChar 46 = .ok (.aload_n 0, 1) := dk_42 (dk_at dksJ13_getChar_1 22 rfl rfl)
theorem dJ13_getChar_47 : decode cJ13_getChar 47 = .ok (.iload_n 1, 1) := dk_27 (dk_at dksJ13_getChar_1 23 rfl rfl)
theorem dJ13_getChar_48 : decode cJ13_getChar 48 = .ok (.baload, 1) := dk_51 (dk_at dksJ13_getChar_2 0 rfl rfl)
theorem dJ13_getChar_49 : decode cJ13_getChar 49 = .ok (.sipush 255, 3) := dk_17 0 255 (dk_at dksJ13_getChar_2 1 rfl rfl)
theorem dJ13_getChar_52 : decode cJ13_getChar 52 = .ok (.iand, 1) := dk_126 (dk_at dksJ13_getChar_2 4 rfl rfl)
theorem dJ13_getChar_53 : decode cJ13_getChar 53 = .ok (.getstatic 63, 3) := dk_178 0 63 (dk_at dksJ13_getChar_2 5 rfl rfl)
theorem dJ13_getChar_56 : decode cJ13_getChar 56 = .ok (.ishl, 1) := dk_120 (dk_at dksJ13_getChar_2 8 rfl rfl)
theorem dJ13_getChar_57 : decode cJ13_getChar 57 = .ok (.ior, 1) := dk_128 (dk_at dksJ13_getChar_2 9 rfl rfl)
theorem dJ13_getChar_58 : decode cJ13_getChar 58 = .ok (.i2c, 1) := dk_146 (dk_at dksJ13_getChar_2 10 rfl rfl)
theorem dJ13_getChar_59 : decode cJ13_getChar 59 = .ok (.ireturn, 1) := dk_172 (dk_at dksJ13_getChar_2 11 rfl rfl)
abbrev cJ13_coderFromArrayLen : ByteArray := prog_44_method_15_code
def yJ13_coderFromArrayLen : MethodName := ⟨RJ13, "coderFromArrayLen", "([BI)B"⟩
def dkwJ13_coderFromArrayLen_0 : List UInt8 := [27, 42, 190, 100, 16, 31, 124, 145, 172]
abbrev dktJ13_coderFromArrayLen_0 : List UInt8 := dkwJ13_coderFromArrayLen_0 ++ []
theorem dksJ13_coderFromArrayLen_0 : cJ13_coderFromArrayLen.data.toList.drop 0 = dktJ13_coderFromArrayLen_0 := by decide +kernel
theorem dJ13_coderFromArrayLen_0 : decode cJ13_coderFromArrayLen 0 = .ok (.iload_n 1, 1) := dk_27 (dk_at dksJ13_coderFromArrayLen_0 0 rfl rfl)
theorem dJ13_coderFromArrayLen_1 : decode cJ13_coderFromArrayLen 1 = .ok (.aload_n 0, 1) := dk_42 (dk_at dksJ13_coderFromArrayLen_0 1 rfl rfl)
theorem dJ13_coderFromArrayLen_2 : decode cJ13_coderFromArrayLen 2 = .ok (.arraylength, 1) := dk_190 (dk_at dksJ13_coderFromArrayLen_0 2 rfl rfl)
theorem dJ13_coderFromArrayLen_3 : decode cJ13_coderFromArrayLen 3 = .ok (.isub, 1) := dk_100 (dk_at dksJ13_coderFromArrayLen_0 3 rfl rfl)
theorem dJ13_coderFromArrayLen_4 : decode cJ13_coderFromArrayLen 4 = .ok (.bipush 31, 2) := dk_16 31 (dk_at dksJ13_coderFromArrayLen_0 4 rfl rfl)
theorem dJ13_coderFromArrayLen_6 : decode cJ13_coderFromArrayLen 6 = .ok (.iushr, 1) := dk_124 (dk_at dksJ13_coderFromArrayLen_0 6 rfl rfl)
theorem dJ13_coderFromArrayLen_7 : decode cJ13_coderFromArrayLen 7 = .ok (.i2b, 1) := dk_145 (dk_at dksJ13_coderFromArrayLen_0 7 rfl rfl)
theorem dJ13_coderFromArrayLen_8 : decode cJ13_coderFromArrayLen 8 = .ok (.ireturn, 1) := dk_172 (dk_at dksJ13_coderFromArrayLen_0 8 rfl rfl)
abbrev cJ13_putCharSB : ByteArray := prog_44_method_71_code
def yJ13_putCharSB : MethodName := ⟨RJ13, "putCharSB", "([BII)V"⟩
def dkwJ13_putCharSB_0 : List UInt8 := [27, 42, 184, 0, 67, 42, 27, 28, 184, 0, 111, 177]
abbrev dktJ13_putCharSB_0 : List UInt8 := dkwJ13_putCharSB_0 ++ []
theorem dksJ13_putCharSB_0 : cJ13_putCharSB.data.toList.drop 0 = dktJ13_putCharSB_0 := by decide +kernel
theorem dJ13_putCharSB_0 : decode cJ13_putCharSB 0 = .ok (.iload_n 1, 1) := dk_27 (dk_at dksJ13_putCharSB_0 0 rfl rfl)
theorem dJ13_putCharSB_1 : decode cJ13_putCharSB 1 = .ok (.aload_n 0, 1) := dk_42 (dk_at dksJ13_putCharSB_0 1 rfl rfl)
theorem dJ13_putCharSB_2 : decode cJ13_putCharSB 2 = .ok (.invokestatic 67, 3) := dk_184 0 67 (dk_at dksJ13_putCharSB_0 2 rfl rfl)
theorem dJ13_putCharSB_5 : decode cJ13_putCharSB 5 = .ok (.aload_n 0, 1) := dk_42 (dk_at dksJ13_putCharSB_0 5 rfl rfl)
theorem dJ13_putCharSB_6 : decode cJ13_putCharSB 6 = .ok (.iload_n 1, 1) := dk_27 (dk_at dksJ13_putCharSB_0 6 rfl rfl)
theorem dJ13_putCharSB_7 : decode cJ13_putCharSB 7 = .ok (.iload_n 2, 1) := dk_28 (dk_at dksJ13_putCharSB_0 7 rfl rfl)
theorem dJ13_putCharSB_8 : decode cJ13_putCharSB 8 = .ok (.invokestatic 111, 3) := dk_184 0 111 (dk_at dksJ13_putCharSB_0 8 rfl rfl)
theorem dJ13_putCharSB_11 : decode cJ13_putCharSB 11 = .ok (.return_, 1) := dk_177 (dk_at dksJ13_putCharSB_0 11 rfl rfl)
abbrev cJ13_checkIndex : ByteArray := prog_44_method_91_code
def yJ13_checkIndex : MethodName := ⟨RJ13, "checkIndex", "(I[B)V"⟩
def dkwJ13_checkIndex_0 : List UInt8 := [26, 43, 184, 0, 48, 184, 1, 158, 177]
abbrev dktJ13_checkIndex_0 : List UInt8 := dkwJ13_checkIndex_0 ++ []
theorem dksJ13_checkIndex_0 : cJ13_checkIndex.data.toList.drop 0 = dktJ13_checkIndex_0 := by decide +kernel
theorem dJ13_checkIndex_0 : decode cJ13_checkIndex 0 = .ok (.iload_n 0, 1) := dk_26 (dk_at dksJ13_checkIndex_0 0 rfl rfl)
theorem dJ13_checkIndex_1 : decode cJ13_checkIndex 1 = .ok (.aload_n 1, 1) := dk_43 (dk_at dksJ13_checkIndex_0 1 rfl rfl)
theorem dJ13_checkIndex_2 : decode cJ13_checkIndex 2 = .ok (.invokestatic 48, 3) := dk_184 0 48 (dk_at dksJ13_checkIndex_0 2 rfl rfl)
theorem dJ13_checkIndex_5 : decode cJ13_checkIndex 5 = .ok (.invokestatic 414, 3) := dk_184 1 158 (dk_at dksJ13_checkIndex_0 5 rfl rfl)
theorem dJ13_checkIndex_8 : decode cJ13_checkIndex 8 = .ok (.return_, 1) := dk_177 (dk_at dksJ13_checkIndex_0 8 rfl rfl)
abbrev cJ13_hashCode : ByteArray := prog_44_method_39_code
def yJ13_hashCode : MethodName := ⟨RJ13, "hashCode", "([B)I"⟩
def dkwJ13_hashCode_2 : List UInt8 := [3, 167, 0, 22, 42, 3, 184, 0, 71, 167, 0, 14, 42, 3, 42, 190, 4, 122, 3, 8, 184, 0, 220, 172]
abbrev dktJ13_hashCode_2 : List UInt8 := dkwJ13_hashCode_2 ++ []
def dkwJ13_hashCode_1 : List UInt8 := [171, 0, 0, 0, 0, 38, 0, 0, 0, 2, 0, 0, 0, 0, 0, 0, 0, 26, 0, 0, 0, 2, 0, 0, 0, 30]
abbrev dktJ13_hashCode_1 : List UInt8 := dkwJ13_hashCode_1 ++ dktJ13_hashCode_2
def dkwJ13_hashCode_0 : List UInt8 := [42, 190]
abbrev dktJ13_hashCode_0 : List UInt8 := dkwJ13_hashCode_0 ++ dktJ13_hashCode_1
theorem dksJ13_hashCode_0 : cJ13_hashCode.data.toList.drop 0 = dktJ13_hashCode_0 := by decide +kernel
theorem dksJ13_hashCode_1 : cJ13_hashCode.data.toList.drop 2 = dktJ13_hashCode_1 := dk_seg dksJ13_hashCode_0 2 rfl rfl
theorem dksJ13_hashCode_2 : cJ13_hashCode.data.toList.drop 28 = dktJ13_hashCode_2 := dk_seg dksJ13_hashCode_1 26 rfl rfl
theorem dJ13_hashCode_0 : decode cJ13_hashCode 0 = .ok (.aload_n 0, 1) := dk_42 (dk_at dksJ13_hashCode_0 0 rfl rfl)
theorem dJ13_hashCode_1 : decode cJ13_hashCode 1 = .ok (.arraylength, 1) := dk_190 (dk_at dksJ13_hashCode_0 1 rfl rfl)
theorem dJ13_hashCode_2 : decode cJ13_hashCode 2 = .ok (.lookupswitch 38 #[(0, 26), (2, 30)], 26) := by decide +kernel
theorem dJ13_hashCode_28 : decode cJ13_hashCode 28 = .ok (.iconst 0, 1) := dk_3 (dk_at dksJ13_hashCode_2 0 rfl rfl)
theorem dJ13_hashCode_29 : decode cJ13_hashCode 29 = .ok (.goto 22, 3) := dk_167 0 22 (dk_at dksJ13_hashCode_2 1 rfl rfl)
theorem dJ13_hashCode_32 : decode cJ13_hashCode 32 = .ok (.aload_n 0, 1) := dk_42 (dk_at dksJ13_hashCode_2 4 rfl rfl)
theorem dJ13_hashCode_33 : decode cJ13_hashCode 33 = .ok (.iconst 0, 1) := dk_3 (dk_at dksJ13_hashCode_2 5 rfl rfl)
theorem dJ13_hashCode_34 : decode cJ13_hashCode 34 = .ok (.invokestatic 71, 3) := dk_184 0 71 (dk_at dksJ13_hashCode_2 6 rfl rfl)
theorem dJ13_hashCode_37 : decode cJ13_hashCode 37 = .ok (.goto 14, 3) := dk_167 0 14 (dk_at dksJ13_hashCode_2 9 rfl rfl)
theorem dJ13_hashCode_40 : decode cJ13_hashCode 40 = .ok (.aload_n 0, 1) := dk_42 (dk_at dksJ13_hashCode_2 12 rfl rfl)
theorem dJ13_hashCode_41 : decode cJ13_hashCode 41 = .ok (.iconst 0, 1) := dk_3 (dk_at dksJ13_hashCode_2 13 rfl rfl)
theorem dJ13_hashCode_42 : decode cJ13_hashCode 42 = .ok (.aload_n 0, 1) := dk_42 (dk_at dksJ13_hashCode_2 14 rfl rfl)
theorem dJ13_hashCode_43 : decode cJ13_hashCode 43 = .ok (.arraylength, 1) := dk_190 (dk_at dksJ13_hashCode_2 15 rfl rfl)
theorem dJ13_hashCode_44 : decode cJ13_hashCode 44 = .ok (.iconst 1, 1) := dk_4 (dk_at dksJ13_hashCode_2 16 rfl rfl)
theorem dJ13_hashCode_45 : decode cJ13_hashCode 45 = .ok (.ishr, 1) := dk_122 (dk_at dksJ13_hashCode_2 17 rfl rfl)
theorem dJ13_hashCode_46 : decode cJ13_hashCode 46 = .ok (.iconst 0, 1) := dk_3 (dk_at dksJ13_hashCode_2 18 rfl rfl)
theorem dJ13_hashCode_47 : decode cJ13_hashCode 47 = .ok (.iconst 5, 1) := dk_8 (dk_at dksJ13_hashCode_2 19 rfl rfl)
theorem dJ13_hashCode_48 : decode cJ13_hashCode 48 = .ok (.invokestatic 220, 3) := dk_184 0 220 (dk_at dksJ13_hashCode_2 20 rfl rfl)
theorem dJ13_hashCode_51 : decode cJ13_hashCode 51 = .ok (.ireturn, 1) := dk_172 (dk_at dksJ13_hashCode_2 23 rfl rfl)
abbrev cJ13_charAt : ByteArray := prog_44_method_83_code
def yJ13_charAt : MethodName := ⟨RJ13, "charAt", "([BI)C"⟩
def dkwJ13_charAt_0 : List UInt8 := [27, 42, 184, 0, 67, 42, 27, 184, 0, 71, 172]
abbrev dktJ13_charAt_0 : List UInt8 := dkwJ13_charAt_0 ++ []
theorem dksJ13_charAt_0 : cJ13_charAt.data.toList.drop 0 = dktJ13_charAt_0 := by decide +kernel
theorem dJ13_charAt_0 : decode cJ13_charAt 0 = .ok (.iload_n 1, 1) := dk_27 (dk_at dksJ13_charAt_0 0 rfl rfl)
theorem dJ13_charAt_1 : decode cJ13_charAt 1 = .ok (.aload_n 0, 1) := dk_42 (dk_at dksJ13_charAt_0 1 rfl rfl)
theorem dJ13_charAt_2 : decode cJ13_charAt 2 = .ok (.invokestatic 67, 3) := dk_184 0 67 (dk_at dksJ13_charAt_0 2 rfl rfl)
theorem dJ13_charAt_5 : decode cJ13_charAt 5 = .ok (.aload_n 0, 1) := dk_42 (dk_at dksJ13_charAt_0 5 rfl rfl)
theorem dJ13_charAt_6 : decode cJ13_charAt 6 = .ok (.iload_n 1, 1) := dk_27 (dk_at dksJ13_charAt_0 6 rfl rfl)
theorem dJ13_charAt_7 : decode cJ13_charAt 7 = .ok (.invokestatic 71, 3) := dk_184 0 71 (dk_at dksJ13_charAt_0 7 rfl rfl)
theorem dJ13_charAt_10 : decode cJ13_charAt 10 = .ok (.ireturn, 1) := dk_172 (dk_at dksJ13_charAt_0 10 rfl rfl)
theorem q168 : (Jvm.Cond.initialized "java/lang/StringUTF16") ∈ lw_all := lw_g (lw_at lw_m1 22 rfl) rfl
theorem q620 : (Jvm.Cond.static ({ cls := "java/lang/StringUTF16", name := "newBytesFor", desc := "(I)[B" } : Jvm.MethodName)) ∈ lw_all := lw_g (lw_at lw_m2 234 rfl) rfl
theorem q621 : (Jvm.Cond.code ({ cls := "java/lang/StringUTF16", name := "newBytesFor", desc := "(I)[B" } : Jvm.MethodName) prog_44_method_2_code (1 : Nat) (Option.some (Jvm.ClassFile.FieldType.array Jvm.ClassFile.FieldType.byte))) ∈ lw_all := lw_g (lw_at lw_m2 235 rfl) rfl
theorem q622 : (Jvm.Cond.methodLink "java/lang/StringUTF16" (11 : Nat) ({ cls := "java/lang/StringUTF16", name := "newBytesLength", desc := "(I)I" } : Jvm.MethodName)) ∈ lw_all := lw_g (lw_at lw_m2 236 rfl) rfl
theorem q623 : (Jvm.Cond.static ({ cls := "java/lang/StringUTF16", name := "newBytesLength", desc := "(I)I" } : Jvm.MethodName)) ∈ lw_all := lw_g (lw_at lw_m2 237 rfl) rfl
theorem q624 : (Jvm.Cond.code ({ cls := "java/lang/StringUTF16", name := "newBytesLength", desc := "(I)I" } : Jvm.MethodName) prog_44_method_3_code (1 : Nat) (Option.some Jvm.ClassFile.FieldType.int)) ∈ lw_all := lw_g (lw_at lw_m2 238 rfl) rfl
theorem q625 : (Jvm.Cond.constant "java/lang/StringUTF16" (20 : Nat) (1073741823 : Int32)) ∈ lw_all := lw_g (lw_at lw_m2 239 rfl) rfl
theorem q692 : (Jvm.Cond.static ({ cls := "java/lang/StringUTF16", name := "putCharsAt", desc := "([BICCCC)I" } : Jvm.MethodName)) ∈ lw_all := lw_g (lw_at lw_m3 66 rfl) rfl
theorem q693 : (Jvm.Cond.code ({ cls := "java/lang/StringUTF16", name := "putCharsAt", desc := "([BICCCC)I" } : Jvm.MethodName) prog_44_method_81_code (7 : Nat) (Option.some Jvm.ClassFile.FieldType.int)) ∈ lw_all := lw_g (lw_at lw_m3 67 rfl) rfl
theorem q694 : (Jvm.Cond.methodLink "java/lang/StringUTF16" (96 : Nat) ({ cls := "java/lang/StringUTF16", name := "checkBoundsBeginEnd", desc := "(II[B)V" } : Jvm.MethodName)) ∈ lw_all := lw_g (lw_at lw_m3 68 rfl) rfl
theorem q695 : (Jvm.Cond.static ({ cls := "java/lang/StringUTF16", name := "checkBoundsBeginEnd", desc := "(II[B)V" } : Jvm.MethodName)) ∈ lw_all := lw_g (lw_at lw_m3 69 rfl) rfl
theorem q696 : (Jvm.Cond.code ({ cls := "java/lang/StringUTF16", name := "checkBoundsBeginEnd", desc := "(II[B)V" } : Jvm.MethodName) prog_44_method_93_code (3 : Nat) (Option.none : Option Jvm.ClassFile.FieldType)) ∈ lw_all := lw_g (lw_at lw_m3 70 rfl) rfl
theorem q697 : (Jvm.Cond.methodLink "java/lang/StringUTF16" (48 : Nat) ({ cls := "java/lang/StringUTF16", name := "length", desc := "([B)I" } : Jvm.MethodName)) ∈ lw_all := lw_g (lw_at lw_m3 71 rfl) rfl
theorem q698 : (Jvm.Cond.static ({ cls := "java/lang/StringUTF16", name := "length", desc := "([B)I" } : Jvm.MethodName)) ∈ lw_all := lw_g (lw_at lw_m3 72 rfl) rfl
theorem q699 : (Jvm.Cond.code ({ cls := "java/lang/StringUTF16", name := "length", desc := "([B)I" } : Jvm.MethodName) prog_44_method_6_code (1 : Nat) (Option.some Jvm.ClassFile.FieldType.int)) ∈ lw_all := lw_g (lw_at lw_m3 73 rfl) rfl
theorem q700 : (Jvm.Cond.methodLink "java/lang/StringUTF16" (241 : Nat) ({ cls := "java/lang/String", name := "checkBoundsBeginEnd", desc := "(III)V" } : Jvm.MethodName)) ∈ lw_all := lw_g (lw_at lw_m3 74 rfl) rfl
theorem q708 : (Jvm.Cond.methodLink "java/lang/StringUTF16" (111 : Nat) ({ cls := "java/lang/StringUTF16", name := "putChar", desc := "([BII)V" } : Jvm.MethodName)) ∈ lw_all := lw_g (lw_at lw_m3 82 rfl) rfl
theorem q709 : (Jvm.Cond.static ({ cls := "java/lang/StringUTF16", name := "putChar", desc := "([BII)V" } : Jvm.MethodName)) ∈ lw_all := lw_g (lw_at lw_m3 83 rfl) rfl
theorem q710 : (Jvm.Cond.code ({ cls := "java/lang/StringUTF16", name := "putChar", desc := "([BII)V" } : Jvm.MethodName) prog_44_method_4_code (3 : Nat) (Option.none : Option Jvm.ClassFile.FieldType)) ∈ lw_all := lw_g (lw_at lw_m3 84 rfl) rfl
theorem q711 : (Jvm.Cond.fieldLink "java/lang/StringUTF16" (44 : Nat) "java/lang/StringUTF16" "$assertionsDisabled" "Z") ∈ lw_all := lw_g (lw_at lw_m3 85 rfl) rfl
theorem q712 : (Jvm.Cond.laysStatic "java/lang/StringUTF16" "$assertionsDisabled" "Z") ∈ lw_tbl := lw_at lw_m3 86 rfl
theorem q713 : (Jvm.Cond.fieldLink "java/lang/StringUTF16" (59 : Nat) "java/lang/StringUTF16" "HI_BYTE_SHIFT" "I") ∈ lw_all := lw_g (lw_at lw_m3 87 rfl) rfl
theorem q714 : (Jvm.Cond.laysStatic "java/lang/StringUTF16" "HI_BYTE_SHIFT" "I") ∈ lw_tbl := lw_at lw_m3 88 rfl
theorem q715 : (Jvm.Cond.fieldLink "java/lang/StringUTF16" (63 : Nat) "java/lang/StringUTF16" "LO_BYTE_SHIFT" "I") ∈ lw_all := lw_g (lw_at lw_m3 89 rfl) rfl
theorem q716 : (Jvm.Cond.laysStatic "java/lang/StringUTF16" "LO_BYTE_SHIFT" "I") ∈ lw_tbl := lw_at lw_m3 90 rfl
theorem q743 : (Jvm.Cond.static ({ cls := "java/lang/StringUTF16", name := "inflate", desc := "([BI[BII)V" } : Jvm.MethodName)) ∈ lw_all := lw_g (lw_at lw_m3 117 rfl) rfl
theorem q744 : (Jvm.Cond.code ({ cls := "java/lang/StringUTF16", name := "inflate", desc := "([BI[BII)V" } : Jvm.MethodName) prog_44_method_86_code (6 : Nat) (Option.none : Option Jvm.ClassFile.FieldType)) ∈ lw_all := lw_g (lw_at lw_m3 118 rfl) rfl
theorem q745 : (Jvm.Cond.methodLink "java/lang/StringUTF16" (173 : Nat) ({ cls := "java/lang/StringUTF16", name := "checkBoundsOffCount", desc := "(II[B)V" } : Jvm.MethodName)) ∈ lw_all := lw_g (lw_at lw_m3 119 rfl) rfl
theorem q746 : (Jvm.Cond.static ({ cls := "java/lang/StringUTF16", name := "checkBoundsOffCount", desc := "(II[B)V" } : Jvm.MethodName)) ∈ lw_all := lw_g (lw_at lw_m3 120 rfl) rfl
theorem q747 : (Jvm.Cond.code ({ cls := "java/lang/StringUTF16", name := "checkBoundsOffCount", desc := "(II[B)V" } : Jvm.MethodName) prog_44_method_94_code (3 : Nat) (Option.none : Option Jvm.ClassFile.FieldType)) ∈ lw_all := lw_g (lw_at lw_m3 121 rfl) rfl
theorem q748 : (Jvm.Cond.methodLink "java/lang/StringUTF16" (419 : Nat) ({ cls := "java/lang/String", name := "checkBoundsOffCount", desc := "(III)I" } : Jvm.MethodName)) ∈ lw_all := lw_g (lw_at lw_m3 122 rfl) rfl
theorem q778 : (Jvm.Cond.static ({ cls := "java/lang/StringUTF16", name := "getChars", desc := "(III[B)I" } : Jvm.MethodName)) ∈ lw_all := lw_g (lw_at lw_m3 152 rfl) rfl
theorem q779 : (Jvm.Cond.code ({ cls := "java/lang/StringUTF16", name := "getChars", desc := "(III[B)I" } : Jvm.MethodName) prog_44_method_77_code (5 : Nat) (Option.some Jvm.ClassFile.FieldType.int)) ∈ lw_all := lw_g (lw_at lw_m3 153 rfl) rfl
theorem q780 : (Jvm.Cond.methodLink "java/lang/StringUTF16" (393 : Nat) ({ cls := "java/lang/StringUTF16", name := "getChars", desc := "(II[B)I" } : Jvm.MethodName)) ∈ lw_all := lw_g (lw_at lw_m3 154 rfl) rfl
theorem q781 : (Jvm.Cond.static ({ cls := "java/lang/StringUTF16", name := "getChars", desc := "(II[B)I" } : Jvm.MethodName)) ∈ lw_all := lw_g (lw_at lw_m3 155 rfl) rfl
theorem q782 : (Jvm.Cond.code ({ cls := "java/lang/StringUTF16", name := "getChars", desc := "(II[B)I" } : Jvm.MethodName) prog_44_method_89_code (7 : Nat) (Option.some Jvm.ClassFile.FieldType.int)) ∈ lw_all := lw_g (lw_at lw_m3 156 rfl) rfl
theorem q783 : (Jvm.Cond.fieldLink "java/lang/StringUTF16" (403 : Nat) "java/lang/Integer" "DigitOnes" "[B") ∈ lw_all := lw_g (lw_at lw_m3 157 rfl) rfl
theorem q784 : (Jvm.Cond.fieldLink "java/lang/StringUTF16" (407 : Nat) "java/lang/Integer" "DigitTens" "[B") ∈ lw_all := lw_g (lw_at lw_m3 158 rfl) rfl
theorem q834 : (Jvm.Cond.static ({ cls := "java/lang/StringUTF16", name := "compress", desc := "([BII)[B" } : Jvm.MethodName)) ∈ lw_all := lw_g (lw_at lw_m3 208 rfl) rfl
theorem q835 : (Jvm.Cond.code ({ cls := "java/lang/StringUTF16", name := "compress", desc := "([BII)[B" } : Jvm.MethodName) prog_44_method_17_code (6 : Nat) (Option.some (Jvm.ClassFile.FieldType.array Jvm.ClassFile.FieldType.byte))) ∈ lw_all := lw_g (lw_at lw_m3 209 rfl) rfl
theorem q836 : (Jvm.Cond.methodLink "java/lang/StringUTF16" (123 : Nat) ({ cls := "java/lang/StringUTF16", name := "compress", desc := "([BI[BII)I" } : Jvm.MethodName)) ∈ lw_all := lw_g (lw_at lw_m3 210 rfl) rfl
theorem q837 : (Jvm.Cond.static ({ cls := "java/lang/StringUTF16", name := "compress", desc := "([BI[BII)I" } : Jvm.MethodName)) ∈ lw_all := lw_g (lw_at lw_m3 211 rfl) rfl
theorem q838 : (Jvm.Cond.code ({ cls := "java/lang/StringUTF16", name := "compress", desc := "([BI[BII)I" } : Jvm.MethodName) prog_44_method_22_code (7 : Nat) (Option.some Jvm.ClassFile.FieldType.int)) ∈ lw_all := lw_g (lw_at lw_m3 212 rfl) rfl
theorem q839 : (Jvm.Cond.methodLink "java/lang/StringUTF16" (71 : Nat) ({ cls := "java/lang/StringUTF16", name := "getChar", desc := "([BI)C" } : Jvm.MethodName)) ∈ lw_all := lw_g (lw_at lw_m3 213 rfl) rfl
theorem q840 : (Jvm.Cond.static ({ cls := "java/lang/StringUTF16", name := "getChar", desc := "([BI)C" } : Jvm.MethodName)) ∈ lw_all := lw_g (lw_at lw_m3 214 rfl) rfl
theorem q841 : (Jvm.Cond.code ({ cls := "java/lang/StringUTF16", name := "getChar", desc := "([BI)C" } : Jvm.MethodName) prog_44_method_5_code (2 : Nat) (Option.some Jvm.ClassFile.FieldType.char)) ∈ lw_all := lw_g (lw_at lw_m3 215 rfl) rfl
theorem q842 : (Jvm.Cond.methodLink "java/lang/StringUTF16" (126 : Nat) ({ cls := "java/util/Arrays", name := "copyOfRange", desc := "([BII)[B" } : Jvm.MethodName)) ∈ lw_all := lw_g (lw_at lw_m3 216 rfl) rfl
theorem q844 : (Jvm.Cond.static ({ cls := "java/lang/StringUTF16", name := "coderFromArrayLen", desc := "([BI)B" } : Jvm.MethodName)) ∈ lw_all := lw_g (lw_at lw_m3 218 rfl) rfl
theorem q845 : (Jvm.Cond.code ({ cls := "java/lang/StringUTF16", name := "coderFromArrayLen", desc := "([BI)B" } : Jvm.MethodName) prog_44_method_15_code (2 : Nat) (Option.some Jvm.ClassFile.FieldType.byte)) ∈ lw_all := lw_g (lw_at lw_m3 219 rfl) rfl
theorem q956 : (Jvm.Cond.static ({ cls := "java/lang/StringUTF16", name := "putCharSB", desc := "([BII)V" } : Jvm.MethodName)) ∈ lw_all := lw_g (lw_at lw_m4 90 rfl) rfl
theorem q957 : (Jvm.Cond.code ({ cls := "java/lang/StringUTF16", name := "putCharSB", desc := "([BII)V" } : Jvm.MethodName) prog_44_method_71_code (3 : Nat) (Option.none : Option Jvm.ClassFile.FieldType)) ∈ lw_all := lw_g (lw_at lw_m4 91 rfl) rfl
theorem q958 : (Jvm.Cond.methodLink "java/lang/StringUTF16" (67 : Nat) ({ cls := "java/lang/StringUTF16", name := "checkIndex", desc := "(I[B)V" } : Jvm.MethodName)) ∈ lw_all := lw_g (lw_at lw_m4 92 rfl) rfl
theorem q959 : (Jvm.Cond.static ({ cls := "java/lang/StringUTF16", name := "checkIndex", desc := "(I[B)V" } : Jvm.MethodName)) ∈ lw_all := lw_g (lw_at lw_m4 93 rfl) rfl
theorem q960 : (Jvm.Cond.code ({ cls := "java/lang/StringUTF16", name := "checkIndex", desc := "(I[B)V" } : Jvm.MethodName) prog_44_method_91_code (2 : Nat) (Option.none : Option Jvm.ClassFile.FieldType)) ∈ lw_all := lw_g (lw_at lw_m4 94 rfl) rfl
theorem q961 : (Jvm.Cond.methodLink "java/lang/StringUTF16" (414 : Nat) ({ cls := "java/lang/String", name := "checkIndex", desc := "(II)V" } : Jvm.MethodName)) ∈ lw_all := lw_g (lw_at lw_m4 95 rfl) rfl
theorem q1108 : (Jvm.Cond.static ({ cls := "java/lang/StringUTF16", name := "hashCode", desc := "([B)I" } : Jvm.MethodName)) ∈ lw_all := lw_g (lw_at lw_m5 2 rfl) rfl
theorem q1109 : (Jvm.Cond.code ({ cls := "java/lang/StringUTF16", name := "hashCode", desc := "([B)I" } : Jvm.MethodName) prog_44_method_39_code (1 : Nat) (Option.some Jvm.ClassFile.FieldType.int)) ∈ lw_all := lw_g (lw_at lw_m5 3 rfl) rfl
theorem q1110 : (Jvm.Cond.methodLink "java/lang/StringUTF16" (220 : Nat) ({ cls := "jdk/internal/util/ArraysSupport", name := "vectorizedHashCode", desc := "(Ljava/lang/Object;IIII)I" } : Jvm.MethodName)) ∈ lw_all := lw_g (lw_at lw_m5 4 rfl) rfl
theorem q2356 : (Jvm.Cond.static ({ cls := "java/lang/StringUTF16", name := "charAt", desc := "([BI)C" } : Jvm.MethodName)) ∈ lw_all := lw_g (lw_at lw_m10 50 rfl) rfl
theorem q2357 : (Jvm.Cond.code ({ cls := "java/lang/StringUTF16", name := "charAt", desc := "([BI)C" } : Jvm.MethodName) prog_44_method_83_code (2 : Nat) (Option.some Jvm.ClassFile.FieldType.char)) ∈ lw_all := lw_g (lw_at lw_m10 51 rfl) rfl

/-! jdk/internal/util/ArraysSupport -/
set_option maxRecDepth 100000
def RJ14 : String := "jdk/internal/util/ArraysSupport"
abbrev cJ14_newLength : ByteArray := prog_65_method_27_code
def yJ14_newLength : MethodName := ⟨RJ14, "newLength", "(III)I"⟩
def dkwJ14_newLength_1 : List UInt8 := [184, 0, 201, 172]
abbrev dktJ14_newLength_1 : List UInt8 := dkwJ14_newLength_1 ++ []
def dkwJ14_newLength_0 : List UInt8 := [26, 27, 28, 184, 0, 194, 96, 62, 3, 29, 162, 0, 11, 29, 18, 200, 163, 0, 5, 29, 172, 26, 27]
abbrev dktJ14_newLength_0 : List UInt8 := dkwJ14_newLength_0 ++ dktJ14_newLength_1
theorem dksJ14_newLength_0 : cJ14_newLength.data.toList.drop 0 = dktJ14_newLength_0 := by decide +kernel
theorem dksJ14_newLength_1 : cJ14_newLength.data.toList.drop 23 = dktJ14_newLength_1 := dk_seg dksJ14_newLength_0 23 rfl rfl
theorem dJ14_newLength_0 : decode cJ14_newLength 0 = .ok (.iload_n 0, 1) := dk_26 (dk_at dksJ14_newLength_0 0 rfl rfl)
theorem dJ14_newLength_1 : decode cJ14_newLength 1 = .ok (.iload_n 1, 1) := dk_27 (dk_at dksJ14_newLength_0 1 rfl rfl)
theorem dJ14_newLength_2 : decode cJ14_newLength 2 = .ok (.iload_n 2, 1) := dk_28 (dk_at dksJ14_newLength_0 2 rfl rfl)
theorem dJ14_newLength_3 : decode cJ14_newLength 3 = .ok (.invokestatic 194, 3) := dk_184 0 194 (dk_at dksJ14_newLength_0 3 rfl rfl)
theorem dJ14_newLength_6 : decode cJ14_newLength 6 = .ok (.iadd, 1) := dk_96 (dk_at dksJ14_newLength_0 6 rfl rfl)
theorem dJ14_newLength_7 : decode cJ14_newLength 7 = .ok (.istore_n 3, 1) := dk_62 (dk_at dksJ14_newLength_0 7 rfl rfl)
theorem dJ14_newLength_8 : decode cJ14_newLength 8 = .ok (.iconst 0, 1) := dk_3 (dk_at dksJ14_newLength_0 8 rfl rfl)
theorem dJ14_newLength_9 : decode cJ14_newLength 9 = .ok (.iload_n 3, 1) := dk_29 (dk_at dksJ14_newLength_0 9 rfl rfl)
theorem dJ14_newLength_10 : decode cJ14_newLength 10 = .ok (.if_icmp .ge 11, 3) := dk_162 0 11 (dk_at dksJ14_newLength_0 10 rfl rfl)
theorem dJ14_newLength_13 : decode cJ14_newLength 13 = .ok (.iload_n 3, 1) := dk_29 (dk_at dksJ14_newLength_0 13 rfl rfl)
theorem dJ14_newLength_14 : decode cJ14_newLength 14 = .ok (.ldc 200, 2) := dk_18 200 (dk_at dksJ14_newLength_0 14 rfl rfl)
theorem dJ14_newLength_16 : decode cJ14_newLength 16 = .ok (.if_icmp .gt 5, 3) := dk_163 0 5 (dk_at dksJ14_newLength_0 16 rfl rfl)
theorem dJ14_newLength_19 : decode cJ14_newLength 19 = .ok (.iload_n 3, 1) := dk_29 (dk_at dksJ14_newLength_0 19 rfl rfl)
theorem dJ14_newLength_20 : decode cJ14_newLength 20 = .ok (.ireturn, 1) := dk_172 (dk_at dksJ14_newLength_0 20 rfl rfl)
theorem dJ14_newLength_21 : decode cJ14_newLength 21 = .ok (.iload_n 0, 1) := dk_26 (dk_at dksJ14_newLength_0 21 rfl rfl)
theorem dJ14_newLength_22 : decode cJ14_newLength 22 = .ok (.iload_n 1, 1) := dk_27 (dk_at dksJ14_newLength_0 22 rfl rfl)
theorem dJ14_newLength_23 : decode cJ14_newLength 23 = .ok (.invokestatic 201, 3) := dk_184 0 201 (dk_at dksJ14_newLength_1 0 rfl rfl)
theorem dJ14_newLength_26 : decode cJ14_newLength 26 = .ok (.ireturn, 1) := dk_172 (dk_at dksJ14_newLength_1 3 rfl rfl)
abbrev cJ14_hugeLength : ByteArray := prog_65_method_28_code
def yJ14_hugeLength : MethodName := ⟨RJ14, "hugeLength", "(II)I"⟩
def dkwJ14_hugeLength_2 : List UInt8 := [191, 28, 18, 200, 163, 0, 6, 18, 200, 172, 28, 172]
abbrev dktJ14_hugeLength_2 : List UInt8 := dkwJ14_hugeLength_2 ++ []
def dkwJ14_hugeLength_1 : List UInt8 := [26, 182, 0, 98, 18, 208, 182, 0, 94, 27, 182, 0, 98, 18, 210, 182, 0, 94, 182, 0, 101, 183, 0, 212]
abbrev dktJ14_hugeLength_1 : List UInt8 := dkwJ14_hugeLength_1 ++ dktJ14_hugeLength_2
def dkwJ14_hugeLength_0 : List UInt8 := [26, 27, 96, 61, 28, 156, 0, 44, 187, 0, 204, 89, 187, 0, 89, 89, 183, 0, 91, 18, 206, 182, 0, 94]
abbrev dktJ14_hugeLength_0 : List UInt8 := dkwJ14_hugeLength_0 ++ dktJ14_hugeLength_1
theorem dksJ14_hugeLength_0 : cJ14_hugeLength.data.toList.drop 0 = dktJ14_hugeLength_0 := by decide +kernel
theorem dksJ14_hugeLength_1 : cJ14_hugeLength.data.toList.drop 24 = dktJ14_hugeLength_1 := dk_seg dksJ14_hugeLength_0 24 rfl rfl
theorem dksJ14_hugeLength_2 : cJ14_hugeLength.data.toList.drop 48 = dktJ14_hugeLength_2 := dk_seg dksJ14_hugeLength_1 24 rfl rfl
theorem dJ14_hugeLength_0 : decode cJ14_hugeLength 0 = .ok (.iload_n 0, 1) := dk_26 (dk_at dksJ14_hugeLength_0 0 rfl rfl)
theorem dJ14_hugeLength_1 : decode cJ14_hugeLength 1 = .ok (.iload_n 1, 1) := dk_27 (dk_at dksJ14_hugeLength_0 1 rfl rfl)
theorem dJ14_hugeLength_2 : decode cJ14_hugeLength 2 = .ok (.iadd, 1) := dk_96 (dk_at dksJ14_hugeLength_0 2 rfl rfl)
theorem dJ14_hugeLength_3 : decode cJ14_hugeLength 3 = .ok (.istore_n 2, 1) := dk_61 (dk_at dksJ14_hugeLength_0 3 rfl rfl)
theorem dJ14_hugeLength_4 : decode cJ14_hugeLength 4 = .ok (.iload_n 2, 1) := dk_28 (dk_at dksJ14_hugeLength_0 4 rfl rfl)
theorem dJ14_hugeLength_5 : decode cJ14_hugeLength 5 = .ok (.ifCond .ge 44, 3) := dk_156 0 44 (dk_at dksJ14_hugeLength_0 5 rfl rfl)
theorem dJ14_hugeLength_8 : decode cJ14_hugeLength 8 = .ok (.new 204, 3) := dk_187 0 204 (dk_at dksJ14_hugeLength_0 8 rfl rfl)
theorem dJ14_hugeLength_11 : decode cJ14_hugeLength 11 = .ok (.dup, 1) := dk_89 (dk_at dksJ14_hugeLength_0 11 rfl rfl)
theorem dJ14_hugeLength_12 : decode cJ14_hugeLength 12 = .ok (.new 89, 3) := dk_187 0 89 (dk_at dksJ14_hugeLength_0 12 rfl rfl)
theorem dJ14_hugeLength_15 : decode cJ14_hugeLength 15 = .ok (.dup, 1) := dk_89 (dk_at dksJ14_hugeLength_0 15 rfl rfl)
theorem dJ14_hugeLength_16 : decode cJ14_hugeLength 16 = .ok (.invokespecial 91, 3) := dk_183 0 91 (dk_at dksJ14_hugeLength_0 16 rfl rfl)
theorem dJ14_hugeLength_19 : decode cJ14_hugeLength 19 = .ok (.ldc 206, 2) := dk_18 206 (dk_at dksJ14_hugeLength_0 19 rfl rfl)
theorem dJ14_hugeLength_21 : decode cJ14_hugeLength 21 = .ok (.invokevirtual 94, 3) := dk_182 0 94 (dk_at dksJ14_hugeLength_0 21 rfl rfl)
theorem dJ14_hugeLength_24 : decode cJ14_hugeLength 24 = .ok (.iload_n 0, 1) := dk_26 (dk_at dksJ14_hugeLength_1 0 rfl rfl)
theorem dJ14_hugeLength_25 : decode cJ14_hugeLength 25 = .ok (.invokevirtual 98, 3) := dk_182 0 98 (dk_at dksJ14_hugeLength_1 1 rfl rfl)
theorem dJ14_hugeLength_28 : decode cJ14_hugeLength 28 = .ok (.ldc 208, 2) := dk_18 208 (dk_at dksJ14_hugeLength_1 4 rfl rfl)
theorem dJ14_hugeLength_30 : decode cJ14_hugeLength 30 = .ok (.invokevirtual 94, 3) := dk_182 0 94 (dk_at dksJ14_hugeLength_1 6 rfl rfl)
theorem dJ14_hugeLength_33 : decode cJ14_hugeLength 33 = .ok (.iload_n 1, 1) := dk_27 (dk_at dksJ14_hugeLength_1 9 rfl rfl)
theorem dJ14_hugeLength_34 : decode cJ14_hugeLength 34 = .ok (.invokevirtual 98, 3) := dk_182 0 98 (dk_at dksJ14_hugeLength_1 10 rfl rfl)
theorem dJ14_hugeLength_37 : decode cJ14_hugeLength 37 = .ok (.ldc 210, 2) := dk_18 210 (dk_at dksJ14_hugeLength_1 13 rfl rfl)
theorem dJ14_hugeLength_39 : decode cJ14_hugeLength 39 = .ok (.invokevirtual 94, 3) := dk_182 0 94 (dk_at dksJ14_hugeLength_1 15 rfl rfl)
theorem dJ14_hugeLength_42 : decode cJ14_hugeLength 42 = .ok (.invokevirtual 101, 3) := dk_182 0 101 (dk_at dksJ14_hugeLength_1 18 rfl rfl)
theorem dJ14_hugeLength_45 : decode cJ14_hugeLength 45 = .ok (.invokespecial 212, 3) := dk_183 0 212 (dk_at dksJ14_hugeLength_1 21 rfl rfl)
theorem dJ14_hugeLength_48 : decode cJ14_hugeLength 48 = .ok (.athrow, 1) := dk_191 (dk_at dksJ14_hugeLength_2 0 rfl rfl)
theorem dJ14_hugeLength_49 : decode cJ14_hugeLength 49 = .ok (.iload_n 2, 1) := dk_28 (dk_at dksJ14_hugeLength_2 1 rfl rfl)
theorem dJ14_hugeLength_50 : decode cJ14_hugeLength 50 = .ok (.ldc 200, 2) := dk_18 200 (dk_at dksJ14_hugeLength_2 2 rfl rfl)
theorem dJ14_hugeLength_52 : decode cJ14_hugeLength 52 = .ok (.if_icmp .gt 6, 3) := dk_163 0 6 (dk_at dksJ14_hugeLength_2 4 rfl rfl)
theorem dJ14_hugeLength_55 : decode cJ14_hugeLength 55 = .ok (.ldc 200, 2) := dk_18 200 (dk_at dksJ14_hugeLength_2 7 rfl rfl)
theorem dJ14_hugeLength_57 : decode cJ14_hugeLength 57 = .ok (.ireturn, 1) := dk_172 (dk_at dksJ14_hugeLength_2 9 rfl rfl)
theorem dJ14_hugeLength_58 : decode cJ14_hugeLength 58 = .ok (.iload_n 2, 1) := dk_28 (dk_at dksJ14_hugeLength_2 10 rfl rfl)
theorem dJ14_hugeLength_59 : decode cJ14_hugeLength 59 = .ok (.ireturn, 1) := dk_172 (dk_at dksJ14_hugeLength_2 11 rfl rfl)
abbrev cJ14_vectorizedHashCode : ByteArray := prog_65_method_4_code
def yJ14_vectorizedHashCode : MethodName := ⟨RJ14, "vectorizedHashCode", "(Ljava/lang/Object;IIII)I"⟩
def dkwJ14_vectorizedHashCode_6 : List UInt8 := [183, 0, 91, 18, 92, 182, 0, 94, 21, 4, 182, 0, 98, 182, 0, 101, 183, 0, 105, 191, 172]
abbrev dktJ14_vectorizedHashCode_6 : List UInt8 := dkwJ14_vectorizedHashCode_6 ++ []
def dkwJ14_vectorizedHashCode_5 : List UInt8 := [167, 0, 44, 29, 42, 192, 0, 82, 27, 28, 184, 0, 84, 167, 0, 31, 187, 0, 87, 89, 187, 0, 89, 89]
abbrev dktJ14_vectorizedHashCode_5 : List UInt8 := dkwJ14_vectorizedHashCode_5 ++ dktJ14_vectorizedHashCode_6
def dkwJ14_vectorizedHashCode_4 : List UInt8 := [29, 42, 192, 0, 60, 27, 28, 184, 0, 75, 167, 0, 57, 29, 42, 192, 0, 77, 27, 28, 184, 0, 79]
abbrev dktJ14_vectorizedHashCode_4 : List UInt8 := dkwJ14_vectorizedHashCode_4 ++ dktJ14_vectorizedHashCode_5
def dkwJ14_vectorizedHashCode_3 : List UInt8 := [192, 0, 60, 27, 28, 184, 0, 66, 167, 0, 83, 29, 42, 192, 0, 69, 27, 28, 184, 0, 71, 167, 0, 70]
abbrev dktJ14_vectorizedHashCode_3 : List UInt8 := dkwJ14_vectorizedHashCode_3 ++ dktJ14_vectorizedHashCode_4
def dkwJ14_vectorizedHashCode_2 : List UInt8 := [29, 42, 192, 0, 60, 27, 28, 184, 0, 62, 167, 0, 103, 42, 193, 0, 60, 153, 0, 16, 29, 42]
abbrev dktJ14_vectorizedHashCode_2 : List UInt8 := dkwJ14_vectorizedHashCode_2 ++ dktJ14_vectorizedHashCode_3
def dkwJ14_vectorizedHashCode_1 : List UInt8 := [170, 0, 0, 0, 0, 127, 0, 0, 0, 4, 0, 0, 0, 10, 0, 0, 0, 42, 0, 0, 0, 55, 0, 0, 0, 127, 0, 0, 0, 127, 0, 0, 0, 88, 0, 0, 0, 101, 0, 0, 0, 114]
abbrev dktJ14_vectorizedHashCode_1 : List UInt8 := dkwJ14_vectorizedHashCode_1 ++ dktJ14_vectorizedHashCode_2
def dkwJ14_vectorizedHashCode_0 : List UInt8 := [21, 4]
abbrev dktJ14_vectorizedHashCode_0 : List UInt8 := dkwJ14_vectorizedHashCode_0 ++ dktJ14_vectorizedHashCode_1
theorem dksJ14_vectorizedHashCode_0 : cJ14_vectorizedHashCode.data.toList.drop 0 = dktJ14_vectorizedHashCode_0 := by decide +kernel
theorem dksJ14_vectorizedHashCode_1 : cJ14_vectorizedHashCode.data.toList.drop 2 = dktJ14_vectorizedHashCode_1 := dk_seg dksJ14_vectorizedHashCode_0 2 rfl rfl
theorem dksJ14_vectorizedHashCode_2 : cJ14_vectorizedHashCode.data.toList.drop 44 = dktJ14_vectorizedHashCode_2 := dk_seg dksJ14_vectorizedHashCode_1 42 rfl rfl
theorem dksJ14_vectorizedHashCode_3 : cJ14_vectorizedHashCode.data.toList.drop 66 = dktJ14_vectorizedHashCode_3 := dk_seg dksJ14_vectorizedHashCode_2 22 rfl rfl
theorem dksJ14_vectorizedHashCode_4 : cJ14_vectorizedHashCode.data.toList.drop 90 = dktJ14_vectorizedHashCode_4 := dk_seg dksJ14_vectorizedHashCode_3 24 rfl rfl
theorem dksJ14_vectorizedHashCode_5 : cJ14_vectorizedHashCode.data.toList.drop 113 = dktJ14_vectorizedHashCode_5 := dk_seg dksJ14_vectorizedHashCode_4 23 rfl rfl
theorem dksJ14_vectorizedHashCode_6 : cJ14_vectorizedHashCode.data.toList.drop 137 = dktJ14_vectorizedHashCode_6 := dk_seg dksJ14_vectorizedHashCode_5 24 rfl rfl
theorem dJ14_vectorizedHashCode_0 : decode cJ14_vectorizedHashCode 0 = .ok (.iload 4, 2) := dk_21 4 (dk_at dksJ14_vectorizedHashCode_0 0 rfl rfl)
theorem dJ14_vectorizedHashCode_2 : decode cJ14_vectorizedHashCode 2 = .ok (.tableswitch 127 4 10 #[42, 55, 127, 127, 88, 101, 114], 42) := by decide +kernel
theorem dJ14_vectorizedHashCode_44 : decode cJ14_vectorizedHashCode 44 = .ok (.iload_n 3, 1) := dk_29 (dk_at dksJ14_vectorizedHashCode_2 0 rfl rfl)
theorem dJ14_vectorizedHashCode_45 : decode cJ14_vectorizedHashCode 45 = .ok (.aload_n 0, 1) := dk_42 (dk_at dksJ14_vectorizedHashCode_2 1 rfl rfl)
theorem dJ14_vectorizedHashCode_46 : decode cJ14_vectorizedHashCode 46 = .ok (.checkcast 60, 3) := dk_192 0 60 (dk_at dksJ14_vectorizedHashCode_2 2 rfl rfl)
theorem dJ14_vectorizedHashCode_49 : decode cJ14_vectorizedHashCode 49 = .ok (.iload_n 1, 1) := dk_27 (dk_at dksJ14_vectorizedHashCode_2 5 rfl rfl)
theorem dJ14_vectorizedHashCode_50 : decode cJ14_vectorizedHashCode 50 = .ok (.iload_n 2, 1) := dk_28 (dk_at dksJ14_vectorizedHashCode_2 6 rfl rfl)
theorem dJ14_vectorizedHashCode_51 : decode cJ14_vectorizedHashCode 51 = .ok (.invokestatic 62, 3) := dk_184 0 62 (dk_at dksJ14_vectorizedHashCode_2 7 rfl rfl)
theorem dJ14_vectorizedHashCode_54 : decode cJ14_vectorizedHashCode 54 = .ok (.goto 103, 3) := dk_167 0 103 (dk_at dksJ14_vectorizedHashCode_2 10 rfl rfl)
theorem dJ14_vectorizedHashCode_57 : decode cJ14_vectorizedHashCode 57 = .ok (.aload_n 0, 1) := dk_42 (dk_at dksJ14_vectorizedHashCode_2 13 rfl rfl)
theorem dJ14_vectorizedHashCode_58 : decode cJ14_vectorizedHashCode 58 = .ok (.instanceof 60, 3) := dk_193 0 60 (dk_at dksJ14_vectorizedHashCode_2 14 rfl rfl)
theorem dJ14_vectorizedHashCode_61 : decode cJ14_vectorizedHashCode 61 = .ok (.ifCond .eq 16, 3) := dk_153 0 16 (dk_at dksJ14_vectorizedHashCode_2 17 rfl rfl)
theorem dJ14_vectorizedHashCode_64 : decode cJ14_vectorizedHashCode 64 = .ok (.iload_n 3, 1) := dk_29 (dk_at dksJ14_vectorizedHashCode_2 20 rfl rfl)
theorem dJ14_vectorizedHashCode_65 : decode cJ14_vectorizedHashCode 65 = .ok (.aload_n 0, 1) := dk_42 (dk_at dksJ14_vectorizedHashCode_2 21 rfl rfl)
theorem dJ14_vectorizedHashCode_66 : decode cJ14_vectorizedHashCode 66 = .ok (.checkcast 60, 3) := dk_192 0 60 (dk_at dksJ14_vectorizedHashCode_3 0 rfl rfl)
theorem dJ14_vectorizedHashCode_69 : decode cJ14_vectorizedHashCode 69 = .ok (.iload_n 1, 1) := dk_27 (dk_at dksJ14_vectorizedHashCode_3 3 rfl rfl)
theorem dJ14_vectorizedHashCode_70 : decode cJ14_vectorizedHashCode 70 = .ok (.iload_n 2, 1) := dk_28 (dk_at dksJ14_vectorizedHashCode_3 4 rfl rfl)
theorem dJ14_vectorizedHashCode_71 : decode cJ14_vectorizedHashCode 71 = .ok (.invokestatic 66, 3) := dk_184 0 66 (dk_at dksJ14_vectorizedHashCode_3 5 rfl rfl)
theorem dJ14_vectorizedHashCode_74 : decode cJ14_vectorizedHashCode 74 = .ok (.goto 83, 3) := dk_167 0 83 (dk_at dksJ14_vectorizedHashCode_3 8 rfl rfl)
theorem dJ14_vectorizedHashCode_77 : decode cJ14_vectorizedHashCode 77 = .ok (.iload_n 3, 1) := dk_29 (dk_at dksJ14_vectorizedHashCode_3 11 rfl rfl)
theorem dJ14_vectorizedHashCode_78 : decode cJ14_vectorizedHashCode 78 = .ok (.aload_n 0, 1) := dk_42 (dk_at dksJ14_vectorizedHashCode_3 12 rfl rfl)
theorem dJ14_vectorizedHashCode_79 : decode cJ14_vectorizedHashCode 79 = .ok (.checkcast 69, 3) := dk_192 0 69 (dk_at dksJ14_vectorizedHashCode_3 13 rfl rfl)
theorem dJ14_vectorizedHashCode_82 : decode cJ14_vectorizedHashCode 82 = .ok (.iload_n 1, 1) := dk_27 (dk_at dksJ14_vectorizedHashCode_3 16 rfl rfl)
theorem dJ14_vectorizedHashCode_83 : decode cJ14_vectorizedHashCode 83 = .ok (.iload_n 2, 1) := dk_28 (dk_at dksJ14_vectorizedHashCode_3 17 rfl rfl)
theorem dJ14_vectorizedHashCode_84 : decode cJ14_vectorizedHashCode 84 = .ok (.invokestatic 71, 3) := dk_184 0 71 (dk_at dksJ14_vectorizedHashCode_3 18 rfl rfl)
theorem dJ14_vectorizedHashCode_87 : decode cJ14_vectorizedHashCode 87 = .ok (.goto 70, 3) := dk_167 0 70 (dk_at dksJ14_vectorizedHashCode_3 21 rfl rfl)
theorem dJ14_vectorizedHashCode_90 : decode cJ14_vectorizedHashCode 90 = .ok (.iload_n 3, 1) := dk_29 (dk_at dksJ14_vectorizedHashCode_4 0 rfl rfl)
theorem dJ14_vectorizedHashCode_91 : decode cJ14_vectorizedHashCode 91 = .ok (.aload_n 0, 1) := dk_42 (dk_at dksJ14_vectorizedHashCode_4 1 rfl rfl)
theorem dJ14_vectorizedHashCode_92 : decode cJ14_vectorizedHashCode 92 = .ok (.checkcast 60, 3) := dk_192 0 60 (dk_at dksJ14_vectorizedHashCode_4 2 rfl rfl)
theorem dJ14_vectorizedHashCode_95 : decode cJ14_vectorizedHashCode 95 = .ok (.iload_n 1, 1) := dk_27 (dk_at dksJ14_vectorizedHashCode_4 5 rfl rfl)
theorem dJ14_vectorizedHashCode_96 : decode cJ14_vectorizedHashCode 96 = .ok (.iload_n 2, 1) := dk_28 (dk_at dksJ14_vectorizedHashCode_4 6 rfl rfl)
theorem dJ14_vectorizedHashCode_97 : decode cJ14_vectorizedHashCode 97 = .ok (.invokestatic 75, 3) := dk_184 0 75 (dk_at dksJ14_vectorizedHashCode_4 7 rfl rfl)
theorem dJ14_vectorizedHashCode_100 : decode cJ14_vectorizedHashCode 100 = .ok (.goto 57, 3) := dk_167 0 57 (dk_at dksJ14_vectorizedHashCode_4 10 rfl rfl)
theorem dJ14_vectorizedHashCode_103 : decode cJ14_vectorizedHashCode 103 = .ok (.iload_n 3, 1) := dk_29 (dk_at dksJ14_vectorizedHashCode_4 13 rfl rfl)
theorem dJ14_vectorizedHashCode_104 : decode cJ14_vectorizedHashCode 104 = .ok (.aload_n 0, 1) := dk_42 (dk_at dksJ14_vectorizedHashCode_4 14 rfl rfl)
theorem dJ14_vectorizedHashCode_105 : decode cJ14_vectorizedHashCode 105 = .ok (.checkcast 77, 3) := dk_192 0 77 (dk_at dksJ14_vectorizedHashCode_4 15 rfl rfl)
theorem dJ14_vectorizedHashCode_108 : decode cJ14_vectorizedHashCode 108 = .ok (.iload_n 1, 1) := dk_27 (dk_at dksJ14_vectorizedHashCode_4 18 rfl rfl)
theorem dJ14_vectorizedHashCode_109 : decode cJ14_vectorizedHashCode 109 = .ok (.iload_n 2, 1) := dk_28 (dk_at dksJ14_vectorizedHashCode_4 19 rfl rfl)
theorem dJ14_vectorizedHashCode_110 : decode cJ14_vectorizedHashCode 110 = .ok (.invokestatic 79, 3) := dk_184 0 79 (dk_at dksJ14_vectorizedHashCode_4 20 rfl rfl)
theorem dJ14_vectorizedHashCode_113 : decode cJ14_vectorizedHashCode 113 = .ok (.goto 44, 3) := dk_167 0 44 (dk_at dksJ14_vectorizedHashCode_5 0 rfl rfl)
theorem dJ14_vectorizedHashCode_116 : decode cJ14_vectorizedHashCode 116 = .ok (.iload_n 3, 1) := dk_29 (dk_at dksJ14_vectorizedHashCode_5 3 rfl rfl)
theorem dJ14_vectorizedHashCode_117 : decode cJ14_vectorizedHashCode 117 = .ok (.aload_n 0, 1) := dk_42 (dk_at dksJ14_vectorizedHashCode_5 4 rfl rfl)
theorem dJ14_vectorizedHashCode_118 : decode cJ14_vectorizedHashCode 118 = .ok (.checkcast 82, 3) := dk_192 0 82 (dk_at dksJ14_vectorizedHashCode_5 5 rfl rfl)
theorem dJ14_vectorizedHashCode_121 : decode cJ14_vectorizedHashCode 121 = .ok (.iload_n 1, 1) := dk_27 (dk_at dksJ14_vectorizedHashCode_5 8 rfl rfl)
theorem dJ14_vectorizedHashCode_122 : decode cJ14_vectorizedHashCode 122 = .ok (.iload_n 2, 1) := dk_28 (dk_at dksJ14_vectorizedHashCode_5 9 rfl rfl)
theorem dJ14_vectorizedHashCode_123 : decode cJ14_vectorizedHashCode 123 = .ok (.invokestatic 84, 3) := dk_184 0 84 (dk_at dksJ14_vectorizedHashCode_5 10 rfl rfl)
theorem dJ14_vectorizedHashCode_126 : decode cJ14_vectorizedHashCode 126 = .ok (.goto 31, 3) := dk_167 0 31 (dk_at dksJ14_vectorizedHashCode_5 13 rfl rfl)
theorem dJ14_vectorizedHashCode_129 : decode cJ14_vectorizedHashCode 129 = .ok (.new 87, 3) := dk_187 0 87 (dk_at dksJ14_vectorizedHashCode_5 16 rfl rfl)
theorem dJ14_vectorizedHashCode_132 : decode cJ14_vectorizedHashCode 132 = .ok (.dup, 1) := dk_89 (dk_at dksJ14_vectorizedHashCode_5 19 rfl rfl)
theorem dJ14_vectorizedHashCode_133 : decode cJ14_vectorizedHashCode 133 = .ok (.new 89, 3) := dk_187 0 89 (dk_at dksJ14_vectorizedHashCode_5 20 rfl rfl)
theorem dJ14_vectorizedHashCode_136 : decode cJ14_vectorizedHashCode 136 = .ok (.dup, 1) := dk_89 (dk_at dksJ14_vectorizedHashCode_5 23 rfl rfl)
theorem dJ14_vectorizedHashCode_137 : decode cJ14_vectorizedHashCode 137 = .ok (.invokespecial 91, 3) := dk_183 0 91 (dk_at dksJ14_vectorizedHashCode_6 0 rfl rfl)
theorem dJ14_vectorizedHashCode_140 : decode cJ14_vectorizedHashCode 140 = .ok (.ldc 92, 2) := dk_18 92 (dk_at dksJ14_vectorizedHashCode_6 3 rfl rfl)
theorem dJ14_vectorizedHashCode_142 : decode cJ14_vectorizedHashCode 142 = .ok (.invokevirtual 94, 3) := dk_182 0 94 (dk_at dksJ14_vectorizedHashCode_6 5 rfl rfl)
theorem dJ14_vectorizedHashCode_145 : decode cJ14_vectorizedHashCode 145 = .ok (.iload 4, 2) := dk_21 4 (dk_at dksJ14_vectorizedHashCode_6 8 rfl rfl)
theorem dJ14_vectorizedHashCode_147 : decode cJ14_vectorizedHashCode 147 = .ok (.invokevirtual 98, 3) := dk_182 0 98 (dk_at dksJ14_vectorizedHashCode_6 10 rfl rfl)
theorem dJ14_vectorizedHashCode_150 : decode cJ14_vectorizedHashCode 150 = .ok (.invokevirtual 101, 3) := dk_182 0 101 (dk_at dksJ14_vectorizedHashCode_6 13 rfl rfl)
theorem dJ14_vectorizedHashCode_153 : decode cJ14_vectorizedHashCode 153 = .ok (.invokespecial 105, 3) := dk_183 0 105 (dk_at dksJ14_vectorizedHashCode_6 16 rfl rfl)
theorem dJ14_vectorizedHashCode_156 : decode cJ14_vectorizedHashCode 156 = .ok (.athrow, 1) := dk_191 (dk_at dksJ14_vectorizedHashCode_6 19 rfl rfl)
theorem dJ14_vectorizedHashCode_157 : decode cJ14_vectorizedHashCode 157 = .ok (.ireturn, 1) := dk_172 (dk_at dksJ14_vectorizedHashCode_6 20 rfl rfl)
abbrev cJ14_signedHashCode : ByteArray := prog_65_method_5_code
def yJ14_signedHashCode : MethodName := ⟨RJ14, "signedHashCode", "(I[BII)I"⟩
def dkwJ14_signedHashCode_1 : List UInt8 := [17, 0, 255, 126, 96, 59, 132, 5, 1, 167, 255, 232, 26, 172]
abbrev dktJ14_signedHashCode_1 : List UInt8 := dkwJ14_signedHashCode_1 ++ []
def dkwJ14_signedHashCode_0 : List UInt8 := [28, 29, 96, 54, 4, 28, 54, 5, 21, 5, 21, 4, 162, 0, 23, 16, 31, 26, 104, 43, 21, 5, 51]
abbrev dktJ14_signedHashCode_0 : List UInt8 := dkwJ14_signedHashCode_0 ++ dktJ14_signedHashCode_1
theorem dksJ14_signedHashCode_0 : cJ14_signedHashCode.data.toList.drop 0 = dktJ14_signedHashCode_0 := by decide +kernel
theorem dksJ14_signedHashCode_1 : cJ14_signedHashCode.data.toList.drop 23 = dktJ14_signedHashCode_1 := dk_seg dksJ14_signedHashCode_0 23 rfl rfl
theorem dJ14_signedHashCode_0 : decode cJ14_signedHashCode 0 = .ok (.iload_n 2, 1) := dk_28 (dk_at dksJ14_signedHashCode_0 0 rfl rfl)
theorem dJ14_signedHashCode_1 : decode cJ14_signedHashCode 1 = .ok (.iload_n 3, 1) := dk_29 (dk_at dksJ14_signedHashCode_0 1 rfl rfl)
theorem dJ14_signedHashCode_2 : decode cJ14_signedHashCode 2 = .ok (.iadd, 1) := dk_96 (dk_at dksJ14_signedHashCode_0 2 rfl rfl)
theorem dJ14_signedHashCode_3 : decode cJ14_signedHashCode 3 = .ok (.istore 4, 2) := dk_54 4 (dk_at dksJ14_signedHashCode_0 3 rfl rfl)
theorem dJ14_signedHashCode_5 : decode cJ14_signedHashCode 5 = .ok (.iload_n 2, 1) := dk_28 (dk_at dksJ14_signedHashCode_0 5 rfl rfl)
theorem dJ14_signedHashCode_6 : decode cJ14_signedHashCode 6 = .ok (.istore 5, 2) := dk_54 5 (dk_at dksJ14_signedHashCode_0 6 rfl rfl)
theorem dJ14_signedHashCode_8 : decode cJ14_signedHashCode 8 = .ok (.iload 5, 2) := dk_21 5 (dk_at dksJ14_signedHashCode_0 8 rfl rfl)
theorem dJ14_signedHashCode_10 : decode cJ14_signedHashCode 10 = .ok (.iload 4, 2) := dk_21 4 (dk_at dksJ14_signedHashCode_0 10 rfl rfl)
theorem dJ14_signedHashCode_12 : decode cJ14_signedHashCode 12 = .ok (.if_icmp .ge 23, 3) := dk_162 0 23 (dk_at dksJ14_signedHashCode_0 12 rfl rfl)
theorem dJ14_signedHashCode_15 : decode cJ14_signedHashCode 15 = .ok (.bipush 31, 2) := dk_16 31 (dk_at dksJ14_signedHashCode_0 15 rfl rfl)
theorem dJ14_signedHashCode_17 : decode cJ14_signedHashCode 17 = .ok (.iload_n 0, 1) := dk_26 (dk_at dksJ14_signedHashCode_0 17 rfl rfl)
theorem dJ14_signedHashCode_18 : decode cJ14_signedHashCode 18 = .ok (.imul, 1) := dk_104 (dk_at dksJ14_signedHashCode_0 18 rfl rfl)
theorem dJ14_signedHashCode_19 : decode cJ14_signedHashCode 19 = .ok (.aload_n 1, 1) := dk_43 (dk_at dksJ14_signedHashCode_0 19 rfl rfl)
theorem dJ14_signedHashCode_20 : decode cJ14_signedHashCode 20 = .ok (.iload 5, 2) := dk_21 5 (dk_at dksJ14_signedHashCode_0 20 rfl rfl)
theorem dJ14_signedHashCode_22 : decode cJ14_signedHashCode 22 = .ok (.baload, 1) := dk_51 (dk_at dksJ14_signedHashCode_0 22 rfl rfl)
theorem dJ14_signedHashCode_23 : decode cJ14_signedHashCode 23 = .ok (.sipush 255, 3) := dk_17 0 255 (dk_at dksJ14_signedHashCode_1 0 rfl rfl)
theorem dJ14_signedHashCode_26 : decode cJ14_signedHashCode 26 = .ok (.iand, 1) := dk_126 (dk_at dksJ14_signedHashCode_1 3 rfl rfl)
theorem dJ14_signedHashCode_27 : decode cJ14_signedHashCode 27 = .ok (.iadd, 1) := dk_96 (dk_at dksJ14_signedHashCode_1 4 rfl rfl)
theorem dJ14_signedHashCode_28 : decode cJ14_signedHashCode 28 = .ok (.istore_n 0, 1) := dk_59 (dk_at dksJ14_signedHashCode_1 5 rfl rfl)
theorem dJ14_signedHashCode_29 : decode cJ14_signedHashCode 29 = .ok (.iinc 5 1, 3) := dk_132 5 1 (dk_at dksJ14_signedHashCode_1 6 rfl rfl)
theorem dJ14_signedHashCode_32 : decode cJ14_signedHashCode 32 = .ok (.goto (-24), 3) := dk_167 255 232 (dk_at dksJ14_signedHashCode_1 9 rfl rfl)
theorem dJ14_signedHashCode_35 : decode cJ14_signedHashCode 35 = .ok (.iload_n 0, 1) := dk_26 (dk_at dksJ14_signedHashCode_1 12 rfl rfl)
theorem dJ14_signedHashCode_36 : decode cJ14_signedHashCode 36 = .ok (.ireturn, 1) := dk_172 (dk_at dksJ14_signedHashCode_1 13 rfl rfl)
abbrev cJ14_utf16hashCode : ByteArray := prog_65_method_10_code
def yJ14_utf16hashCode : MethodName := ⟨RJ14, "utf16hashCode", "(I[BII)I"⟩
def dkwJ14_utf16hashCode_1 : List UInt8 := [21, 5, 185, 0, 110, 3, 0, 96, 59, 132, 5, 1, 167, 255, 229, 26, 172]
abbrev dktJ14_utf16hashCode_1 : List UInt8 := dkwJ14_utf16hashCode_1 ++ []
def dkwJ14_utf16hashCode_0 : List UInt8 := [28, 29, 96, 54, 4, 28, 54, 5, 21, 5, 21, 4, 162, 0, 26, 16, 31, 26, 104, 178, 0, 106, 43]
abbrev dktJ14_utf16hashCode_0 : List UInt8 := dkwJ14_utf16hashCode_0 ++ dktJ14_utf16hashCode_1
theorem dksJ14_utf16hashCode_0 : cJ14_utf16hashCode.data.toList.drop 0 = dktJ14_utf16hashCode_0 := by decide +kernel
theorem dksJ14_utf16hashCode_1 : cJ14_utf16hashCode.data.toList.drop 23 = dktJ14_utf16hashCode_1 := dk_seg dksJ14_utf16hashCode_0 23 rfl rfl
theorem dJ14_utf16hashCode_0 : decode cJ14_utf16hashCode 0 = .ok (.iload_n 2, 1) := dk_28 (dk_at dksJ14_utf16hashCode_0 0 rfl rfl)
theorem dJ14_utf16hashCode_1 : decode cJ14_utf16hashCode 1 = .ok (.iload_n 3, 1) := dk_29 (dk_at dksJ14_utf16hashCode_0 1 rfl rfl)
theorem dJ14_utf16hashCode_2 : decode cJ14_utf16hashCode 2 = .ok (.iadd, 1) := dk_96 (dk_at dksJ14_utf16hashCode_0 2 rfl rfl)
theorem dJ14_utf16hashCode_3 : decode cJ14_utf16hashCode 3 = .ok (.istore 4, 2) := dk_54 4 (dk_at dksJ14_utf16hashCode_0 3 rfl rfl)
theorem dJ14_utf16hashCode_5 : decode cJ14_utf16hashCode 5 = .ok (.iload_n 2, 1) := dk_28 (dk_at dksJ14_utf16hashCode_0 5 rfl rfl)
theorem dJ14_utf16hashCode_6 : decode cJ14_utf16hashCode 6 = .ok (.istore 5, 2) := dk_54 5 (dk_at dksJ14_utf16hashCode_0 6 rfl rfl)
theorem dJ14_utf16hashCode_8 : decode cJ14_utf16hashCode 8 = .ok (.iload 5, 2) := dk_21 5 (dk_at dksJ14_utf16hashCode_0 8 rfl rfl)
theorem dJ14_utf16hashCode_10 : decode cJ14_utf16hashCode 10 = .ok (.iload 4, 2) := dk_21 4 (dk_at dksJ14_utf16hashCode_0 10 rfl rfl)
theorem dJ14_utf16hashCode_12 : decode cJ14_utf16hashCode 12 = .ok (.if_icmp .ge 26, 3) := dk_162 0 26 (dk_at dksJ14_utf16hashCode_0 12 rfl rfl)
theorem dJ14_utf16hashCode_15 : decode cJ14_utf16hashCode 15 = .ok (.bipush 31, 2) := dk_16 31 (dk_at dksJ14_utf16hashCode_0 15 rfl rfl)
theorem dJ14_utf16hashCode_17 : decode cJ14_utf16hashCode 17 = .ok (.iload_n 0, 1) := dk_26 (dk_at dksJ14_utf16hashCode_0 17 rfl rfl)
theorem dJ14_utf16hashCode_18 : decode cJ14_utf16hashCode 18 = .ok (.imul, 1) := dk_104 (dk_at dksJ14_utf16hashCode_0 18 rfl rfl)
theorem dJ14_utf16hashCode_19 : decode cJ14_utf16hashCode 19 = .ok (.getstatic 106, 3) := dk_178 0 106 (dk_at dksJ14_utf16hashCode_0 19 rfl rfl)
theorem dJ14_utf16hashCode_22 : decode cJ14_utf16hashCode 22 = .ok (.aload_n 1, 1) := dk_43 (dk_at dksJ14_utf16hashCode_0 22 rfl rfl)
theorem dJ14_utf16hashCode_23 : decode cJ14_utf16hashCode 23 = .ok (.iload 5, 2) := dk_21 5 (dk_at dksJ14_utf16hashCode_1 0 rfl rfl)
theorem dJ14_utf16hashCode_25 : decode cJ14_utf16hashCode 25 = .ok (.invokeinterface 110 3, 5) := by decide +kernel
theorem dJ14_utf16hashCode_30 : decode cJ14_utf16hashCode 30 = .ok (.iadd, 1) := dk_96 (dk_at dksJ14_utf16hashCode_1 7 rfl rfl)
theorem dJ14_utf16hashCode_31 : decode cJ14_utf16hashCode 31 = .ok (.istore_n 0, 1) := dk_59 (dk_at dksJ14_utf16hashCode_1 8 rfl rfl)
theorem dJ14_utf16hashCode_32 : decode cJ14_utf16hashCode 32 = .ok (.iinc 5 1, 3) := dk_132 5 1 (dk_at dksJ14_utf16hashCode_1 9 rfl rfl)
theorem dJ14_utf16hashCode_35 : decode cJ14_utf16hashCode 35 = .ok (.goto (-27), 3) := dk_167 255 229 (dk_at dksJ14_utf16hashCode_1 12 rfl rfl)
theorem dJ14_utf16hashCode_38 : decode cJ14_utf16hashCode 38 = .ok (.iload_n 0, 1) := dk_26 (dk_at dksJ14_utf16hashCode_1 15 rfl rfl)
theorem dJ14_utf16hashCode_39 : decode cJ14_utf16hashCode 39 = .ok (.ireturn, 1) := dk_172 (dk_at dksJ14_utf16hashCode_1 16 rfl rfl)
abbrev cJ14_hashCode : ByteArray := prog_65_method_7_code
def yJ14_hashCode : MethodName := ⟨RJ14, "hashCode", "(I[CII)I"⟩
def dkwJ14_hashCode_1 : List UInt8 := [59, 132, 5, 1, 167, 255, 236, 26, 172]
abbrev dktJ14_hashCode_1 : List UInt8 := dkwJ14_hashCode_1 ++ []
def dkwJ14_hashCode_0 : List UInt8 := [28, 29, 96, 54, 4, 28, 54, 5, 21, 5, 21, 4, 162, 0, 19, 16, 31, 26, 104, 43, 21, 5, 52, 96]
abbrev dktJ14_hashCode_0 : List UInt8 := dkwJ14_hashCode_0 ++ dktJ14_hashCode_1
theorem dksJ14_hashCode_0 : cJ14_hashCode.data.toList.drop 0 = dktJ14_hashCode_0 := by decide +kernel
theorem dksJ14_hashCode_1 : cJ14_hashCode.data.toList.drop 24 = dktJ14_hashCode_1 := dk_seg dksJ14_hashCode_0 24 rfl rfl
theorem dJ14_hashCode_0 : decode cJ14_hashCode 0 = .ok (.iload_n 2, 1) := dk_28 (dk_at dksJ14_hashCode_0 0 rfl rfl)
theorem dJ14_hashCode_1 : decode cJ14_hashCode 1 = .ok (.iload_n 3, 1) := dk_29 (dk_at dksJ14_hashCode_0 1 rfl rfl)
theorem dJ14_hashCode_2 : decode cJ14_hashCode 2 = .ok (.iadd, 1) := dk_96 (dk_at dksJ14_hashCode_0 2 rfl rfl)
theorem dJ14_hashCode_3 : decode cJ14_hashCode 3 = .ok (.istore 4, 2) := dk_54 4 (dk_at dksJ14_hashCode_0 3 rfl rfl)
theorem dJ14_hashCode_5 : decode cJ14_hashCode 5 = .ok (.iload_n 2, 1) := dk_28 (dk_at dksJ14_hashCode_0 5 rfl rfl)
theorem dJ14_hashCode_6 : decode cJ14_hashCode 6 = .ok (.istore 5, 2) := dk_54 5 (dk_at dksJ14_hashCode_0 6 rfl rfl)
theorem dJ14_hashCode_8 : decode cJ14_hashCode 8 = .ok (.iload 5, 2) := dk_21 5 (dk_at dksJ14_hashCode_0 8 rfl rfl)
theorem dJ14_hashCode_10 : decode cJ14_hashCode 10 = .ok (.iload 4, 2) := dk_21 4 (dk_at dksJ14_hashCode_0 10 rfl rfl)
theorem dJ14_hashCode_12 : decode cJ14_hashCode 12 = .ok (.if_icmp .ge 19, 3) := dk_162 0 19 (dk_at dksJ14_hashCode_0 12 rfl rfl)
theorem dJ14_hashCode_15 : decode cJ14_hashCode 15 = .ok (.bipush 31, 2) := dk_16 31 (dk_at dksJ14_hashCode_0 15 rfl rfl)
theorem dJ14_hashCode_17 : decode cJ14_hashCode 17 = .ok (.iload_n 0, 1) := dk_26 (dk_at dksJ14_hashCode_0 17 rfl rfl)
theorem dJ14_hashCode_18 : decode cJ14_hashCode 18 = .ok (.imul, 1) := dk_104 (dk_at dksJ14_hashCode_0 18 rfl rfl)
theorem dJ14_hashCode_19 : decode cJ14_hashCode 19 = .ok (.aload_n 1, 1) := dk_43 (dk_at dksJ14_hashCode_0 19 rfl rfl)
theorem dJ14_hashCode_20 : decode cJ14_hashCode 20 = .ok (.iload 5, 2) := dk_21 5 (dk_at dksJ14_hashCode_0 20 rfl rfl)
theorem dJ14_hashCode_22 : decode cJ14_hashCode 22 = .ok (.caload, 1) := dk_52 (dk_at dksJ14_hashCode_0 22 rfl rfl)
theorem dJ14_hashCode_23 : decode cJ14_hashCode 23 = .ok (.iadd, 1) := dk_96 (dk_at dksJ14_hashCode_0 23 rfl rfl)
theorem dJ14_hashCode_24 : decode cJ14_hashCode 24 = .ok (.istore_n 0, 1) := dk_59 (dk_at dksJ14_hashCode_1 0 rfl rfl)
theorem dJ14_hashCode_25 : decode cJ14_hashCode 25 = .ok (.iinc 5 1, 3) := dk_132 5 1 (dk_at dksJ14_hashCode_1 1 rfl rfl)
theorem dJ14_hashCode_28 : decode cJ14_hashCode 28 = .ok (.goto (-20), 3) := dk_167 255 236 (dk_at dksJ14_hashCode_1 4 rfl rfl)
theorem dJ14_hashCode_31 : decode cJ14_hashCode 31 = .ok (.iload_n 0, 1) := dk_26 (dk_at dksJ14_hashCode_1 7 rfl rfl)
theorem dJ14_hashCode_32 : decode cJ14_hashCode 32 = .ok (.ireturn, 1) := dk_172 (dk_at dksJ14_hashCode_1 8 rfl rfl)
abbrev cJ14_hashCode_2 : ByteArray := prog_65_method_6_code
def yJ14_hashCode_2 : MethodName := ⟨RJ14, "hashCode", "(I[BII)I"⟩
def dkwJ14_hashCode_2_1 : List UInt8 := [59, 132, 5, 1, 167, 255, 236, 26, 172]
abbrev dktJ14_hashCode_2_1 : List UInt8 := dkwJ14_hashCode_2_1 ++ []
def dkwJ14_hashCode_2_0 : List UInt8 := [28, 29, 96, 54, 4, 28, 54, 5, 21, 5, 21, 4, 162, 0, 19, 16, 31, 26, 104, 43, 21, 5, 51, 96]
abbrev dktJ14_hashCode_2_0 : List UInt8 := dkwJ14_hashCode_2_0 ++ dktJ14_hashCode_2_1
theorem dksJ14_hashCode_2_0 : cJ14_hashCode_2.data.toList.drop 0 = dktJ14_hashCode_2_0 := by decide +kernel
theorem dksJ14_hashCode_2_1 : cJ14_hashCode_2.data.toList.drop 24 = dktJ14_hashCode_2_1 := dk_seg dksJ14_hashCode_2_0 24 rfl rfl
theorem dJ14_hashCode_2_0 : decode cJ14_hashCode_2 0 = .ok (.iload_n 2, 1) := dk_28 (dk_at dksJ14_hashCode_2_0 0 rfl rfl)
theorem dJ14_hashCode_2_1 : decode cJ14_hashCode_2 1 = .ok (.iload_n 3, 1) := dk_29 (dk_at dksJ14_hashCode_2_0 1 rfl rfl)
theorem dJ14_hashCode_2_2 : decode cJ14_hashCode_2 2 = .ok (.iadd, 1) := dk_96 (dk_at dksJ14_hashCode_2_0 2 rfl rfl)
theorem dJ14_hashCode_2_3 : decode cJ14_hashCode_2 3 = .ok (.istore 4, 2) := dk_54 4 (dk_at dksJ14_hashCode_2_0 3 rfl rfl)
theorem dJ14_hashCode_2_5 : decode cJ14_hashCode_2 5 = .ok (.iload_n 2, 1) := dk_28 (dk_at dksJ14_hashCode_2_0 5 rfl rfl)
theorem dJ14_hashCode_2_6 : decode cJ14_hashCode_2 6 = .ok (.istore 5, 2) := dk_54 5 (dk_at dksJ14_hashCode_2_0 6 rfl rfl)
theorem dJ14_hashCode_2_8 : decode cJ14_hashCode_2 8 = .ok (.iload 5, 2) := dk_21 5 (dk_at dksJ14_hashCode_2_0 8 rfl rfl)
theorem dJ14_hashCode_2_10 : decode cJ14_hashCode_2 10 = .ok (.iload 4, 2) := dk_21 4 (dk_at dksJ14_hashCode_2_0 10 rfl rfl)
theorem dJ14_hashCode_2_12 : decode cJ14_hashCode_2 12 = .ok (.if_icmp .ge 19, 3) := dk_162 0 19 (dk_at dksJ14_hashCode_2_0 12 rfl rfl)
theorem dJ14_hashCode_2_15 : decode cJ14_hashCode_2 15 = .ok (.bipush 31, 2) := dk_16 31 (dk_at dksJ14_hashCode_2_0 15 rfl rfl)
theorem dJ14_hashCode_2_17 : decode cJ14_hashCode_2 17 = .ok (.iload_n 0, 1) := dk_26 (dk_at dksJ14_hashCode_2_0 17 rfl rfl)
theorem dJ14_hashCode_2_18 : decode cJ14_hashCode_2 18 = .ok (.imul, 1) := dk_104 (dk_at dksJ14_hashCode_2_0 18 rfl rfl)
theorem dJ14_hashCode_2_19 : decode cJ14_hashCode_2 19 = .ok (.aload_n 1, 1) := dk_43 (dk_at dksJ14_hashCode_2_0 19 rfl rfl)
theorem dJ14_hashCode_2_20 : decode cJ14_hashCode_2 20 = .ok (.iload 5, 2) := dk_21 5 (dk_at dksJ14_hashCode_2_0 20 rfl rfl)
theorem dJ14_hashCode_2_22 : decode cJ14_hashCode_2 22 = .ok (.baload, 1) := dk_51 (dk_at dksJ14_hashCode_2_0 22 rfl rfl)
theorem dJ14_hashCode_2_23 : decode cJ14_hashCode_2 23 = .ok (.iadd, 1) := dk_96 (dk_at dksJ14_hashCode_2_0 23 rfl rfl)
theorem dJ14_hashCode_2_24 : decode cJ14_hashCode_2 24 = .ok (.istore_n 0, 1) := dk_59 (dk_at dksJ14_hashCode_2_1 0 rfl rfl)
theorem dJ14_hashCode_2_25 : decode cJ14_hashCode_2 25 = .ok (.iinc 5 1, 3) := dk_132 5 1 (dk_at dksJ14_hashCode_2_1 1 rfl rfl)
theorem dJ14_hashCode_2_28 : decode cJ14_hashCode_2 28 = .ok (.goto (-20), 3) := dk_167 255 236 (dk_at dksJ14_hashCode_2_1 4 rfl rfl)
theorem dJ14_hashCode_2_31 : decode cJ14_hashCode_2 31 = .ok (.iload_n 0, 1) := dk_26 (dk_at dksJ14_hashCode_2_1 7 rfl rfl)
theorem dJ14_hashCode_2_32 : decode cJ14_hashCode_2 32 = .ok (.ireturn, 1) := dk_172 (dk_at dksJ14_hashCode_2_1 8 rfl rfl)
abbrev cJ14_hashCode_3 : ByteArray := prog_65_method_8_code
def yJ14_hashCode_3 : MethodName := ⟨RJ14, "hashCode", "(I[SII)I"⟩
def dkwJ14_hashCode_3_1 : List UInt8 := [59, 132, 5, 1, 167, 255, 236, 26, 172]
abbrev dktJ14_hashCode_3_1 : List UInt8 := dkwJ14_hashCode_3_1 ++ []
def dkwJ14_hashCode_3_0 : List UInt8 := [28, 29, 96, 54, 4, 28, 54, 5, 21, 5, 21, 4, 162, 0, 19, 16, 31, 26, 104, 43, 21, 5, 53, 96]
abbrev dktJ14_hashCode_3_0 : List UInt8 := dkwJ14_hashCode_3_0 ++ dktJ14_hashCode_3_1
theorem dksJ14_hashCode_3_0 : cJ14_hashCode_3.data.toList.drop 0 = dktJ14_hashCode_3_0 := by decide +kernel
theorem dksJ14_hashCode_3_1 : cJ14_hashCode_3.data.toList.drop 24 = dktJ14_hashCode_3_1 := dk_seg dksJ14_hashCode_3_0 24 rfl rfl
theorem dJ14_hashCode_3_0 : decode cJ14_hashCode_3 0 = .ok (.iload_n 2, 1) := dk_28 (dk_at dksJ14_hashCode_3_0 0 rfl rfl)
theorem dJ14_hashCode_3_1 : decode cJ14_hashCode_3 1 = .ok (.iload_n 3, 1) := dk_29 (dk_at dksJ14_hashCode_3_0 1 rfl rfl)
theorem dJ14_hashCode_3_2 : decode cJ14_hashCode_3 2 = .ok (.iadd, 1) := dk_96 (dk_at dksJ14_hashCode_3_0 2 rfl rfl)
theorem dJ14_hashCode_3_3 : decode cJ14_hashCode_3 3 = .ok (.istore 4, 2) := dk_54 4 (dk_at dksJ14_hashCode_3_0 3 rfl rfl)
theorem dJ14_hashCode_3_5 : decode cJ14_hashCode_3 5 = .ok (.iload_n 2, 1) := dk_28 (dk_at dksJ14_hashCode_3_0 5 rfl rfl)
theorem dJ14_hashCode_3_6 : decode cJ14_hashCode_3 6 = .ok (.istore 5, 2) := dk_54 5 (dk_at dksJ14_hashCode_3_0 6 rfl rfl)
theorem dJ14_hashCode_3_8 : decode cJ14_hashCode_3 8 = .ok (.iload 5, 2) := dk_21 5 (dk_at dksJ14_hashCode_3_0 8 rfl rfl)
theorem dJ14_hashCode_3_10 : decode cJ14_hashCode_3 10 = .ok (.iload 4, 2) := dk_21 4 (dk_at dksJ14_hashCode_3_0 10 rfl rfl)
theorem dJ14_hashCode_3_12 : decode cJ14_hashCode_3 12 = .ok (.if_icmp .ge 19, 3) := dk_162 0 19 (dk_at dksJ14_hashCode_3_0 12 rfl rfl)
theorem dJ14_hashCode_3_15 : decode cJ14_hashCode_3 15 = .ok (.bipush 31, 2) := dk_16 31 (dk_at dksJ14_hashCode_3_0 15 rfl rfl)
theorem dJ14_hashCode_3_17 : decode cJ14_hashCode_3 17 = .ok (.iload_n 0, 1) := dk_26 (dk_at dksJ14_hashCode_3_0 17 rfl rfl)
theorem dJ14_hashCode_3_18 : decode cJ14_hashCode_3 18 = .ok (.imul, 1) := dk_104 (dk_at dksJ14_hashCode_3_0 18 rfl rfl)
theorem dJ14_hashCode_3_19 : decode cJ14_hashCode_3 19 = .ok (.aload_n 1, 1) := dk_43 (dk_at dksJ14_hashCode_3_0 19 rfl rfl)
theorem dJ14_hashCode_3_20 : decode cJ14_hashCode_3 20 = .ok (.iload 5, 2) := dk_21 5 (dk_at dksJ14_hashCode_3_0 20 rfl rfl)
theorem dJ14_hashCode_3_22 : decode cJ14_hashCode_3 22 = .ok (.saload, 1) := dk_53 (dk_at dksJ14_hashCode_3_0 22 rfl rfl)
theorem dJ14_hashCode_3_23 : decode cJ14_hashCode_3 23 = .ok (.iadd, 1) := dk_96 (dk_at dksJ14_hashCode_3_0 23 rfl rfl)
theorem dJ14_hashCode_3_24 : decode cJ14_hashCode_3 24 = .ok (.istore_n 0, 1) := dk_59 (dk_at dksJ14_hashCode_3_1 0 rfl rfl)
theorem dJ14_hashCode_3_25 : decode cJ14_hashCode_3 25 = .ok (.iinc 5 1, 3) := dk_132 5 1 (dk_at dksJ14_hashCode_3_1 1 rfl rfl)
theorem dJ14_hashCode_3_28 : decode cJ14_hashCode_3 28 = .ok (.goto (-20), 3) := dk_167 255 236 (dk_at dksJ14_hashCode_3_1 4 rfl rfl)
theorem dJ14_hashCode_3_31 : decode cJ14_hashCode_3 31 = .ok (.iload_n 0, 1) := dk_26 (dk_at dksJ14_hashCode_3_1 7 rfl rfl)
theorem dJ14_hashCode_3_32 : decode cJ14_hashCode_3 32 = .ok (.ireturn, 1) := dk_172 (dk_at dksJ14_hashCode_3_1 8 rfl rfl)
abbrev cJ14_hashCode_4 : ByteArray := prog_65_method_9_code
def yJ14_hashCode_4 : MethodName := ⟨RJ14, "hashCode", "(I[III)I"⟩
def dkwJ14_hashCode_4_1 : List UInt8 := [59, 132, 5, 1, 167, 255, 236, 26, 172]
abbrev dktJ14_hashCode_4_1 : List UInt8 := dkwJ14_hashCode_4_1 ++ []
def dkwJ14_hashCode_4_0 : List UInt8 := [28, 29, 96, 54, 4, 28, 54, 5, 21, 5, 21, 4, 162, 0, 19, 16, 31, 26, 104, 43, 21, 5, 46, 96]
abbrev dktJ14_hashCode_4_0 : List UInt8 := dkwJ14_hashCode_4_0 ++ dktJ14_hashCode_4_1
theorem dksJ14_hashCode_4_0 : cJ14_hashCode_4.data.toList.drop 0 = dktJ14_hashCode_4_0 := by decide +kernel
theorem dksJ14_hashCode_4_1 : cJ14_hashCode_4.data.toList.drop 24 = dktJ14_hashCode_4_1 := dk_seg dksJ14_hashCode_4_0 24 rfl rfl
theorem dJ14_hashCode_4_0 : decode cJ14_hashCode_4 0 = .ok (.iload_n 2, 1) := dk_28 (dk_at dksJ14_hashCode_4_0 0 rfl rfl)
theorem dJ14_hashCode_4_1 : decode cJ14_hashCode_4 1 = .ok (.iload_n 3, 1) := dk_29 (dk_at dksJ14_hashCode_4_0 1 rfl rfl)
theorem dJ14_hashCode_4_2 : decode cJ14_hashCode_4 2 = .ok (.iadd, 1) := dk_96 (dk_at dksJ14_hashCode_4_0 2 rfl rfl)
theorem dJ14_hashCode_4_3 : decode cJ14_hashCode_4 3 = .ok (.istore 4, 2) := dk_54 4 (dk_at dksJ14_hashCode_4_0 3 rfl rfl)
theorem dJ14_hashCode_4_5 : decode cJ14_hashCode_4 5 = .ok (.iload_n 2, 1) := dk_28 (dk_at dksJ14_hashCode_4_0 5 rfl rfl)
theorem dJ14_hashCode_4_6 : decode cJ14_hashCode_4 6 = .ok (.istore 5, 2) := dk_54 5 (dk_at dksJ14_hashCode_4_0 6 rfl rfl)
theorem dJ14_hashCode_4_8 : decode cJ14_hashCode_4 8 = .ok (.iload 5, 2) := dk_21 5 (dk_at dksJ14_hashCode_4_0 8 rfl rfl)
theorem dJ14_hashCode_4_10 : decode cJ14_hashCode_4 10 = .ok (.iload 4, 2) := dk_21 4 (dk_at dksJ14_hashCode_4_0 10 rfl rfl)
theorem dJ14_hashCode_4_12 : decode cJ14_hashCode_4 12 = .ok (.if_icmp .ge 19, 3) := dk_162 0 19 (dk_at dksJ14_hashCode_4_0 12 rfl rfl)
theorem dJ14_hashCode_4_15 : decode cJ14_hashCode_4 15 = .ok (.bipush 31, 2) := dk_16 31 (dk_at dksJ14_hashCode_4_0 15 rfl rfl)
theorem dJ14_hashCode_4_17 : decode cJ14_hashCode_4 17 = .ok (.iload_n 0, 1) := dk_26 (dk_at dksJ14_hashCode_4_0 17 rfl rfl)
theorem dJ14_hashCode_4_18 : decode cJ14_hashCode_4 18 = .ok (.imul, 1) := dk_104 (dk_at dksJ14_hashCode_4_0 18 rfl rfl)
theorem dJ14_hashCode_4_19 : decode cJ14_hashCode_4 19 = .ok (.aload_n 1, 1) := dk_43 (dk_at dksJ14_hashCode_4_0 19 rfl rfl)
theorem dJ14_hashCode_4_20 : decode cJ14_hashCode_4 20 = .ok (.iload 5, 2) := dk_21 5 (dk_at dksJ14_hashCode_4_0 20 rfl rfl)
theorem dJ14_hashCode_4_22 : decode cJ14_hashCode_4 22 = .ok (.iaload, 1) := dk_46 (dk_at dksJ14_hashCode_4_0 22 rfl rfl)
theorem dJ14_hashCode_4_23 : decode cJ14_hashCode_4 23 = .ok (.iadd, 1) := dk_96 (dk_at dksJ14_hashCode_4_0 23 rfl rfl)
theorem dJ14_hashCode_4_24 : decode cJ14_hashCode_4 24 = .ok (.istore_n 0, 1) := dk_59 (dk_at dksJ14_hashCode_4_1 0 rfl rfl)
theorem dJ14_hashCode_4_25 : decode cJ14_hashCode_4 25 = .ok (.iinc 5 1, 3) := dk_132 5 1 (dk_at dksJ14_hashCode_4_1 1 rfl rfl)
theorem dJ14_hashCode_4_28 : decode cJ14_hashCode_4 28 = .ok (.goto (-20), 3) := dk_167 255 236 (dk_at dksJ14_hashCode_4_1 4 rfl rfl)
theorem dJ14_hashCode_4_31 : decode cJ14_hashCode_4 31 = .ok (.iload_n 0, 1) := dk_26 (dk_at dksJ14_hashCode_4_1 7 rfl rfl)
theorem dJ14_hashCode_4_32 : decode cJ14_hashCode_4 32 = .ok (.ireturn, 1) := dk_172 (dk_at dksJ14_hashCode_4_1 8 rfl rfl)
theorem q169 : (Jvm.Cond.initialized "jdk/internal/util/ArraysSupport") ∈ lw_all := lw_g (lw_at lw_m1 23 rfl) rfl
theorem q660 : (Jvm.Cond.static ({ cls := "jdk/internal/util/ArraysSupport", name := "newLength", desc := "(III)I" } : Jvm.MethodName)) ∈ lw_all := lw_g (lw_at lw_m3 34 rfl) rfl
theorem q661 : (Jvm.Cond.code ({ cls := "jdk/internal/util/ArraysSupport", name := "newLength", desc := "(III)I" } : Jvm.MethodName) prog_65_method_27_code (4 : Nat) (Option.some Jvm.ClassFile.FieldType.int)) ∈ lw_all := lw_g (lw_at lw_m3 35 rfl) rfl
theorem q662 : (Jvm.Cond.methodLink "jdk/internal/util/ArraysSupport" (194 : Nat) ({ cls := "java/lang/Math", name := "max", desc := "(II)I" } : Jvm.MethodName)) ∈ lw_all := lw_g (lw_at lw_m3 36 rfl) rfl
theorem q665 : (Jvm.Cond.constant "jdk/internal/util/ArraysSupport" (200 : Nat) (2147483639 : Int32)) ∈ lw_all := lw_g (lw_at lw_m3 39 rfl) rfl
theorem q666 : (Jvm.Cond.methodLink "jdk/internal/util/ArraysSupport" (201 : Nat) ({ cls := "jdk/internal/util/ArraysSupport", name := "hugeLength", desc := "(II)I" } : Jvm.MethodName)) ∈ lw_all := lw_g (lw_at lw_m3 40 rfl) rfl
theorem q667 : (Jvm.Cond.static ({ cls := "jdk/internal/util/ArraysSupport", name := "hugeLength", desc := "(II)I" } : Jvm.MethodName)) ∈ lw_all := lw_g (lw_at lw_m3 41 rfl) rfl
theorem q668 : (Jvm.Cond.code ({ cls := "jdk/internal/util/ArraysSupport", name := "hugeLength", desc := "(II)I" } : Jvm.MethodName) prog_65_method_28_code (3 : Nat) (Option.some Jvm.ClassFile.FieldType.int)) ∈ lw_all := lw_g (lw_at lw_m3 42 rfl) rfl
theorem q1062 : (Jvm.Cond.static ({ cls := "jdk/internal/util/ArraysSupport", name := "vectorizedHashCode", desc := "(Ljava/lang/Object;IIII)I" } : Jvm.MethodName)) ∈ lw_all := lw_g (lw_at lw_m4 196 rfl) rfl
theorem q1063 : (Jvm.Cond.code ({ cls := "jdk/internal/util/ArraysSupport", name := "vectorizedHashCode", desc := "(Ljava/lang/Object;IIII)I" } : Jvm.MethodName) prog_65_method_4_code (5 : Nat) (Option.some Jvm.ClassFile.FieldType.int)) ∈ lw_all := lw_g (lw_at lw_m4 197 rfl) rfl
theorem q1064 : (Jvm.Cond.classLink "jdk/internal/util/ArraysSupport" (60 : Nat) "[B") ∈ lw_all := lw_g (lw_at lw_m4 198 rfl) rfl
theorem q1065 : (Jvm.Cond.methodLink "jdk/internal/util/ArraysSupport" (62 : Nat) ({ cls := "jdk/internal/util/ArraysSupport", name := "signedHashCode", desc := "(I[BII)I" } : Jvm.MethodName)) ∈ lw_all := lw_g (lw_at lw_m4 199 rfl) rfl
theorem q1066 : (Jvm.Cond.static ({ cls := "jdk/internal/util/ArraysSupport", name := "signedHashCode", desc := "(I[BII)I" } : Jvm.MethodName)) ∈ lw_all := lw_g (lw_at lw_m4 200 rfl) rfl
theorem q1067 : (Jvm.Cond.code ({ cls := "jdk/internal/util/ArraysSupport", name := "signedHashCode", desc := "(I[BII)I" } : Jvm.MethodName) prog_65_method_5_code (6 : Nat) (Option.some Jvm.ClassFile.FieldType.int)) ∈ lw_all := lw_g (lw_at lw_m4 201 rfl) rfl
theorem q1068 : (Jvm.Cond.methodLink "jdk/internal/util/ArraysSupport" (66 : Nat) ({ cls := "jdk/internal/util/ArraysSupport", name := "utf16hashCode", desc := "(I[BII)I" } : Jvm.MethodName)) ∈ lw_all := lw_g (lw_at lw_m4 202 rfl) rfl
theorem q1069 : (Jvm.Cond.static ({ cls := "jdk/internal/util/ArraysSupport", name := "utf16hashCode", desc := "(I[BII)I" } : Jvm.MethodName)) ∈ lw_all := lw_g (lw_at lw_m4 203 rfl) rfl
theorem q1070 : (Jvm.Cond.code ({ cls := "jdk/internal/util/ArraysSupport", name := "utf16hashCode", desc := "(I[BII)I" } : Jvm.MethodName) prog_65_method_10_code (6 : Nat) (Option.some Jvm.ClassFile.FieldType.int)) ∈ lw_all := lw_g (lw_at lw_m4 204 rfl) rfl
theorem q1071 : (Jvm.Cond.fieldLink "jdk/internal/util/ArraysSupport" (106 : Nat) "jdk/internal/util/ArraysSupport" "JLA" "Ljdk/internal/access/JavaLangAccess;") ∈ lw_all := lw_g (lw_at lw_m4 205 rfl) rfl
theorem q1072 : (Jvm.Cond.laysStatic "jdk/internal/util/ArraysSupport" "JLA" "Ljdk/internal/access/JavaLangAccess;") ∈ lw_tbl := lw_at lw_m4 206 rfl
theorem q1073 : (Jvm.Cond.interfaceEntry "jdk/internal/util/ArraysSupport" (110 : Nat)) ∈ lw_tbl := lw_at lw_m4 207 rfl
theorem q1074 : (Jvm.Cond.methodLink "jdk/internal/util/ArraysSupport" (110 : Nat) ({ cls := "jdk/internal/access/JavaLangAccess", name := "getUTF16Char", desc := "([BI)C" } : Jvm.MethodName)) ∈ lw_all := lw_g (lw_at lw_m4 208 rfl) rfl
theorem q1084 : (Jvm.Cond.classLink "jdk/internal/util/ArraysSupport" (69 : Nat) "[C") ∈ lw_all := lw_g (lw_at lw_m4 218 rfl) rfl
theorem q1085 : (Jvm.Cond.methodLink "jdk/internal/util/ArraysSupport" (71 : Nat) ({ cls := "jdk/internal/util/ArraysSupport", name := "hashCode", desc := "(I[CII)I" } : Jvm.MethodName)) ∈ lw_all := lw_g (lw_at lw_m4 219 rfl) rfl
theorem q1086 : (Jvm.Cond.static ({ cls := "jdk/internal/util/ArraysSupport", name := "hashCode", desc := "(I[CII)I" } : Jvm.MethodName)) ∈ lw_all := lw_g (lw_at lw_m4 220 rfl) rfl
theorem q1087 : (Jvm.Cond.code ({ cls := "jdk/internal/util/ArraysSupport", name := "hashCode", desc := "(I[CII)I" } : Jvm.MethodName) prog_65_method_7_code (6 : Nat) (Option.some Jvm.ClassFile.FieldType.int)) ∈ lw_all := lw_g (lw_at lw_m4 221 rfl) rfl
theorem q1088 : (Jvm.Cond.methodLink "jdk/internal/util/ArraysSupport" (75 : Nat) ({ cls := "jdk/internal/util/ArraysSupport", name := "hashCode", desc := "(I[BII)I" } : Jvm.MethodName)) ∈ lw_all := lw_g (lw_at lw_m4 222 rfl) rfl
theorem q1089 : (Jvm.Cond.static ({ cls := "jdk/internal/util/ArraysSupport", name := "hashCode", desc := "(I[BII)I" } : Jvm.MethodName)) ∈ lw_all := lw_g (lw_at lw_m4 223 rfl) rfl
theorem q1090 : (Jvm.Cond.code ({ cls := "jdk/internal/util/ArraysSupport", name := "hashCode", desc := "(I[BII)I" } : Jvm.MethodName) prog_65_method_6_code (6 : Nat) (Option.some Jvm.ClassFile.FieldType.int)) ∈ lw_all := lw_g (lw_at lw_m4 224 rfl) rfl
theorem q1091 : (Jvm.Cond.classLink "jdk/internal/util/ArraysSupport" (77 : Nat) "[S") ∈ lw_all := lw_g (lw_at lw_m4 225 rfl) rfl
theorem q1092 : (Jvm.Cond.methodLink "jdk/internal/util/ArraysSupport" (79 : Nat) ({ cls := "jdk/internal/util/ArraysSupport", name := "hashCode", desc := "(I[SII)I" } : Jvm.MethodName)) ∈ lw_all := lw_g (lw_at lw_m4 226 rfl) rfl
theorem q1093 : (Jvm.Cond.static ({ cls := "jdk/internal/util/ArraysSupport", name := "hashCode", desc := "(I[SII)I" } : Jvm.MethodName)) ∈ lw_all := lw_g (lw_at lw_m4 227 rfl) rfl
theorem q1094 : (Jvm.Cond.code ({ cls := "jdk/internal/util/ArraysSupport", name := "hashCode", desc := "(I[SII)I" } : Jvm.MethodName) prog_65_method_8_code (6 : Nat) (Option.some Jvm.ClassFile.FieldType.int)) ∈ lw_all := lw_g (lw_at lw_m4 228 rfl) rfl
theorem q1095 : (Jvm.Cond.classLink "jdk/internal/util/ArraysSupport" (82 : Nat) "[I") ∈ lw_all := lw_g (lw_at lw_m4 229 rfl) rfl
theorem q1096 : (Jvm.Cond.methodLink "jdk/internal/util/ArraysSupport" (84 : Nat) ({ cls := "jdk/internal/util/ArraysSupport", name := "hashCode", desc := "(I[III)I" } : Jvm.MethodName)) ∈ lw_all := lw_g (lw_at lw_m4 230 rfl) rfl
theorem q1097 : (Jvm.Cond.static ({ cls := "jdk/internal/util/ArraysSupport", name := "hashCode", desc := "(I[III)I" } : Jvm.MethodName)) ∈ lw_all := lw_g (lw_at lw_m4 231 rfl) rfl
theorem q1098 : (Jvm.Cond.code ({ cls := "jdk/internal/util/ArraysSupport", name := "hashCode", desc := "(I[III)I" } : Jvm.MethodName) prog_65_method_9_code (6 : Nat) (Option.some Jvm.ClassFile.FieldType.int)) ∈ lw_all := lw_g (lw_at lw_m4 232 rfl) rfl
theorem q1099 : (Jvm.Cond.classLink "jdk/internal/util/ArraysSupport" (87 : Nat) "java/lang/IllegalArgumentException") ∈ lw_all := lw_g (lw_at lw_m4 233 rfl) rfl
theorem q1100 : (Jvm.Cond.classLink "jdk/internal/util/ArraysSupport" (89 : Nat) "java/lang/StringBuilder") ∈ lw_all := lw_g (lw_at lw_m4 234 rfl) rfl
theorem q1101 : (Jvm.Cond.methodLink "jdk/internal/util/ArraysSupport" (91 : Nat) ({ cls := "java/lang/StringBuilder", name := "<init>", desc := "()V" } : Jvm.MethodName)) ∈ lw_all := lw_g (lw_at lw_m4 235 rfl) rfl
theorem q1102 : (Jvm.Cond.stringRef "jdk/internal/util/ArraysSupport" (92 : Nat) "unrecognized basic type: ") ∈ lw_tbl := lw_at lw_m4 236 rfl
theorem q1103 : (Jvm.Cond.methodLink "jdk/internal/util/ArraysSupport" (94 : Nat) ({ cls := "java/lang/StringBuilder", name := "append", desc := "(Ljava/lang/String;)Ljava/lang/StringBuilder;" } : Jvm.MethodName)) ∈ lw_all := lw_g (lw_at lw_m4 237 rfl) rfl
theorem q1104 : (Jvm.Cond.methodLink "jdk/internal/util/ArraysSupport" (98 : Nat) ({ cls := "java/lang/StringBuilder", name := "append", desc := "(I)Ljava/lang/StringBuilder;" } : Jvm.MethodName)) ∈ lw_all := lw_g (lw_at lw_m4 238 rfl) rfl
theorem q1105 : (Jvm.Cond.methodLink "jdk/internal/util/ArraysSupport" (101 : Nat) ({ cls := "java/lang/StringBuilder", name := "toString", desc := "()Ljava/lang/String;" } : Jvm.MethodName)) ∈ lw_all := lw_g (lw_at lw_m4 239 rfl) rfl
theorem q1106 : (Jvm.Cond.methodLink "jdk/internal/util/ArraysSupport" (105 : Nat) ({ cls := "java/lang/IllegalArgumentException", name := "<init>", desc := "(Ljava/lang/String;)V" } : Jvm.MethodName)) ∈ lw_all := lw_g (lw_at lw_m5 0 rfl) rfl

/-! java/lang/Math -/
set_option maxRecDepth 100000
def RJ15 : String := "java/lang/Math"
abbrev cJ15_abs : ByteArray := prog_38_method_59_code
def yJ15_abs : MethodName := ⟨RJ15, "abs", "(I)I"⟩
def dkwJ15_abs_0 : List UInt8 := [26, 156, 0, 8, 26, 116, 167, 0, 4, 26, 172]
abbrev dktJ15_abs_0 : List UInt8 := dkwJ15_abs_0 ++ []
theorem dksJ15_abs_0 : cJ15_abs.data.toList.drop 0 = dktJ15_abs_0 := by decide +kernel
theorem dJ15_abs_0 : decode cJ15_abs 0 = .ok (.iload_n 0, 1) := dk_26 (dk_at dksJ15_abs_0 0 rfl rfl)
theorem dJ15_abs_1 : decode cJ15_abs 1 = .ok (.ifCond .ge 8, 3) := dk_156 0 8 (dk_at dksJ15_abs_0 1 rfl rfl)
theorem dJ15_abs_4 : decode cJ15_abs 4 = .ok (.iload_n 0, 1) := dk_26 (dk_at dksJ15_abs_0 4 rfl rfl)
theorem dJ15_abs_5 : decode cJ15_abs 5 = .ok (.ineg, 1) := dk_116 (dk_at dksJ15_abs_0 5 rfl rfl)
theorem dJ15_abs_6 : decode cJ15_abs 6 = .ok (.goto 4, 3) := dk_167 0 4 (dk_at dksJ15_abs_0 6 rfl rfl)
theorem dJ15_abs_9 : decode cJ15_abs 9 = .ok (.iload_n 0, 1) := dk_26 (dk_at dksJ15_abs_0 9 rfl rfl)
theorem dJ15_abs_10 : decode cJ15_abs 10 = .ok (.ireturn, 1) := dk_172 (dk_at dksJ15_abs_0 10 rfl rfl)
abbrev cJ15_max : ByteArray := prog_38_method_65_code
def yJ15_max : MethodName := ⟨RJ15, "max", "(II)I"⟩
def dkwJ15_max_0 : List UInt8 := [26, 27, 161, 0, 7, 26, 167, 0, 4, 27, 172]
abbrev dktJ15_max_0 : List UInt8 := dkwJ15_max_0 ++ []
theorem dksJ15_max_0 : cJ15_max.data.toList.drop 0 = dktJ15_max_0 := by decide +kernel
theorem dJ15_max_0 : decode cJ15_max 0 = .ok (.iload_n 0, 1) := dk_26 (dk_at dksJ15_max_0 0 rfl rfl)
theorem dJ15_max_1 : decode cJ15_max 1 = .ok (.iload_n 1, 1) := dk_27 (dk_at dksJ15_max_0 1 rfl rfl)
theorem dJ15_max_2 : decode cJ15_max 2 = .ok (.if_icmp .lt 7, 3) := dk_161 0 7 (dk_at dksJ15_max_0 2 rfl rfl)
theorem dJ15_max_5 : decode cJ15_max 5 = .ok (.iload_n 0, 1) := dk_26 (dk_at dksJ15_max_0 5 rfl rfl)
theorem dJ15_max_6 : decode cJ15_max 6 = .ok (.goto 4, 3) := dk_167 0 4 (dk_at dksJ15_max_0 6 rfl rfl)
theorem dJ15_max_9 : decode cJ15_max 9 = .ok (.iload_n 1, 1) := dk_27 (dk_at dksJ15_max_0 9 rfl rfl)
theorem dJ15_max_10 : decode cJ15_max 10 = .ok (.ireturn, 1) := dk_172 (dk_at dksJ15_max_0 10 rfl rfl)
abbrev cJ15_min : ByteArray := prog_38_method_69_code
def yJ15_min : MethodName := ⟨RJ15, "min", "(II)I"⟩
def dkwJ15_min_0 : List UInt8 := [26, 27, 163, 0, 7, 26, 167, 0, 4, 27, 172]
abbrev dktJ15_min_0 : List UInt8 := dkwJ15_min_0 ++ []
theorem dksJ15_min_0 : cJ15_min.data.toList.drop 0 = dktJ15_min_0 := by decide +kernel
theorem dJ15_min_0 : decode cJ15_min 0 = .ok (.iload_n 0, 1) := dk_26 (dk_at dksJ15_min_0 0 rfl rfl)
theorem dJ15_min_1 : decode cJ15_min 1 = .ok (.iload_n 1, 1) := dk_27 (dk_at dksJ15_min_0 1 rfl rfl)
theorem dJ15_min_2 : decode cJ15_min 2 = .ok (.if_icmp .gt 7, 3) := dk_163 0 7 (dk_at dksJ15_min_0 2 rfl rfl)
theorem dJ15_min_5 : decode cJ15_min 5 = .ok (.iload_n 0, 1) := dk_26 (dk_at dksJ15_min_0 5 rfl rfl)
theorem dJ15_min_6 : decode cJ15_min 6 = .ok (.goto 4, 3) := dk_167 0 4 (dk_at dksJ15_min_0 6 rfl rfl)
theorem dJ15_min_9 : decode cJ15_min 9 = .ok (.iload_n 1, 1) := dk_27 (dk_at dksJ15_min_0 9 rfl rfl)
theorem dJ15_min_10 : decode cJ15_min 10 = .ok (.ireturn, 1) := dk_172 (dk_at dksJ15_min_0 10 rfl rfl)
theorem q170 : (Jvm.Cond.initialized "java/lang/Math") ∈ lw_all := lw_g (lw_at lw_m1 24 rfl) rfl
theorem q387 : (Jvm.Cond.static ({ cls := "java/lang/Math", name := "abs", desc := "(I)I" } : Jvm.MethodName)) ∈ lw_all := lw_g (lw_at lw_m2 1 rfl) rfl
theorem q388 : (Jvm.Cond.code ({ cls := "java/lang/Math", name := "abs", desc := "(I)I" } : Jvm.MethodName) prog_38_method_59_code (1 : Nat) (Option.some Jvm.ClassFile.FieldType.int)) ∈ lw_all := lw_g (lw_at lw_m2 2 rfl) rfl
theorem q663 : (Jvm.Cond.static ({ cls := "java/lang/Math", name := "max", desc := "(II)I" } : Jvm.MethodName)) ∈ lw_all := lw_g (lw_at lw_m3 37 rfl) rfl
theorem q664 : (Jvm.Cond.code ({ cls := "java/lang/Math", name := "max", desc := "(II)I" } : Jvm.MethodName) prog_38_method_65_code (2 : Nat) (Option.some Jvm.ClassFile.FieldType.int)) ∈ lw_all := lw_g (lw_at lw_m3 38 rfl) rfl
theorem q681 : (Jvm.Cond.static ({ cls := "java/lang/Math", name := "min", desc := "(II)I" } : Jvm.MethodName)) ∈ lw_all := lw_g (lw_at lw_m3 55 rfl) rfl
theorem q682 : (Jvm.Cond.code ({ cls := "java/lang/Math", name := "min", desc := "(II)I" } : Jvm.MethodName) prog_38_method_69_code (2 : Nat) (Option.some Jvm.ClassFile.FieldType.int)) ∈ lw_all := lw_g (lw_at lw_m3 56 rfl) rfl

/-! java/util/Arrays -/
set_option maxRecDepth 100000
def RJ16 : String := "java/util/Arrays"
abbrev cJ16_copyOf : ByteArray := prog_54_method_121_code
def yJ16_copyOf : MethodName := ⟨RJ16, "copyOf", "([BI)[B"⟩
def dkwJ16_copyOf_1 : List UInt8 := [27, 184, 1, 48, 184, 0, 150, 44, 176]
abbrev dktJ16_copyOf_1 : List UInt8 := dkwJ16_copyOf_1 ++ []
def dkwJ16_copyOf_0 : List UInt8 := [27, 42, 190, 160, 0, 11, 42, 182, 1, 54, 192, 1, 55, 176, 27, 188, 8, 77, 42, 3, 44, 3, 42, 190]
abbrev dktJ16_copyOf_0 : List UInt8 := dkwJ16_copyOf_0 ++ dktJ16_copyOf_1
theorem dksJ16_copyOf_0 : cJ16_copyOf.data.toList.drop 0 = dktJ16_copyOf_0 := by decide +kernel
theorem dksJ16_copyOf_1 : cJ16_copyOf.data.toList.drop 24 = dktJ16_copyOf_1 := dk_seg dksJ16_copyOf_0 24 rfl rfl
theorem dJ16_copyOf_0 : decode cJ16_copyOf 0 = .ok (.iload_n 1, 1) := dk_27 (dk_at dksJ16_copyOf_0 0 rfl rfl)
theorem dJ16_copyOf_1 : decode cJ16_copyOf 1 = .ok (.aload_n 0, 1) := dk_42 (dk_at dksJ16_copyOf_0 1 rfl rfl)
theorem dJ16_copyOf_2 : decode cJ16_copyOf 2 = .ok (.arraylength, 1) := dk_190 (dk_at dksJ16_copyOf_0 2 rfl rfl)
theorem dJ16_copyOf_3 : decode cJ16_copyOf 3 = .ok (.if_icmp .ne 11, 3) := dk_160 0 11 (dk_at dksJ16_copyOf_0 3 rfl rfl)
theorem dJ16_copyOf_6 : decode cJ16_copyOf 6 = .ok (.aload_n 0, 1) := dk_42 (dk_at dksJ16_copyOf_0 6 rfl rfl)
theorem dJ16_copyOf_7 : decode cJ16_copyOf 7 = .ok (.invokevirtual 310, 3) := dk_182 1 54 (dk_at dksJ16_copyOf_0 7 rfl rfl)
theorem dJ16_copyOf_10 : decode cJ16_copyOf 10 = .ok (.checkcast 311, 3) := dk_192 1 55 (dk_at dksJ16_copyOf_0 10 rfl rfl)
theorem dJ16_copyOf_13 : decode cJ16_copyOf 13 = .ok (.areturn, 1) := dk_176 (dk_at dksJ16_copyOf_0 13 rfl rfl)
theorem dJ16_copyOf_14 : decode cJ16_copyOf 14 = .ok (.iload_n 1, 1) := dk_27 (dk_at dksJ16_copyOf_0 14 rfl rfl)
theorem dJ16_copyOf_15 : decode cJ16_copyOf 15 = .ok (.newarray .byte, 2) := dk_188_8 (dk_at dksJ16_copyOf_0 15 rfl rfl)
theorem dJ16_copyOf_17 : decode cJ16_copyOf 17 = .ok (.astore_n 2, 1) := dk_77 (dk_at dksJ16_copyOf_0 17 rfl rfl)
theorem dJ16_copyOf_18 : decode cJ16_copyOf 18 = .ok (.aload_n 0, 1) := dk_42 (dk_at dksJ16_copyOf_0 18 rfl rfl)
theorem dJ16_copyOf_19 : decode cJ16_copyOf 19 = .ok (.iconst 0, 1) := dk_3 (dk_at dksJ16_copyOf_0 19 rfl rfl)
theorem dJ16_copyOf_20 : decode cJ16_copyOf 20 = .ok (.aload_n 2, 1) := dk_44 (dk_at dksJ16_copyOf_0 20 rfl rfl)
theorem dJ16_copyOf_21 : decode cJ16_copyOf 21 = .ok (.iconst 0, 1) := dk_3 (dk_at dksJ16_copyOf_0 21 rfl rfl)
theorem dJ16_copyOf_22 : decode cJ16_copyOf 22 = .ok (.aload_n 0, 1) := dk_42 (dk_at dksJ16_copyOf_0 22 rfl rfl)
theorem dJ16_copyOf_23 : decode cJ16_copyOf 23 = .ok (.arraylength, 1) := dk_190 (dk_at dksJ16_copyOf_0 23 rfl rfl)
theorem dJ16_copyOf_24 : decode cJ16_copyOf 24 = .ok (.iload_n 1, 1) := dk_27 (dk_at dksJ16_copyOf_1 0 rfl rfl)
theorem dJ16_copyOf_25 : decode cJ16_copyOf 25 = .ok (.invokestatic 304, 3) := dk_184 1 48 (dk_at dksJ16_copyOf_1 1 rfl rfl)
theorem dJ16_copyOf_28 : decode cJ16_copyOf 28 = .ok (.invokestatic 150, 3) := dk_184 0 150 (dk_at dksJ16_copyOf_1 4 rfl rfl)
theorem dJ16_copyOf_31 : decode cJ16_copyOf 31 = .ok (.aload_n 2, 1) := dk_44 (dk_at dksJ16_copyOf_1 7 rfl rfl)
theorem dJ16_copyOf_32 : decode cJ16_copyOf 32 = .ok (.areturn, 1) := dk_176 (dk_at dksJ16_copyOf_1 8 rfl rfl)
abbrev cJ16_copyOfRange : ByteArray := prog_54_method_132_code
def yJ16_copyOfRange : MethodName := ⟨RJ16, "copyOfRange", "([BII)[B"⟩
def dkwJ16_copyOfRange_1 : List UInt8 := [176]
abbrev dktJ16_copyOfRange_1 : List UInt8 := dkwJ16_copyOfRange_1 ++ []
def dkwJ16_copyOfRange_0 : List UInt8 := [27, 154, 0, 9, 28, 42, 190, 159, 0, 10, 42, 27, 28, 184, 1, 83, 176, 42, 182, 1, 54, 192, 1, 55]
abbrev dktJ16_copyOfRange_0 : List UInt8 := dkwJ16_copyOfRange_0 ++ dktJ16_copyOfRange_1
theorem dksJ16_copyOfRange_0 : cJ16_copyOfRange.data.toList.drop 0 = dktJ16_copyOfRange_0 := by decide +kernel
theorem dksJ16_copyOfRange_1 : cJ16_copyOfRange.data.toList.drop 24 = dktJ16_copyOfRange_1 := dk_seg dksJ16_copyOfRange_0 24 rfl rfl
theorem dJ16_copyOfRange_0 : decode cJ16_copyOfRange 0 = .ok (.iload_n 1, 1) := dk_27 (dk_at dksJ16_copyOfRange_0 0 rfl rfl)
theorem dJ16_copyOfRange_1 : decode cJ16_copyOfRange 1 = .ok (.ifCond .ne 9, 3) := dk_154 0 9 (dk_at dksJ16_copyOfRange_0 1 rfl rfl)
theorem dJ16_copyOfRange_4 : decode cJ16_copyOfRange 4 = .ok (.iload_n 2, 1) := dk_28 (dk_at dksJ16_copyOfRange_0 4 rfl rfl)
theorem dJ16_copyOfRange_5 : decode cJ16_copyOfRange 5 = .ok (.aload_n 0, 1) := dk_42 (dk_at dksJ16_copyOfRange_0 5 rfl rfl)
theorem dJ16_copyOfRange_6 : decode cJ16_copyOfRange 6 = .ok (.arraylength, 1) := dk_190 (dk_at dksJ16_copyOfRange_0 6 rfl rfl)
theorem dJ16_copyOfRange_7 : decode cJ16_copyOfRange 7 = .ok (.if_icmp .eq 10, 3) := dk_159 0 10 (dk_at dksJ16_copyOfRange_0 7 rfl rfl)
theorem dJ16_copyOfRange_10 : decode cJ16_copyOfRange 10 = .ok (.aload_n 0, 1) := dk_42 (dk_at dksJ16_copyOfRange_0 10 rfl rfl)
theorem dJ16_copyOfRange_11 : decode cJ16_copyOfRange 11 = .ok (.iload_n 1, 1) := dk_27 (dk_at dksJ16_copyOfRange_0 11 rfl rfl)
theorem dJ16_copyOfRange_12 : decode cJ16_copyOfRange 12 = .ok (.iload_n 2, 1) := dk_28 (dk_at dksJ16_copyOfRange_0 12 rfl rfl)
theorem dJ16_copyOfRange_13 : decode cJ16_copyOfRange 13 = .ok (.invokestatic 339, 3) := dk_184 1 83 (dk_at dksJ16_copyOfRange_0 13 rfl rfl)
theorem dJ16_copyOfRange_16 : decode cJ16_copyOfRange 16 = .ok (.areturn, 1) := dk_176 (dk_at dksJ16_copyOfRange_0 16 rfl rfl)
theorem dJ16_copyOfRange_17 : decode cJ16_copyOfRange 17 = .ok (.aload_n 0, 1) := dk_42 (dk_at dksJ16_copyOfRange_0 17 rfl rfl)
theorem dJ16_copyOfRange_18 : decode cJ16_copyOfRange 18 = .ok (.invokevirtual 310, 3) := dk_182 1 54 (dk_at dksJ16_copyOfRange_0 18 rfl rfl)
theorem dJ16_copyOfRange_21 : decode cJ16_copyOfRange 21 = .ok (.checkcast 311, 3) := dk_192 1 55 (dk_at dksJ16_copyOfRange_0 21 rfl rfl)
theorem dJ16_copyOfRange_24 : decode cJ16_copyOfRange 24 = .ok (.areturn, 1) := dk_176 (dk_at dksJ16_copyOfRange_1 0 rfl rfl)
abbrev cJ16_copyOfRangeByte : ByteArray := prog_54_method_133_code
def yJ16_copyOfRangeByte : MethodName := ⟨RJ16, "copyOfRangeByte", "([BII)[B"⟩
def dkwJ16_copyOfRangeByte_1 : List UInt8 := [184, 1, 48, 184, 0, 150, 25, 4, 176]
abbrev dktJ16_copyOfRangeByte_1 : List UInt8 := dkwJ16_copyOfRangeByte_1 ++ []
def dkwJ16_copyOfRangeByte_0 : List UInt8 := [27, 28, 184, 1, 87, 28, 27, 100, 62, 29, 188, 8, 58, 4, 42, 27, 25, 4, 3, 42, 190, 27, 100, 29]
abbrev dktJ16_copyOfRangeByte_0 : List UInt8 := dkwJ16_copyOfRangeByte_0 ++ dktJ16_copyOfRangeByte_1
theorem dksJ16_copyOfRangeByte_0 : cJ16_copyOfRangeByte.data.toList.drop 0 = dktJ16_copyOfRangeByte_0 := by decide +kernel
theorem dksJ16_copyOfRangeByte_1 : cJ16_copyOfRangeByte.data.toList.drop 24 = dktJ16_copyOfRangeByte_1 := dk_seg dksJ16_copyOfRangeByte_0 24 rfl rfl
theorem dJ16_copyOfRangeByte_0 : decode cJ16_copyOfRangeByte 0 = .ok (.iload_n 1, 1) := dk_27 (dk_at dksJ16_copyOfRangeByte_0 0 rfl rfl)
theorem dJ16_copyOfRangeByte_1 : decode cJ16_copyOfRangeByte 1 = .ok (.iload_n 2, 1) := dk_28 (dk_at dksJ16_copyOfRangeByte_0 1 rfl rfl)
theorem dJ16_copyOfRangeByte_2 : decode cJ16_copyOfRangeByte 2 = .ok (.invokestatic 343, 3) := dk_184 1 87 (dk_at dksJ16_copyOfRangeByte_0 2 rfl rfl)
theorem dJ16_copyOfRangeByte_5 : decode cJ16_copyOfRangeByte 5 = .ok (.iload_n 2, 1) := dk_28 (dk_at dksJ16_copyOfRangeByte_0 5 rfl rfl)
theorem dJ16_copyOfRangeByte_6 : decode cJ16_copyOfRangeByte 6 = .ok (.iload_n 1, 1) := dk_27 (dk_at dksJ16_copyOfRangeByte_0 6 rfl rfl)
theorem dJ16_copyOfRangeByte_7 : decode cJ16_copyOfRangeByte 7 = .ok (.isub, 1) := dk_100 (dk_at dksJ16_copyOfRangeByte_0 7 rfl rfl)
theorem dJ16_copyOfRangeByte_8 : decode cJ16_copyOfRangeByte 8 = .ok (.istore_n 3, 1) := dk_62 (dk_at dksJ16_copyOfRangeByte_0 8 rfl rfl)
theorem dJ16_copyOfRangeByte_9 : decode cJ16_copyOfRangeByte 9 = .ok (.iload_n 3, 1) := dk_29 (dk_at dksJ16_copyOfRangeByte_0 9 rfl rfl)
theorem dJ16_copyOfRangeByte_10 : decode cJ16_copyOfRangeByte 10 = .ok (.newarray .byte, 2) := dk_188_8 (dk_at dksJ16_copyOfRangeByte_0 10 rfl rfl)
theorem dJ16_copyOfRangeByte_12 : decode cJ16_copyOfRangeByte 12 = .ok (.astore 4, 2) := dk_58 4 (dk_at dksJ16_copyOfRangeByte_0 12 rfl rfl)
theorem dJ16_copyOfRangeByte_14 : decode cJ16_copyOfRangeByte 14 = .ok (.aload_n 0, 1) := dk_42 (dk_at dksJ16_copyOfRangeByte_0 14 rfl rfl)
theorem dJ16_copyOfRangeByte_15 : decode cJ16_copyOfRangeByte 15 = .ok (.iload_n 1, 1) := dk_27 (dk_at dksJ16_copyOfRangeByte_0 15 rfl rfl)
theorem dJ16_copyOfRangeByte_16 : decode cJ16_copyOfRangeByte 16 = .ok (.aload 4, 2) := dk_25 4 (dk_at dksJ16_copyOfRangeByte_0 16 rfl rfl)
theorem dJ16_copyOfRangeByte_18 : decode cJ16_copyOfRangeByte 18 = .ok (.iconst 0, 1) := dk_3 (dk_at dksJ16_copyOfRangeByte_0 18 rfl rfl)
theorem dJ16_copyOfRangeByte_19 : decode cJ16_copyOfRangeByte 19 = .ok (.aload_n 0, 1) := dk_42 (dk_at dksJ16_copyOfRangeByte_0 19 rfl rfl)
theorem dJ16_copyOfRangeByte_20 : decode cJ16_copyOfRangeByte 20 = .ok (.arraylength, 1) := dk_190 (dk_at dksJ16_copyOfRangeByte_0 20 rfl rfl)
theorem dJ16_copyOfRangeByte_21 : decode cJ16_copyOfRangeByte 21 = .ok (.iload_n 1, 1) := dk_27 (dk_at dksJ16_copyOfRangeByte_0 21 rfl rfl)
theorem dJ16_copyOfRangeByte_22 : decode cJ16_copyOfRangeByte 22 = .ok (.isub, 1) := dk_100 (dk_at dksJ16_copyOfRangeByte_0 22 rfl rfl)
theorem dJ16_copyOfRangeByte_23 : decode cJ16_copyOfRangeByte 23 = .ok (.iload_n 3, 1) := dk_29 (dk_at dksJ16_copyOfRangeByte_0 23 rfl rfl)
theorem dJ16_copyOfRangeByte_24 : decode cJ16_copyOfRangeByte 24 = .ok (.invokestatic 304, 3) := dk_184 1 48 (dk_at dksJ16_copyOfRangeByte_1 0 rfl rfl)
theorem dJ16_copyOfRangeByte_27 : decode cJ16_copyOfRangeByte 27 = .ok (.invokestatic 150, 3) := dk_184 0 150 (dk_at dksJ16_copyOfRangeByte_1 3 rfl rfl)
theorem dJ16_copyOfRangeByte_30 : decode cJ16_copyOfRangeByte 30 = .ok (.aload 4, 2) := dk_25 4 (dk_at dksJ16_copyOfRangeByte_1 6 rfl rfl)
theorem dJ16_copyOfRangeByte_32 : decode cJ16_copyOfRangeByte 32 = .ok (.areturn, 1) := dk_176 (dk_at dksJ16_copyOfRangeByte_1 8 rfl rfl)
abbrev cJ16_checkLength : ByteArray := prog_54_method_131_code
def yJ16_checkLength : MethodName := ⟨RJ16, "checkLength", "(II)V"⟩
def dkwJ16_checkLength_1 : List UInt8 := [182, 0, 50, 27, 182, 0, 54, 182, 0, 61, 183, 0, 65, 191, 177]
abbrev dktJ16_checkLength_1 : List UInt8 := dkwJ16_checkLength_1 ++ []
def dkwJ16_checkLength_0 : List UInt8 := [27, 26, 162, 0, 35, 187, 0, 43, 89, 187, 0, 45, 89, 183, 0, 47, 26, 182, 0, 54, 19, 1, 81]
abbrev dktJ16_checkLength_0 : List UInt8 := dkwJ16_checkLength_0 ++ dktJ16_checkLength_1
theorem dksJ16_checkLength_0 : cJ16_checkLength.data.toList.drop 0 = dktJ16_checkLength_0 := by decide +kernel
theorem dksJ16_checkLength_1 : cJ16_checkLength.data.toList.drop 23 = dktJ16_checkLength_1 := dk_seg dksJ16_checkLength_0 23 rfl rfl
theorem dJ16_checkLength_0 : decode cJ16_checkLength 0 = .ok (.iload_n 1, 1) := dk_27 (dk_at dksJ16_checkLength_0 0 rfl rfl)
theorem dJ16_checkLength_1 : decode cJ16_checkLength 1 = .ok (.iload_n 0, 1) := dk_26 (dk_at dksJ16_checkLength_0 1 rfl rfl)
theorem dJ16_checkLength_2 : decode cJ16_checkLength 2 = .ok (.if_icmp .ge 35, 3) := dk_162 0 35 (dk_at dksJ16_checkLength_0 2 rfl rfl)
theorem dJ16_checkLength_5 : decode cJ16_checkLength 5 = .ok (.new 43, 3) := dk_187 0 43 (dk_at dksJ16_checkLength_0 5 rfl rfl)
theorem dJ16_checkLength_8 : decode cJ16_checkLength 8 = .ok (.dup, 1) := dk_89 (dk_at dksJ16_checkLength_0 8 rfl rfl)
theorem dJ16_checkLength_9 : decode cJ16_checkLength 9 = .ok (.new 45, 3) := dk_187 0 45 (dk_at dksJ16_checkLength_0 9 rfl rfl)
theorem dJ16_checkLength_12 : decode cJ16_checkLength 12 = .ok (.dup, 1) := dk_89 (dk_at dksJ16_checkLength_0 12 rfl rfl)
theorem dJ16_checkLength_13 : decode cJ16_checkLength 13 = .ok (.invokespecial 47, 3) := dk_183 0 47 (dk_at dksJ16_checkLength_0 13 rfl rfl)
theorem dJ16_checkLength_16 : decode cJ16_checkLength 16 = .ok (.iload_n 0, 1) := dk_26 (dk_at dksJ16_checkLength_0 16 rfl rfl)
theorem dJ16_checkLength_17 : decode cJ16_checkLength 17 = .ok (.invokevirtual 54, 3) := dk_182 0 54 (dk_at dksJ16_checkLength_0 17 rfl rfl)
theorem dJ16_checkLength_20 : decode cJ16_checkLength 20 = .ok (.ldc_w 337, 3) := dk_19 1 81 (dk_at dksJ16_checkLength_0 20 rfl rfl)
theorem dJ16_checkLength_23 : decode cJ16_checkLength 23 = .ok (.invokevirtual 50, 3) := dk_182 0 50 (dk_at dksJ16_checkLength_1 0 rfl rfl)
theorem dJ16_checkLength_26 : decode cJ16_checkLength 26 = .ok (.iload_n 1, 1) := dk_27 (dk_at dksJ16_checkLength_1 3 rfl rfl)
theorem dJ16_checkLength_27 : decode cJ16_checkLength 27 = .ok (.invokevirtual 54, 3) := dk_182 0 54 (dk_at dksJ16_checkLength_1 4 rfl rfl)
theorem dJ16_checkLength_30 : decode cJ16_checkLength 30 = .ok (.invokevirtual 61, 3) := dk_182 0 61 (dk_at dksJ16_checkLength_1 7 rfl rfl)
theorem dJ16_checkLength_33 : decode cJ16_checkLength 33 = .ok (.invokespecial 65, 3) := dk_183 0 65 (dk_at dksJ16_checkLength_1 10 rfl rfl)
theorem dJ16_checkLength_36 : decode cJ16_checkLength 36 = .ok (.athrow, 1) := dk_191 (dk_at dksJ16_checkLength_1 13 rfl rfl)
theorem dJ16_checkLength_37 : decode cJ16_checkLength 37 = .ok (.return_, 1) := dk_177 (dk_at dksJ16_checkLength_1 14 rfl rfl)
abbrev cJ16_copyOf_2 : ByteArray := prog_54_method_119_code
def yJ16_copyOf_2 : MethodName := ⟨RJ16, "copyOf", "([Ljava/lang/Object;I)[Ljava/lang/Object;"⟩
def dkwJ16_copyOf_2_0 : List UInt8 := [42, 27, 42, 182, 0, 86, 184, 1, 44, 176]
abbrev dktJ16_copyOf_2_0 : List UInt8 := dkwJ16_copyOf_2_0 ++ []
theorem dksJ16_copyOf_2_0 : cJ16_copyOf_2.data.toList.drop 0 = dktJ16_copyOf_2_0 := by decide +kernel
theorem dJ16_copyOf_2_0 : decode cJ16_copyOf_2 0 = .ok (.aload_n 0, 1) := dk_42 (dk_at dksJ16_copyOf_2_0 0 rfl rfl)
theorem dJ16_copyOf_2_1 : decode cJ16_copyOf_2 1 = .ok (.iload_n 1, 1) := dk_27 (dk_at dksJ16_copyOf_2_0 1 rfl rfl)
theorem dJ16_copyOf_2_2 : decode cJ16_copyOf_2 2 = .ok (.aload_n 0, 1) := dk_42 (dk_at dksJ16_copyOf_2_0 2 rfl rfl)
theorem dJ16_copyOf_2_3 : decode cJ16_copyOf_2 3 = .ok (.invokevirtual 86, 3) := dk_182 0 86 (dk_at dksJ16_copyOf_2_0 3 rfl rfl)
theorem dJ16_copyOf_2_6 : decode cJ16_copyOf_2 6 = .ok (.invokestatic 300, 3) := dk_184 1 44 (dk_at dksJ16_copyOf_2_0 6 rfl rfl)
theorem dJ16_copyOf_2_9 : decode cJ16_copyOf_2 9 = .ok (.areturn, 1) := dk_176 (dk_at dksJ16_copyOf_2_0 9 rfl rfl)
abbrev cJ16_copyOf_3 : ByteArray := prog_54_method_120_code
def yJ16_copyOf_3 : MethodName := ⟨RJ16, "copyOf", "([Ljava/lang/Object;ILjava/lang/Class;)[Ljava/lang/Object;"⟩
def dkwJ16_copyOf_3_1 : List UInt8 := [78, 42, 3, 45, 3, 42, 190, 27, 184, 1, 48, 184, 0, 150, 45, 176]
abbrev dktJ16_copyOf_3_1 : List UInt8 := dkwJ16_copyOf_3_1 ++ []
def dkwJ16_copyOf_3_0 : List UInt8 := [44, 18, 110, 166, 0, 10, 27, 189, 0, 2, 167, 0, 14, 44, 182, 0, 90, 27, 184, 0, 95, 192, 0, 110]
abbrev dktJ16_copyOf_3_0 : List UInt8 := dkwJ16_copyOf_3_0 ++ dktJ16_copyOf_3_1
theorem dksJ16_copyOf_3_0 : cJ16_copyOf_3.data.toList.drop 0 = dktJ16_copyOf_3_0 := by decide +kernel
theorem dksJ16_copyOf_3_1 : cJ16_copyOf_3.data.toList.drop 24 = dktJ16_copyOf_3_1 := dk_seg dksJ16_copyOf_3_0 24 rfl rfl
theorem dJ16_copyOf_3_0 : decode cJ16_copyOf_3 0 = .ok (.aload_n 2, 1) := dk_44 (dk_at dksJ16_copyOf_3_0 0 rfl rfl)
theorem dJ16_copyOf_3_1 : decode cJ16_copyOf_3 1 = .ok (.ldc 110, 2) := dk_18 110 (dk_at dksJ16_copyOf_3_0 1 rfl rfl)
theorem dJ16_copyOf_3_3 : decode cJ16_copyOf_3 3 = .ok (.if_acmp .ne 10, 3) := dk_166 0 10 (dk_at dksJ16_copyOf_3_0 3 rfl rfl)
theorem dJ16_copyOf_3_6 : decode cJ16_copyOf_3 6 = .ok (.iload_n 1, 1) := dk_27 (dk_at dksJ16_copyOf_3_0 6 rfl rfl)
theorem dJ16_copyOf_3_7 : decode cJ16_copyOf_3 7 = .ok (.anewarray 2, 3) := dk_189 0 2 (dk_at dksJ16_copyOf_3_0 7 rfl rfl)
theorem dJ16_copyOf_3_10 : decode cJ16_copyOf_3 10 = .ok (.goto 14, 3) := dk_167 0 14 (dk_at dksJ16_copyOf_3_0 10 rfl rfl)
theorem dJ16_copyOf_3_13 : decode cJ16_copyOf_3 13 = .ok (.aload_n 2, 1) := dk_44 (dk_at dksJ16_copyOf_3_0 13 rfl rfl)
theorem dJ16_copyOf_3_14 : decode cJ16_copyOf_3 14 = .ok (.invokevirtual 90, 3) := dk_182 0 90 (dk_at dksJ16_copyOf_3_0 14 rfl rfl)
theorem dJ16_copyOf_3_17 : decode cJ16_copyOf_3 17 = .ok (.iload_n 1, 1) := dk_27 (dk_at dksJ16_copyOf_3_0 17 rfl rfl)
theorem dJ16_copyOf_3_18 : decode cJ16_copyOf_3 18 = .ok (.invokestatic 95, 3) := dk_184 0 95 (dk_at dksJ16_copyOf_3_0 18 rfl rfl)
theorem dJ16_copyOf_3_21 : decode cJ16_copyOf_3 21 = .ok (.checkcast 110, 3) := dk_192 0 110 (dk_at dksJ16_copyOf_3_0 21 rfl rfl)
theorem dJ16_copyOf_3_24 : decode cJ16_copyOf_3 24 = .ok (.astore_n 3, 1) := dk_78 (dk_at dksJ16_copyOf_3_1 0 rfl rfl)
theorem dJ16_copyOf_3_25 : decode cJ16_copyOf_3 25 = .ok (.aload_n 0, 1) := dk_42 (dk_at dksJ16_copyOf_3_1 1 rfl rfl)
theorem dJ16_copyOf_3_26 : decode cJ16_copyOf_3 26 = .ok (.iconst 0, 1) := dk_3 (dk_at dksJ16_copyOf_3_1 2 rfl rfl)
theorem dJ16_copyOf_3_27 : decode cJ16_copyOf_3 27 = .ok (.aload_n 3, 1) := dk_45 (dk_at dksJ16_copyOf_3_1 3 rfl rfl)
theorem dJ16_copyOf_3_28 : decode cJ16_copyOf_3 28 = .ok (.iconst 0, 1) := dk_3 (dk_at dksJ16_copyOf_3_1 4 rfl rfl)
theorem dJ16_copyOf_3_29 : decode cJ16_copyOf_3 29 = .ok (.aload_n 0, 1) := dk_42 (dk_at dksJ16_copyOf_3_1 5 rfl rfl)
theorem dJ16_copyOf_3_30 : decode cJ16_copyOf_3 30 = .ok (.arraylength, 1) := dk_190 (dk_at dksJ16_copyOf_3_1 6 rfl rfl)
theorem dJ16_copyOf_3_31 : decode cJ16_copyOf_3 31 = .ok (.iload_n 1, 1) := dk_27 (dk_at dksJ16_copyOf_3_1 7 rfl rfl)
theorem dJ16_copyOf_3_32 : decode cJ16_copyOf_3 32 = .ok (.invokestatic 304, 3) := dk_184 1 48 (dk_at dksJ16_copyOf_3_1 8 rfl rfl)
theorem dJ16_copyOf_3_35 : decode cJ16_copyOf_3 35 = .ok (.invokestatic 150, 3) := dk_184 0 150 (dk_at dksJ16_copyOf_3_1 11 rfl rfl)
theorem dJ16_copyOf_3_38 : decode cJ16_copyOf_3 38 = .ok (.aload_n 3, 1) := dk_45 (dk_at dksJ16_copyOf_3_1 14 rfl rfl)
theorem dJ16_copyOf_3_39 : decode cJ16_copyOf_3 39 = .ok (.areturn, 1) := dk_176 (dk_at dksJ16_copyOf_3_1 15 rfl rfl)
abbrev cJ16_fill : ByteArray := prog_54_method_117_code
def yJ16_fill : MethodName := ⟨RJ16, "fill", "([Ljava/lang/Object;Ljava/lang/Object;)V"⟩
def dkwJ16_fill_0 : List UInt8 := [3, 61, 42, 190, 62, 28, 29, 162, 0, 13, 42, 28, 43, 83, 132, 2, 1, 167, 255, 244, 177]
abbrev dktJ16_fill_0 : List UInt8 := dkwJ16_fill_0 ++ []
theorem dksJ16_fill_0 : cJ16_fill.data.toList.drop 0 = dktJ16_fill_0 := by decide +kernel
theorem dJ16_fill_0 : decode cJ16_fill 0 = .ok (.iconst 0, 1) := dk_3 (dk_at dksJ16_fill_0 0 rfl rfl)
theorem dJ16_fill_1 : decode cJ16_fill 1 = .ok (.istore_n 2, 1) := dk_61 (dk_at dksJ16_fill_0 1 rfl rfl)
theorem dJ16_fill_2 : decode cJ16_fill 2 = .ok (.aload_n 0, 1) := dk_42 (dk_at dksJ16_fill_0 2 rfl rfl)
theorem dJ16_fill_3 : decode cJ16_fill 3 = .ok (.arraylength, 1) := dk_190 (dk_at dksJ16_fill_0 3 rfl rfl)
theorem dJ16_fill_4 : decode cJ16_fill 4 = .ok (.istore_n 3, 1) := dk_62 (dk_at dksJ16_fill_0 4 rfl rfl)
theorem dJ16_fill_5 : decode cJ16_fill 5 = .ok (.iload_n 2, 1) := dk_28 (dk_at dksJ16_fill_0 5 rfl rfl)
theorem dJ16_fill_6 : decode cJ16_fill 6 = .ok (.iload_n 3, 1) := dk_29 (dk_at dksJ16_fill_0 6 rfl rfl)
theorem dJ16_fill_7 : decode cJ16_fill 7 = .ok (.if_icmp .ge 13, 3) := dk_162 0 13 (dk_at dksJ16_fill_0 7 rfl rfl)
theorem dJ16_fill_10 : decode cJ16_fill 10 = .ok (.aload_n 0, 1) := dk_42 (dk_at dksJ16_fill_0 10 rfl rfl)
theorem dJ16_fill_11 : decode cJ16_fill 11 = .ok (.iload_n 2, 1) := dk_28 (dk_at dksJ16_fill_0 11 rfl rfl)
theorem dJ16_fill_12 : decode cJ16_fill 12 = .ok (.aload_n 1, 1) := dk_43 (dk_at dksJ16_fill_0 12 rfl rfl)
theorem dJ16_fill_13 : decode cJ16_fill 13 = .ok (.aastore, 1) := dk_83 (dk_at dksJ16_fill_0 13 rfl rfl)
theorem dJ16_fill_14 : decode cJ16_fill 14 = .ok (.iinc 2 1, 3) := dk_132 2 1 (dk_at dksJ16_fill_0 14 rfl rfl)
theorem dJ16_fill_17 : decode cJ16_fill 17 = .ok (.goto (-12), 3) := dk_167 255 244 (dk_at dksJ16_fill_0 17 rfl rfl)
theorem dJ16_fill_20 : decode cJ16_fill 20 = .ok (.return_, 1) := dk_177 (dk_at dksJ16_fill_0 20 rfl rfl)
theorem q171 : (Jvm.Cond.initialized "java/util/Arrays") ∈ lw_all := lw_g (lw_at lw_m1 25 rfl) rfl
theorem q671 : (Jvm.Cond.static ({ cls := "java/util/Arrays", name := "copyOf", desc := "([BI)[B" } : Jvm.MethodName)) ∈ lw_all := lw_g (lw_at lw_m3 45 rfl) rfl
theorem q672 : (Jvm.Cond.code ({ cls := "java/util/Arrays", name := "copyOf", desc := "([BI)[B" } : Jvm.MethodName) prog_54_method_121_code (3 : Nat) (Option.some (Jvm.ClassFile.FieldType.array Jvm.ClassFile.FieldType.byte))) ∈ lw_all := lw_g (lw_at lw_m3 46 rfl) rfl
theorem q673 : (Jvm.Cond.methodLink "java/util/Arrays" (310 : Nat) ({ cls := "[B", name := "clone", desc := "()Ljava/lang/Object;" } : Jvm.MethodName)) ∈ lw_all := lw_g (lw_at lw_m3 47 rfl) rfl
theorem q679 : (Jvm.Cond.classLink "java/util/Arrays" (311 : Nat) "[B") ∈ lw_all := lw_g (lw_at lw_m3 53 rfl) rfl
theorem q680 : (Jvm.Cond.methodLink "java/util/Arrays" (304 : Nat) ({ cls := "java/lang/Math", name := "min", desc := "(II)I" } : Jvm.MethodName)) ∈ lw_all := lw_g (lw_at lw_m3 54 rfl) rfl
theorem q683 : (Jvm.Cond.methodLink "java/util/Arrays" (150 : Nat) ({ cls := "java/lang/System", name := "arraycopy", desc := "(Ljava/lang/Object;ILjava/lang/Object;II)V" } : Jvm.MethodName)) ∈ lw_all := lw_g (lw_at lw_m3 57 rfl) rfl
theorem q812 : (Jvm.Cond.static ({ cls := "java/util/Arrays", name := "copyOfRange", desc := "([BII)[B" } : Jvm.MethodName)) ∈ lw_all := lw_g (lw_at lw_m3 186 rfl) rfl
theorem q813 : (Jvm.Cond.code ({ cls := "java/util/Arrays", name := "copyOfRange", desc := "([BII)[B" } : Jvm.MethodName) prog_54_method_132_code (3 : Nat) (Option.some (Jvm.ClassFile.FieldType.array Jvm.ClassFile.FieldType.byte))) ∈ lw_all := lw_g (lw_at lw_m3 187 rfl) rfl
theorem q814 : (Jvm.Cond.methodLink "java/util/Arrays" (339 : Nat) ({ cls := "java/util/Arrays", name := "copyOfRangeByte", desc := "([BII)[B" } : Jvm.MethodName)) ∈ lw_all := lw_g (lw_at lw_m3 188 rfl) rfl
theorem q815 : (Jvm.Cond.static ({ cls := "java/util/Arrays", name := "copyOfRangeByte", desc := "([BII)[B" } : Jvm.MethodName)) ∈ lw_all := lw_g (lw_at lw_m3 189 rfl) rfl
theorem q816 : (Jvm.Cond.code ({ cls := "java/util/Arrays", name := "copyOfRangeByte", desc := "([BII)[B" } : Jvm.MethodName) prog_54_method_133_code (5 : Nat) (Option.some (Jvm.ClassFile.FieldType.array Jvm.ClassFile.FieldType.byte))) ∈ lw_all := lw_g (lw_at lw_m3 190 rfl) rfl
theorem q817 : (Jvm.Cond.methodLink "java/util/Arrays" (343 : Nat) ({ cls := "java/util/Arrays", name := "checkLength", desc := "(II)V" } : Jvm.MethodName)) ∈ lw_all := lw_g (lw_at lw_m3 191 rfl) rfl
theorem q818 : (Jvm.Cond.static ({ cls := "java/util/Arrays", name := "checkLength", desc := "(II)V" } : Jvm.MethodName)) ∈ lw_all := lw_g (lw_at lw_m3 192 rfl) rfl
theorem q819 : (Jvm.Cond.code ({ cls := "java/util/Arrays", name := "checkLength", desc := "(II)V" } : Jvm.MethodName) prog_54_method_131_code (2 : Nat) (Option.none : Option Jvm.ClassFile.FieldType)) ∈ lw_all := lw_g (lw_at lw_m3 193 rfl) rfl
theorem q820 : (Jvm.Cond.classLink "java/util/Arrays" (43 : Nat) "java/lang/IllegalArgumentException") ∈ lw_all := lw_g (lw_at lw_m3 194 rfl) rfl
theorem q821 : (Jvm.Cond.classLink "java/util/Arrays" (45 : Nat) "java/lang/StringBuilder") ∈ lw_all := lw_g (lw_at lw_m3 195 rfl) rfl
theorem q822 : (Jvm.Cond.methodLink "java/util/Arrays" (47 : Nat) ({ cls := "java/lang/StringBuilder", name := "<init>", desc := "()V" } : Jvm.MethodName)) ∈ lw_all := lw_g (lw_at lw_m3 196 rfl) rfl
theorem q823 : (Jvm.Cond.methodLink "java/util/Arrays" (54 : Nat) ({ cls := "java/lang/StringBuilder", name := "append", desc := "(I)Ljava/lang/StringBuilder;" } : Jvm.MethodName)) ∈ lw_all := lw_g (lw_at lw_m3 197 rfl) rfl
theorem q824 : (Jvm.Cond.stringRef "java/util/Arrays" (337 : Nat) " > ") ∈ lw_tbl := lw_at lw_m3 198 rfl
theorem q825 : (Jvm.Cond.methodLink "java/util/Arrays" (50 : Nat) ({ cls := "java/lang/StringBuilder", name := "append", desc := "(Ljava/lang/String;)Ljava/lang/StringBuilder;" } : Jvm.MethodName)) ∈ lw_all := lw_g (lw_at lw_m3 199 rfl) rfl
theorem q826 : (Jvm.Cond.methodLink "java/util/Arrays" (61 : Nat) ({ cls := "java/lang/StringBuilder", name := "toString", desc := "()Ljava/lang/String;" } : Jvm.MethodName)) ∈ lw_all := lw_g (lw_at lw_m3 200 rfl) rfl
theorem q827 : (Jvm.Cond.methodLink "java/util/Arrays" (65 : Nat) ({ cls := "java/lang/IllegalArgumentException", name := "<init>", desc := "(Ljava/lang/String;)V" } : Jvm.MethodName)) ∈ lw_all := lw_g (lw_at lw_m3 201 rfl) rfl
theorem q1175 : (Jvm.Cond.static ({ cls := "java/util/Arrays", name := "copyOf", desc := "([Ljava/lang/Object;I)[Ljava/lang/Object;" } : Jvm.MethodName)) ∈ lw_all := lw_g (lw_at lw_m5 69 rfl) rfl
theorem q1176 : (Jvm.Cond.code ({ cls := "java/util/Arrays", name := "copyOf", desc := "([Ljava/lang/Object;I)[Ljava/lang/Object;" } : Jvm.MethodName) prog_54_method_119_code (2 : Nat) (Option.some (Jvm.ClassFile.FieldType.array (Jvm.ClassFile.FieldType.object "java/lang/Object")))) ∈ lw_all := lw_g (lw_at lw_m5 70 rfl) rfl
theorem q1177 : (Jvm.Cond.methodLink "java/util/Arrays" (86 : Nat) ({ cls := "java/lang/Object", name := "getClass", desc := "()Ljava/lang/Class;" } : Jvm.MethodName)) ∈ lw_all := lw_g (lw_at lw_m5 71 rfl) rfl
theorem q1210 : (Jvm.Cond.methodLink "java/util/Arrays" (300 : Nat) ({ cls := "java/util/Arrays", name := "copyOf", desc := "([Ljava/lang/Object;ILjava/lang/Class;)[Ljava/lang/Object;" } : Jvm.MethodName)) ∈ lw_all := lw_g (lw_at lw_m5 104 rfl) rfl
theorem q1211 : (Jvm.Cond.static ({ cls := "java/util/Arrays", name := "copyOf", desc := "([Ljava/lang/Object;ILjava/lang/Class;)[Ljava/lang/Object;" } : Jvm.MethodName)) ∈ lw_all := lw_g (lw_at lw_m5 105 rfl) rfl
theorem q1212 : (Jvm.Cond.code ({ cls := "java/util/Arrays", name := "copyOf", desc := "([Ljava/lang/Object;ILjava/lang/Class;)[Ljava/lang/Object;" } : Jvm.MethodName) prog_54_method_120_code (4 : Nat) (Option.some (Jvm.ClassFile.FieldType.array (Jvm.ClassFile.FieldType.object "java/lang/Object")))) ∈ lw_all := lw_g (lw_at lw_m5 106 rfl) rfl
theorem q1213 : (Jvm.Cond.classLink "java/util/Arrays" (110 : Nat) "[Ljava/lang/Object;") ∈ lw_all := lw_g (lw_at lw_m5 107 rfl) rfl
theorem q1214 : (Jvm.Cond.classLink "java/util/Arrays" (2 : Nat) "java/lang/Object") ∈ lw_all := lw_g (lw_at lw_m5 108 rfl) rfl
theorem q1530 : (Jvm.Cond.static ({ cls := "java/util/Arrays", name := "fill", desc := "([Ljava/lang/Object;Ljava/lang/Object;)V" } : Jvm.MethodName)) ∈ lw_all := lw_g (lw_at lw_m6 184 rfl) rfl
theorem q1531 : (Jvm.Cond.code ({ cls := "java/util/Arrays", name := "fill", desc := "([Ljava/lang/Object;Ljava/lang/Object;)V" } : Jvm.MethodName) prog_54_method_117_code (4 : Nat) (Option.none : Option Jvm.ClassFile.FieldType)) ∈ lw_all := lw_g (lw_at lw_m6 185 rfl) rfl

/-! jdk/internal/util/Preconditions -/
set_option maxRecDepth 100000
def RJ17 : String := "jdk/internal/util/Preconditions"
abbrev cJ17_checkIndex : ByteArray := prog_66_method_11_code
def yJ17_checkIndex : MethodName := ⟨RJ17, "checkIndex", "(IILjava/util/function/BiFunction;)I"⟩
def dkwJ17_checkIndex_0 : List UInt8 := [26, 155, 0, 8, 26, 27, 161, 0, 10, 44, 26, 27, 184, 0, 95, 191, 26, 172]
abbrev dktJ17_checkIndex_0 : List UInt8 := dkwJ17_checkIndex_0 ++ []
theorem dksJ17_checkIndex_0 : cJ17_checkIndex.data.toList.drop 0 = dktJ17_checkIndex_0 := by decide +kernel
theorem dJ17_checkIndex_0 : decode cJ17_checkIndex 0 = .ok (.iload_n 0, 1) := dk_26 (dk_at dksJ17_checkIndex_0 0 rfl rfl)
theorem dJ17_checkIndex_1 : decode cJ17_checkIndex 1 = .ok (.ifCond .lt 8, 3) := dk_155 0 8 (dk_at dksJ17_checkIndex_0 1 rfl rfl)
theorem dJ17_checkIndex_4 : decode cJ17_checkIndex 4 = .ok (.iload_n 0, 1) := dk_26 (dk_at dksJ17_checkIndex_0 4 rfl rfl)
theorem dJ17_checkIndex_5 : decode cJ17_checkIndex 5 = .ok (.iload_n 1, 1) := dk_27 (dk_at dksJ17_checkIndex_0 5 rfl rfl)
theorem dJ17_checkIndex_6 : decode cJ17_checkIndex 6 = .ok (.if_icmp .lt 10, 3) := dk_161 0 10 (dk_at dksJ17_checkIndex_0 6 rfl rfl)
theorem dJ17_checkIndex_9 : decode cJ17_checkIndex 9 = .ok (.aload_n 2, 1) := dk_44 (dk_at dksJ17_checkIndex_0 9 rfl rfl)
theorem dJ17_checkIndex_10 : decode cJ17_checkIndex 10 = .ok (.iload_n 0, 1) := dk_26 (dk_at dksJ17_checkIndex_0 10 rfl rfl)
theorem dJ17_checkIndex_11 : decode cJ17_checkIndex 11 = .ok (.iload_n 1, 1) := dk_27 (dk_at dksJ17_checkIndex_0 11 rfl rfl)
theorem dJ17_checkIndex_12 : decode cJ17_checkIndex 12 = .ok (.invokestatic 95, 3) := dk_184 0 95 (dk_at dksJ17_checkIndex_0 12 rfl rfl)
theorem dJ17_checkIndex_15 : decode cJ17_checkIndex 15 = .ok (.athrow, 1) := dk_191 (dk_at dksJ17_checkIndex_0 15 rfl rfl)
theorem dJ17_checkIndex_16 : decode cJ17_checkIndex 16 = .ok (.iload_n 0, 1) := dk_26 (dk_at dksJ17_checkIndex_0 16 rfl rfl)
theorem dJ17_checkIndex_17 : decode cJ17_checkIndex 17 = .ok (.ireturn, 1) := dk_172 (dk_at dksJ17_checkIndex_0 17 rfl rfl)
abbrev cJ17_checkFromToIndex : ByteArray := prog_66_method_12_code
def yJ17_checkFromToIndex : MethodName := ⟨RJ17, "checkFromToIndex", "(IIILjava/util/function/BiFunction;)I"⟩
def dkwJ17_checkFromToIndex_0 : List UInt8 := [26, 155, 0, 13, 26, 27, 163, 0, 8, 27, 28, 164, 0, 11, 45, 26, 27, 28, 184, 0, 99, 191, 26, 172]
abbrev dktJ17_checkFromToIndex_0 : List UInt8 := dkwJ17_checkFromToIndex_0 ++ []
theorem dksJ17_checkFromToIndex_0 : cJ17_checkFromToIndex.data.toList.drop 0 = dktJ17_checkFromToIndex_0 := by decide +kernel
theorem dJ17_checkFromToIndex_0 : decode cJ17_checkFromToIndex 0 = .ok (.iload_n 0, 1) := dk_26 (dk_at dksJ17_checkFromToIndex_0 0 rfl rfl)
theorem dJ17_checkFromToIndex_1 : decode cJ17_checkFromToIndex 1 = .ok (.ifCond .lt 13, 3) := dk_155 0 13 (dk_at dksJ17_checkFromToIndex_0 1 rfl rfl)
theorem dJ17_checkFromToIndex_4 : decode cJ17_checkFromToIndex 4 = .ok (.iload_n 0, 1) := dk_26 (dk_at dksJ17_checkFromToIndex_0 4 rfl rfl)
theorem dJ17_checkFromToIndex_5 : decode cJ17_checkFromToIndex 5 = .ok (.iload_n 1, 1) := dk_27 (dk_at dksJ17_checkFromToIndex_0 5 rfl rfl)
theorem dJ17_checkFromToIndex_6 : decode cJ17_checkFromToIndex 6 = .ok (.if_icmp .gt 8, 3) := dk_163 0 8 (dk_at dksJ17_checkFromToIndex_0 6 rfl rfl)
theorem dJ17_checkFromToIndex_9 : decode cJ17_checkFromToIndex 9 = .ok (.iload_n 1, 1) := dk_27 (dk_at dksJ17_checkFromToIndex_0 9 rfl rfl)
theorem dJ17_checkFromToIndex_10 : decode cJ17_checkFromToIndex 10 = .ok (.iload_n 2, 1) := dk_28 (dk_at dksJ17_checkFromToIndex_0 10 rfl rfl)
theorem dJ17_checkFromToIndex_11 : decode cJ17_checkFromToIndex 11 = .ok (.if_icmp .le 11, 3) := dk_164 0 11 (dk_at dksJ17_checkFromToIndex_0 11 rfl rfl)
theorem dJ17_checkFromToIndex_14 : decode cJ17_checkFromToIndex 14 = .ok (.aload_n 3, 1) := dk_45 (dk_at dksJ17_checkFromToIndex_0 14 rfl rfl)
theorem dJ17_checkFromToIndex_15 : decode cJ17_checkFromToIndex 15 = .ok (.iload_n 0, 1) := dk_26 (dk_at dksJ17_checkFromToIndex_0 15 rfl rfl)
theorem dJ17_checkFromToIndex_16 : decode cJ17_checkFromToIndex 16 = .ok (.iload_n 1, 1) := dk_27 (dk_at dksJ17_checkFromToIndex_0 16 rfl rfl)
theorem dJ17_checkFromToIndex_17 : decode cJ17_checkFromToIndex 17 = .ok (.iload_n 2, 1) := dk_28 (dk_at dksJ17_checkFromToIndex_0 17 rfl rfl)
theorem dJ17_checkFromToIndex_18 : decode cJ17_checkFromToIndex 18 = .ok (.invokestatic 99, 3) := dk_184 0 99 (dk_at dksJ17_checkFromToIndex_0 18 rfl rfl)
theorem dJ17_checkFromToIndex_21 : decode cJ17_checkFromToIndex 21 = .ok (.athrow, 1) := dk_191 (dk_at dksJ17_checkFromToIndex_0 21 rfl rfl)
theorem dJ17_checkFromToIndex_22 : decode cJ17_checkFromToIndex 22 = .ok (.iload_n 0, 1) := dk_26 (dk_at dksJ17_checkFromToIndex_0 22 rfl rfl)
theorem dJ17_checkFromToIndex_23 : decode cJ17_checkFromToIndex 23 = .ok (.ireturn, 1) := dk_172 (dk_at dksJ17_checkFromToIndex_0 23 rfl rfl)
abbrev cJ17_checkFromIndexSize : ByteArray := prog_66_method_13_code
def yJ17_checkFromIndexSize : MethodName := ⟨RJ17, "checkFromIndexSize", "(IIILjava/util/function/BiFunction;)I"⟩
def dkwJ17_checkFromIndexSize_1 : List UInt8 := [172]
abbrev dktJ17_checkFromIndexSize_1 : List UInt8 := dkwJ17_checkFromIndexSize_1 ++ []
def dkwJ17_checkFromIndexSize_0 : List UInt8 := [28, 26, 128, 27, 128, 155, 0, 10, 27, 28, 26, 100, 164, 0, 11, 45, 26, 27, 28, 184, 0, 103, 191, 26]
abbrev dktJ17_checkFromIndexSize_0 : List UInt8 := dkwJ17_checkFromIndexSize_0 ++ dktJ17_checkFromIndexSize_1
theorem dksJ17_checkFromIndexSize_0 : cJ17_checkFromIndexSize.data.toList.drop 0 = dktJ17_checkFromIndexSize_0 := by decide +kernel
theorem dksJ17_checkFromIndexSize_1 : cJ17_checkFromIndexSize.data.toList.drop 24 = dktJ17_checkFromIndexSize_1 := dk_seg dksJ17_checkFromIndexSize_0 24 rfl rfl
theorem dJ17_checkFromIndexSize_0 : decode cJ17_checkFromIndexSize 0 = .ok (.iload_n 2, 1) := dk_28 (dk_at dksJ17_checkFromIndexSize_0 0 rfl rfl)
theorem dJ17_checkFromIndexSize_1 : decode cJ17_checkFromIndexSize 1 = .ok (.iload_n 0, 1) := dk_26 (dk_at dksJ17_checkFromIndexSize_0 1 rfl rfl)
theorem dJ17_checkFromIndexSize_2 : decode cJ17_checkFromIndexSize 2 = .ok (.ior, 1) := dk_128 (dk_at dksJ17_checkFromIndexSize_0 2 rfl rfl)
theorem dJ17_checkFromIndexSize_3 : decode cJ17_checkFromIndexSize 3 = .ok (.iload_n 1, 1) := dk_27 (dk_at dksJ17_checkFromIndexSize_0 3 rfl rfl)
theorem dJ17_checkFromIndexSize_4 : decode cJ17_checkFromIndexSize 4 = .ok (.ior, 1) := dk_128 (dk_at dksJ17_checkFromIndexSize_0 4 rfl rfl)
theorem dJ17_checkFromIndexSize_5 : decode cJ17_checkFromIndexSize 5 = .ok (.ifCond .lt 10, 3) := dk_155 0 10 (dk_at dksJ17_checkFromIndexSize_0 5 rfl rfl)
theorem dJ17_checkFromIndexSize_8 : decode cJ17_checkFromIndexSize 8 = .ok (.iload_n 1, 1) := dk_27 (dk_at dksJ17_checkFromIndexSize_0 8 rfl rfl)
theorem dJ17_checkFromIndexSize_9 : decode cJ17_checkFromIndexSize 9 = .ok (.iload_n 2, 1) := dk_28 (dk_at dksJ17_checkFromIndexSize_0 9 rfl rfl)
theorem dJ17_checkFromIndexSize_10 : decode cJ17_checkFromIndexSize 10 = .ok (.iload_n 0, 1) := dk_26 (dk_at dksJ17_checkFromIndexSize_0 10 rfl rfl)
theorem dJ17_checkFromIndexSize_11 : decode cJ17_checkFromIndexSize 11 = .ok (.isub, 1) := dk_100 (dk_at dksJ17_checkFromIndexSize_0 11 rfl rfl)
theorem dJ17_checkFromIndexSize_12 : decode cJ17_checkFromIndexSize 12 = .ok (.if_icmp .le 11, 3) := dk_164 0 11 (dk_at dksJ17_checkFromIndexSize_0 12 rfl rfl)
theorem dJ17_checkFromIndexSize_15 : decode cJ17_checkFromIndexSize 15 = .ok (.aload_n 3, 1) := dk_45 (dk_at dksJ17_checkFromIndexSize_0 15 rfl rfl)
theorem dJ17_checkFromIndexSize_16 : decode cJ17_checkFromIndexSize 16 = .ok (.iload_n 0, 1) := dk_26 (dk_at dksJ17_checkFromIndexSize_0 16 rfl rfl)
theorem dJ17_checkFromIndexSize_17 : decode cJ17_checkFromIndexSize 17 = .ok (.iload_n 1, 1) := dk_27 (dk_at dksJ17_checkFromIndexSize_0 17 rfl rfl)
theorem dJ17_checkFromIndexSize_18 : decode cJ17_checkFromIndexSize 18 = .ok (.iload_n 2, 1) := dk_28 (dk_at dksJ17_checkFromIndexSize_0 18 rfl rfl)
theorem dJ17_checkFromIndexSize_19 : decode cJ17_checkFromIndexSize 19 = .ok (.invokestatic 103, 3) := dk_184 0 103 (dk_at dksJ17_checkFromIndexSize_0 19 rfl rfl)
theorem dJ17_checkFromIndexSize_22 : decode cJ17_checkFromIndexSize 22 = .ok (.athrow, 1) := dk_191 (dk_at dksJ17_checkFromIndexSize_0 22 rfl rfl)
theorem dJ17_checkFromIndexSize_23 : decode cJ17_checkFromIndexSize 23 = .ok (.iload_n 0, 1) := dk_26 (dk_at dksJ17_checkFromIndexSize_0 23 rfl rfl)
theorem dJ17_checkFromIndexSize_24 : decode cJ17_checkFromIndexSize 24 = .ok (.ireturn, 1) := dk_172 (dk_at dksJ17_checkFromIndexSize_1 0 rfl rfl)
theorem q173 : (Jvm.Cond.initialized "jdk/internal/util/Preconditions") ∈ lw_all := lw_g (lw_at lw_m1 27 rfl) rfl
theorem q375 : (Jvm.Cond.static ({ cls := "jdk/internal/util/Preconditions", name := "checkIndex", desc := "(IILjava/util/function/BiFunction;)I" } : Jvm.MethodName)) ∈ lw_all := lw_g (lw_at lw_m1 229 rfl) rfl
theorem q376 : (Jvm.Cond.code ({ cls := "jdk/internal/util/Preconditions", name := "checkIndex", desc := "(IILjava/util/function/BiFunction;)I" } : Jvm.MethodName) prog_66_method_11_code (3 : Nat) (Option.some Jvm.ClassFile.FieldType.int)) ∈ lw_all := lw_g (lw_at lw_m1 230 rfl) rfl
theorem q704 : (Jvm.Cond.laysStatic "jdk/internal/util/Preconditions" "SIOOBE_FORMATTER" "Ljava/util/function/BiFunction;") ∈ lw_tbl := lw_at lw_m3 78 rfl
theorem q706 : (Jvm.Cond.static ({ cls := "jdk/internal/util/Preconditions", name := "checkFromToIndex", desc := "(IIILjava/util/function/BiFunction;)I" } : Jvm.MethodName)) ∈ lw_all := lw_g (lw_at lw_m3 80 rfl) rfl
theorem q707 : (Jvm.Cond.code ({ cls := "jdk/internal/util/Preconditions", name := "checkFromToIndex", desc := "(IIILjava/util/function/BiFunction;)I" } : Jvm.MethodName) prog_66_method_12_code (4 : Nat) (Option.some Jvm.ClassFile.FieldType.int)) ∈ lw_all := lw_g (lw_at lw_m3 81 rfl) rfl
theorem q752 : (Jvm.Cond.static ({ cls := "jdk/internal/util/Preconditions", name := "checkFromIndexSize", desc := "(IIILjava/util/function/BiFunction;)I" } : Jvm.MethodName)) ∈ lw_all := lw_g (lw_at lw_m3 126 rfl) rfl
theorem q753 : (Jvm.Cond.code ({ cls := "jdk/internal/util/Preconditions", name := "checkFromIndexSize", desc := "(IIILjava/util/function/BiFunction;)I" } : Jvm.MethodName) prog_66_method_13_code (4 : Nat) (Option.some Jvm.ClassFile.FieldType.int)) ∈ lw_all := lw_g (lw_at lw_m3 127 rfl) rfl

/-! java/lang/StringLatin1 -/
set_option maxRecDepth 100000
def RJ18 : String := "java/lang/StringLatin1"
abbrev cJ18_inflate : ByteArray := prog_43_method_50_code
def yJ18_inflate : MethodName := ⟨RJ18, "inflate", "([BI[BII)V"⟩
def dkwJ18_inflate_0 : List UInt8 := [42, 27, 44, 29, 21, 4, 184, 0, 240, 177]
abbrev dktJ18_inflate_0 : List UInt8 := dkwJ18_inflate_0 ++ []
theorem dksJ18_inflate_0 : cJ18_inflate.data.toList.drop 0 = dktJ18_inflate_0 := by decide +kernel
theorem dJ18_inflate_0 : decode cJ18_inflate 0 = .ok (.aload_n 0, 1) := dk_42 (dk_at dksJ18_inflate_0 0 rfl rfl)
theorem dJ18_inflate_1 : decode cJ18_inflate 1 = .ok (.iload_n 1, 1) := dk_27 (dk_at dksJ18_inflate_0 1 rfl rfl)
theorem dJ18_inflate_2 : decode cJ18_inflate 2 = .ok (.aload_n 2, 1) := dk_44 (dk_at dksJ18_inflate_0 2 rfl rfl)
theorem dJ18_inflate_3 : decode cJ18_inflate 3 = .ok (.iload_n 3, 1) := dk_29 (dk_at dksJ18_inflate_0 3 rfl rfl)
theorem dJ18_inflate_4 : decode cJ18_inflate 4 = .ok (.iload 4, 2) := dk_21 4 (dk_at dksJ18_inflate_0 4 rfl rfl)
theorem dJ18_inflate_6 : decode cJ18_inflate 6 = .ok (.invokestatic 240, 3) := dk_184 0 240 (dk_at dksJ18_inflate_0 6 rfl rfl)
theorem dJ18_inflate_9 : decode cJ18_inflate 9 = .ok (.return_, 1) := dk_177 (dk_at dksJ18_inflate_0 9 rfl rfl)
abbrev cJ18_canEncode : ByteArray := prog_43_method_3_code
def yJ18_canEncode : MethodName := ⟨RJ18, "canEncode", "(C)Z"⟩
def dkwJ18_canEncode_0 : List UInt8 := [26, 17, 0, 255, 163, 0, 7, 4, 167, 0, 4, 3, 172]
abbrev dktJ18_canEncode_0 : List UInt8 := dkwJ18_canEncode_0 ++ []
theorem dksJ18_canEncode_0 : cJ18_canEncode.data.toList.drop 0 = dktJ18_canEncode_0 := by decide +kernel
theorem dJ18_canEncode_0 : decode cJ18_canEncode 0 = .ok (.iload_n 0, 1) := dk_26 (dk_at dksJ18_canEncode_0 0 rfl rfl)
theorem dJ18_canEncode_1 : decode cJ18_canEncode 1 = .ok (.sipush 255, 3) := dk_17 0 255 (dk_at dksJ18_canEncode_0 1 rfl rfl)
theorem dJ18_canEncode_4 : decode cJ18_canEncode 4 = .ok (.if_icmp .gt 7, 3) := dk_163 0 7 (dk_at dksJ18_canEncode_0 4 rfl rfl)
theorem dJ18_canEncode_7 : decode cJ18_canEncode 7 = .ok (.iconst 1, 1) := dk_4 (dk_at dksJ18_canEncode_0 7 rfl rfl)
theorem dJ18_canEncode_8 : decode cJ18_canEncode 8 = .ok (.goto 4, 3) := dk_167 0 4 (dk_at dksJ18_canEncode_0 8 rfl rfl)
theorem dJ18_canEncode_11 : decode cJ18_canEncode 11 = .ok (.iconst 0, 1) := dk_3 (dk_at dksJ18_canEncode_0 11 rfl rfl)
theorem dJ18_canEncode_12 : decode cJ18_canEncode 12 = .ok (.ireturn, 1) := dk_172 (dk_at dksJ18_canEncode_0 12 rfl rfl)
abbrev cJ18_equals : ByteArray := prog_43_method_13_code
def yJ18_equals : MethodName := ⟨RJ18, "equals", "([B[B)Z"⟩
def dkwJ18_equals_1 : List UInt8 := [3, 172, 132, 2, 1, 167, 255, 236, 4, 172, 3, 172]
abbrev dktJ18_equals_1 : List UInt8 := dkwJ18_equals_1 ++ []
def dkwJ18_equals_0 : List UInt8 := [42, 190, 43, 190, 160, 0, 30, 3, 61, 28, 42, 190, 162, 0, 20, 42, 28, 51, 43, 28, 51, 159, 0, 5]
abbrev dktJ18_equals_0 : List UInt8 := dkwJ18_equals_0 ++ dktJ18_equals_1
theorem dksJ18_equals_0 : cJ18_equals.data.toList.drop 0 = dktJ18_equals_0 := by decide +kernel
theorem dksJ18_equals_1 : cJ18_equals.data.toList.drop 24 = dktJ18_equals_1 := dk_seg dksJ18_equals_0 24 rfl rfl
theorem dJ18_equals_0 : decode cJ18_equals 0 = .ok (.aload_n 0, 1) := dk_42 (dk_at dksJ18_equals_0 0 rfl rfl)
theorem dJ18_equals_1 : decode cJ18_equals 1 = .ok (.arraylength, 1) := dk_190 (dk_at dksJ18_equals_0 1 rfl rfl)
theorem dJ18_equals_2 : decode cJ18_equals 2 = .ok (.aload_n 1, 1) := dk_43 (dk_at dksJ18_equals_0 2 rfl rfl)
theorem dJ18_equals_3 : decode cJ18_equals 3 = .ok (.arraylength, 1) := dk_190 (dk_at dksJ18_equals_0 3 rfl rfl)
theorem dJ18_equals_4 : decode cJ18_equals 4 = .ok (.if_icmp .ne 30, 3) := dk_160 0 30 (dk_at dksJ18_equals_0 4 rfl rfl)
theorem dJ18_equals_7 : decode cJ18_equals 7 = .ok (.iconst 0, 1) := dk_3 (dk_at dksJ18_equals_0 7 rfl rfl)
theorem dJ18_equals_8 : decode cJ18_equals 8 = .ok (.istore_n 2, 1) := dk_61 (dk_at dksJ18_equals_0 8 rfl rfl)
theorem dJ18_equals_9 : decode cJ18_equals 9 = .ok (.iload_n 2, 1) := dk_28 (dk_at dksJ18_equals_0 9 rfl rfl)
theorem dJ18_equals_10 : decode cJ18_equals 10 = .ok (.aload_n 0, 1) := dk_42 (dk_at dksJ18_equals_0 10 rfl rfl)
theorem dJ18_equals_11 : decode cJ18_equals 11 = .ok (.arraylength, 1) := dk_190 (dk_at dksJ18_equals_0 11 rfl rfl)
theorem dJ18_equals_12 : decode cJ18_equals 12 = .ok (.if_icmp .ge 20, 3) := dk_162 0 20 (dk_at dksJ18_equals_0 12 rfl rfl)
theorem dJ18_equals_15 : decode cJ18_equals 15 = .ok (.aload_n 0, 1) := dk_42 (dk_at dksJ18_equals_0 15 rfl rfl)
theorem dJ18_equals_16 : decode cJ18_equals 16 = .ok (.iload_n 2, 1) := dk_28 (dk_at dksJ18_equals_0 16 rfl rfl)
theorem dJ18_equals_17 : decode cJ18_equals 17 = .ok (.baload, 1) := dk_51 (dk_at dksJ18_equals_0 17 rfl rfl)
theorem dJ18_equals_18 : decode cJ18_equals 18 = .ok (.aload_n 1, 1) := dk_43 (dk_at dksJ18_equals_0 18 rfl rfl)
theorem dJ18_equals_19 : decode cJ18_equals 19 = .ok (.iload_n 2, 1) := dk_28 (dk_at dksJ18_equals_0 19 rfl rfl)
theorem dJ18_equals_20 : decode cJ18_equals 20 = .ok (.baload, 1) := dk_51 (dk_at dksJ18_equals_0 20 rfl rfl)
theorem dJ18_equals_21 : decode cJ18_equals 21 = .ok (.if_icmp .eq 5, 3) := dk_159 0 5 (dk_at dksJ18_equals_0 21 rfl rfl)
theorem dJ18_equals_24 : decode cJ18_equals 24 = .ok (.iconst 0, 1) := dk_3 (dk_at dksJ18_equals_1 0 rfl rfl)
theorem dJ18_equals_25 : decode cJ18_equals 25 = .ok (.ireturn, 1) := dk_172 (dk_at dksJ18_equals_1 1 rfl rfl)
theorem dJ18_equals_26 : decode cJ18_equals 26 = .ok (.iinc 2 1, 3) := dk_132 2 1 (dk_at dksJ18_equals_1 2 rfl rfl)
theorem dJ18_equals_29 : decode cJ18_equals 29 = .ok (.goto (-20), 3) := dk_167 255 236 (dk_at dksJ18_equals_1 5 rfl rfl)
theorem dJ18_equals_32 : decode cJ18_equals 32 = .ok (.iconst 1, 1) := dk_4 (dk_at dksJ18_equals_1 8 rfl rfl)
theorem dJ18_equals_33 : decode cJ18_equals 33 = .ok (.ireturn, 1) := dk_172 (dk_at dksJ18_equals_1 9 rfl rfl)
theorem dJ18_equals_34 : decode cJ18_equals 34 = .ok (.iconst 0, 1) := dk_3 (dk_at dksJ18_equals_1 10 rfl rfl)
theorem dJ18_equals_35 : decode cJ18_equals 35 = .ok (.ireturn, 1) := dk_172 (dk_at dksJ18_equals_1 11 rfl rfl)
abbrev cJ18_hashCode : ByteArray := prog_43_method_21_code
def yJ18_hashCode : MethodName := ⟨RJ18, "hashCode", "([B)I"⟩
def dkwJ18_hashCode_2 : List UInt8 := [3, 167, 0, 22, 42, 3, 51, 17, 0, 255, 126, 167, 0, 12, 42, 3, 42, 190, 3, 7, 184, 0, 84, 172]
abbrev dktJ18_hashCode_2 : List UInt8 := dkwJ18_hashCode_2 ++ []
def dkwJ18_hashCode_1 : List UInt8 := [171, 0, 0, 0, 0, 40, 0, 0, 0, 2, 0, 0, 0, 0, 0, 0, 0, 26, 0, 0, 0, 1, 0, 0, 0, 30]
abbrev dktJ18_hashCode_1 : List UInt8 := dkwJ18_hashCode_1 ++ dktJ18_hashCode_2
def dkwJ18_hashCode_0 : List UInt8 := [42, 190]
abbrev dktJ18_hashCode_0 : List UInt8 := dkwJ18_hashCode_0 ++ dktJ18_hashCode_1
theorem dksJ18_hashCode_0 : cJ18_hashCode.data.toList.drop 0 = dktJ18_hashCode_0 := by decide +kernel
theorem dksJ18_hashCode_1 : cJ18_hashCode.data.toList.drop 2 = dktJ18_hashCode_1 := dk_seg dksJ18_hashCode_0 2 rfl rfl
theorem dksJ18_hashCode_2 : cJ18_hashCode.data.toList.drop 28 = dktJ18_hashCode_2 := dk_seg dksJ18_hashCode_1 26 rfl rfl
theorem dJ18_hashCode_0 : decode cJ18_hashCode 0 = .ok (.aload_n 0, 1) := dk_42 (dk_at dksJ18_hashCode_0 0 rfl rfl)
theorem dJ18_hashCode_1 : decode cJ18_hashCode 1 = .ok (.arraylength, 1) := dk_190 (dk_at dksJ18_hashCode_0 1 rfl rfl)
theorem dJ18_hashCode_2 : decode cJ18_hashCode 2 = .ok (.lookupswitch 40 #[(0, 26), (1, 30)], 26) := by decide +kernel
theorem dJ18_hashCode_28 : decode cJ18_hashCode 28 = .ok (.iconst 0, 1) := dk_3 (dk_at dksJ18_hashCode_2 0 rfl rfl)
theorem dJ18_hashCode_29 : decode cJ18_hashCode 29 = .ok (.goto 22, 3) := dk_167 0 22 (dk_at dksJ18_hashCode_2 1 rfl rfl)
theorem dJ18_hashCode_32 : decode cJ18_hashCode 32 = .ok (.aload_n 0, 1) := dk_42 (dk_at dksJ18_hashCode_2 4 rfl rfl)
theorem dJ18_hashCode_33 : decode cJ18_hashCode 33 = .ok (.iconst 0, 1) := dk_3 (dk_at dksJ18_hashCode_2 5 rfl rfl)
theorem dJ18_hashCode_34 : decode cJ18_hashCode 34 = .ok (.baload, 1) := dk_51 (dk_at dksJ18_hashCode_2 6 rfl rfl)
theorem dJ18_hashCode_35 : decode cJ18_hashCode 35 = .ok (.sipush 255, 3) := dk_17 0 255 (dk_at dksJ18_hashCode_2 7 rfl rfl)
theorem dJ18_hashCode_38 : decode cJ18_hashCode 38 = .ok (.iand, 1) := dk_126 (dk_at dksJ18_hashCode_2 10 rfl rfl)
theorem dJ18_hashCode_39 : decode cJ18_hashCode 39 = .ok (.goto 12, 3) := dk_167 0 12 (dk_at dksJ18_hashCode_2 11 rfl rfl)
theorem dJ18_hashCode_42 : decode cJ18_hashCode 42 = .ok (.aload_n 0, 1) := dk_42 (dk_at dksJ18_hashCode_2 14 rfl rfl)
theorem dJ18_hashCode_43 : decode cJ18_hashCode 43 = .ok (.iconst 0, 1) := dk_3 (dk_at dksJ18_hashCode_2 15 rfl rfl)
theorem dJ18_hashCode_44 : decode cJ18_hashCode 44 = .ok (.aload_n 0, 1) := dk_42 (dk_at dksJ18_hashCode_2 16 rfl rfl)
theorem dJ18_hashCode_45 : decode cJ18_hashCode 45 = .ok (.arraylength, 1) := dk_190 (dk_at dksJ18_hashCode_2 17 rfl rfl)
theorem dJ18_hashCode_46 : decode cJ18_hashCode 46 = .ok (.iconst 0, 1) := dk_3 (dk_at dksJ18_hashCode_2 18 rfl rfl)
theorem dJ18_hashCode_47 : decode cJ18_hashCode 47 = .ok (.iconst 4, 1) := dk_7 (dk_at dksJ18_hashCode_2 19 rfl rfl)
theorem dJ18_hashCode_48 : decode cJ18_hashCode 48 = .ok (.invokestatic 84, 3) := dk_184 0 84 (dk_at dksJ18_hashCode_2 20 rfl rfl)
theorem dJ18_hashCode_51 : decode cJ18_hashCode 51 = .ok (.ireturn, 1) := dk_172 (dk_at dksJ18_hashCode_2 23 rfl rfl)
abbrev cJ18_charAt : ByteArray := prog_43_method_2_code
def yJ18_charAt : MethodName := ⟨RJ18, "charAt", "([BI)C"⟩
def dkwJ18_charAt_0 : List UInt8 := [27, 42, 190, 184, 0, 9, 42, 27, 51, 17, 0, 255, 126, 146, 172]
abbrev dktJ18_charAt_0 : List UInt8 := dkwJ18_charAt_0 ++ []
theorem dksJ18_charAt_0 : cJ18_charAt.data.toList.drop 0 = dktJ18_charAt_0 := by decide +kernel
theorem dJ18_charAt_0 : decode cJ18_charAt 0 = .ok (.iload_n 1, 1) := dk_27 (dk_at dksJ18_charAt_0 0 rfl rfl)
theorem dJ18_charAt_1 : decode cJ18_charAt 1 = .ok (.aload_n 0, 1) := dk_42 (dk_at dksJ18_charAt_0 1 rfl rfl)
theorem dJ18_charAt_2 : decode cJ18_charAt 2 = .ok (.arraylength, 1) := dk_190 (dk_at dksJ18_charAt_0 2 rfl rfl)
theorem dJ18_charAt_3 : decode cJ18_charAt 3 = .ok (.invokestatic 9, 3) := dk_184 0 9 (dk_at dksJ18_charAt_0 3 rfl rfl)
theorem dJ18_charAt_6 : decode cJ18_charAt 6 = .ok (.aload_n 0, 1) := dk_42 (dk_at dksJ18_charAt_0 6 rfl rfl)
theorem dJ18_charAt_7 : decode cJ18_charAt 7 = .ok (.iload_n 1, 1) := dk_27 (dk_at dksJ18_charAt_0 7 rfl rfl)
theorem dJ18_charAt_8 : decode cJ18_charAt 8 = .ok (.baload, 1) := dk_51 (dk_at dksJ18_charAt_0 8 rfl rfl)
theorem dJ18_charAt_9 : decode cJ18_charAt 9 = .ok (.sipush 255, 3) := dk_17 0 255 (dk_at dksJ18_charAt_0 9 rfl rfl)
theorem dJ18_charAt_12 : decode cJ18_charAt 12 = .ok (.iand, 1) := dk_126 (dk_at dksJ18_charAt_0 12 rfl rfl)
theorem dJ18_charAt_13 : decode cJ18_charAt 13 = .ok (.i2c, 1) := dk_146 (dk_at dksJ18_charAt_0 13 rfl rfl)
theorem dJ18_charAt_14 : decode cJ18_charAt 14 = .ok (.ireturn, 1) := dk_172 (dk_at dksJ18_charAt_0 14 rfl rfl)
theorem q174 : (Jvm.Cond.initialized "java/lang/StringLatin1") ∈ lw_all := lw_g (lw_at lw_m1 28 rfl) rfl
theorem q740 : (Jvm.Cond.static ({ cls := "java/lang/StringLatin1", name := "inflate", desc := "([BI[BII)V" } : Jvm.MethodName)) ∈ lw_all := lw_g (lw_at lw_m3 114 rfl) rfl
theorem q741 : (Jvm.Cond.code ({ cls := "java/lang/StringLatin1", name := "inflate", desc := "([BI[BII)V" } : Jvm.MethodName) prog_43_method_50_code (5 : Nat) (Option.none : Option Jvm.ClassFile.FieldType)) ∈ lw_all := lw_g (lw_at lw_m3 115 rfl) rfl
theorem q742 : (Jvm.Cond.methodLink "java/lang/StringLatin1" (240 : Nat) ({ cls := "java/lang/StringUTF16", name := "inflate", desc := "([BI[BII)V" } : Jvm.MethodName)) ∈ lw_all := lw_g (lw_at lw_m3 116 rfl) rfl
theorem q953 : (Jvm.Cond.static ({ cls := "java/lang/StringLatin1", name := "canEncode", desc := "(C)Z" } : Jvm.MethodName)) ∈ lw_all := lw_g (lw_at lw_m4 87 rfl) rfl
theorem q954 : (Jvm.Cond.code ({ cls := "java/lang/StringLatin1", name := "canEncode", desc := "(C)Z" } : Jvm.MethodName) prog_43_method_3_code (1 : Nat) (Option.some Jvm.ClassFile.FieldType.boolean)) ∈ lw_all := lw_g (lw_at lw_m4 88 rfl) rfl
theorem q995 : (Jvm.Cond.static ({ cls := "java/lang/StringLatin1", name := "equals", desc := "([B[B)Z" } : Jvm.MethodName)) ∈ lw_all := lw_g (lw_at lw_m4 129 rfl) rfl
theorem q996 : (Jvm.Cond.code ({ cls := "java/lang/StringLatin1", name := "equals", desc := "([B[B)Z" } : Jvm.MethodName) prog_43_method_13_code (3 : Nat) (Option.some Jvm.ClassFile.FieldType.boolean)) ∈ lw_all := lw_g (lw_at lw_m4 130 rfl) rfl
theorem q1059 : (Jvm.Cond.static ({ cls := "java/lang/StringLatin1", name := "hashCode", desc := "([B)I" } : Jvm.MethodName)) ∈ lw_all := lw_g (lw_at lw_m4 193 rfl) rfl
theorem q1060 : (Jvm.Cond.code ({ cls := "java/lang/StringLatin1", name := "hashCode", desc := "([B)I" } : Jvm.MethodName) prog_43_method_21_code (1 : Nat) (Option.some Jvm.ClassFile.FieldType.int)) ∈ lw_all := lw_g (lw_at lw_m4 194 rfl) rfl
theorem q1061 : (Jvm.Cond.methodLink "java/lang/StringLatin1" (84 : Nat) ({ cls := "jdk/internal/util/ArraysSupport", name := "vectorizedHashCode", desc := "(Ljava/lang/Object;IIII)I" } : Jvm.MethodName)) ∈ lw_all := lw_g (lw_at lw_m4 195 rfl) rfl
theorem q2352 : (Jvm.Cond.static ({ cls := "java/lang/StringLatin1", name := "charAt", desc := "([BI)C" } : Jvm.MethodName)) ∈ lw_all := lw_g (lw_at lw_m10 46 rfl) rfl
theorem q2353 : (Jvm.Cond.code ({ cls := "java/lang/StringLatin1", name := "charAt", desc := "([BI)C" } : Jvm.MethodName) prog_43_method_2_code (2 : Nat) (Option.some Jvm.ClassFile.FieldType.char)) ∈ lw_all := lw_g (lw_at lw_m10 47 rfl) rfl
theorem q2354 : (Jvm.Cond.methodLink "java/lang/StringLatin1" (9 : Nat) ({ cls := "java/lang/String", name := "checkIndex", desc := "(II)V" } : Jvm.MethodName)) ∈ lw_all := lw_g (lw_at lw_m10 48 rfl) rfl

/-! java/lang/Integer -/
set_option maxRecDepth 100000
def RJ19 : String := "java/lang/Integer"
abbrev cJ19_stringSize : ByteArray := prog_36_method_13_code
def yJ19_stringSize : MethodName := ⟨RJ19, "stringSize", "(I)I"⟩
def dkwJ19_stringSize_1 : List UInt8 := [164, 0, 7, 29, 27, 96, 172, 16, 10, 28, 104, 61, 132, 3, 1, 167, 255, 233, 16, 10, 27, 96, 172]
abbrev dktJ19_stringSize_1 : List UInt8 := dkwJ19_stringSize_1 ++ []
def dkwJ19_stringSize_0 : List UInt8 := [4, 60, 26, 155, 0, 8, 3, 60, 26, 116, 59, 16, 246, 61, 4, 62, 29, 16, 10, 162, 0, 23, 26, 28]
abbrev dktJ19_stringSize_0 : List UInt8 := dkwJ19_stringSize_0 ++ dktJ19_stringSize_1
theorem dksJ19_stringSize_0 : cJ19_stringSize.data.toList.drop 0 = dktJ19_stringSize_0 := by decide +kernel
theorem dksJ19_stringSize_1 : cJ19_stringSize.data.toList.drop 24 = dktJ19_stringSize_1 := dk_seg dksJ19_stringSize_0 24 rfl rfl
theorem dJ19_stringSize_0 : decode cJ19_stringSize 0 = .ok (.iconst 1, 1) := dk_4 (dk_at dksJ19_stringSize_0 0 rfl rfl)
theorem dJ19_stringSize_1 : decode cJ19_stringSize 1 = .ok (.istore_n 1, 1) := dk_60 (dk_at dksJ19_stringSize_0 1 rfl rfl)
theorem dJ19_stringSize_2 : decode cJ19_stringSize 2 = .ok (.iload_n 0, 1) := dk_26 (dk_at dksJ19_stringSize_0 2 rfl rfl)
theorem dJ19_stringSize_3 : decode cJ19_stringSize 3 = .ok (.ifCond .lt 8, 3) := dk_155 0 8 (dk_at dksJ19_stringSize_0 3 rfl rfl)
theorem dJ19_stringSize_6 : decode cJ19_stringSize 6 = .ok (.iconst 0, 1) := dk_3 (dk_at dksJ19_stringSize_0 6 rfl rfl)
theorem dJ19_stringSize_7 : decode cJ19_stringSize 7 = .ok (.istore_n 1, 1) := dk_60 (dk_at dksJ19_stringSize_0 7 rfl rfl)
theorem dJ19_stringSize_8 : decode cJ19_stringSize 8 = .ok (.iload_n 0, 1) := dk_26 (dk_at dksJ19_stringSize_0 8 rfl rfl)
theorem dJ19_stringSize_9 : decode cJ19_stringSize 9 = .ok (.ineg, 1) := dk_116 (dk_at dksJ19_stringSize_0 9 rfl rfl)
theorem dJ19_stringSize_10 : decode cJ19_stringSize 10 = .ok (.istore_n 0, 1) := dk_59 (dk_at dksJ19_stringSize_0 10 rfl rfl)
theorem dJ19_stringSize_11 : decode cJ19_stringSize 11 = .ok (.bipush (-10), 2) := dk_16 246 (dk_at dksJ19_stringSize_0 11 rfl rfl)
theorem dJ19_stringSize_13 : decode cJ19_stringSize 13 = .ok (.istore_n 2, 1) := dk_61 (dk_at dksJ19_stringSize_0 13 rfl rfl)
theorem dJ19_stringSize_14 : decode cJ19_stringSize 14 = .ok (.iconst 1, 1) := dk_4 (dk_at dksJ19_stringSize_0 14 rfl rfl)
theorem dJ19_stringSize_15 : decode cJ19_stringSize 15 = .ok (.istore_n 3, 1) := dk_62 (dk_at dksJ19_stringSize_0 15 rfl rfl)
theorem dJ19_stringSize_16 : decode cJ19_stringSize 16 = .ok (.iload_n 3, 1) := dk_29 (dk_at dksJ19_stringSize_0 16 rfl rfl)
theorem dJ19_stringSize_17 : decode cJ19_stringSize 17 = .ok (.bipush 10, 2) := dk_16 10 (dk_at dksJ19_stringSize_0 17 rfl rfl)
theorem dJ19_stringSize_19 : decode cJ19_stringSize 19 = .ok (.if_icmp .ge 23, 3) := dk_162 0 23 (dk_at dksJ19_stringSize_0 19 rfl rfl)
theorem dJ19_stringSize_22 : decode cJ19_stringSize 22 = .ok (.iload_n 0, 1) := dk_26 (dk_at dksJ19_stringSize_0 22 rfl rfl)
theorem dJ19_stringSize_23 : decode cJ19_stringSize 23 = .ok (.iload_n 2, 1) := dk_28 (dk_at dksJ19_stringSize_0 23 rfl rfl)
theorem dJ19_stringSize_24 : decode cJ19_stringSize 24 = .ok (.if_icmp .le 7, 3) := dk_164 0 7 (dk_at dksJ19_stringSize_1 0 rfl rfl)
theorem dJ19_stringSize_27 : decode cJ19_stringSize 27 = .ok (.iload_n 3, 1) := dk_29 (dk_at dksJ19_stringSize_1 3 rfl rfl)
theorem dJ19_stringSize_28 : decode cJ19_stringSize 28 = .ok (.iload_n 1, 1) := dk_27 (dk_at dksJ19_stringSize_1 4 rfl rfl)
theorem dJ19_stringSize_29 : decode cJ19_stringSize 29 = .ok (.iadd, 1) := dk_96 (dk_at dksJ19_stringSize_1 5 rfl rfl)
theorem dJ19_stringSize_30 : decode cJ19_stringSize 30 = .ok (.ireturn, 1) := dk_172 (dk_at dksJ19_stringSize_1 6 rfl rfl)
theorem dJ19_stringSize_31 : decode cJ19_stringSize 31 = .ok (.bipush 10, 2) := dk_16 10 (dk_at dksJ19_stringSize_1 7 rfl rfl)
theorem dJ19_stringSize_33 : decode cJ19_stringSize 33 = .ok (.iload_n 2, 1) := dk_28 (dk_at dksJ19_stringSize_1 9 rfl rfl)
theorem dJ19_stringSize_34 : decode cJ19_stringSize 34 = .ok (.imul, 1) := dk_104 (dk_at dksJ19_stringSize_1 10 rfl rfl)
theorem dJ19_stringSize_35 : decode cJ19_stringSize 35 = .ok (.istore_n 2, 1) := dk_61 (dk_at dksJ19_stringSize_1 11 rfl rfl)
theorem dJ19_stringSize_36 : decode cJ19_stringSize 36 = .ok (.iinc 3 1, 3) := dk_132 3 1 (dk_at dksJ19_stringSize_1 12 rfl rfl)
theorem dJ19_stringSize_39 : decode cJ19_stringSize 39 = .ok (.goto (-23), 3) := dk_167 255 233 (dk_at dksJ19_stringSize_1 15 rfl rfl)
theorem dJ19_stringSize_42 : decode cJ19_stringSize 42 = .ok (.bipush 10, 2) := dk_16 10 (dk_at dksJ19_stringSize_1 18 rfl rfl)
theorem dJ19_stringSize_44 : decode cJ19_stringSize 44 = .ok (.iload_n 1, 1) := dk_27 (dk_at dksJ19_stringSize_1 20 rfl rfl)
theorem dJ19_stringSize_45 : decode cJ19_stringSize 45 = .ok (.iadd, 1) := dk_96 (dk_at dksJ19_stringSize_1 21 rfl rfl)
theorem dJ19_stringSize_46 : decode cJ19_stringSize 46 = .ok (.ireturn, 1) := dk_172 (dk_at dksJ19_stringSize_1 22 rfl rfl)
abbrev cJ19_getChars : ByteArray := prog_36_method_12_code
def yJ19_getChars : MethodName := ⟨RJ19, "getChars", "(II[B)I"⟩
def dkwJ19_getChars_5 : List UInt8 := [16, 45, 84, 21, 5, 172]
abbrev dktJ19_getChars_5 : List UInt8 := dkwJ19_getChars_5 ++ []
def dkwJ19_getChars_4 : List UInt8 := [132, 5, 255, 21, 5, 178, 0, 87, 26, 116, 51, 84, 21, 6, 153, 0, 12, 44, 132, 5, 255, 21, 5]
abbrev dktJ19_getChars_4 : List UInt8 := dkwJ19_getChars_4 ++ dktJ19_getChars_5
def dkwJ19_getChars_3 : List UInt8 := [167, 255, 209, 44, 132, 5, 255, 21, 5, 178, 0, 83, 26, 116, 51, 84, 26, 16, 247, 162, 0, 16, 44]
abbrev dktJ19_getChars_3 : List UInt8 := dkwJ19_getChars_3 ++ dktJ19_getChars_4
def dkwJ19_getChars_2 : List UInt8 := [21, 5, 178, 0, 83, 21, 4, 51, 84, 44, 132, 5, 255, 21, 5, 178, 0, 87, 21, 4, 51, 84]
abbrev dktJ19_getChars_2 : List UInt8 := dkwJ19_getChars_2 ++ dktJ19_getChars_3
def dkwJ19_getChars_1 : List UInt8 := [16, 156, 163, 0, 47, 26, 16, 100, 108, 62, 29, 16, 100, 104, 26, 100, 54, 4, 29, 59, 44, 132, 5, 255]
abbrev dktJ19_getChars_1 : List UInt8 := dkwJ19_getChars_1 ++ dktJ19_getChars_2
def dkwJ19_getChars_0 : List UInt8 := [27, 54, 5, 26, 156, 0, 7, 4, 167, 0, 4, 3, 54, 6, 21, 6, 154, 0, 6, 26, 116, 59, 26]
abbrev dktJ19_getChars_0 : List UInt8 := dkwJ19_getChars_0 ++ dktJ19_getChars_1
theorem dksJ19_getChars_0 : cJ19_getChars.data.toList.drop 0 = dktJ19_getChars_0 := by decide +kernel
theorem dksJ19_getChars_1 : cJ19_getChars.data.toList.drop 23 = dktJ19_getChars_1 := dk_seg dksJ19_getChars_0 23 rfl rfl
theorem dksJ19_getChars_2 : cJ19_getChars.data.toList.drop 47 = dktJ19_getChars_2 := dk_seg dksJ19_getChars_1 24 rfl rfl
theorem dksJ19_getChars_3 : cJ19_getChars.data.toList.drop 69 = dktJ19_getChars_3 := dk_seg dksJ19_getChars_2 22 rfl rfl
theorem dksJ19_getChars_4 : cJ19_getChars.data.toList.drop 92 = dktJ19_getChars_4 := dk_seg dksJ19_getChars_3 23 rfl rfl
theorem dksJ19_getChars_5 : cJ19_getChars.data.toList.drop 115 = dktJ19_getChars_5 := dk_seg dksJ19_getChars_4 23 rfl rfl
theorem dJ19_getChars_0 : decode cJ19_getChars 0 = .ok (.iload_n 1, 1) := dk_27 (dk_at dksJ19_getChars_0 0 rfl rfl)
theorem dJ19_getChars_1 : decode cJ19_getChars 1 = .ok (.istore 5, 2) := dk_54 5 (dk_at dksJ19_getChars_0 1 rfl rfl)
theorem dJ19_getChars_3 : decode cJ19_getChars 3 = .ok (.iload_n 0, 1) := dk_26 (dk_at dksJ19_getChars_0 3 rfl rfl)
theorem dJ19_getChars_4 : decode cJ19_getChars 4 = .ok (.ifCond .ge 7, 3) := dk_156 0 7 (dk_at dksJ19_getChars_0 4 rfl rfl)
theorem dJ19_getChars_7 : decode cJ19_getChars 7 = .ok (.iconst 1, 1) := dk_4 (dk_at dksJ19_getChars_0 7 rfl rfl)
theorem dJ19_getChars_8 : decode cJ19_getChars 8 = .ok (.goto 4, 3) := dk_167 0 4 (dk_at dksJ19_getChars_0 8 rfl rfl)
theorem dJ19_getChars_11 : decode cJ19_getChars 11 = .ok (.iconst 0, 1) := dk_3 (dk_at dksJ19_getChars_0 11 rfl rfl)
theorem dJ19_getChars_12 : decode cJ19_getChars 12 = .ok (.istore 6, 2) := dk_54 6 (dk_at dksJ19_getChars_0 12 rfl rfl)
theorem dJ19_getChars_14 : decode cJ19_getChars 14 = .ok (.iload 6, 2) := dk_21 6 (dk_at dksJ19_getChars_0 14 rfl rfl)
theorem dJ19_getChars_16 : decode cJ19_getChars 16 = .ok (.ifCond .ne 6, 3) := dk_154 0 6 (dk_at dksJ19_getChars_0 16 rfl rfl)
theorem dJ19_getChars_19 : decode cJ19_getChars 19 = .ok (.iload_n 0, 1) := dk_26 (dk_at dksJ19_getChars_0 19 rfl rfl)
theorem dJ19_getChars_20 : decode cJ19_getChars 20 = .ok (.ineg, 1) := dk_116 (dk_at dksJ19_getChars_0 20 rfl rfl)
theorem dJ19_getChars_21 : decode cJ19_getChars 21 = .ok (.istore_n 0, 1) := dk_59 (dk_at dksJ19_getChars_0 21 rfl rfl)
theorem dJ19_getChars_22 : decode cJ19_getChars 22 = .ok (.iload_n 0, 1) := dk_26 (dk_at dksJ19_getChars_0 22 rfl rfl)
theorem dJ19_getChars_23 : decode cJ19_getChars 23 = .ok (.bipush (-100), 2) := dk_16 156 (dk_at dksJ19_getChars_1 0 rfl rfl)
theorem dJ19_getChars_25 : decode cJ19_getChars 25 = .ok (.if_icmp .gt 47, 3) := dk_163 0 47 (dk_at dksJ19_getChars_1 2 rfl rfl)
theorem dJ19_getChars_28 : decode cJ19_getChars 28 = .ok (.iload_n 0, 1) := dk_26 (dk_at dksJ19_getChars_1 5 rfl rfl)
theorem dJ19_getChars_29 : decode cJ19_getChars 29 = .ok (.bipush 100, 2) := dk_16 100 (dk_at dksJ19_getChars_1 6 rfl rfl)
theorem dJ19_getChars_31 : decode cJ19_getChars 31 = .ok (.idiv, 1) := dk_108 (dk_at dksJ19_getChars_1 8 rfl rfl)
theorem dJ19_getChars_32 : decode cJ19_getChars 32 = .ok (.istore_n 3, 1) := dk_62 (dk_at dksJ19_getChars_1 9 rfl rfl)
theorem dJ19_getChars_33 : decode cJ19_getChars 33 = .ok (.iload_n 3, 1) := dk_29 (dk_at dksJ19_getChars_1 10 rfl rfl)
theorem dJ19_getChars_34 : decode cJ19_getChars 34 = .ok (.bipush 100, 2) := dk_16 100 (dk_at dksJ19_getChars_1 11 rfl rfl)
theorem dJ19_getChars_36 : decode cJ19_getChars 36 = .ok (.imul, 1) := dk_104 (dk_at dksJ19_getChars_1 13 rfl rfl)
theorem dJ19_getChars_37 : decode cJ19_getChars 37 = .ok (.iload_n 0, 1) := dk_26 (dk_at dksJ19_getChars_1 14 rfl rfl)
theorem dJ19_getChars_38 : decode cJ19_getChars 38 = .ok (.isub, 1) := dk_100 (dk_at dksJ19_getChars_1 15 rfl rfl)
theorem dJ19_getChars_39 : decode cJ19_getChars 39 = .ok (.istore 4, 2) := dk_54 4 (dk_at dksJ19_getChars_1 16 rfl rfl)
theorem dJ19_getChars_41 : decode cJ19_getChars 41 = .ok (.iload_n 3, 1) := dk_29 (dk_at dksJ19_getChars_1 18 rfl rfl)
theorem dJ19_getChars_42 : decode cJ19_getChars 42 = .ok (.istore_n 0, 1) := dk_59 (dk_at dksJ19_getChars_1 19 rfl rfl)
theorem dJ19_getChars_43 : decode cJ19_getChars 43 = .ok (.aload_n 2, 1) := dk_44 (dk_at dksJ19_getChars_1 20 rfl rfl)
theorem dJ19_getChars_44 : decode cJ19_getChars 44 = .ok (.iinc 5 (-1), 3) := dk_132 5 255 (dk_at dksJ19_getChars_1 21 rfl rfl)
theorem dJ19_getChars_47 : decode cJ19_getChars 47 = .ok (.iload 5, 2) := dk_21 5 (dk_at dksJ19_getChars_2 0 rfl rfl)
theorem dJ19_getChars_49 : decode cJ19_getChars 49 = .ok (.getstatic 83, 3) := dk_178 0 83 (dk_at dksJ19_getChars_2 2 rfl rfl)
theorem dJ19_getChars_52 : decode cJ19_getChars 52 = .ok (.iload 4, 2) := dk_21 4 (dk_at dksJ19_getChars_2 5 rfl rfl)
theorem dJ19_getChars_54 : decode cJ19_getChars 54 = .ok (.baload, 1) := dk_51 (dk_at dksJ19_getChars_2 7 rfl rfl)
theorem dJ19_getChars_55 : decode cJ19_getChars 55 = .ok (.bastore, 1) := dk_84 (dk_at dksJ19_getChars_2 8 rfl rfl)
theorem dJ19_getChars_56 : decode cJ19_getChars 56 = .ok (.aload_n 2, 1) := dk_44 (dk_at dksJ19_getChars_2 9 rfl rfl)
theorem dJ19_getChars_57 : decode cJ19_getChars 57 = .ok (.iinc 5 (-1), 3) := dk_132 5 255 (dk_at dksJ19_getChars_2 10 rfl rfl)
theorem dJ19_getChars_60 : decode cJ19_getChars 60 = .ok (.iload 5, 2) := dk_21 5 (dk_at dksJ19_getChars_2 13 rfl rfl)
theorem dJ19_getChars_62 : decode cJ19_getChars 62 = .ok (.getstatic 87, 3) := dk_178 0 87 (dk_at dksJ19_getChars_2 15 rfl rfl)
theorem dJ19_getChars_65 : decode cJ19_getChars 65 = .ok (.iload 4, 2) := dk_21 4 (dk_at dksJ19_getChars_2 18 rfl rfl)
theorem dJ19_getChars_67 : decode cJ19_getChars 67 = .ok (.baload, 1) := dk_51 (dk_at dksJ19_getChars_2 20 rfl rfl)
theorem dJ19_getChars_68 : decode cJ19_getChars 68 = .ok (.bastore, 1) := dk_84 (dk_at dksJ19_getChars_2 21 rfl rfl)
theorem dJ19_getChars_69 : decode cJ19_getChars 69 = .ok (.goto (-47), 3) := dk_167 255 209 (dk_at dksJ19_getChars_3 0 rfl rfl)
theorem dJ19_getChars_72 : decode cJ19_getChars 72 = .ok (.aload_n 2, 1) := dk_44 (dk_at dksJ19_getChars_3 3 rfl rfl)
theorem dJ19_getChars_73 : decode cJ19_getChars 73 = .ok (.iinc 5 (-1), 3) := dk_132 5 255 (dk_at dksJ19_getChars_3 4 rfl rfl)
theorem dJ19_getChars_76 : decode cJ19_getChars 76 = .ok (.iload 5, 2) := dk_21 5 (dk_at dksJ19_getChars_3 7 rfl rfl)
theorem dJ19_getChars_78 : decode cJ19_getChars 78 = .ok (.getstatic 83, 3) := dk_178 0 83 (dk_at dksJ19_getChars_3 9 rfl rfl)
theorem dJ19_getChars_81 : decode cJ19_getChars 81 = .ok (.iload_n 0, 1) := dk_26 (dk_at dksJ19_getChars_3 12 rfl rfl)
theorem dJ19_getChars_82 : decode cJ19_getChars 82 = .ok (.ineg, 1) := dk_116 (dk_at dksJ19_getChars_3 13 rfl rfl)
theorem dJ19_getChars_83 : decode cJ19_getChars 83 = .ok (.baload, 1) := dk_51 (dk_at dksJ19_getChars_3 14 rfl rfl)
theorem dJ19_getChars_84 : decode cJ19_getChars 84 = .ok (.bastore, 1) := dk_84 (dk_at dksJ19_getChars_3 15 rfl rfl)
theorem dJ19_getChars_85 : decode cJ19_getChars 85 = .ok (.iload_n 0, 1) := dk_26 (dk_at dksJ19_getChars_3 16 rfl rfl)
theorem dJ19_getChars_86 : decode cJ19_getChars 86 = .ok (.bipush (-9), 2) := dk_16 247 (dk_at dksJ19_getChars_3 17 rfl rfl)
theorem dJ19_getChars_88 : decode cJ19_getChars 88 = .ok (.if_icmp .ge 16, 3) := dk_162 0 16 (dk_at dksJ19_getChars_3 19 rfl rfl)
theorem dJ19_getChars_91 : decode cJ19_getChars 91 = .ok (.aload_n 2, 1) := dk_44 (dk_at dksJ19_getChars_3 22 rfl rfl)
theorem dJ19_getChars_92 : decode cJ19_getChars 92 = .ok (.iinc 5 (-1), 3) := dk_132 5 255 (dk_at dksJ19_getChars_4 0 rfl rfl)
theorem dJ19_getChars_95 : decode cJ19_getChars 95 = .ok (.iload 5, 2) := dk_21 5 (dk_at dksJ19_getChars_4 3 rfl rfl)
theorem dJ19_getChars_97 : decode cJ19_getChars 97 = .ok (.getstatic 87, 3) := dk_178 0 87 (dk_at dksJ19_getChars_4 5 rfl rfl)
theorem dJ19_getChars_100 : decode cJ19_getChars 100 = .ok (.iload_n 0, 1) := dk_26 (dk_at dksJ19_getChars_4 8 rfl rfl)
theorem dJ19_getChars_101 : decode cJ19_getChars 101 = .ok (.ineg, 1) := dk_116 (dk_at dksJ19_getChars_4 9 rfl rfl)
theorem dJ19_getChars_102 : decode cJ19_getChars 102 = .ok (.baload, 1) := dk_51 (dk_at dksJ19_getChars_4 10 rfl rfl)
theorem dJ19_getChars_103 : decode cJ19_getChars 103 = .ok (.bastore, 1) := dk_84 (dk_at dksJ19_getChars_4 11 rfl rfl)
theorem dJ19_getChars_104 : decode cJ19_getChars 104 = .ok (.iload 6, 2) := dk_21 6 (dk_at dksJ19_getChars_4 12 rfl rfl)
theorem dJ19_getChars_106 : decode cJ19_getChars 106 = .ok (.ifCond .eq 12, 3) := dk_153 0 12 (dk_at dksJ19_getChars_4 14 rfl rfl)
theorem dJ19_getChars_109 : decode cJ19_getChars 109 = .ok (.aload_n 2, 1) := dk_44 (dk_at dksJ19_getChars_4 17 rfl rfl)
theorem dJ19_getChars_110 : decode cJ19_getChars 110 = .ok (.iinc 5 (-1), 3) := dk_132 5 255 (dk_at dksJ19_getChars_4 18 rfl rfl)
theorem dJ19_getChars_113 : decode cJ19_getChars 113 = .ok (.iload 5, 2) := dk_21 5 (dk_at dksJ19_getChars_4 21 rfl rfl)
theorem dJ19_getChars_115 : decode cJ19_getChars 115 = .ok (.bipush 45, 2) := dk_16 45 (dk_at dksJ19_getChars_5 0 rfl rfl)
theorem dJ19_getChars_117 : decode cJ19_getChars 117 = .ok (.bastore, 1) := dk_84 (dk_at dksJ19_getChars_5 2 rfl rfl)
theorem dJ19_getChars_118 : decode cJ19_getChars 118 = .ok (.iload 5, 2) := dk_21 5 (dk_at dksJ19_getChars_5 3 rfl rfl)
theorem dJ19_getChars_120 : decode cJ19_getChars 120 = .ok (.ireturn, 1) := dk_172 (dk_at dksJ19_getChars_5 5 rfl rfl)
abbrev cJ19_numberOfTrailingZeros : ByteArray := prog_36_method_48_code
def yJ19_numberOfTrailingZeros : MethodName := ⟨RJ19, "numberOfTrailingZeros", "(I)I"⟩
def dkwJ19_numberOfTrailingZeros_3 : List UInt8 := [5, 124, 59, 27, 26, 4, 124, 96, 172]
abbrev dktJ19_numberOfTrailingZeros_3 : List UInt8 := dkwJ19_numberOfTrailingZeros_3 ++ []
def dkwJ19_numberOfTrailingZeros_2 : List UInt8 := [124, 59, 26, 16, 16, 164, 0, 10, 132, 1, 4, 26, 7, 124, 59, 26, 7, 164, 0, 10, 132, 1, 2, 26]
abbrev dktJ19_numberOfTrailingZeros_2 : List UInt8 := dkwJ19_numberOfTrailingZeros_2 ++ dktJ19_numberOfTrailingZeros_3
def dkwJ19_numberOfTrailingZeros_1 : List UInt8 := [164, 0, 11, 132, 1, 16, 26, 16, 16, 124, 59, 26, 17, 1, 0, 164, 0, 11, 132, 1, 8, 26, 16, 8]
abbrev dktJ19_numberOfTrailingZeros_1 : List UInt8 := dkwJ19_numberOfTrailingZeros_1 ++ dktJ19_numberOfTrailingZeros_2
def dkwJ19_numberOfTrailingZeros_0 : List UInt8 := [26, 2, 130, 26, 4, 100, 126, 59, 26, 157, 0, 8, 26, 16, 32, 126, 172, 4, 60, 26, 19, 1, 8]
abbrev dktJ19_numberOfTrailingZeros_0 : List UInt8 := dkwJ19_numberOfTrailingZeros_0 ++ dktJ19_numberOfTrailingZeros_1
theorem dksJ19_numberOfTrailingZeros_0 : cJ19_numberOfTrailingZeros.data.toList.drop 0 = dktJ19_numberOfTrailingZeros_0 := by decide +kernel
theorem dksJ19_numberOfTrailingZeros_1 : cJ19_numberOfTrailingZeros.data.toList.drop 23 = dktJ19_numberOfTrailingZeros_1 := dk_seg dksJ19_numberOfTrailingZeros_0 23 rfl rfl
theorem dksJ19_numberOfTrailingZeros_2 : cJ19_numberOfTrailingZeros.data.toList.drop 47 = dktJ19_numberOfTrailingZeros_2 := dk_seg dksJ19_numberOfTrailingZeros_1 24 rfl rfl
theorem dksJ19_numberOfTrailingZeros_3 : cJ19_numberOfTrailingZeros.data.toList.drop 71 = dktJ19_numberOfTrailingZeros_3 := dk_seg dksJ19_numberOfTrailingZeros_2 24 rfl rfl
theorem dJ19_numberOfTrailingZeros_0 : decode cJ19_numberOfTrailingZeros 0 = .ok (.iload_n 0, 1) := dk_26 (dk_at dksJ19_numberOfTrailingZeros_0 0 rfl rfl)
theorem dJ19_numberOfTrailingZeros_1 : decode cJ19_numberOfTrailingZeros 1 = .ok (.iconst (-1), 1) := dk_2 (dk_at dksJ19_numberOfTrailingZeros_0 1 rfl rfl)
theorem dJ19_numberOfTrailingZeros_2 : decode cJ19_numberOfTrailingZeros 2 = .ok (.ixor, 1) := dk_130 (dk_at dksJ19_numberOfTrailingZeros_0 2 rfl rfl)
theorem dJ19_numberOfTrailingZeros_3 : decode cJ19_numberOfTrailingZeros 3 = .ok (.iload_n 0, 1) := dk_26 (dk_at dksJ19_numberOfTrailingZeros_0 3 rfl rfl)
theorem dJ19_numberOfTrailingZeros_4 : decode cJ19_numberOfTrailingZeros 4 = .ok (.iconst 1, 1) := dk_4 (dk_at dksJ19_numberOfTrailingZeros_0 4 rfl rfl)
theorem dJ19_numberOfTrailingZeros_5 : decode cJ19_numberOfTrailingZeros 5 = .ok (.isub, 1) := dk_100 (dk_at dksJ19_numberOfTrailingZeros_0 5 rfl rfl)
theorem dJ19_numberOfTrailingZeros_6 : decode cJ19_numberOfTrailingZeros 6 = .ok (.iand, 1) := dk_126 (dk_at dksJ19_numberOfTrailingZeros_0 6 rfl rfl)
theorem dJ19_numberOfTrailingZeros_7 : decode cJ19_numberOfTrailingZeros 7 = .ok (.istore_n 0, 1) := dk_59 (dk_at dksJ19_numberOfTrailingZeros_0 7 rfl rfl)
theorem dJ19_numberOfTrailingZeros_8 : decode cJ19_numberOfTrailingZeros 8 = .ok (.iload_n 0, 1) := dk_26 (dk_at dksJ19_numberOfTrailingZeros_0 8 rfl rfl)
theorem dJ19_numberOfTrailingZeros_9 : decode cJ19_numberOfTrailingZeros 9 = .ok (.ifCond .gt 8, 3) := dk_157 0 8 (dk_at dksJ19_numberOfTrailingZeros_0 9 rfl rfl)
theorem dJ19_numberOfTrailingZeros_12 : decode cJ19_numberOfTrailingZeros 12 = .ok (.iload_n 0, 1) := dk_26 (dk_at dksJ19_numberOfTrailingZeros_0 12 rfl rfl)
theorem dJ19_numberOfTrailingZeros_13 : decode cJ19_numberOfTrailingZeros 13 = .ok (.bipush 32, 2) := dk_16 32 (dk_at dksJ19_numberOfTrailingZeros_0 13 rfl rfl)
theorem dJ19_numberOfTrailingZeros_15 : decode cJ19_numberOfTrailingZeros 15 = .ok (.iand, 1) := dk_126 (dk_at dksJ19_numberOfTrailingZeros_0 15 rfl rfl)
theorem dJ19_numberOfTrailingZeros_16 : decode cJ19_numberOfTrailingZeros 16 = .ok (.ireturn, 1) := dk_172 (dk_at dksJ19_numberOfTrailingZeros_0 16 rfl rfl)
theorem dJ19_numberOfTrailingZeros_17 : decode cJ19_numberOfTrailingZeros 17 = .ok (.iconst 1, 1) := dk_4 (dk_at dksJ19_numberOfTrailingZeros_0 17 rfl rfl)
theorem dJ19_numberOfTrailingZeros_18 : decode cJ19_numberOfTrailingZeros 18 = .ok (.istore_n 1, 1) := dk_60 (dk_at dksJ19_numberOfTrailingZeros_0 18 rfl rfl)
theorem dJ19_numberOfTrailingZeros_19 : decode cJ19_numberOfTrailingZeros 19 = .ok (.iload_n 0, 1) := dk_26 (dk_at dksJ19_numberOfTrailingZeros_0 19 rfl rfl)
theorem dJ19_numberOfTrailingZeros_20 : decode cJ19_numberOfTrailingZeros 20 = .ok (.ldc_w 264, 3) := dk_19 1 8 (dk_at dksJ19_numberOfTrailingZeros_0 20 rfl rfl)
theorem dJ19_numberOfTrailingZeros_23 : decode cJ19_numberOfTrailingZeros 23 = .ok (.if_icmp .le 11, 3) := dk_164 0 11 (dk_at dksJ19_numberOfTrailingZeros_1 0 rfl rfl)
theorem dJ19_numberOfTrailingZeros_26 : decode cJ19_numberOfTrailingZeros 26 = .ok (.iinc 1 16, 3) := dk_132 1 16 (dk_at dksJ19_numberOfTrailingZeros_1 3 rfl rfl)
theorem dJ19_numberOfTrailingZeros_29 : decode cJ19_numberOfTrailingZeros 29 = .ok (.iload_n 0, 1) := dk_26 (dk_at dksJ19_numberOfTrailingZeros_1 6 rfl rfl)
theorem dJ19_numberOfTrailingZeros_30 : decode cJ19_numberOfTrailingZeros 30 = .ok (.bipush 16, 2) := dk_16 16 (dk_at dksJ19_numberOfTrailingZeros_1 7 rfl rfl)
theorem dJ19_numberOfTrailingZeros_32 : decode cJ19_numberOfTrailingZeros 32 = .ok (.iushr, 1) := dk_124 (dk_at dksJ19_numberOfTrailingZeros_1 9 rfl rfl)
theorem dJ19_numberOfTrailingZeros_33 : decode cJ19_numberOfTrailingZeros 33 = .ok (.istore_n 0, 1) := dk_59 (dk_at dksJ19_numberOfTrailingZeros_1 10 rfl rfl)
theorem dJ19_numberOfTrailingZeros_34 : decode cJ19_numberOfTrailingZeros 34 = .ok (.iload_n 0, 1) := dk_26 (dk_at dksJ19_numberOfTrailingZeros_1 11 rfl rfl)
theorem dJ19_numberOfTrailingZeros_35 : decode cJ19_numberOfTrailingZeros 35 = .ok (.sipush 256, 3) := dk_17 1 0 (dk_at dksJ19_numberOfTrailingZeros_1 12 rfl rfl)
theorem dJ19_numberOfTrailingZeros_38 : decode cJ19_numberOfTrailingZeros 38 = .ok (.if_icmp .le 11, 3) := dk_164 0 11 (dk_at dksJ19_numberOfTrailingZeros_1 15 rfl rfl)
theorem dJ19_numberOfTrailingZeros_41 : decode cJ19_numberOfTrailingZeros 41 = .ok (.iinc 1 8, 3) := dk_132 1 8 (dk_at dksJ19_numberOfTrailingZeros_1 18 rfl rfl)
theorem dJ19_numberOfTrailingZeros_44 : decode cJ19_numberOfTrailingZeros 44 = .ok (.iload_n 0, 1) := dk_26 (dk_at dksJ19_numberOfTrailingZeros_1 21 rfl rfl)
theorem dJ19_numberOfTrailingZeros_45 : decode cJ19_numberOfTrailingZeros 45 = .ok (.bipush 8, 2) := dk_16 8 (dk_at dksJ19_numberOfTrailingZeros_1 22 rfl rfl)
theorem dJ19_numberOfTrailingZeros_47 : decode cJ19_numberOfTrailingZeros 47 = .ok (.iushr, 1) := dk_124 (dk_at dksJ19_numberOfTrailingZeros_2 0 rfl rfl)
theorem dJ19_numberOfTrailingZeros_48 : decode cJ19_numberOfTrailingZeros 48 = .ok (.istore_n 0, 1) := dk_59 (dk_at dksJ19_numberOfTrailingZeros_2 1 rfl rfl)
theorem dJ19_numberOfTrailingZeros_49 : decode cJ19_numberOfTrailingZeros 49 = .ok (.iload_n 0, 1) := dk_26 (dk_at dksJ19_numberOfTrailingZeros_2 2 rfl rfl)
theorem dJ19_numberOfTrailingZeros_50 : decode cJ19_numberOfTrailingZeros 50 = .ok (.bipush 16, 2) := dk_16 16 (dk_at dksJ19_numberOfTrailingZeros_2 3 rfl rfl)
theorem dJ19_numberOfTrailingZeros_52 : decode cJ19_numberOfTrailingZeros 52 = .ok (.if_icmp .le 10, 3) := dk_164 0 10 (dk_at dksJ19_numberOfTrailingZeros_2 5 rfl rfl)
theorem dJ19_numberOfTrailingZeros_55 : decode cJ19_numberOfTrailingZeros 55 = .ok (.iinc 1 4, 3) := dk_132 1 4 (dk_at dksJ19_numberOfTrailingZeros_2 8 rfl rfl)
theorem dJ19_numberOfTrailingZeros_58 : decode cJ19_numberOfTrailingZeros 58 = .ok (.iload_n 0, 1) := dk_26 (dk_at dksJ19_numberOfTrailingZeros_2 11 rfl rfl)
theorem dJ19_numberOfTrailingZeros_59 : decode cJ19_numberOfTrailingZeros 59 = .ok (.iconst 4, 1) := dk_7 (dk_at dksJ19_numberOfTrailingZeros_2 12 rfl rfl)
theorem dJ19_numberOfTrailingZeros_60 : decode cJ19_numberOfTrailingZeros 60 = .ok (.iushr, 1) := dk_124 (dk_at dksJ19_numberOfTrailingZeros_2 13 rfl rfl)
theorem dJ19_numberOfTrailingZeros_61 : decode cJ19_numberOfTrailingZeros 61 = .ok (.istore_n 0, 1) := dk_59 (dk_at dksJ19_numberOfTrailingZeros_2 14 rfl rfl)
theorem dJ19_numberOfTrailingZeros_62 : decode cJ19_numberOfTrailingZeros 62 = .ok (.iload_n 0, 1) := dk_26 (dk_at dksJ19_numberOfTrailingZeros_2 15 rfl rfl)
theorem dJ19_numberOfTrailingZeros_63 : decode cJ19_numberOfTrailingZeros 63 = .ok (.iconst 4, 1) := dk_7 (dk_at dksJ19_numberOfTrailingZeros_2 16 rfl rfl)
theorem dJ19_numberOfTrailingZeros_64 : decode cJ19_numberOfTrailingZeros 64 = .ok (.if_icmp .le 10, 3) := dk_164 0 10 (dk_at dksJ19_numberOfTrailingZeros_2 17 rfl rfl)
theorem dJ19_numberOfTrailingZeros_67 : decode cJ19_numberOfTrailingZeros 67 = .ok (.iinc 1 2, 3) := dk_132 1 2 (dk_at dksJ19_numberOfTrailingZeros_2 20 rfl rfl)
theorem dJ19_numberOfTrailingZeros_70 : decode cJ19_numberOfTrailingZeros 70 = .ok (.iload_n 0, 1) := dk_26 (dk_at dksJ19_numberOfTrailingZeros_2 23 rfl rfl)
theorem dJ19_numberOfTrailingZeros_71 : decode cJ19_numberOfTrailingZeros 71 = .ok (.iconst 2, 1) := dk_5 (dk_at dksJ19_numberOfTrailingZeros_3 0 rfl rfl)
theorem dJ19_numberOfTrailingZeros_72 : decode cJ19_numberOfTrailingZeros 72 = .ok (.iushr, 1) := dk_124 (dk_at dksJ19_numberOfTrailingZeros_3 1 rfl rfl)
theorem dJ19_numberOfTrailingZeros_73 : decode cJ19_numberOfTrailingZeros 73 = .ok (.istore_n 0, 1) := dk_59 (dk_at dksJ19_numberOfTrailingZeros_3 2 rfl rfl)
theorem dJ19_numberOfTrailingZeros_74 : decode cJ19_numberOfTrailingZeros 74 = .ok (.iload_n 1, 1) := dk_27 (dk_at dksJ19_numberOfTrailingZeros_3 3 rfl rfl)
theorem dJ19_numberOfTrailingZeros_75 : decode cJ19_numberOfTrailingZeros 75 = .ok (.iload_n 0, 1) := dk_26 (dk_at dksJ19_numberOfTrailingZeros_3 4 rfl rfl)
theorem dJ19_numberOfTrailingZeros_76 : decode cJ19_numberOfTrailingZeros 76 = .ok (.iconst 1, 1) := dk_4 (dk_at dksJ19_numberOfTrailingZeros_3 5 rfl rfl)
theorem dJ19_numberOfTrailingZeros_77 : decode cJ19_numberOfTrailingZeros 77 = .ok (.iushr, 1) := dk_124 (dk_at dksJ19_numberOfTrailingZeros_3 6 rfl rfl)
theorem dJ19_numberOfTrailingZeros_78 : decode cJ19_numberOfTrailingZeros 78 = .ok (.iadd, 1) := dk_96 (dk_at dksJ19_numberOfTrailingZeros_3 7 rfl rfl)
theorem dJ19_numberOfTrailingZeros_79 : decode cJ19_numberOfTrailingZeros 79 = .ok (.ireturn, 1) := dk_172 (dk_at dksJ19_numberOfTrailingZeros_3 8 rfl rfl)
theorem q176 : (Jvm.Cond.initialized "java/lang/Integer") ∈ lw_all := lw_g (lw_at lw_m1 30 rfl) rfl
theorem q768 : (Jvm.Cond.static ({ cls := "java/lang/Integer", name := "stringSize", desc := "(I)I" } : Jvm.MethodName)) ∈ lw_all := lw_g (lw_at lw_m3 142 rfl) rfl
theorem q769 : (Jvm.Cond.code ({ cls := "java/lang/Integer", name := "stringSize", desc := "(I)I" } : Jvm.MethodName) prog_36_method_13_code (4 : Nat) (Option.some Jvm.ClassFile.FieldType.int)) ∈ lw_all := lw_g (lw_at lw_m3 143 rfl) rfl
theorem q771 : (Jvm.Cond.static ({ cls := "java/lang/Integer", name := "getChars", desc := "(II[B)I" } : Jvm.MethodName)) ∈ lw_all := lw_g (lw_at lw_m3 145 rfl) rfl
theorem q772 : (Jvm.Cond.code ({ cls := "java/lang/Integer", name := "getChars", desc := "(II[B)I" } : Jvm.MethodName) prog_36_method_12_code (7 : Nat) (Option.some Jvm.ClassFile.FieldType.int)) ∈ lw_all := lw_g (lw_at lw_m3 146 rfl) rfl
theorem q773 : (Jvm.Cond.fieldLink "java/lang/Integer" (83 : Nat) "java/lang/Integer" "DigitOnes" "[B") ∈ lw_all := lw_g (lw_at lw_m3 147 rfl) rfl
theorem q774 : (Jvm.Cond.laysStatic "java/lang/Integer" "DigitOnes" "[B") ∈ lw_tbl := lw_at lw_m3 148 rfl
theorem q775 : (Jvm.Cond.fieldLink "java/lang/Integer" (87 : Nat) "java/lang/Integer" "DigitTens" "[B") ∈ lw_all := lw_g (lw_at lw_m3 149 rfl) rfl
theorem q776 : (Jvm.Cond.laysStatic "java/lang/Integer" "DigitTens" "[B") ∈ lw_tbl := lw_at lw_m3 150 rfl
theorem q1910 : (Jvm.Cond.static ({ cls := "java/lang/Integer", name := "numberOfTrailingZeros", desc := "(I)I" } : Jvm.MethodName)) ∈ lw_all := lw_g (lw_at lw_m8 84 rfl) rfl
theorem q1911 : (Jvm.Cond.code ({ cls := "java/lang/Integer", name := "numberOfTrailingZeros", desc := "(I)I" } : Jvm.MethodName) prog_36_method_48_code (2 : Nat) (Option.some Jvm.ClassFile.FieldType.int)) ∈ lw_all := lw_g (lw_at lw_m8 85 rfl) rfl
theorem q1912 : (Jvm.Cond.constant "java/lang/Integer" (264 : Nat) (65536 : Int32)) ∈ lw_all := lw_g (lw_at lw_m8 86 rfl) rfl

/-! java/lang/Throwable -/
set_option maxRecDepth 100000
def RJ2 : String := "java/lang/Throwable"
def TJ2 : u_T := fun k => match k with
  | 0 => ("java/lang/Throwable", "cause", "Ljava/lang/Throwable;", false)
  | 1 => ("java/lang/Throwable", "stackTrace", "[Ljava/lang/StackTraceElement;", false)
  | 2 => ("java/lang/Throwable", "suppressedExceptions", "Ljava/util/List;", false)
  | 3 => ("java/lang/Throwable", "detailMessage", "Ljava/lang/String;", false)
  | _ => ("java/lang/Throwable", "backtrace", "Ljava/lang/Object;", false)
def tyJ2 : Nat → FieldType := fun k => match k with
  | 0 => .object "java/lang/Throwable"
  | 1 => .array (.object "java/lang/StackTraceElement")
  | 2 => .object "java/util/List"
  | 3 => .object "java/lang/String"
  | _ => .object "java/lang/Object"
abbrev wsJ20 : List Cond := u_ws RJ2 TJ2 5
theorem nmJ2 : ∀ a, a < 5 → ∀ b, b < 5 → a ≠ b → (TJ2 a).2.1 ≠ (TJ2 b).2.1 := by decide +kernel
theorem tyJ2_ok : ∀ k, k < 5 → parseFieldDescriptor (TJ2 k).2.2.1 = some (tyJ2 k) := by decide +kernel
abbrev cJ2_init : ByteArray := prog_47_method_2_code
def yJ2_init : MethodName := ⟨RJ2, "<init>", "(Ljava/lang/String;)V"⟩
def dkwJ2_init_1 : List UInt8 := [182, 0, 27, 87, 42, 43, 181, 0, 31, 177]
abbrev dktJ2_init_1 : List UInt8 := dkwJ2_init_1 ++ []
def dkwJ2_init_0 : List UInt8 := [42, 183, 0, 1, 42, 42, 181, 0, 7, 42, 178, 0, 13, 181, 0, 17, 42, 178, 0, 20, 181, 0, 24, 42]
abbrev dktJ2_init_0 : List UInt8 := dkwJ2_init_0 ++ dktJ2_init_1
theorem dksJ2_init_0 : cJ2_init.data.toList.drop 0 = dktJ2_init_0 := by decide +kernel
theorem dksJ2_init_1 : cJ2_init.data.toList.drop 24 = dktJ2_init_1 := dk_seg dksJ2_init_0 24 rfl rfl
theorem dJ2_init_0 : decode cJ2_init 0 = .ok (.aload_n 0, 1) := dk_42 (dk_at dksJ2_init_0 0 rfl rfl)
theorem dJ2_init_1 : decode cJ2_init 1 = .ok (.invokespecial 1, 3) := dk_183 0 1 (dk_at dksJ2_init_0 1 rfl rfl)
theorem dJ2_init_4 : decode cJ2_init 4 = .ok (.aload_n 0, 1) := dk_42 (dk_at dksJ2_init_0 4 rfl rfl)
theorem dJ2_init_5 : decode cJ2_init 5 = .ok (.aload_n 0, 1) := dk_42 (dk_at dksJ2_init_0 5 rfl rfl)
theorem dJ2_init_6 : decode cJ2_init 6 = .ok (.putfield 7, 3) := dk_181 0 7 (dk_at dksJ2_init_0 6 rfl rfl)
theorem dJ2_init_9 : decode cJ2_init 9 = .ok (.aload_n 0, 1) := dk_42 (dk_at dksJ2_init_0 9 rfl rfl)
theorem dJ2_init_10 : decode cJ2_init 10 = .ok (.getstatic 13, 3) := dk_178 0 13 (dk_at dksJ2_init_0 10 rfl rfl)
theorem dJ2_init_13 : decode cJ2_init 13 = .ok (.putfield 17, 3) := dk_181 0 17 (dk_at dksJ2_init_0 13 rfl rfl)
theorem dJ2_init_16 : decode cJ2_init 16 = .ok (.aload_n 0, 1) := dk_42 (dk_at dksJ2_init_0 16 rfl rfl)
theorem dJ2_init_17 : decode cJ2_init 17 = .ok (.getstatic 20, 3) := dk_178 0 20 (dk_at dksJ2_init_0 17 rfl rfl)
theorem dJ2_init_20 : decode cJ2_init 20 = .ok (.putfield 24, 3) := dk_181 0 24 (dk_at dksJ2_init_0 20 rfl rfl)
theorem dJ2_init_23 : decode cJ2_init 23 = .ok (.aload_n 0, 1) := dk_42 (dk_at dksJ2_init_0 23 rfl rfl)
theorem dJ2_init_24 : decode cJ2_init 24 = .ok (.invokevirtual 27, 3) := dk_182 0 27 (dk_at dksJ2_init_1 0 rfl rfl)
theorem dJ2_init_27 : decode cJ2_init 27 = .ok (.pop, 1) := dk_87 (dk_at dksJ2_init_1 3 rfl rfl)
theorem dJ2_init_28 : decode cJ2_init 28 = .ok (.aload_n 0, 1) := dk_42 (dk_at dksJ2_init_1 4 rfl rfl)
theorem dJ2_init_29 : decode cJ2_init 29 = .ok (.aload_n 1, 1) := dk_43 (dk_at dksJ2_init_1 5 rfl rfl)
theorem dJ2_init_30 : decode cJ2_init 30 = .ok (.putfield 31, 3) := dk_181 0 31 (dk_at dksJ2_init_1 6 rfl rfl)
theorem dJ2_init_33 : decode cJ2_init 33 = .ok (.return_, 1) := dk_177 (dk_at dksJ2_init_1 9 rfl rfl)
abbrev cJ2_init_2 : ByteArray := prog_47_method_1_code
def yJ2_init_2 : MethodName := ⟨RJ2, "<init>", "()V"⟩
def dkwJ2_init_2_1 : List UInt8 := [182, 0, 27, 87, 177]
abbrev dktJ2_init_2_1 : List UInt8 := dkwJ2_init_2_1 ++ []
def dkwJ2_init_2_0 : List UInt8 := [42, 183, 0, 1, 42, 42, 181, 0, 7, 42, 178, 0, 13, 181, 0, 17, 42, 178, 0, 20, 181, 0, 24, 42]
abbrev dktJ2_init_2_0 : List UInt8 := dkwJ2_init_2_0 ++ dktJ2_init_2_1
theorem dksJ2_init_2_0 : cJ2_init_2.data.toList.drop 0 = dktJ2_init_2_0 := by decide +kernel
theorem dksJ2_init_2_1 : cJ2_init_2.data.toList.drop 24 = dktJ2_init_2_1 := dk_seg dksJ2_init_2_0 24 rfl rfl
theorem dJ2_init_2_0 : decode cJ2_init_2 0 = .ok (.aload_n 0, 1) := dk_42 (dk_at dksJ2_init_2_0 0 rfl rfl)
theorem dJ2_init_2_1 : decode cJ2_init_2 1 = .ok (.invokespecial 1, 3) := dk_183 0 1 (dk_at dksJ2_init_2_0 1 rfl rfl)
theorem dJ2_init_2_4 : decode cJ2_init_2 4 = .ok (.aload_n 0, 1) := dk_42 (dk_at dksJ2_init_2_0 4 rfl rfl)
theorem dJ2_init_2_5 : decode cJ2_init_2 5 = .ok (.aload_n 0, 1) := dk_42 (dk_at dksJ2_init_2_0 5 rfl rfl)
theorem dJ2_init_2_6 : decode cJ2_init_2 6 = .ok (.putfield 7, 3) := dk_181 0 7 (dk_at dksJ2_init_2_0 6 rfl rfl)
theorem dJ2_init_2_9 : decode cJ2_init_2 9 = .ok (.aload_n 0, 1) := dk_42 (dk_at dksJ2_init_2_0 9 rfl rfl)
theorem dJ2_init_2_10 : decode cJ2_init_2 10 = .ok (.getstatic 13, 3) := dk_178 0 13 (dk_at dksJ2_init_2_0 10 rfl rfl)
theorem dJ2_init_2_13 : decode cJ2_init_2 13 = .ok (.putfield 17, 3) := dk_181 0 17 (dk_at dksJ2_init_2_0 13 rfl rfl)
theorem dJ2_init_2_16 : decode cJ2_init_2 16 = .ok (.aload_n 0, 1) := dk_42 (dk_at dksJ2_init_2_0 16 rfl rfl)
theorem dJ2_init_2_17 : decode cJ2_init_2 17 = .ok (.getstatic 20, 3) := dk_178 0 20 (dk_at dksJ2_init_2_0 17 rfl rfl)
theorem dJ2_init_2_20 : decode cJ2_init_2 20 = .ok (.putfield 24, 3) := dk_181 0 24 (dk_at dksJ2_init_2_0 20 rfl rfl)
theorem dJ2_init_2_23 : decode cJ2_init_2 23 = .ok (.aload_n 0, 1) := dk_42 (dk_at dksJ2_init_2_0 23 rfl rfl)
theorem dJ2_init_2_24 : decode cJ2_init_2 24 = .ok (.invokevirtual 27, 3) := dk_182 0 27 (dk_at dksJ2_init_2_1 0 rfl rfl)
theorem dJ2_init_2_27 : decode cJ2_init_2 27 = .ok (.pop, 1) := dk_87 (dk_at dksJ2_init_2_1 3 rfl rfl)
theorem dJ2_init_2_28 : decode cJ2_init_2 28 = .ok (.return_, 1) := dk_177 (dk_at dksJ2_init_2_1 4 rfl rfl)
abbrev cJ2_init_3 : ByteArray := prog_47_method_5_code
def yJ2_init_3 : MethodName := ⟨RJ2, "<init>", "(Ljava/lang/String;Ljava/lang/Throwable;ZZ)V"⟩
def dkwJ2_init_3_2 : List UInt8 := [44, 181, 0, 7, 29, 154, 0, 8, 42, 1, 181, 0, 24, 177]
abbrev dktJ2_init_3_2 : List UInt8 := dkwJ2_init_3_2 ++ []
def dkwJ2_init_3_1 : List UInt8 := [21, 4, 153, 0, 11, 42, 182, 0, 27, 87, 167, 0, 8, 42, 1, 181, 0, 17, 42, 43, 181, 0, 31, 42]
abbrev dktJ2_init_3_1 : List UInt8 := dkwJ2_init_3_1 ++ dktJ2_init_3_2
def dkwJ2_init_3_0 : List UInt8 := [42, 183, 0, 1, 42, 42, 181, 0, 7, 42, 178, 0, 13, 181, 0, 17, 42, 178, 0, 20, 181, 0, 24]
abbrev dktJ2_init_3_0 : List UInt8 := dkwJ2_init_3_0 ++ dktJ2_init_3_1
theorem dksJ2_init_3_0 : cJ2_init_3.data.toList.drop 0 = dktJ2_init_3_0 := by decide +kernel
theorem dksJ2_init_3_1 : cJ2_init_3.data.toList.drop 23 = dktJ2_init_3_1 := dk_seg dksJ2_init_3_0 23 rfl rfl
theorem dksJ2_init_3_2 : cJ2_init_3.data.toList.drop 47 = dktJ2_init_3_2 := dk_seg dksJ2_init_3_1 24 rfl rfl
theorem dJ2_init_3_0 : decode cJ2_init_3 0 = .ok (.aload_n 0, 1) := dk_42 (dk_at dksJ2_init_3_0 0 rfl rfl)
theorem dJ2_init_3_1 : decode cJ2_init_3 1 = .ok (.invokespecial 1, 3) := dk_183 0 1 (dk_at dksJ2_init_3_0 1 rfl rfl)
theorem dJ2_init_3_4 : decode cJ2_init_3 4 = .ok (.aload_n 0, 1) := dk_42 (dk_at dksJ2_init_3_0 4 rfl rfl)
theorem dJ2_init_3_5 : decode cJ2_init_3 5 = .ok (.aload_n 0, 1) := dk_42 (dk_at dksJ2_init_3_0 5 rfl rfl)
theorem dJ2_init_3_6 : decode cJ2_init_3 6 = .ok (.putfield 7, 3) := dk_181 0 7 (dk_at dksJ2_init_3_0 6 rfl rfl)
theorem dJ2_init_3_9 : decode cJ2_init_3 9 = .ok (.aload_n 0, 1) := dk_42 (dk_at dksJ2_init_3_0 9 rfl rfl)
theorem dJ2_init_3_10 : decode cJ2_init_3 10 = .ok (.getstatic 13, 3) := dk_178 0 13 (dk_at dksJ2_init_3_0 10 rfl rfl)
theorem dJ2_init_3_13 : decode cJ2_init_3 13 = .ok (.putfield 17, 3) := dk_181 0 17 (dk_at dksJ2_init_3_0 13 rfl rfl)
theorem dJ2_init_3_16 : decode cJ2_init_3 16 = .ok (.aload_n 0, 1) := dk_42 (dk_at dksJ2_init_3_0 16 rfl rfl)
theorem dJ2_init_3_17 : decode cJ2_init_3 17 = .ok (.getstatic 20, 3) := dk_178 0 20 (dk_at dksJ2_init_3_0 17 rfl rfl)
theorem dJ2_init_3_20 : decode cJ2_init_3 20 = .ok (.putfield 24, 3) := dk_181 0 24 (dk_at dksJ2_init_3_0 20 rfl rfl)
theorem dJ2_init_3_23 : decode cJ2_init_3 23 = .ok (.iload 4, 2) := dk_21 4 (dk_at dksJ2_init_3_1 0 rfl rfl)
theorem dJ2_init_3_25 : decode cJ2_init_3 25 = .ok (.ifCond .eq 11, 3) := dk_153 0 11 (dk_at dksJ2_init_3_1 2 rfl rfl)
theorem dJ2_init_3_28 : decode cJ2_init_3 28 = .ok (.aload_n 0, 1) := dk_42 (dk_at dksJ2_init_3_1 5 rfl rfl)
theorem dJ2_init_3_29 : decode cJ2_init_3 29 = .ok (.invokevirtual 27, 3) := dk_182 0 27 (dk_at dksJ2_init_3_1 6 rfl rfl)
theorem dJ2_init_3_32 : decode cJ2_init_3 32 = .ok (.pop, 1) := dk_87 (dk_at dksJ2_init_3_1 9 rfl rfl)
theorem dJ2_init_3_33 : decode cJ2_init_3 33 = .ok (.goto 8, 3) := dk_167 0 8 (dk_at dksJ2_init_3_1 10 rfl rfl)
theorem dJ2_init_3_36 : decode cJ2_init_3 36 = .ok (.aload_n 0, 1) := dk_42 (dk_at dksJ2_init_3_1 13 rfl rfl)
theorem dJ2_init_3_37 : decode cJ2_init_3 37 = .ok (.aconst_null, 1) := dk_1 (dk_at dksJ2_init_3_1 14 rfl rfl)
theorem dJ2_init_3_38 : decode cJ2_init_3 38 = .ok (.putfield 17, 3) := dk_181 0 17 (dk_at dksJ2_init_3_1 15 rfl rfl)
theorem dJ2_init_3_41 : decode cJ2_init_3 41 = .ok (.aload_n 0, 1) := dk_42 (dk_at dksJ2_init_3_1 18 rfl rfl)
theorem dJ2_init_3_42 : decode cJ2_init_3 42 = .ok (.aload_n 1, 1) := dk_43 (dk_at dksJ2_init_3_1 19 rfl rfl)
theorem dJ2_init_3_43 : decode cJ2_init_3 43 = .ok (.putfield 31, 3) := dk_181 0 31 (dk_at dksJ2_init_3_1 20 rfl rfl)
theorem dJ2_init_3_46 : decode cJ2_init_3 46 = .ok (.aload_n 0, 1) := dk_42 (dk_at dksJ2_init_3_1 23 rfl rfl)
theorem dJ2_init_3_47 : decode cJ2_init_3 47 = .ok (.aload_n 2, 1) := dk_44 (dk_at dksJ2_init_3_2 0 rfl rfl)
theorem dJ2_init_3_48 : decode cJ2_init_3 48 = .ok (.putfield 7, 3) := dk_181 0 7 (dk_at dksJ2_init_3_2 1 rfl rfl)
theorem dJ2_init_3_51 : decode cJ2_init_3 51 = .ok (.iload_n 3, 1) := dk_29 (dk_at dksJ2_init_3_2 4 rfl rfl)
theorem dJ2_init_3_52 : decode cJ2_init_3 52 = .ok (.ifCond .ne 8, 3) := dk_154 0 8 (dk_at dksJ2_init_3_2 5 rfl rfl)
theorem dJ2_init_3_55 : decode cJ2_init_3 55 = .ok (.aload_n 0, 1) := dk_42 (dk_at dksJ2_init_3_2 8 rfl rfl)
theorem dJ2_init_3_56 : decode cJ2_init_3 56 = .ok (.aconst_null, 1) := dk_1 (dk_at dksJ2_init_3_2 9 rfl rfl)
theorem dJ2_init_3_57 : decode cJ2_init_3 57 = .ok (.putfield 24, 3) := dk_181 0 24 (dk_at dksJ2_init_3_2 10 rfl rfl)
theorem dJ2_init_3_60 : decode cJ2_init_3 60 = .ok (.return_, 1) := dk_177 (dk_at dksJ2_init_3_2 13 rfl rfl)
theorem q152 : (Jvm.Cond.initialized "java/lang/Throwable") ∈ lw_all := lw_g (lw_at lw_m1 6 rfl) rfl
theorem q440 : (Jvm.Cond.instanceMethod ({ cls := "java/lang/Throwable", name := "<init>", desc := "(Ljava/lang/String;)V" } : Jvm.MethodName)) ∈ lw_all := lw_g (lw_at lw_m2 54 rfl) rfl
theorem q441 : (Jvm.Cond.code ({ cls := "java/lang/Throwable", name := "<init>", desc := "(Ljava/lang/String;)V" } : Jvm.MethodName) prog_47_method_2_code (2 : Nat) (Option.none : Option Jvm.ClassFile.FieldType)) ∈ lw_all := lw_g (lw_at lw_m2 55 rfl) rfl
theorem q442 : (Jvm.Cond.methodLink "java/lang/Throwable" (1 : Nat) ({ cls := "java/lang/Object", name := "<init>", desc := "()V" } : Jvm.MethodName)) ∈ lw_all := lw_g (lw_at lw_m2 56 rfl) rfl
theorem q443 : (Jvm.Cond.fieldLink "java/lang/Throwable" (13 : Nat) "java/lang/Throwable" "UNASSIGNED_STACK" "[Ljava/lang/StackTraceElement;") ∈ lw_all := lw_g (lw_at lw_m2 57 rfl) rfl
theorem q444 : (Jvm.Cond.laysStatic "java/lang/Throwable" "UNASSIGNED_STACK" "[Ljava/lang/StackTraceElement;") ∈ lw_tbl := lw_at lw_m2 58 rfl
theorem q445 : (Jvm.Cond.fieldLink "java/lang/Throwable" (20 : Nat) "java/lang/Throwable" "SUPPRESSED_SENTINEL" "Ljava/util/List;") ∈ lw_all := lw_g (lw_at lw_m2 59 rfl) rfl
theorem q446 : (Jvm.Cond.laysStatic "java/lang/Throwable" "SUPPRESSED_SENTINEL" "Ljava/util/List;") ∈ lw_tbl := lw_at lw_m2 60 rfl
theorem q447 : (Jvm.Cond.methodLink "java/lang/Throwable" (27 : Nat) ({ cls := "java/lang/Throwable", name := "fillInStackTrace", desc := "()Ljava/lang/Throwable;" } : Jvm.MethodName)) ∈ lw_all := lw_g (lw_at lw_m2 61 rfl) rfl
theorem q448 : (Jvm.Cond.instanceMethod ({ cls := "java/lang/Throwable", name := "fillInStackTrace", desc := "()Ljava/lang/Throwable;" } : Jvm.MethodName)) ∈ lw_all := lw_g (lw_at lw_m2 62 rfl) rfl
theorem q449 : (Jvm.Cond.sameMethod "java/lang/Throwable" "java/lang/Throwable" "fillInStackTrace" "()Ljava/lang/Throwable;") ∈ lw_all := lw_g (lw_at lw_m2 63 rfl) rfl
theorem q456 : (Jvm.Cond.codeSync ({ cls := "java/lang/Throwable", name := "fillInStackTrace", desc := "()Ljava/lang/Throwable;" } : Jvm.MethodName) prog_47_method_18_code (1 : Nat) (Option.some (Jvm.ClassFile.FieldType.object "java/lang/Throwable"))) ∈ lw_all := lw_g (lw_at lw_m2 70 rfl) rfl
theorem q457 : (Jvm.Cond.methodLink "java/lang/Throwable" (202 : Nat) ({ cls := "java/lang/Throwable", name := "fillInStackTrace", desc := "(I)Ljava/lang/Throwable;" } : Jvm.MethodName)) ∈ lw_all := lw_g (lw_at lw_m2 71 rfl) rfl
theorem q458 : (Jvm.Cond.privateMethod ({ cls := "java/lang/Throwable", name := "fillInStackTrace", desc := "(I)Ljava/lang/Throwable;" } : Jvm.MethodName)) ∈ lw_tbl := lw_at lw_m2 72 rfl
theorem q459 : (Jvm.Cond.instanceMethod ({ cls := "java/lang/Throwable", name := "fillInStackTrace", desc := "(I)Ljava/lang/Throwable;" } : Jvm.MethodName)) ∈ lw_all := lw_g (lw_at lw_m2 73 rfl) rfl
theorem q460 : (Jvm.Cond.instantiable "java/lang/Throwable" (6 : Nat)) ∈ lw_all := lw_g (lw_at lw_m2 74 rfl) rfl
theorem q461 : (Jvm.Cond.native ({ cls := "java/lang/Throwable", name := "fillInStackTrace", desc := "(I)Ljava/lang/Throwable;" } : Jvm.MethodName)) ∈ lw_all := lw_g (lw_at lw_m2 75 rfl) rfl
theorem q462 : (Jvm.Cond.fieldLink "java/lang/Throwable" (198 : Nat) "java/lang/Throwable" "backtrace" "Ljava/lang/Object;") ∈ lw_all := lw_g (lw_at lw_m2 76 rfl) rfl
theorem q463 : (Jvm.Cond.fieldLink "java/lang/Throwable" (31 : Nat) "java/lang/Throwable" "detailMessage" "Ljava/lang/String;") ∈ lw_all := lw_g (lw_at lw_m2 77 rfl) rfl
theorem q464 : (Jvm.Cond.fieldLink "java/lang/Throwable" (7 : Nat) "java/lang/Throwable" "cause" "Ljava/lang/Throwable;") ∈ lw_all := lw_g (lw_at lw_m2 78 rfl) rfl
theorem q465 : (Jvm.Cond.fieldLink "java/lang/Throwable" (17 : Nat) "java/lang/Throwable" "stackTrace" "[Ljava/lang/StackTraceElement;") ∈ lw_all := lw_g (lw_at lw_m2 79 rfl) rfl
theorem q466 : (Jvm.Cond.fieldLink "java/lang/Throwable" (24 : Nat) "java/lang/Throwable" "suppressedExceptions" "Ljava/util/List;") ∈ lw_all := lw_g (lw_at lw_m2 80 rfl) rfl
theorem q468 : (Jvm.Cond.soleField "java/lang/Throwable" "backtrace") ∈ lw_all := lw_g (lw_at lw_m2 82 rfl) rfl
theorem q470 : (Jvm.Cond.soleField "java/lang/Throwable" "detailMessage") ∈ lw_all := lw_g (lw_at lw_m2 84 rfl) rfl
theorem q472 : (Jvm.Cond.soleField "java/lang/Throwable" "cause") ∈ lw_all := lw_g (lw_at lw_m2 86 rfl) rfl
theorem q474 : (Jvm.Cond.soleField "java/lang/Throwable" "stackTrace") ∈ lw_all := lw_g (lw_at lw_m2 88 rfl) rfl
theorem q476 : (Jvm.Cond.soleField "java/lang/Throwable" "depth") ∈ lw_all := lw_g (lw_at lw_m2 90 rfl) rfl
theorem q478 : (Jvm.Cond.soleField "java/lang/Throwable" "suppressedExceptions") ∈ lw_all := lw_g (lw_at lw_m2 92 rfl) rfl
theorem q487 : (Jvm.Cond.declares ({ cls := "java/lang/Throwable", name := "<init>", desc := "()V" } : Jvm.MethodName)) ∈ lw_tbl := lw_at lw_m2 101 rfl
theorem q488 : (Jvm.Cond.declares ({ cls := "java/lang/Throwable", name := "<init>", desc := "(Ljava/lang/String;)V" } : Jvm.MethodName)) ∈ lw_tbl := lw_at lw_m2 102 rfl
theorem q490 : (Jvm.Cond.lays "java/lang/Throwable" "java/lang/Throwable" "cause" "Ljava/lang/Throwable;") ∈ lw_all := lw_g (lw_at lw_m2 104 rfl) rfl
theorem q491 : (Jvm.Cond.lays "java/lang/Throwable" "java/lang/Throwable" "stackTrace" "[Ljava/lang/StackTraceElement;") ∈ lw_all := lw_g (lw_at lw_m2 105 rfl) rfl
theorem q492 : (Jvm.Cond.lays "java/lang/Throwable" "java/lang/Throwable" "suppressedExceptions" "Ljava/util/List;") ∈ lw_all := lw_g (lw_at lw_m2 106 rfl) rfl
theorem q493 : (Jvm.Cond.lays "java/lang/Throwable" "java/lang/Throwable" "detailMessage" "Ljava/lang/String;") ∈ lw_all := lw_g (lw_at lw_m2 107 rfl) rfl
theorem q494 : (Jvm.Cond.lays "java/lang/Throwable" "java/lang/Throwable" "backtrace" "Ljava/lang/Object;") ∈ lw_all := lw_g (lw_at lw_m2 108 rfl) rfl
theorem q495 : (Jvm.Cond.fieldLink "java/lang/Throwable" (198 : Nat) "java/lang/Throwable" "backtrace" "Ljava/lang/Object;") ∈ lw_all := lw_g (lw_at lw_m2 109 rfl) rfl
theorem q496 : (Jvm.Cond.superclass "java/lang/Throwable" "java/lang/Object") ∈ lw_all := lw_g (lw_at lw_m2 110 rfl) rfl
theorem q497 : (Jvm.Cond.instanceMethod ({ cls := "java/lang/Throwable", name := "<init>", desc := "()V" } : Jvm.MethodName)) ∈ lw_all := lw_g (lw_at lw_m2 111 rfl) rfl
theorem q498 : (Jvm.Cond.code ({ cls := "java/lang/Throwable", name := "<init>", desc := "()V" } : Jvm.MethodName) prog_47_method_1_code (1 : Nat) (Option.none : Option Jvm.ClassFile.FieldType)) ∈ lw_all := lw_g (lw_at lw_m2 112 rfl) rfl
theorem q1017 : (Jvm.Cond.instanceMethod ({ cls := "java/lang/Throwable", name := "<init>", desc := "(Ljava/lang/String;Ljava/lang/Throwable;ZZ)V" } : Jvm.MethodName)) ∈ lw_all := lw_g (lw_at lw_m4 151 rfl) rfl
theorem q1018 : (Jvm.Cond.code ({ cls := "java/lang/Throwable", name := "<init>", desc := "(Ljava/lang/String;Ljava/lang/Throwable;ZZ)V" } : Jvm.MethodName) prog_47_method_5_code (5 : Nat) (Option.none : Option Jvm.ClassFile.FieldType)) ∈ lw_all := lw_g (lw_at lw_m4 152 rfl) rfl
theorem q2869 : (Jvm.Cond.sameMethod "java/lang/Throwable" "java/lang/Throwable" "fillInStackTrace" "(I)Ljava/lang/Throwable;") ∈ lw_all := lw_g (lw_at lw_m12 83 rfl) rfl
theorem q2917 : (Jvm.Cond.castable "java/lang/Throwable" "java/lang/Object") ∈ lw_tbl := lw_at lw_m12 131 rfl
theorem in_J2 : ∀ w ∈ wsJ20, w ∈ lw_all := lw_in wsJ20 [490, 491, 492, 493, 494] (by decide +kernel) (by decide +kernel)

/-! java/util/Objects -/
set_option maxRecDepth 100000
def RJ20 : String := "java/util/Objects"
abbrev cJ20_checkIndex : ByteArray := prog_60_method_17_code
def yJ20_checkIndex : MethodName := ⟨RJ20, "checkIndex", "(II)I"⟩
def dkwJ20_checkIndex_0 : List UInt8 := [26, 27, 1, 184, 0, 105, 172]
abbrev dktJ20_checkIndex_0 : List UInt8 := dkwJ20_checkIndex_0 ++ []
theorem dksJ20_checkIndex_0 : cJ20_checkIndex.data.toList.drop 0 = dktJ20_checkIndex_0 := by decide +kernel
theorem dJ20_checkIndex_0 : decode cJ20_checkIndex 0 = .ok (.iload_n 0, 1) := dk_26 (dk_at dksJ20_checkIndex_0 0 rfl rfl)
theorem dJ20_checkIndex_1 : decode cJ20_checkIndex 1 = .ok (.iload_n 1, 1) := dk_27 (dk_at dksJ20_checkIndex_0 1 rfl rfl)
theorem dJ20_checkIndex_2 : decode cJ20_checkIndex 2 = .ok (.aconst_null, 1) := dk_1 (dk_at dksJ20_checkIndex_0 2 rfl rfl)
theorem dJ20_checkIndex_3 : decode cJ20_checkIndex 3 = .ok (.invokestatic 105, 3) := dk_184 0 105 (dk_at dksJ20_checkIndex_0 3 rfl rfl)
theorem dJ20_checkIndex_6 : decode cJ20_checkIndex 6 = .ok (.ireturn, 1) := dk_172 (dk_at dksJ20_checkIndex_0 6 rfl rfl)
theorem q178 : (Jvm.Cond.initialized "java/util/Objects") ∈ lw_all := lw_g (lw_at lw_m1 32 rfl) rfl
theorem q372 : (Jvm.Cond.static ({ cls := "java/util/Objects", name := "checkIndex", desc := "(II)I" } : Jvm.MethodName)) ∈ lw_all := lw_g (lw_at lw_m1 226 rfl) rfl
theorem q373 : (Jvm.Cond.code ({ cls := "java/util/Objects", name := "checkIndex", desc := "(II)I" } : Jvm.MethodName) prog_60_method_17_code (2 : Nat) (Option.some Jvm.ClassFile.FieldType.int)) ∈ lw_all := lw_g (lw_at lw_m1 227 rfl) rfl
theorem q374 : (Jvm.Cond.methodLink "java/util/Objects" (105 : Nat) ({ cls := "jdk/internal/util/Preconditions", name := "checkIndex", desc := "(IILjava/util/function/BiFunction;)I" } : Jvm.MethodName)) ∈ lw_all := lw_g (lw_at lw_m1 228 rfl) rfl

/-! java/lang/IllegalStateException -/
set_option maxRecDepth 100000
def RJ21 : String := "java/lang/IllegalStateException"
def TJ21 : u_T := fun k => match k with
  | 0 => ("java/lang/Throwable", "cause", "Ljava/lang/Throwable;", false)
  | 1 => ("java/lang/Throwable", "stackTrace", "[Ljava/lang/StackTraceElement;", false)
  | 2 => ("java/lang/Throwable", "suppressedExceptions", "Ljava/util/List;", false)
  | 3 => ("java/lang/Throwable", "detailMessage", "Ljava/lang/String;", false)
  | 4 => ("java/lang/Throwable", "backtrace", "Ljava/lang/Object;", false)
  | _ => ("java/lang/Throwable", "depth", "I", false)
def tyJ21 : Nat → FieldType := fun k => match k with
  | 0 => .object "java/lang/Throwable"
  | 1 => .array (.object "java/lang/StackTraceElement")
  | 2 => .object "java/util/List"
  | 3 => .object "java/lang/String"
  | 4 => .object "java/lang/Object"
  | _ => .int
abbrev wsJ210 : List Cond := u_ws RJ21 TJ21 6
theorem nmJ21 : ∀ a, a < 6 → ∀ b, b < 6 → a ≠ b → (TJ21 a).2.1 ≠ (TJ21 b).2.1 := by decide +kernel
theorem tyJ21_ok : ∀ k, k < 6 → parseFieldDescriptor (TJ21 k).2.2.1 = some (tyJ21 k) := by decide +kernel
abbrev cJ21_init : ByteArray := prog_34_method_1_code
def yJ21_init : MethodName := ⟨RJ21, "<init>", "()V"⟩
theorem dJ21_init_0 : decode cJ21_init 0 = .ok (.aload_n 0, 1) := by decide +kernel
theorem dJ21_init_1 : decode cJ21_init 1 = .ok (.invokespecial 1, 3) := by decide +kernel
theorem dJ21_init_4 : decode cJ21_init 4 = .ok (.return_, 1) := by decide +kernel
abbrev cJ21_init_2 : ByteArray := prog_34_method_2_code
def yJ21_init_2 : MethodName := ⟨RJ21, "<init>", "(Ljava/lang/String;)V"⟩
def dkwJ21_init_2_0 : List UInt8 := [42, 43, 183, 0, 7, 177]
abbrev dktJ21_init_2_0 : List UInt8 := dkwJ21_init_2_0 ++ []
theorem dksJ21_init_2_0 : cJ21_init_2.data.toList.drop 0 = dktJ21_init_2_0 := by decide +kernel
theorem dJ21_init_2_0 : decode cJ21_init_2 0 = .ok (.aload_n 0, 1) := dk_42 (dk_at dksJ21_init_2_0 0 rfl rfl)
theorem dJ21_init_2_1 : decode cJ21_init_2 1 = .ok (.aload_n 1, 1) := dk_43 (dk_at dksJ21_init_2_0 1 rfl rfl)
theorem dJ21_init_2_2 : decode cJ21_init_2 2 = .ok (.invokespecial 7, 3) := dk_183 0 7 (dk_at dksJ21_init_2_0 2 rfl rfl)
theorem dJ21_init_2_5 : decode cJ21_init_2 5 = .ok (.return_, 1) := dk_177 (dk_at dksJ21_init_2_0 5 rfl rfl)
theorem q189 : (Jvm.Cond.initialized "java/lang/IllegalStateException") ∈ lw_all := lw_g (lw_at lw_m1 43 rfl) rfl
theorem q453 : (Jvm.Cond.selects "java/lang/IllegalStateException" ({ cls := "java/lang/Throwable", name := "fillInStackTrace", desc := "()Ljava/lang/Throwable;" } : Jvm.MethodName) ({ cls := "java/lang/Throwable", name := "fillInStackTrace", desc := "()Ljava/lang/Throwable;" } : Jvm.MethodName)) ∈ lw_all := lw_g (lw_at lw_m2 67 rfl) rfl
theorem q1201 : (Jvm.Cond.selects "java/lang/IllegalStateException" ({ cls := "java/lang/Object", name := "getClass", desc := "()Ljava/lang/Class;" } : Jvm.MethodName) ({ cls := "java/lang/Object", name := "getClass", desc := "()Ljava/lang/Class;" } : Jvm.MethodName)) ∈ lw_all := lw_g (lw_at lw_m5 95 rfl) rfl
theorem q1558 : (Jvm.Cond.instantiable "java/lang/IllegalStateException" (6 : Nat)) ∈ lw_all := lw_g (lw_at lw_m6 212 rfl) rfl
theorem q1559 : (Jvm.Cond.castable "java/lang/IllegalStateException" "java/lang/IllegalStateException") ∈ lw_tbl := lw_at lw_m6 213 rfl
theorem q1560 : (Jvm.Cond.selects "java/lang/IllegalStateException" ({ cls := "java/lang/Throwable", name := "fillInStackTrace", desc := "(I)Ljava/lang/Throwable;" } : Jvm.MethodName) ({ cls := "java/lang/Throwable", name := "fillInStackTrace", desc := "(I)Ljava/lang/Throwable;" } : Jvm.MethodName)) ∈ lw_all := lw_g (lw_at lw_m6 214 rfl) rfl
theorem q1561 : (Jvm.Cond.lays "java/lang/IllegalStateException" "java/lang/Throwable" "cause" "Ljava/lang/Throwable;") ∈ lw_all := lw_g (lw_at lw_m6 215 rfl) rfl
theorem q1562 : (Jvm.Cond.lays "java/lang/IllegalStateException" "java/lang/Throwable" "stackTrace" "[Ljava/lang/StackTraceElement;") ∈ lw_all := lw_g (lw_at lw_m6 216 rfl) rfl
theorem q1563 : (Jvm.Cond.lays "java/lang/IllegalStateException" "java/lang/Throwable" "suppressedExceptions" "Ljava/util/List;") ∈ lw_all := lw_g (lw_at lw_m6 217 rfl) rfl
theorem q1564 : (Jvm.Cond.lays "java/lang/IllegalStateException" "java/lang/Throwable" "detailMessage" "Ljava/lang/String;") ∈ lw_all := lw_g (lw_at lw_m6 218 rfl) rfl
theorem q1565 : (Jvm.Cond.lays "java/lang/IllegalStateException" "java/lang/Throwable" "backtrace" "Ljava/lang/Object;") ∈ lw_all := lw_g (lw_at lw_m6 219 rfl) rfl
theorem q1567 : (Jvm.Cond.instanceMethod ({ cls := "java/lang/IllegalStateException", name := "<init>", desc := "()V" } : Jvm.MethodName)) ∈ lw_all := lw_g (lw_at lw_m6 221 rfl) rfl
theorem q1568 : (Jvm.Cond.code ({ cls := "java/lang/IllegalStateException", name := "<init>", desc := "()V" } : Jvm.MethodName) prog_34_method_1_code (1 : Nat) (Option.none : Option Jvm.ClassFile.FieldType)) ∈ lw_all := lw_g (lw_at lw_m6 222 rfl) rfl
theorem q1569 : (Jvm.Cond.methodLink "java/lang/IllegalStateException" (1 : Nat) ({ cls := "java/lang/RuntimeException", name := "<init>", desc := "()V" } : Jvm.MethodName)) ∈ lw_all := lw_g (lw_at lw_m6 223 rfl) rfl
theorem q1570 : (Jvm.Cond.lays "java/lang/IllegalStateException" "java/lang/Throwable" "depth" "I") ∈ lw_all := lw_g (lw_at lw_m6 224 rfl) rfl
theorem q1571 : (Jvm.Cond.superclass "java/lang/IllegalStateException" "java/lang/RuntimeException") ∈ lw_all := lw_g (lw_at lw_m6 225 rfl) rfl
theorem q2072 : (Jvm.Cond.instanceMethod ({ cls := "java/lang/IllegalStateException", name := "<init>", desc := "(Ljava/lang/String;)V" } : Jvm.MethodName)) ∈ lw_all := lw_g (lw_at lw_m9 6 rfl) rfl
theorem q2073 : (Jvm.Cond.code ({ cls := "java/lang/IllegalStateException", name := "<init>", desc := "(Ljava/lang/String;)V" } : Jvm.MethodName) prog_34_method_2_code (2 : Nat) (Option.none : Option Jvm.ClassFile.FieldType)) ∈ lw_all := lw_g (lw_at lw_m9 7 rfl) rfl
theorem q2074 : (Jvm.Cond.methodLink "java/lang/IllegalStateException" (7 : Nat) ({ cls := "java/lang/RuntimeException", name := "<init>", desc := "(Ljava/lang/String;)V" } : Jvm.MethodName)) ∈ lw_all := lw_g (lw_at lw_m9 8 rfl) rfl
theorem q2914 : (Jvm.Cond.castable "java/lang/IllegalStateException" "java/lang/Object") ∈ lw_tbl := lw_at lw_m12 128 rfl
theorem in_J21 : ∀ w ∈ wsJ210, w ∈ lw_all := lw_in wsJ210 [1561, 1562, 1563, 1564, 1565, 1570] (by decide +kernel) (by decide +kernel)

/-! java/util/NoSuchElementException -/
set_option maxRecDepth 100000
def RJ22 : String := "java/util/NoSuchElementException"
def TJ22 : u_T := fun k => match k with
  | 0 => ("java/lang/Throwable", "cause", "Ljava/lang/Throwable;", false)
  | 1 => ("java/lang/Throwable", "stackTrace", "[Ljava/lang/StackTraceElement;", false)
  | 2 => ("java/lang/Throwable", "suppressedExceptions", "Ljava/util/List;", false)
  | 3 => ("java/lang/Throwable", "detailMessage", "Ljava/lang/String;", false)
  | 4 => ("java/lang/Throwable", "backtrace", "Ljava/lang/Object;", false)
  | _ => ("java/lang/Throwable", "depth", "I", false)
def tyJ22 : Nat → FieldType := fun k => match k with
  | 0 => .object "java/lang/Throwable"
  | 1 => .array (.object "java/lang/StackTraceElement")
  | 2 => .object "java/util/List"
  | 3 => .object "java/lang/String"
  | 4 => .object "java/lang/Object"
  | _ => .int
abbrev wsJ220 : List Cond := u_ws RJ22 TJ22 6
theorem nmJ22 : ∀ a, a < 6 → ∀ b, b < 6 → a ≠ b → (TJ22 a).2.1 ≠ (TJ22 b).2.1 := by decide +kernel
theorem tyJ22_ok : ∀ k, k < 6 → parseFieldDescriptor (TJ22 k).2.2.1 = some (tyJ22 k) := by decide +kernel
abbrev cJ22_init : ByteArray := prog_59_method_1_code
def yJ22_init : MethodName := ⟨RJ22, "<init>", "()V"⟩
theorem dJ22_init_0 : decode cJ22_init 0 = .ok (.aload_n 0, 1) := by decide +kernel
theorem dJ22_init_1 : decode cJ22_init 1 = .ok (.invokespecial 1, 3) := by decide +kernel
theorem dJ22_init_4 : decode cJ22_init 4 = .ok (.return_, 1) := by decide +kernel
theorem q191 : (Jvm.Cond.initialized "java/util/NoSuchElementException") ∈ lw_all := lw_g (lw_at lw_m1 45 rfl) rfl
theorem q455 : (Jvm.Cond.selects "java/util/NoSuchElementException" ({ cls := "java/lang/Throwable", name := "fillInStackTrace", desc := "()Ljava/lang/Throwable;" } : Jvm.MethodName) ({ cls := "java/lang/Throwable", name := "fillInStackTrace", desc := "()Ljava/lang/Throwable;" } : Jvm.MethodName)) ∈ lw_all := lw_g (lw_at lw_m2 69 rfl) rfl
theorem q1208 : (Jvm.Cond.selects "java/util/NoSuchElementException" ({ cls := "java/lang/Object", name := "getClass", desc := "()Ljava/lang/Class;" } : Jvm.MethodName) ({ cls := "java/lang/Object", name := "getClass", desc := "()Ljava/lang/Class;" } : Jvm.MethodName)) ∈ lw_all := lw_g (lw_at lw_m5 102 rfl) rfl
theorem q1828 : (Jvm.Cond.instantiable "java/util/NoSuchElementException" (6 : Nat)) ∈ lw_all := lw_g (lw_at lw_m8 2 rfl) rfl
theorem q1829 : (Jvm.Cond.castable "java/util/NoSuchElementException" "java/util/NoSuchElementException") ∈ lw_tbl := lw_at lw_m8 3 rfl
theorem q1830 : (Jvm.Cond.selects "java/util/NoSuchElementException" ({ cls := "java/lang/Throwable", name := "fillInStackTrace", desc := "(I)Ljava/lang/Throwable;" } : Jvm.MethodName) ({ cls := "java/lang/Throwable", name := "fillInStackTrace", desc := "(I)Ljava/lang/Throwable;" } : Jvm.MethodName)) ∈ lw_all := lw_g (lw_at lw_m8 4 rfl) rfl
theorem q1831 : (Jvm.Cond.lays "java/util/NoSuchElementException" "java/lang/Throwable" "cause" "Ljava/lang/Throwable;") ∈ lw_all := lw_g (lw_at lw_m8 5 rfl) rfl
theorem q1832 : (Jvm.Cond.lays "java/util/NoSuchElementException" "java/lang/Throwable" "stackTrace" "[Ljava/lang/StackTraceElement;") ∈ lw_all := lw_g (lw_at lw_m8 6 rfl) rfl
theorem q1833 : (Jvm.Cond.lays "java/util/NoSuchElementException" "java/lang/Throwable" "suppressedExceptions" "Ljava/util/List;") ∈ lw_all := lw_g (lw_at lw_m8 7 rfl) rfl
theorem q1834 : (Jvm.Cond.lays "java/util/NoSuchElementException" "java/lang/Throwable" "detailMessage" "Ljava/lang/String;") ∈ lw_all := lw_g (lw_at lw_m8 8 rfl) rfl
theorem q1835 : (Jvm.Cond.lays "java/util/NoSuchElementException" "java/lang/Throwable" "backtrace" "Ljava/lang/Object;") ∈ lw_all := lw_g (lw_at lw_m8 9 rfl) rfl
theorem q1837 : (Jvm.Cond.instanceMethod ({ cls := "java/util/NoSuchElementException", name := "<init>", desc := "()V" } : Jvm.MethodName)) ∈ lw_all := lw_g (lw_at lw_m8 11 rfl) rfl
theorem q1838 : (Jvm.Cond.code ({ cls := "java/util/NoSuchElementException", name := "<init>", desc := "()V" } : Jvm.MethodName) prog_59_method_1_code (1 : Nat) (Option.none : Option Jvm.ClassFile.FieldType)) ∈ lw_all := lw_g (lw_at lw_m8 12 rfl) rfl
theorem q1839 : (Jvm.Cond.methodLink "java/util/NoSuchElementException" (1 : Nat) ({ cls := "java/lang/RuntimeException", name := "<init>", desc := "()V" } : Jvm.MethodName)) ∈ lw_all := lw_g (lw_at lw_m8 13 rfl) rfl
theorem q1840 : (Jvm.Cond.lays "java/util/NoSuchElementException" "java/lang/Throwable" "depth" "I") ∈ lw_all := lw_g (lw_at lw_m8 14 rfl) rfl
theorem q1841 : (Jvm.Cond.superclass "java/util/NoSuchElementException" "java/lang/RuntimeException") ∈ lw_all := lw_g (lw_at lw_m8 15 rfl) rfl
theorem q2916 : (Jvm.Cond.castable "java/util/NoSuchElementException" "java/lang/Object") ∈ lw_tbl := lw_at lw_m12 130 rfl
theorem in_J22 : ∀ w ∈ wsJ220, w ∈ lw_all := lw_in wsJ220 [1831, 1832, 1833, 1834, 1835, 1840] (by decide +kernel) (by decide +kernel)

/-! java/lang/Object -/
set_option maxRecDepth 100000
def RJ23 : String := "java/lang/Object"
abbrev cJ23_init : ByteArray := object_method_1_code
def yJ23_init : MethodName := ⟨RJ23, "<init>", "()V"⟩
theorem dJ23_init_0 : decode cJ23_init 0 = .ok (.return_, 1) := by decide +kernel
theorem q198 : (Jvm.Cond.instanceMethod ({ cls := "java/lang/Object", name := "<init>", desc := "()V" } : Jvm.MethodName)) ∈ lw_all := lw_g (lw_at lw_m1 52 rfl) rfl
theorem q199 : (Jvm.Cond.code ({ cls := "java/lang/Object", name := "<init>", desc := "()V" } : Jvm.MethodName) object_method_1_code (1 : Nat) (Option.none : Option Jvm.ClassFile.FieldType)) ∈ lw_all := lw_g (lw_at lw_m1 53 rfl) rfl
theorem q675 : (Jvm.Cond.native ({ cls := "java/lang/Object", name := "clone", desc := "()Ljava/lang/Object;" } : Jvm.MethodName)) ∈ lw_all := lw_g (lw_at lw_m3 49 rfl) rfl
theorem q676 : (Jvm.Cond.instanceMethod ({ cls := "java/lang/Object", name := "clone", desc := "()Ljava/lang/Object;" } : Jvm.MethodName)) ∈ lw_all := lw_g (lw_at lw_m3 50 rfl) rfl
theorem q1178 : (Jvm.Cond.instanceMethod ({ cls := "java/lang/Object", name := "getClass", desc := "()Ljava/lang/Class;" } : Jvm.MethodName)) ∈ lw_all := lw_g (lw_at lw_m5 72 rfl) rfl
theorem q1179 : (Jvm.Cond.sameMethod "java/lang/Object" "java/lang/Object" "getClass" "()Ljava/lang/Class;") ∈ lw_all := lw_g (lw_at lw_m5 73 rfl) rfl
theorem q1209 : (Jvm.Cond.native ({ cls := "java/lang/Object", name := "getClass", desc := "()Ljava/lang/Class;" } : Jvm.MethodName)) ∈ lw_all := lw_g (lw_at lw_m5 103 rfl) rfl
theorem q2881 : (Jvm.Cond.initialized "java/lang/Object") ∈ lw_all := lw_g (lw_at lw_m12 95 rfl) rfl
theorem q2923 : (Jvm.Cond.declares ({ cls := "java/lang/Object", name := "getClass", desc := "()Ljava/lang/Class;" } : Jvm.MethodName)) ∈ lw_tbl := lw_at lw_m12 137 rfl
theorem q2939 : (Jvm.Cond.instantiable "java/lang/Object" (0 : Nat)) ∈ lw_all := lw_g (lw_at lw_m12 153 rfl) rfl

/-! java/lang/System$2 -/
set_option maxRecDepth 100000
def RJ24 : String := "java/lang/System$2"
abbrev cJ24_getUTF16Char : ByteArray := prog_46_method_45_code
def yJ24_getUTF16Char : MethodName := ⟨RJ24, "getUTF16Char", "([BI)C"⟩
def dkwJ24_getUTF16Char_0 : List UInt8 := [43, 28, 184, 0, 185, 172]
abbrev dktJ24_getUTF16Char_0 : List UInt8 := dkwJ24_getUTF16Char_0 ++ []
theorem dksJ24_getUTF16Char_0 : cJ24_getUTF16Char.data.toList.drop 0 = dktJ24_getUTF16Char_0 := by decide +kernel
theorem dJ24_getUTF16Char_0 : decode cJ24_getUTF16Char 0 = .ok (.aload_n 1, 1) := dk_43 (dk_at dksJ24_getUTF16Char_0 0 rfl rfl)
theorem dJ24_getUTF16Char_1 : decode cJ24_getUTF16Char 1 = .ok (.iload_n 2, 1) := dk_28 (dk_at dksJ24_getUTF16Char_0 1 rfl rfl)
theorem dJ24_getUTF16Char_2 : decode cJ24_getUTF16Char 2 = .ok (.invokestatic 185, 3) := dk_184 0 185 (dk_at dksJ24_getUTF16Char_0 2 rfl rfl)
theorem dJ24_getUTF16Char_5 : decode cJ24_getUTF16Char 5 = .ok (.ireturn, 1) := dk_172 (dk_at dksJ24_getUTF16Char_0 5 rfl rfl)
theorem q1077 : (Jvm.Cond.castable "java/lang/System$2" "jdk/internal/access/JavaLangAccess") ∈ lw_tbl := lw_at lw_m4 211 rfl
theorem q1078 : (Jvm.Cond.selects "java/lang/System$2" ({ cls := "jdk/internal/access/JavaLangAccess", name := "getUTF16Char", desc := "([BI)C" } : Jvm.MethodName) ({ cls := "java/lang/System$2", name := "getUTF16Char", desc := "([BI)C" } : Jvm.MethodName)) ∈ lw_all := lw_g (lw_at lw_m4 212 rfl) rfl
theorem q1079 : (Jvm.Cond.unhidden "java/lang/System$2" "getUTF16Char" "([BI)C") ∈ lw_tbl := lw_at lw_m4 213 rfl
theorem q1080 : (Jvm.Cond.instanceMethod ({ cls := "java/lang/System$2", name := "getUTF16Char", desc := "([BI)C" } : Jvm.MethodName)) ∈ lw_all := lw_g (lw_at lw_m4 214 rfl) rfl
theorem q1081 : (Jvm.Cond.publicMethod ({ cls := "java/lang/System$2", name := "getUTF16Char", desc := "([BI)C" } : Jvm.MethodName)) ∈ lw_tbl := lw_at lw_m4 215 rfl
theorem q1082 : (Jvm.Cond.code ({ cls := "java/lang/System$2", name := "getUTF16Char", desc := "([BI)C" } : Jvm.MethodName) prog_46_method_45_code (3 : Nat) (Option.some Jvm.ClassFile.FieldType.char)) ∈ lw_all := lw_g (lw_at lw_m4 216 rfl) rfl
theorem q1083 : (Jvm.Cond.methodLink "java/lang/System$2" (185 : Nat) ({ cls := "java/lang/StringUTF16", name := "getChar", desc := "([BI)C" } : Jvm.MethodName)) ∈ lw_all := lw_g (lw_at lw_m4 217 rfl) rfl
theorem q1205 : (Jvm.Cond.selects "java/lang/System$2" ({ cls := "java/lang/Object", name := "getClass", desc := "()Ljava/lang/Class;" } : Jvm.MethodName) ({ cls := "java/lang/Object", name := "getClass", desc := "()Ljava/lang/Class;" } : Jvm.MethodName)) ∈ lw_all := lw_g (lw_at lw_m5 99 rfl) rfl
theorem q2905 : (Jvm.Cond.castable "java/lang/System$2" "java/lang/Object") ∈ lw_tbl := lw_at lw_m12 119 rfl

/-! java/lang/Exception -/
set_option maxRecDepth 100000
def RJ3 : String := "java/lang/Exception"
abbrev cJ3_init : ByteArray := prog_32_method_2_code
def yJ3_init : MethodName := ⟨RJ3, "<init>", "(Ljava/lang/String;)V"⟩
def dkwJ3_init_0 : List UInt8 := [42, 43, 183, 0, 7, 177]
abbrev dktJ3_init_0 : List UInt8 := dkwJ3_init_0 ++ []
theorem dksJ3_init_0 : cJ3_init.data.toList.drop 0 = dktJ3_init_0 := by decide +kernel
theorem dJ3_init_0 : decode cJ3_init 0 = .ok (.aload_n 0, 1) := dk_42 (dk_at dksJ3_init_0 0 rfl rfl)
theorem dJ3_init_1 : decode cJ3_init 1 = .ok (.aload_n 1, 1) := dk_43 (dk_at dksJ3_init_0 1 rfl rfl)
theorem dJ3_init_2 : decode cJ3_init 2 = .ok (.invokespecial 7, 3) := dk_183 0 7 (dk_at dksJ3_init_0 2 rfl rfl)
theorem dJ3_init_5 : decode cJ3_init 5 = .ok (.return_, 1) := dk_177 (dk_at dksJ3_init_0 5 rfl rfl)
abbrev cJ3_init_2 : ByteArray := prog_32_method_1_code
def yJ3_init_2 : MethodName := ⟨RJ3, "<init>", "()V"⟩
theorem dJ3_init_2_0 : decode cJ3_init_2 0 = .ok (.aload_n 0, 1) := by decide +kernel
theorem dJ3_init_2_1 : decode cJ3_init_2 1 = .ok (.invokespecial 1, 3) := by decide +kernel
theorem dJ3_init_2_4 : decode cJ3_init_2 4 = .ok (.return_, 1) := by decide +kernel
abbrev cJ3_init_3 : ByteArray := prog_32_method_5_code
def yJ3_init_3 : MethodName := ⟨RJ3, "<init>", "(Ljava/lang/String;Ljava/lang/Throwable;ZZ)V"⟩
def dkwJ3_init_3_0 : List UInt8 := [42, 43, 44, 29, 21, 4, 183, 0, 16, 177]
abbrev dktJ3_init_3_0 : List UInt8 := dkwJ3_init_3_0 ++ []
theorem dksJ3_init_3_0 : cJ3_init_3.data.toList.drop 0 = dktJ3_init_3_0 := by decide +kernel
theorem dJ3_init_3_0 : decode cJ3_init_3 0 = .ok (.aload_n 0, 1) := dk_42 (dk_at dksJ3_init_3_0 0 rfl rfl)
theorem dJ3_init_3_1 : decode cJ3_init_3 1 = .ok (.aload_n 1, 1) := dk_43 (dk_at dksJ3_init_3_0 1 rfl rfl)
theorem dJ3_init_3_2 : decode cJ3_init_3 2 = .ok (.aload_n 2, 1) := dk_44 (dk_at dksJ3_init_3_0 2 rfl rfl)
theorem dJ3_init_3_3 : decode cJ3_init_3 3 = .ok (.iload_n 3, 1) := dk_29 (dk_at dksJ3_init_3_0 3 rfl rfl)
theorem dJ3_init_3_4 : decode cJ3_init_3 4 = .ok (.iload 4, 2) := dk_21 4 (dk_at dksJ3_init_3_0 4 rfl rfl)
theorem dJ3_init_3_6 : decode cJ3_init_3 6 = .ok (.invokespecial 16, 3) := dk_183 0 16 (dk_at dksJ3_init_3_0 6 rfl rfl)
theorem dJ3_init_3_9 : decode cJ3_init_3 9 = .ok (.return_, 1) := dk_177 (dk_at dksJ3_init_3_0 9 rfl rfl)
theorem q153 : (Jvm.Cond.initialized "java/lang/Exception") ∈ lw_all := lw_g (lw_at lw_m1 7 rfl) rfl
theorem q437 : (Jvm.Cond.instanceMethod ({ cls := "java/lang/Exception", name := "<init>", desc := "(Ljava/lang/String;)V" } : Jvm.MethodName)) ∈ lw_all := lw_g (lw_at lw_m2 51 rfl) rfl
theorem q438 : (Jvm.Cond.code ({ cls := "java/lang/Exception", name := "<init>", desc := "(Ljava/lang/String;)V" } : Jvm.MethodName) prog_32_method_2_code (2 : Nat) (Option.none : Option Jvm.ClassFile.FieldType)) ∈ lw_all := lw_g (lw_at lw_m2 52 rfl) rfl
theorem q439 : (Jvm.Cond.methodLink "java/lang/Exception" (7 : Nat) ({ cls := "java/lang/Throwable", name := "<init>", desc := "(Ljava/lang/String;)V" } : Jvm.MethodName)) ∈ lw_all := lw_g (lw_at lw_m2 53 rfl) rfl
theorem q485 : (Jvm.Cond.declares ({ cls := "java/lang/Exception", name := "<init>", desc := "()V" } : Jvm.MethodName)) ∈ lw_tbl := lw_at lw_m2 99 rfl
theorem q486 : (Jvm.Cond.declares ({ cls := "java/lang/Exception", name := "<init>", desc := "(Ljava/lang/String;)V" } : Jvm.MethodName)) ∈ lw_tbl := lw_at lw_m2 100 rfl
theorem q532 : (Jvm.Cond.instanceMethod ({ cls := "java/lang/Exception", name := "<init>", desc := "()V" } : Jvm.MethodName)) ∈ lw_all := lw_g (lw_at lw_m2 146 rfl) rfl
theorem q533 : (Jvm.Cond.code ({ cls := "java/lang/Exception", name := "<init>", desc := "()V" } : Jvm.MethodName) prog_32_method_1_code (1 : Nat) (Option.none : Option Jvm.ClassFile.FieldType)) ∈ lw_all := lw_g (lw_at lw_m2 147 rfl) rfl
theorem q534 : (Jvm.Cond.methodLink "java/lang/Exception" (1 : Nat) ({ cls := "java/lang/Throwable", name := "<init>", desc := "()V" } : Jvm.MethodName)) ∈ lw_all := lw_g (lw_at lw_m2 148 rfl) rfl
theorem q1014 : (Jvm.Cond.instanceMethod ({ cls := "java/lang/Exception", name := "<init>", desc := "(Ljava/lang/String;Ljava/lang/Throwable;ZZ)V" } : Jvm.MethodName)) ∈ lw_all := lw_g (lw_at lw_m4 148 rfl) rfl
theorem q1015 : (Jvm.Cond.code ({ cls := "java/lang/Exception", name := "<init>", desc := "(Ljava/lang/String;Ljava/lang/Throwable;ZZ)V" } : Jvm.MethodName) prog_32_method_5_code (5 : Nat) (Option.none : Option Jvm.ClassFile.FieldType)) ∈ lw_all := lw_g (lw_at lw_m4 149 rfl) rfl
theorem q1016 : (Jvm.Cond.methodLink "java/lang/Exception" (16 : Nat) ({ cls := "java/lang/Throwable", name := "<init>", desc := "(Ljava/lang/String;Ljava/lang/Throwable;ZZ)V" } : Jvm.MethodName)) ∈ lw_all := lw_g (lw_at lw_m4 150 rfl) rfl

/-! java/lang/RuntimeException -/
set_option maxRecDepth 100000
def RJ4 : String := "java/lang/RuntimeException"
abbrev cJ4_init : ByteArray := prog_40_method_2_code
def yJ4_init : MethodName := ⟨RJ4, "<init>", "(Ljava/lang/String;)V"⟩
def dkwJ4_init_0 : List UInt8 := [42, 43, 183, 0, 7, 177]
abbrev dktJ4_init_0 : List UInt8 := dkwJ4_init_0 ++ []
theorem dksJ4_init_0 : cJ4_init.data.toList.drop 0 = dktJ4_init_0 := by decide +kernel
theorem dJ4_init_0 : decode cJ4_init 0 = .ok (.aload_n 0, 1) := dk_42 (dk_at dksJ4_init_0 0 rfl rfl)
theorem dJ4_init_1 : decode cJ4_init 1 = .ok (.aload_n 1, 1) := dk_43 (dk_at dksJ4_init_0 1 rfl rfl)
theorem dJ4_init_2 : decode cJ4_init 2 = .ok (.invokespecial 7, 3) := dk_183 0 7 (dk_at dksJ4_init_0 2 rfl rfl)
theorem dJ4_init_5 : decode cJ4_init 5 = .ok (.return_, 1) := dk_177 (dk_at dksJ4_init_0 5 rfl rfl)
abbrev cJ4_init_2 : ByteArray := prog_40_method_1_code
def yJ4_init_2 : MethodName := ⟨RJ4, "<init>", "()V"⟩
theorem dJ4_init_2_0 : decode cJ4_init_2 0 = .ok (.aload_n 0, 1) := by decide +kernel
theorem dJ4_init_2_1 : decode cJ4_init_2 1 = .ok (.invokespecial 1, 3) := by decide +kernel
theorem dJ4_init_2_4 : decode cJ4_init_2 4 = .ok (.return_, 1) := by decide +kernel
theorem q154 : (Jvm.Cond.initialized "java/lang/RuntimeException") ∈ lw_all := lw_g (lw_at lw_m1 8 rfl) rfl
theorem q434 : (Jvm.Cond.instanceMethod ({ cls := "java/lang/RuntimeException", name := "<init>", desc := "(Ljava/lang/String;)V" } : Jvm.MethodName)) ∈ lw_all := lw_g (lw_at lw_m2 48 rfl) rfl
theorem q435 : (Jvm.Cond.code ({ cls := "java/lang/RuntimeException", name := "<init>", desc := "(Ljava/lang/String;)V" } : Jvm.MethodName) prog_40_method_2_code (2 : Nat) (Option.none : Option Jvm.ClassFile.FieldType)) ∈ lw_all := lw_g (lw_at lw_m2 49 rfl) rfl
theorem q436 : (Jvm.Cond.methodLink "java/lang/RuntimeException" (7 : Nat) ({ cls := "java/lang/Exception", name := "<init>", desc := "(Ljava/lang/String;)V" } : Jvm.MethodName)) ∈ lw_all := lw_g (lw_at lw_m2 50 rfl) rfl
theorem q483 : (Jvm.Cond.declares ({ cls := "java/lang/RuntimeException", name := "<init>", desc := "()V" } : Jvm.MethodName)) ∈ lw_tbl := lw_at lw_m2 97 rfl
theorem q484 : (Jvm.Cond.declares ({ cls := "java/lang/RuntimeException", name := "<init>", desc := "(Ljava/lang/String;)V" } : Jvm.MethodName)) ∈ lw_tbl := lw_at lw_m2 98 rfl
theorem q529 : (Jvm.Cond.instanceMethod ({ cls := "java/lang/RuntimeException", name := "<init>", desc := "()V" } : Jvm.MethodName)) ∈ lw_all := lw_g (lw_at lw_m2 143 rfl) rfl
theorem q530 : (Jvm.Cond.code ({ cls := "java/lang/RuntimeException", name := "<init>", desc := "()V" } : Jvm.MethodName) prog_40_method_1_code (1 : Nat) (Option.none : Option Jvm.ClassFile.FieldType)) ∈ lw_all := lw_g (lw_at lw_m2 144 rfl) rfl
theorem q531 : (Jvm.Cond.methodLink "java/lang/RuntimeException" (1 : Nat) ({ cls := "java/lang/Exception", name := "<init>", desc := "()V" } : Jvm.MethodName)) ∈ lw_all := lw_g (lw_at lw_m2 145 rfl) rfl

/-! java/lang/IndexOutOfBoundsException -/
set_option maxRecDepth 100000
def RJ5 : String := "java/lang/IndexOutOfBoundsException"
def TJ5 : u_T := fun k => match k with
  | 0 => ("java/lang/Throwable", "cause", "Ljava/lang/Throwable;", false)
  | 1 => ("java/lang/Throwable", "stackTrace", "[Ljava/lang/StackTraceElement;", false)
  | 2 => ("java/lang/Throwable", "suppressedExceptions", "Ljava/util/List;", false)
  | 3 => ("java/lang/Throwable", "detailMessage", "Ljava/lang/String;", false)
  | 4 => ("java/lang/Throwable", "backtrace", "Ljava/lang/Object;", false)
  | _ => ("java/lang/Throwable", "depth", "I", false)
def tyJ5 : Nat → FieldType := fun k => match k with
  | 0 => .object "java/lang/Throwable"
  | 1 => .array (.object "java/lang/StackTraceElement")
  | 2 => .object "java/util/List"
  | 3 => .object "java/lang/String"
  | 4 => .object "java/lang/Object"
  | _ => .int
abbrev wsJ50 : List Cond := u_ws RJ5 TJ5 6
theorem nmJ5 : ∀ a, a < 6 → ∀ b, b < 6 → a ≠ b → (TJ5 a).2.1 ≠ (TJ5 b).2.1 := by decide +kernel
theorem tyJ5_ok : ∀ k, k < 6 → parseFieldDescriptor (TJ5 k).2.2.1 = some (tyJ5 k) := by decide +kernel
abbrev cJ5_init : ByteArray := prog_35_method_2_code
def yJ5_init : MethodName := ⟨RJ5, "<init>", "(Ljava/lang/String;)V"⟩
def dkwJ5_init_0 : List UInt8 := [42, 43, 183, 0, 7, 177]
abbrev dktJ5_init_0 : List UInt8 := dkwJ5_init_0 ++ []
theorem dksJ5_init_0 : cJ5_init.data.toList.drop 0 = dktJ5_init_0 := by decide +kernel
theorem dJ5_init_0 : decode cJ5_init 0 = .ok (.aload_n 0, 1) := dk_42 (dk_at dksJ5_init_0 0 rfl rfl)
theorem dJ5_init_1 : decode cJ5_init 1 = .ok (.aload_n 1, 1) := dk_43 (dk_at dksJ5_init_0 1 rfl rfl)
theorem dJ5_init_2 : decode cJ5_init 2 = .ok (.invokespecial 7, 3) := dk_183 0 7 (dk_at dksJ5_init_0 2 rfl rfl)
theorem dJ5_init_5 : decode cJ5_init 5 = .ok (.return_, 1) := dk_177 (dk_at dksJ5_init_0 5 rfl rfl)
abbrev cJ5_init_2 : ByteArray := prog_35_method_1_code
def yJ5_init_2 : MethodName := ⟨RJ5, "<init>", "()V"⟩
theorem dJ5_init_2_0 : decode cJ5_init_2 0 = .ok (.aload_n 0, 1) := by decide +kernel
theorem dJ5_init_2_1 : decode cJ5_init_2 1 = .ok (.invokespecial 1, 3) := by decide +kernel
theorem dJ5_init_2_4 : decode cJ5_init_2 4 = .ok (.return_, 1) := by decide +kernel
theorem q155 : (Jvm.Cond.initialized "java/lang/IndexOutOfBoundsException") ∈ lw_all := lw_g (lw_at lw_m1 9 rfl) rfl
theorem q431 : (Jvm.Cond.instanceMethod ({ cls := "java/lang/IndexOutOfBoundsException", name := "<init>", desc := "(Ljava/lang/String;)V" } : Jvm.MethodName)) ∈ lw_all := lw_g (lw_at lw_m2 45 rfl) rfl
theorem q432 : (Jvm.Cond.code ({ cls := "java/lang/IndexOutOfBoundsException", name := "<init>", desc := "(Ljava/lang/String;)V" } : Jvm.MethodName) prog_35_method_2_code (2 : Nat) (Option.none : Option Jvm.ClassFile.FieldType)) ∈ lw_all := lw_g (lw_at lw_m2 46 rfl) rfl
theorem q433 : (Jvm.Cond.methodLink "java/lang/IndexOutOfBoundsException" (7 : Nat) ({ cls := "java/lang/RuntimeException", name := "<init>", desc := "(Ljava/lang/String;)V" } : Jvm.MethodName)) ∈ lw_all := lw_g (lw_at lw_m2 47 rfl) rfl
theorem q454 : (Jvm.Cond.selects "java/lang/IndexOutOfBoundsException" ({ cls := "java/lang/Throwable", name := "fillInStackTrace", desc := "()Ljava/lang/Throwable;" } : Jvm.MethodName) ({ cls := "java/lang/Throwable", name := "fillInStackTrace", desc := "()Ljava/lang/Throwable;" } : Jvm.MethodName)) ∈ lw_all := lw_g (lw_at lw_m2 68 rfl) rfl
theorem q481 : (Jvm.Cond.declares ({ cls := "java/lang/IndexOutOfBoundsException", name := "<init>", desc := "()V" } : Jvm.MethodName)) ∈ lw_tbl := lw_at lw_m2 95 rfl
theorem q482 : (Jvm.Cond.declares ({ cls := "java/lang/IndexOutOfBoundsException", name := "<init>", desc := "(Ljava/lang/String;)V" } : Jvm.MethodName)) ∈ lw_tbl := lw_at lw_m2 96 rfl
theorem q517 : (Jvm.Cond.instantiable "java/lang/IndexOutOfBoundsException" (6 : Nat)) ∈ lw_all := lw_g (lw_at lw_m2 131 rfl) rfl
theorem q518 : (Jvm.Cond.castable "java/lang/IndexOutOfBoundsException" "java/lang/IndexOutOfBoundsException") ∈ lw_tbl := lw_at lw_m2 132 rfl
theorem q519 : (Jvm.Cond.selects "java/lang/IndexOutOfBoundsException" ({ cls := "java/lang/Throwable", name := "fillInStackTrace", desc := "(I)Ljava/lang/Throwable;" } : Jvm.MethodName) ({ cls := "java/lang/Throwable", name := "fillInStackTrace", desc := "(I)Ljava/lang/Throwable;" } : Jvm.MethodName)) ∈ lw_all := lw_g (lw_at lw_m2 133 rfl) rfl
theorem q520 : (Jvm.Cond.lays "java/lang/IndexOutOfBoundsException" "java/lang/Throwable" "cause" "Ljava/lang/Throwable;") ∈ lw_all := lw_g (lw_at lw_m2 134 rfl) rfl
theorem q521 : (Jvm.Cond.lays "java/lang/IndexOutOfBoundsException" "java/lang/Throwable" "stackTrace" "[Ljava/lang/StackTraceElement;") ∈ lw_all := lw_g (lw_at lw_m2 135 rfl) rfl
theorem q522 : (Jvm.Cond.lays "java/lang/IndexOutOfBoundsException" "java/lang/Throwable" "suppressedExceptions" "Ljava/util/List;") ∈ lw_all := lw_g (lw_at lw_m2 136 rfl) rfl
theorem q523 : (Jvm.Cond.lays "java/lang/IndexOutOfBoundsException" "java/lang/Throwable" "detailMessage" "Ljava/lang/String;") ∈ lw_all := lw_g (lw_at lw_m2 137 rfl) rfl
theorem q524 : (Jvm.Cond.lays "java/lang/IndexOutOfBoundsException" "java/lang/Throwable" "backtrace" "Ljava/lang/Object;") ∈ lw_all := lw_g (lw_at lw_m2 138 rfl) rfl
theorem q526 : (Jvm.Cond.instanceMethod ({ cls := "java/lang/IndexOutOfBoundsException", name := "<init>", desc := "()V" } : Jvm.MethodName)) ∈ lw_all := lw_g (lw_at lw_m2 140 rfl) rfl
theorem q527 : (Jvm.Cond.code ({ cls := "java/lang/IndexOutOfBoundsException", name := "<init>", desc := "()V" } : Jvm.MethodName) prog_35_method_1_code (1 : Nat) (Option.none : Option Jvm.ClassFile.FieldType)) ∈ lw_all := lw_g (lw_at lw_m2 141 rfl) rfl
theorem q528 : (Jvm.Cond.methodLink "java/lang/IndexOutOfBoundsException" (1 : Nat) ({ cls := "java/lang/RuntimeException", name := "<init>", desc := "()V" } : Jvm.MethodName)) ∈ lw_all := lw_g (lw_at lw_m2 142 rfl) rfl
theorem q535 : (Jvm.Cond.lays "java/lang/IndexOutOfBoundsException" "java/lang/Throwable" "depth" "I") ∈ lw_all := lw_g (lw_at lw_m2 149 rfl) rfl
theorem q536 : (Jvm.Cond.superclass "java/lang/IndexOutOfBoundsException" "java/lang/RuntimeException") ∈ lw_all := lw_g (lw_at lw_m2 150 rfl) rfl
theorem q1202 : (Jvm.Cond.selects "java/lang/IndexOutOfBoundsException" ({ cls := "java/lang/Object", name := "getClass", desc := "()Ljava/lang/Class;" } : Jvm.MethodName) ({ cls := "java/lang/Object", name := "getClass", desc := "()Ljava/lang/Class;" } : Jvm.MethodName)) ∈ lw_all := lw_g (lw_at lw_m5 96 rfl) rfl
theorem q2895 : (Jvm.Cond.castable "java/lang/IndexOutOfBoundsException" "java/lang/Object") ∈ lw_tbl := lw_at lw_m12 109 rfl
theorem in_J5 : ∀ w ∈ wsJ50, w ∈ lw_all := lw_in wsJ50 [520, 521, 522, 523, 524, 535] (by decide +kernel) (by decide +kernel)

/-! java/lang/ArrayIndexOutOfBoundsException -/
set_option maxRecDepth 100000
def RJ6 : String := "java/lang/ArrayIndexOutOfBoundsException"
def TJ6 : u_T := fun k => match k with
  | 0 => ("java/lang/Throwable", "backtrace", "Ljava/lang/Object;", false)
  | 1 => ("java/lang/Throwable", "detailMessage", "Ljava/lang/String;", false)
  | 2 => ("java/lang/Throwable", "cause", "Ljava/lang/Throwable;", false)
  | 3 => ("java/lang/Throwable", "stackTrace", "[Ljava/lang/StackTraceElement;", false)
  | 4 => ("java/lang/Throwable", "depth", "I", false)
  | _ => ("java/lang/Throwable", "suppressedExceptions", "Ljava/util/List;", false)
def tyJ6 : Nat → FieldType := fun k => match k with
  | 0 => .object "java/lang/Object"
  | 1 => .object "java/lang/String"
  | 2 => .object "java/lang/Throwable"
  | 3 => .array (.object "java/lang/StackTraceElement")
  | 4 => .int
  | _ => .object "java/util/List"
abbrev wsJ60 : List Cond := u_ws RJ6 TJ6 6
theorem nmJ6 : ∀ a, a < 6 → ∀ b, b < 6 → a ≠ b → (TJ6 a).2.1 ≠ (TJ6 b).2.1 := by decide +kernel
theorem tyJ6_ok : ∀ k, k < 6 → parseFieldDescriptor (TJ6 k).2.2.1 = some (tyJ6 k) := by decide +kernel
abbrev cJ6_init : ByteArray := prog_27_method_2_code
def yJ6_init : MethodName := ⟨RJ6, "<init>", "(Ljava/lang/String;)V"⟩
def dkwJ6_init_0 : List UInt8 := [42, 43, 183, 0, 7, 177]
abbrev dktJ6_init_0 : List UInt8 := dkwJ6_init_0 ++ []
theorem dksJ6_init_0 : cJ6_init.data.toList.drop 0 = dktJ6_init_0 := by decide +kernel
theorem dJ6_init_0 : decode cJ6_init 0 = .ok (.aload_n 0, 1) := dk_42 (dk_at dksJ6_init_0 0 rfl rfl)
theorem dJ6_init_1 : decode cJ6_init 1 = .ok (.aload_n 1, 1) := dk_43 (dk_at dksJ6_init_0 1 rfl rfl)
theorem dJ6_init_2 : decode cJ6_init 2 = .ok (.invokespecial 7, 3) := dk_183 0 7 (dk_at dksJ6_init_0 2 rfl rfl)
theorem dJ6_init_5 : decode cJ6_init 5 = .ok (.return_, 1) := dk_177 (dk_at dksJ6_init_0 5 rfl rfl)
theorem q156 : (Jvm.Cond.initialized "java/lang/ArrayIndexOutOfBoundsException") ∈ lw_all := lw_g (lw_at lw_m1 10 rfl) rfl
theorem q427 : (Jvm.Cond.instantiable "java/lang/ArrayIndexOutOfBoundsException" (6 : Nat)) ∈ lw_all := lw_g (lw_at lw_m2 41 rfl) rfl
theorem q428 : (Jvm.Cond.instanceMethod ({ cls := "java/lang/ArrayIndexOutOfBoundsException", name := "<init>", desc := "(Ljava/lang/String;)V" } : Jvm.MethodName)) ∈ lw_all := lw_g (lw_at lw_m2 42 rfl) rfl
theorem q429 : (Jvm.Cond.code ({ cls := "java/lang/ArrayIndexOutOfBoundsException", name := "<init>", desc := "(Ljava/lang/String;)V" } : Jvm.MethodName) prog_27_method_2_code (2 : Nat) (Option.none : Option Jvm.ClassFile.FieldType)) ∈ lw_all := lw_g (lw_at lw_m2 43 rfl) rfl
theorem q430 : (Jvm.Cond.methodLink "java/lang/ArrayIndexOutOfBoundsException" (7 : Nat) ({ cls := "java/lang/IndexOutOfBoundsException", name := "<init>", desc := "(Ljava/lang/String;)V" } : Jvm.MethodName)) ∈ lw_all := lw_g (lw_at lw_m2 44 rfl) rfl
theorem q451 : (Jvm.Cond.selects "java/lang/ArrayIndexOutOfBoundsException" ({ cls := "java/lang/Throwable", name := "fillInStackTrace", desc := "()Ljava/lang/Throwable;" } : Jvm.MethodName) ({ cls := "java/lang/Throwable", name := "fillInStackTrace", desc := "()Ljava/lang/Throwable;" } : Jvm.MethodName)) ∈ lw_all := lw_g (lw_at lw_m2 65 rfl) rfl
theorem q467 : (Jvm.Cond.lays "java/lang/ArrayIndexOutOfBoundsException" "java/lang/Throwable" "backtrace" "Ljava/lang/Object;") ∈ lw_all := lw_g (lw_at lw_m2 81 rfl) rfl
theorem q469 : (Jvm.Cond.lays "java/lang/ArrayIndexOutOfBoundsException" "java/lang/Throwable" "detailMessage" "Ljava/lang/String;") ∈ lw_all := lw_g (lw_at lw_m2 83 rfl) rfl
theorem q471 : (Jvm.Cond.lays "java/lang/ArrayIndexOutOfBoundsException" "java/lang/Throwable" "cause" "Ljava/lang/Throwable;") ∈ lw_all := lw_g (lw_at lw_m2 85 rfl) rfl
theorem q473 : (Jvm.Cond.lays "java/lang/ArrayIndexOutOfBoundsException" "java/lang/Throwable" "stackTrace" "[Ljava/lang/StackTraceElement;") ∈ lw_all := lw_g (lw_at lw_m2 87 rfl) rfl
theorem q475 : (Jvm.Cond.lays "java/lang/ArrayIndexOutOfBoundsException" "java/lang/Throwable" "depth" "I") ∈ lw_all := lw_g (lw_at lw_m2 89 rfl) rfl
theorem q477 : (Jvm.Cond.lays "java/lang/ArrayIndexOutOfBoundsException" "java/lang/Throwable" "suppressedExceptions" "Ljava/util/List;") ∈ lw_all := lw_g (lw_at lw_m2 91 rfl) rfl
theorem q479 : (Jvm.Cond.superclass "java/lang/ArrayIndexOutOfBoundsException" "java/lang/IndexOutOfBoundsException") ∈ lw_all := lw_g (lw_at lw_m2 93 rfl) rfl
theorem q480 : (Jvm.Cond.castable "java/lang/ArrayIndexOutOfBoundsException" "java/lang/ArrayIndexOutOfBoundsException") ∈ lw_tbl := lw_at lw_m2 94 rfl
theorem q489 : (Jvm.Cond.selects "java/lang/ArrayIndexOutOfBoundsException" ({ cls := "java/lang/Throwable", name := "fillInStackTrace", desc := "(I)Ljava/lang/Throwable;" } : Jvm.MethodName) ({ cls := "java/lang/Throwable", name := "fillInStackTrace", desc := "(I)Ljava/lang/Throwable;" } : Jvm.MethodName)) ∈ lw_all := lw_g (lw_at lw_m2 103 rfl) rfl
theorem q1199 : (Jvm.Cond.selects "java/lang/ArrayIndexOutOfBoundsException" ({ cls := "java/lang/Object", name := "getClass", desc := "()Ljava/lang/Class;" } : Jvm.MethodName) ({ cls := "java/lang/Object", name := "getClass", desc := "()Ljava/lang/Class;" } : Jvm.MethodName)) ∈ lw_all := lw_g (lw_at lw_m5 93 rfl) rfl
theorem q2882 : (Jvm.Cond.castable "java/lang/ArrayIndexOutOfBoundsException" "java/lang/IndexOutOfBoundsException") ∈ lw_tbl := lw_at lw_m12 96 rfl
theorem q2894 : (Jvm.Cond.castable "java/lang/ArrayIndexOutOfBoundsException" "java/lang/Object") ∈ lw_tbl := lw_at lw_m12 108 rfl
theorem in_J6 : ∀ w ∈ wsJ60, w ∈ lw_all := lw_in wsJ60 [467, 469, 471, 473, 475, 477] (by decide +kernel) (by decide +kernel)

/-! java/lang/String -/
set_option maxRecDepth 100000
def RJ7 : String := "java/lang/String"
def TJ7 : u_T := fun k => match k with
  | 0 => ("java/lang/String", "value", "[B", true)
  | 1 => ("java/lang/String", "coder", "B", true)
  | 2 => ("java/lang/String", "hash", "I", false)
  | _ => ("java/lang/String", "hashIsZero", "Z", false)
def tyJ7 : Nat → FieldType := fun k => match k with
  | 0 => .array .byte
  | 1 => .byte
  | 2 => .int
  | _ => .boolean
abbrev wsJ70 : List Cond := u_ws RJ7 TJ7 4
theorem nmJ7 : ∀ a, a < 4 → ∀ b, b < 4 → a ≠ b → (TJ7 a).2.1 ≠ (TJ7 b).2.1 := by decide +kernel
theorem tyJ7_ok : ∀ k, k < 4 → parseFieldDescriptor (TJ7 k).2.2.1 = some (tyJ7 k) := by decide +kernel
abbrev cJ7_checkBoundsBeginEnd : ByteArray := prog_41_method_158_code
def yJ7_checkBoundsBeginEnd : MethodName := ⟨RJ7, "checkBoundsBeginEnd", "(III)V"⟩
def dkwJ7_checkBoundsBeginEnd_0 : List UInt8 := [26, 27, 28, 178, 4, 29, 184, 4, 38, 87, 177]
abbrev dktJ7_checkBoundsBeginEnd_0 : List UInt8 := dkwJ7_checkBoundsBeginEnd_0 ++ []
theorem dksJ7_checkBoundsBeginEnd_0 : cJ7_checkBoundsBeginEnd.data.toList.drop 0 = dktJ7_checkBoundsBeginEnd_0 := by decide +kernel
theorem dJ7_checkBoundsBeginEnd_0 : decode cJ7_checkBoundsBeginEnd 0 = .ok (.iload_n 0, 1) := dk_26 (dk_at dksJ7_checkBoundsBeginEnd_0 0 rfl rfl)
theorem dJ7_checkBoundsBeginEnd_1 : decode cJ7_checkBoundsBeginEnd 1 = .ok (.iload_n 1, 1) := dk_27 (dk_at dksJ7_checkBoundsBeginEnd_0 1 rfl rfl)
theorem dJ7_checkBoundsBeginEnd_2 : decode cJ7_checkBoundsBeginEnd 2 = .ok (.iload_n 2, 1) := dk_28 (dk_at dksJ7_checkBoundsBeginEnd_0 2 rfl rfl)
theorem dJ7_checkBoundsBeginEnd_3 : decode cJ7_checkBoundsBeginEnd 3 = .ok (.getstatic 1053, 3) := dk_178 4 29 (dk_at dksJ7_checkBoundsBeginEnd_0 3 rfl rfl)
theorem dJ7_checkBoundsBeginEnd_6 : decode cJ7_checkBoundsBeginEnd 6 = .ok (.invokestatic 1062, 3) := dk_184 4 38 (dk_at dksJ7_checkBoundsBeginEnd_0 6 rfl rfl)
theorem dJ7_checkBoundsBeginEnd_9 : decode cJ7_checkBoundsBeginEnd 9 = .ok (.pop, 1) := dk_87 (dk_at dksJ7_checkBoundsBeginEnd_0 9 rfl rfl)
theorem dJ7_checkBoundsBeginEnd_10 : decode cJ7_checkBoundsBeginEnd 10 = .ok (.return_, 1) := dk_177 (dk_at dksJ7_checkBoundsBeginEnd_0 10 rfl rfl)
abbrev cJ7_length : ByteArray := prog_41_method_54_code
def yJ7_length : MethodName := ⟨RJ7, "length", "()I"⟩
def dkwJ7_length_0 : List UInt8 := [42, 180, 0, 9, 190, 42, 182, 1, 79, 122, 172]
abbrev dktJ7_length_0 : List UInt8 := dkwJ7_length_0 ++ []
theorem dksJ7_length_0 : cJ7_length.data.toList.drop 0 = dktJ7_length_0 := by decide +kernel
theorem dJ7_length_0 : decode cJ7_length 0 = .ok (.aload_n 0, 1) := dk_42 (dk_at dksJ7_length_0 0 rfl rfl)
theorem dJ7_length_1 : decode cJ7_length 1 = .ok (.getfield 9, 3) := dk_180 0 9 (dk_at dksJ7_length_0 1 rfl rfl)
theorem dJ7_length_4 : decode cJ7_length 4 = .ok (.arraylength, 1) := dk_190 (dk_at dksJ7_length_0 4 rfl rfl)
theorem dJ7_length_5 : decode cJ7_length 5 = .ok (.aload_n 0, 1) := dk_42 (dk_at dksJ7_length_0 5 rfl rfl)
theorem dJ7_length_6 : decode cJ7_length 6 = .ok (.invokevirtual 335, 3) := dk_182 1 79 (dk_at dksJ7_length_0 6 rfl rfl)
theorem dJ7_length_9 : decode cJ7_length 9 = .ok (.ishr, 1) := dk_122 (dk_at dksJ7_length_0 9 rfl rfl)
theorem dJ7_length_10 : decode cJ7_length 10 = .ok (.ireturn, 1) := dk_172 (dk_at dksJ7_length_0 10 rfl rfl)
abbrev cJ7_coder : ByteArray := prog_41_method_152_code
def yJ7_coder : MethodName := ⟨RJ7, "coder", "()B"⟩
def dkwJ7_coder_0 : List UInt8 := [178, 0, 38, 153, 0, 10, 42, 180, 0, 15, 167, 0, 4, 4, 172]
abbrev dktJ7_coder_0 : List UInt8 := dkwJ7_coder_0 ++ []
theorem dksJ7_coder_0 : cJ7_coder.data.toList.drop 0 = dktJ7_coder_0 := by decide +kernel
theorem dJ7_coder_0 : decode cJ7_coder 0 = .ok (.getstatic 38, 3) := dk_178 0 38 (dk_at dksJ7_coder_0 0 rfl rfl)
theorem dJ7_coder_3 : decode cJ7_coder 3 = .ok (.ifCond .eq 10, 3) := dk_153 0 10 (dk_at dksJ7_coder_0 3 rfl rfl)
theorem dJ7_coder_6 : decode cJ7_coder 6 = .ok (.aload_n 0, 1) := dk_42 (dk_at dksJ7_coder_0 6 rfl rfl)
theorem dJ7_coder_7 : decode cJ7_coder 7 = .ok (.getfield 15, 3) := dk_180 0 15 (dk_at dksJ7_coder_0 7 rfl rfl)
theorem dJ7_coder_10 : decode cJ7_coder 10 = .ok (.goto 4, 3) := dk_167 0 4 (dk_at dksJ7_coder_0 10 rfl rfl)
theorem dJ7_coder_13 : decode cJ7_coder 13 = .ok (.iconst 1, 1) := dk_4 (dk_at dksJ7_coder_0 13 rfl rfl)
theorem dJ7_coder_14 : decode cJ7_coder 14 = .ok (.ireturn, 1) := dk_172 (dk_at dksJ7_coder_0 14 rfl rfl)
abbrev cJ7_checkBoundsOffCount : ByteArray := prog_41_method_157_code
def yJ7_checkBoundsOffCount : MethodName := ⟨RJ7, "checkBoundsOffCount", "(III)I"⟩
def dkwJ7_checkBoundsOffCount_0 : List UInt8 := [26, 27, 28, 178, 4, 29, 184, 4, 41, 172]
abbrev dktJ7_checkBoundsOffCount_0 : List UInt8 := dkwJ7_checkBoundsOffCount_0 ++ []
theorem dksJ7_checkBoundsOffCount_0 : cJ7_checkBoundsOffCount.data.toList.drop 0 = dktJ7_checkBoundsOffCount_0 := by decide +kernel
theorem dJ7_checkBoundsOffCount_0 : decode cJ7_checkBoundsOffCount 0 = .ok (.iload_n 0, 1) := dk_26 (dk_at dksJ7_checkBoundsOffCount_0 0 rfl rfl)
theorem dJ7_checkBoundsOffCount_1 : decode cJ7_checkBoundsOffCount 1 = .ok (.iload_n 1, 1) := dk_27 (dk_at dksJ7_checkBoundsOffCount_0 1 rfl rfl)
theorem dJ7_checkBoundsOffCount_2 : decode cJ7_checkBoundsOffCount 2 = .ok (.iload_n 2, 1) := dk_28 (dk_at dksJ7_checkBoundsOffCount_0 2 rfl rfl)
theorem dJ7_checkBoundsOffCount_3 : decode cJ7_checkBoundsOffCount 3 = .ok (.getstatic 1053, 3) := dk_178 4 29 (dk_at dksJ7_checkBoundsOffCount_0 3 rfl rfl)
theorem dJ7_checkBoundsOffCount_6 : decode cJ7_checkBoundsOffCount 6 = .ok (.invokestatic 1065, 3) := dk_184 4 41 (dk_at dksJ7_checkBoundsOffCount_0 6 rfl rfl)
theorem dJ7_checkBoundsOffCount_9 : decode cJ7_checkBoundsOffCount 9 = .ok (.ireturn, 1) := dk_172 (dk_at dksJ7_checkBoundsOffCount_0 9 rfl rfl)
abbrev cJ7_getBytes : ByteArray := prog_41_method_147_code
def yJ7_getBytes : MethodName := ⟨RJ7, "getBytes", "([BIB)V"⟩
def dkwJ7_getBytes_1 : List UInt8 := [184, 0, 212, 167, 0, 18, 42, 180, 0, 9, 3, 43, 28, 42, 180, 0, 9, 190, 184, 0, 106, 177]
abbrev dktJ7_getBytes_1 : List UInt8 := dkwJ7_getBytes_1 ++ []
def dkwJ7_getBytes_0 : List UInt8 := [42, 182, 1, 79, 29, 160, 0, 23, 42, 180, 0, 9, 3, 43, 28, 29, 120, 42, 180, 0, 9, 190]
abbrev dktJ7_getBytes_0 : List UInt8 := dkwJ7_getBytes_0 ++ dktJ7_getBytes_1
theorem dksJ7_getBytes_0 : cJ7_getBytes.data.toList.drop 0 = dktJ7_getBytes_0 := by decide +kernel
theorem dksJ7_getBytes_1 : cJ7_getBytes.data.toList.drop 22 = dktJ7_getBytes_1 := dk_seg dksJ7_getBytes_0 22 rfl rfl
theorem dJ7_getBytes_0 : decode cJ7_getBytes 0 = .ok (.aload_n 0, 1) := dk_42 (dk_at dksJ7_getBytes_0 0 rfl rfl)
theorem dJ7_getBytes_1 : decode cJ7_getBytes 1 = .ok (.invokevirtual 335, 3) := dk_182 1 79 (dk_at dksJ7_getBytes_0 1 rfl rfl)
theorem dJ7_getBytes_4 : decode cJ7_getBytes 4 = .ok (.iload_n 3, 1) := dk_29 (dk_at dksJ7_getBytes_0 4 rfl rfl)
theorem dJ7_getBytes_5 : decode cJ7_getBytes 5 = .ok (.if_icmp .ne 23, 3) := dk_160 0 23 (dk_at dksJ7_getBytes_0 5 rfl rfl)
theorem dJ7_getBytes_8 : decode cJ7_getBytes 8 = .ok (.aload_n 0, 1) := dk_42 (dk_at dksJ7_getBytes_0 8 rfl rfl)
theorem dJ7_getBytes_9 : decode cJ7_getBytes 9 = .ok (.getfield 9, 3) := dk_180 0 9 (dk_at dksJ7_getBytes_0 9 rfl rfl)
theorem dJ7_getBytes_12 : decode cJ7_getBytes 12 = .ok (.iconst 0, 1) := dk_3 (dk_at dksJ7_getBytes_0 12 rfl rfl)
theorem dJ7_getBytes_13 : decode cJ7_getBytes 13 = .ok (.aload_n 1, 1) := dk_43 (dk_at dksJ7_getBytes_0 13 rfl rfl)
theorem dJ7_getBytes_14 : decode cJ7_getBytes 14 = .ok (.iload_n 2, 1) := dk_28 (dk_at dksJ7_getBytes_0 14 rfl rfl)
theorem dJ7_getBytes_15 : decode cJ7_getBytes 15 = .ok (.iload_n 3, 1) := dk_29 (dk_at dksJ7_getBytes_0 15 rfl rfl)
theorem dJ7_getBytes_16 : decode cJ7_getBytes 16 = .ok (.ishl, 1) := dk_120 (dk_at dksJ7_getBytes_0 16 rfl rfl)
theorem dJ7_getBytes_17 : decode cJ7_getBytes 17 = .ok (.aload_n 0, 1) := dk_42 (dk_at dksJ7_getBytes_0 17 rfl rfl)
theorem dJ7_getBytes_18 : decode cJ7_getBytes 18 = .ok (.getfield 9, 3) := dk_180 0 9 (dk_at dksJ7_getBytes_0 18 rfl rfl)
theorem dJ7_getBytes_21 : decode cJ7_getBytes 21 = .ok (.arraylength, 1) := dk_190 (dk_at dksJ7_getBytes_0 21 rfl rfl)
theorem dJ7_getBytes_22 : decode cJ7_getBytes 22 = .ok (.invokestatic 212, 3) := dk_184 0 212 (dk_at dksJ7_getBytes_1 0 rfl rfl)
theorem dJ7_getBytes_25 : decode cJ7_getBytes 25 = .ok (.goto 18, 3) := dk_167 0 18 (dk_at dksJ7_getBytes_1 3 rfl rfl)
theorem dJ7_getBytes_28 : decode cJ7_getBytes 28 = .ok (.aload_n 0, 1) := dk_42 (dk_at dksJ7_getBytes_1 6 rfl rfl)
theorem dJ7_getBytes_29 : decode cJ7_getBytes 29 = .ok (.getfield 9, 3) := dk_180 0 9 (dk_at dksJ7_getBytes_1 7 rfl rfl)
theorem dJ7_getBytes_32 : decode cJ7_getBytes 32 = .ok (.iconst 0, 1) := dk_3 (dk_at dksJ7_getBytes_1 10 rfl rfl)
theorem dJ7_getBytes_33 : decode cJ7_getBytes 33 = .ok (.aload_n 1, 1) := dk_43 (dk_at dksJ7_getBytes_1 11 rfl rfl)
theorem dJ7_getBytes_34 : decode cJ7_getBytes 34 = .ok (.iload_n 2, 1) := dk_28 (dk_at dksJ7_getBytes_1 12 rfl rfl)
theorem dJ7_getBytes_35 : decode cJ7_getBytes 35 = .ok (.aload_n 0, 1) := dk_42 (dk_at dksJ7_getBytes_1 13 rfl rfl)
theorem dJ7_getBytes_36 : decode cJ7_getBytes 36 = .ok (.getfield 9, 3) := dk_180 0 9 (dk_at dksJ7_getBytes_1 14 rfl rfl)
theorem dJ7_getBytes_39 : decode cJ7_getBytes 39 = .ok (.arraylength, 1) := dk_190 (dk_at dksJ7_getBytes_1 17 rfl rfl)
theorem dJ7_getBytes_40 : decode cJ7_getBytes 40 = .ok (.invokestatic 106, 3) := dk_184 0 106 (dk_at dksJ7_getBytes_1 18 rfl rfl)
theorem dJ7_getBytes_43 : decode cJ7_getBytes 43 = .ok (.return_, 1) := dk_177 (dk_at dksJ7_getBytes_1 21 rfl rfl)
abbrev cJ7_init : ByteArray := prog_41_method_53_code
def yJ7_init : MethodName := ⟨RJ7, "<init>", "(Ljava/lang/StringBuilder;)V"⟩
def dkwJ7_init_0 : List UInt8 := [42, 43, 1, 183, 1, 233, 177]
abbrev dktJ7_init_0 : List UInt8 := dkwJ7_init_0 ++ []
theorem dksJ7_init_0 : cJ7_init.data.toList.drop 0 = dktJ7_init_0 := by decide +kernel
theorem dJ7_init_0 : decode cJ7_init 0 = .ok (.aload_n 0, 1) := dk_42 (dk_at dksJ7_init_0 0 rfl rfl)
theorem dJ7_init_1 : decode cJ7_init 1 = .ok (.aload_n 1, 1) := dk_43 (dk_at dksJ7_init_0 1 rfl rfl)
theorem dJ7_init_2 : decode cJ7_init 2 = .ok (.aconst_null, 1) := dk_1 (dk_at dksJ7_init_0 2 rfl rfl)
theorem dJ7_init_3 : decode cJ7_init 3 = .ok (.invokespecial 489, 3) := dk_183 1 233 (dk_at dksJ7_init_0 3 rfl rfl)
theorem dJ7_init_6 : decode cJ7_init 6 = .ok (.return_, 1) := dk_177 (dk_at dksJ7_init_0 6 rfl rfl)
abbrev cJ7_init_2 : ByteArray := prog_41_method_150_code
def yJ7_init_2 : MethodName := ⟨RJ7, "<init>", "(Ljava/lang/AbstractStringBuilder;Ljava/lang/Void;)V"⟩
def dkwJ7_init_2_4 : List UInt8 := [181, 0, 9, 177]
abbrev dktJ7_init_2_4 : List UInt8 := dkwJ7_init_2_4 ++ []
def dkwJ7_init_2_3 : List UInt8 := [184, 0, 47, 181, 0, 15, 177, 42, 4, 181, 0, 15, 42, 45, 3, 21, 4, 4, 120, 184, 0, 54]
abbrev dktJ7_init_2_3 : List UInt8 := dkwJ7_init_2_3 ++ dktJ7_init_2_4
def dkwJ7_init_2_2 : List UInt8 := [180, 4, 24, 153, 0, 28, 42, 45, 3, 21, 4, 184, 4, 27, 181, 0, 9, 42, 42, 180, 0, 9, 21, 4]
abbrev dktJ7_init_2_2 : List UInt8 := dkwJ7_init_2_2 ++ dktJ7_init_2_3
def dkwJ7_init_2_1 : List UInt8 := [181, 0, 15, 42, 45, 3, 21, 4, 184, 0, 54, 181, 0, 9, 167, 0, 59, 178, 0, 38, 153, 0, 35, 43]
abbrev dktJ7_init_2_1 : List UInt8 := dkwJ7_init_2_1 ++ dktJ7_init_2_2
def dkwJ7_init_2_0 : List UInt8 := [42, 183, 0, 1, 43, 182, 2, 40, 78, 43, 182, 2, 37, 54, 4, 43, 182, 4, 23, 153, 0, 22, 42, 3]
abbrev dktJ7_init_2_0 : List UInt8 := dkwJ7_init_2_0 ++ dktJ7_init_2_1
theorem dksJ7_init_2_0 : cJ7_init_2.data.toList.drop 0 = dktJ7_init_2_0 := by decide +kernel
theorem dksJ7_init_2_1 : cJ7_init_2.data.toList.drop 24 = dktJ7_init_2_1 := dk_seg dksJ7_init_2_0 24 rfl rfl
theorem dksJ7_init_2_2 : cJ7_init_2.data.toList.drop 48 = dktJ7_init_2_2 := dk_seg dksJ7_init_2_1 24 rfl rfl
theorem dksJ7_init_2_3 : cJ7_init_2.data.toList.drop 72 = dktJ7_init_2_3 := dk_seg dksJ7_init_2_2 24 rfl rfl
theorem dksJ7_init_2_4 : cJ7_init_2.data.toList.drop 94 = dktJ7_init_2_4 := dk_seg dksJ7_init_2_3 22 rfl rfl
theorem dJ7_init_2_0 : decode cJ7_init_2 0 = .ok (.aload_n 0, 1) := dk_42 (dk_at dksJ7_init_2_0 0 rfl rfl)
theorem dJ7_init_2_1 : decode cJ7_init_2 1 = .ok (.invokespecial 1, 3) := dk_183 0 1 (dk_at dksJ7_init_2_0 1 rfl rfl)
theorem dJ7_init_2_4 : decode cJ7_init_2 4 = .ok (.aload_n 1, 1) := dk_43 (dk_at dksJ7_init_2_0 4 rfl rfl)
theorem dJ7_init_2_5 : decode cJ7_init_2 5 = .ok (.invokevirtual 552, 3) := dk_182 2 40 (dk_at dksJ7_init_2_0 5 rfl rfl)
theorem dJ7_init_2_8 : decode cJ7_init_2 8 = .ok (.astore_n 3, 1) := dk_78 (dk_at dksJ7_init_2_0 8 rfl rfl)
theorem dJ7_init_2_9 : decode cJ7_init_2 9 = .ok (.aload_n 1, 1) := dk_43 (dk_at dksJ7_init_2_0 9 rfl rfl)
theorem dJ7_init_2_10 : decode cJ7_init_2 10 = .ok (.invokevirtual 549, 3) := dk_182 2 37 (dk_at dksJ7_init_2_0 10 rfl rfl)
theorem dJ7_init_2_13 : decode cJ7_init_2 13 = .ok (.istore 4, 2) := dk_54 4 (dk_at dksJ7_init_2_0 13 rfl rfl)
theorem dJ7_init_2_15 : decode cJ7_init_2 15 = .ok (.aload_n 1, 1) := dk_43 (dk_at dksJ7_init_2_0 15 rfl rfl)
theorem dJ7_init_2_16 : decode cJ7_init_2 16 = .ok (.invokevirtual 1047, 3) := dk_182 4 23 (dk_at dksJ7_init_2_0 16 rfl rfl)
theorem dJ7_init_2_19 : decode cJ7_init_2 19 = .ok (.ifCond .eq 22, 3) := dk_153 0 22 (dk_at dksJ7_init_2_0 19 rfl rfl)
theorem dJ7_init_2_22 : decode cJ7_init_2 22 = .ok (.aload_n 0, 1) := dk_42 (dk_at dksJ7_init_2_0 22 rfl rfl)
theorem dJ7_init_2_23 : decode cJ7_init_2 23 = .ok (.iconst 0, 1) := dk_3 (dk_at dksJ7_init_2_0 23 rfl rfl)
theorem dJ7_init_2_24 : decode cJ7_init_2 24 = .ok (.putfield 15, 3) := dk_181 0 15 (dk_at dksJ7_init_2_1 0 rfl rfl)
theorem dJ7_init_2_27 : decode cJ7_init_2 27 = .ok (.aload_n 0, 1) := dk_42 (dk_at dksJ7_init_2_1 3 rfl rfl)
theorem dJ7_init_2_28 : decode cJ7_init_2 28 = .ok (.aload_n 3, 1) := dk_45 (dk_at dksJ7_init_2_1 4 rfl rfl)
theorem dJ7_init_2_29 : decode cJ7_init_2 29 = .ok (.iconst 0, 1) := dk_3 (dk_at dksJ7_init_2_1 5 rfl rfl)
theorem dJ7_init_2_30 : decode cJ7_init_2 30 = .ok (.iload 4, 2) := dk_21 4 (dk_at dksJ7_init_2_1 6 rfl rfl)
theorem dJ7_init_2_32 : decode cJ7_init_2 32 = .ok (.invokestatic 54, 3) := dk_184 0 54 (dk_at dksJ7_init_2_1 8 rfl rfl)
theorem dJ7_init_2_35 : decode cJ7_init_2 35 = .ok (.putfield 9, 3) := dk_181 0 9 (dk_at dksJ7_init_2_1 11 rfl rfl)
theorem dJ7_init_2_38 : decode cJ7_init_2 38 = .ok (.goto 59, 3) := dk_167 0 59 (dk_at dksJ7_init_2_1 14 rfl rfl)
theorem dJ7_init_2_41 : decode cJ7_init_2 41 = .ok (.getstatic 38, 3) := dk_178 0 38 (dk_at dksJ7_init_2_1 17 rfl rfl)
theorem dJ7_init_2_44 : decode cJ7_init_2 44 = .ok (.ifCond .eq 35, 3) := dk_153 0 35 (dk_at dksJ7_init_2_1 20 rfl rfl)
theorem dJ7_init_2_47 : decode cJ7_init_2 47 = .ok (.aload_n 1, 1) := dk_43 (dk_at dksJ7_init_2_1 23 rfl rfl)
theorem dJ7_init_2_48 : decode cJ7_init_2 48 = .ok (.getfield 1048, 3) := dk_180 4 24 (dk_at dksJ7_init_2_2 0 rfl rfl)
theorem dJ7_init_2_51 : decode cJ7_init_2 51 = .ok (.ifCond .eq 28, 3) := dk_153 0 28 (dk_at dksJ7_init_2_2 3 rfl rfl)
theorem dJ7_init_2_54 : decode cJ7_init_2 54 = .ok (.aload_n 0, 1) := dk_42 (dk_at dksJ7_init_2_2 6 rfl rfl)
theorem dJ7_init_2_55 : decode cJ7_init_2 55 = .ok (.aload_n 3, 1) := dk_45 (dk_at dksJ7_init_2_2 7 rfl rfl)
theorem dJ7_init_2_56 : decode cJ7_init_2 56 = .ok (.iconst 0, 1) := dk_3 (dk_at dksJ7_init_2_2 8 rfl rfl)
theorem dJ7_init_2_57 : decode cJ7_init_2 57 = .ok (.iload 4, 2) := dk_21 4 (dk_at dksJ7_init_2_2 9 rfl rfl)
theorem dJ7_init_2_59 : decode cJ7_init_2 59 = .ok (.invokestatic 1051, 3) := dk_184 4 27 (dk_at dksJ7_init_2_2 11 rfl rfl)
theorem dJ7_init_2_62 : decode cJ7_init_2 62 = .ok (.putfield 9, 3) := dk_181 0 9 (dk_at dksJ7_init_2_2 14 rfl rfl)
theorem dJ7_init_2_65 : decode cJ7_init_2 65 = .ok (.aload_n 0, 1) := dk_42 (dk_at dksJ7_init_2_2 17 rfl rfl)
theorem dJ7_init_2_66 : decode cJ7_init_2 66 = .ok (.aload_n 0, 1) := dk_42 (dk_at dksJ7_init_2_2 18 rfl rfl)
theorem dJ7_init_2_67 : decode cJ7_init_2 67 = .ok (.getfield 9, 3) := dk_180 0 9 (dk_at dksJ7_init_2_2 19 rfl rfl)
theorem dJ7_init_2_70 : decode cJ7_init_2 70 = .ok (.iload 4, 2) := dk_21 4 (dk_at dksJ7_init_2_2 22 rfl rfl)
theorem dJ7_init_2_72 : decode cJ7_init_2 72 = .ok (.invokestatic 47, 3) := dk_184 0 47 (dk_at dksJ7_init_2_3 0 rfl rfl)
theorem dJ7_init_2_75 : decode cJ7_init_2 75 = .ok (.putfield 15, 3) := dk_181 0 15 (dk_at dksJ7_init_2_3 3 rfl rfl)
theorem dJ7_init_2_78 : decode cJ7_init_2 78 = .ok (.return_, 1) := dk_177 (dk_at dksJ7_init_2_3 6 rfl rfl)
theorem dJ7_init_2_79 : decode cJ7_init_2 79 = .ok (.aload_n 0, 1) := dk_42 (dk_at dksJ7_init_2_3 7 rfl rfl)
theorem dJ7_init_2_80 : decode cJ7_init_2 80 = .ok (.iconst 1, 1) := dk_4 (dk_at dksJ7_init_2_3 8 rfl rfl)
theorem dJ7_init_2_81 : decode cJ7_init_2 81 = .ok (.putfield 15, 3) := dk_181 0 15 (dk_at dksJ7_init_2_3 9 rfl rfl)
theorem dJ7_init_2_84 : decode cJ7_init_2 84 = .ok (.aload_n 0, 1) := dk_42 (dk_at dksJ7_init_2_3 12 rfl rfl)
theorem dJ7_init_2_85 : decode cJ7_init_2 85 = .ok (.aload_n 3, 1) := dk_45 (dk_at dksJ7_init_2_3 13 rfl rfl)
theorem dJ7_init_2_86 : decode cJ7_init_2 86 = .ok (.iconst 0, 1) := dk_3 (dk_at dksJ7_init_2_3 14 rfl rfl)
theorem dJ7_init_2_87 : decode cJ7_init_2 87 = .ok (.iload 4, 2) := dk_21 4 (dk_at dksJ7_init_2_3 15 rfl rfl)
theorem dJ7_init_2_89 : decode cJ7_init_2 89 = .ok (.iconst 1, 1) := dk_4 (dk_at dksJ7_init_2_3 17 rfl rfl)
theorem dJ7_init_2_90 : decode cJ7_init_2 90 = .ok (.ishl, 1) := dk_120 (dk_at dksJ7_init_2_3 18 rfl rfl)
theorem dJ7_init_2_91 : decode cJ7_init_2 91 = .ok (.invokestatic 54, 3) := dk_184 0 54 (dk_at dksJ7_init_2_3 19 rfl rfl)
theorem dJ7_init_2_94 : decode cJ7_init_2 94 = .ok (.putfield 9, 3) := dk_181 0 9 (dk_at dksJ7_init_2_4 0 rfl rfl)
theorem dJ7_init_2_97 : decode cJ7_init_2 97 = .ok (.return_, 1) := dk_177 (dk_at dksJ7_init_2_4 3 rfl rfl)
abbrev cJ7_checkIndex : ByteArray := prog_41_method_155_code
def yJ7_checkIndex : MethodName := ⟨RJ7, "checkIndex", "(II)V"⟩
def dkwJ7_checkIndex_0 : List UInt8 := [26, 27, 178, 4, 29, 184, 4, 35, 87, 177]
abbrev dktJ7_checkIndex_0 : List UInt8 := dkwJ7_checkIndex_0 ++ []
theorem dksJ7_checkIndex_0 : cJ7_checkIndex.data.toList.drop 0 = dktJ7_checkIndex_0 := by decide +kernel
theorem dJ7_checkIndex_0 : decode cJ7_checkIndex 0 = .ok (.iload_n 0, 1) := dk_26 (dk_at dksJ7_checkIndex_0 0 rfl rfl)
theorem dJ7_checkIndex_1 : decode cJ7_checkIndex 1 = .ok (.iload_n 1, 1) := dk_27 (dk_at dksJ7_checkIndex_0 1 rfl rfl)
theorem dJ7_checkIndex_2 : decode cJ7_checkIndex 2 = .ok (.getstatic 1053, 3) := dk_178 4 29 (dk_at dksJ7_checkIndex_0 2 rfl rfl)
theorem dJ7_checkIndex_5 : decode cJ7_checkIndex 5 = .ok (.invokestatic 1059, 3) := dk_184 4 35 (dk_at dksJ7_checkIndex_0 5 rfl rfl)
theorem dJ7_checkIndex_8 : decode cJ7_checkIndex 8 = .ok (.pop, 1) := dk_87 (dk_at dksJ7_checkIndex_0 8 rfl rfl)
theorem dJ7_checkIndex_9 : decode cJ7_checkIndex 9 = .ok (.return_, 1) := dk_177 (dk_at dksJ7_checkIndex_0 9 rfl rfl)
abbrev cJ7_equals : ByteArray := prog_41_method_66_code
def yJ7_equals : MethodName := ⟨RJ7, "equals", "(Ljava/lang/Object;)Z"⟩
def dkwJ7_equals_2 : List UInt8 := [184, 2, 29, 153, 0, 7, 4, 167, 0, 4, 3, 172]
abbrev dktJ7_equals_2 : List UInt8 := dkwJ7_equals_2 ++ []
def dkwJ7_equals_1 : List UInt8 := [153, 0, 14, 42, 180, 0, 15, 44, 180, 0, 15, 160, 0, 21, 42, 180, 0, 9, 44, 180, 0, 9]
abbrev dktJ7_equals_1 : List UInt8 := dkwJ7_equals_1 ++ dktJ7_equals_2
def dkwJ7_equals_0 : List UInt8 := [42, 43, 166, 0, 5, 4, 172, 43, 193, 0, 10, 153, 0, 43, 43, 192, 0, 10, 77, 178, 0, 38]
abbrev dktJ7_equals_0 : List UInt8 := dkwJ7_equals_0 ++ dktJ7_equals_1
theorem dksJ7_equals_0 : cJ7_equals.data.toList.drop 0 = dktJ7_equals_0 := by decide +kernel
theorem dksJ7_equals_1 : cJ7_equals.data.toList.drop 22 = dktJ7_equals_1 := dk_seg dksJ7_equals_0 22 rfl rfl
theorem dksJ7_equals_2 : cJ7_equals.data.toList.drop 44 = dktJ7_equals_2 := dk_seg dksJ7_equals_1 22 rfl rfl
theorem dJ7_equals_0 : decode cJ7_equals 0 = .ok (.aload_n 0, 1) := dk_42 (dk_at dksJ7_equals_0 0 rfl rfl)
theorem dJ7_equals_1 : decode cJ7_equals 1 = .ok (.aload_n 1, 1) := dk_43 (dk_at dksJ7_equals_0 1 rfl rfl)
theorem dJ7_equals_2 : decode cJ7_equals 2 = .ok (.if_acmp .ne 5, 3) := dk_166 0 5 (dk_at dksJ7_equals_0 2 rfl rfl)
theorem dJ7_equals_5 : decode cJ7_equals 5 = .ok (.iconst 1, 1) := dk_4 (dk_at dksJ7_equals_0 5 rfl rfl)
theorem dJ7_equals_6 : decode cJ7_equals 6 = .ok (.ireturn, 1) := dk_172 (dk_at dksJ7_equals_0 6 rfl rfl)
theorem dJ7_equals_7 : decode cJ7_equals 7 = .ok (.aload_n 1, 1) := dk_43 (dk_at dksJ7_equals_0 7 rfl rfl)
theorem dJ7_equals_8 : decode cJ7_equals 8 = .ok (.instanceof 10, 3) := dk_193 0 10 (dk_at dksJ7_equals_0 8 rfl rfl)
theorem dJ7_equals_11 : decode cJ7_equals 11 = .ok (.ifCond .eq 43, 3) := dk_153 0 43 (dk_at dksJ7_equals_0 11 rfl rfl)
theorem dJ7_equals_14 : decode cJ7_equals 14 = .ok (.aload_n 1, 1) := dk_43 (dk_at dksJ7_equals_0 14 rfl rfl)
theorem dJ7_equals_15 : decode cJ7_equals 15 = .ok (.checkcast 10, 3) := dk_192 0 10 (dk_at dksJ7_equals_0 15 rfl rfl)
theorem dJ7_equals_18 : decode cJ7_equals 18 = .ok (.astore_n 2, 1) := dk_77 (dk_at dksJ7_equals_0 18 rfl rfl)
theorem dJ7_equals_19 : decode cJ7_equals 19 = .ok (.getstatic 38, 3) := dk_178 0 38 (dk_at dksJ7_equals_0 19 rfl rfl)
theorem dJ7_equals_22 : decode cJ7_equals 22 = .ok (.ifCond .eq 14, 3) := dk_153 0 14 (dk_at dksJ7_equals_1 0 rfl rfl)
theorem dJ7_equals_25 : decode cJ7_equals 25 = .ok (.aload_n 0, 1) := dk_42 (dk_at dksJ7_equals_1 3 rfl rfl)
theorem dJ7_equals_26 : decode cJ7_equals 26 = .ok (.getfield 15, 3) := dk_180 0 15 (dk_at dksJ7_equals_1 4 rfl rfl)
theorem dJ7_equals_29 : decode cJ7_equals 29 = .ok (.aload_n 2, 1) := dk_44 (dk_at dksJ7_equals_1 7 rfl rfl)
theorem dJ7_equals_30 : decode cJ7_equals 30 = .ok (.getfield 15, 3) := dk_180 0 15 (dk_at dksJ7_equals_1 8 rfl rfl)
theorem dJ7_equals_33 : decode cJ7_equals 33 = .ok (.if_icmp .ne 21, 3) := dk_160 0 21 (dk_at dksJ7_equals_1 11 rfl rfl)
theorem dJ7_equals_36 : decode cJ7_equals 36 = .ok (.aload_n 0, 1) := dk_42 (dk_at dksJ7_equals_1 14 rfl rfl)
theorem dJ7_equals_37 : decode cJ7_equals 37 = .ok (.getfield 9, 3) := dk_180 0 9 (dk_at dksJ7_equals_1 15 rfl rfl)
theorem dJ7_equals_40 : decode cJ7_equals 40 = .ok (.aload_n 2, 1) := dk_44 (dk_at dksJ7_equals_1 18 rfl rfl)
theorem dJ7_equals_41 : decode cJ7_equals 41 = .ok (.getfield 9, 3) := dk_180 0 9 (dk_at dksJ7_equals_1 19 rfl rfl)
theorem dJ7_equals_44 : decode cJ7_equals 44 = .ok (.invokestatic 541, 3) := dk_184 2 29 (dk_at dksJ7_equals_2 0 rfl rfl)
theorem dJ7_equals_47 : decode cJ7_equals 47 = .ok (.ifCond .eq 7, 3) := dk_153 0 7 (dk_at dksJ7_equals_2 3 rfl rfl)
theorem dJ7_equals_50 : decode cJ7_equals 50 = .ok (.iconst 1, 1) := dk_4 (dk_at dksJ7_equals_2 6 rfl rfl)
theorem dJ7_equals_51 : decode cJ7_equals 51 = .ok (.goto 4, 3) := dk_167 0 4 (dk_at dksJ7_equals_2 7 rfl rfl)
theorem dJ7_equals_54 : decode cJ7_equals 54 = .ok (.iconst 0, 1) := dk_3 (dk_at dksJ7_equals_2 10 rfl rfl)
theorem dJ7_equals_55 : decode cJ7_equals 55 = .ok (.ireturn, 1) := dk_172 (dk_at dksJ7_equals_2 11 rfl rfl)
abbrev cJ7_hashCode : ByteArray := prog_41_method_78_code
def yJ7_hashCode : MethodName := ⟨RJ7, "hashCode", "()I"⟩
def dkwJ7_hashCode_2 : List UInt8 := [181, 0, 23, 167, 0, 8, 42, 27, 181, 0, 19, 27, 172]
abbrev dktJ7_hashCode_2 : List UInt8 := dkwJ7_hashCode_2 ++ []
def dkwJ7_hashCode_1 : List UInt8 := [180, 0, 9, 184, 2, 116, 167, 0, 10, 42, 180, 0, 9, 184, 2, 120, 60, 27, 154, 0, 11, 42, 4]
abbrev dktJ7_hashCode_1 : List UInt8 := dkwJ7_hashCode_1 ++ dktJ7_hashCode_2
def dkwJ7_hashCode_0 : List UInt8 := [42, 180, 0, 19, 60, 27, 154, 0, 52, 42, 180, 0, 23, 154, 0, 45, 42, 182, 1, 236, 153, 0, 13, 42]
abbrev dktJ7_hashCode_0 : List UInt8 := dkwJ7_hashCode_0 ++ dktJ7_hashCode_1
theorem dksJ7_hashCode_0 : cJ7_hashCode.data.toList.drop 0 = dktJ7_hashCode_0 := by decide +kernel
theorem dksJ7_hashCode_1 : cJ7_hashCode.data.toList.drop 24 = dktJ7_hashCode_1 := dk_seg dksJ7_hashCode_0 24 rfl rfl
theorem dksJ7_hashCode_2 : cJ7_hashCode.data.toList.drop 47 = dktJ7_hashCode_2 := dk_seg dksJ7_hashCode_1 23 rfl rfl
theorem dJ7_hashCode_0 : decode cJ7_hashCode 0 = .ok (.aload_n 0, 1) := dk_42 (dk_at dksJ7_hashCode_0 0 rfl rfl)
theorem dJ7_hashCode_1 : decode cJ7_hashCode 1 = .ok (.getfield 19, 3) := dk_180 0 19 (dk_at dksJ7_hashCode_0 1 rfl rfl)
theorem dJ7_hashCode_4 : decode cJ7_hashCode 4 = .ok (.istore_n 1, 1) := dk_60 (dk_at dksJ7_hashCode_0 4 rfl rfl)
theorem dJ7_hashCode_5 : decode cJ7_hashCode 5 = .ok (.iload_n 1, 1) := dk_27 (dk_at dksJ7_hashCode_0 5 rfl rfl)
theorem dJ7_hashCode_6 : decode cJ7_hashCode 6 = .ok (.ifCond .ne 52, 3) := dk_154 0 52 (dk_at dksJ7_hashCode_0 6 rfl rfl)
theorem dJ7_hashCode_9 : decode cJ7_hashCode 9 = .ok (.aload_n 0, 1) := dk_42 (dk_at dksJ7_hashCode_0 9 rfl rfl)
theorem dJ7_hashCode_10 : decode cJ7_hashCode 10 = .ok (.getfield 23, 3) := dk_180 0 23 (dk_at dksJ7_hashCode_0 10 rfl rfl)
theorem dJ7_hashCode_13 : decode cJ7_hashCode 13 = .ok (.ifCond .ne 45, 3) := dk_154 0 45 (dk_at dksJ7_hashCode_0 13 rfl rfl)
theorem dJ7_hashCode_16 : decode cJ7_hashCode 16 = .ok (.aload_n 0, 1) := dk_42 (dk_at dksJ7_hashCode_0 16 rfl rfl)
theorem dJ7_hashCode_17 : decode cJ7_hashCode 17 = .ok (.invokevirtual 492, 3) := dk_182 1 236 (dk_at dksJ7_hashCode_0 17 rfl rfl)
theorem dJ7_hashCode_20 : decode cJ7_hashCode 20 = .ok (.ifCond .eq 13, 3) := dk_153 0 13 (dk_at dksJ7_hashCode_0 20 rfl rfl)
theorem dJ7_hashCode_23 : decode cJ7_hashCode 23 = .ok (.aload_n 0, 1) := dk_42 (dk_at dksJ7_hashCode_0 23 rfl rfl)
theorem dJ7_hashCode_24 : decode cJ7_hashCode 24 = .ok (.getfield 9, 3) := dk_180 0 9 (dk_at dksJ7_hashCode_1 0 rfl rfl)
theorem dJ7_hashCode_27 : decode cJ7_hashCode 27 = .ok (.invokestatic 628, 3) := dk_184 2 116 (dk_at dksJ7_hashCode_1 3 rfl rfl)
theorem dJ7_hashCode_30 : decode cJ7_hashCode 30 = .ok (.goto 10, 3) := dk_167 0 10 (dk_at dksJ7_hashCode_1 6 rfl rfl)
theorem dJ7_hashCode_33 : decode cJ7_hashCode 33 = .ok (.aload_n 0, 1) := dk_42 (dk_at dksJ7_hashCode_1 9 rfl rfl)
theorem dJ7_hashCode_34 : decode cJ7_hashCode 34 = .ok (.getfield 9, 3) := dk_180 0 9 (dk_at dksJ7_hashCode_1 10 rfl rfl)
theorem dJ7_hashCode_37 : decode cJ7_hashCode 37 = .ok (.invokestatic 632, 3) := dk_184 2 120 (dk_at dksJ7_hashCode_1 13 rfl rfl)
theorem dJ7_hashCode_40 : decode cJ7_hashCode 40 = .ok (.istore_n 1, 1) := dk_60 (dk_at dksJ7_hashCode_1 16 rfl rfl)
theorem dJ7_hashCode_41 : decode cJ7_hashCode 41 = .ok (.iload_n 1, 1) := dk_27 (dk_at dksJ7_hashCode_1 17 rfl rfl)
theorem dJ7_hashCode_42 : decode cJ7_hashCode 42 = .ok (.ifCond .ne 11, 3) := dk_154 0 11 (dk_at dksJ7_hashCode_1 18 rfl rfl)
theorem dJ7_hashCode_45 : decode cJ7_hashCode 45 = .ok (.aload_n 0, 1) := dk_42 (dk_at dksJ7_hashCode_1 21 rfl rfl)
theorem dJ7_hashCode_46 : decode cJ7_hashCode 46 = .ok (.iconst 1, 1) := dk_4 (dk_at dksJ7_hashCode_1 22 rfl rfl)
theorem dJ7_hashCode_47 : decode cJ7_hashCode 47 = .ok (.putfield 23, 3) := dk_181 0 23 (dk_at dksJ7_hashCode_2 0 rfl rfl)
theorem dJ7_hashCode_50 : decode cJ7_hashCode 50 = .ok (.goto 8, 3) := dk_167 0 8 (dk_at dksJ7_hashCode_2 3 rfl rfl)
theorem dJ7_hashCode_53 : decode cJ7_hashCode 53 = .ok (.aload_n 0, 1) := dk_42 (dk_at dksJ7_hashCode_2 6 rfl rfl)
theorem dJ7_hashCode_54 : decode cJ7_hashCode 54 = .ok (.iload_n 1, 1) := dk_27 (dk_at dksJ7_hashCode_2 7 rfl rfl)
theorem dJ7_hashCode_55 : decode cJ7_hashCode 55 = .ok (.putfield 19, 3) := dk_181 0 19 (dk_at dksJ7_hashCode_2 8 rfl rfl)
theorem dJ7_hashCode_58 : decode cJ7_hashCode 58 = .ok (.iload_n 1, 1) := dk_27 (dk_at dksJ7_hashCode_2 11 rfl rfl)
theorem dJ7_hashCode_59 : decode cJ7_hashCode 59 = .ok (.ireturn, 1) := dk_172 (dk_at dksJ7_hashCode_2 12 rfl rfl)
abbrev cJ7_isLatin1 : ByteArray := prog_41_method_154_code
def yJ7_isLatin1 : MethodName := ⟨RJ7, "isLatin1", "()Z"⟩
def dkwJ7_isLatin1_0 : List UInt8 := [178, 0, 38, 153, 0, 14, 42, 180, 0, 15, 154, 0, 7, 4, 167, 0, 4, 3, 172]
abbrev dktJ7_isLatin1_0 : List UInt8 := dkwJ7_isLatin1_0 ++ []
theorem dksJ7_isLatin1_0 : cJ7_isLatin1.data.toList.drop 0 = dktJ7_isLatin1_0 := by decide +kernel
theorem dJ7_isLatin1_0 : decode cJ7_isLatin1 0 = .ok (.getstatic 38, 3) := dk_178 0 38 (dk_at dksJ7_isLatin1_0 0 rfl rfl)
theorem dJ7_isLatin1_3 : decode cJ7_isLatin1 3 = .ok (.ifCond .eq 14, 3) := dk_153 0 14 (dk_at dksJ7_isLatin1_0 3 rfl rfl)
theorem dJ7_isLatin1_6 : decode cJ7_isLatin1 6 = .ok (.aload_n 0, 1) := dk_42 (dk_at dksJ7_isLatin1_0 6 rfl rfl)
theorem dJ7_isLatin1_7 : decode cJ7_isLatin1 7 = .ok (.getfield 15, 3) := dk_180 0 15 (dk_at dksJ7_isLatin1_0 7 rfl rfl)
theorem dJ7_isLatin1_10 : decode cJ7_isLatin1 10 = .ok (.ifCond .ne 7, 3) := dk_154 0 7 (dk_at dksJ7_isLatin1_0 10 rfl rfl)
theorem dJ7_isLatin1_13 : decode cJ7_isLatin1 13 = .ok (.iconst 1, 1) := dk_4 (dk_at dksJ7_isLatin1_0 13 rfl rfl)
theorem dJ7_isLatin1_14 : decode cJ7_isLatin1 14 = .ok (.goto 4, 3) := dk_167 0 4 (dk_at dksJ7_isLatin1_0 14 rfl rfl)
theorem dJ7_isLatin1_17 : decode cJ7_isLatin1 17 = .ok (.iconst 0, 1) := dk_3 (dk_at dksJ7_isLatin1_0 17 rfl rfl)
theorem dJ7_isLatin1_18 : decode cJ7_isLatin1 18 = .ok (.ireturn, 1) := dk_172 (dk_at dksJ7_isLatin1_0 18 rfl rfl)
abbrev cJ7_charAt : ByteArray := prog_41_method_56_code
def yJ7_charAt : MethodName := ⟨RJ7, "charAt", "(I)C"⟩
def dkwJ7_charAt_1 : List UInt8 := [172]
abbrev dktJ7_charAt_1 : List UInt8 := dkwJ7_charAt_1 ++ []
def dkwJ7_charAt_0 : List UInt8 := [42, 182, 1, 236, 153, 0, 12, 42, 180, 0, 9, 27, 184, 1, 239, 172, 42, 180, 0, 9, 27, 184, 1, 242]
abbrev dktJ7_charAt_0 : List UInt8 := dkwJ7_charAt_0 ++ dktJ7_charAt_1
theorem dksJ7_charAt_0 : cJ7_charAt.data.toList.drop 0 = dktJ7_charAt_0 := by decide +kernel
theorem dksJ7_charAt_1 : cJ7_charAt.data.toList.drop 24 = dktJ7_charAt_1 := dk_seg dksJ7_charAt_0 24 rfl rfl
theorem dJ7_charAt_0 : decode cJ7_charAt 0 = .ok (.aload_n 0, 1) := dk_42 (dk_at dksJ7_charAt_0 0 rfl rfl)
theorem dJ7_charAt_1 : decode cJ7_charAt 1 = .ok (.invokevirtual 492, 3) := dk_182 1 236 (dk_at dksJ7_charAt_0 1 rfl rfl)
theorem dJ7_charAt_4 : decode cJ7_charAt 4 = .ok (.ifCond .eq 12, 3) := dk_153 0 12 (dk_at dksJ7_charAt_0 4 rfl rfl)
theorem dJ7_charAt_7 : decode cJ7_charAt 7 = .ok (.aload_n 0, 1) := dk_42 (dk_at dksJ7_charAt_0 7 rfl rfl)
theorem dJ7_charAt_8 : decode cJ7_charAt 8 = .ok (.getfield 9, 3) := dk_180 0 9 (dk_at dksJ7_charAt_0 8 rfl rfl)
theorem dJ7_charAt_11 : decode cJ7_charAt 11 = .ok (.iload_n 1, 1) := dk_27 (dk_at dksJ7_charAt_0 11 rfl rfl)
theorem dJ7_charAt_12 : decode cJ7_charAt 12 = .ok (.invokestatic 495, 3) := dk_184 1 239 (dk_at dksJ7_charAt_0 12 rfl rfl)
theorem dJ7_charAt_15 : decode cJ7_charAt 15 = .ok (.ireturn, 1) := dk_172 (dk_at dksJ7_charAt_0 15 rfl rfl)
theorem dJ7_charAt_16 : decode cJ7_charAt 16 = .ok (.aload_n 0, 1) := dk_42 (dk_at dksJ7_charAt_0 16 rfl rfl)
theorem dJ7_charAt_17 : decode cJ7_charAt 17 = .ok (.getfield 9, 3) := dk_180 0 9 (dk_at dksJ7_charAt_0 17 rfl rfl)
theorem dJ7_charAt_20 : decode cJ7_charAt 20 = .ok (.iload_n 1, 1) := dk_27 (dk_at dksJ7_charAt_0 20 rfl rfl)
theorem dJ7_charAt_21 : decode cJ7_charAt 21 = .ok (.invokestatic 498, 3) := dk_184 1 242 (dk_at dksJ7_charAt_0 21 rfl rfl)
theorem dJ7_charAt_24 : decode cJ7_charAt 24 = .ok (.ireturn, 1) := dk_172 (dk_at dksJ7_charAt_1 0 rfl rfl)
theorem q157 : (Jvm.Cond.initialized "java/lang/String") ∈ lw_all := lw_g (lw_at lw_m1 11 rfl) rfl
theorem q499 : (Jvm.Cond.instantiable "java/lang/String" (4 : Nat)) ∈ lw_all := lw_g (lw_at lw_m2 113 rfl) rfl
theorem q500 : (Jvm.Cond.laysFinal "java/lang/String" "java/lang/String" "value" "[B") ∈ lw_all := lw_g (lw_at lw_m2 114 rfl) rfl
theorem q501 : (Jvm.Cond.soleField "java/lang/String" "value") ∈ lw_all := lw_g (lw_at lw_m2 115 rfl) rfl
theorem q502 : (Jvm.Cond.laysFinal "java/lang/String" "java/lang/String" "coder" "B") ∈ lw_all := lw_g (lw_at lw_m2 116 rfl) rfl
theorem q503 : (Jvm.Cond.soleField "java/lang/String" "coder") ∈ lw_all := lw_g (lw_at lw_m2 117 rfl) rfl
theorem q618 : (Jvm.Cond.laysStatic "java/lang/String" "COMPACT_STRINGS" "Z") ∈ lw_tbl := lw_at lw_m2 232 rfl
theorem q628 : (Jvm.Cond.fieldLink "java/lang/String" (1048 : Nat) "java/lang/AbstractStringBuilder" "maybeLatin1" "Z") ∈ lw_all := lw_g (lw_at lw_m3 2 rfl) rfl
theorem q701 : (Jvm.Cond.static ({ cls := "java/lang/String", name := "checkBoundsBeginEnd", desc := "(III)V" } : Jvm.MethodName)) ∈ lw_all := lw_g (lw_at lw_m3 75 rfl) rfl
theorem q702 : (Jvm.Cond.code ({ cls := "java/lang/String", name := "checkBoundsBeginEnd", desc := "(III)V" } : Jvm.MethodName) prog_41_method_158_code (3 : Nat) (Option.none : Option Jvm.ClassFile.FieldType)) ∈ lw_all := lw_g (lw_at lw_m3 76 rfl) rfl
theorem q703 : (Jvm.Cond.fieldLink "java/lang/String" (1053 : Nat) "jdk/internal/util/Preconditions" "SIOOBE_FORMATTER" "Ljava/util/function/BiFunction;") ∈ lw_all := lw_g (lw_at lw_m3 77 rfl) rfl
theorem q705 : (Jvm.Cond.methodLink "java/lang/String" (1062 : Nat) ({ cls := "jdk/internal/util/Preconditions", name := "checkFromToIndex", desc := "(IIILjava/util/function/BiFunction;)I" } : Jvm.MethodName)) ∈ lw_all := lw_g (lw_at lw_m3 79 rfl) rfl
theorem q718 : (Jvm.Cond.instanceMethod ({ cls := "java/lang/String", name := "length", desc := "()I" } : Jvm.MethodName)) ∈ lw_all := lw_g (lw_at lw_m3 92 rfl) rfl
theorem q719 : (Jvm.Cond.selects "java/lang/String" ({ cls := "java/lang/String", name := "length", desc := "()I" } : Jvm.MethodName) ({ cls := "java/lang/String", name := "length", desc := "()I" } : Jvm.MethodName)) ∈ lw_all := lw_g (lw_at lw_m3 93 rfl) rfl
theorem q720 : (Jvm.Cond.code ({ cls := "java/lang/String", name := "length", desc := "()I" } : Jvm.MethodName) prog_41_method_54_code (1 : Nat) (Option.some Jvm.ClassFile.FieldType.int)) ∈ lw_all := lw_g (lw_at lw_m3 94 rfl) rfl
theorem q721 : (Jvm.Cond.methodLink "java/lang/String" (335 : Nat) ({ cls := "java/lang/String", name := "coder", desc := "()B" } : Jvm.MethodName)) ∈ lw_all := lw_g (lw_at lw_m3 95 rfl) rfl
theorem q722 : (Jvm.Cond.instanceMethod ({ cls := "java/lang/String", name := "coder", desc := "()B" } : Jvm.MethodName)) ∈ lw_all := lw_g (lw_at lw_m3 96 rfl) rfl
theorem q723 : (Jvm.Cond.selects "java/lang/String" ({ cls := "java/lang/String", name := "coder", desc := "()B" } : Jvm.MethodName) ({ cls := "java/lang/String", name := "coder", desc := "()B" } : Jvm.MethodName)) ∈ lw_all := lw_g (lw_at lw_m3 97 rfl) rfl
theorem q724 : (Jvm.Cond.code ({ cls := "java/lang/String", name := "coder", desc := "()B" } : Jvm.MethodName) prog_41_method_152_code (1 : Nat) (Option.some Jvm.ClassFile.FieldType.byte)) ∈ lw_all := lw_g (lw_at lw_m3 98 rfl) rfl
theorem q725 : (Jvm.Cond.fieldLink "java/lang/String" (38 : Nat) "java/lang/String" "COMPACT_STRINGS" "Z") ∈ lw_all := lw_g (lw_at lw_m3 99 rfl) rfl
theorem q749 : (Jvm.Cond.static ({ cls := "java/lang/String", name := "checkBoundsOffCount", desc := "(III)I" } : Jvm.MethodName)) ∈ lw_all := lw_g (lw_at lw_m3 123 rfl) rfl
theorem q750 : (Jvm.Cond.code ({ cls := "java/lang/String", name := "checkBoundsOffCount", desc := "(III)I" } : Jvm.MethodName) prog_41_method_157_code (3 : Nat) (Option.some Jvm.ClassFile.FieldType.int)) ∈ lw_all := lw_g (lw_at lw_m3 124 rfl) rfl
theorem q751 : (Jvm.Cond.methodLink "java/lang/String" (1065 : Nat) ({ cls := "jdk/internal/util/Preconditions", name := "checkFromIndexSize", desc := "(IIILjava/util/function/BiFunction;)I" } : Jvm.MethodName)) ∈ lw_all := lw_g (lw_at lw_m3 125 rfl) rfl
theorem q755 : (Jvm.Cond.instanceMethod ({ cls := "java/lang/String", name := "getBytes", desc := "([BIB)V" } : Jvm.MethodName)) ∈ lw_all := lw_g (lw_at lw_m3 129 rfl) rfl
theorem q756 : (Jvm.Cond.selects "java/lang/String" ({ cls := "java/lang/String", name := "getBytes", desc := "([BIB)V" } : Jvm.MethodName) ({ cls := "java/lang/String", name := "getBytes", desc := "([BIB)V" } : Jvm.MethodName)) ∈ lw_all := lw_g (lw_at lw_m3 130 rfl) rfl
theorem q757 : (Jvm.Cond.code ({ cls := "java/lang/String", name := "getBytes", desc := "([BIB)V" } : Jvm.MethodName) prog_41_method_147_code (4 : Nat) (Option.none : Option Jvm.ClassFile.FieldType)) ∈ lw_all := lw_g (lw_at lw_m3 131 rfl) rfl
theorem q758 : (Jvm.Cond.methodLink "java/lang/String" (212 : Nat) ({ cls := "java/lang/System", name := "arraycopy", desc := "(Ljava/lang/Object;ILjava/lang/Object;II)V" } : Jvm.MethodName)) ∈ lw_all := lw_g (lw_at lw_m3 132 rfl) rfl
theorem q759 : (Jvm.Cond.methodLink "java/lang/String" (106 : Nat) ({ cls := "java/lang/StringLatin1", name := "inflate", desc := "([BI[BII)V" } : Jvm.MethodName)) ∈ lw_all := lw_g (lw_at lw_m3 133 rfl) rfl
theorem q791 : (Jvm.Cond.instanceMethod ({ cls := "java/lang/String", name := "<init>", desc := "(Ljava/lang/StringBuilder;)V" } : Jvm.MethodName)) ∈ lw_all := lw_g (lw_at lw_m3 165 rfl) rfl
theorem q792 : (Jvm.Cond.code ({ cls := "java/lang/String", name := "<init>", desc := "(Ljava/lang/StringBuilder;)V" } : Jvm.MethodName) prog_41_method_53_code (2 : Nat) (Option.none : Option Jvm.ClassFile.FieldType)) ∈ lw_all := lw_g (lw_at lw_m3 166 rfl) rfl
theorem q793 : (Jvm.Cond.methodLink "java/lang/String" (489 : Nat) ({ cls := "java/lang/String", name := "<init>", desc := "(Ljava/lang/AbstractStringBuilder;Ljava/lang/Void;)V" } : Jvm.MethodName)) ∈ lw_all := lw_g (lw_at lw_m3 167 rfl) rfl
theorem q794 : (Jvm.Cond.instanceMethod ({ cls := "java/lang/String", name := "<init>", desc := "(Ljava/lang/AbstractStringBuilder;Ljava/lang/Void;)V" } : Jvm.MethodName)) ∈ lw_all := lw_g (lw_at lw_m3 168 rfl) rfl
theorem q795 : (Jvm.Cond.code ({ cls := "java/lang/String", name := "<init>", desc := "(Ljava/lang/AbstractStringBuilder;Ljava/lang/Void;)V" } : Jvm.MethodName) prog_41_method_150_code (5 : Nat) (Option.none : Option Jvm.ClassFile.FieldType)) ∈ lw_all := lw_g (lw_at lw_m3 169 rfl) rfl
theorem q796 : (Jvm.Cond.methodLink "java/lang/String" (1 : Nat) ({ cls := "java/lang/Object", name := "<init>", desc := "()V" } : Jvm.MethodName)) ∈ lw_all := lw_g (lw_at lw_m3 170 rfl) rfl
theorem q797 : (Jvm.Cond.methodLink "java/lang/String" (552 : Nat) ({ cls := "java/lang/AbstractStringBuilder", name := "getValue", desc := "()[B" } : Jvm.MethodName)) ∈ lw_all := lw_g (lw_at lw_m3 171 rfl) rfl
theorem q802 : (Jvm.Cond.methodLink "java/lang/String" (549 : Nat) ({ cls := "java/lang/AbstractStringBuilder", name := "length", desc := "()I" } : Jvm.MethodName)) ∈ lw_all := lw_g (lw_at lw_m3 176 rfl) rfl
theorem q810 : (Jvm.Cond.methodLink "java/lang/String" (1047 : Nat) ({ cls := "java/lang/AbstractStringBuilder", name := "isLatin1", desc := "()Z" } : Jvm.MethodName)) ∈ lw_all := lw_g (lw_at lw_m3 184 rfl) rfl
theorem q811 : (Jvm.Cond.methodLink "java/lang/String" (54 : Nat) ({ cls := "java/util/Arrays", name := "copyOfRange", desc := "([BII)[B" } : Jvm.MethodName)) ∈ lw_all := lw_g (lw_at lw_m3 185 rfl) rfl
theorem q833 : (Jvm.Cond.methodLink "java/lang/String" (1051 : Nat) ({ cls := "java/lang/StringUTF16", name := "compress", desc := "([BII)[B" } : Jvm.MethodName)) ∈ lw_all := lw_g (lw_at lw_m3 207 rfl) rfl
theorem q843 : (Jvm.Cond.methodLink "java/lang/String" (47 : Nat) ({ cls := "java/lang/StringUTF16", name := "coderFromArrayLen", desc := "([BI)B" } : Jvm.MethodName)) ∈ lw_all := lw_g (lw_at lw_m3 217 rfl) rfl
theorem q846 : (Jvm.Cond.fieldLink "java/lang/String" (9 : Nat) "java/lang/String" "value" "[B") ∈ lw_all := lw_g (lw_at lw_m3 220 rfl) rfl
theorem q847 : (Jvm.Cond.fieldLink "java/lang/String" (15 : Nat) "java/lang/String" "coder" "B") ∈ lw_all := lw_g (lw_at lw_m3 221 rfl) rfl
theorem q848 : (Jvm.Cond.fieldLink "java/lang/String" (19 : Nat) "java/lang/String" "hash" "I") ∈ lw_all := lw_g (lw_at lw_m3 222 rfl) rfl
theorem q849 : (Jvm.Cond.fieldLink "java/lang/String" (23 : Nat) "java/lang/String" "hashIsZero" "Z") ∈ lw_all := lw_g (lw_at lw_m3 223 rfl) rfl
theorem q850 : (Jvm.Cond.lays "java/lang/String" "java/lang/String" "hash" "I") ∈ lw_all := lw_g (lw_at lw_m3 224 rfl) rfl
theorem q851 : (Jvm.Cond.soleField "java/lang/String" "hash") ∈ lw_all := lw_g (lw_at lw_m3 225 rfl) rfl
theorem q852 : (Jvm.Cond.lays "java/lang/String" "java/lang/String" "hashIsZero" "Z") ∈ lw_all := lw_g (lw_at lw_m3 226 rfl) rfl
theorem q853 : (Jvm.Cond.soleField "java/lang/String" "hashIsZero") ∈ lw_all := lw_g (lw_at lw_m3 227 rfl) rfl
theorem q854 : (Jvm.Cond.superclass "java/lang/String" "java/lang/Object") ∈ lw_all := lw_g (lw_at lw_m3 228 rfl) rfl
theorem q962 : (Jvm.Cond.static ({ cls := "java/lang/String", name := "checkIndex", desc := "(II)V" } : Jvm.MethodName)) ∈ lw_all := lw_g (lw_at lw_m4 96 rfl) rfl
theorem q963 : (Jvm.Cond.code ({ cls := "java/lang/String", name := "checkIndex", desc := "(II)V" } : Jvm.MethodName) prog_41_method_155_code (2 : Nat) (Option.none : Option Jvm.ClassFile.FieldType)) ∈ lw_all := lw_g (lw_at lw_m4 97 rfl) rfl
theorem q964 : (Jvm.Cond.methodLink "java/lang/String" (1059 : Nat) ({ cls := "jdk/internal/util/Preconditions", name := "checkIndex", desc := "(IILjava/util/function/BiFunction;)I" } : Jvm.MethodName)) ∈ lw_all := lw_g (lw_at lw_m4 98 rfl) rfl
theorem q990 : (Jvm.Cond.instanceMethod ({ cls := "java/lang/String", name := "equals", desc := "(Ljava/lang/Object;)Z" } : Jvm.MethodName)) ∈ lw_all := lw_g (lw_at lw_m4 124 rfl) rfl
theorem q991 : (Jvm.Cond.selects "java/lang/String" ({ cls := "java/lang/String", name := "equals", desc := "(Ljava/lang/Object;)Z" } : Jvm.MethodName) ({ cls := "java/lang/String", name := "equals", desc := "(Ljava/lang/Object;)Z" } : Jvm.MethodName)) ∈ lw_all := lw_g (lw_at lw_m4 125 rfl) rfl
theorem q992 : (Jvm.Cond.code ({ cls := "java/lang/String", name := "equals", desc := "(Ljava/lang/Object;)Z" } : Jvm.MethodName) prog_41_method_66_code (3 : Nat) (Option.some Jvm.ClassFile.FieldType.boolean)) ∈ lw_all := lw_g (lw_at lw_m4 126 rfl) rfl
theorem q993 : (Jvm.Cond.classLink "java/lang/String" (10 : Nat) "java/lang/String") ∈ lw_all := lw_g (lw_at lw_m4 127 rfl) rfl
theorem q994 : (Jvm.Cond.methodLink "java/lang/String" (541 : Nat) ({ cls := "java/lang/StringLatin1", name := "equals", desc := "([B[B)Z" } : Jvm.MethodName)) ∈ lw_all := lw_g (lw_at lw_m4 128 rfl) rfl
theorem q1051 : (Jvm.Cond.instanceMethod ({ cls := "java/lang/String", name := "hashCode", desc := "()I" } : Jvm.MethodName)) ∈ lw_all := lw_g (lw_at lw_m4 185 rfl) rfl
theorem q1052 : (Jvm.Cond.selects "java/lang/String" ({ cls := "java/lang/String", name := "hashCode", desc := "()I" } : Jvm.MethodName) ({ cls := "java/lang/String", name := "hashCode", desc := "()I" } : Jvm.MethodName)) ∈ lw_all := lw_g (lw_at lw_m4 186 rfl) rfl
theorem q1053 : (Jvm.Cond.code ({ cls := "java/lang/String", name := "hashCode", desc := "()I" } : Jvm.MethodName) prog_41_method_78_code (2 : Nat) (Option.some Jvm.ClassFile.FieldType.int)) ∈ lw_all := lw_g (lw_at lw_m4 187 rfl) rfl
theorem q1054 : (Jvm.Cond.methodLink "java/lang/String" (492 : Nat) ({ cls := "java/lang/String", name := "isLatin1", desc := "()Z" } : Jvm.MethodName)) ∈ lw_all := lw_g (lw_at lw_m4 188 rfl) rfl
theorem q1055 : (Jvm.Cond.instanceMethod ({ cls := "java/lang/String", name := "isLatin1", desc := "()Z" } : Jvm.MethodName)) ∈ lw_all := lw_g (lw_at lw_m4 189 rfl) rfl
theorem q1056 : (Jvm.Cond.selects "java/lang/String" ({ cls := "java/lang/String", name := "isLatin1", desc := "()Z" } : Jvm.MethodName) ({ cls := "java/lang/String", name := "isLatin1", desc := "()Z" } : Jvm.MethodName)) ∈ lw_all := lw_g (lw_at lw_m4 190 rfl) rfl
theorem q1057 : (Jvm.Cond.code ({ cls := "java/lang/String", name := "isLatin1", desc := "()Z" } : Jvm.MethodName) prog_41_method_154_code (1 : Nat) (Option.some Jvm.ClassFile.FieldType.boolean)) ∈ lw_all := lw_g (lw_at lw_m4 191 rfl) rfl
theorem q1058 : (Jvm.Cond.methodLink "java/lang/String" (628 : Nat) ({ cls := "java/lang/StringLatin1", name := "hashCode", desc := "([B)I" } : Jvm.MethodName)) ∈ lw_all := lw_g (lw_at lw_m4 192 rfl) rfl
theorem q1107 : (Jvm.Cond.methodLink "java/lang/String" (632 : Nat) ({ cls := "java/lang/StringUTF16", name := "hashCode", desc := "([B)I" } : Jvm.MethodName)) ∈ lw_all := lw_g (lw_at lw_m5 1 rfl) rfl
theorem q1203 : (Jvm.Cond.selects "java/lang/String" ({ cls := "java/lang/Object", name := "getClass", desc := "()Ljava/lang/Class;" } : Jvm.MethodName) ({ cls := "java/lang/Object", name := "getClass", desc := "()Ljava/lang/Class;" } : Jvm.MethodName)) ∈ lw_all := lw_g (lw_at lw_m5 97 rfl) rfl
theorem q2348 : (Jvm.Cond.instanceMethod ({ cls := "java/lang/String", name := "charAt", desc := "(I)C" } : Jvm.MethodName)) ∈ lw_all := lw_g (lw_at lw_m10 42 rfl) rfl
theorem q2349 : (Jvm.Cond.selects "java/lang/String" ({ cls := "java/lang/String", name := "charAt", desc := "(I)C" } : Jvm.MethodName) ({ cls := "java/lang/String", name := "charAt", desc := "(I)C" } : Jvm.MethodName)) ∈ lw_all := lw_g (lw_at lw_m10 43 rfl) rfl
theorem q2350 : (Jvm.Cond.code ({ cls := "java/lang/String", name := "charAt", desc := "(I)C" } : Jvm.MethodName) prog_41_method_56_code (2 : Nat) (Option.some Jvm.ClassFile.FieldType.char)) ∈ lw_all := lw_g (lw_at lw_m10 44 rfl) rfl
theorem q2351 : (Jvm.Cond.methodLink "java/lang/String" (495 : Nat) ({ cls := "java/lang/StringLatin1", name := "charAt", desc := "([BI)C" } : Jvm.MethodName)) ∈ lw_all := lw_g (lw_at lw_m10 45 rfl) rfl
theorem q2355 : (Jvm.Cond.methodLink "java/lang/String" (498 : Nat) ({ cls := "java/lang/StringUTF16", name := "charAt", desc := "([BI)C" } : Jvm.MethodName)) ∈ lw_all := lw_g (lw_at lw_m10 49 rfl) rfl
theorem q2903 : (Jvm.Cond.castable "java/lang/String" "java/lang/Object") ∈ lw_tbl := lw_at lw_m12 117 rfl
theorem in_J7 : ∀ w ∈ wsJ70, w ∈ lw_all := lw_in wsJ70 [500, 502, 850, 852] (by decide +kernel) (by decide +kernel)

/-! java/util/AbstractList -/
set_option maxRecDepth 100000
def RJ8 : String := "java/util/AbstractList"
abbrev cJ8_init : ByteArray := prog_51_method_1_code
def yJ8_init : MethodName := ⟨RJ8, "<init>", "()V"⟩
def dkwJ8_init_0 : List UInt8 := [42, 183, 0, 1, 42, 3, 181, 0, 7, 177]
abbrev dktJ8_init_0 : List UInt8 := dkwJ8_init_0 ++ []
theorem dksJ8_init_0 : cJ8_init.data.toList.drop 0 = dktJ8_init_0 := by decide +kernel
theorem dJ8_init_0 : decode cJ8_init 0 = .ok (.aload_n 0, 1) := dk_42 (dk_at dksJ8_init_0 0 rfl rfl)
theorem dJ8_init_1 : decode cJ8_init 1 = .ok (.invokespecial 1, 3) := dk_183 0 1 (dk_at dksJ8_init_0 1 rfl rfl)
theorem dJ8_init_4 : decode cJ8_init 4 = .ok (.aload_n 0, 1) := dk_42 (dk_at dksJ8_init_0 4 rfl rfl)
theorem dJ8_init_5 : decode cJ8_init 5 = .ok (.iconst 0, 1) := dk_3 (dk_at dksJ8_init_0 5 rfl rfl)
theorem dJ8_init_6 : decode cJ8_init 6 = .ok (.putfield 7, 3) := dk_181 0 7 (dk_at dksJ8_init_0 6 rfl rfl)
theorem dJ8_init_9 : decode cJ8_init 9 = .ok (.return_, 1) := dk_177 (dk_at dksJ8_init_0 9 rfl rfl)
theorem q163 : (Jvm.Cond.initialized "java/util/AbstractList") ∈ lw_all := lw_g (lw_at lw_m1 17 rfl) rfl
theorem q593 : (Jvm.Cond.instanceMethod ({ cls := "java/util/AbstractList", name := "<init>", desc := "()V" } : Jvm.MethodName)) ∈ lw_all := lw_g (lw_at lw_m2 207 rfl) rfl
theorem q594 : (Jvm.Cond.code ({ cls := "java/util/AbstractList", name := "<init>", desc := "()V" } : Jvm.MethodName) prog_51_method_1_code (1 : Nat) (Option.none : Option Jvm.ClassFile.FieldType)) ∈ lw_all := lw_g (lw_at lw_m2 208 rfl) rfl
theorem q595 : (Jvm.Cond.methodLink "java/util/AbstractList" (1 : Nat) ({ cls := "java/util/AbstractCollection", name := "<init>", desc := "()V" } : Jvm.MethodName)) ∈ lw_all := lw_g (lw_at lw_m2 209 rfl) rfl
theorem q858 : (Jvm.Cond.fieldLink "java/util/AbstractList" (7 : Nat) "java/util/AbstractList" "modCount" "I") ∈ lw_all := lw_g (lw_at lw_m3 232 rfl) rfl
theorem q866 : (Jvm.Cond.soleField "java/util/AbstractList" "modCount") ∈ lw_all := lw_g (lw_at lw_m4 0 rfl) rfl

/-! java/util/ArrayList -/
set_option maxRecDepth 100000
def RJ9 : String := "java/util/ArrayList"
def TJ9 : u_T := fun k => match k with
  | 0 => ("java/util/AbstractList", "modCount", "I", false)
  | 1 => ("java/util/ArrayList", "elementData", "[Ljava/lang/Object;", false)
  | _ => ("java/util/ArrayList", "size", "I", false)
def tyJ9 : Nat → FieldType := fun k => match k with
  | 0 => .int
  | 1 => .array (.object "java/lang/Object")
  | _ => .int
abbrev wsJ90 : List Cond := u_ws RJ9 TJ9 3
theorem nmJ9 : ∀ a, a < 3 → ∀ b, b < 3 → a ≠ b → (TJ9 a).2.1 ≠ (TJ9 b).2.1 := by decide +kernel
theorem tyJ9_ok : ∀ k, k < 3 → parseFieldDescriptor (TJ9 k).2.2.1 = some (tyJ9 k) := by decide +kernel
abbrev cJ9_size : ByteArray := prog_53_method_8_code
def yJ9_size : MethodName := ⟨RJ9, "size", "()I"⟩
theorem dJ9_size_0 : decode cJ9_size 0 = .ok (.aload_n 0, 1) := by decide +kernel
theorem dJ9_size_1 : decode cJ9_size 1 = .ok (.getfield 48, 3) := by decide +kernel
theorem dJ9_size_4 : decode cJ9_size 4 = .ok (.ireturn, 1) := by decide +kernel
abbrev cJ9_get : ByteArray := prog_53_method_20_code
def yJ9_get : MethodName := ⟨RJ9, "get", "(I)Ljava/lang/Object;"⟩
def dkwJ9_get_0 : List UInt8 := [27, 42, 180, 0, 48, 184, 0, 118, 87, 42, 27, 182, 0, 123, 176]
abbrev dktJ9_get_0 : List UInt8 := dkwJ9_get_0 ++ []
theorem dksJ9_get_0 : cJ9_get.data.toList.drop 0 = dktJ9_get_0 := by decide +kernel
theorem dJ9_get_0 : decode cJ9_get 0 = .ok (.iload_n 1, 1) := dk_27 (dk_at dksJ9_get_0 0 rfl rfl)
theorem dJ9_get_1 : decode cJ9_get 1 = .ok (.aload_n 0, 1) := dk_42 (dk_at dksJ9_get_0 1 rfl rfl)
theorem dJ9_get_2 : decode cJ9_get 2 = .ok (.getfield 48, 3) := dk_180 0 48 (dk_at dksJ9_get_0 2 rfl rfl)
theorem dJ9_get_5 : decode cJ9_get 5 = .ok (.invokestatic 118, 3) := dk_184 0 118 (dk_at dksJ9_get_0 5 rfl rfl)
theorem dJ9_get_8 : decode cJ9_get 8 = .ok (.pop, 1) := dk_87 (dk_at dksJ9_get_0 8 rfl rfl)
theorem dJ9_get_9 : decode cJ9_get 9 = .ok (.aload_n 0, 1) := dk_42 (dk_at dksJ9_get_0 9 rfl rfl)
theorem dJ9_get_10 : decode cJ9_get 10 = .ok (.iload_n 1, 1) := dk_27 (dk_at dksJ9_get_0 10 rfl rfl)
theorem dJ9_get_11 : decode cJ9_get 11 = .ok (.invokevirtual 123, 3) := dk_182 0 123 (dk_at dksJ9_get_0 11 rfl rfl)
theorem dJ9_get_14 : decode cJ9_get 14 = .ok (.areturn, 1) := dk_176 (dk_at dksJ9_get_0 14 rfl rfl)
abbrev cJ9_elementData : ByteArray := prog_53_method_18_code
def yJ9_elementData : MethodName := ⟨RJ9, "elementData", "(I)Ljava/lang/Object;"⟩
def dkwJ9_elementData_0 : List UInt8 := [42, 180, 0, 9, 27, 50, 176]
abbrev dktJ9_elementData_0 : List UInt8 := dkwJ9_elementData_0 ++ []
theorem dksJ9_elementData_0 : cJ9_elementData.data.toList.drop 0 = dktJ9_elementData_0 := by decide +kernel
theorem dJ9_elementData_0 : decode cJ9_elementData 0 = .ok (.aload_n 0, 1) := dk_42 (dk_at dksJ9_elementData_0 0 rfl rfl)
theorem dJ9_elementData_1 : decode cJ9_elementData 1 = .ok (.getfield 9, 3) := dk_180 0 9 (dk_at dksJ9_elementData_0 1 rfl rfl)
theorem dJ9_elementData_4 : decode cJ9_elementData 4 = .ok (.iload_n 1, 1) := dk_27 (dk_at dksJ9_elementData_0 4 rfl rfl)
theorem dJ9_elementData_5 : decode cJ9_elementData 5 = .ok (.aaload, 1) := dk_50 (dk_at dksJ9_elementData_0 5 rfl rfl)
theorem dJ9_elementData_6 : decode cJ9_elementData 6 = .ok (.areturn, 1) := dk_176 (dk_at dksJ9_elementData_0 6 rfl rfl)
abbrev cJ9_init : ByteArray := prog_53_method_1_code
def yJ9_init : MethodName := ⟨RJ9, "<init>", "(I)V"⟩
def dkwJ9_init_2 : List UInt8 := [182, 0, 25, 27, 182, 0, 29, 182, 0, 32, 183, 0, 36, 191, 177]
abbrev dktJ9_init_2 : List UInt8 := dkwJ9_init_2 ++ []
def dkwJ9_init_1 : List UInt8 := [178, 0, 15, 181, 0, 9, 167, 0, 30, 187, 0, 18, 89, 187, 0, 20, 89, 183, 0, 22, 18, 23]
abbrev dktJ9_init_1 : List UInt8 := dkwJ9_init_1 ++ dktJ9_init_2
def dkwJ9_init_0 : List UInt8 := [42, 183, 0, 1, 27, 158, 0, 14, 42, 27, 189, 0, 7, 181, 0, 9, 167, 0, 44, 27, 154, 0, 13, 42]
abbrev dktJ9_init_0 : List UInt8 := dkwJ9_init_0 ++ dktJ9_init_1
theorem dksJ9_init_0 : cJ9_init.data.toList.drop 0 = dktJ9_init_0 := by decide +kernel
theorem dksJ9_init_1 : cJ9_init.data.toList.drop 24 = dktJ9_init_1 := dk_seg dksJ9_init_0 24 rfl rfl
theorem dksJ9_init_2 : cJ9_init.data.toList.drop 46 = dktJ9_init_2 := dk_seg dksJ9_init_1 22 rfl rfl
theorem dJ9_init_0 : decode cJ9_init 0 = .ok (.aload_n 0, 1) := dk_42 (dk_at dksJ9_init_0 0 rfl rfl)
theorem dJ9_init_1 : decode cJ9_init 1 = .ok (.invokespecial 1, 3) := dk_183 0 1 (dk_at dksJ9_init_0 1 rfl rfl)
theorem dJ9_init_4 : decode cJ9_init 4 = .ok (.iload_n 1, 1) := dk_27 (dk_at dksJ9_init_0 4 rfl rfl)
theorem dJ9_init_5 : decode cJ9_init 5 = .ok (.ifCond .le 14, 3) := dk_158 0 14 (dk_at dksJ9_init_0 5 rfl rfl)
theorem dJ9_init_8 : decode cJ9_init 8 = .ok (.aload_n 0, 1) := dk_42 (dk_at dksJ9_init_0 8 rfl rfl)
theorem dJ9_init_9 : decode cJ9_init 9 = .ok (.iload_n 1, 1) := dk_27 (dk_at dksJ9_init_0 9 rfl rfl)
theorem dJ9_init_10 : decode cJ9_init 10 = .ok (.anewarray 7, 3) := dk_189 0 7 (dk_at dksJ9_init_0 10 rfl rfl)
theorem dJ9_init_13 : decode cJ9_init 13 = .ok (.putfield 9, 3) := dk_181 0 9 (dk_at dksJ9_init_0 13 rfl rfl)
theorem dJ9_init_16 : decode cJ9_init 16 = .ok (.goto 44, 3) := dk_167 0 44 (dk_at dksJ9_init_0 16 rfl rfl)
theorem dJ9_init_19 : decode cJ9_init 19 = .ok (.iload_n 1, 1) := dk_27 (dk_at dksJ9_init_0 19 rfl rfl)
theorem dJ9_init_20 : decode cJ9_init 20 = .ok (.ifCond .ne 13, 3) := dk_154 0 13 (dk_at dksJ9_init_0 20 rfl rfl)
theorem dJ9_init_23 : decode cJ9_init 23 = .ok (.aload_n 0, 1) := dk_42 (dk_at dksJ9_init_0 23 rfl rfl)
theorem dJ9_init_24 : decode cJ9_init 24 = .ok (.getstatic 15, 3) := dk_178 0 15 (dk_at dksJ9_init_1 0 rfl rfl)
theorem dJ9_init_27 : decode cJ9_init 27 = .ok (.putfield 9, 3) := dk_181 0 9 (dk_at dksJ9_init_1 3 rfl rfl)
theorem dJ9_init_30 : decode cJ9_init 30 = .ok (.goto 30, 3) := dk_167 0 30 (dk_at dksJ9_init_1 6 rfl rfl)
theorem dJ9_init_33 : decode cJ9_init 33 = .ok (.new 18, 3) := dk_187 0 18 (dk_at dksJ9_init_1 9 rfl rfl)
theorem dJ9_init_36 : decode cJ9_init 36 = .ok (.dup, 1) := dk_89 (dk_at dksJ9_init_1 12 rfl rfl)
theorem dJ9_init_37 : decode cJ9_init 37 = .ok (.new 20, 3) := dk_187 0 20 (dk_at dksJ9_init_1 13 rfl rfl)
theorem dJ9_init_40 : decode cJ9_init 40 = .ok (.dup, 1) := dk_89 (dk_at dksJ9_init_1 16 rfl rfl)
theorem dJ9_init_41 : decode cJ9_init 41 = .ok (.invokespecial 22, 3) := dk_183 0 22 (dk_at dksJ9_init_1 17 rfl rfl)
theorem dJ9_init_44 : decode cJ9_init 44 = .ok (.ldc 23, 2) := dk_18 23 (dk_at dksJ9_init_1 20 rfl rfl)
theorem dJ9_init_46 : decode cJ9_init 46 = .ok (.invokevirtual 25, 3) := dk_182 0 25 (dk_at dksJ9_init_2 0 rfl rfl)
theorem dJ9_init_49 : decode cJ9_init 49 = .ok (.iload_n 1, 1) := dk_27 (dk_at dksJ9_init_2 3 rfl rfl)
theorem dJ9_init_50 : decode cJ9_init 50 = .ok (.invokevirtual 29, 3) := dk_182 0 29 (dk_at dksJ9_init_2 4 rfl rfl)
theorem dJ9_init_53 : decode cJ9_init 53 = .ok (.invokevirtual 32, 3) := dk_182 0 32 (dk_at dksJ9_init_2 7 rfl rfl)
theorem dJ9_init_56 : decode cJ9_init 56 = .ok (.invokespecial 36, 3) := dk_183 0 36 (dk_at dksJ9_init_2 10 rfl rfl)
theorem dJ9_init_59 : decode cJ9_init 59 = .ok (.athrow, 1) := dk_191 (dk_at dksJ9_init_2 13 rfl rfl)
theorem dJ9_init_60 : decode cJ9_init 60 = .ok (.return_, 1) := dk_177 (dk_at dksJ9_init_2 14 rfl rfl)
abbrev cJ9_isEmpty : ByteArray := prog_53_method_9_code
def yJ9_isEmpty : MethodName := ⟨RJ9, "isEmpty", "()Z"⟩
def dkwJ9_isEmpty_0 : List UInt8 := [42, 180, 0, 48, 154, 0, 7, 4, 167, 0, 4, 3, 172]
abbrev dktJ9_isEmpty_0 : List UInt8 := dkwJ9_isEmpty_0 ++ []
theorem dksJ9_isEmpty_0 : cJ9_isEmpty.data.toList.drop 0 = dktJ9_isEmpty_0 := by decide +kernel
theorem dJ9_isEmpty_0 : decode cJ9_isEmpty 0 = .ok (.aload_n 0, 1) := dk_42 (dk_at dksJ9_isEmpty_0 0 rfl rfl)
theorem dJ9_isEmpty_1 : decode cJ9_isEmpty 1 = .ok (.getfield 48, 3) := dk_180 0 48 (dk_at dksJ9_isEmpty_0 1 rfl rfl)
theorem dJ9_isEmpty_4 : decode cJ9_isEmpty 4 = .ok (.ifCond .ne 7, 3) := dk_154 0 7 (dk_at dksJ9_isEmpty_0 4 rfl rfl)
theorem dJ9_isEmpty_7 : decode cJ9_isEmpty 7 = .ok (.iconst 1, 1) := dk_4 (dk_at dksJ9_isEmpty_0 7 rfl rfl)
theorem dJ9_isEmpty_8 : decode cJ9_isEmpty 8 = .ok (.goto 4, 3) := dk_167 0 4 (dk_at dksJ9_isEmpty_0 8 rfl rfl)
theorem dJ9_isEmpty_11 : decode cJ9_isEmpty 11 = .ok (.iconst 0, 1) := dk_3 (dk_at dksJ9_isEmpty_0 11 rfl rfl)
theorem dJ9_isEmpty_12 : decode cJ9_isEmpty 12 = .ok (.ireturn, 1) := dk_172 (dk_at dksJ9_isEmpty_0 12 rfl rfl)
abbrev cJ9_add : ByteArray := prog_53_method_25_code
def yJ9_add : MethodName := ⟨RJ9, "add", "(Ljava/lang/Object;)Z"⟩
def dkwJ9_add_1 : List UInt8 := [172]
abbrev dktJ9_add_1 : List UInt8 := dkwJ9_add_1 ++ []
def dkwJ9_add_0 : List UInt8 := [42, 89, 180, 0, 63, 4, 96, 181, 0, 63, 42, 43, 42, 180, 0, 9, 42, 180, 0, 48, 182, 0, 131, 4]
abbrev dktJ9_add_0 : List UInt8 := dkwJ9_add_0 ++ dktJ9_add_1
theorem dksJ9_add_0 : cJ9_add.data.toList.drop 0 = dktJ9_add_0 := by decide +kernel
theorem dksJ9_add_1 : cJ9_add.data.toList.drop 24 = dktJ9_add_1 := dk_seg dksJ9_add_0 24 rfl rfl
theorem dJ9_add_0 : decode cJ9_add 0 = .ok (.aload_n 0, 1) := dk_42 (dk_at dksJ9_add_0 0 rfl rfl)
theorem dJ9_add_1 : decode cJ9_add 1 = .ok (.dup, 1) := dk_89 (dk_at dksJ9_add_0 1 rfl rfl)
theorem dJ9_add_2 : decode cJ9_add 2 = .ok (.getfield 63, 3) := dk_180 0 63 (dk_at dksJ9_add_0 2 rfl rfl)
theorem dJ9_add_5 : decode cJ9_add 5 = .ok (.iconst 1, 1) := dk_4 (dk_at dksJ9_add_0 5 rfl rfl)
theorem dJ9_add_6 : decode cJ9_add 6 = .ok (.iadd, 1) := dk_96 (dk_at dksJ9_add_0 6 rfl rfl)
theorem dJ9_add_7 : decode cJ9_add 7 = .ok (.putfield 63, 3) := dk_181 0 63 (dk_at dksJ9_add_0 7 rfl rfl)
theorem dJ9_add_10 : decode cJ9_add 10 = .ok (.aload_n 0, 1) := dk_42 (dk_at dksJ9_add_0 10 rfl rfl)
theorem dJ9_add_11 : decode cJ9_add 11 = .ok (.aload_n 1, 1) := dk_43 (dk_at dksJ9_add_0 11 rfl rfl)
theorem dJ9_add_12 : decode cJ9_add 12 = .ok (.aload_n 0, 1) := dk_42 (dk_at dksJ9_add_0 12 rfl rfl)
theorem dJ9_add_13 : decode cJ9_add 13 = .ok (.getfield 9, 3) := dk_180 0 9 (dk_at dksJ9_add_0 13 rfl rfl)
theorem dJ9_add_16 : decode cJ9_add 16 = .ok (.aload_n 0, 1) := dk_42 (dk_at dksJ9_add_0 16 rfl rfl)
theorem dJ9_add_17 : decode cJ9_add 17 = .ok (.getfield 48, 3) := dk_180 0 48 (dk_at dksJ9_add_0 17 rfl rfl)
theorem dJ9_add_20 : decode cJ9_add 20 = .ok (.invokevirtual 131, 3) := dk_182 0 131 (dk_at dksJ9_add_0 20 rfl rfl)
theorem dJ9_add_23 : decode cJ9_add 23 = .ok (.iconst 1, 1) := dk_4 (dk_at dksJ9_add_0 23 rfl rfl)
theorem dJ9_add_24 : decode cJ9_add 24 = .ok (.ireturn, 1) := dk_172 (dk_at dksJ9_add_1 0 rfl rfl)
abbrev cJ9_add_2 : ByteArray := prog_53_method_24_code
def yJ9_add_2 : MethodName := ⟨RJ9, "add", "(Ljava/lang/Object;[Ljava/lang/Object;I)V"⟩
def dkwJ9_add_2_0 : List UInt8 := [29, 44, 190, 160, 0, 8, 42, 182, 0, 129, 77, 44, 29, 43, 83, 42, 29, 4, 96, 181, 0, 48, 177]
abbrev dktJ9_add_2_0 : List UInt8 := dkwJ9_add_2_0 ++ []
theorem dksJ9_add_2_0 : cJ9_add_2.data.toList.drop 0 = dktJ9_add_2_0 := by decide +kernel
theorem dJ9_add_2_0 : decode cJ9_add_2 0 = .ok (.iload_n 3, 1) := dk_29 (dk_at dksJ9_add_2_0 0 rfl rfl)
theorem dJ9_add_2_1 : decode cJ9_add_2 1 = .ok (.aload_n 2, 1) := dk_44 (dk_at dksJ9_add_2_0 1 rfl rfl)
theorem dJ9_add_2_2 : decode cJ9_add_2 2 = .ok (.arraylength, 1) := dk_190 (dk_at dksJ9_add_2_0 2 rfl rfl)
theorem dJ9_add_2_3 : decode cJ9_add_2 3 = .ok (.if_icmp .ne 8, 3) := dk_160 0 8 (dk_at dksJ9_add_2_0 3 rfl rfl)
theorem dJ9_add_2_6 : decode cJ9_add_2 6 = .ok (.aload_n 0, 1) := dk_42 (dk_at dksJ9_add_2_0 6 rfl rfl)
theorem dJ9_add_2_7 : decode cJ9_add_2 7 = .ok (.invokevirtual 129, 3) := dk_182 0 129 (dk_at dksJ9_add_2_0 7 rfl rfl)
theorem dJ9_add_2_10 : decode cJ9_add_2 10 = .ok (.astore_n 2, 1) := dk_77 (dk_at dksJ9_add_2_0 10 rfl rfl)
theorem dJ9_add_2_11 : decode cJ9_add_2 11 = .ok (.aload_n 2, 1) := dk_44 (dk_at dksJ9_add_2_0 11 rfl rfl)
theorem dJ9_add_2_12 : decode cJ9_add_2 12 = .ok (.iload_n 3, 1) := dk_29 (dk_at dksJ9_add_2_0 12 rfl rfl)
theorem dJ9_add_2_13 : decode cJ9_add_2 13 = .ok (.aload_n 1, 1) := dk_43 (dk_at dksJ9_add_2_0 13 rfl rfl)
theorem dJ9_add_2_14 : decode cJ9_add_2 14 = .ok (.aastore, 1) := dk_83 (dk_at dksJ9_add_2_0 14 rfl rfl)
theorem dJ9_add_2_15 : decode cJ9_add_2 15 = .ok (.aload_n 0, 1) := dk_42 (dk_at dksJ9_add_2_0 15 rfl rfl)
theorem dJ9_add_2_16 : decode cJ9_add_2 16 = .ok (.iload_n 3, 1) := dk_29 (dk_at dksJ9_add_2_0 16 rfl rfl)
theorem dJ9_add_2_17 : decode cJ9_add_2 17 = .ok (.iconst 1, 1) := dk_4 (dk_at dksJ9_add_2_0 17 rfl rfl)
theorem dJ9_add_2_18 : decode cJ9_add_2 18 = .ok (.iadd, 1) := dk_96 (dk_at dksJ9_add_2_0 18 rfl rfl)
theorem dJ9_add_2_19 : decode cJ9_add_2 19 = .ok (.putfield 48, 3) := dk_181 0 48 (dk_at dksJ9_add_2_0 19 rfl rfl)
theorem dJ9_add_2_22 : decode cJ9_add_2 22 = .ok (.return_, 1) := dk_177 (dk_at dksJ9_add_2_0 22 rfl rfl)
abbrev cJ9_grow : ByteArray := prog_53_method_7_code
def yJ9_grow : MethodName := ⟨RJ9, "grow", "()[Ljava/lang/Object;"⟩
def dkwJ9_grow_0 : List UInt8 := [42, 42, 180, 0, 48, 4, 96, 182, 0, 69, 176]
abbrev dktJ9_grow_0 : List UInt8 := dkwJ9_grow_0 ++ []
theorem dksJ9_grow_0 : cJ9_grow.data.toList.drop 0 = dktJ9_grow_0 := by decide +kernel
theorem dJ9_grow_0 : decode cJ9_grow 0 = .ok (.aload_n 0, 1) := dk_42 (dk_at dksJ9_grow_0 0 rfl rfl)
theorem dJ9_grow_1 : decode cJ9_grow 1 = .ok (.aload_n 0, 1) := dk_42 (dk_at dksJ9_grow_0 1 rfl rfl)
theorem dJ9_grow_2 : decode cJ9_grow 2 = .ok (.getfield 48, 3) := dk_180 0 48 (dk_at dksJ9_grow_0 2 rfl rfl)
theorem dJ9_grow_5 : decode cJ9_grow 5 = .ok (.iconst 1, 1) := dk_4 (dk_at dksJ9_grow_0 5 rfl rfl)
theorem dJ9_grow_6 : decode cJ9_grow 6 = .ok (.iadd, 1) := dk_96 (dk_at dksJ9_grow_0 6 rfl rfl)
theorem dJ9_grow_7 : decode cJ9_grow 7 = .ok (.invokevirtual 69, 3) := dk_182 0 69 (dk_at dksJ9_grow_0 7 rfl rfl)
theorem dJ9_grow_10 : decode cJ9_grow 10 = .ok (.areturn, 1) := dk_176 (dk_at dksJ9_grow_0 10 rfl rfl)
abbrev cJ9_grow_2 : ByteArray := prog_53_method_6_code
def yJ9_grow_2 : MethodName := ⟨RJ9, "grow", "(I)[Ljava/lang/Object;"⟩
def dkwJ9_grow_2_2 : List UInt8 := [27, 184, 0, 79, 189, 0, 7, 90, 181, 0, 9, 176]
abbrev dktJ9_grow_2_2 : List UInt8 := dkwJ9_grow_2_2 ++ []
def dkwJ9_grow_2_1 : List UInt8 := [28, 4, 122, 184, 0, 73, 62, 42, 42, 180, 0, 9, 29, 184, 0, 66, 90, 181, 0, 9, 176, 42, 16, 10]
abbrev dktJ9_grow_2_1 : List UInt8 := dkwJ9_grow_2_1 ++ dktJ9_grow_2_2
def dkwJ9_grow_2_0 : List UInt8 := [42, 180, 0, 9, 190, 61, 28, 157, 0, 13, 42, 180, 0, 9, 178, 0, 39, 165, 0, 28, 28, 27, 28, 100]
abbrev dktJ9_grow_2_0 : List UInt8 := dkwJ9_grow_2_0 ++ dktJ9_grow_2_1
theorem dksJ9_grow_2_0 : cJ9_grow_2.data.toList.drop 0 = dktJ9_grow_2_0 := by decide +kernel
theorem dksJ9_grow_2_1 : cJ9_grow_2.data.toList.drop 24 = dktJ9_grow_2_1 := dk_seg dksJ9_grow_2_0 24 rfl rfl
theorem dksJ9_grow_2_2 : cJ9_grow_2.data.toList.drop 48 = dktJ9_grow_2_2 := dk_seg dksJ9_grow_2_1 24 rfl rfl
theorem dJ9_grow_2_0 : decode cJ9_grow_2 0 = .ok (.aload_n 0, 1) := dk_42 (dk_at dksJ9_grow_2_0 0 rfl rfl)
theorem dJ9_grow_2_1 : decode cJ9_grow_2 1 = .ok (.getfield 9, 3) := dk_180 0 9 (dk_at dksJ9_grow_2_0 1 rfl rfl)
theorem dJ9_grow_2_4 : decode cJ9_grow_2 4 = .ok (.arraylength, 1) := dk_190 (dk_at dksJ9_grow_2_0 4 rfl rfl)
theorem dJ9_grow_2_5 : decode cJ9_grow_2 5 = .ok (.istore_n 2, 1) := dk_61 (dk_at dksJ9_grow_2_0 5 rfl rfl)
theorem dJ9_grow_2_6 : decode cJ9_grow_2 6 = .ok (.iload_n 2, 1) := dk_28 (dk_at dksJ9_grow_2_0 6 rfl rfl)
theorem dJ9_grow_2_7 : decode cJ9_grow_2 7 = .ok (.ifCond .gt 13, 3) := dk_157 0 13 (dk_at dksJ9_grow_2_0 7 rfl rfl)
theorem dJ9_grow_2_10 : decode cJ9_grow_2 10 = .ok (.aload_n 0, 1) := dk_42 (dk_at dksJ9_grow_2_0 10 rfl rfl)
theorem dJ9_grow_2_11 : decode cJ9_grow_2 11 = .ok (.getfield 9, 3) := dk_180 0 9 (dk_at dksJ9_grow_2_0 11 rfl rfl)
theorem dJ9_grow_2_14 : decode cJ9_grow_2 14 = .ok (.getstatic 39, 3) := dk_178 0 39 (dk_at dksJ9_grow_2_0 14 rfl rfl)
theorem dJ9_grow_2_17 : decode cJ9_grow_2 17 = .ok (.if_acmp .eq 28, 3) := dk_165 0 28 (dk_at dksJ9_grow_2_0 17 rfl rfl)
theorem dJ9_grow_2_20 : decode cJ9_grow_2 20 = .ok (.iload_n 2, 1) := dk_28 (dk_at dksJ9_grow_2_0 20 rfl rfl)
theorem dJ9_grow_2_21 : decode cJ9_grow_2 21 = .ok (.iload_n 1, 1) := dk_27 (dk_at dksJ9_grow_2_0 21 rfl rfl)
theorem dJ9_grow_2_22 : decode cJ9_grow_2 22 = .ok (.iload_n 2, 1) := dk_28 (dk_at dksJ9_grow_2_0 22 rfl rfl)
theorem dJ9_grow_2_23 : decode cJ9_grow_2 23 = .ok (.isub, 1) := dk_100 (dk_at dksJ9_grow_2_0 23 rfl rfl)
theorem dJ9_grow_2_24 : decode cJ9_grow_2 24 = .ok (.iload_n 2, 1) := dk_28 (dk_at dksJ9_grow_2_1 0 rfl rfl)
theorem dJ9_grow_2_25 : decode cJ9_grow_2 25 = .ok (.iconst 1, 1) := dk_4 (dk_at dksJ9_grow_2_1 1 rfl rfl)
theorem dJ9_grow_2_26 : decode cJ9_grow_2 26 = .ok (.ishr, 1) := dk_122 (dk_at dksJ9_grow_2_1 2 rfl rfl)
theorem dJ9_grow_2_27 : decode cJ9_grow_2 27 = .ok (.invokestatic 73, 3) := dk_184 0 73 (dk_at dksJ9_grow_2_1 3 rfl rfl)
theorem dJ9_grow_2_30 : decode cJ9_grow_2 30 = .ok (.istore_n 3, 1) := dk_62 (dk_at dksJ9_grow_2_1 6 rfl rfl)
theorem dJ9_grow_2_31 : decode cJ9_grow_2 31 = .ok (.aload_n 0, 1) := dk_42 (dk_at dksJ9_grow_2_1 7 rfl rfl)
theorem dJ9_grow_2_32 : decode cJ9_grow_2 32 = .ok (.aload_n 0, 1) := dk_42 (dk_at dksJ9_grow_2_1 8 rfl rfl)
theorem dJ9_grow_2_33 : decode cJ9_grow_2 33 = .ok (.getfield 9, 3) := dk_180 0 9 (dk_at dksJ9_grow_2_1 9 rfl rfl)
theorem dJ9_grow_2_36 : decode cJ9_grow_2 36 = .ok (.iload_n 3, 1) := dk_29 (dk_at dksJ9_grow_2_1 12 rfl rfl)
theorem dJ9_grow_2_37 : decode cJ9_grow_2 37 = .ok (.invokestatic 66, 3) := dk_184 0 66 (dk_at dksJ9_grow_2_1 13 rfl rfl)
theorem dJ9_grow_2_40 : decode cJ9_grow_2 40 = .ok (.dup_x1, 1) := dk_90 (dk_at dksJ9_grow_2_1 16 rfl rfl)
theorem dJ9_grow_2_41 : decode cJ9_grow_2 41 = .ok (.putfield 9, 3) := dk_181 0 9 (dk_at dksJ9_grow_2_1 17 rfl rfl)
theorem dJ9_grow_2_44 : decode cJ9_grow_2 44 = .ok (.areturn, 1) := dk_176 (dk_at dksJ9_grow_2_1 20 rfl rfl)
theorem dJ9_grow_2_45 : decode cJ9_grow_2 45 = .ok (.aload_n 0, 1) := dk_42 (dk_at dksJ9_grow_2_1 21 rfl rfl)
theorem dJ9_grow_2_46 : decode cJ9_grow_2 46 = .ok (.bipush 10, 2) := dk_16 10 (dk_at dksJ9_grow_2_1 22 rfl rfl)
theorem dJ9_grow_2_48 : decode cJ9_grow_2 48 = .ok (.iload_n 1, 1) := dk_27 (dk_at dksJ9_grow_2_2 0 rfl rfl)
theorem dJ9_grow_2_49 : decode cJ9_grow_2 49 = .ok (.invokestatic 79, 3) := dk_184 0 79 (dk_at dksJ9_grow_2_2 1 rfl rfl)
theorem dJ9_grow_2_52 : decode cJ9_grow_2 52 = .ok (.anewarray 7, 3) := dk_189 0 7 (dk_at dksJ9_grow_2_2 4 rfl rfl)
theorem dJ9_grow_2_55 : decode cJ9_grow_2 55 = .ok (.dup_x1, 1) := dk_90 (dk_at dksJ9_grow_2_2 7 rfl rfl)
theorem dJ9_grow_2_56 : decode cJ9_grow_2 56 = .ok (.putfield 9, 3) := dk_181 0 9 (dk_at dksJ9_grow_2_2 8 rfl rfl)
theorem dJ9_grow_2_59 : decode cJ9_grow_2 59 = .ok (.areturn, 1) := dk_176 (dk_at dksJ9_grow_2_2 11 rfl rfl)
theorem q164 : (Jvm.Cond.initialized "java/util/ArrayList") ∈ lw_all := lw_g (lw_at lw_m1 18 rfl) rfl
theorem q332 : (Jvm.Cond.castable "java/util/ArrayList" "java/util/List") ∈ lw_tbl := lw_at lw_m1 186 rfl
theorem q333 : (Jvm.Cond.selects "java/util/ArrayList" ({ cls := "java/util/List", name := "size", desc := "()I" } : Jvm.MethodName) ({ cls := "java/util/ArrayList", name := "size", desc := "()I" } : Jvm.MethodName)) ∈ lw_all := lw_g (lw_at lw_m1 187 rfl) rfl
theorem q334 : (Jvm.Cond.unhidden "java/util/ArrayList" "size" "()I") ∈ lw_tbl := lw_at lw_m1 188 rfl
theorem q335 : (Jvm.Cond.instanceMethod ({ cls := "java/util/ArrayList", name := "size", desc := "()I" } : Jvm.MethodName)) ∈ lw_all := lw_g (lw_at lw_m1 189 rfl) rfl
theorem q336 : (Jvm.Cond.publicMethod ({ cls := "java/util/ArrayList", name := "size", desc := "()I" } : Jvm.MethodName)) ∈ lw_tbl := lw_at lw_m1 190 rfl
theorem q337 : (Jvm.Cond.code ({ cls := "java/util/ArrayList", name := "size", desc := "()I" } : Jvm.MethodName) prog_53_method_8_code (1 : Nat) (Option.some Jvm.ClassFile.FieldType.int)) ∈ lw_all := lw_g (lw_at lw_m1 191 rfl) rfl
theorem q366 : (Jvm.Cond.selects "java/util/ArrayList" ({ cls := "java/util/List", name := "get", desc := "(I)Ljava/lang/Object;" } : Jvm.MethodName) ({ cls := "java/util/ArrayList", name := "get", desc := "(I)Ljava/lang/Object;" } : Jvm.MethodName)) ∈ lw_all := lw_g (lw_at lw_m1 220 rfl) rfl
theorem q367 : (Jvm.Cond.unhidden "java/util/ArrayList" "get" "(I)Ljava/lang/Object;") ∈ lw_tbl := lw_at lw_m1 221 rfl
theorem q368 : (Jvm.Cond.instanceMethod ({ cls := "java/util/ArrayList", name := "get", desc := "(I)Ljava/lang/Object;" } : Jvm.MethodName)) ∈ lw_all := lw_g (lw_at lw_m1 222 rfl) rfl
theorem q369 : (Jvm.Cond.publicMethod ({ cls := "java/util/ArrayList", name := "get", desc := "(I)Ljava/lang/Object;" } : Jvm.MethodName)) ∈ lw_tbl := lw_at lw_m1 223 rfl
theorem q370 : (Jvm.Cond.code ({ cls := "java/util/ArrayList", name := "get", desc := "(I)Ljava/lang/Object;" } : Jvm.MethodName) prog_53_method_20_code (2 : Nat) (Option.some (Jvm.ClassFile.FieldType.object "java/lang/Object"))) ∈ lw_all := lw_g (lw_at lw_m1 224 rfl) rfl
theorem q371 : (Jvm.Cond.methodLink "java/util/ArrayList" (118 : Nat) ({ cls := "java/util/Objects", name := "checkIndex", desc := "(II)I" } : Jvm.MethodName)) ∈ lw_all := lw_g (lw_at lw_m1 225 rfl) rfl
theorem q377 : (Jvm.Cond.methodLink "java/util/ArrayList" (123 : Nat) ({ cls := "java/util/ArrayList", name := "elementData", desc := "(I)Ljava/lang/Object;" } : Jvm.MethodName)) ∈ lw_all := lw_g (lw_at lw_m1 231 rfl) rfl
theorem q378 : (Jvm.Cond.instanceMethod ({ cls := "java/util/ArrayList", name := "elementData", desc := "(I)Ljava/lang/Object;" } : Jvm.MethodName)) ∈ lw_all := lw_g (lw_at lw_m1 232 rfl) rfl
theorem q379 : (Jvm.Cond.selects "java/util/ArrayList" ({ cls := "java/util/ArrayList", name := "elementData", desc := "(I)Ljava/lang/Object;" } : Jvm.MethodName) ({ cls := "java/util/ArrayList", name := "elementData", desc := "(I)Ljava/lang/Object;" } : Jvm.MethodName)) ∈ lw_all := lw_g (lw_at lw_m1 233 rfl) rfl
theorem q380 : (Jvm.Cond.code ({ cls := "java/util/ArrayList", name := "elementData", desc := "(I)Ljava/lang/Object;" } : Jvm.MethodName) prog_53_method_18_code (2 : Nat) (Option.some (Jvm.ClassFile.FieldType.object "java/lang/Object"))) ∈ lw_all := lw_g (lw_at lw_m1 234 rfl) rfl
theorem q588 : (Jvm.Cond.instantiable "java/util/ArrayList" (3 : Nat)) ∈ lw_all := lw_g (lw_at lw_m2 202 rfl) rfl
theorem q590 : (Jvm.Cond.instanceMethod ({ cls := "java/util/ArrayList", name := "<init>", desc := "(I)V" } : Jvm.MethodName)) ∈ lw_all := lw_g (lw_at lw_m2 204 rfl) rfl
theorem q591 : (Jvm.Cond.code ({ cls := "java/util/ArrayList", name := "<init>", desc := "(I)V" } : Jvm.MethodName) prog_53_method_1_code (2 : Nat) (Option.none : Option Jvm.ClassFile.FieldType)) ∈ lw_all := lw_g (lw_at lw_m2 205 rfl) rfl
theorem q592 : (Jvm.Cond.methodLink "java/util/ArrayList" (1 : Nat) ({ cls := "java/util/AbstractList", name := "<init>", desc := "()V" } : Jvm.MethodName)) ∈ lw_all := lw_g (lw_at lw_m2 206 rfl) rfl
theorem q596 : (Jvm.Cond.classLink "java/util/ArrayList" (7 : Nat) "java/lang/Object") ∈ lw_all := lw_g (lw_at lw_m2 210 rfl) rfl
theorem q597 : (Jvm.Cond.fieldLink "java/util/ArrayList" (15 : Nat) "java/util/ArrayList" "EMPTY_ELEMENTDATA" "[Ljava/lang/Object;") ∈ lw_all := lw_g (lw_at lw_m2 211 rfl) rfl
theorem q598 : (Jvm.Cond.laysStatic "java/util/ArrayList" "EMPTY_ELEMENTDATA" "[Ljava/lang/Object;") ∈ lw_tbl := lw_at lw_m2 212 rfl
theorem q599 : (Jvm.Cond.classLink "java/util/ArrayList" (18 : Nat) "java/lang/IllegalArgumentException") ∈ lw_all := lw_g (lw_at lw_m2 213 rfl) rfl
theorem q608 : (Jvm.Cond.classLink "java/util/ArrayList" (20 : Nat) "java/lang/StringBuilder") ∈ lw_all := lw_g (lw_at lw_m2 222 rfl) rfl
theorem q610 : (Jvm.Cond.methodLink "java/util/ArrayList" (22 : Nat) ({ cls := "java/lang/StringBuilder", name := "<init>", desc := "()V" } : Jvm.MethodName)) ∈ lw_all := lw_g (lw_at lw_m2 224 rfl) rfl
theorem q639 : (Jvm.Cond.stringRef "java/util/ArrayList" (23 : Nat) "Illegal Capacity: ") ∈ lw_tbl := lw_at lw_m3 13 rfl
theorem q640 : (Jvm.Cond.methodLink "java/util/ArrayList" (25 : Nat) ({ cls := "java/lang/StringBuilder", name := "append", desc := "(Ljava/lang/String;)Ljava/lang/StringBuilder;" } : Jvm.MethodName)) ∈ lw_all := lw_g (lw_at lw_m3 14 rfl) rfl
theorem q760 : (Jvm.Cond.methodLink "java/util/ArrayList" (29 : Nat) ({ cls := "java/lang/StringBuilder", name := "append", desc := "(I)Ljava/lang/StringBuilder;" } : Jvm.MethodName)) ∈ lw_all := lw_g (lw_at lw_m3 134 rfl) rfl
theorem q785 : (Jvm.Cond.methodLink "java/util/ArrayList" (32 : Nat) ({ cls := "java/lang/StringBuilder", name := "toString", desc := "()Ljava/lang/String;" } : Jvm.MethodName)) ∈ lw_all := lw_g (lw_at lw_m3 159 rfl) rfl
theorem q855 : (Jvm.Cond.methodLink "java/util/ArrayList" (36 : Nat) ({ cls := "java/lang/IllegalArgumentException", name := "<init>", desc := "(Ljava/lang/String;)V" } : Jvm.MethodName)) ∈ lw_all := lw_g (lw_at lw_m3 229 rfl) rfl
theorem q856 : (Jvm.Cond.fieldLink "java/util/ArrayList" (9 : Nat) "java/util/ArrayList" "elementData" "[Ljava/lang/Object;") ∈ lw_all := lw_g (lw_at lw_m3 230 rfl) rfl
theorem q857 : (Jvm.Cond.fieldLink "java/util/ArrayList" (48 : Nat) "java/util/ArrayList" "size" "I") ∈ lw_all := lw_g (lw_at lw_m3 231 rfl) rfl
theorem q859 : (Jvm.Cond.fieldLink "java/util/ArrayList" (63 : Nat) "java/util/ArrayList" "modCount" "I") ∈ lw_all := lw_g (lw_at lw_m3 233 rfl) rfl
theorem q860 : (Jvm.Cond.sameField "java/util/ArrayList" "java/util/AbstractList" "modCount" "I") ∈ lw_all := lw_g (lw_at lw_m3 234 rfl) rfl
theorem q861 : (Jvm.Cond.lays "java/util/ArrayList" "java/util/ArrayList" "elementData" "[Ljava/lang/Object;") ∈ lw_all := lw_g (lw_at lw_m3 235 rfl) rfl
theorem q862 : (Jvm.Cond.soleField "java/util/ArrayList" "elementData") ∈ lw_all := lw_g (lw_at lw_m3 236 rfl) rfl
theorem q863 : (Jvm.Cond.lays "java/util/ArrayList" "java/util/ArrayList" "size" "I") ∈ lw_all := lw_g (lw_at lw_m3 237 rfl) rfl
theorem q864 : (Jvm.Cond.soleField "java/util/ArrayList" "size") ∈ lw_all := lw_g (lw_at lw_m3 238 rfl) rfl
theorem q865 : (Jvm.Cond.lays "java/util/ArrayList" "java/util/AbstractList" "modCount" "I") ∈ lw_all := lw_g (lw_at lw_m3 239 rfl) rfl
theorem q867 : (Jvm.Cond.superclass "java/util/ArrayList" "java/util/AbstractList") ∈ lw_all := lw_g (lw_at lw_m4 1 rfl) rfl
theorem q1124 : (Jvm.Cond.selects "java/util/ArrayList" ({ cls := "java/util/List", name := "isEmpty", desc := "()Z" } : Jvm.MethodName) ({ cls := "java/util/ArrayList", name := "isEmpty", desc := "()Z" } : Jvm.MethodName)) ∈ lw_all := lw_g (lw_at lw_m5 18 rfl) rfl
theorem q1125 : (Jvm.Cond.unhidden "java/util/ArrayList" "isEmpty" "()Z") ∈ lw_tbl := lw_at lw_m5 19 rfl
theorem q1126 : (Jvm.Cond.instanceMethod ({ cls := "java/util/ArrayList", name := "isEmpty", desc := "()Z" } : Jvm.MethodName)) ∈ lw_all := lw_g (lw_at lw_m5 20 rfl) rfl
theorem q1127 : (Jvm.Cond.publicMethod ({ cls := "java/util/ArrayList", name := "isEmpty", desc := "()Z" } : Jvm.MethodName)) ∈ lw_tbl := lw_at lw_m5 21 rfl
theorem q1128 : (Jvm.Cond.code ({ cls := "java/util/ArrayList", name := "isEmpty", desc := "()Z" } : Jvm.MethodName) prog_53_method_9_code (1 : Nat) (Option.some Jvm.ClassFile.FieldType.boolean)) ∈ lw_all := lw_g (lw_at lw_m5 22 rfl) rfl
theorem q1154 : (Jvm.Cond.selects "java/util/ArrayList" ({ cls := "java/util/List", name := "add", desc := "(Ljava/lang/Object;)Z" } : Jvm.MethodName) ({ cls := "java/util/ArrayList", name := "add", desc := "(Ljava/lang/Object;)Z" } : Jvm.MethodName)) ∈ lw_all := lw_g (lw_at lw_m5 48 rfl) rfl
theorem q1155 : (Jvm.Cond.unhidden "java/util/ArrayList" "add" "(Ljava/lang/Object;)Z") ∈ lw_tbl := lw_at lw_m5 49 rfl
theorem q1156 : (Jvm.Cond.instanceMethod ({ cls := "java/util/ArrayList", name := "add", desc := "(Ljava/lang/Object;)Z" } : Jvm.MethodName)) ∈ lw_all := lw_g (lw_at lw_m5 50 rfl) rfl
theorem q1157 : (Jvm.Cond.publicMethod ({ cls := "java/util/ArrayList", name := "add", desc := "(Ljava/lang/Object;)Z" } : Jvm.MethodName)) ∈ lw_tbl := lw_at lw_m5 51 rfl
theorem q1158 : (Jvm.Cond.code ({ cls := "java/util/ArrayList", name := "add", desc := "(Ljava/lang/Object;)Z" } : Jvm.MethodName) prog_53_method_25_code (2 : Nat) (Option.some Jvm.ClassFile.FieldType.boolean)) ∈ lw_all := lw_g (lw_at lw_m5 52 rfl) rfl
theorem q1159 : (Jvm.Cond.methodLink "java/util/ArrayList" (131 : Nat) ({ cls := "java/util/ArrayList", name := "add", desc := "(Ljava/lang/Object;[Ljava/lang/Object;I)V" } : Jvm.MethodName)) ∈ lw_all := lw_g (lw_at lw_m5 53 rfl) rfl
theorem q1160 : (Jvm.Cond.privateMethod ({ cls := "java/util/ArrayList", name := "add", desc := "(Ljava/lang/Object;[Ljava/lang/Object;I)V" } : Jvm.MethodName)) ∈ lw_tbl := lw_at lw_m5 54 rfl
theorem q1161 : (Jvm.Cond.instanceMethod ({ cls := "java/util/ArrayList", name := "add", desc := "(Ljava/lang/Object;[Ljava/lang/Object;I)V" } : Jvm.MethodName)) ∈ lw_all := lw_g (lw_at lw_m5 55 rfl) rfl
theorem q1162 : (Jvm.Cond.code ({ cls := "java/util/ArrayList", name := "add", desc := "(Ljava/lang/Object;[Ljava/lang/Object;I)V" } : Jvm.MethodName) prog_53_method_24_code (4 : Nat) (Option.none : Option Jvm.ClassFile.FieldType)) ∈ lw_all := lw_g (lw_at lw_m5 56 rfl) rfl
theorem q1163 : (Jvm.Cond.methodLink "java/util/ArrayList" (129 : Nat) ({ cls := "java/util/ArrayList", name := "grow", desc := "()[Ljava/lang/Object;" } : Jvm.MethodName)) ∈ lw_all := lw_g (lw_at lw_m5 57 rfl) rfl
theorem q1164 : (Jvm.Cond.privateMethod ({ cls := "java/util/ArrayList", name := "grow", desc := "()[Ljava/lang/Object;" } : Jvm.MethodName)) ∈ lw_tbl := lw_at lw_m5 58 rfl
theorem q1165 : (Jvm.Cond.instanceMethod ({ cls := "java/util/ArrayList", name := "grow", desc := "()[Ljava/lang/Object;" } : Jvm.MethodName)) ∈ lw_all := lw_g (lw_at lw_m5 59 rfl) rfl
theorem q1166 : (Jvm.Cond.code ({ cls := "java/util/ArrayList", name := "grow", desc := "()[Ljava/lang/Object;" } : Jvm.MethodName) prog_53_method_7_code (1 : Nat) (Option.some (Jvm.ClassFile.FieldType.array (Jvm.ClassFile.FieldType.object "java/lang/Object")))) ∈ lw_all := lw_g (lw_at lw_m5 60 rfl) rfl
theorem q1167 : (Jvm.Cond.methodLink "java/util/ArrayList" (69 : Nat) ({ cls := "java/util/ArrayList", name := "grow", desc := "(I)[Ljava/lang/Object;" } : Jvm.MethodName)) ∈ lw_all := lw_g (lw_at lw_m5 61 rfl) rfl
theorem q1168 : (Jvm.Cond.privateMethod ({ cls := "java/util/ArrayList", name := "grow", desc := "(I)[Ljava/lang/Object;" } : Jvm.MethodName)) ∈ lw_tbl := lw_at lw_m5 62 rfl
theorem q1169 : (Jvm.Cond.instanceMethod ({ cls := "java/util/ArrayList", name := "grow", desc := "(I)[Ljava/lang/Object;" } : Jvm.MethodName)) ∈ lw_all := lw_g (lw_at lw_m5 63 rfl) rfl
theorem q1170 : (Jvm.Cond.code ({ cls := "java/util/ArrayList", name := "grow", desc := "(I)[Ljava/lang/Object;" } : Jvm.MethodName) prog_53_method_6_code (4 : Nat) (Option.some (Jvm.ClassFile.FieldType.array (Jvm.ClassFile.FieldType.object "java/lang/Object")))) ∈ lw_all := lw_g (lw_at lw_m5 64 rfl) rfl
theorem q1171 : (Jvm.Cond.fieldLink "java/util/ArrayList" (39 : Nat) "java/util/ArrayList" "DEFAULTCAPACITY_EMPTY_ELEMENTDATA" "[Ljava/lang/Object;") ∈ lw_all := lw_g (lw_at lw_m5 65 rfl) rfl
theorem q1172 : (Jvm.Cond.laysStatic "java/util/ArrayList" "DEFAULTCAPACITY_EMPTY_ELEMENTDATA" "[Ljava/lang/Object;") ∈ lw_tbl := lw_at lw_m5 66 rfl
theorem q1173 : (Jvm.Cond.methodLink "java/util/ArrayList" (73 : Nat) ({ cls := "jdk/internal/util/ArraysSupport", name := "newLength", desc := "(III)I" } : Jvm.MethodName)) ∈ lw_all := lw_g (lw_at lw_m5 67 rfl) rfl
theorem q1174 : (Jvm.Cond.methodLink "java/util/ArrayList" (66 : Nat) ({ cls := "java/util/Arrays", name := "copyOf", desc := "([Ljava/lang/Object;I)[Ljava/lang/Object;" } : Jvm.MethodName)) ∈ lw_all := lw_g (lw_at lw_m5 68 rfl) rfl
theorem q1207 : (Jvm.Cond.selects "java/util/ArrayList" ({ cls := "java/lang/Object", name := "getClass", desc := "()Ljava/lang/Class;" } : Jvm.MethodName) ({ cls := "java/lang/Object", name := "getClass", desc := "()Ljava/lang/Class;" } : Jvm.MethodName)) ∈ lw_all := lw_g (lw_at lw_m5 101 rfl) rfl
theorem q1215 : (Jvm.Cond.methodLink "java/util/ArrayList" (79 : Nat) ({ cls := "java/lang/Math", name := "max", desc := "(II)I" } : Jvm.MethodName)) ∈ lw_all := lw_g (lw_at lw_m5 109 rfl) rfl
theorem q2900 : (Jvm.Cond.castable "java/util/ArrayList" "java/lang/Object") ∈ lw_tbl := lw_at lw_m12 114 rfl
theorem in_J9 : ∀ w ∈ wsJ90, w ∈ lw_all := lw_in wsJ90 [865, 861, 863] (by decide +kernel) (by decide +kernel)

/-! RideDesk$Van -/
set_option maxRecDepth 100000
def RX10 : String := "RideDesk$Van"
def TX10 : u_T := fun k => match k with
  | 0 => ("RideDesk$Spot", "x", "I", true)
  | 1 => ("RideDesk$Spot", "y", "I", true)
  | 2 => ("RideDesk$Van", "seats", "I", true)
  | 3 => ("RideDesk$Van", "wheels", "I", true)
  | 4 => ("RideDesk$Van", "from", "I", true)
  | _ => ("RideDesk$Van", "until", "I", true)
def tyX10 : Nat → FieldType := fun k => match k with
  | 0 => .int
  | 1 => .int
  | 2 => .int
  | 3 => .int
  | 4 => .int
  | _ => .int
abbrev wsX100 : List Cond := u_ws RX10 TX10 6
theorem nmX10 : ∀ a, a < 6 → ∀ b, b < 6 → a ≠ b → (TX10 a).2.1 ≠ (TX10 b).2.1 := by decide +kernel
theorem tyX10_ok : ∀ k, k < 6 → parseFieldDescriptor (TX10 k).2.2.1 = some (tyX10 k) := by decide +kernel
abbrev cX10_init : ByteArray := prog_21_method_1_code
def yX10_init : MethodName := ⟨RX10, "<init>", "(LRideDesk$Spot;IIII)V"⟩
def dkwX10_init_1 : List UInt8 := [21, 4, 181, 0, 22, 42, 21, 5, 181, 0, 25, 177]
abbrev dktX10_init_1 : List UInt8 := dkwX10_init_1 ++ []
def dkwX10_init_0 : List UInt8 := [42, 43, 180, 0, 1, 43, 180, 0, 7, 183, 0, 10, 42, 28, 181, 0, 14, 42, 29, 181, 0, 19, 42]
abbrev dktX10_init_0 : List UInt8 := dkwX10_init_0 ++ dktX10_init_1
theorem dksX10_init_0 : cX10_init.data.toList.drop 0 = dktX10_init_0 := by decide +kernel
theorem dksX10_init_1 : cX10_init.data.toList.drop 23 = dktX10_init_1 := dk_seg dksX10_init_0 23 rfl rfl
theorem dX10_init_0 : decode cX10_init 0 = .ok (.aload_n 0, 1) := dk_42 (dk_at dksX10_init_0 0 rfl rfl)
theorem dX10_init_1 : decode cX10_init 1 = .ok (.aload_n 1, 1) := dk_43 (dk_at dksX10_init_0 1 rfl rfl)
theorem dX10_init_2 : decode cX10_init 2 = .ok (.getfield 1, 3) := dk_180 0 1 (dk_at dksX10_init_0 2 rfl rfl)
theorem dX10_init_5 : decode cX10_init 5 = .ok (.aload_n 1, 1) := dk_43 (dk_at dksX10_init_0 5 rfl rfl)
theorem dX10_init_6 : decode cX10_init 6 = .ok (.getfield 7, 3) := dk_180 0 7 (dk_at dksX10_init_0 6 rfl rfl)
theorem dX10_init_9 : decode cX10_init 9 = .ok (.invokespecial 10, 3) := dk_183 0 10 (dk_at dksX10_init_0 9 rfl rfl)
theorem dX10_init_12 : decode cX10_init 12 = .ok (.aload_n 0, 1) := dk_42 (dk_at dksX10_init_0 12 rfl rfl)
theorem dX10_init_13 : decode cX10_init 13 = .ok (.iload_n 2, 1) := dk_28 (dk_at dksX10_init_0 13 rfl rfl)
theorem dX10_init_14 : decode cX10_init 14 = .ok (.putfield 14, 3) := dk_181 0 14 (dk_at dksX10_init_0 14 rfl rfl)
theorem dX10_init_17 : decode cX10_init 17 = .ok (.aload_n 0, 1) := dk_42 (dk_at dksX10_init_0 17 rfl rfl)
theorem dX10_init_18 : decode cX10_init 18 = .ok (.iload_n 3, 1) := dk_29 (dk_at dksX10_init_0 18 rfl rfl)
theorem dX10_init_19 : decode cX10_init 19 = .ok (.putfield 19, 3) := dk_181 0 19 (dk_at dksX10_init_0 19 rfl rfl)
theorem dX10_init_22 : decode cX10_init 22 = .ok (.aload_n 0, 1) := dk_42 (dk_at dksX10_init_0 22 rfl rfl)
theorem dX10_init_23 : decode cX10_init 23 = .ok (.iload 4, 2) := dk_21 4 (dk_at dksX10_init_1 0 rfl rfl)
theorem dX10_init_25 : decode cX10_init 25 = .ok (.putfield 22, 3) := dk_181 0 22 (dk_at dksX10_init_1 2 rfl rfl)
theorem dX10_init_28 : decode cX10_init 28 = .ok (.aload_n 0, 1) := dk_42 (dk_at dksX10_init_1 5 rfl rfl)
theorem dX10_init_29 : decode cX10_init 29 = .ok (.iload 5, 2) := dk_21 5 (dk_at dksX10_init_1 6 rfl rfl)
theorem dX10_init_31 : decode cX10_init 31 = .ok (.putfield 25, 3) := dk_181 0 25 (dk_at dksX10_init_1 8 rfl rfl)
theorem dX10_init_34 : decode cX10_init 34 = .ok (.return_, 1) := dk_177 (dk_at dksX10_init_1 11 rfl rfl)
theorem q181 : (Jvm.Cond.initialized "RideDesk$Van") ∈ lw_all := lw_g (lw_at lw_m1 35 rfl) rfl
theorem q1197 : (Jvm.Cond.selects "RideDesk$Van" ({ cls := "java/lang/Object", name := "getClass", desc := "()Ljava/lang/Class;" } : Jvm.MethodName) ({ cls := "java/lang/Object", name := "getClass", desc := "()Ljava/lang/Class;" } : Jvm.MethodName)) ∈ lw_all := lw_g (lw_at lw_m5 91 rfl) rfl
theorem q1230 : (Jvm.Cond.fieldLink "RideDesk$Van" (1 : Nat) "RideDesk$Spot" "x" "I") ∈ lw_all := lw_g (lw_at lw_m5 124 rfl) rfl
theorem q1234 : (Jvm.Cond.fieldLink "RideDesk$Van" (7 : Nat) "RideDesk$Spot" "y" "I") ∈ lw_all := lw_g (lw_at lw_m5 128 rfl) rfl
theorem q1246 : (Jvm.Cond.instantiable "RideDesk$Van" (6 : Nat)) ∈ lw_all := lw_g (lw_at lw_m5 140 rfl) rfl
theorem q1249 : (Jvm.Cond.instanceMethod ({ cls := "RideDesk$Van", name := "<init>", desc := "(LRideDesk$Spot;IIII)V" } : Jvm.MethodName)) ∈ lw_all := lw_g (lw_at lw_m5 143 rfl) rfl
theorem q1250 : (Jvm.Cond.code ({ cls := "RideDesk$Van", name := "<init>", desc := "(LRideDesk$Spot;IIII)V" } : Jvm.MethodName) prog_21_method_1_code (6 : Nat) (Option.none : Option Jvm.ClassFile.FieldType)) ∈ lw_all := lw_g (lw_at lw_m5 144 rfl) rfl
theorem q1251 : (Jvm.Cond.methodLink "RideDesk$Van" (10 : Nat) ({ cls := "RideDesk$Spot", name := "<init>", desc := "(II)V" } : Jvm.MethodName)) ∈ lw_all := lw_g (lw_at lw_m5 145 rfl) rfl
theorem q1252 : (Jvm.Cond.fieldLink "RideDesk$Van" (14 : Nat) "RideDesk$Van" "seats" "I") ∈ lw_all := lw_g (lw_at lw_m5 146 rfl) rfl
theorem q1254 : (Jvm.Cond.fieldLink "RideDesk$Van" (19 : Nat) "RideDesk$Van" "wheels" "I") ∈ lw_all := lw_g (lw_at lw_m5 148 rfl) rfl
theorem q1256 : (Jvm.Cond.fieldLink "RideDesk$Van" (22 : Nat) "RideDesk$Van" "from" "I") ∈ lw_all := lw_g (lw_at lw_m5 150 rfl) rfl
theorem q1258 : (Jvm.Cond.fieldLink "RideDesk$Van" (25 : Nat) "RideDesk$Van" "until" "I") ∈ lw_all := lw_g (lw_at lw_m5 152 rfl) rfl
theorem q1260 : (Jvm.Cond.laysFinal "RideDesk$Van" "RideDesk$Van" "seats" "I") ∈ lw_all := lw_g (lw_at lw_m5 154 rfl) rfl
theorem q1261 : (Jvm.Cond.soleField "RideDesk$Van" "seats") ∈ lw_all := lw_g (lw_at lw_m5 155 rfl) rfl
theorem q1262 : (Jvm.Cond.laysFinal "RideDesk$Van" "RideDesk$Van" "wheels" "I") ∈ lw_all := lw_g (lw_at lw_m5 156 rfl) rfl
theorem q1263 : (Jvm.Cond.soleField "RideDesk$Van" "wheels") ∈ lw_all := lw_g (lw_at lw_m5 157 rfl) rfl
theorem q1264 : (Jvm.Cond.laysFinal "RideDesk$Van" "RideDesk$Van" "from" "I") ∈ lw_all := lw_g (lw_at lw_m5 158 rfl) rfl
theorem q1265 : (Jvm.Cond.soleField "RideDesk$Van" "from") ∈ lw_all := lw_g (lw_at lw_m5 159 rfl) rfl
theorem q1266 : (Jvm.Cond.laysFinal "RideDesk$Van" "RideDesk$Van" "until" "I") ∈ lw_all := lw_g (lw_at lw_m5 160 rfl) rfl
theorem q1267 : (Jvm.Cond.soleField "RideDesk$Van" "until") ∈ lw_all := lw_g (lw_at lw_m5 161 rfl) rfl
theorem q1268 : (Jvm.Cond.laysFinal "RideDesk$Van" "RideDesk$Spot" "x" "I") ∈ lw_all := lw_g (lw_at lw_m5 162 rfl) rfl
theorem q1269 : (Jvm.Cond.laysFinal "RideDesk$Van" "RideDesk$Spot" "y" "I") ∈ lw_all := lw_g (lw_at lw_m5 163 rfl) rfl
theorem q1270 : (Jvm.Cond.superclass "RideDesk$Van" "RideDesk$Spot") ∈ lw_all := lw_g (lw_at lw_m5 164 rfl) rfl
theorem q2883 : (Jvm.Cond.castable "RideDesk$Van" "RideDesk$Spot") ∈ lw_tbl := lw_at lw_m12 97 rfl
theorem q2908 : (Jvm.Cond.castable "RideDesk$Van" "java/lang/Object") ∈ lw_tbl := lw_at lw_m12 122 rfl
theorem in_X10 : ∀ w ∈ wsX100, w ∈ lw_all := lw_in wsX100 [1268, 1269, 1260, 1262, 1264, 1266] (by decide +kernel) (by decide +kernel)

/-! RideDesk$Kind -/
set_option maxRecDepth 100000
def RX11 : String := "RideDesk$Kind"
abbrev cX11_values : ByteArray := prog_5_method_1_code
def yX11_values : MethodName := ⟨RX11, "values", "()[LRideDesk$Kind;"⟩
def dkwX11_values_0 : List UInt8 := [178, 0, 13, 182, 0, 17, 192, 0, 18, 176]
abbrev dktX11_values_0 : List UInt8 := dkwX11_values_0 ++ []
theorem dksX11_values_0 : cX11_values.data.toList.drop 0 = dktX11_values_0 := by decide +kernel
theorem dX11_values_0 : decode cX11_values 0 = .ok (.getstatic 13, 3) := dk_178 0 13 (dk_at dksX11_values_0 0 rfl rfl)
theorem dX11_values_3 : decode cX11_values 3 = .ok (.invokevirtual 17, 3) := dk_182 0 17 (dk_at dksX11_values_0 3 rfl rfl)
theorem dX11_values_6 : decode cX11_values 6 = .ok (.checkcast 18, 3) := dk_192 0 18 (dk_at dksX11_values_0 6 rfl rfl)
theorem dX11_values_9 : decode cX11_values 9 = .ok (.areturn, 1) := dk_176 (dk_at dksX11_values_0 9 rfl rfl)
theorem q182 : (Jvm.Cond.initialized "RideDesk$Kind") ∈ lw_all := lw_g (lw_at lw_m1 36 rfl) rfl
theorem q1283 : (Jvm.Cond.laysStatic "RideDesk$Kind" "WALK" "LRideDesk$Kind;") ∈ lw_tbl := lw_at lw_m5 177 rfl
theorem q1285 : (Jvm.Cond.laysStatic "RideDesk$Kind" "CHAIR" "LRideDesk$Kind;") ∈ lw_tbl := lw_at lw_m5 179 rfl
theorem q1287 : (Jvm.Cond.laysStatic "RideDesk$Kind" "AIDE" "LRideDesk$Kind;") ∈ lw_tbl := lw_at lw_m5 181 rfl
theorem q1296 : (Jvm.Cond.declares ({ cls := "RideDesk$Kind", name := "service", desc := "(LRideDesk$Rules;)I" } : Jvm.MethodName)) ∈ lw_tbl := lw_at lw_m5 190 rfl
theorem q1297 : (Jvm.Cond.sameMethod "RideDesk$Kind" "RideDesk$Kind" "service" "(LRideDesk$Rules;)I") ∈ lw_all := lw_g (lw_at lw_m5 191 rfl) rfl
theorem q1859 : (Jvm.Cond.static ({ cls := "RideDesk$Kind", name := "values", desc := "()[LRideDesk$Kind;" } : Jvm.MethodName)) ∈ lw_all := lw_g (lw_at lw_m8 33 rfl) rfl
theorem q1860 : (Jvm.Cond.code ({ cls := "RideDesk$Kind", name := "values", desc := "()[LRideDesk$Kind;" } : Jvm.MethodName) prog_5_method_1_code (0 : Nat) (Option.some (Jvm.ClassFile.FieldType.array (Jvm.ClassFile.FieldType.object "RideDesk$Kind")))) ∈ lw_all := lw_g (lw_at lw_m8 34 rfl) rfl
theorem q1861 : (Jvm.Cond.fieldLink "RideDesk$Kind" (13 : Nat) "RideDesk$Kind" "$VALUES" "[LRideDesk$Kind;") ∈ lw_all := lw_g (lw_at lw_m8 35 rfl) rfl
theorem q1862 : (Jvm.Cond.laysStatic "RideDesk$Kind" "$VALUES" "[LRideDesk$Kind;") ∈ lw_tbl := lw_at lw_m8 36 rfl
theorem q1863 : (Jvm.Cond.methodLink "RideDesk$Kind" (17 : Nat) ({ cls := "[LRideDesk$Kind;", name := "clone", desc := "()Ljava/lang/Object;" } : Jvm.MethodName)) ∈ lw_all := lw_g (lw_at lw_m8 37 rfl) rfl
theorem q1868 : (Jvm.Cond.classLink "RideDesk$Kind" (18 : Nat) "[LRideDesk$Kind;") ∈ lw_all := lw_g (lw_at lw_m8 42 rfl) rfl
theorem q2890 : (Jvm.Cond.castable "RideDesk$Kind" "java/lang/Object") ∈ lw_tbl := lw_at lw_m12 104 rfl

/-! RideDesk$Call -/
set_option maxRecDepth 100000
def RX12 : String := "RideDesk$Call"
def TX12 : u_T := fun k => match k with
  | 0 => ("RideDesk$Call", "home", "LRideDesk$Spot;", true)
  | 1 => ("RideDesk$Call", "goal", "LRideDesk$Spot;", true)
  | 2 => ("RideDesk$Call", "kind", "LRideDesk$Kind;", true)
  | 3 => ("RideDesk$Call", "limit", "I", true)
  | _ => ("RideDesk$Call", "service", "I", true)
def tyX12 : Nat → FieldType := fun k => match k with
  | 0 => .object "RideDesk$Spot"
  | 1 => .object "RideDesk$Spot"
  | 2 => .object "RideDesk$Kind"
  | 3 => .int
  | _ => .int
abbrev wsX120 : List Cond := u_ws RX12 TX12 5
theorem nmX12 : ∀ a, a < 5 → ∀ b, b < 5 → a ≠ b → (TX12 a).2.1 ≠ (TX12 b).2.1 := by decide +kernel
theorem tyX12_ok : ∀ k, k < 5 → parseFieldDescriptor (TX12 k).2.2.1 = some (tyX12 k) := by decide +kernel
abbrev cX12_init : ByteArray := prog_2_method_1_code
def yX12_init : MethodName := ⟨RX12, "<init>", "(LRideDesk$Spot;LRideDesk$Spot;LRideDesk$Kind;LRideDesk$Plan;)V"⟩
def dkwX12_init_2 : List UInt8 := [108, 96, 181, 0, 39, 42, 45, 25, 4, 180, 0, 20, 182, 0, 42, 181, 0, 48, 177]
abbrev dktX12_init_2 : List UInt8 := dkwX12_init_2 ++ []
def dkwX12_init_1 : List UInt8 := [180, 0, 20, 180, 0, 26, 25, 4, 43, 44, 182, 0, 32, 25, 4, 180, 0, 20, 180, 0, 36, 104, 16, 100]
abbrev dktX12_init_1 : List UInt8 := dkwX12_init_1 ++ dktX12_init_2
def dkwX12_init_0 : List UInt8 := [42, 183, 0, 1, 42, 43, 181, 0, 7, 42, 44, 181, 0, 13, 42, 45, 181, 0, 16, 42, 25, 4]
abbrev dktX12_init_0 : List UInt8 := dkwX12_init_0 ++ dktX12_init_1
theorem dksX12_init_0 : cX12_init.data.toList.drop 0 = dktX12_init_0 := by decide +kernel
theorem dksX12_init_1 : cX12_init.data.toList.drop 22 = dktX12_init_1 := dk_seg dksX12_init_0 22 rfl rfl
theorem dksX12_init_2 : cX12_init.data.toList.drop 46 = dktX12_init_2 := dk_seg dksX12_init_1 24 rfl rfl
theorem dX12_init_0 : decode cX12_init 0 = .ok (.aload_n 0, 1) := dk_42 (dk_at dksX12_init_0 0 rfl rfl)
theorem dX12_init_1 : decode cX12_init 1 = .ok (.invokespecial 1, 3) := dk_183 0 1 (dk_at dksX12_init_0 1 rfl rfl)
theorem dX12_init_4 : decode cX12_init 4 = .ok (.aload_n 0, 1) := dk_42 (dk_at dksX12_init_0 4 rfl rfl)
theorem dX12_init_5 : decode cX12_init 5 = .ok (.aload_n 1, 1) := dk_43 (dk_at dksX12_init_0 5 rfl rfl)
theorem dX12_init_6 : decode cX12_init 6 = .ok (.putfield 7, 3) := dk_181 0 7 (dk_at dksX12_init_0 6 rfl rfl)
theorem dX12_init_9 : decode cX12_init 9 = .ok (.aload_n 0, 1) := dk_42 (dk_at dksX12_init_0 9 rfl rfl)
theorem dX12_init_10 : decode cX12_init 10 = .ok (.aload_n 2, 1) := dk_44 (dk_at dksX12_init_0 10 rfl rfl)
theorem dX12_init_11 : decode cX12_init 11 = .ok (.putfield 13, 3) := dk_181 0 13 (dk_at dksX12_init_0 11 rfl rfl)
theorem dX12_init_14 : decode cX12_init 14 = .ok (.aload_n 0, 1) := dk_42 (dk_at dksX12_init_0 14 rfl rfl)
theorem dX12_init_15 : decode cX12_init 15 = .ok (.aload_n 3, 1) := dk_45 (dk_at dksX12_init_0 15 rfl rfl)
theorem dX12_init_16 : decode cX12_init 16 = .ok (.putfield 16, 3) := dk_181 0 16 (dk_at dksX12_init_0 16 rfl rfl)
theorem dX12_init_19 : decode cX12_init 19 = .ok (.aload_n 0, 1) := dk_42 (dk_at dksX12_init_0 19 rfl rfl)
theorem dX12_init_20 : decode cX12_init 20 = .ok (.aload 4, 2) := dk_25 4 (dk_at dksX12_init_0 20 rfl rfl)
theorem dX12_init_22 : decode cX12_init 22 = .ok (.getfield 20, 3) := dk_180 0 20 (dk_at dksX12_init_1 0 rfl rfl)
theorem dX12_init_25 : decode cX12_init 25 = .ok (.getfield 26, 3) := dk_180 0 26 (dk_at dksX12_init_1 3 rfl rfl)
theorem dX12_init_28 : decode cX12_init 28 = .ok (.aload 4, 2) := dk_25 4 (dk_at dksX12_init_1 6 rfl rfl)
theorem dX12_init_30 : decode cX12_init 30 = .ok (.aload_n 1, 1) := dk_43 (dk_at dksX12_init_1 8 rfl rfl)
theorem dX12_init_31 : decode cX12_init 31 = .ok (.aload_n 2, 1) := dk_44 (dk_at dksX12_init_1 9 rfl rfl)
theorem dX12_init_32 : decode cX12_init 32 = .ok (.invokevirtual 32, 3) := dk_182 0 32 (dk_at dksX12_init_1 10 rfl rfl)
theorem dX12_init_35 : decode cX12_init 35 = .ok (.aload 4, 2) := dk_25 4 (dk_at dksX12_init_1 13 rfl rfl)
theorem dX12_init_37 : decode cX12_init 37 = .ok (.getfield 20, 3) := dk_180 0 20 (dk_at dksX12_init_1 15 rfl rfl)
theorem dX12_init_40 : decode cX12_init 40 = .ok (.getfield 36, 3) := dk_180 0 36 (dk_at dksX12_init_1 18 rfl rfl)
theorem dX12_init_43 : decode cX12_init 43 = .ok (.imul, 1) := dk_104 (dk_at dksX12_init_1 21 rfl rfl)
theorem dX12_init_44 : decode cX12_init 44 = .ok (.bipush 100, 2) := dk_16 100 (dk_at dksX12_init_1 22 rfl rfl)
theorem dX12_init_46 : decode cX12_init 46 = .ok (.idiv, 1) := dk_108 (dk_at dksX12_init_2 0 rfl rfl)
theorem dX12_init_47 : decode cX12_init 47 = .ok (.iadd, 1) := dk_96 (dk_at dksX12_init_2 1 rfl rfl)
theorem dX12_init_48 : decode cX12_init 48 = .ok (.putfield 39, 3) := dk_181 0 39 (dk_at dksX12_init_2 2 rfl rfl)
theorem dX12_init_51 : decode cX12_init 51 = .ok (.aload_n 0, 1) := dk_42 (dk_at dksX12_init_2 5 rfl rfl)
theorem dX12_init_52 : decode cX12_init 52 = .ok (.aload_n 3, 1) := dk_45 (dk_at dksX12_init_2 6 rfl rfl)
theorem dX12_init_53 : decode cX12_init 53 = .ok (.aload 4, 2) := dk_25 4 (dk_at dksX12_init_2 7 rfl rfl)
theorem dX12_init_55 : decode cX12_init 55 = .ok (.getfield 20, 3) := dk_180 0 20 (dk_at dksX12_init_2 9 rfl rfl)
theorem dX12_init_58 : decode cX12_init 58 = .ok (.invokevirtual 42, 3) := dk_182 0 42 (dk_at dksX12_init_2 12 rfl rfl)
theorem dX12_init_61 : decode cX12_init 61 = .ok (.putfield 48, 3) := dk_181 0 48 (dk_at dksX12_init_2 15 rfl rfl)
theorem dX12_init_64 : decode cX12_init 64 = .ok (.return_, 1) := dk_177 (dk_at dksX12_init_2 18 rfl rfl)
theorem q183 : (Jvm.Cond.initialized "RideDesk$Call") ∈ lw_all := lw_g (lw_at lw_m1 37 rfl) rfl
theorem q560 : (Jvm.Cond.fieldLinkNest "RideDesk$Call" (26 : Nat) "RideDesk$Rules" "base" "I" "RideDesk") ∈ lw_tbl := lw_at lw_m2 174 rfl
theorem q562 : (Jvm.Cond.fieldLinkNest "RideDesk$Call" (36 : Nat) "RideDesk$Rules" "factor" "I" "RideDesk") ∈ lw_tbl := lw_at lw_m2 176 rfl
theorem q869 : (Jvm.Cond.fieldLinkNest "RideDesk$Call" (20 : Nat) "RideDesk$Plan" "rules" "LRideDesk$Rules;" "RideDesk") ∈ lw_tbl := lw_at lw_m4 3 rfl
theorem q1181 : (Jvm.Cond.selects "RideDesk$Call" ({ cls := "java/lang/Object", name := "getClass", desc := "()Ljava/lang/Class;" } : Jvm.MethodName) ({ cls := "java/lang/Object", name := "getClass", desc := "()Ljava/lang/Class;" } : Jvm.MethodName)) ∈ lw_all := lw_g (lw_at lw_m5 75 rfl) rfl
theorem q1289 : (Jvm.Cond.instantiable "RideDesk$Call" (5 : Nat)) ∈ lw_all := lw_g (lw_at lw_m5 183 rfl) rfl
theorem q1291 : (Jvm.Cond.instanceMethod ({ cls := "RideDesk$Call", name := "<init>", desc := "(LRideDesk$Spot;LRideDesk$Spot;LRideDesk$Kind;LRideDesk$Plan;)V" } : Jvm.MethodName)) ∈ lw_all := lw_g (lw_at lw_m5 185 rfl) rfl
theorem q1292 : (Jvm.Cond.code ({ cls := "RideDesk$Call", name := "<init>", desc := "(LRideDesk$Spot;LRideDesk$Spot;LRideDesk$Kind;LRideDesk$Plan;)V" } : Jvm.MethodName) prog_2_method_1_code (5 : Nat) (Option.none : Option Jvm.ClassFile.FieldType)) ∈ lw_all := lw_g (lw_at lw_m5 186 rfl) rfl
theorem q1293 : (Jvm.Cond.methodLink "RideDesk$Call" (1 : Nat) ({ cls := "java/lang/Object", name := "<init>", desc := "()V" } : Jvm.MethodName)) ∈ lw_all := lw_g (lw_at lw_m5 187 rfl) rfl
theorem q1294 : (Jvm.Cond.methodLink "RideDesk$Call" (32 : Nat) ({ cls := "RideDesk$Plan", name := "way", desc := "(LRideDesk$Spot;LRideDesk$Spot;)I" } : Jvm.MethodName)) ∈ lw_all := lw_g (lw_at lw_m5 188 rfl) rfl
theorem q1295 : (Jvm.Cond.methodLink "RideDesk$Call" (42 : Nat) ({ cls := "RideDesk$Kind", name := "service", desc := "(LRideDesk$Rules;)I" } : Jvm.MethodName)) ∈ lw_all := lw_g (lw_at lw_m5 189 rfl) rfl
theorem q1310 : (Jvm.Cond.fieldLink "RideDesk$Call" (7 : Nat) "RideDesk$Call" "home" "LRideDesk$Spot;") ∈ lw_all := lw_g (lw_at lw_m5 204 rfl) rfl
theorem q1312 : (Jvm.Cond.fieldLink "RideDesk$Call" (13 : Nat) "RideDesk$Call" "goal" "LRideDesk$Spot;") ∈ lw_all := lw_g (lw_at lw_m5 206 rfl) rfl
theorem q1314 : (Jvm.Cond.fieldLink "RideDesk$Call" (16 : Nat) "RideDesk$Call" "kind" "LRideDesk$Kind;") ∈ lw_all := lw_g (lw_at lw_m5 208 rfl) rfl
theorem q1316 : (Jvm.Cond.fieldLink "RideDesk$Call" (39 : Nat) "RideDesk$Call" "limit" "I") ∈ lw_all := lw_g (lw_at lw_m5 210 rfl) rfl
theorem q1318 : (Jvm.Cond.fieldLink "RideDesk$Call" (48 : Nat) "RideDesk$Call" "service" "I") ∈ lw_all := lw_g (lw_at lw_m5 212 rfl) rfl
theorem q1320 : (Jvm.Cond.laysFinal "RideDesk$Call" "RideDesk$Call" "home" "LRideDesk$Spot;") ∈ lw_all := lw_g (lw_at lw_m5 214 rfl) rfl
theorem q1321 : (Jvm.Cond.soleField "RideDesk$Call" "home") ∈ lw_all := lw_g (lw_at lw_m5 215 rfl) rfl
theorem q1322 : (Jvm.Cond.laysFinal "RideDesk$Call" "RideDesk$Call" "goal" "LRideDesk$Spot;") ∈ lw_all := lw_g (lw_at lw_m5 216 rfl) rfl
theorem q1323 : (Jvm.Cond.soleField "RideDesk$Call" "goal") ∈ lw_all := lw_g (lw_at lw_m5 217 rfl) rfl
theorem q1324 : (Jvm.Cond.laysFinal "RideDesk$Call" "RideDesk$Call" "kind" "LRideDesk$Kind;") ∈ lw_all := lw_g (lw_at lw_m5 218 rfl) rfl
theorem q1325 : (Jvm.Cond.soleField "RideDesk$Call" "kind") ∈ lw_all := lw_g (lw_at lw_m5 219 rfl) rfl
theorem q1326 : (Jvm.Cond.laysFinal "RideDesk$Call" "RideDesk$Call" "limit" "I") ∈ lw_all := lw_g (lw_at lw_m5 220 rfl) rfl
theorem q1327 : (Jvm.Cond.soleField "RideDesk$Call" "limit") ∈ lw_all := lw_g (lw_at lw_m5 221 rfl) rfl
theorem q1328 : (Jvm.Cond.laysFinal "RideDesk$Call" "RideDesk$Call" "service" "I") ∈ lw_all := lw_g (lw_at lw_m5 222 rfl) rfl
theorem q1329 : (Jvm.Cond.soleField "RideDesk$Call" "service") ∈ lw_all := lw_g (lw_at lw_m5 223 rfl) rfl
theorem q1330 : (Jvm.Cond.superclass "RideDesk$Call" "java/lang/Object") ∈ lw_all := lw_g (lw_at lw_m5 224 rfl) rfl
theorem q2889 : (Jvm.Cond.castable "RideDesk$Call" "java/lang/Object") ∈ lw_tbl := lw_at lw_m12 103 rfl
theorem in_X12 : ∀ w ∈ wsX120, w ∈ lw_all := lw_in wsX120 [1320, 1322, 1324, 1326, 1328] (by decide +kernel) (by decide +kernel)

/-! RideDesk$Kind$3 -/
set_option maxRecDepth 100000
def RX13 : String := "RideDesk$Kind$3"
abbrev cX13_service : ByteArray := prog_8_method_2_code
def yX13_service : MethodName := ⟨RX13, "service", "(LRideDesk$Rules;)I"⟩
def dkwX13_service_0 : List UInt8 := [178, 0, 7, 43, 182, 0, 13, 172]
abbrev dktX13_service_0 : List UInt8 := dkwX13_service_0 ++ []
theorem dksX13_service_0 : cX13_service.data.toList.drop 0 = dktX13_service_0 := by decide +kernel
theorem dX13_service_0 : decode cX13_service 0 = .ok (.getstatic 7, 3) := dk_178 0 7 (dk_at dksX13_service_0 0 rfl rfl)
theorem dX13_service_3 : decode cX13_service 3 = .ok (.aload_n 1, 1) := dk_43 (dk_at dksX13_service_0 3 rfl rfl)
theorem dX13_service_4 : decode cX13_service 4 = .ok (.invokevirtual 13, 3) := dk_182 0 13 (dk_at dksX13_service_0 4 rfl rfl)
theorem dX13_service_7 : decode cX13_service 7 = .ok (.ireturn, 1) := dk_172 (dk_at dksX13_service_0 7 rfl rfl)
theorem q184 : (Jvm.Cond.initialized "RideDesk$Kind$3") ∈ lw_all := lw_g (lw_at lw_m1 38 rfl) rfl
theorem q1186 : (Jvm.Cond.selects "RideDesk$Kind$3" ({ cls := "java/lang/Object", name := "getClass", desc := "()Ljava/lang/Class;" } : Jvm.MethodName) ({ cls := "java/lang/Object", name := "getClass", desc := "()Ljava/lang/Class;" } : Jvm.MethodName)) ∈ lw_all := lw_g (lw_at lw_m5 80 rfl) rfl
theorem q1304 : (Jvm.Cond.selects "RideDesk$Kind$3" ({ cls := "RideDesk$Kind", name := "service", desc := "(LRideDesk$Rules;)I" } : Jvm.MethodName) ({ cls := "RideDesk$Kind$3", name := "service", desc := "(LRideDesk$Rules;)I" } : Jvm.MethodName)) ∈ lw_all := lw_g (lw_at lw_m5 198 rfl) rfl
theorem q1305 : (Jvm.Cond.instanceMethod ({ cls := "RideDesk$Kind$3", name := "service", desc := "(LRideDesk$Rules;)I" } : Jvm.MethodName)) ∈ lw_all := lw_g (lw_at lw_m5 199 rfl) rfl
theorem q1306 : (Jvm.Cond.code ({ cls := "RideDesk$Kind$3", name := "service", desc := "(LRideDesk$Rules;)I" } : Jvm.MethodName) prog_8_method_2_code (2 : Nat) (Option.some Jvm.ClassFile.FieldType.int)) ∈ lw_all := lw_g (lw_at lw_m5 200 rfl) rfl
theorem q1307 : (Jvm.Cond.fieldLink "RideDesk$Kind$3" (7 : Nat) "RideDesk$Kind$3" "CHAIR" "LRideDesk$Kind;") ∈ lw_all := lw_g (lw_at lw_m5 201 rfl) rfl
theorem q1308 : (Jvm.Cond.sameField "RideDesk$Kind$3" "RideDesk$Kind" "CHAIR" "LRideDesk$Kind;") ∈ lw_all := lw_g (lw_at lw_m5 202 rfl) rfl
theorem q1309 : (Jvm.Cond.methodLink "RideDesk$Kind$3" (13 : Nat) ({ cls := "RideDesk$Kind", name := "service", desc := "(LRideDesk$Rules;)I" } : Jvm.MethodName)) ∈ lw_all := lw_g (lw_at lw_m5 203 rfl) rfl
theorem q2911 : (Jvm.Cond.castable "RideDesk$Kind$3" "java/lang/Object") ∈ lw_tbl := lw_at lw_m12 125 rfl
theorem q2920 : (Jvm.Cond.castable "RideDesk$Kind$3" "RideDesk$Kind") ∈ lw_tbl := lw_at lw_m12 134 rfl

/-! RideDesk$State -/
set_option maxRecDepth 100000
def RX14 : String := "RideDesk$State"
def TX14 : u_T := fun k => match k with
  | 0 => ("RideDesk$State", "routes", "[LRideDesk$Route;", false)
  | 1 => ("RideDesk$State", "until", "[I", false)
  | 2 => ("RideDesk$State", "state", "[I", false)
  | 3 => ("RideDesk$State", "ready", "[I", false)
  | 4 => ("RideDesk$State", "promise", "[I", false)
  | 5 => ("RideDesk$State", "credit", "[I", false)
  | 6 => ("RideDesk$State", "calls", "[LRideDesk$Call;", false)
  | 7 => ("RideDesk$State", "callCount", "I", false)
  | _ => ("RideDesk$State", "clock", "I", false)
def tyX14 : Nat → FieldType := fun k => match k with
  | 0 => .array (.object "RideDesk$Route")
  | 1 => .array .int
  | 2 => .array .int
  | 3 => .array .int
  | 4 => .array .int
  | 5 => .array .int
  | 6 => .array (.object "RideDesk$Call")
  | 7 => .int
  | _ => .int
abbrev wsX140 : List Cond := u_ws RX14 TX14 9
theorem nmX14 : ∀ a, a < 9 → ∀ b, b < 9 → a ≠ b → (TX14 a).2.1 ≠ (TX14 b).2.1 := by decide +kernel
theorem tyX14_ok : ∀ k, k < 9 → parseFieldDescriptor (TX14 k).2.2.1 = some (tyX14 k) := by decide +kernel
abbrev cX14_first : ByteArray := prog_17_method_3_code
def yX14_first : MethodName := ⟨RX14, "first", "(LRideDesk$Plan;)LRideDesk$State;"⟩
def dkwX14_first_3 : List UInt8 := [167, 255, 196, 43, 176]
abbrev dktX14_first_3 : List UInt8 := dkwX14_first_3 ++ []
def dkwX14_first_2 : List UInt8 := [180, 0, 58, 28, 185, 0, 70, 2, 0, 192, 0, 74, 180, 0, 76, 167, 0, 4, 3, 79, 132, 2, 1]
abbrev dktX14_first_2 : List UInt8 := dkwX14_first_2 ++ dktX14_first_3
def dkwX14_first_1 : List UInt8 := [183, 0, 57, 83, 43, 180, 0, 17, 28, 28, 42, 180, 0, 58, 185, 0, 64, 1, 0, 162, 0, 22, 42]
abbrev dktX14_first_1 : List UInt8 := dkwX14_first_1 ++ dktX14_first_2
def dkwX14_first_0 : List UInt8 := [187, 0, 12, 89, 183, 0, 39, 76, 3, 61, 28, 7, 162, 0, 61, 43, 180, 0, 11, 28, 187, 0, 9, 89]
abbrev dktX14_first_0 : List UInt8 := dkwX14_first_0 ++ dktX14_first_1
theorem dksX14_first_0 : cX14_first.data.toList.drop 0 = dktX14_first_0 := by decide +kernel
theorem dksX14_first_1 : cX14_first.data.toList.drop 24 = dktX14_first_1 := dk_seg dksX14_first_0 24 rfl rfl
theorem dksX14_first_2 : cX14_first.data.toList.drop 47 = dktX14_first_2 := dk_seg dksX14_first_1 23 rfl rfl
theorem dksX14_first_3 : cX14_first.data.toList.drop 70 = dktX14_first_3 := dk_seg dksX14_first_2 23 rfl rfl
theorem dX14_first_0 : decode cX14_first 0 = .ok (.new 12, 3) := dk_187 0 12 (dk_at dksX14_first_0 0 rfl rfl)
theorem dX14_first_3 : decode cX14_first 3 = .ok (.dup, 1) := dk_89 (dk_at dksX14_first_0 3 rfl rfl)
theorem dX14_first_4 : decode cX14_first 4 = .ok (.invokespecial 39, 3) := dk_183 0 39 (dk_at dksX14_first_0 4 rfl rfl)
theorem dX14_first_7 : decode cX14_first 7 = .ok (.astore_n 1, 1) := dk_76 (dk_at dksX14_first_0 7 rfl rfl)
theorem dX14_first_8 : decode cX14_first 8 = .ok (.iconst 0, 1) := dk_3 (dk_at dksX14_first_0 8 rfl rfl)
theorem dX14_first_9 : decode cX14_first 9 = .ok (.istore_n 2, 1) := dk_61 (dk_at dksX14_first_0 9 rfl rfl)
theorem dX14_first_10 : decode cX14_first 10 = .ok (.iload_n 2, 1) := dk_28 (dk_at dksX14_first_0 10 rfl rfl)
theorem dX14_first_11 : decode cX14_first 11 = .ok (.iconst 4, 1) := dk_7 (dk_at dksX14_first_0 11 rfl rfl)
theorem dX14_first_12 : decode cX14_first 12 = .ok (.if_icmp .ge 61, 3) := dk_162 0 61 (dk_at dksX14_first_0 12 rfl rfl)
theorem dX14_first_15 : decode cX14_first 15 = .ok (.aload_n 1, 1) := dk_43 (dk_at dksX14_first_0 15 rfl rfl)
theorem dX14_first_16 : decode cX14_first 16 = .ok (.getfield 11, 3) := dk_180 0 11 (dk_at dksX14_first_0 16 rfl rfl)
theorem dX14_first_19 : decode cX14_first 19 = .ok (.iload_n 2, 1) := dk_28 (dk_at dksX14_first_0 19 rfl rfl)
theorem dX14_first_20 : decode cX14_first 20 = .ok (.new 9, 3) := dk_187 0 9 (dk_at dksX14_first_0 20 rfl rfl)
theorem dX14_first_23 : decode cX14_first 23 = .ok (.dup, 1) := dk_89 (dk_at dksX14_first_0 23 rfl rfl)
theorem dX14_first_24 : decode cX14_first 24 = .ok (.invokespecial 57, 3) := dk_183 0 57 (dk_at dksX14_first_1 0 rfl rfl)
theorem dX14_first_27 : decode cX14_first 27 = .ok (.aastore, 1) := dk_83 (dk_at dksX14_first_1 3 rfl rfl)
theorem dX14_first_28 : decode cX14_first 28 = .ok (.aload_n 1, 1) := dk_43 (dk_at dksX14_first_1 4 rfl rfl)
theorem dX14_first_29 : decode cX14_first 29 = .ok (.getfield 17, 3) := dk_180 0 17 (dk_at dksX14_first_1 5 rfl rfl)
theorem dX14_first_32 : decode cX14_first 32 = .ok (.iload_n 2, 1) := dk_28 (dk_at dksX14_first_1 8 rfl rfl)
theorem dX14_first_33 : decode cX14_first 33 = .ok (.iload_n 2, 1) := dk_28 (dk_at dksX14_first_1 9 rfl rfl)
theorem dX14_first_34 : decode cX14_first 34 = .ok (.aload_n 0, 1) := dk_42 (dk_at dksX14_first_1 10 rfl rfl)
theorem dX14_first_35 : decode cX14_first 35 = .ok (.getfield 58, 3) := dk_180 0 58 (dk_at dksX14_first_1 11 rfl rfl)
theorem dX14_first_38 : decode cX14_first 38 = .ok (.invokeinterface 64 1, 5) := by decide +kernel
theorem dX14_first_43 : decode cX14_first 43 = .ok (.if_icmp .ge 22, 3) := dk_162 0 22 (dk_at dksX14_first_1 19 rfl rfl)
theorem dX14_first_46 : decode cX14_first 46 = .ok (.aload_n 0, 1) := dk_42 (dk_at dksX14_first_1 22 rfl rfl)
theorem dX14_first_47 : decode cX14_first 47 = .ok (.getfield 58, 3) := dk_180 0 58 (dk_at dksX14_first_2 0 rfl rfl)
theorem dX14_first_50 : decode cX14_first 50 = .ok (.iload_n 2, 1) := dk_28 (dk_at dksX14_first_2 3 rfl rfl)
theorem dX14_first_51 : decode cX14_first 51 = .ok (.invokeinterface 70 2, 5) := by decide +kernel
theorem dX14_first_56 : decode cX14_first 56 = .ok (.checkcast 74, 3) := dk_192 0 74 (dk_at dksX14_first_2 9 rfl rfl)
theorem dX14_first_59 : decode cX14_first 59 = .ok (.getfield 76, 3) := dk_180 0 76 (dk_at dksX14_first_2 12 rfl rfl)
theorem dX14_first_62 : decode cX14_first 62 = .ok (.goto 4, 3) := dk_167 0 4 (dk_at dksX14_first_2 15 rfl rfl)
theorem dX14_first_65 : decode cX14_first 65 = .ok (.iconst 0, 1) := dk_3 (dk_at dksX14_first_2 18 rfl rfl)
theorem dX14_first_66 : decode cX14_first 66 = .ok (.iastore, 1) := dk_79 (dk_at dksX14_first_2 19 rfl rfl)
theorem dX14_first_67 : decode cX14_first 67 = .ok (.iinc 2 1, 3) := dk_132 2 1 (dk_at dksX14_first_2 20 rfl rfl)
theorem dX14_first_70 : decode cX14_first 70 = .ok (.goto (-60), 3) := dk_167 255 196 (dk_at dksX14_first_3 0 rfl rfl)
theorem dX14_first_73 : decode cX14_first 73 = .ok (.aload_n 1, 1) := dk_43 (dk_at dksX14_first_3 3 rfl rfl)
theorem dX14_first_74 : decode cX14_first 74 = .ok (.areturn, 1) := dk_176 (dk_at dksX14_first_3 4 rfl rfl)
abbrev cX14_init : ByteArray := prog_17_method_1_code
def yX14_init : MethodName := ⟨RX14, "<init>", "()V"⟩
def dkwX14_init_2 : List UInt8 := [181, 0, 30, 42, 16, 25, 189, 0, 33, 181, 0, 35, 177]
abbrev dktX14_init_2 : List UInt8 := dkwX14_init_2 ++ []
def dkwX14_init_1 : List UInt8 := [181, 0, 21, 42, 16, 25, 188, 10, 181, 0, 24, 42, 16, 25, 188, 10, 181, 0, 27, 42, 16, 25, 188, 10]
abbrev dktX14_init_1 : List UInt8 := dkwX14_init_1 ++ dktX14_init_2
def dkwX14_init_0 : List UInt8 := [42, 183, 0, 3, 42, 7, 189, 0, 9, 181, 0, 11, 42, 7, 188, 10, 181, 0, 17, 42, 16, 25, 188, 10]
abbrev dktX14_init_0 : List UInt8 := dkwX14_init_0 ++ dktX14_init_1
theorem dksX14_init_0 : cX14_init.data.toList.drop 0 = dktX14_init_0 := by decide +kernel
theorem dksX14_init_1 : cX14_init.data.toList.drop 24 = dktX14_init_1 := dk_seg dksX14_init_0 24 rfl rfl
theorem dksX14_init_2 : cX14_init.data.toList.drop 48 = dktX14_init_2 := dk_seg dksX14_init_1 24 rfl rfl
theorem dX14_init_0 : decode cX14_init 0 = .ok (.aload_n 0, 1) := dk_42 (dk_at dksX14_init_0 0 rfl rfl)
theorem dX14_init_1 : decode cX14_init 1 = .ok (.invokespecial 3, 3) := dk_183 0 3 (dk_at dksX14_init_0 1 rfl rfl)
theorem dX14_init_4 : decode cX14_init 4 = .ok (.aload_n 0, 1) := dk_42 (dk_at dksX14_init_0 4 rfl rfl)
theorem dX14_init_5 : decode cX14_init 5 = .ok (.iconst 4, 1) := dk_7 (dk_at dksX14_init_0 5 rfl rfl)
theorem dX14_init_6 : decode cX14_init 6 = .ok (.anewarray 9, 3) := dk_189 0 9 (dk_at dksX14_init_0 6 rfl rfl)
theorem dX14_init_9 : decode cX14_init 9 = .ok (.putfield 11, 3) := dk_181 0 11 (dk_at dksX14_init_0 9 rfl rfl)
theorem dX14_init_12 : decode cX14_init 12 = .ok (.aload_n 0, 1) := dk_42 (dk_at dksX14_init_0 12 rfl rfl)
theorem dX14_init_13 : decode cX14_init 13 = .ok (.iconst 4, 1) := dk_7 (dk_at dksX14_init_0 13 rfl rfl)
theorem dX14_init_14 : decode cX14_init 14 = .ok (.newarray .int, 2) := dk_188_10 (dk_at dksX14_init_0 14 rfl rfl)
theorem dX14_init_16 : decode cX14_init 16 = .ok (.putfield 17, 3) := dk_181 0 17 (dk_at dksX14_init_0 16 rfl rfl)
theorem dX14_init_19 : decode cX14_init 19 = .ok (.aload_n 0, 1) := dk_42 (dk_at dksX14_init_0 19 rfl rfl)
theorem dX14_init_20 : decode cX14_init 20 = .ok (.bipush 25, 2) := dk_16 25 (dk_at dksX14_init_0 20 rfl rfl)
theorem dX14_init_22 : decode cX14_init 22 = .ok (.newarray .int, 2) := dk_188_10 (dk_at dksX14_init_0 22 rfl rfl)
theorem dX14_init_24 : decode cX14_init 24 = .ok (.putfield 21, 3) := dk_181 0 21 (dk_at dksX14_init_1 0 rfl rfl)
theorem dX14_init_27 : decode cX14_init 27 = .ok (.aload_n 0, 1) := dk_42 (dk_at dksX14_init_1 3 rfl rfl)
theorem dX14_init_28 : decode cX14_init 28 = .ok (.bipush 25, 2) := dk_16 25 (dk_at dksX14_init_1 4 rfl rfl)
theorem dX14_init_30 : decode cX14_init 30 = .ok (.newarray .int, 2) := dk_188_10 (dk_at dksX14_init_1 6 rfl rfl)
theorem dX14_init_32 : decode cX14_init 32 = .ok (.putfield 24, 3) := dk_181 0 24 (dk_at dksX14_init_1 8 rfl rfl)
theorem dX14_init_35 : decode cX14_init 35 = .ok (.aload_n 0, 1) := dk_42 (dk_at dksX14_init_1 11 rfl rfl)
theorem dX14_init_36 : decode cX14_init 36 = .ok (.bipush 25, 2) := dk_16 25 (dk_at dksX14_init_1 12 rfl rfl)
theorem dX14_init_38 : decode cX14_init 38 = .ok (.newarray .int, 2) := dk_188_10 (dk_at dksX14_init_1 14 rfl rfl)
theorem dX14_init_40 : decode cX14_init 40 = .ok (.putfield 27, 3) := dk_181 0 27 (dk_at dksX14_init_1 16 rfl rfl)
theorem dX14_init_43 : decode cX14_init 43 = .ok (.aload_n 0, 1) := dk_42 (dk_at dksX14_init_1 19 rfl rfl)
theorem dX14_init_44 : decode cX14_init 44 = .ok (.bipush 25, 2) := dk_16 25 (dk_at dksX14_init_1 20 rfl rfl)
theorem dX14_init_46 : decode cX14_init 46 = .ok (.newarray .int, 2) := dk_188_10 (dk_at dksX14_init_1 22 rfl rfl)
theorem dX14_init_48 : decode cX14_init 48 = .ok (.putfield 30, 3) := dk_181 0 30 (dk_at dksX14_init_2 0 rfl rfl)
theorem dX14_init_51 : decode cX14_init 51 = .ok (.aload_n 0, 1) := dk_42 (dk_at dksX14_init_2 3 rfl rfl)
theorem dX14_init_52 : decode cX14_init 52 = .ok (.bipush 25, 2) := dk_16 25 (dk_at dksX14_init_2 4 rfl rfl)
theorem dX14_init_54 : decode cX14_init 54 = .ok (.anewarray 33, 3) := dk_189 0 33 (dk_at dksX14_init_2 6 rfl rfl)
theorem dX14_init_57 : decode cX14_init 57 = .ok (.putfield 35, 3) := dk_181 0 35 (dk_at dksX14_init_2 9 rfl rfl)
theorem dX14_init_60 : decode cX14_init 60 = .ok (.return_, 1) := dk_177 (dk_at dksX14_init_2 12 rfl rfl)
abbrev cX14_copy : ByteArray := prog_17_method_2_code
def yX14_copy : MethodName := ⟨RX14, "copy", "()LRideDesk$State;"⟩
def dkwX14_copy_6 : List UInt8 := [184, 0, 51, 42, 180, 0, 35, 3, 43, 180, 0, 35, 3, 42, 180, 0, 35, 190, 184, 0, 51, 43, 176]
abbrev dktX14_copy_6 : List UInt8 := dkwX14_copy_6 ++ []
def dkwX14_copy_5 : List UInt8 := [180, 0, 27, 190, 184, 0, 51, 42, 180, 0, 30, 3, 43, 180, 0, 30, 3, 42, 180, 0, 30, 190]
abbrev dktX14_copy_5 : List UInt8 := dkwX14_copy_5 ++ dktX14_copy_6
def dkwX14_copy_4 : List UInt8 := [180, 0, 24, 3, 42, 180, 0, 24, 190, 184, 0, 51, 42, 180, 0, 27, 3, 43, 180, 0, 27, 3, 42]
abbrev dktX14_copy_4 : List UInt8 := dkwX14_copy_4 ++ dktX14_copy_5
def dkwX14_copy_3 : List UInt8 := [42, 180, 0, 21, 3, 43, 180, 0, 21, 3, 42, 180, 0, 21, 190, 184, 0, 51, 42, 180, 0, 24, 3, 43]
abbrev dktX14_copy_3 : List UInt8 := dkwX14_copy_3 ++ dktX14_copy_4
def dkwX14_copy_2 : List UInt8 := [132, 2, 1, 167, 255, 233, 42, 180, 0, 17, 3, 43, 180, 0, 17, 3, 42, 180, 0, 17, 190, 184, 0, 51]
abbrev dktX14_copy_2 : List UInt8 := dkwX14_copy_2 ++ dktX14_copy_3
def dkwX14_copy_1 : List UInt8 := [3, 61, 28, 7, 162, 0, 24, 43, 180, 0, 11, 28, 42, 180, 0, 11, 28, 50, 182, 0, 47, 83]
abbrev dktX14_copy_1 : List UInt8 := dkwX14_copy_1 ++ dktX14_copy_2
def dkwX14_copy_0 : List UInt8 := [187, 0, 12, 89, 183, 0, 39, 76, 43, 42, 180, 0, 40, 181, 0, 40, 43, 42, 180, 0, 44, 181, 0, 44]
abbrev dktX14_copy_0 : List UInt8 := dkwX14_copy_0 ++ dktX14_copy_1
theorem dksX14_copy_0 : cX14_copy.data.toList.drop 0 = dktX14_copy_0 := by decide +kernel
theorem dksX14_copy_1 : cX14_copy.data.toList.drop 24 = dktX14_copy_1 := dk_seg dksX14_copy_0 24 rfl rfl
theorem dksX14_copy_2 : cX14_copy.data.toList.drop 46 = dktX14_copy_2 := dk_seg dksX14_copy_1 22 rfl rfl
theorem dksX14_copy_3 : cX14_copy.data.toList.drop 70 = dktX14_copy_3 := dk_seg dksX14_copy_2 24 rfl rfl
theorem dksX14_copy_4 : cX14_copy.data.toList.drop 94 = dktX14_copy_4 := dk_seg dksX14_copy_3 24 rfl rfl
theorem dksX14_copy_5 : cX14_copy.data.toList.drop 117 = dktX14_copy_5 := dk_seg dksX14_copy_4 23 rfl rfl
theorem dksX14_copy_6 : cX14_copy.data.toList.drop 139 = dktX14_copy_6 := dk_seg dksX14_copy_5 22 rfl rfl
theorem dX14_copy_0 : decode cX14_copy 0 = .ok (.new 12, 3) := dk_187 0 12 (dk_at dksX14_copy_0 0 rfl rfl)
theorem dX14_copy_3 : decode cX14_copy 3 = .ok (.dup, 1) := dk_89 (dk_at dksX14_copy_0 3 rfl rfl)
theorem dX14_copy_4 : decode cX14_copy 4 = .ok (.invokespecial 39, 3) := dk_183 0 39 (dk_at dksX14_copy_0 4 rfl rfl)
theorem dX14_copy_7 : decode cX14_copy 7 = .ok (.astore_n 1, 1) := dk_76 (dk_at dksX14_copy_0 7 rfl rfl)
theorem dX14_copy_8 : decode cX14_copy 8 = .ok (.aload_n 1, 1) := dk_43 (dk_at dksX14_copy_0 8 rfl rfl)
theorem dX14_copy_9 : decode cX14_copy 9 = .ok (.aload_n 0, 1) := dk_42 (dk_at dksX14_copy_0 9 rfl rfl)
theorem dX14_copy_10 : decode cX14_copy 10 = .ok (.getfield 40, 3) := dk_180 0 40 (dk_at dksX14_copy_0 10 rfl rfl)
theorem dX14_copy_13 : decode cX14_copy 13 = .ok (.putfield 40, 3) := dk_181 0 40 (dk_at dksX14_copy_0 13 rfl rfl)
theorem dX14_copy_16 : decode cX14_copy 16 = .ok (.aload_n 1, 1) := dk_43 (dk_at dksX14_copy_0 16 rfl rfl)
theorem dX14_copy_17 : decode cX14_copy 17 = .ok (.aload_n 0, 1) := dk_42 (dk_at dksX14_copy_0 17 rfl rfl)
theorem dX14_copy_18 : decode cX14_copy 18 = .ok (.getfield 44, 3) := dk_180 0 44 (dk_at dksX14_copy_0 18 rfl rfl)
theorem dX14_copy_21 : decode cX14_copy 21 = .ok (.putfield 44, 3) := dk_181 0 44 (dk_at dksX14_copy_0 21 rfl rfl)
theorem dX14_copy_24 : decode cX14_copy 24 = .ok (.iconst 0, 1) := dk_3 (dk_at dksX14_copy_1 0 rfl rfl)
theorem dX14_copy_25 : decode cX14_copy 25 = .ok (.istore_n 2, 1) := dk_61 (dk_at dksX14_copy_1 1 rfl rfl)
theorem dX14_copy_26 : decode cX14_copy 26 = .ok (.iload_n 2, 1) := dk_28 (dk_at dksX14_copy_1 2 rfl rfl)
theorem dX14_copy_27 : decode cX14_copy 27 = .ok (.iconst 4, 1) := dk_7 (dk_at dksX14_copy_1 3 rfl rfl)
theorem dX14_copy_28 : decode cX14_copy 28 = .ok (.if_icmp .ge 24, 3) := dk_162 0 24 (dk_at dksX14_copy_1 4 rfl rfl)
theorem dX14_copy_31 : decode cX14_copy 31 = .ok (.aload_n 1, 1) := dk_43 (dk_at dksX14_copy_1 7 rfl rfl)
theorem dX14_copy_32 : decode cX14_copy 32 = .ok (.getfield 11, 3) := dk_180 0 11 (dk_at dksX14_copy_1 8 rfl rfl)
theorem dX14_copy_35 : decode cX14_copy 35 = .ok (.iload_n 2, 1) := dk_28 (dk_at dksX14_copy_1 11 rfl rfl)
theorem dX14_copy_36 : decode cX14_copy 36 = .ok (.aload_n 0, 1) := dk_42 (dk_at dksX14_copy_1 12 rfl rfl)
theorem dX14_copy_37 : decode cX14_copy 37 = .ok (.getfield 11, 3) := dk_180 0 11 (dk_at dksX14_copy_1 13 rfl rfl)
theorem dX14_copy_40 : decode cX14_copy 40 = .ok (.iload_n 2, 1) := dk_28 (dk_at dksX14_copy_1 16 rfl rfl)
theorem dX14_copy_41 : decode cX14_copy 41 = .ok (.aaload, 1) := dk_50 (dk_at dksX14_copy_1 17 rfl rfl)
theorem dX14_copy_42 : decode cX14_copy 42 = .ok (.invokevirtual 47, 3) := dk_182 0 47 (dk_at dksX14_copy_1 18 rfl rfl)
theorem dX14_copy_45 : decode cX14_copy 45 = .ok (.aastore, 1) := dk_83 (dk_at dksX14_copy_1 21 rfl rfl)
theorem dX14_copy_46 : decode cX14_copy 46 = .ok (.iinc 2 1, 3) := dk_132 2 1 (dk_at dksX14_copy_2 0 rfl rfl)
theorem dX14_copy_49 : decode cX14_copy 49 = .ok (.goto (-23), 3) := dk_167 255 233 (dk_at dksX14_copy_2 3 rfl rfl)
theorem dX14_copy_52 : decode cX14_copy 52 = .ok (.aload_n 0, 1) := dk_42 (dk_at dksX14_copy_2 6 rfl rfl)
theorem dX14_copy_53 : decode cX14_copy 53 = .ok (.getfield 17, 3) := dk_180 0 17 (dk_at dksX14_copy_2 7 rfl rfl)
theorem dX14_copy_56 : decode cX14_copy 56 = .ok (.iconst 0, 1) := dk_3 (dk_at dksX14_copy_2 10 rfl rfl)
theorem dX14_copy_57 : decode cX14_copy 57 = .ok (.aload_n 1, 1) := dk_43 (dk_at dksX14_copy_2 11 rfl rfl)
theorem dX14_copy_58 : decode cX14_copy 58 = .ok (.getfield 17, 3) := dk_180 0 17 (dk_at dksX14_copy_2 12 rfl rfl)
theorem dX14_copy_61 : decode cX14_copy 61 = .ok (.iconst 0, 1) := dk_3 (dk_at dksX14_copy_2 15 rfl rfl)
theorem dX14_copy_62 : decode cX14_copy 62 = .ok (.aload_n 0, 1) := dk_42 (dk_at dksX14_copy_2 16 rfl rfl)
theorem dX14_copy_63 : decode cX14_copy 63 = .ok (.getfield 17, 3) := dk_180 0 17 (dk_at dksX14_copy_2 17 rfl rfl)
theorem dX14_copy_66 : decode cX14_copy 66 = .ok (.arraylength, 1) := dk_190 (dk_at dksX14_copy_2 20 rfl rfl)
theorem dX14_copy_67 : decode cX14_copy 67 = .ok (.invokestatic 51, 3) := dk_184 0 51 (dk_at dksX14_copy_2 21 rfl rfl)
theorem dX14_copy_70 : decode cX14_copy 70 = .ok (.aload_n 0, 1) := dk_42 (dk_at dksX14_copy_3 0 rfl rfl)
theorem dX14_copy_71 : decode cX14_copy 71 = .ok (.getfield 21, 3) := dk_180 0 21 (dk_at dksX14_copy_3 1 rfl rfl)
theorem dX14_copy_74 : decode cX14_copy 74 = .ok (.iconst 0, 1) := dk_3 (dk_at dksX14_copy_3 4 rfl rfl)
theorem dX14_copy_75 : decode cX14_copy 75 = .ok (.aload_n 1, 1) := dk_43 (dk_at dksX14_copy_3 5 rfl rfl)
theorem dX14_copy_76 : decode cX14_copy 76 = .ok (.getfield 21, 3) := dk_180 0 21 (dk_at dksX14_copy_3 6 rfl rfl)
theorem dX14_copy_79 : decode cX14_copy 79 = .ok (.iconst 0, 1) := dk_3 (dk_at dksX14_copy_3 9 rfl rfl)
theorem dX14_copy_80 : decode cX14_copy 80 = .ok (.aload_n 0, 1) := dk_42 (dk_at dksX14_copy_3 10 rfl rfl)
theorem dX14_copy_81 : decode cX14_copy 81 = .ok (.getfield 21, 3) := dk_180 0 21 (dk_at dksX14_copy_3 11 rfl rfl)
theorem dX14_copy_84 : decode cX14_copy 84 = .ok (.arraylength, 1) := dk_190 (dk_at dksX14_copy_3 14 rfl rfl)
theorem dX14_copy_85 : decode cX14_copy 85 = .ok (.invokestatic 51, 3) := dk_184 0 51 (dk_at dksX14_copy_3 15 rfl rfl)
theorem dX14_copy_88 : decode cX14_copy 88 = .ok (.aload_n 0, 1) := dk_42 (dk_at dksX14_copy_3 18 rfl rfl)
theorem dX14_copy_89 : decode cX14_copy 89 = .ok (.getfield 24, 3) := dk_180 0 24 (dk_at dksX14_copy_3 19 rfl rfl)
theorem dX14_copy_92 : decode cX14_copy 92 = .ok (.iconst 0, 1) := dk_3 (dk_at dksX14_copy_3 22 rfl rfl)
theorem dX14_copy_93 : decode cX14_copy 93 = .ok (.aload_n 1, 1) := dk_43 (dk_at dksX14_copy_3 23 rfl rfl)
theorem dX14_copy_94 : decode cX14_copy 94 = .ok (.getfield 24, 3) := dk_180 0 24 (dk_at dksX14_copy_4 0 rfl rfl)
theorem dX14_copy_97 : decode cX14_copy 97 = .ok (.iconst 0, 1) := dk_3 (dk_at dksX14_copy_4 3 rfl rfl)
theorem dX14_copy_98 : decode cX14_copy 98 = .ok (.aload_n 0, 1) := dk_42 (dk_at dksX14_copy_4 4 rfl rfl)
theorem dX14_copy_99 : decode cX14_copy 99 = .ok (.getfield 24, 3) := dk_180 0 24 (dk_at dksX14_copy_4 5 rfl rfl)
theorem dX14_copy_102 : decode cX14_copy 102 = .ok (.arraylength, 1) := dk_190 (dk_at dksX14_copy_4 8 rfl rfl)
theorem dX14_copy_103 : decode cX14_copy 103 = .ok (.invokestatic 51, 3) := dk_184 0 51 (dk_at dksX14_copy_4 9 rfl rfl)
theorem dX14_copy_106 : decode cX14_copy 106 = .ok (.aload_n 0, 1) := dk_42 (dk_at dksX14_copy_4 12 rfl rfl)
theorem dX14_copy_107 : decode cX14_copy 107 = .ok (.getfield 27, 3) := dk_180 0 27 (dk_at dksX14_copy_4 13 rfl rfl)
theorem dX14_copy_110 : decode cX14_copy 110 = .ok (.iconst 0, 1) := dk_3 (dk_at dksX14_copy_4 16 rfl rfl)
theorem dX14_copy_111 : decode cX14_copy 111 = .ok (.aload_n 1, 1) := dk_43 (dk_at dksX14_copy_4 17 rfl rfl)
theorem dX14_copy_112 : decode cX14_copy 112 = .ok (.getfield 27, 3) := dk_180 0 27 (dk_at dksX14_copy_4 18 rfl rfl)
theorem dX14_copy_115 : decode cX14_copy 115 = .ok (.iconst 0, 1) := dk_3 (dk_at dksX14_copy_4 21 rfl rfl)
theorem dX14_copy_116 : decode cX14_copy 116 = .ok (.aload_n 0, 1) := dk_42 (dk_at dksX14_copy_4 22 rfl rfl)
theorem dX14_copy_117 : decode cX14_copy 117 = .ok (.getfield 27, 3) := dk_180 0 27 (dk_at dksX14_copy_5 0 rfl rfl)
theorem dX14_copy_120 : decode cX14_copy 120 = .ok (.arraylength, 1) := dk_190 (dk_at dksX14_copy_5 3 rfl rfl)
theorem dX14_copy_121 : decode cX14_copy 121 = .ok (.invokestatic 51, 3) := dk_184 0 51 (dk_at dksX14_copy_5 4 rfl rfl)
theorem dX14_copy_124 : decode cX14_copy 124 = .ok (.aload_n 0, 1) := dk_42 (dk_at dksX14_copy_5 7 rfl rfl)
theorem dX14_copy_125 : decode cX14_copy 125 = .ok (.getfield 30, 3) := dk_180 0 30 (dk_at dksX14_copy_5 8 rfl rfl)
theorem dX14_copy_128 : decode cX14_copy 128 = .ok (.iconst 0, 1) := dk_3 (dk_at dksX14_copy_5 11 rfl rfl)
theorem dX14_copy_129 : decode cX14_copy 129 = .ok (.aload_n 1, 1) := dk_43 (dk_at dksX14_copy_5 12 rfl rfl)
theorem dX14_copy_130 : decode cX14_copy 130 = .ok (.getfield 30, 3) := dk_180 0 30 (dk_at dksX14_copy_5 13 rfl rfl)
theorem dX14_copy_133 : decode cX14_copy 133 = .ok (.iconst 0, 1) := dk_3 (dk_at dksX14_copy_5 16 rfl rfl)
theorem dX14_copy_134 : decode cX14_copy 134 = .ok (.aload_n 0, 1) := dk_42 (dk_at dksX14_copy_5 17 rfl rfl)
theorem dX14_copy_135 : decode cX14_copy 135 = .ok (.getfield 30, 3) := dk_180 0 30 (dk_at dksX14_copy_5 18 rfl rfl)
theorem dX14_copy_138 : decode cX14_copy 138 = .ok (.arraylength, 1) := dk_190 (dk_at dksX14_copy_5 21 rfl rfl)
theorem dX14_copy_139 : decode cX14_copy 139 = .ok (.invokestatic 51, 3) := dk_184 0 51 (dk_at dksX14_copy_6 0 rfl rfl)
theorem dX14_copy_142 : decode cX14_copy 142 = .ok (.aload_n 0, 1) := dk_42 (dk_at dksX14_copy_6 3 rfl rfl)
theorem dX14_copy_143 : decode cX14_copy 143 = .ok (.getfield 35, 3) := dk_180 0 35 (dk_at dksX14_copy_6 4 rfl rfl)
theorem dX14_copy_146 : decode cX14_copy 146 = .ok (.iconst 0, 1) := dk_3 (dk_at dksX14_copy_6 7 rfl rfl)
theorem dX14_copy_147 : decode cX14_copy 147 = .ok (.aload_n 1, 1) := dk_43 (dk_at dksX14_copy_6 8 rfl rfl)
theorem dX14_copy_148 : decode cX14_copy 148 = .ok (.getfield 35, 3) := dk_180 0 35 (dk_at dksX14_copy_6 9 rfl rfl)
theorem dX14_copy_151 : decode cX14_copy 151 = .ok (.iconst 0, 1) := dk_3 (dk_at dksX14_copy_6 12 rfl rfl)
theorem dX14_copy_152 : decode cX14_copy 152 = .ok (.aload_n 0, 1) := dk_42 (dk_at dksX14_copy_6 13 rfl rfl)
theorem dX14_copy_153 : decode cX14_copy 153 = .ok (.getfield 35, 3) := dk_180 0 35 (dk_at dksX14_copy_6 14 rfl rfl)
theorem dX14_copy_156 : decode cX14_copy 156 = .ok (.arraylength, 1) := dk_190 (dk_at dksX14_copy_6 17 rfl rfl)
theorem dX14_copy_157 : decode cX14_copy 157 = .ok (.invokestatic 51, 3) := dk_184 0 51 (dk_at dksX14_copy_6 18 rfl rfl)
theorem dX14_copy_160 : decode cX14_copy 160 = .ok (.aload_n 1, 1) := dk_43 (dk_at dksX14_copy_6 21 rfl rfl)
theorem dX14_copy_161 : decode cX14_copy 161 = .ok (.areturn, 1) := dk_176 (dk_at dksX14_copy_6 22 rfl rfl)
theorem q185 : (Jvm.Cond.initialized "RideDesk$State") ∈ lw_all := lw_g (lw_at lw_m1 39 rfl) rfl
theorem q876 : (Jvm.Cond.fieldLinkNest "RideDesk$State" (58 : Nat) "RideDesk$Plan" "vans" "Ljava/util/List;" "RideDesk") ∈ lw_tbl := lw_at lw_m4 10 rfl
theorem q1195 : (Jvm.Cond.selects "RideDesk$State" ({ cls := "java/lang/Object", name := "getClass", desc := "()Ljava/lang/Class;" } : Jvm.MethodName) ({ cls := "java/lang/Object", name := "getClass", desc := "()Ljava/lang/Class;" } : Jvm.MethodName)) ∈ lw_all := lw_g (lw_at lw_m5 89 rfl) rfl
theorem q1259 : (Jvm.Cond.fieldLinkNest "RideDesk$State" (76 : Nat) "RideDesk$Van" "until" "I" "RideDesk") ∈ lw_tbl := lw_at lw_m5 153 rfl
theorem q1332 : (Jvm.Cond.static ({ cls := "RideDesk$State", name := "first", desc := "(LRideDesk$Plan;)LRideDesk$State;" } : Jvm.MethodName)) ∈ lw_all := lw_g (lw_at lw_m5 226 rfl) rfl
theorem q1333 : (Jvm.Cond.code ({ cls := "RideDesk$State", name := "first", desc := "(LRideDesk$Plan;)LRideDesk$State;" } : Jvm.MethodName) prog_17_method_3_code (3 : Nat) (Option.some (Jvm.ClassFile.FieldType.object "RideDesk$State"))) ∈ lw_all := lw_g (lw_at lw_m5 227 rfl) rfl
theorem q1334 : (Jvm.Cond.classLink "RideDesk$State" (12 : Nat) "RideDesk$State") ∈ lw_all := lw_g (lw_at lw_m5 228 rfl) rfl
theorem q1335 : (Jvm.Cond.instantiable "RideDesk$State" (9 : Nat)) ∈ lw_all := lw_g (lw_at lw_m5 229 rfl) rfl
theorem q1336 : (Jvm.Cond.methodLink "RideDesk$State" (39 : Nat) ({ cls := "RideDesk$State", name := "<init>", desc := "()V" } : Jvm.MethodName)) ∈ lw_all := lw_g (lw_at lw_m5 230 rfl) rfl
theorem q1337 : (Jvm.Cond.instanceMethod ({ cls := "RideDesk$State", name := "<init>", desc := "()V" } : Jvm.MethodName)) ∈ lw_all := lw_g (lw_at lw_m5 231 rfl) rfl
theorem q1338 : (Jvm.Cond.code ({ cls := "RideDesk$State", name := "<init>", desc := "()V" } : Jvm.MethodName) prog_17_method_1_code (1 : Nat) (Option.none : Option Jvm.ClassFile.FieldType)) ∈ lw_all := lw_g (lw_at lw_m5 232 rfl) rfl
theorem q1339 : (Jvm.Cond.methodLink "RideDesk$State" (3 : Nat) ({ cls := "java/lang/Object", name := "<init>", desc := "()V" } : Jvm.MethodName)) ∈ lw_all := lw_g (lw_at lw_m5 233 rfl) rfl
theorem q1340 : (Jvm.Cond.classLink "RideDesk$State" (9 : Nat) "RideDesk$Route") ∈ lw_all := lw_g (lw_at lw_m5 234 rfl) rfl
theorem q1342 : (Jvm.Cond.classLink "RideDesk$State" (33 : Nat) "RideDesk$Call") ∈ lw_all := lw_g (lw_at lw_m5 236 rfl) rfl
theorem q1344 : (Jvm.Cond.fieldLink "RideDesk$State" (11 : Nat) "RideDesk$State" "routes" "[LRideDesk$Route;") ∈ lw_all := lw_g (lw_at lw_m5 238 rfl) rfl
theorem q1346 : (Jvm.Cond.fieldLink "RideDesk$State" (17 : Nat) "RideDesk$State" "until" "[I") ∈ lw_all := lw_g (lw_at lw_m6 0 rfl) rfl
theorem q1348 : (Jvm.Cond.fieldLink "RideDesk$State" (21 : Nat) "RideDesk$State" "state" "[I") ∈ lw_all := lw_g (lw_at lw_m6 2 rfl) rfl
theorem q1352 : (Jvm.Cond.fieldLink "RideDesk$State" (24 : Nat) "RideDesk$State" "ready" "[I") ∈ lw_all := lw_g (lw_at lw_m6 6 rfl) rfl
theorem q1355 : (Jvm.Cond.fieldLink "RideDesk$State" (27 : Nat) "RideDesk$State" "promise" "[I") ∈ lw_all := lw_g (lw_at lw_m6 9 rfl) rfl
theorem q1357 : (Jvm.Cond.fieldLink "RideDesk$State" (30 : Nat) "RideDesk$State" "credit" "[I") ∈ lw_all := lw_g (lw_at lw_m6 11 rfl) rfl
theorem q1359 : (Jvm.Cond.fieldLink "RideDesk$State" (35 : Nat) "RideDesk$State" "calls" "[LRideDesk$Call;") ∈ lw_all := lw_g (lw_at lw_m6 13 rfl) rfl
theorem q1361 : (Jvm.Cond.fieldLink "RideDesk$State" (40 : Nat) "RideDesk$State" "callCount" "I") ∈ lw_all := lw_g (lw_at lw_m6 15 rfl) rfl
theorem q1363 : (Jvm.Cond.fieldLink "RideDesk$State" (44 : Nat) "RideDesk$State" "clock" "I") ∈ lw_all := lw_g (lw_at lw_m6 17 rfl) rfl
theorem q1365 : (Jvm.Cond.lays "RideDesk$State" "RideDesk$State" "routes" "[LRideDesk$Route;") ∈ lw_all := lw_g (lw_at lw_m6 19 rfl) rfl
theorem q1366 : (Jvm.Cond.soleField "RideDesk$State" "routes") ∈ lw_all := lw_g (lw_at lw_m6 20 rfl) rfl
theorem q1367 : (Jvm.Cond.lays "RideDesk$State" "RideDesk$State" "until" "[I") ∈ lw_all := lw_g (lw_at lw_m6 21 rfl) rfl
theorem q1368 : (Jvm.Cond.soleField "RideDesk$State" "until") ∈ lw_all := lw_g (lw_at lw_m6 22 rfl) rfl
theorem q1369 : (Jvm.Cond.lays "RideDesk$State" "RideDesk$State" "state" "[I") ∈ lw_all := lw_g (lw_at lw_m6 23 rfl) rfl
theorem q1370 : (Jvm.Cond.soleField "RideDesk$State" "state") ∈ lw_all := lw_g (lw_at lw_m6 24 rfl) rfl
theorem q1371 : (Jvm.Cond.lays "RideDesk$State" "RideDesk$State" "ready" "[I") ∈ lw_all := lw_g (lw_at lw_m6 25 rfl) rfl
theorem q1372 : (Jvm.Cond.soleField "RideDesk$State" "ready") ∈ lw_all := lw_g (lw_at lw_m6 26 rfl) rfl
theorem q1373 : (Jvm.Cond.lays "RideDesk$State" "RideDesk$State" "promise" "[I") ∈ lw_all := lw_g (lw_at lw_m6 27 rfl) rfl
theorem q1374 : (Jvm.Cond.soleField "RideDesk$State" "promise") ∈ lw_all := lw_g (lw_at lw_m6 28 rfl) rfl
theorem q1375 : (Jvm.Cond.lays "RideDesk$State" "RideDesk$State" "credit" "[I") ∈ lw_all := lw_g (lw_at lw_m6 29 rfl) rfl
theorem q1376 : (Jvm.Cond.soleField "RideDesk$State" "credit") ∈ lw_all := lw_g (lw_at lw_m6 30 rfl) rfl
theorem q1377 : (Jvm.Cond.lays "RideDesk$State" "RideDesk$State" "calls" "[LRideDesk$Call;") ∈ lw_all := lw_g (lw_at lw_m6 31 rfl) rfl
theorem q1378 : (Jvm.Cond.soleField "RideDesk$State" "calls") ∈ lw_all := lw_g (lw_at lw_m6 32 rfl) rfl
theorem q1379 : (Jvm.Cond.lays "RideDesk$State" "RideDesk$State" "callCount" "I") ∈ lw_all := lw_g (lw_at lw_m6 33 rfl) rfl
theorem q1380 : (Jvm.Cond.soleField "RideDesk$State" "callCount") ∈ lw_all := lw_g (lw_at lw_m6 34 rfl) rfl
theorem q1381 : (Jvm.Cond.lays "RideDesk$State" "RideDesk$State" "clock" "I") ∈ lw_all := lw_g (lw_at lw_m6 35 rfl) rfl
theorem q1382 : (Jvm.Cond.soleField "RideDesk$State" "clock") ∈ lw_all := lw_g (lw_at lw_m6 36 rfl) rfl
theorem q1383 : (Jvm.Cond.superclass "RideDesk$State" "java/lang/Object") ∈ lw_all := lw_g (lw_at lw_m6 37 rfl) rfl
theorem q1384 : (Jvm.Cond.methodLinkNest "RideDesk$State" (57 : Nat) ({ cls := "RideDesk$Route", name := "<init>", desc := "()V" } : Jvm.MethodName) "RideDesk") ∈ lw_tbl := lw_at lw_m6 38 rfl
theorem q1385 : (Jvm.Cond.interfaceEntry "RideDesk$State" (64 : Nat)) ∈ lw_tbl := lw_at lw_m6 39 rfl
theorem q1386 : (Jvm.Cond.methodLink "RideDesk$State" (64 : Nat) ({ cls := "java/util/List", name := "size", desc := "()I" } : Jvm.MethodName)) ∈ lw_all := lw_g (lw_at lw_m6 40 rfl) rfl
theorem q1387 : (Jvm.Cond.interfaceEntry "RideDesk$State" (70 : Nat)) ∈ lw_tbl := lw_at lw_m6 41 rfl
theorem q1388 : (Jvm.Cond.methodLink "RideDesk$State" (70 : Nat) ({ cls := "java/util/List", name := "get", desc := "(I)Ljava/lang/Object;" } : Jvm.MethodName)) ∈ lw_all := lw_g (lw_at lw_m6 42 rfl) rfl
theorem q1389 : (Jvm.Cond.classLink "RideDesk$State" (74 : Nat) "RideDesk$Van") ∈ lw_all := lw_g (lw_at lw_m6 43 rfl) rfl
theorem q1943 : (Jvm.Cond.instanceMethod ({ cls := "RideDesk$State", name := "copy", desc := "()LRideDesk$State;" } : Jvm.MethodName)) ∈ lw_all := lw_g (lw_at lw_m8 117 rfl) rfl
theorem q1944 : (Jvm.Cond.selects "RideDesk$State" ({ cls := "RideDesk$State", name := "copy", desc := "()LRideDesk$State;" } : Jvm.MethodName) ({ cls := "RideDesk$State", name := "copy", desc := "()LRideDesk$State;" } : Jvm.MethodName)) ∈ lw_all := lw_g (lw_at lw_m8 118 rfl) rfl
theorem q1945 : (Jvm.Cond.code ({ cls := "RideDesk$State", name := "copy", desc := "()LRideDesk$State;" } : Jvm.MethodName) prog_17_method_2_code (3 : Nat) (Option.some (Jvm.ClassFile.FieldType.object "RideDesk$State"))) ∈ lw_all := lw_g (lw_at lw_m8 119 rfl) rfl
theorem q1946 : (Jvm.Cond.methodLink "RideDesk$State" (47 : Nat) ({ cls := "RideDesk$Route", name := "copy", desc := "()LRideDesk$Route;" } : Jvm.MethodName)) ∈ lw_all := lw_g (lw_at lw_m8 120 rfl) rfl
theorem q1952 : (Jvm.Cond.methodLink "RideDesk$State" (51 : Nat) ({ cls := "java/lang/System", name := "arraycopy", desc := "(Ljava/lang/Object;ILjava/lang/Object;II)V" } : Jvm.MethodName)) ∈ lw_all := lw_g (lw_at lw_m8 126 rfl) rfl
theorem q2886 : (Jvm.Cond.castable "RideDesk$State" "java/lang/Object") ∈ lw_tbl := lw_at lw_m12 100 rfl
theorem in_X14 : ∀ w ∈ wsX140, w ∈ lw_all := lw_in wsX140 [1365, 1367, 1369, 1371, 1373, 1375, 1377, 1379, 1381] (by decide +kernel) (by decide +kernel)

/-! RideDesk$Stop -/
set_option maxRecDepth 100000
def RX15 : String := "RideDesk$Stop"
abbrev cX15_init : ByteArray := prog_18_method_1_code
def yX15_init : MethodName := ⟨RX15, "<init>", "(ILRideDesk$Spot;)V"⟩
def dkwX15_init_0 : List UInt8 := [42, 183, 0, 1, 42, 27, 181, 0, 7, 42, 44, 181, 0, 13, 177]
abbrev dktX15_init_0 : List UInt8 := dkwX15_init_0 ++ []
theorem dksX15_init_0 : cX15_init.data.toList.drop 0 = dktX15_init_0 := by decide +kernel
theorem dX15_init_0 : decode cX15_init 0 = .ok (.aload_n 0, 1) := dk_42 (dk_at dksX15_init_0 0 rfl rfl)
theorem dX15_init_1 : decode cX15_init 1 = .ok (.invokespecial 1, 3) := dk_183 0 1 (dk_at dksX15_init_0 1 rfl rfl)
theorem dX15_init_4 : decode cX15_init 4 = .ok (.aload_n 0, 1) := dk_42 (dk_at dksX15_init_0 4 rfl rfl)
theorem dX15_init_5 : decode cX15_init 5 = .ok (.iload_n 1, 1) := dk_27 (dk_at dksX15_init_0 5 rfl rfl)
theorem dX15_init_6 : decode cX15_init 6 = .ok (.putfield 7, 3) := dk_181 0 7 (dk_at dksX15_init_0 6 rfl rfl)
theorem dX15_init_9 : decode cX15_init 9 = .ok (.aload_n 0, 1) := dk_42 (dk_at dksX15_init_0 9 rfl rfl)
theorem dX15_init_10 : decode cX15_init 10 = .ok (.aload_n 2, 1) := dk_44 (dk_at dksX15_init_0 10 rfl rfl)
theorem dX15_init_11 : decode cX15_init 11 = .ok (.putfield 13, 3) := dk_181 0 13 (dk_at dksX15_init_0 11 rfl rfl)
theorem dX15_init_14 : decode cX15_init 14 = .ok (.return_, 1) := dk_177 (dk_at dksX15_init_0 14 rfl rfl)
abbrev cX15_begin : ByteArray := prog_18_method_2_code
def yX15_begin : MethodName := ⟨RX15, "begin", "(LRideDesk$State;I)I"⟩
theorem dX15_begin_0 : decode cX15_begin 0 = .ok (.iload_n 2, 1) := by decide +kernel
theorem dX15_begin_1 : decode cX15_begin 1 = .ok (.ireturn, 1) := by decide +kernel
theorem q186 : (Jvm.Cond.initialized "RideDesk$Stop") ∈ lw_all := lw_g (lw_at lw_m1 40 rfl) rfl
theorem q1408 : (Jvm.Cond.instanceMethod ({ cls := "RideDesk$Stop", name := "<init>", desc := "(ILRideDesk$Spot;)V" } : Jvm.MethodName)) ∈ lw_all := lw_g (lw_at lw_m6 62 rfl) rfl
theorem q1409 : (Jvm.Cond.code ({ cls := "RideDesk$Stop", name := "<init>", desc := "(ILRideDesk$Spot;)V" } : Jvm.MethodName) prog_18_method_1_code (3 : Nat) (Option.none : Option Jvm.ClassFile.FieldType)) ∈ lw_all := lw_g (lw_at lw_m6 63 rfl) rfl
theorem q1410 : (Jvm.Cond.methodLink "RideDesk$Stop" (1 : Nat) ({ cls := "java/lang/Object", name := "<init>", desc := "()V" } : Jvm.MethodName)) ∈ lw_all := lw_g (lw_at lw_m6 64 rfl) rfl
theorem q1411 : (Jvm.Cond.fieldLink "RideDesk$Stop" (7 : Nat) "RideDesk$Stop" "call" "I") ∈ lw_all := lw_g (lw_at lw_m6 65 rfl) rfl
theorem q1418 : (Jvm.Cond.fieldLink "RideDesk$Stop" (13 : Nat) "RideDesk$Stop" "spot" "LRideDesk$Spot;") ∈ lw_all := lw_g (lw_at lw_m6 72 rfl) rfl
theorem q1425 : (Jvm.Cond.soleField "RideDesk$Stop" "call") ∈ lw_all := lw_g (lw_at lw_m6 79 rfl) rfl
theorem q1427 : (Jvm.Cond.soleField "RideDesk$Stop" "spot") ∈ lw_all := lw_g (lw_at lw_m6 81 rfl) rfl
theorem q1447 : (Jvm.Cond.declares ({ cls := "RideDesk$Stop", name := "isExecuted", desc := "(LRideDesk$State;)Z" } : Jvm.MethodName)) ∈ lw_tbl := lw_at lw_m6 101 rfl
theorem q1448 : (Jvm.Cond.sameMethod "RideDesk$Stop" "RideDesk$Stop" "isExecuted" "(LRideDesk$State;)Z") ∈ lw_all := lw_g (lw_at lw_m6 102 rfl) rfl
theorem q1487 : (Jvm.Cond.declares ({ cls := "RideDesk$Stop", name := "taken", desc := "(I)I" } : Jvm.MethodName)) ∈ lw_tbl := lw_at lw_m6 141 rfl
theorem q1488 : (Jvm.Cond.sameMethod "RideDesk$Stop" "RideDesk$Stop" "taken" "(I)I") ∈ lw_all := lw_g (lw_at lw_m6 142 rfl) rfl
theorem q1496 : (Jvm.Cond.instanceMethod ({ cls := "RideDesk$Stop", name := "begin", desc := "(LRideDesk$State;I)I" } : Jvm.MethodName)) ∈ lw_all := lw_g (lw_at lw_m6 150 rfl) rfl
theorem q1497 : (Jvm.Cond.sameMethod "RideDesk$Stop" "RideDesk$Stop" "begin" "(LRideDesk$State;I)I") ∈ lw_all := lw_g (lw_at lw_m6 151 rfl) rfl
theorem q1503 : (Jvm.Cond.code ({ cls := "RideDesk$Stop", name := "begin", desc := "(LRideDesk$State;I)I" } : Jvm.MethodName) prog_18_method_2_code (3 : Nat) (Option.some Jvm.ClassFile.FieldType.int)) ∈ lw_all := lw_g (lw_at lw_m6 157 rfl) rfl
theorem q2887 : (Jvm.Cond.castable "RideDesk$Stop" "java/lang/Object") ∈ lw_tbl := lw_at lw_m12 101 rfl

/-! RideDesk$Pickup -/
set_option maxRecDepth 100000
def RX16 : String := "RideDesk$Pickup"
def TX16 : u_T := fun k => match k with
  | 0 => ("RideDesk$Stop", "call", "I", true)
  | _ => ("RideDesk$Stop", "spot", "LRideDesk$Spot;", true)
def tyX16 : Nat → FieldType := fun k => match k with
  | 0 => .int
  | _ => .object "RideDesk$Spot"
abbrev wsX160 : List Cond := u_ws RX16 TX16 2
theorem nmX16 : ∀ a, a < 2 → ∀ b, b < 2 → a ≠ b → (TX16 a).2.1 ≠ (TX16 b).2.1 := by decide +kernel
theorem tyX16_ok : ∀ k, k < 2 → parseFieldDescriptor (TX16 k).2.2.1 = some (tyX16 k) := by decide +kernel
abbrev cX16_init : ByteArray := prog_10_method_1_code
def yX16_init : MethodName := ⟨RX16, "<init>", "(ILRideDesk$Spot;)V"⟩
def dkwX16_init_0 : List UInt8 := [42, 27, 44, 183, 0, 3, 177]
abbrev dktX16_init_0 : List UInt8 := dkwX16_init_0 ++ []
theorem dksX16_init_0 : cX16_init.data.toList.drop 0 = dktX16_init_0 := by decide +kernel
theorem dX16_init_0 : decode cX16_init 0 = .ok (.aload_n 0, 1) := dk_42 (dk_at dksX16_init_0 0 rfl rfl)
theorem dX16_init_1 : decode cX16_init 1 = .ok (.iload_n 1, 1) := dk_27 (dk_at dksX16_init_0 1 rfl rfl)
theorem dX16_init_2 : decode cX16_init 2 = .ok (.aload_n 2, 1) := dk_44 (dk_at dksX16_init_0 2 rfl rfl)
theorem dX16_init_3 : decode cX16_init 3 = .ok (.invokespecial 3, 3) := dk_183 0 3 (dk_at dksX16_init_0 3 rfl rfl)
theorem dX16_init_6 : decode cX16_init 6 = .ok (.return_, 1) := dk_177 (dk_at dksX16_init_0 6 rfl rfl)
abbrev cX16_isExecuted : ByteArray := prog_10_method_4_code
def yX16_isExecuted : MethodName := ⟨RX16, "isExecuted", "(LRideDesk$State;)Z"⟩
def dkwX16_isExecuted_1 : List UInt8 := [160, 0, 7, 4, 167, 0, 4, 3, 172]
abbrev dktX16_isExecuted_1 : List UInt8 := dkwX16_isExecuted_1 ++ []
def dkwX16_isExecuted_0 : List UInt8 := [43, 180, 0, 31, 42, 180, 0, 15, 46, 5, 159, 0, 16, 43, 180, 0, 31, 42, 180, 0, 15, 46, 6]
abbrev dktX16_isExecuted_0 : List UInt8 := dkwX16_isExecuted_0 ++ dktX16_isExecuted_1
theorem dksX16_isExecuted_0 : cX16_isExecuted.data.toList.drop 0 = dktX16_isExecuted_0 := by decide +kernel
theorem dksX16_isExecuted_1 : cX16_isExecuted.data.toList.drop 23 = dktX16_isExecuted_1 := dk_seg dksX16_isExecuted_0 23 rfl rfl
theorem dX16_isExecuted_0 : decode cX16_isExecuted 0 = .ok (.aload_n 1, 1) := dk_43 (dk_at dksX16_isExecuted_0 0 rfl rfl)
theorem dX16_isExecuted_1 : decode cX16_isExecuted 1 = .ok (.getfield 31, 3) := dk_180 0 31 (dk_at dksX16_isExecuted_0 1 rfl rfl)
theorem dX16_isExecuted_4 : decode cX16_isExecuted 4 = .ok (.aload_n 0, 1) := dk_42 (dk_at dksX16_isExecuted_0 4 rfl rfl)
theorem dX16_isExecuted_5 : decode cX16_isExecuted 5 = .ok (.getfield 15, 3) := dk_180 0 15 (dk_at dksX16_isExecuted_0 5 rfl rfl)
theorem dX16_isExecuted_8 : decode cX16_isExecuted 8 = .ok (.iaload, 1) := dk_46 (dk_at dksX16_isExecuted_0 8 rfl rfl)
theorem dX16_isExecuted_9 : decode cX16_isExecuted 9 = .ok (.iconst 2, 1) := dk_5 (dk_at dksX16_isExecuted_0 9 rfl rfl)
theorem dX16_isExecuted_10 : decode cX16_isExecuted 10 = .ok (.if_icmp .eq 16, 3) := dk_159 0 16 (dk_at dksX16_isExecuted_0 10 rfl rfl)
theorem dX16_isExecuted_13 : decode cX16_isExecuted 13 = .ok (.aload_n 1, 1) := dk_43 (dk_at dksX16_isExecuted_0 13 rfl rfl)
theorem dX16_isExecuted_14 : decode cX16_isExecuted 14 = .ok (.getfield 31, 3) := dk_180 0 31 (dk_at dksX16_isExecuted_0 14 rfl rfl)
theorem dX16_isExecuted_17 : decode cX16_isExecuted 17 = .ok (.aload_n 0, 1) := dk_42 (dk_at dksX16_isExecuted_0 17 rfl rfl)
theorem dX16_isExecuted_18 : decode cX16_isExecuted 18 = .ok (.getfield 15, 3) := dk_180 0 15 (dk_at dksX16_isExecuted_0 18 rfl rfl)
theorem dX16_isExecuted_21 : decode cX16_isExecuted 21 = .ok (.iaload, 1) := dk_46 (dk_at dksX16_isExecuted_0 21 rfl rfl)
theorem dX16_isExecuted_22 : decode cX16_isExecuted 22 = .ok (.iconst 3, 1) := dk_6 (dk_at dksX16_isExecuted_0 22 rfl rfl)
theorem dX16_isExecuted_23 : decode cX16_isExecuted 23 = .ok (.if_icmp .ne 7, 3) := dk_160 0 7 (dk_at dksX16_isExecuted_1 0 rfl rfl)
theorem dX16_isExecuted_26 : decode cX16_isExecuted 26 = .ok (.iconst 1, 1) := dk_4 (dk_at dksX16_isExecuted_1 3 rfl rfl)
theorem dX16_isExecuted_27 : decode cX16_isExecuted 27 = .ok (.goto 4, 3) := dk_167 0 4 (dk_at dksX16_isExecuted_1 4 rfl rfl)
theorem dX16_isExecuted_30 : decode cX16_isExecuted 30 = .ok (.iconst 0, 1) := dk_3 (dk_at dksX16_isExecuted_1 7 rfl rfl)
theorem dX16_isExecuted_31 : decode cX16_isExecuted 31 = .ok (.ireturn, 1) := dk_172 (dk_at dksX16_isExecuted_1 8 rfl rfl)
abbrev cX16_taken : ByteArray := prog_10_method_3_code
def yX16_taken : MethodName := ⟨RX16, "taken", "(I)I"⟩
theorem dX16_taken_0 : decode cX16_taken 0 = .ok (.iload_n 1, 1) := by decide +kernel
theorem dX16_taken_1 : decode cX16_taken 1 = .ok (.ireturn, 1) := by decide +kernel
abbrev cX16_begin : ByteArray := prog_10_method_2_code
def yX16_begin : MethodName := ⟨RX16, "begin", "(LRideDesk$State;I)I"⟩
def dkwX16_begin_0 : List UInt8 := [43, 180, 0, 9, 42, 180, 0, 15, 46, 42, 43, 28, 183, 0, 21, 184, 0, 25, 172]
abbrev dktX16_begin_0 : List UInt8 := dkwX16_begin_0 ++ []
theorem dksX16_begin_0 : cX16_begin.data.toList.drop 0 = dktX16_begin_0 := by decide +kernel
theorem dX16_begin_0 : decode cX16_begin 0 = .ok (.aload_n 1, 1) := dk_43 (dk_at dksX16_begin_0 0 rfl rfl)
theorem dX16_begin_1 : decode cX16_begin 1 = .ok (.getfield 9, 3) := dk_180 0 9 (dk_at dksX16_begin_0 1 rfl rfl)
theorem dX16_begin_4 : decode cX16_begin 4 = .ok (.aload_n 0, 1) := dk_42 (dk_at dksX16_begin_0 4 rfl rfl)
theorem dX16_begin_5 : decode cX16_begin 5 = .ok (.getfield 15, 3) := dk_180 0 15 (dk_at dksX16_begin_0 5 rfl rfl)
theorem dX16_begin_8 : decode cX16_begin 8 = .ok (.iaload, 1) := dk_46 (dk_at dksX16_begin_0 8 rfl rfl)
theorem dX16_begin_9 : decode cX16_begin 9 = .ok (.aload_n 0, 1) := dk_42 (dk_at dksX16_begin_0 9 rfl rfl)
theorem dX16_begin_10 : decode cX16_begin 10 = .ok (.aload_n 1, 1) := dk_43 (dk_at dksX16_begin_0 10 rfl rfl)
theorem dX16_begin_11 : decode cX16_begin 11 = .ok (.iload_n 2, 1) := dk_28 (dk_at dksX16_begin_0 11 rfl rfl)
theorem dX16_begin_12 : decode cX16_begin 12 = .ok (.invokespecial 21, 3) := dk_183 0 21 (dk_at dksX16_begin_0 12 rfl rfl)
theorem dX16_begin_15 : decode cX16_begin 15 = .ok (.invokestatic 25, 3) := dk_184 0 25 (dk_at dksX16_begin_0 15 rfl rfl)
theorem dX16_begin_18 : decode cX16_begin 18 = .ok (.ireturn, 1) := dk_172 (dk_at dksX16_begin_0 18 rfl rfl)
theorem q187 : (Jvm.Cond.initialized "RideDesk$Pickup") ∈ lw_all := lw_g (lw_at lw_m1 41 rfl) rfl
theorem q1188 : (Jvm.Cond.selects "RideDesk$Pickup" ({ cls := "java/lang/Object", name := "getClass", desc := "()Ljava/lang/Class;" } : Jvm.MethodName) ({ cls := "java/lang/Object", name := "getClass", desc := "()Ljava/lang/Class;" } : Jvm.MethodName)) ∈ lw_all := lw_g (lw_at lw_m5 82 rfl) rfl
theorem q1350 : (Jvm.Cond.fieldLinkNest "RideDesk$Pickup" (31 : Nat) "RideDesk$State" "state" "[I" "RideDesk") ∈ lw_tbl := lw_at lw_m6 4 rfl
theorem q1353 : (Jvm.Cond.fieldLinkNest "RideDesk$Pickup" (9 : Nat) "RideDesk$State" "ready" "[I" "RideDesk") ∈ lw_tbl := lw_at lw_m6 7 rfl
theorem q1403 : (Jvm.Cond.instantiable "RideDesk$Pickup" (2 : Nat)) ∈ lw_all := lw_g (lw_at lw_m6 57 rfl) rfl
theorem q1405 : (Jvm.Cond.instanceMethod ({ cls := "RideDesk$Pickup", name := "<init>", desc := "(ILRideDesk$Spot;)V" } : Jvm.MethodName)) ∈ lw_all := lw_g (lw_at lw_m6 59 rfl) rfl
theorem q1406 : (Jvm.Cond.code ({ cls := "RideDesk$Pickup", name := "<init>", desc := "(ILRideDesk$Spot;)V" } : Jvm.MethodName) prog_10_method_1_code (3 : Nat) (Option.none : Option Jvm.ClassFile.FieldType)) ∈ lw_all := lw_g (lw_at lw_m6 60 rfl) rfl
theorem q1407 : (Jvm.Cond.methodLink "RideDesk$Pickup" (3 : Nat) ({ cls := "RideDesk$Stop", name := "<init>", desc := "(ILRideDesk$Spot;)V" } : Jvm.MethodName)) ∈ lw_all := lw_g (lw_at lw_m6 61 rfl) rfl
theorem q1412 : (Jvm.Cond.fieldLink "RideDesk$Pickup" (15 : Nat) "RideDesk$Pickup" "call" "I") ∈ lw_all := lw_g (lw_at lw_m6 66 rfl) rfl
theorem q1413 : (Jvm.Cond.sameField "RideDesk$Pickup" "RideDesk$Stop" "call" "I") ∈ lw_all := lw_g (lw_at lw_m6 67 rfl) rfl
theorem q1421 : (Jvm.Cond.sameField "RideDesk$Pickup" "RideDesk$Stop" "spot" "LRideDesk$Spot;") ∈ lw_all := lw_g (lw_at lw_m6 75 rfl) rfl
theorem q1424 : (Jvm.Cond.laysFinal "RideDesk$Pickup" "RideDesk$Stop" "call" "I") ∈ lw_all := lw_g (lw_at lw_m6 78 rfl) rfl
theorem q1426 : (Jvm.Cond.laysFinal "RideDesk$Pickup" "RideDesk$Stop" "spot" "LRideDesk$Spot;") ∈ lw_all := lw_g (lw_at lw_m6 80 rfl) rfl
theorem q1428 : (Jvm.Cond.superclass "RideDesk$Pickup" "RideDesk$Stop") ∈ lw_all := lw_g (lw_at lw_m6 82 rfl) rfl
theorem q1452 : (Jvm.Cond.selects "RideDesk$Pickup" ({ cls := "RideDesk$Stop", name := "isExecuted", desc := "(LRideDesk$State;)Z" } : Jvm.MethodName) ({ cls := "RideDesk$Pickup", name := "isExecuted", desc := "(LRideDesk$State;)Z" } : Jvm.MethodName)) ∈ lw_all := lw_g (lw_at lw_m6 106 rfl) rfl
theorem q1453 : (Jvm.Cond.instanceMethod ({ cls := "RideDesk$Pickup", name := "isExecuted", desc := "(LRideDesk$State;)Z" } : Jvm.MethodName)) ∈ lw_all := lw_g (lw_at lw_m6 107 rfl) rfl
theorem q1454 : (Jvm.Cond.code ({ cls := "RideDesk$Pickup", name := "isExecuted", desc := "(LRideDesk$State;)Z" } : Jvm.MethodName) prog_10_method_4_code (2 : Nat) (Option.some Jvm.ClassFile.FieldType.boolean)) ∈ lw_all := lw_g (lw_at lw_m6 108 rfl) rfl
theorem q1492 : (Jvm.Cond.selects "RideDesk$Pickup" ({ cls := "RideDesk$Stop", name := "taken", desc := "(I)I" } : Jvm.MethodName) ({ cls := "RideDesk$Pickup", name := "taken", desc := "(I)I" } : Jvm.MethodName)) ∈ lw_all := lw_g (lw_at lw_m6 146 rfl) rfl
theorem q1493 : (Jvm.Cond.instanceMethod ({ cls := "RideDesk$Pickup", name := "taken", desc := "(I)I" } : Jvm.MethodName)) ∈ lw_all := lw_g (lw_at lw_m6 147 rfl) rfl
theorem q1494 : (Jvm.Cond.code ({ cls := "RideDesk$Pickup", name := "taken", desc := "(I)I" } : Jvm.MethodName) prog_10_method_3_code (2 : Nat) (Option.some Jvm.ClassFile.FieldType.int)) ∈ lw_all := lw_g (lw_at lw_m6 148 rfl) rfl
theorem q1499 : (Jvm.Cond.selects "RideDesk$Pickup" ({ cls := "RideDesk$Stop", name := "begin", desc := "(LRideDesk$State;I)I" } : Jvm.MethodName) ({ cls := "RideDesk$Pickup", name := "begin", desc := "(LRideDesk$State;I)I" } : Jvm.MethodName)) ∈ lw_all := lw_g (lw_at lw_m6 153 rfl) rfl
theorem q1500 : (Jvm.Cond.instanceMethod ({ cls := "RideDesk$Pickup", name := "begin", desc := "(LRideDesk$State;I)I" } : Jvm.MethodName)) ∈ lw_all := lw_g (lw_at lw_m6 154 rfl) rfl
theorem q1501 : (Jvm.Cond.code ({ cls := "RideDesk$Pickup", name := "begin", desc := "(LRideDesk$State;I)I" } : Jvm.MethodName) prog_10_method_2_code (3 : Nat) (Option.some Jvm.ClassFile.FieldType.int)) ∈ lw_all := lw_g (lw_at lw_m6 155 rfl) rfl
theorem q1502 : (Jvm.Cond.methodLink "RideDesk$Pickup" (21 : Nat) ({ cls := "RideDesk$Stop", name := "begin", desc := "(LRideDesk$State;I)I" } : Jvm.MethodName)) ∈ lw_all := lw_g (lw_at lw_m6 156 rfl) rfl
theorem q1504 : (Jvm.Cond.methodLink "RideDesk$Pickup" (25 : Nat) ({ cls := "java/lang/Math", name := "max", desc := "(II)I" } : Jvm.MethodName)) ∈ lw_all := lw_g (lw_at lw_m6 158 rfl) rfl
theorem q2885 : (Jvm.Cond.castable "RideDesk$Pickup" "RideDesk$Stop") ∈ lw_tbl := lw_at lw_m12 99 rfl
theorem q2912 : (Jvm.Cond.castable "RideDesk$Pickup" "java/lang/Object") ∈ lw_tbl := lw_at lw_m12 126 rfl
theorem in_X16 : ∀ w ∈ wsX160, w ∈ lw_all := lw_in wsX160 [1424, 1426] (by decide +kernel) (by decide +kernel)

/-! RideDesk$Drop -/
set_option maxRecDepth 100000
def RX17 : String := "RideDesk$Drop"
def TX17 : u_T := fun k => match k with
  | 0 => ("RideDesk$Stop", "call", "I", true)
  | _ => ("RideDesk$Stop", "spot", "LRideDesk$Spot;", true)
def tyX17 : Nat → FieldType := fun k => match k with
  | 0 => .int
  | _ => .object "RideDesk$Spot"
abbrev wsX170 : List Cond := u_ws RX17 TX17 2
theorem nmX17 : ∀ a, a < 2 → ∀ b, b < 2 → a ≠ b → (TX17 a).2.1 ≠ (TX17 b).2.1 := by decide +kernel
theorem tyX17_ok : ∀ k, k < 2 → parseFieldDescriptor (TX17 k).2.2.1 = some (tyX17 k) := by decide +kernel
abbrev cX17_init : ByteArray := prog_3_method_1_code
def yX17_init : MethodName := ⟨RX17, "<init>", "(ILRideDesk$Spot;)V"⟩
def dkwX17_init_0 : List UInt8 := [42, 27, 44, 183, 0, 3, 177]
abbrev dktX17_init_0 : List UInt8 := dkwX17_init_0 ++ []
theorem dksX17_init_0 : cX17_init.data.toList.drop 0 = dktX17_init_0 := by decide +kernel
theorem dX17_init_0 : decode cX17_init 0 = .ok (.aload_n 0, 1) := dk_42 (dk_at dksX17_init_0 0 rfl rfl)
theorem dX17_init_1 : decode cX17_init 1 = .ok (.iload_n 1, 1) := dk_27 (dk_at dksX17_init_0 1 rfl rfl)
theorem dX17_init_2 : decode cX17_init 2 = .ok (.aload_n 2, 1) := dk_44 (dk_at dksX17_init_0 2 rfl rfl)
theorem dX17_init_3 : decode cX17_init 3 = .ok (.invokespecial 3, 3) := dk_183 0 3 (dk_at dksX17_init_0 3 rfl rfl)
theorem dX17_init_6 : decode cX17_init 6 = .ok (.return_, 1) := dk_177 (dk_at dksX17_init_0 6 rfl rfl)
abbrev cX17_isExecuted : ByteArray := prog_3_method_3_code
def yX17_isExecuted : MethodName := ⟨RX17, "isExecuted", "(LRideDesk$State;)Z"⟩
def dkwX17_isExecuted_0 : List UInt8 := [43, 180, 0, 9, 42, 180, 0, 15, 46, 6, 160, 0, 7, 4, 167, 0, 4, 3, 172]
abbrev dktX17_isExecuted_0 : List UInt8 := dkwX17_isExecuted_0 ++ []
theorem dksX17_isExecuted_0 : cX17_isExecuted.data.toList.drop 0 = dktX17_isExecuted_0 := by decide +kernel
theorem dX17_isExecuted_0 : decode cX17_isExecuted 0 = .ok (.aload_n 1, 1) := dk_43 (dk_at dksX17_isExecuted_0 0 rfl rfl)
theorem dX17_isExecuted_1 : decode cX17_isExecuted 1 = .ok (.getfield 9, 3) := dk_180 0 9 (dk_at dksX17_isExecuted_0 1 rfl rfl)
theorem dX17_isExecuted_4 : decode cX17_isExecuted 4 = .ok (.aload_n 0, 1) := dk_42 (dk_at dksX17_isExecuted_0 4 rfl rfl)
theorem dX17_isExecuted_5 : decode cX17_isExecuted 5 = .ok (.getfield 15, 3) := dk_180 0 15 (dk_at dksX17_isExecuted_0 5 rfl rfl)
theorem dX17_isExecuted_8 : decode cX17_isExecuted 8 = .ok (.iaload, 1) := dk_46 (dk_at dksX17_isExecuted_0 8 rfl rfl)
theorem dX17_isExecuted_9 : decode cX17_isExecuted 9 = .ok (.iconst 3, 1) := dk_6 (dk_at dksX17_isExecuted_0 9 rfl rfl)
theorem dX17_isExecuted_10 : decode cX17_isExecuted 10 = .ok (.if_icmp .ne 7, 3) := dk_160 0 7 (dk_at dksX17_isExecuted_0 10 rfl rfl)
theorem dX17_isExecuted_13 : decode cX17_isExecuted 13 = .ok (.iconst 1, 1) := dk_4 (dk_at dksX17_isExecuted_0 13 rfl rfl)
theorem dX17_isExecuted_14 : decode cX17_isExecuted 14 = .ok (.goto 4, 3) := dk_167 0 4 (dk_at dksX17_isExecuted_0 14 rfl rfl)
theorem dX17_isExecuted_17 : decode cX17_isExecuted 17 = .ok (.iconst 0, 1) := dk_3 (dk_at dksX17_isExecuted_0 17 rfl rfl)
theorem dX17_isExecuted_18 : decode cX17_isExecuted 18 = .ok (.ireturn, 1) := dk_172 (dk_at dksX17_isExecuted_0 18 rfl rfl)
abbrev cX17_taken : ByteArray := prog_3_method_2_code
def yX17_taken : MethodName := ⟨RX17, "taken", "(I)I"⟩
theorem dX17_taken_0 : decode cX17_taken 0 = .ok (.iload_n 1, 1) := by decide +kernel
theorem dX17_taken_1 : decode cX17_taken 1 = .ok (.ineg, 1) := by decide +kernel
theorem dX17_taken_2 : decode cX17_taken 2 = .ok (.ireturn, 1) := by decide +kernel
theorem q188 : (Jvm.Cond.initialized "RideDesk$Drop") ∈ lw_all := lw_g (lw_at lw_m1 42 rfl) rfl
theorem q1182 : (Jvm.Cond.selects "RideDesk$Drop" ({ cls := "java/lang/Object", name := "getClass", desc := "()Ljava/lang/Class;" } : Jvm.MethodName) ({ cls := "java/lang/Object", name := "getClass", desc := "()Ljava/lang/Class;" } : Jvm.MethodName)) ∈ lw_all := lw_g (lw_at lw_m5 76 rfl) rfl
theorem q1349 : (Jvm.Cond.fieldLinkNest "RideDesk$Drop" (9 : Nat) "RideDesk$State" "state" "[I" "RideDesk") ∈ lw_tbl := lw_at lw_m6 3 rfl
theorem q1414 : (Jvm.Cond.fieldLink "RideDesk$Drop" (15 : Nat) "RideDesk$Drop" "call" "I") ∈ lw_all := lw_g (lw_at lw_m6 68 rfl) rfl
theorem q1415 : (Jvm.Cond.sameField "RideDesk$Drop" "RideDesk$Stop" "call" "I") ∈ lw_all := lw_g (lw_at lw_m6 69 rfl) rfl
theorem q1423 : (Jvm.Cond.sameField "RideDesk$Drop" "RideDesk$Stop" "spot" "LRideDesk$Spot;") ∈ lw_all := lw_g (lw_at lw_m6 77 rfl) rfl
theorem q1430 : (Jvm.Cond.instantiable "RideDesk$Drop" (2 : Nat)) ∈ lw_all := lw_g (lw_at lw_m6 84 rfl) rfl
theorem q1432 : (Jvm.Cond.instanceMethod ({ cls := "RideDesk$Drop", name := "<init>", desc := "(ILRideDesk$Spot;)V" } : Jvm.MethodName)) ∈ lw_all := lw_g (lw_at lw_m6 86 rfl) rfl
theorem q1433 : (Jvm.Cond.code ({ cls := "RideDesk$Drop", name := "<init>", desc := "(ILRideDesk$Spot;)V" } : Jvm.MethodName) prog_3_method_1_code (3 : Nat) (Option.none : Option Jvm.ClassFile.FieldType)) ∈ lw_all := lw_g (lw_at lw_m6 87 rfl) rfl
theorem q1434 : (Jvm.Cond.methodLink "RideDesk$Drop" (3 : Nat) ({ cls := "RideDesk$Stop", name := "<init>", desc := "(ILRideDesk$Spot;)V" } : Jvm.MethodName)) ∈ lw_all := lw_g (lw_at lw_m6 88 rfl) rfl
theorem q1435 : (Jvm.Cond.laysFinal "RideDesk$Drop" "RideDesk$Stop" "call" "I") ∈ lw_all := lw_g (lw_at lw_m6 89 rfl) rfl
theorem q1436 : (Jvm.Cond.laysFinal "RideDesk$Drop" "RideDesk$Stop" "spot" "LRideDesk$Spot;") ∈ lw_all := lw_g (lw_at lw_m6 90 rfl) rfl
theorem q1437 : (Jvm.Cond.superclass "RideDesk$Drop" "RideDesk$Stop") ∈ lw_all := lw_g (lw_at lw_m6 91 rfl) rfl
theorem q1449 : (Jvm.Cond.selects "RideDesk$Drop" ({ cls := "RideDesk$Stop", name := "isExecuted", desc := "(LRideDesk$State;)Z" } : Jvm.MethodName) ({ cls := "RideDesk$Drop", name := "isExecuted", desc := "(LRideDesk$State;)Z" } : Jvm.MethodName)) ∈ lw_all := lw_g (lw_at lw_m6 103 rfl) rfl
theorem q1450 : (Jvm.Cond.instanceMethod ({ cls := "RideDesk$Drop", name := "isExecuted", desc := "(LRideDesk$State;)Z" } : Jvm.MethodName)) ∈ lw_all := lw_g (lw_at lw_m6 104 rfl) rfl
theorem q1451 : (Jvm.Cond.code ({ cls := "RideDesk$Drop", name := "isExecuted", desc := "(LRideDesk$State;)Z" } : Jvm.MethodName) prog_3_method_3_code (2 : Nat) (Option.some Jvm.ClassFile.FieldType.boolean)) ∈ lw_all := lw_g (lw_at lw_m6 105 rfl) rfl
theorem q1489 : (Jvm.Cond.selects "RideDesk$Drop" ({ cls := "RideDesk$Stop", name := "taken", desc := "(I)I" } : Jvm.MethodName) ({ cls := "RideDesk$Drop", name := "taken", desc := "(I)I" } : Jvm.MethodName)) ∈ lw_all := lw_g (lw_at lw_m6 143 rfl) rfl
theorem q1490 : (Jvm.Cond.instanceMethod ({ cls := "RideDesk$Drop", name := "taken", desc := "(I)I" } : Jvm.MethodName)) ∈ lw_all := lw_g (lw_at lw_m6 144 rfl) rfl
theorem q1491 : (Jvm.Cond.code ({ cls := "RideDesk$Drop", name := "taken", desc := "(I)I" } : Jvm.MethodName) prog_3_method_2_code (2 : Nat) (Option.some Jvm.ClassFile.FieldType.int)) ∈ lw_all := lw_g (lw_at lw_m6 145 rfl) rfl
theorem q1498 : (Jvm.Cond.selects "RideDesk$Drop" ({ cls := "RideDesk$Stop", name := "begin", desc := "(LRideDesk$State;I)I" } : Jvm.MethodName) ({ cls := "RideDesk$Stop", name := "begin", desc := "(LRideDesk$State;I)I" } : Jvm.MethodName)) ∈ lw_all := lw_g (lw_at lw_m6 152 rfl) rfl
theorem q2884 : (Jvm.Cond.castable "RideDesk$Drop" "RideDesk$Stop") ∈ lw_tbl := lw_at lw_m12 98 rfl
theorem q2913 : (Jvm.Cond.castable "RideDesk$Drop" "java/lang/Object") ∈ lw_tbl := lw_at lw_m12 127 rfl
theorem in_X17 : ∀ w ∈ wsX170, w ∈ lw_all := lw_in wsX170 [1435, 1436] (by decide +kernel) (by decide +kernel)

/-! RideDesk$Route$1 -/
set_option maxRecDepth 100000
def RX18 : String := "RideDesk$Route$1"
def TX18 : u_T := fun k => match k with
  | 0 => ("RideDesk$Route$1", "at", "I", false)
  | _ => ("RideDesk$Route$1", "this$0", "LRideDesk$Route;", true)
def tyX18 : Nat → FieldType := fun k => match k with
  | 0 => .int
  | _ => .object "RideDesk$Route"
abbrev wsX180 : List Cond := u_ws RX18 TX18 2
theorem nmX18 : ∀ a, a < 2 → ∀ b, b < 2 → a ≠ b → (TX18 a).2.1 ≠ (TX18 b).2.1 := by decide +kernel
theorem tyX18_ok : ∀ k, k < 2 → parseFieldDescriptor (TX18 k).2.2.1 = some (tyX18 k) := by decide +kernel
abbrev cX18_init : ByteArray := prog_14_method_1_code
def yX18_init : MethodName := ⟨RX18, "<init>", "(LRideDesk$Route;)V"⟩
def dkwX18_init_0 : List UInt8 := [42, 43, 181, 0, 1, 42, 183, 0, 7, 177]
abbrev dktX18_init_0 : List UInt8 := dkwX18_init_0 ++ []
theorem dksX18_init_0 : cX18_init.data.toList.drop 0 = dktX18_init_0 := by decide +kernel
theorem dX18_init_0 : decode cX18_init 0 = .ok (.aload_n 0, 1) := dk_42 (dk_at dksX18_init_0 0 rfl rfl)
theorem dX18_init_1 : decode cX18_init 1 = .ok (.aload_n 1, 1) := dk_43 (dk_at dksX18_init_0 1 rfl rfl)
theorem dX18_init_2 : decode cX18_init 2 = .ok (.putfield 1, 3) := dk_181 0 1 (dk_at dksX18_init_0 2 rfl rfl)
theorem dX18_init_5 : decode cX18_init 5 = .ok (.aload_n 0, 1) := dk_42 (dk_at dksX18_init_0 5 rfl rfl)
theorem dX18_init_6 : decode cX18_init 6 = .ok (.invokespecial 7, 3) := dk_183 0 7 (dk_at dksX18_init_0 6 rfl rfl)
theorem dX18_init_9 : decode cX18_init 9 = .ok (.return_, 1) := dk_177 (dk_at dksX18_init_0 9 rfl rfl)
abbrev cX18_hasNext : ByteArray := prog_14_method_2_code
def yX18_hasNext : MethodName := ⟨RX18, "hasNext", "()Z"⟩
def dkwX18_hasNext_0 : List UInt8 := [42, 180, 0, 13, 42, 180, 0, 1, 180, 0, 17, 162, 0, 7, 4, 167, 0, 4, 3, 172]
abbrev dktX18_hasNext_0 : List UInt8 := dkwX18_hasNext_0 ++ []
theorem dksX18_hasNext_0 : cX18_hasNext.data.toList.drop 0 = dktX18_hasNext_0 := by decide +kernel
theorem dX18_hasNext_0 : decode cX18_hasNext 0 = .ok (.aload_n 0, 1) := dk_42 (dk_at dksX18_hasNext_0 0 rfl rfl)
theorem dX18_hasNext_1 : decode cX18_hasNext 1 = .ok (.getfield 13, 3) := dk_180 0 13 (dk_at dksX18_hasNext_0 1 rfl rfl)
theorem dX18_hasNext_4 : decode cX18_hasNext 4 = .ok (.aload_n 0, 1) := dk_42 (dk_at dksX18_hasNext_0 4 rfl rfl)
theorem dX18_hasNext_5 : decode cX18_hasNext 5 = .ok (.getfield 1, 3) := dk_180 0 1 (dk_at dksX18_hasNext_0 5 rfl rfl)
theorem dX18_hasNext_8 : decode cX18_hasNext 8 = .ok (.getfield 17, 3) := dk_180 0 17 (dk_at dksX18_hasNext_0 8 rfl rfl)
theorem dX18_hasNext_11 : decode cX18_hasNext 11 = .ok (.if_icmp .ge 7, 3) := dk_162 0 7 (dk_at dksX18_hasNext_0 11 rfl rfl)
theorem dX18_hasNext_14 : decode cX18_hasNext 14 = .ok (.iconst 1, 1) := dk_4 (dk_at dksX18_hasNext_0 14 rfl rfl)
theorem dX18_hasNext_15 : decode cX18_hasNext 15 = .ok (.goto 4, 3) := dk_167 0 4 (dk_at dksX18_hasNext_0 15 rfl rfl)
theorem dX18_hasNext_18 : decode cX18_hasNext 18 = .ok (.iconst 0, 1) := dk_3 (dk_at dksX18_hasNext_0 18 rfl rfl)
theorem dX18_hasNext_19 : decode cX18_hasNext 19 = .ok (.ireturn, 1) := dk_172 (dk_at dksX18_hasNext_0 19 rfl rfl)
abbrev cX18_next : ByteArray := prog_14_method_4_code
def yX18_next : MethodName := ⟨RX18, "next", "()Ljava/lang/Object;"⟩
theorem dX18_next_0 : decode cX18_next 0 = .ok (.aload_n 0, 1) := by decide +kernel
theorem dX18_next_1 : decode cX18_next 1 = .ok (.invokevirtual 29, 3) := by decide +kernel
theorem dX18_next_4 : decode cX18_next 4 = .ok (.areturn, 1) := by decide +kernel
abbrev cX18_next_2 : ByteArray := prog_14_method_3_code
def yX18_next_2 : MethodName := ⟨RX18, "next", "()LRideDesk$Stop;"⟩
def dkwX18_next_2_1 : List UInt8 := [180, 0, 13, 4, 96, 181, 0, 13, 42, 180, 0, 1, 180, 0, 25, 42, 180, 0, 13, 4, 100, 50, 176]
abbrev dktX18_next_2_1 : List UInt8 := dkwX18_next_2_1 ++ []
def dkwX18_next_2_0 : List UInt8 := [42, 180, 0, 13, 42, 180, 0, 1, 180, 0, 17, 161, 0, 11, 187, 0, 22, 89, 183, 0, 24, 191, 42, 89]
abbrev dktX18_next_2_0 : List UInt8 := dkwX18_next_2_0 ++ dktX18_next_2_1
theorem dksX18_next_2_0 : cX18_next_2.data.toList.drop 0 = dktX18_next_2_0 := by decide +kernel
theorem dksX18_next_2_1 : cX18_next_2.data.toList.drop 24 = dktX18_next_2_1 := dk_seg dksX18_next_2_0 24 rfl rfl
theorem dX18_next_2_0 : decode cX18_next_2 0 = .ok (.aload_n 0, 1) := dk_42 (dk_at dksX18_next_2_0 0 rfl rfl)
theorem dX18_next_2_1 : decode cX18_next_2 1 = .ok (.getfield 13, 3) := dk_180 0 13 (dk_at dksX18_next_2_0 1 rfl rfl)
theorem dX18_next_2_4 : decode cX18_next_2 4 = .ok (.aload_n 0, 1) := dk_42 (dk_at dksX18_next_2_0 4 rfl rfl)
theorem dX18_next_2_5 : decode cX18_next_2 5 = .ok (.getfield 1, 3) := dk_180 0 1 (dk_at dksX18_next_2_0 5 rfl rfl)
theorem dX18_next_2_8 : decode cX18_next_2 8 = .ok (.getfield 17, 3) := dk_180 0 17 (dk_at dksX18_next_2_0 8 rfl rfl)
theorem dX18_next_2_11 : decode cX18_next_2 11 = .ok (.if_icmp .lt 11, 3) := dk_161 0 11 (dk_at dksX18_next_2_0 11 rfl rfl)
theorem dX18_next_2_14 : decode cX18_next_2 14 = .ok (.new 22, 3) := dk_187 0 22 (dk_at dksX18_next_2_0 14 rfl rfl)
theorem dX18_next_2_17 : decode cX18_next_2 17 = .ok (.dup, 1) := dk_89 (dk_at dksX18_next_2_0 17 rfl rfl)
theorem dX18_next_2_18 : decode cX18_next_2 18 = .ok (.invokespecial 24, 3) := dk_183 0 24 (dk_at dksX18_next_2_0 18 rfl rfl)
theorem dX18_next_2_21 : decode cX18_next_2 21 = .ok (.athrow, 1) := dk_191 (dk_at dksX18_next_2_0 21 rfl rfl)
theorem dX18_next_2_22 : decode cX18_next_2 22 = .ok (.aload_n 0, 1) := dk_42 (dk_at dksX18_next_2_0 22 rfl rfl)
theorem dX18_next_2_23 : decode cX18_next_2 23 = .ok (.dup, 1) := dk_89 (dk_at dksX18_next_2_0 23 rfl rfl)
theorem dX18_next_2_24 : decode cX18_next_2 24 = .ok (.getfield 13, 3) := dk_180 0 13 (dk_at dksX18_next_2_1 0 rfl rfl)
theorem dX18_next_2_27 : decode cX18_next_2 27 = .ok (.iconst 1, 1) := dk_4 (dk_at dksX18_next_2_1 3 rfl rfl)
theorem dX18_next_2_28 : decode cX18_next_2 28 = .ok (.iadd, 1) := dk_96 (dk_at dksX18_next_2_1 4 rfl rfl)
theorem dX18_next_2_29 : decode cX18_next_2 29 = .ok (.putfield 13, 3) := dk_181 0 13 (dk_at dksX18_next_2_1 5 rfl rfl)
theorem dX18_next_2_32 : decode cX18_next_2 32 = .ok (.aload_n 0, 1) := dk_42 (dk_at dksX18_next_2_1 8 rfl rfl)
theorem dX18_next_2_33 : decode cX18_next_2 33 = .ok (.getfield 1, 3) := dk_180 0 1 (dk_at dksX18_next_2_1 9 rfl rfl)
theorem dX18_next_2_36 : decode cX18_next_2 36 = .ok (.getfield 25, 3) := dk_180 0 25 (dk_at dksX18_next_2_1 12 rfl rfl)
theorem dX18_next_2_39 : decode cX18_next_2 39 = .ok (.aload_n 0, 1) := dk_42 (dk_at dksX18_next_2_1 15 rfl rfl)
theorem dX18_next_2_40 : decode cX18_next_2 40 = .ok (.getfield 13, 3) := dk_180 0 13 (dk_at dksX18_next_2_1 16 rfl rfl)
theorem dX18_next_2_43 : decode cX18_next_2 43 = .ok (.iconst 1, 1) := dk_4 (dk_at dksX18_next_2_1 19 rfl rfl)
theorem dX18_next_2_44 : decode cX18_next_2 44 = .ok (.isub, 1) := dk_100 (dk_at dksX18_next_2_1 20 rfl rfl)
theorem dX18_next_2_45 : decode cX18_next_2 45 = .ok (.aaload, 1) := dk_50 (dk_at dksX18_next_2_1 21 rfl rfl)
theorem dX18_next_2_46 : decode cX18_next_2 46 = .ok (.areturn, 1) := dk_176 (dk_at dksX18_next_2_1 22 rfl rfl)
theorem q190 : (Jvm.Cond.initialized "RideDesk$Route$1") ∈ lw_all := lw_g (lw_at lw_m1 44 rfl) rfl
theorem q234 : (Jvm.Cond.fieldLinkNest "RideDesk$Route$1" (25 : Nat) "RideDesk$Route" "stops" "[LRideDesk$Stop;" "RideDesk") ∈ lw_tbl := lw_at lw_m1 88 rfl
theorem q240 : (Jvm.Cond.fieldLinkNest "RideDesk$Route$1" (17 : Nat) "RideDesk$Route" "size" "I" "RideDesk") ∈ lw_tbl := lw_at lw_m1 94 rfl
theorem q1192 : (Jvm.Cond.selects "RideDesk$Route$1" ({ cls := "java/lang/Object", name := "getClass", desc := "()Ljava/lang/Class;" } : Jvm.MethodName) ({ cls := "java/lang/Object", name := "getClass", desc := "()Ljava/lang/Class;" } : Jvm.MethodName)) ∈ lw_all := lw_g (lw_at lw_m5 86 rfl) rfl
theorem q1792 : (Jvm.Cond.instantiable "RideDesk$Route$1" (2 : Nat)) ∈ lw_all := lw_g (lw_at lw_m7 206 rfl) rfl
theorem q1794 : (Jvm.Cond.instanceMethod ({ cls := "RideDesk$Route$1", name := "<init>", desc := "(LRideDesk$Route;)V" } : Jvm.MethodName)) ∈ lw_all := lw_g (lw_at lw_m7 208 rfl) rfl
theorem q1795 : (Jvm.Cond.code ({ cls := "RideDesk$Route$1", name := "<init>", desc := "(LRideDesk$Route;)V" } : Jvm.MethodName) prog_14_method_1_code (2 : Nat) (Option.none : Option Jvm.ClassFile.FieldType)) ∈ lw_all := lw_g (lw_at lw_m7 209 rfl) rfl
theorem q1796 : (Jvm.Cond.methodLink "RideDesk$Route$1" (7 : Nat) ({ cls := "java/lang/Object", name := "<init>", desc := "()V" } : Jvm.MethodName)) ∈ lw_all := lw_g (lw_at lw_m7 210 rfl) rfl
theorem q1797 : (Jvm.Cond.fieldLink "RideDesk$Route$1" (13 : Nat) "RideDesk$Route$1" "at" "I") ∈ lw_all := lw_g (lw_at lw_m7 211 rfl) rfl
theorem q1798 : (Jvm.Cond.fieldLink "RideDesk$Route$1" (1 : Nat) "RideDesk$Route$1" "this$0" "LRideDesk$Route;") ∈ lw_all := lw_g (lw_at lw_m7 212 rfl) rfl
theorem q1799 : (Jvm.Cond.lays "RideDesk$Route$1" "RideDesk$Route$1" "at" "I") ∈ lw_all := lw_g (lw_at lw_m7 213 rfl) rfl
theorem q1800 : (Jvm.Cond.soleField "RideDesk$Route$1" "at") ∈ lw_all := lw_g (lw_at lw_m7 214 rfl) rfl
theorem q1801 : (Jvm.Cond.laysFinal "RideDesk$Route$1" "RideDesk$Route$1" "this$0" "LRideDesk$Route;") ∈ lw_all := lw_g (lw_at lw_m7 215 rfl) rfl
theorem q1802 : (Jvm.Cond.soleField "RideDesk$Route$1" "this$0") ∈ lw_all := lw_g (lw_at lw_m7 216 rfl) rfl
theorem q1803 : (Jvm.Cond.superclass "RideDesk$Route$1" "java/lang/Object") ∈ lw_all := lw_g (lw_at lw_m7 217 rfl) rfl
theorem q1808 : (Jvm.Cond.castable "RideDesk$Route$1" "java/util/Iterator") ∈ lw_tbl := lw_at lw_m7 222 rfl
theorem q1809 : (Jvm.Cond.selects "RideDesk$Route$1" ({ cls := "java/util/Iterator", name := "hasNext", desc := "()Z" } : Jvm.MethodName) ({ cls := "RideDesk$Route$1", name := "hasNext", desc := "()Z" } : Jvm.MethodName)) ∈ lw_all := lw_g (lw_at lw_m7 223 rfl) rfl
theorem q1810 : (Jvm.Cond.unhidden "RideDesk$Route$1" "hasNext" "()Z") ∈ lw_tbl := lw_at lw_m7 224 rfl
theorem q1811 : (Jvm.Cond.instanceMethod ({ cls := "RideDesk$Route$1", name := "hasNext", desc := "()Z" } : Jvm.MethodName)) ∈ lw_all := lw_g (lw_at lw_m7 225 rfl) rfl
theorem q1812 : (Jvm.Cond.publicMethod ({ cls := "RideDesk$Route$1", name := "hasNext", desc := "()Z" } : Jvm.MethodName)) ∈ lw_tbl := lw_at lw_m7 226 rfl
theorem q1813 : (Jvm.Cond.code ({ cls := "RideDesk$Route$1", name := "hasNext", desc := "()Z" } : Jvm.MethodName) prog_14_method_2_code (1 : Nat) (Option.some Jvm.ClassFile.FieldType.boolean)) ∈ lw_all := lw_g (lw_at lw_m7 227 rfl) rfl
theorem q1818 : (Jvm.Cond.selects "RideDesk$Route$1" ({ cls := "java/util/Iterator", name := "next", desc := "()Ljava/lang/Object;" } : Jvm.MethodName) ({ cls := "RideDesk$Route$1", name := "next", desc := "()Ljava/lang/Object;" } : Jvm.MethodName)) ∈ lw_all := lw_g (lw_at lw_m7 232 rfl) rfl
theorem q1819 : (Jvm.Cond.unhidden "RideDesk$Route$1" "next" "()Ljava/lang/Object;") ∈ lw_tbl := lw_at lw_m7 233 rfl
theorem q1820 : (Jvm.Cond.instanceMethod ({ cls := "RideDesk$Route$1", name := "next", desc := "()Ljava/lang/Object;" } : Jvm.MethodName)) ∈ lw_all := lw_g (lw_at lw_m7 234 rfl) rfl
theorem q1821 : (Jvm.Cond.publicMethod ({ cls := "RideDesk$Route$1", name := "next", desc := "()Ljava/lang/Object;" } : Jvm.MethodName)) ∈ lw_tbl := lw_at lw_m7 235 rfl
theorem q1822 : (Jvm.Cond.code ({ cls := "RideDesk$Route$1", name := "next", desc := "()Ljava/lang/Object;" } : Jvm.MethodName) prog_14_method_4_code (1 : Nat) (Option.some (Jvm.ClassFile.FieldType.object "java/lang/Object"))) ∈ lw_all := lw_g (lw_at lw_m7 236 rfl) rfl
theorem q1823 : (Jvm.Cond.methodLink "RideDesk$Route$1" (29 : Nat) ({ cls := "RideDesk$Route$1", name := "next", desc := "()LRideDesk$Stop;" } : Jvm.MethodName)) ∈ lw_all := lw_g (lw_at lw_m7 237 rfl) rfl
theorem q1824 : (Jvm.Cond.instanceMethod ({ cls := "RideDesk$Route$1", name := "next", desc := "()LRideDesk$Stop;" } : Jvm.MethodName)) ∈ lw_all := lw_g (lw_at lw_m7 238 rfl) rfl
theorem q1825 : (Jvm.Cond.selects "RideDesk$Route$1" ({ cls := "RideDesk$Route$1", name := "next", desc := "()LRideDesk$Stop;" } : Jvm.MethodName) ({ cls := "RideDesk$Route$1", name := "next", desc := "()LRideDesk$Stop;" } : Jvm.MethodName)) ∈ lw_all := lw_g (lw_at lw_m7 239 rfl) rfl
theorem q1826 : (Jvm.Cond.code ({ cls := "RideDesk$Route$1", name := "next", desc := "()LRideDesk$Stop;" } : Jvm.MethodName) prog_14_method_3_code (1 : Nat) (Option.some (Jvm.ClassFile.FieldType.object "RideDesk$Stop"))) ∈ lw_all := lw_g (lw_at lw_m8 0 rfl) rfl
theorem q1827 : (Jvm.Cond.classLink "RideDesk$Route$1" (22 : Nat) "java/util/NoSuchElementException") ∈ lw_all := lw_g (lw_at lw_m8 1 rfl) rfl
theorem q1836 : (Jvm.Cond.methodLink "RideDesk$Route$1" (24 : Nat) ({ cls := "java/util/NoSuchElementException", name := "<init>", desc := "()V" } : Jvm.MethodName)) ∈ lw_all := lw_g (lw_at lw_m8 10 rfl) rfl
theorem q2915 : (Jvm.Cond.castable "RideDesk$Route$1" "java/lang/Object") ∈ lw_tbl := lw_at lw_m12 129 rfl
theorem in_X18 : ∀ w ∈ wsX180, w ∈ lw_all := lw_in wsX180 [1799, 1801] (by decide +kernel) (by decide +kernel)

/-! RideDesk$Kind$1 -/
set_option maxRecDepth 100000
def RX19 : String := "RideDesk$Kind$1"
abbrev cX19_service : ByteArray := prog_6_method_2_code
def yX19_service : MethodName := ⟨RX19, "service", "(LRideDesk$Rules;)I"⟩
theorem dX19_service_0 : decode cX19_service 0 = .ok (.aload_n 1, 1) := by decide +kernel
theorem dX19_service_1 : decode cX19_service 1 = .ok (.getfield 7, 3) := by decide +kernel
theorem dX19_service_4 : decode cX19_service 4 = .ok (.ireturn, 1) := by decide +kernel
theorem q564 : (Jvm.Cond.fieldLinkNest "RideDesk$Kind$1" (7 : Nat) "RideDesk$Rules" "board" "I" "RideDesk") ∈ lw_tbl := lw_at lw_m2 178 rfl
theorem q1184 : (Jvm.Cond.selects "RideDesk$Kind$1" ({ cls := "java/lang/Object", name := "getClass", desc := "()Ljava/lang/Class;" } : Jvm.MethodName) ({ cls := "java/lang/Object", name := "getClass", desc := "()Ljava/lang/Class;" } : Jvm.MethodName)) ∈ lw_all := lw_g (lw_at lw_m5 78 rfl) rfl
theorem q1298 : (Jvm.Cond.selects "RideDesk$Kind$1" ({ cls := "RideDesk$Kind", name := "service", desc := "(LRideDesk$Rules;)I" } : Jvm.MethodName) ({ cls := "RideDesk$Kind$1", name := "service", desc := "(LRideDesk$Rules;)I" } : Jvm.MethodName)) ∈ lw_all := lw_g (lw_at lw_m5 192 rfl) rfl
theorem q1299 : (Jvm.Cond.instanceMethod ({ cls := "RideDesk$Kind$1", name := "service", desc := "(LRideDesk$Rules;)I" } : Jvm.MethodName)) ∈ lw_all := lw_g (lw_at lw_m5 193 rfl) rfl
theorem q1300 : (Jvm.Cond.code ({ cls := "RideDesk$Kind$1", name := "service", desc := "(LRideDesk$Rules;)I" } : Jvm.MethodName) prog_6_method_2_code (2 : Nat) (Option.some Jvm.ClassFile.FieldType.int)) ∈ lw_all := lw_g (lw_at lw_m5 194 rfl) rfl
theorem q2909 : (Jvm.Cond.castable "RideDesk$Kind$1" "java/lang/Object") ∈ lw_tbl := lw_at lw_m12 123 rfl
theorem q2918 : (Jvm.Cond.castable "RideDesk$Kind$1" "RideDesk$Kind") ∈ lw_tbl := lw_at lw_m12 132 rfl

/-! RideDesk$Route -/
set_option maxRecDepth 100000
def RX2 : String := "RideDesk$Route"
def TX2 : u_T := fun k => match k with
  | 0 => ("RideDesk$Route", "stops", "[LRideDesk$Stop;", false)
  | 1 => ("RideDesk$Route", "departure", "[I", false)
  | 2 => ("RideDesk$Route", "begin", "[I", false)
  | _ => ("RideDesk$Route", "size", "I", false)
def tyX2 : Nat → FieldType := fun k => match k with
  | 0 => .array (.object "RideDesk$Stop")
  | 1 => .array .int
  | 2 => .array .int
  | _ => .int
abbrev wsX20 : List Cond := u_ws RX2 TX2 4
theorem nmX2 : ∀ a, a < 4 → ∀ b, b < 4 → a ≠ b → (TX2 a).2.1 ≠ (TX2 b).2.1 := by decide +kernel
theorem tyX2_ok : ∀ k, k < 4 → parseFieldDescriptor (TX2 k).2.2.1 = some (tyX2 k) := by decide +kernel
abbrev cX2_init : ByteArray := prog_13_method_1_code
def yX2_init : MethodName := ⟨RX2, "<init>", "()V"⟩
def dkwX2_init_1 : List UInt8 := [188, 10, 181, 0, 21, 177]
abbrev dktX2_init_1 : List UInt8 := dkwX2_init_1 ++ []
def dkwX2_init_0 : List UInt8 := [42, 183, 0, 3, 42, 16, 50, 189, 0, 9, 181, 0, 11, 42, 16, 50, 188, 10, 181, 0, 17, 42, 16, 50]
abbrev dktX2_init_0 : List UInt8 := dkwX2_init_0 ++ dktX2_init_1
theorem dksX2_init_0 : cX2_init.data.toList.drop 0 = dktX2_init_0 := by decide +kernel
theorem dksX2_init_1 : cX2_init.data.toList.drop 24 = dktX2_init_1 := dk_seg dksX2_init_0 24 rfl rfl
theorem dX2_init_0 : decode cX2_init 0 = .ok (.aload_n 0, 1) := dk_42 (dk_at dksX2_init_0 0 rfl rfl)
theorem dX2_init_1 : decode cX2_init 1 = .ok (.invokespecial 3, 3) := dk_183 0 3 (dk_at dksX2_init_0 1 rfl rfl)
theorem dX2_init_4 : decode cX2_init 4 = .ok (.aload_n 0, 1) := dk_42 (dk_at dksX2_init_0 4 rfl rfl)
theorem dX2_init_5 : decode cX2_init 5 = .ok (.bipush 50, 2) := dk_16 50 (dk_at dksX2_init_0 5 rfl rfl)
theorem dX2_init_7 : decode cX2_init 7 = .ok (.anewarray 9, 3) := dk_189 0 9 (dk_at dksX2_init_0 7 rfl rfl)
theorem dX2_init_10 : decode cX2_init 10 = .ok (.putfield 11, 3) := dk_181 0 11 (dk_at dksX2_init_0 10 rfl rfl)
theorem dX2_init_13 : decode cX2_init 13 = .ok (.aload_n 0, 1) := dk_42 (dk_at dksX2_init_0 13 rfl rfl)
theorem dX2_init_14 : decode cX2_init 14 = .ok (.bipush 50, 2) := dk_16 50 (dk_at dksX2_init_0 14 rfl rfl)
theorem dX2_init_16 : decode cX2_init 16 = .ok (.newarray .int, 2) := dk_188_10 (dk_at dksX2_init_0 16 rfl rfl)
theorem dX2_init_18 : decode cX2_init 18 = .ok (.putfield 17, 3) := dk_181 0 17 (dk_at dksX2_init_0 18 rfl rfl)
theorem dX2_init_21 : decode cX2_init 21 = .ok (.aload_n 0, 1) := dk_42 (dk_at dksX2_init_0 21 rfl rfl)
theorem dX2_init_22 : decode cX2_init 22 = .ok (.bipush 50, 2) := dk_16 50 (dk_at dksX2_init_0 22 rfl rfl)
theorem dX2_init_24 : decode cX2_init 24 = .ok (.newarray .int, 2) := dk_188_10 (dk_at dksX2_init_1 0 rfl rfl)
theorem dX2_init_26 : decode cX2_init 26 = .ok (.putfield 21, 3) := dk_181 0 21 (dk_at dksX2_init_1 2 rfl rfl)
theorem dX2_init_29 : decode cX2_init 29 = .ok (.return_, 1) := dk_177 (dk_at dksX2_init_1 5 rfl rfl)
abbrev cX2_become : ByteArray := prog_13_method_6_code
def yX2_become : MethodName := ⟨RX2, "become", "(LRideDesk$Route;)V"⟩
def dkwX2_become_2 : List UInt8 := [180, 0, 25, 184, 0, 29, 42, 43, 180, 0, 25, 181, 0, 25, 177]
abbrev dktX2_become_2 : List UInt8 := dkwX2_become_2 ++ []
def dkwX2_become_1 : List UInt8 := [180, 0, 17, 3, 43, 180, 0, 25, 184, 0, 29, 43, 180, 0, 21, 3, 42, 180, 0, 21, 3, 43]
abbrev dktX2_become_1 : List UInt8 := dkwX2_become_1 ++ dktX2_become_2
def dkwX2_become_0 : List UInt8 := [43, 180, 0, 11, 3, 42, 180, 0, 11, 3, 43, 180, 0, 25, 184, 0, 29, 43, 180, 0, 17, 3, 42]
abbrev dktX2_become_0 : List UInt8 := dkwX2_become_0 ++ dktX2_become_1
theorem dksX2_become_0 : cX2_become.data.toList.drop 0 = dktX2_become_0 := by decide +kernel
theorem dksX2_become_1 : cX2_become.data.toList.drop 23 = dktX2_become_1 := dk_seg dksX2_become_0 23 rfl rfl
theorem dksX2_become_2 : cX2_become.data.toList.drop 45 = dktX2_become_2 := dk_seg dksX2_become_1 22 rfl rfl
theorem dX2_become_0 : decode cX2_become 0 = .ok (.aload_n 1, 1) := dk_43 (dk_at dksX2_become_0 0 rfl rfl)
theorem dX2_become_1 : decode cX2_become 1 = .ok (.getfield 11, 3) := dk_180 0 11 (dk_at dksX2_become_0 1 rfl rfl)
theorem dX2_become_4 : decode cX2_become 4 = .ok (.iconst 0, 1) := dk_3 (dk_at dksX2_become_0 4 rfl rfl)
theorem dX2_become_5 : decode cX2_become 5 = .ok (.aload_n 0, 1) := dk_42 (dk_at dksX2_become_0 5 rfl rfl)
theorem dX2_become_6 : decode cX2_become 6 = .ok (.getfield 11, 3) := dk_180 0 11 (dk_at dksX2_become_0 6 rfl rfl)
theorem dX2_become_9 : decode cX2_become 9 = .ok (.iconst 0, 1) := dk_3 (dk_at dksX2_become_0 9 rfl rfl)
theorem dX2_become_10 : decode cX2_become 10 = .ok (.aload_n 1, 1) := dk_43 (dk_at dksX2_become_0 10 rfl rfl)
theorem dX2_become_11 : decode cX2_become 11 = .ok (.getfield 25, 3) := dk_180 0 25 (dk_at dksX2_become_0 11 rfl rfl)
theorem dX2_become_14 : decode cX2_become 14 = .ok (.invokestatic 29, 3) := dk_184 0 29 (dk_at dksX2_become_0 14 rfl rfl)
theorem dX2_become_17 : decode cX2_become 17 = .ok (.aload_n 1, 1) := dk_43 (dk_at dksX2_become_0 17 rfl rfl)
theorem dX2_become_18 : decode cX2_become 18 = .ok (.getfield 17, 3) := dk_180 0 17 (dk_at dksX2_become_0 18 rfl rfl)
theorem dX2_become_21 : decode cX2_become 21 = .ok (.iconst 0, 1) := dk_3 (dk_at dksX2_become_0 21 rfl rfl)
theorem dX2_become_22 : decode cX2_become 22 = .ok (.aload_n 0, 1) := dk_42 (dk_at dksX2_become_0 22 rfl rfl)
theorem dX2_become_23 : decode cX2_become 23 = .ok (.getfield 17, 3) := dk_180 0 17 (dk_at dksX2_become_1 0 rfl rfl)
theorem dX2_become_26 : decode cX2_become 26 = .ok (.iconst 0, 1) := dk_3 (dk_at dksX2_become_1 3 rfl rfl)
theorem dX2_become_27 : decode cX2_become 27 = .ok (.aload_n 1, 1) := dk_43 (dk_at dksX2_become_1 4 rfl rfl)
theorem dX2_become_28 : decode cX2_become 28 = .ok (.getfield 25, 3) := dk_180 0 25 (dk_at dksX2_become_1 5 rfl rfl)
theorem dX2_become_31 : decode cX2_become 31 = .ok (.invokestatic 29, 3) := dk_184 0 29 (dk_at dksX2_become_1 8 rfl rfl)
theorem dX2_become_34 : decode cX2_become 34 = .ok (.aload_n 1, 1) := dk_43 (dk_at dksX2_become_1 11 rfl rfl)
theorem dX2_become_35 : decode cX2_become 35 = .ok (.getfield 21, 3) := dk_180 0 21 (dk_at dksX2_become_1 12 rfl rfl)
theorem dX2_become_38 : decode cX2_become 38 = .ok (.iconst 0, 1) := dk_3 (dk_at dksX2_become_1 15 rfl rfl)
theorem dX2_become_39 : decode cX2_become 39 = .ok (.aload_n 0, 1) := dk_42 (dk_at dksX2_become_1 16 rfl rfl)
theorem dX2_become_40 : decode cX2_become 40 = .ok (.getfield 21, 3) := dk_180 0 21 (dk_at dksX2_become_1 17 rfl rfl)
theorem dX2_become_43 : decode cX2_become 43 = .ok (.iconst 0, 1) := dk_3 (dk_at dksX2_become_1 20 rfl rfl)
theorem dX2_become_44 : decode cX2_become 44 = .ok (.aload_n 1, 1) := dk_43 (dk_at dksX2_become_1 21 rfl rfl)
theorem dX2_become_45 : decode cX2_become 45 = .ok (.getfield 25, 3) := dk_180 0 25 (dk_at dksX2_become_2 0 rfl rfl)
theorem dX2_become_48 : decode cX2_become 48 = .ok (.invokestatic 29, 3) := dk_184 0 29 (dk_at dksX2_become_2 3 rfl rfl)
theorem dX2_become_51 : decode cX2_become 51 = .ok (.aload_n 0, 1) := dk_42 (dk_at dksX2_become_2 6 rfl rfl)
theorem dX2_become_52 : decode cX2_become 52 = .ok (.aload_n 1, 1) := dk_43 (dk_at dksX2_become_2 7 rfl rfl)
theorem dX2_become_53 : decode cX2_become 53 = .ok (.getfield 25, 3) := dk_180 0 25 (dk_at dksX2_become_2 8 rfl rfl)
theorem dX2_become_56 : decode cX2_become 56 = .ok (.putfield 25, 3) := dk_181 0 25 (dk_at dksX2_become_2 11 rfl rfl)
theorem dX2_become_59 : decode cX2_become 59 = .ok (.return_, 1) := dk_177 (dk_at dksX2_become_2 14 rfl rfl)
abbrev cX2_insert : ByteArray := prog_13_method_4_code
def yX2_insert : MethodName := ⟨RX2, "insert", "(ILRideDesk$Stop;)V"⟩
def dkwX2_insert_1 : List UInt8 := [180, 0, 11, 27, 44, 83, 42, 89, 180, 0, 25, 4, 96, 181, 0, 25, 177]
abbrev dktX2_insert_1 : List UInt8 := dkwX2_insert_1 ++ []
def dkwX2_insert_0 : List UInt8 := [42, 180, 0, 11, 27, 42, 180, 0, 11, 27, 4, 96, 42, 180, 0, 25, 27, 100, 184, 0, 29, 42]
abbrev dktX2_insert_0 : List UInt8 := dkwX2_insert_0 ++ dktX2_insert_1
theorem dksX2_insert_0 : cX2_insert.data.toList.drop 0 = dktX2_insert_0 := by decide +kernel
theorem dksX2_insert_1 : cX2_insert.data.toList.drop 22 = dktX2_insert_1 := dk_seg dksX2_insert_0 22 rfl rfl
theorem dX2_insert_0 : decode cX2_insert 0 = .ok (.aload_n 0, 1) := dk_42 (dk_at dksX2_insert_0 0 rfl rfl)
theorem dX2_insert_1 : decode cX2_insert 1 = .ok (.getfield 11, 3) := dk_180 0 11 (dk_at dksX2_insert_0 1 rfl rfl)
theorem dX2_insert_4 : decode cX2_insert 4 = .ok (.iload_n 1, 1) := dk_27 (dk_at dksX2_insert_0 4 rfl rfl)
theorem dX2_insert_5 : decode cX2_insert 5 = .ok (.aload_n 0, 1) := dk_42 (dk_at dksX2_insert_0 5 rfl rfl)
theorem dX2_insert_6 : decode cX2_insert 6 = .ok (.getfield 11, 3) := dk_180 0 11 (dk_at dksX2_insert_0 6 rfl rfl)
theorem dX2_insert_9 : decode cX2_insert 9 = .ok (.iload_n 1, 1) := dk_27 (dk_at dksX2_insert_0 9 rfl rfl)
theorem dX2_insert_10 : decode cX2_insert 10 = .ok (.iconst 1, 1) := dk_4 (dk_at dksX2_insert_0 10 rfl rfl)
theorem dX2_insert_11 : decode cX2_insert 11 = .ok (.iadd, 1) := dk_96 (dk_at dksX2_insert_0 11 rfl rfl)
theorem dX2_insert_12 : decode cX2_insert 12 = .ok (.aload_n 0, 1) := dk_42 (dk_at dksX2_insert_0 12 rfl rfl)
theorem dX2_insert_13 : decode cX2_insert 13 = .ok (.getfield 25, 3) := dk_180 0 25 (dk_at dksX2_insert_0 13 rfl rfl)
theorem dX2_insert_16 : decode cX2_insert 16 = .ok (.iload_n 1, 1) := dk_27 (dk_at dksX2_insert_0 16 rfl rfl)
theorem dX2_insert_17 : decode cX2_insert 17 = .ok (.isub, 1) := dk_100 (dk_at dksX2_insert_0 17 rfl rfl)
theorem dX2_insert_18 : decode cX2_insert 18 = .ok (.invokestatic 29, 3) := dk_184 0 29 (dk_at dksX2_insert_0 18 rfl rfl)
theorem dX2_insert_21 : decode cX2_insert 21 = .ok (.aload_n 0, 1) := dk_42 (dk_at dksX2_insert_0 21 rfl rfl)
theorem dX2_insert_22 : decode cX2_insert 22 = .ok (.getfield 11, 3) := dk_180 0 11 (dk_at dksX2_insert_1 0 rfl rfl)
theorem dX2_insert_25 : decode cX2_insert 25 = .ok (.iload_n 1, 1) := dk_27 (dk_at dksX2_insert_1 3 rfl rfl)
theorem dX2_insert_26 : decode cX2_insert 26 = .ok (.aload_n 2, 1) := dk_44 (dk_at dksX2_insert_1 4 rfl rfl)
theorem dX2_insert_27 : decode cX2_insert 27 = .ok (.aastore, 1) := dk_83 (dk_at dksX2_insert_1 5 rfl rfl)
theorem dX2_insert_28 : decode cX2_insert 28 = .ok (.aload_n 0, 1) := dk_42 (dk_at dksX2_insert_1 6 rfl rfl)
theorem dX2_insert_29 : decode cX2_insert 29 = .ok (.dup, 1) := dk_89 (dk_at dksX2_insert_1 7 rfl rfl)
theorem dX2_insert_30 : decode cX2_insert 30 = .ok (.getfield 25, 3) := dk_180 0 25 (dk_at dksX2_insert_1 8 rfl rfl)
theorem dX2_insert_33 : decode cX2_insert 33 = .ok (.iconst 1, 1) := dk_4 (dk_at dksX2_insert_1 11 rfl rfl)
theorem dX2_insert_34 : decode cX2_insert 34 = .ok (.iadd, 1) := dk_96 (dk_at dksX2_insert_1 12 rfl rfl)
theorem dX2_insert_35 : decode cX2_insert 35 = .ok (.putfield 25, 3) := dk_181 0 25 (dk_at dksX2_insert_1 13 rfl rfl)
theorem dX2_insert_38 : decode cX2_insert 38 = .ok (.return_, 1) := dk_177 (dk_at dksX2_insert_1 16 rfl rfl)
abbrev cX2_placeOf : ByteArray := prog_13_method_7_code
def yX2_placeOf : MethodName := ⟨RX2, "placeOf", "(IZ)I"⟩
def dkwX2_placeOf_1 : List UInt8 := [180, 0, 11, 29, 50, 193, 0, 43, 28, 160, 0, 5, 29, 172, 132, 3, 1, 167, 255, 217, 2, 172]
abbrev dktX2_placeOf_1 : List UInt8 := dkwX2_placeOf_1 ++ []
def dkwX2_placeOf_0 : List UInt8 := [3, 62, 29, 42, 180, 0, 25, 162, 0, 37, 42, 180, 0, 11, 29, 50, 180, 0, 40, 27, 160, 0, 18, 42]
abbrev dktX2_placeOf_0 : List UInt8 := dkwX2_placeOf_0 ++ dktX2_placeOf_1
theorem dksX2_placeOf_0 : cX2_placeOf.data.toList.drop 0 = dktX2_placeOf_0 := by decide +kernel
theorem dksX2_placeOf_1 : cX2_placeOf.data.toList.drop 24 = dktX2_placeOf_1 := dk_seg dksX2_placeOf_0 24 rfl rfl
theorem dX2_placeOf_0 : decode cX2_placeOf 0 = .ok (.iconst 0, 1) := dk_3 (dk_at dksX2_placeOf_0 0 rfl rfl)
theorem dX2_placeOf_1 : decode cX2_placeOf 1 = .ok (.istore_n 3, 1) := dk_62 (dk_at dksX2_placeOf_0 1 rfl rfl)
theorem dX2_placeOf_2 : decode cX2_placeOf 2 = .ok (.iload_n 3, 1) := dk_29 (dk_at dksX2_placeOf_0 2 rfl rfl)
theorem dX2_placeOf_3 : decode cX2_placeOf 3 = .ok (.aload_n 0, 1) := dk_42 (dk_at dksX2_placeOf_0 3 rfl rfl)
theorem dX2_placeOf_4 : decode cX2_placeOf 4 = .ok (.getfield 25, 3) := dk_180 0 25 (dk_at dksX2_placeOf_0 4 rfl rfl)
theorem dX2_placeOf_7 : decode cX2_placeOf 7 = .ok (.if_icmp .ge 37, 3) := dk_162 0 37 (dk_at dksX2_placeOf_0 7 rfl rfl)
theorem dX2_placeOf_10 : decode cX2_placeOf 10 = .ok (.aload_n 0, 1) := dk_42 (dk_at dksX2_placeOf_0 10 rfl rfl)
theorem dX2_placeOf_11 : decode cX2_placeOf 11 = .ok (.getfield 11, 3) := dk_180 0 11 (dk_at dksX2_placeOf_0 11 rfl rfl)
theorem dX2_placeOf_14 : decode cX2_placeOf 14 = .ok (.iload_n 3, 1) := dk_29 (dk_at dksX2_placeOf_0 14 rfl rfl)
theorem dX2_placeOf_15 : decode cX2_placeOf 15 = .ok (.aaload, 1) := dk_50 (dk_at dksX2_placeOf_0 15 rfl rfl)
theorem dX2_placeOf_16 : decode cX2_placeOf 16 = .ok (.getfield 40, 3) := dk_180 0 40 (dk_at dksX2_placeOf_0 16 rfl rfl)
theorem dX2_placeOf_19 : decode cX2_placeOf 19 = .ok (.iload_n 1, 1) := dk_27 (dk_at dksX2_placeOf_0 19 rfl rfl)
theorem dX2_placeOf_20 : decode cX2_placeOf 20 = .ok (.if_icmp .ne 18, 3) := dk_160 0 18 (dk_at dksX2_placeOf_0 20 rfl rfl)
theorem dX2_placeOf_23 : decode cX2_placeOf 23 = .ok (.aload_n 0, 1) := dk_42 (dk_at dksX2_placeOf_0 23 rfl rfl)
theorem dX2_placeOf_24 : decode cX2_placeOf 24 = .ok (.getfield 11, 3) := dk_180 0 11 (dk_at dksX2_placeOf_1 0 rfl rfl)
theorem dX2_placeOf_27 : decode cX2_placeOf 27 = .ok (.iload_n 3, 1) := dk_29 (dk_at dksX2_placeOf_1 3 rfl rfl)
theorem dX2_placeOf_28 : decode cX2_placeOf 28 = .ok (.aaload, 1) := dk_50 (dk_at dksX2_placeOf_1 4 rfl rfl)
theorem dX2_placeOf_29 : decode cX2_placeOf 29 = .ok (.instanceof 43, 3) := dk_193 0 43 (dk_at dksX2_placeOf_1 5 rfl rfl)
theorem dX2_placeOf_32 : decode cX2_placeOf 32 = .ok (.iload_n 2, 1) := dk_28 (dk_at dksX2_placeOf_1 8 rfl rfl)
theorem dX2_placeOf_33 : decode cX2_placeOf 33 = .ok (.if_icmp .ne 5, 3) := dk_160 0 5 (dk_at dksX2_placeOf_1 9 rfl rfl)
theorem dX2_placeOf_36 : decode cX2_placeOf 36 = .ok (.iload_n 3, 1) := dk_29 (dk_at dksX2_placeOf_1 12 rfl rfl)
theorem dX2_placeOf_37 : decode cX2_placeOf 37 = .ok (.ireturn, 1) := dk_172 (dk_at dksX2_placeOf_1 13 rfl rfl)
theorem dX2_placeOf_38 : decode cX2_placeOf 38 = .ok (.iinc 3 1, 3) := dk_132 3 1 (dk_at dksX2_placeOf_1 14 rfl rfl)
theorem dX2_placeOf_41 : decode cX2_placeOf 41 = .ok (.goto (-39), 3) := dk_167 255 217 (dk_at dksX2_placeOf_1 17 rfl rfl)
theorem dX2_placeOf_44 : decode cX2_placeOf 44 = .ok (.iconst (-1), 1) := dk_2 (dk_at dksX2_placeOf_1 20 rfl rfl)
theorem dX2_placeOf_45 : decode cX2_placeOf 45 = .ok (.ireturn, 1) := dk_172 (dk_at dksX2_placeOf_1 21 rfl rfl)
abbrev cX2_iterator : ByteArray := prog_13_method_3_code
def yX2_iterator : MethodName := ⟨RX2, "iterator", "()Ljava/util/Iterator;"⟩
def dkwX2_iterator_0 : List UInt8 := [187, 0, 35, 89, 42, 183, 0, 37, 176]
abbrev dktX2_iterator_0 : List UInt8 := dkwX2_iterator_0 ++ []
theorem dksX2_iterator_0 : cX2_iterator.data.toList.drop 0 = dktX2_iterator_0 := by decide +kernel
theorem dX2_iterator_0 : decode cX2_iterator 0 = .ok (.new 35, 3) := dk_187 0 35 (dk_at dksX2_iterator_0 0 rfl rfl)
theorem dX2_iterator_3 : decode cX2_iterator 3 = .ok (.dup, 1) := dk_89 (dk_at dksX2_iterator_0 3 rfl rfl)
theorem dX2_iterator_4 : decode cX2_iterator 4 = .ok (.aload_n 0, 1) := dk_42 (dk_at dksX2_iterator_0 4 rfl rfl)
theorem dX2_iterator_5 : decode cX2_iterator 5 = .ok (.invokespecial 37, 3) := dk_183 0 37 (dk_at dksX2_iterator_0 5 rfl rfl)
theorem dX2_iterator_8 : decode cX2_iterator 8 = .ok (.areturn, 1) := dk_176 (dk_at dksX2_iterator_0 8 rfl rfl)
abbrev cX2_copy : ByteArray := prog_13_method_2_code
def yX2_copy : MethodName := ⟨RX2, "copy", "()LRideDesk$Route;"⟩
def dkwX2_copy_3 : List UInt8 := [184, 0, 29, 43, 176]
abbrev dktX2_copy_3 : List UInt8 := dkwX2_copy_3 ++ []
def dkwX2_copy_2 : List UInt8 := [180, 0, 17, 190, 184, 0, 29, 42, 180, 0, 21, 3, 43, 180, 0, 21, 3, 42, 180, 0, 21, 190]
abbrev dktX2_copy_2 : List UInt8 := dkwX2_copy_2 ++ dktX2_copy_3
def dkwX2_copy_1 : List UInt8 := [180, 0, 11, 3, 42, 180, 0, 11, 190, 184, 0, 29, 42, 180, 0, 17, 3, 43, 180, 0, 17, 3, 42]
abbrev dktX2_copy_1 : List UInt8 := dkwX2_copy_1 ++ dktX2_copy_2
def dkwX2_copy_0 : List UInt8 := [187, 0, 12, 89, 183, 0, 24, 76, 43, 42, 180, 0, 25, 181, 0, 25, 42, 180, 0, 11, 3, 43]
abbrev dktX2_copy_0 : List UInt8 := dkwX2_copy_0 ++ dktX2_copy_1
theorem dksX2_copy_0 : cX2_copy.data.toList.drop 0 = dktX2_copy_0 := by decide +kernel
theorem dksX2_copy_1 : cX2_copy.data.toList.drop 22 = dktX2_copy_1 := dk_seg dksX2_copy_0 22 rfl rfl
theorem dksX2_copy_2 : cX2_copy.data.toList.drop 45 = dktX2_copy_2 := dk_seg dksX2_copy_1 23 rfl rfl
theorem dksX2_copy_3 : cX2_copy.data.toList.drop 67 = dktX2_copy_3 := dk_seg dksX2_copy_2 22 rfl rfl
theorem dX2_copy_0 : decode cX2_copy 0 = .ok (.new 12, 3) := dk_187 0 12 (dk_at dksX2_copy_0 0 rfl rfl)
theorem dX2_copy_3 : decode cX2_copy 3 = .ok (.dup, 1) := dk_89 (dk_at dksX2_copy_0 3 rfl rfl)
theorem dX2_copy_4 : decode cX2_copy 4 = .ok (.invokespecial 24, 3) := dk_183 0 24 (dk_at dksX2_copy_0 4 rfl rfl)
theorem dX2_copy_7 : decode cX2_copy 7 = .ok (.astore_n 1, 1) := dk_76 (dk_at dksX2_copy_0 7 rfl rfl)
theorem dX2_copy_8 : decode cX2_copy 8 = .ok (.aload_n 1, 1) := dk_43 (dk_at dksX2_copy_0 8 rfl rfl)
theorem dX2_copy_9 : decode cX2_copy 9 = .ok (.aload_n 0, 1) := dk_42 (dk_at dksX2_copy_0 9 rfl rfl)
theorem dX2_copy_10 : decode cX2_copy 10 = .ok (.getfield 25, 3) := dk_180 0 25 (dk_at dksX2_copy_0 10 rfl rfl)
theorem dX2_copy_13 : decode cX2_copy 13 = .ok (.putfield 25, 3) := dk_181 0 25 (dk_at dksX2_copy_0 13 rfl rfl)
theorem dX2_copy_16 : decode cX2_copy 16 = .ok (.aload_n 0, 1) := dk_42 (dk_at dksX2_copy_0 16 rfl rfl)
theorem dX2_copy_17 : decode cX2_copy 17 = .ok (.getfield 11, 3) := dk_180 0 11 (dk_at dksX2_copy_0 17 rfl rfl)
theorem dX2_copy_20 : decode cX2_copy 20 = .ok (.iconst 0, 1) := dk_3 (dk_at dksX2_copy_0 20 rfl rfl)
theorem dX2_copy_21 : decode cX2_copy 21 = .ok (.aload_n 1, 1) := dk_43 (dk_at dksX2_copy_0 21 rfl rfl)
theorem dX2_copy_22 : decode cX2_copy 22 = .ok (.getfield 11, 3) := dk_180 0 11 (dk_at dksX2_copy_1 0 rfl rfl)
theorem dX2_copy_25 : decode cX2_copy 25 = .ok (.iconst 0, 1) := dk_3 (dk_at dksX2_copy_1 3 rfl rfl)
theorem dX2_copy_26 : decode cX2_copy 26 = .ok (.aload_n 0, 1) := dk_42 (dk_at dksX2_copy_1 4 rfl rfl)
theorem dX2_copy_27 : decode cX2_copy 27 = .ok (.getfield 11, 3) := dk_180 0 11 (dk_at dksX2_copy_1 5 rfl rfl)
theorem dX2_copy_30 : decode cX2_copy 30 = .ok (.arraylength, 1) := dk_190 (dk_at dksX2_copy_1 8 rfl rfl)
theorem dX2_copy_31 : decode cX2_copy 31 = .ok (.invokestatic 29, 3) := dk_184 0 29 (dk_at dksX2_copy_1 9 rfl rfl)
theorem dX2_copy_34 : decode cX2_copy 34 = .ok (.aload_n 0, 1) := dk_42 (dk_at dksX2_copy_1 12 rfl rfl)
theorem dX2_copy_35 : decode cX2_copy 35 = .ok (.getfield 17, 3) := dk_180 0 17 (dk_at dksX2_copy_1 13 rfl rfl)
theorem dX2_copy_38 : decode cX2_copy 38 = .ok (.iconst 0, 1) := dk_3 (dk_at dksX2_copy_1 16 rfl rfl)
theorem dX2_copy_39 : decode cX2_copy 39 = .ok (.aload_n 1, 1) := dk_43 (dk_at dksX2_copy_1 17 rfl rfl)
theorem dX2_copy_40 : decode cX2_copy 40 = .ok (.getfield 17, 3) := dk_180 0 17 (dk_at dksX2_copy_1 18 rfl rfl)
theorem dX2_copy_43 : decode cX2_copy 43 = .ok (.iconst 0, 1) := dk_3 (dk_at dksX2_copy_1 21 rfl rfl)
theorem dX2_copy_44 : decode cX2_copy 44 = .ok (.aload_n 0, 1) := dk_42 (dk_at dksX2_copy_1 22 rfl rfl)
theorem dX2_copy_45 : decode cX2_copy 45 = .ok (.getfield 17, 3) := dk_180 0 17 (dk_at dksX2_copy_2 0 rfl rfl)
theorem dX2_copy_48 : decode cX2_copy 48 = .ok (.arraylength, 1) := dk_190 (dk_at dksX2_copy_2 3 rfl rfl)
theorem dX2_copy_49 : decode cX2_copy 49 = .ok (.invokestatic 29, 3) := dk_184 0 29 (dk_at dksX2_copy_2 4 rfl rfl)
theorem dX2_copy_52 : decode cX2_copy 52 = .ok (.aload_n 0, 1) := dk_42 (dk_at dksX2_copy_2 7 rfl rfl)
theorem dX2_copy_53 : decode cX2_copy 53 = .ok (.getfield 21, 3) := dk_180 0 21 (dk_at dksX2_copy_2 8 rfl rfl)
theorem dX2_copy_56 : decode cX2_copy 56 = .ok (.iconst 0, 1) := dk_3 (dk_at dksX2_copy_2 11 rfl rfl)
theorem dX2_copy_57 : decode cX2_copy 57 = .ok (.aload_n 1, 1) := dk_43 (dk_at dksX2_copy_2 12 rfl rfl)
theorem dX2_copy_58 : decode cX2_copy 58 = .ok (.getfield 21, 3) := dk_180 0 21 (dk_at dksX2_copy_2 13 rfl rfl)
theorem dX2_copy_61 : decode cX2_copy 61 = .ok (.iconst 0, 1) := dk_3 (dk_at dksX2_copy_2 16 rfl rfl)
theorem dX2_copy_62 : decode cX2_copy 62 = .ok (.aload_n 0, 1) := dk_42 (dk_at dksX2_copy_2 17 rfl rfl)
theorem dX2_copy_63 : decode cX2_copy 63 = .ok (.getfield 21, 3) := dk_180 0 21 (dk_at dksX2_copy_2 18 rfl rfl)
theorem dX2_copy_66 : decode cX2_copy 66 = .ok (.arraylength, 1) := dk_190 (dk_at dksX2_copy_2 21 rfl rfl)
theorem dX2_copy_67 : decode cX2_copy 67 = .ok (.invokestatic 29, 3) := dk_184 0 29 (dk_at dksX2_copy_3 0 rfl rfl)
theorem dX2_copy_70 : decode cX2_copy 70 = .ok (.aload_n 1, 1) := dk_43 (dk_at dksX2_copy_3 3 rfl rfl)
theorem dX2_copy_71 : decode cX2_copy 71 = .ok (.areturn, 1) := dk_176 (dk_at dksX2_copy_3 4 rfl rfl)
abbrev cX2_remove : ByteArray := prog_13_method_5_code
def yX2_remove : MethodName := ⟨RX2, "remove", "(I)LRideDesk$Stop;"⟩
def dkwX2_remove_1 : List UInt8 := [42, 180, 0, 11, 27, 42, 180, 0, 25, 27, 100, 184, 0, 29, 44, 176]
abbrev dktX2_remove_1 : List UInt8 := dkwX2_remove_1 ++ []
def dkwX2_remove_0 : List UInt8 := [42, 180, 0, 11, 27, 50, 77, 42, 89, 180, 0, 25, 4, 100, 181, 0, 25, 42, 180, 0, 11, 27, 4, 96]
abbrev dktX2_remove_0 : List UInt8 := dkwX2_remove_0 ++ dktX2_remove_1
theorem dksX2_remove_0 : cX2_remove.data.toList.drop 0 = dktX2_remove_0 := by decide +kernel
theorem dksX2_remove_1 : cX2_remove.data.toList.drop 24 = dktX2_remove_1 := dk_seg dksX2_remove_0 24 rfl rfl
theorem dX2_remove_0 : decode cX2_remove 0 = .ok (.aload_n 0, 1) := dk_42 (dk_at dksX2_remove_0 0 rfl rfl)
theorem dX2_remove_1 : decode cX2_remove 1 = .ok (.getfield 11, 3) := dk_180 0 11 (dk_at dksX2_remove_0 1 rfl rfl)
theorem dX2_remove_4 : decode cX2_remove 4 = .ok (.iload_n 1, 1) := dk_27 (dk_at dksX2_remove_0 4 rfl rfl)
theorem dX2_remove_5 : decode cX2_remove 5 = .ok (.aaload, 1) := dk_50 (dk_at dksX2_remove_0 5 rfl rfl)
theorem dX2_remove_6 : decode cX2_remove 6 = .ok (.astore_n 2, 1) := dk_77 (dk_at dksX2_remove_0 6 rfl rfl)
theorem dX2_remove_7 : decode cX2_remove 7 = .ok (.aload_n 0, 1) := dk_42 (dk_at dksX2_remove_0 7 rfl rfl)
theorem dX2_remove_8 : decode cX2_remove 8 = .ok (.dup, 1) := dk_89 (dk_at dksX2_remove_0 8 rfl rfl)
theorem dX2_remove_9 : decode cX2_remove 9 = .ok (.getfield 25, 3) := dk_180 0 25 (dk_at dksX2_remove_0 9 rfl rfl)
theorem dX2_remove_12 : decode cX2_remove 12 = .ok (.iconst 1, 1) := dk_4 (dk_at dksX2_remove_0 12 rfl rfl)
theorem dX2_remove_13 : decode cX2_remove 13 = .ok (.isub, 1) := dk_100 (dk_at dksX2_remove_0 13 rfl rfl)
theorem dX2_remove_14 : decode cX2_remove 14 = .ok (.putfield 25, 3) := dk_181 0 25 (dk_at dksX2_remove_0 14 rfl rfl)
theorem dX2_remove_17 : decode cX2_remove 17 = .ok (.aload_n 0, 1) := dk_42 (dk_at dksX2_remove_0 17 rfl rfl)
theorem dX2_remove_18 : decode cX2_remove 18 = .ok (.getfield 11, 3) := dk_180 0 11 (dk_at dksX2_remove_0 18 rfl rfl)
theorem dX2_remove_21 : decode cX2_remove 21 = .ok (.iload_n 1, 1) := dk_27 (dk_at dksX2_remove_0 21 rfl rfl)
theorem dX2_remove_22 : decode cX2_remove 22 = .ok (.iconst 1, 1) := dk_4 (dk_at dksX2_remove_0 22 rfl rfl)
theorem dX2_remove_23 : decode cX2_remove 23 = .ok (.iadd, 1) := dk_96 (dk_at dksX2_remove_0 23 rfl rfl)
theorem dX2_remove_24 : decode cX2_remove 24 = .ok (.aload_n 0, 1) := dk_42 (dk_at dksX2_remove_1 0 rfl rfl)
theorem dX2_remove_25 : decode cX2_remove 25 = .ok (.getfield 11, 3) := dk_180 0 11 (dk_at dksX2_remove_1 1 rfl rfl)
theorem dX2_remove_28 : decode cX2_remove 28 = .ok (.iload_n 1, 1) := dk_27 (dk_at dksX2_remove_1 4 rfl rfl)
theorem dX2_remove_29 : decode cX2_remove 29 = .ok (.aload_n 0, 1) := dk_42 (dk_at dksX2_remove_1 5 rfl rfl)
theorem dX2_remove_30 : decode cX2_remove 30 = .ok (.getfield 25, 3) := dk_180 0 25 (dk_at dksX2_remove_1 6 rfl rfl)
theorem dX2_remove_33 : decode cX2_remove 33 = .ok (.iload_n 1, 1) := dk_27 (dk_at dksX2_remove_1 9 rfl rfl)
theorem dX2_remove_34 : decode cX2_remove 34 = .ok (.isub, 1) := dk_100 (dk_at dksX2_remove_1 10 rfl rfl)
theorem dX2_remove_35 : decode cX2_remove 35 = .ok (.invokestatic 29, 3) := dk_184 0 29 (dk_at dksX2_remove_1 11 rfl rfl)
theorem dX2_remove_38 : decode cX2_remove 38 = .ok (.aload_n 2, 1) := dk_44 (dk_at dksX2_remove_1 14 rfl rfl)
theorem dX2_remove_39 : decode cX2_remove 39 = .ok (.areturn, 1) := dk_176 (dk_at dksX2_remove_1 15 rfl rfl)
theorem q150 : (Jvm.Cond.initialized "RideDesk$Route") ∈ lw_all := lw_g (lw_at lw_m1 4 rfl) rfl
theorem q225 : (Jvm.Cond.instantiable "RideDesk$Route" (4 : Nat)) ∈ lw_all := lw_g (lw_at lw_m1 79 rfl) rfl
theorem q227 : (Jvm.Cond.instanceMethod ({ cls := "RideDesk$Route", name := "<init>", desc := "()V" } : Jvm.MethodName)) ∈ lw_all := lw_g (lw_at lw_m1 81 rfl) rfl
theorem q228 : (Jvm.Cond.code ({ cls := "RideDesk$Route", name := "<init>", desc := "()V" } : Jvm.MethodName) prog_13_method_1_code (1 : Nat) (Option.none : Option Jvm.ClassFile.FieldType)) ∈ lw_all := lw_g (lw_at lw_m1 82 rfl) rfl
theorem q229 : (Jvm.Cond.methodLink "RideDesk$Route" (3 : Nat) ({ cls := "java/lang/Object", name := "<init>", desc := "()V" } : Jvm.MethodName)) ∈ lw_all := lw_g (lw_at lw_m1 83 rfl) rfl
theorem q230 : (Jvm.Cond.classLink "RideDesk$Route" (9 : Nat) "RideDesk$Stop") ∈ lw_all := lw_g (lw_at lw_m1 84 rfl) rfl
theorem q232 : (Jvm.Cond.fieldLink "RideDesk$Route" (11 : Nat) "RideDesk$Route" "stops" "[LRideDesk$Stop;") ∈ lw_all := lw_g (lw_at lw_m1 86 rfl) rfl
theorem q235 : (Jvm.Cond.fieldLink "RideDesk$Route" (17 : Nat) "RideDesk$Route" "departure" "[I") ∈ lw_all := lw_g (lw_at lw_m1 89 rfl) rfl
theorem q237 : (Jvm.Cond.fieldLink "RideDesk$Route" (21 : Nat) "RideDesk$Route" "begin" "[I") ∈ lw_all := lw_g (lw_at lw_m1 91 rfl) rfl
theorem q241 : (Jvm.Cond.fieldLink "RideDesk$Route" (25 : Nat) "RideDesk$Route" "size" "I") ∈ lw_all := lw_g (lw_at lw_m1 95 rfl) rfl
theorem q242 : (Jvm.Cond.lays "RideDesk$Route" "RideDesk$Route" "stops" "[LRideDesk$Stop;") ∈ lw_all := lw_g (lw_at lw_m1 96 rfl) rfl
theorem q243 : (Jvm.Cond.soleField "RideDesk$Route" "stops") ∈ lw_all := lw_g (lw_at lw_m1 97 rfl) rfl
theorem q244 : (Jvm.Cond.lays "RideDesk$Route" "RideDesk$Route" "departure" "[I") ∈ lw_all := lw_g (lw_at lw_m1 98 rfl) rfl
theorem q245 : (Jvm.Cond.soleField "RideDesk$Route" "departure") ∈ lw_all := lw_g (lw_at lw_m1 99 rfl) rfl
theorem q246 : (Jvm.Cond.lays "RideDesk$Route" "RideDesk$Route" "begin" "[I") ∈ lw_all := lw_g (lw_at lw_m1 100 rfl) rfl
theorem q247 : (Jvm.Cond.soleField "RideDesk$Route" "begin") ∈ lw_all := lw_g (lw_at lw_m1 101 rfl) rfl
theorem q248 : (Jvm.Cond.lays "RideDesk$Route" "RideDesk$Route" "size" "I") ∈ lw_all := lw_g (lw_at lw_m1 102 rfl) rfl
theorem q249 : (Jvm.Cond.soleField "RideDesk$Route" "size") ∈ lw_all := lw_g (lw_at lw_m1 103 rfl) rfl
theorem q250 : (Jvm.Cond.superclass "RideDesk$Route" "java/lang/Object") ∈ lw_all := lw_g (lw_at lw_m1 104 rfl) rfl
theorem q1191 : (Jvm.Cond.selects "RideDesk$Route" ({ cls := "java/lang/Object", name := "getClass", desc := "()Ljava/lang/Class;" } : Jvm.MethodName) ({ cls := "java/lang/Object", name := "getClass", desc := "()Ljava/lang/Class;" } : Jvm.MethodName)) ∈ lw_all := lw_g (lw_at lw_m5 85 rfl) rfl
theorem q1417 : (Jvm.Cond.fieldLink "RideDesk$Route" (40 : Nat) "RideDesk$Stop" "call" "I") ∈ lw_all := lw_g (lw_at lw_m6 71 rfl) rfl
theorem q1474 : (Jvm.Cond.instanceMethod ({ cls := "RideDesk$Route", name := "become", desc := "(LRideDesk$Route;)V" } : Jvm.MethodName)) ∈ lw_all := lw_g (lw_at lw_m6 128 rfl) rfl
theorem q1475 : (Jvm.Cond.selects "RideDesk$Route" ({ cls := "RideDesk$Route", name := "become", desc := "(LRideDesk$Route;)V" } : Jvm.MethodName) ({ cls := "RideDesk$Route", name := "become", desc := "(LRideDesk$Route;)V" } : Jvm.MethodName)) ∈ lw_all := lw_g (lw_at lw_m6 129 rfl) rfl
theorem q1476 : (Jvm.Cond.code ({ cls := "RideDesk$Route", name := "become", desc := "(LRideDesk$Route;)V" } : Jvm.MethodName) prog_13_method_6_code (2 : Nat) (Option.none : Option Jvm.ClassFile.FieldType)) ∈ lw_all := lw_g (lw_at lw_m6 130 rfl) rfl
theorem q1477 : (Jvm.Cond.methodLink "RideDesk$Route" (29 : Nat) ({ cls := "java/lang/System", name := "arraycopy", desc := "(Ljava/lang/Object;ILjava/lang/Object;II)V" } : Jvm.MethodName)) ∈ lw_all := lw_g (lw_at lw_m6 131 rfl) rfl
theorem q1479 : (Jvm.Cond.instanceMethod ({ cls := "RideDesk$Route", name := "insert", desc := "(ILRideDesk$Stop;)V" } : Jvm.MethodName)) ∈ lw_all := lw_g (lw_at lw_m6 133 rfl) rfl
theorem q1480 : (Jvm.Cond.selects "RideDesk$Route" ({ cls := "RideDesk$Route", name := "insert", desc := "(ILRideDesk$Stop;)V" } : Jvm.MethodName) ({ cls := "RideDesk$Route", name := "insert", desc := "(ILRideDesk$Stop;)V" } : Jvm.MethodName)) ∈ lw_all := lw_g (lw_at lw_m6 134 rfl) rfl
theorem q1481 : (Jvm.Cond.code ({ cls := "RideDesk$Route", name := "insert", desc := "(ILRideDesk$Stop;)V" } : Jvm.MethodName) prog_13_method_4_code (3 : Nat) (Option.none : Option Jvm.ClassFile.FieldType)) ∈ lw_all := lw_g (lw_at lw_m6 135 rfl) rfl
theorem q1514 : (Jvm.Cond.instanceMethod ({ cls := "RideDesk$Route", name := "placeOf", desc := "(IZ)I" } : Jvm.MethodName)) ∈ lw_all := lw_g (lw_at lw_m6 168 rfl) rfl
theorem q1515 : (Jvm.Cond.selects "RideDesk$Route" ({ cls := "RideDesk$Route", name := "placeOf", desc := "(IZ)I" } : Jvm.MethodName) ({ cls := "RideDesk$Route", name := "placeOf", desc := "(IZ)I" } : Jvm.MethodName)) ∈ lw_all := lw_g (lw_at lw_m6 169 rfl) rfl
theorem q1516 : (Jvm.Cond.code ({ cls := "RideDesk$Route", name := "placeOf", desc := "(IZ)I" } : Jvm.MethodName) prog_13_method_7_code (4 : Nat) (Option.some Jvm.ClassFile.FieldType.int)) ∈ lw_all := lw_g (lw_at lw_m6 170 rfl) rfl
theorem q1517 : (Jvm.Cond.classLink "RideDesk$Route" (43 : Nat) "RideDesk$Pickup") ∈ lw_all := lw_g (lw_at lw_m6 171 rfl) rfl
theorem q1788 : (Jvm.Cond.instanceMethod ({ cls := "RideDesk$Route", name := "iterator", desc := "()Ljava/util/Iterator;" } : Jvm.MethodName)) ∈ lw_all := lw_g (lw_at lw_m7 202 rfl) rfl
theorem q1789 : (Jvm.Cond.selects "RideDesk$Route" ({ cls := "RideDesk$Route", name := "iterator", desc := "()Ljava/util/Iterator;" } : Jvm.MethodName) ({ cls := "RideDesk$Route", name := "iterator", desc := "()Ljava/util/Iterator;" } : Jvm.MethodName)) ∈ lw_all := lw_g (lw_at lw_m7 203 rfl) rfl
theorem q1790 : (Jvm.Cond.code ({ cls := "RideDesk$Route", name := "iterator", desc := "()Ljava/util/Iterator;" } : Jvm.MethodName) prog_13_method_3_code (1 : Nat) (Option.some (Jvm.ClassFile.FieldType.object "java/util/Iterator"))) ∈ lw_all := lw_g (lw_at lw_m7 204 rfl) rfl
theorem q1791 : (Jvm.Cond.classLink "RideDesk$Route" (35 : Nat) "RideDesk$Route$1") ∈ lw_all := lw_g (lw_at lw_m7 205 rfl) rfl
theorem q1793 : (Jvm.Cond.methodLink "RideDesk$Route" (37 : Nat) ({ cls := "RideDesk$Route$1", name := "<init>", desc := "(LRideDesk$Route;)V" } : Jvm.MethodName)) ∈ lw_all := lw_g (lw_at lw_m7 207 rfl) rfl
theorem q1947 : (Jvm.Cond.instanceMethod ({ cls := "RideDesk$Route", name := "copy", desc := "()LRideDesk$Route;" } : Jvm.MethodName)) ∈ lw_all := lw_g (lw_at lw_m8 121 rfl) rfl
theorem q1948 : (Jvm.Cond.selects "RideDesk$Route" ({ cls := "RideDesk$Route", name := "copy", desc := "()LRideDesk$Route;" } : Jvm.MethodName) ({ cls := "RideDesk$Route", name := "copy", desc := "()LRideDesk$Route;" } : Jvm.MethodName)) ∈ lw_all := lw_g (lw_at lw_m8 122 rfl) rfl
theorem q1949 : (Jvm.Cond.code ({ cls := "RideDesk$Route", name := "copy", desc := "()LRideDesk$Route;" } : Jvm.MethodName) prog_13_method_2_code (2 : Nat) (Option.some (Jvm.ClassFile.FieldType.object "RideDesk$Route"))) ∈ lw_all := lw_g (lw_at lw_m8 123 rfl) rfl
theorem q1950 : (Jvm.Cond.classLink "RideDesk$Route" (12 : Nat) "RideDesk$Route") ∈ lw_all := lw_g (lw_at lw_m8 124 rfl) rfl
theorem q1951 : (Jvm.Cond.methodLink "RideDesk$Route" (24 : Nat) ({ cls := "RideDesk$Route", name := "<init>", desc := "()V" } : Jvm.MethodName)) ∈ lw_all := lw_g (lw_at lw_m8 125 rfl) rfl
theorem q1966 : (Jvm.Cond.instanceMethod ({ cls := "RideDesk$Route", name := "remove", desc := "(I)LRideDesk$Stop;" } : Jvm.MethodName)) ∈ lw_all := lw_g (lw_at lw_m8 140 rfl) rfl
theorem q1967 : (Jvm.Cond.selects "RideDesk$Route" ({ cls := "RideDesk$Route", name := "remove", desc := "(I)LRideDesk$Stop;" } : Jvm.MethodName) ({ cls := "RideDesk$Route", name := "remove", desc := "(I)LRideDesk$Stop;" } : Jvm.MethodName)) ∈ lw_all := lw_g (lw_at lw_m8 141 rfl) rfl
theorem q1968 : (Jvm.Cond.code ({ cls := "RideDesk$Route", name := "remove", desc := "(I)LRideDesk$Stop;" } : Jvm.MethodName) prog_13_method_5_code (3 : Nat) (Option.some (Jvm.ClassFile.FieldType.object "RideDesk$Stop"))) ∈ lw_all := lw_g (lw_at lw_m8 142 rfl) rfl
theorem q2888 : (Jvm.Cond.castable "RideDesk$Route" "java/lang/Object") ∈ lw_tbl := lw_at lw_m12 102 rfl
theorem in_X2 : ∀ w ∈ wsX20, w ∈ lw_all := lw_in wsX20 [242, 244, 246, 248] (by decide +kernel) (by decide +kernel)

/-! RideDesk$Kind$2 -/
set_option maxRecDepth 100000
def RX20 : String := "RideDesk$Kind$2"
abbrev cX20_service : ByteArray := prog_7_method_2_code
def yX20_service : MethodName := ⟨RX20, "service", "(LRideDesk$Rules;)I"⟩
theorem dX20_service_0 : decode cX20_service 0 = .ok (.aload_n 1, 1) := by decide +kernel
theorem dX20_service_1 : decode cX20_service 1 = .ok (.getfield 7, 3) := by decide +kernel
theorem dX20_service_4 : decode cX20_service 4 = .ok (.ireturn, 1) := by decide +kernel
theorem q566 : (Jvm.Cond.fieldLinkNest "RideDesk$Kind$2" (7 : Nat) "RideDesk$Rules" "lift" "I" "RideDesk") ∈ lw_tbl := lw_at lw_m2 180 rfl
theorem q1185 : (Jvm.Cond.selects "RideDesk$Kind$2" ({ cls := "java/lang/Object", name := "getClass", desc := "()Ljava/lang/Class;" } : Jvm.MethodName) ({ cls := "java/lang/Object", name := "getClass", desc := "()Ljava/lang/Class;" } : Jvm.MethodName)) ∈ lw_all := lw_g (lw_at lw_m5 79 rfl) rfl
theorem q1301 : (Jvm.Cond.selects "RideDesk$Kind$2" ({ cls := "RideDesk$Kind", name := "service", desc := "(LRideDesk$Rules;)I" } : Jvm.MethodName) ({ cls := "RideDesk$Kind$2", name := "service", desc := "(LRideDesk$Rules;)I" } : Jvm.MethodName)) ∈ lw_all := lw_g (lw_at lw_m5 195 rfl) rfl
theorem q1302 : (Jvm.Cond.instanceMethod ({ cls := "RideDesk$Kind$2", name := "service", desc := "(LRideDesk$Rules;)I" } : Jvm.MethodName)) ∈ lw_all := lw_g (lw_at lw_m5 196 rfl) rfl
theorem q1303 : (Jvm.Cond.code ({ cls := "RideDesk$Kind$2", name := "service", desc := "(LRideDesk$Rules;)I" } : Jvm.MethodName) prog_7_method_2_code (2 : Nat) (Option.some Jvm.ClassFile.FieldType.int)) ∈ lw_all := lw_g (lw_at lw_m5 197 rfl) rfl
theorem q2910 : (Jvm.Cond.castable "RideDesk$Kind$2" "java/lang/Object") ∈ lw_tbl := lw_at lw_m12 124 rfl
theorem q2919 : (Jvm.Cond.castable "RideDesk$Kind$2" "RideDesk$Kind") ∈ lw_tbl := lw_at lw_m12 133 rfl

/-! RideDesk$Parser -/
set_option maxRecDepth 100000
def RX4 : String := "RideDesk$Parser"
def TX4 : u_T := fun k => match k with
  | 0 => ("RideDesk$Parser", "size", "I", true)
  | 1 => ("RideDesk$Parser", "from", "I", false)
  | 2 => ("RideDesk$Parser", "to", "I", false)
  | 3 => ("RideDesk$Parser", "value", "I", false)
  | 4 => ("RideDesk$Parser", "token", "LRideDesk$Token;", false)
  | 5 => ("RideDesk$Parser", "word", "Ljava/lang/String;", false)
  | 6 => ("RideDesk$Parser", "read", "LRideDesk$Plan;", true)
  | 7 => ("RideDesk$Parser", "calls", "Ljava/util/List;", true)
  | 8 => ("RideDesk$Parser", "ready", "[I", true)
  | _ => ("RideDesk$Parser", "this$0", "LRideDesk;", true)
def tyX4 : Nat → FieldType := fun k => match k with
  | 0 => .int
  | 1 => .int
  | 2 => .int
  | 3 => .int
  | 4 => .object "RideDesk$Token"
  | 5 => .object "java/lang/String"
  | 6 => .object "RideDesk$Plan"
  | 7 => .object "java/util/List"
  | 8 => .array .int
  | _ => .object "RideDesk"
abbrev wsX40 : List Cond := u_ws RX4 TX4 10
theorem nmX4 : ∀ a, a < 10 → ∀ b, b < 10 → a ≠ b → (TX4 a).2.1 ≠ (TX4 b).2.1 := by decide +kernel
theorem tyX4_ok : ∀ k, k < 10 → parseFieldDescriptor (TX4 k).2.2.1 = some (tyX4 k) := by decide +kernel
abbrev cX4_init : ByteArray := prog_9_method_1_code
def yX4_init : MethodName := ⟨RX4, "<init>", "(LRideDesk;I)V"⟩
def dkwX4_init_2 : List UInt8 := [16, 24, 188, 10, 181, 0, 46, 42, 28, 181, 0, 50, 177]
abbrev dktX4_init_2 : List UInt8 := dkwX4_init_2 ++ []
def dkwX4_init_1 : List UInt8 := [187, 0, 30, 89, 183, 0, 32, 181, 0, 33, 42, 187, 0, 37, 89, 16, 24, 183, 0, 39, 181, 0, 42, 42]
abbrev dktX4_init_1 : List UInt8 := dkwX4_init_1 ++ dktX4_init_2
def dkwX4_init_0 : List UInt8 := [42, 43, 181, 0, 3, 42, 183, 0, 9, 42, 178, 0, 15, 181, 0, 21, 42, 18, 24, 181, 0, 26, 42]
abbrev dktX4_init_0 : List UInt8 := dkwX4_init_0 ++ dktX4_init_1
theorem dksX4_init_0 : cX4_init.data.toList.drop 0 = dktX4_init_0 := by decide +kernel
theorem dksX4_init_1 : cX4_init.data.toList.drop 23 = dktX4_init_1 := dk_seg dksX4_init_0 23 rfl rfl
theorem dksX4_init_2 : cX4_init.data.toList.drop 47 = dktX4_init_2 := dk_seg dksX4_init_1 24 rfl rfl
theorem dX4_init_0 : decode cX4_init 0 = .ok (.aload_n 0, 1) := dk_42 (dk_at dksX4_init_0 0 rfl rfl)
theorem dX4_init_1 : decode cX4_init 1 = .ok (.aload_n 1, 1) := dk_43 (dk_at dksX4_init_0 1 rfl rfl)
theorem dX4_init_2 : decode cX4_init 2 = .ok (.putfield 3, 3) := dk_181 0 3 (dk_at dksX4_init_0 2 rfl rfl)
theorem dX4_init_5 : decode cX4_init 5 = .ok (.aload_n 0, 1) := dk_42 (dk_at dksX4_init_0 5 rfl rfl)
theorem dX4_init_6 : decode cX4_init 6 = .ok (.invokespecial 9, 3) := dk_183 0 9 (dk_at dksX4_init_0 6 rfl rfl)
theorem dX4_init_9 : decode cX4_init 9 = .ok (.aload_n 0, 1) := dk_42 (dk_at dksX4_init_0 9 rfl rfl)
theorem dX4_init_10 : decode cX4_init 10 = .ok (.getstatic 15, 3) := dk_178 0 15 (dk_at dksX4_init_0 10 rfl rfl)
theorem dX4_init_13 : decode cX4_init 13 = .ok (.putfield 21, 3) := dk_181 0 21 (dk_at dksX4_init_0 13 rfl rfl)
theorem dX4_init_16 : decode cX4_init 16 = .ok (.aload_n 0, 1) := dk_42 (dk_at dksX4_init_0 16 rfl rfl)
theorem dX4_init_17 : decode cX4_init 17 = .ok (.ldc 24, 2) := dk_18 24 (dk_at dksX4_init_0 17 rfl rfl)
theorem dX4_init_19 : decode cX4_init 19 = .ok (.putfield 26, 3) := dk_181 0 26 (dk_at dksX4_init_0 19 rfl rfl)
theorem dX4_init_22 : decode cX4_init 22 = .ok (.aload_n 0, 1) := dk_42 (dk_at dksX4_init_0 22 rfl rfl)
theorem dX4_init_23 : decode cX4_init 23 = .ok (.new 30, 3) := dk_187 0 30 (dk_at dksX4_init_1 0 rfl rfl)
theorem dX4_init_26 : decode cX4_init 26 = .ok (.dup, 1) := dk_89 (dk_at dksX4_init_1 3 rfl rfl)
theorem dX4_init_27 : decode cX4_init 27 = .ok (.invokespecial 32, 3) := dk_183 0 32 (dk_at dksX4_init_1 4 rfl rfl)
theorem dX4_init_30 : decode cX4_init 30 = .ok (.putfield 33, 3) := dk_181 0 33 (dk_at dksX4_init_1 7 rfl rfl)
theorem dX4_init_33 : decode cX4_init 33 = .ok (.aload_n 0, 1) := dk_42 (dk_at dksX4_init_1 10 rfl rfl)
theorem dX4_init_34 : decode cX4_init 34 = .ok (.new 37, 3) := dk_187 0 37 (dk_at dksX4_init_1 11 rfl rfl)
theorem dX4_init_37 : decode cX4_init 37 = .ok (.dup, 1) := dk_89 (dk_at dksX4_init_1 14 rfl rfl)
theorem dX4_init_38 : decode cX4_init 38 = .ok (.bipush 24, 2) := dk_16 24 (dk_at dksX4_init_1 15 rfl rfl)
theorem dX4_init_40 : decode cX4_init 40 = .ok (.invokespecial 39, 3) := dk_183 0 39 (dk_at dksX4_init_1 17 rfl rfl)
theorem dX4_init_43 : decode cX4_init 43 = .ok (.putfield 42, 3) := dk_181 0 42 (dk_at dksX4_init_1 20 rfl rfl)
theorem dX4_init_46 : decode cX4_init 46 = .ok (.aload_n 0, 1) := dk_42 (dk_at dksX4_init_1 23 rfl rfl)
theorem dX4_init_47 : decode cX4_init 47 = .ok (.bipush 24, 2) := dk_16 24 (dk_at dksX4_init_2 0 rfl rfl)
theorem dX4_init_49 : decode cX4_init 49 = .ok (.newarray .int, 2) := dk_188_10 (dk_at dksX4_init_2 2 rfl rfl)
theorem dX4_init_51 : decode cX4_init 51 = .ok (.putfield 46, 3) := dk_181 0 46 (dk_at dksX4_init_2 4 rfl rfl)
theorem dX4_init_54 : decode cX4_init 54 = .ok (.aload_n 0, 1) := dk_42 (dk_at dksX4_init_2 7 rfl rfl)
theorem dX4_init_55 : decode cX4_init 55 = .ok (.iload_n 2, 1) := dk_28 (dk_at dksX4_init_2 8 rfl rfl)
theorem dX4_init_56 : decode cX4_init 56 = .ok (.putfield 50, 3) := dk_181 0 50 (dk_at dksX4_init_2 9 rfl rfl)
theorem dX4_init_59 : decode cX4_init 59 = .ok (.return_, 1) := dk_177 (dk_at dksX4_init_2 12 rfl rfl)
abbrev cX4_text : ByteArray := prog_9_method_21_code
def yX4_text : MethodName := ⟨RX4, "text", "()V"⟩
def dkwX4_text_6 : List UInt8 := [42, 180, 0, 46, 27, 46, 182, 1, 36, 61, 132, 1, 1, 167, 255, 206, 177]
abbrev dktX4_text_6 : List UInt8 := dkwX4_text_6 ++ []
def dkwX4_text_5 : List UInt8 := [42, 180, 0, 3, 42, 180, 0, 3, 180, 1, 32, 42, 180, 0, 42, 27, 185, 0, 200, 2, 0, 192, 0, 254]
abbrev dktX4_text_5 : List UInt8 := dkwX4_text_5 ++ dktX4_text_6
def dkwX4_text_4 : List UInt8 := [180, 1, 23, 184, 1, 26, 181, 1, 32, 3, 60, 27, 42, 180, 0, 42, 185, 0, 187, 1, 0, 162, 0, 43]
abbrev dktX4_text_4 : List UInt8 := dkwX4_text_4 ++ dktX4_text_5
def dkwX4_text_3 : List UInt8 := [16, 6, 182, 0, 124, 42, 180, 0, 3, 42, 180, 0, 33, 181, 1, 23, 42, 180, 0, 3, 42, 180, 0, 3]
abbrev dktX4_text_3 : List UInt8 := dkwX4_text_3 ++ dktX4_text_4
def dkwX4_text_2 : List UInt8 := [182, 0, 124, 42, 42, 180, 0, 33, 180, 0, 213, 185, 0, 192, 1, 0, 154, 0, 7, 4, 167, 0, 4, 3]
abbrev dktX4_text_2 : List UInt8 := dkwX4_text_2 ++ dktX4_text_3
def dkwX4_text_1 : List UInt8 := [182, 1, 20, 167, 255, 238, 42, 42, 180, 0, 21, 178, 0, 69, 166, 0, 7, 4, 167, 0, 4, 3, 4]
abbrev dktX4_text_1 : List UInt8 := dkwX4_text_1 ++ dktX4_text_2
def dkwX4_text_0 : List UInt8 := [42, 182, 0, 128, 42, 182, 1, 18, 42, 180, 0, 21, 178, 0, 102, 166, 0, 14, 42, 182, 0, 128, 42]
abbrev dktX4_text_0 : List UInt8 := dkwX4_text_0 ++ dktX4_text_1
theorem dksX4_text_0 : cX4_text.data.toList.drop 0 = dktX4_text_0 := by decide +kernel
theorem dksX4_text_1 : cX4_text.data.toList.drop 23 = dktX4_text_1 := dk_seg dksX4_text_0 23 rfl rfl
theorem dksX4_text_2 : cX4_text.data.toList.drop 46 = dktX4_text_2 := dk_seg dksX4_text_1 23 rfl rfl
theorem dksX4_text_3 : cX4_text.data.toList.drop 70 = dktX4_text_3 := dk_seg dksX4_text_2 24 rfl rfl
theorem dksX4_text_4 : cX4_text.data.toList.drop 94 = dktX4_text_4 := dk_seg dksX4_text_3 24 rfl rfl
theorem dksX4_text_5 : cX4_text.data.toList.drop 118 = dktX4_text_5 := dk_seg dksX4_text_4 24 rfl rfl
theorem dksX4_text_6 : cX4_text.data.toList.drop 142 = dktX4_text_6 := dk_seg dksX4_text_5 24 rfl rfl
theorem dX4_text_0 : decode cX4_text 0 = .ok (.aload_n 0, 1) := dk_42 (dk_at dksX4_text_0 0 rfl rfl)
theorem dX4_text_1 : decode cX4_text 1 = .ok (.invokevirtual 128, 3) := dk_182 0 128 (dk_at dksX4_text_0 1 rfl rfl)
theorem dX4_text_4 : decode cX4_text 4 = .ok (.aload_n 0, 1) := dk_42 (dk_at dksX4_text_0 4 rfl rfl)
theorem dX4_text_5 : decode cX4_text 5 = .ok (.invokevirtual 274, 3) := dk_182 1 18 (dk_at dksX4_text_0 5 rfl rfl)
theorem dX4_text_8 : decode cX4_text 8 = .ok (.aload_n 0, 1) := dk_42 (dk_at dksX4_text_0 8 rfl rfl)
theorem dX4_text_9 : decode cX4_text 9 = .ok (.getfield 21, 3) := dk_180 0 21 (dk_at dksX4_text_0 9 rfl rfl)
theorem dX4_text_12 : decode cX4_text 12 = .ok (.getstatic 102, 3) := dk_178 0 102 (dk_at dksX4_text_0 12 rfl rfl)
theorem dX4_text_15 : decode cX4_text 15 = .ok (.if_acmp .ne 14, 3) := dk_166 0 14 (dk_at dksX4_text_0 15 rfl rfl)
theorem dX4_text_18 : decode cX4_text 18 = .ok (.aload_n 0, 1) := dk_42 (dk_at dksX4_text_0 18 rfl rfl)
theorem dX4_text_19 : decode cX4_text 19 = .ok (.invokevirtual 128, 3) := dk_182 0 128 (dk_at dksX4_text_0 19 rfl rfl)
theorem dX4_text_22 : decode cX4_text 22 = .ok (.aload_n 0, 1) := dk_42 (dk_at dksX4_text_0 22 rfl rfl)
theorem dX4_text_23 : decode cX4_text 23 = .ok (.invokevirtual 276, 3) := dk_182 1 20 (dk_at dksX4_text_1 0 rfl rfl)
theorem dX4_text_26 : decode cX4_text 26 = .ok (.goto (-18), 3) := dk_167 255 238 (dk_at dksX4_text_1 3 rfl rfl)
theorem dX4_text_29 : decode cX4_text 29 = .ok (.aload_n 0, 1) := dk_42 (dk_at dksX4_text_1 6 rfl rfl)
theorem dX4_text_30 : decode cX4_text 30 = .ok (.aload_n 0, 1) := dk_42 (dk_at dksX4_text_1 7 rfl rfl)
theorem dX4_text_31 : decode cX4_text 31 = .ok (.getfield 21, 3) := dk_180 0 21 (dk_at dksX4_text_1 8 rfl rfl)
theorem dX4_text_34 : decode cX4_text 34 = .ok (.getstatic 69, 3) := dk_178 0 69 (dk_at dksX4_text_1 11 rfl rfl)
theorem dX4_text_37 : decode cX4_text 37 = .ok (.if_acmp .ne 7, 3) := dk_166 0 7 (dk_at dksX4_text_1 14 rfl rfl)
theorem dX4_text_40 : decode cX4_text 40 = .ok (.iconst 1, 1) := dk_4 (dk_at dksX4_text_1 17 rfl rfl)
theorem dX4_text_41 : decode cX4_text 41 = .ok (.goto 4, 3) := dk_167 0 4 (dk_at dksX4_text_1 18 rfl rfl)
theorem dX4_text_44 : decode cX4_text 44 = .ok (.iconst 0, 1) := dk_3 (dk_at dksX4_text_1 21 rfl rfl)
theorem dX4_text_45 : decode cX4_text 45 = .ok (.iconst 1, 1) := dk_4 (dk_at dksX4_text_1 22 rfl rfl)
theorem dX4_text_46 : decode cX4_text 46 = .ok (.invokevirtual 124, 3) := dk_182 0 124 (dk_at dksX4_text_2 0 rfl rfl)
theorem dX4_text_49 : decode cX4_text 49 = .ok (.aload_n 0, 1) := dk_42 (dk_at dksX4_text_2 3 rfl rfl)
theorem dX4_text_50 : decode cX4_text 50 = .ok (.aload_n 0, 1) := dk_42 (dk_at dksX4_text_2 4 rfl rfl)
theorem dX4_text_51 : decode cX4_text 51 = .ok (.getfield 33, 3) := dk_180 0 33 (dk_at dksX4_text_2 5 rfl rfl)
theorem dX4_text_54 : decode cX4_text 54 = .ok (.getfield 213, 3) := dk_180 0 213 (dk_at dksX4_text_2 8 rfl rfl)
theorem dX4_text_57 : decode cX4_text 57 = .ok (.invokeinterface 192 1, 5) := by decide +kernel
theorem dX4_text_62 : decode cX4_text 62 = .ok (.ifCond .ne 7, 3) := dk_154 0 7 (dk_at dksX4_text_2 16 rfl rfl)
theorem dX4_text_65 : decode cX4_text 65 = .ok (.iconst 1, 1) := dk_4 (dk_at dksX4_text_2 19 rfl rfl)
theorem dX4_text_66 : decode cX4_text 66 = .ok (.goto 4, 3) := dk_167 0 4 (dk_at dksX4_text_2 20 rfl rfl)
theorem dX4_text_69 : decode cX4_text 69 = .ok (.iconst 0, 1) := dk_3 (dk_at dksX4_text_2 23 rfl rfl)
theorem dX4_text_70 : decode cX4_text 70 = .ok (.bipush 6, 2) := dk_16 6 (dk_at dksX4_text_3 0 rfl rfl)
theorem dX4_text_72 : decode cX4_text 72 = .ok (.invokevirtual 124, 3) := dk_182 0 124 (dk_at dksX4_text_3 2 rfl rfl)
theorem dX4_text_75 : decode cX4_text 75 = .ok (.aload_n 0, 1) := dk_42 (dk_at dksX4_text_3 5 rfl rfl)
theorem dX4_text_76 : decode cX4_text 76 = .ok (.getfield 3, 3) := dk_180 0 3 (dk_at dksX4_text_3 6 rfl rfl)
theorem dX4_text_79 : decode cX4_text 79 = .ok (.aload_n 0, 1) := dk_42 (dk_at dksX4_text_3 9 rfl rfl)
theorem dX4_text_80 : decode cX4_text 80 = .ok (.getfield 33, 3) := dk_180 0 33 (dk_at dksX4_text_3 10 rfl rfl)
theorem dX4_text_83 : decode cX4_text 83 = .ok (.putfield 279, 3) := dk_181 1 23 (dk_at dksX4_text_3 13 rfl rfl)
theorem dX4_text_86 : decode cX4_text 86 = .ok (.aload_n 0, 1) := dk_42 (dk_at dksX4_text_3 16 rfl rfl)
theorem dX4_text_87 : decode cX4_text 87 = .ok (.getfield 3, 3) := dk_180 0 3 (dk_at dksX4_text_3 17 rfl rfl)
theorem dX4_text_90 : decode cX4_text 90 = .ok (.aload_n 0, 1) := dk_42 (dk_at dksX4_text_3 20 rfl rfl)
theorem dX4_text_91 : decode cX4_text 91 = .ok (.getfield 3, 3) := dk_180 0 3 (dk_at dksX4_text_3 21 rfl rfl)
theorem dX4_text_94 : decode cX4_text 94 = .ok (.getfield 279, 3) := dk_180 1 23 (dk_at dksX4_text_4 0 rfl rfl)
theorem dX4_text_97 : decode cX4_text 97 = .ok (.invokestatic 282, 3) := dk_184 1 26 (dk_at dksX4_text_4 3 rfl rfl)
theorem dX4_text_100 : decode cX4_text 100 = .ok (.putfield 288, 3) := dk_181 1 32 (dk_at dksX4_text_4 6 rfl rfl)
theorem dX4_text_103 : decode cX4_text 103 = .ok (.iconst 0, 1) := dk_3 (dk_at dksX4_text_4 9 rfl rfl)
theorem dX4_text_104 : decode cX4_text 104 = .ok (.istore_n 1, 1) := dk_60 (dk_at dksX4_text_4 10 rfl rfl)
theorem dX4_text_105 : decode cX4_text 105 = .ok (.iload_n 1, 1) := dk_27 (dk_at dksX4_text_4 11 rfl rfl)
theorem dX4_text_106 : decode cX4_text 106 = .ok (.aload_n 0, 1) := dk_42 (dk_at dksX4_text_4 12 rfl rfl)
theorem dX4_text_107 : decode cX4_text 107 = .ok (.getfield 42, 3) := dk_180 0 42 (dk_at dksX4_text_4 13 rfl rfl)
theorem dX4_text_110 : decode cX4_text 110 = .ok (.invokeinterface 187 1, 5) := by decide +kernel
theorem dX4_text_115 : decode cX4_text 115 = .ok (.if_icmp .ge 43, 3) := dk_162 0 43 (dk_at dksX4_text_4 21 rfl rfl)
theorem dX4_text_118 : decode cX4_text 118 = .ok (.aload_n 0, 1) := dk_42 (dk_at dksX4_text_5 0 rfl rfl)
theorem dX4_text_119 : decode cX4_text 119 = .ok (.getfield 3, 3) := dk_180 0 3 (dk_at dksX4_text_5 1 rfl rfl)
theorem dX4_text_122 : decode cX4_text 122 = .ok (.aload_n 0, 1) := dk_42 (dk_at dksX4_text_5 4 rfl rfl)
theorem dX4_text_123 : decode cX4_text 123 = .ok (.getfield 3, 3) := dk_180 0 3 (dk_at dksX4_text_5 5 rfl rfl)
theorem dX4_text_126 : decode cX4_text 126 = .ok (.getfield 288, 3) := dk_180 1 32 (dk_at dksX4_text_5 8 rfl rfl)
theorem dX4_text_129 : decode cX4_text 129 = .ok (.aload_n 0, 1) := dk_42 (dk_at dksX4_text_5 11 rfl rfl)
theorem dX4_text_130 : decode cX4_text 130 = .ok (.getfield 42, 3) := dk_180 0 42 (dk_at dksX4_text_5 12 rfl rfl)
theorem dX4_text_133 : decode cX4_text 133 = .ok (.iload_n 1, 1) := dk_27 (dk_at dksX4_text_5 15 rfl rfl)
theorem dX4_text_134 : decode cX4_text 134 = .ok (.invokeinterface 200 2, 5) := by decide +kernel
theorem dX4_text_139 : decode cX4_text 139 = .ok (.checkcast 254, 3) := dk_192 0 254 (dk_at dksX4_text_5 21 rfl rfl)
theorem dX4_text_142 : decode cX4_text 142 = .ok (.aload_n 0, 1) := dk_42 (dk_at dksX4_text_6 0 rfl rfl)
theorem dX4_text_143 : decode cX4_text 143 = .ok (.getfield 46, 3) := dk_180 0 46 (dk_at dksX4_text_6 1 rfl rfl)
theorem dX4_text_146 : decode cX4_text 146 = .ok (.iload_n 1, 1) := dk_27 (dk_at dksX4_text_6 4 rfl rfl)
theorem dX4_text_147 : decode cX4_text 147 = .ok (.iaload, 1) := dk_46 (dk_at dksX4_text_6 5 rfl rfl)
theorem dX4_text_148 : decode cX4_text 148 = .ok (.invokevirtual 292, 3) := dk_182 1 36 (dk_at dksX4_text_6 6 rfl rfl)
theorem dX4_text_151 : decode cX4_text 151 = .ok (.istore_n 2, 1) := dk_61 (dk_at dksX4_text_6 9 rfl rfl)
theorem dX4_text_152 : decode cX4_text 152 = .ok (.iinc 1 1, 3) := dk_132 1 1 (dk_at dksX4_text_6 10 rfl rfl)
theorem dX4_text_155 : decode cX4_text 155 = .ok (.goto (-50), 3) := dk_167 255 206 (dk_at dksX4_text_6 13 rfl rfl)
theorem dX4_text_158 : decode cX4_text 158 = .ok (.return_, 1) := dk_177 (dk_at dksX4_text_6 16 rfl rfl)
abbrev cX4_advance : ByteArray := prog_9_method_6_code
def yX4_advance : MethodName := ⟨RX4, "advance", "()V"⟩
def dkwX4_advance_1 : List UInt8 := [167, 255, 233, 42, 42, 180, 0, 66, 181, 0, 79, 42, 42, 182, 0, 105, 181, 0, 21, 177]
abbrev dktX4_advance_1 : List UInt8 := dkwX4_advance_1 ++ []
def dkwX4_advance_0 : List UInt8 := [42, 42, 180, 0, 66, 182, 0, 58, 16, 32, 160, 0, 16, 42, 89, 180, 0, 66, 4, 96, 181, 0, 66]
abbrev dktX4_advance_0 : List UInt8 := dkwX4_advance_0 ++ dktX4_advance_1
theorem dksX4_advance_0 : cX4_advance.data.toList.drop 0 = dktX4_advance_0 := by decide +kernel
theorem dksX4_advance_1 : cX4_advance.data.toList.drop 23 = dktX4_advance_1 := dk_seg dksX4_advance_0 23 rfl rfl
theorem dX4_advance_0 : decode cX4_advance 0 = .ok (.aload_n 0, 1) := dk_42 (dk_at dksX4_advance_0 0 rfl rfl)
theorem dX4_advance_1 : decode cX4_advance 1 = .ok (.aload_n 0, 1) := dk_42 (dk_at dksX4_advance_0 1 rfl rfl)
theorem dX4_advance_2 : decode cX4_advance 2 = .ok (.getfield 66, 3) := dk_180 0 66 (dk_at dksX4_advance_0 2 rfl rfl)
theorem dX4_advance_5 : decode cX4_advance 5 = .ok (.invokevirtual 58, 3) := dk_182 0 58 (dk_at dksX4_advance_0 5 rfl rfl)
theorem dX4_advance_8 : decode cX4_advance 8 = .ok (.bipush 32, 2) := dk_16 32 (dk_at dksX4_advance_0 8 rfl rfl)
theorem dX4_advance_10 : decode cX4_advance 10 = .ok (.if_icmp .ne 16, 3) := dk_160 0 16 (dk_at dksX4_advance_0 10 rfl rfl)
theorem dX4_advance_13 : decode cX4_advance 13 = .ok (.aload_n 0, 1) := dk_42 (dk_at dksX4_advance_0 13 rfl rfl)
theorem dX4_advance_14 : decode cX4_advance 14 = .ok (.dup, 1) := dk_89 (dk_at dksX4_advance_0 14 rfl rfl)
theorem dX4_advance_15 : decode cX4_advance 15 = .ok (.getfield 66, 3) := dk_180 0 66 (dk_at dksX4_advance_0 15 rfl rfl)
theorem dX4_advance_18 : decode cX4_advance 18 = .ok (.iconst 1, 1) := dk_4 (dk_at dksX4_advance_0 18 rfl rfl)
theorem dX4_advance_19 : decode cX4_advance 19 = .ok (.iadd, 1) := dk_96 (dk_at dksX4_advance_0 19 rfl rfl)
theorem dX4_advance_20 : decode cX4_advance 20 = .ok (.putfield 66, 3) := dk_181 0 66 (dk_at dksX4_advance_0 20 rfl rfl)
theorem dX4_advance_23 : decode cX4_advance 23 = .ok (.goto (-23), 3) := dk_167 255 233 (dk_at dksX4_advance_1 0 rfl rfl)
theorem dX4_advance_26 : decode cX4_advance 26 = .ok (.aload_n 0, 1) := dk_42 (dk_at dksX4_advance_1 3 rfl rfl)
theorem dX4_advance_27 : decode cX4_advance 27 = .ok (.aload_n 0, 1) := dk_42 (dk_at dksX4_advance_1 4 rfl rfl)
theorem dX4_advance_28 : decode cX4_advance 28 = .ok (.getfield 66, 3) := dk_180 0 66 (dk_at dksX4_advance_1 5 rfl rfl)
theorem dX4_advance_31 : decode cX4_advance 31 = .ok (.putfield 79, 3) := dk_181 0 79 (dk_at dksX4_advance_1 8 rfl rfl)
theorem dX4_advance_34 : decode cX4_advance 34 = .ok (.aload_n 0, 1) := dk_42 (dk_at dksX4_advance_1 11 rfl rfl)
theorem dX4_advance_35 : decode cX4_advance 35 = .ok (.aload_n 0, 1) := dk_42 (dk_at dksX4_advance_1 12 rfl rfl)
theorem dX4_advance_36 : decode cX4_advance 36 = .ok (.invokevirtual 105, 3) := dk_182 0 105 (dk_at dksX4_advance_1 13 rfl rfl)
theorem dX4_advance_39 : decode cX4_advance 39 = .ok (.putfield 21, 3) := dk_181 0 21 (dk_at dksX4_advance_1 16 rfl rfl)
theorem dX4_advance_42 : decode cX4_advance 42 = .ok (.return_, 1) := dk_177 (dk_at dksX4_advance_1 19 rfl rfl)
abbrev cX4_byteAt : ByteArray := prog_9_method_2_code
def yX4_byteAt : MethodName := ⟨RX4, "byteAt", "(I)I"⟩
def dkwX4_byteAt_1 : List UInt8 := [2, 172]
abbrev dktX4_byteAt_1 : List UInt8 := dkwX4_byteAt_1 ++ []
def dkwX4_byteAt_0 : List UInt8 := [27, 42, 180, 0, 50, 162, 0, 19, 42, 180, 0, 3, 180, 0, 54, 27, 51, 17, 0, 255, 126, 167, 0, 4]
abbrev dktX4_byteAt_0 : List UInt8 := dkwX4_byteAt_0 ++ dktX4_byteAt_1
theorem dksX4_byteAt_0 : cX4_byteAt.data.toList.drop 0 = dktX4_byteAt_0 := by decide +kernel
theorem dksX4_byteAt_1 : cX4_byteAt.data.toList.drop 24 = dktX4_byteAt_1 := dk_seg dksX4_byteAt_0 24 rfl rfl
theorem dX4_byteAt_0 : decode cX4_byteAt 0 = .ok (.iload_n 1, 1) := dk_27 (dk_at dksX4_byteAt_0 0 rfl rfl)
theorem dX4_byteAt_1 : decode cX4_byteAt 1 = .ok (.aload_n 0, 1) := dk_42 (dk_at dksX4_byteAt_0 1 rfl rfl)
theorem dX4_byteAt_2 : decode cX4_byteAt 2 = .ok (.getfield 50, 3) := dk_180 0 50 (dk_at dksX4_byteAt_0 2 rfl rfl)
theorem dX4_byteAt_5 : decode cX4_byteAt 5 = .ok (.if_icmp .ge 19, 3) := dk_162 0 19 (dk_at dksX4_byteAt_0 5 rfl rfl)
theorem dX4_byteAt_8 : decode cX4_byteAt 8 = .ok (.aload_n 0, 1) := dk_42 (dk_at dksX4_byteAt_0 8 rfl rfl)
theorem dX4_byteAt_9 : decode cX4_byteAt 9 = .ok (.getfield 3, 3) := dk_180 0 3 (dk_at dksX4_byteAt_0 9 rfl rfl)
theorem dX4_byteAt_12 : decode cX4_byteAt 12 = .ok (.getfield 54, 3) := dk_180 0 54 (dk_at dksX4_byteAt_0 12 rfl rfl)
theorem dX4_byteAt_15 : decode cX4_byteAt 15 = .ok (.iload_n 1, 1) := dk_27 (dk_at dksX4_byteAt_0 15 rfl rfl)
theorem dX4_byteAt_16 : decode cX4_byteAt 16 = .ok (.baload, 1) := dk_51 (dk_at dksX4_byteAt_0 16 rfl rfl)
theorem dX4_byteAt_17 : decode cX4_byteAt 17 = .ok (.sipush 255, 3) := dk_17 0 255 (dk_at dksX4_byteAt_0 17 rfl rfl)
theorem dX4_byteAt_20 : decode cX4_byteAt 20 = .ok (.iand, 1) := dk_126 (dk_at dksX4_byteAt_0 20 rfl rfl)
theorem dX4_byteAt_21 : decode cX4_byteAt 21 = .ok (.goto 4, 3) := dk_167 0 4 (dk_at dksX4_byteAt_0 21 rfl rfl)
theorem dX4_byteAt_24 : decode cX4_byteAt 24 = .ok (.iconst (-1), 1) := dk_2 (dk_at dksX4_byteAt_1 0 rfl rfl)
theorem dX4_byteAt_25 : decode cX4_byteAt 25 = .ok (.ireturn, 1) := dk_172 (dk_at dksX4_byteAt_1 1 rfl rfl)
abbrev cX4_scan : ByteArray := prog_9_method_5_code
def yX4_scan : MethodName := ⟨RX4, "scan", "()LRideDesk$Token;"⟩
def dkwX4_scan_10 : List UInt8 := [4, 96, 181, 0, 66, 27, 16, 59, 160, 0, 9, 178, 0, 102, 167, 0, 6, 178, 0, 15, 176]
abbrev dktX4_scan_10 : List UInt8 := dkwX4_scan_10 ++ []
def dkwX4_scan_9 : List UInt8 := [178, 0, 15, 167, 0, 6, 178, 0, 99, 176, 42, 42, 180, 0, 66, 182, 0, 58, 60, 42, 89, 180, 0, 66]
abbrev dktX4_scan_9 : List UInt8 := dkwX4_scan_9 ++ dktX4_scan_10
def dkwX4_scan_8 : List UInt8 := [180, 0, 66, 4, 96, 181, 0, 66, 167, 255, 199, 42, 180, 0, 66, 42, 180, 0, 79, 100, 8, 164, 0, 9]
abbrev dktX4_scan_8 : List UInt8 := dkwX4_scan_8 ++ dktX4_scan_9
def dkwX4_scan_7 : List UInt8 := [16, 10, 42, 180, 0, 96, 104, 42, 42, 180, 0, 66, 182, 0, 58, 96, 16, 48, 100, 181, 0, 96, 42, 89]
abbrev dktX4_scan_7 : List UInt8 := dkwX4_scan_7 ++ dktX4_scan_8
def dkwX4_scan_6 : List UInt8 := [180, 0, 66, 182, 0, 93, 153, 0, 52, 42, 180, 0, 66, 42, 180, 0, 79, 100, 8, 162, 0, 26, 42]
abbrev dktX4_scan_6 : List UInt8 := dkwX4_scan_6 ++ dktX4_scan_7
def dkwX4_scan_5 : List UInt8 := [178, 0, 90, 176, 42, 42, 180, 0, 66, 182, 0, 93, 153, 0, 91, 42, 3, 181, 0, 96, 42, 42]
abbrev dktX4_scan_5 : List UInt8 := dkwX4_scan_5 ++ dktX4_scan_6
def dkwX4_scan_4 : List UInt8 := [181, 0, 26, 42, 180, 0, 66, 42, 180, 0, 79, 100, 16, 6, 164, 0, 9, 178, 0, 15, 167, 0, 6]
abbrev dktX4_scan_4 : List UInt8 := dkwX4_scan_4 ++ dktX4_scan_5
def dkwX4_scan_3 : List UInt8 := [182, 0, 82, 87, 42, 89, 180, 0, 66, 4, 96, 181, 0, 66, 167, 255, 207, 42, 43, 182, 0, 86]
abbrev dktX4_scan_3 : List UInt8 := dkwX4_scan_3 ++ dktX4_scan_4
def dkwX4_scan_2 : List UInt8 := [42, 180, 0, 66, 42, 180, 0, 79, 100, 16, 6, 162, 0, 17, 43, 42, 42, 180, 0, 66, 182, 0, 58, 146]
abbrev dktX4_scan_2 : List UInt8 := dkwX4_scan_2 ++ dktX4_scan_3
def dkwX4_scan_1 : List UInt8 := [153, 0, 97, 187, 0, 76, 89, 16, 6, 183, 0, 78, 76, 42, 42, 180, 0, 66, 182, 0, 72, 153, 0, 44]
abbrev dktX4_scan_1 : List UInt8 := dkwX4_scan_1 ++ dktX4_scan_2
def dkwX4_scan_0 : List UInt8 := [42, 180, 0, 66, 42, 180, 0, 50, 161, 0, 7, 178, 0, 69, 176, 42, 42, 180, 0, 66, 182, 0, 72]
abbrev dktX4_scan_0 : List UInt8 := dkwX4_scan_0 ++ dktX4_scan_1
theorem dksX4_scan_0 : cX4_scan.data.toList.drop 0 = dktX4_scan_0 := by decide +kernel
theorem dksX4_scan_1 : cX4_scan.data.toList.drop 23 = dktX4_scan_1 := dk_seg dksX4_scan_0 23 rfl rfl
theorem dksX4_scan_2 : cX4_scan.data.toList.drop 47 = dktX4_scan_2 := dk_seg dksX4_scan_1 24 rfl rfl
theorem dksX4_scan_3 : cX4_scan.data.toList.drop 71 = dktX4_scan_3 := dk_seg dksX4_scan_2 24 rfl rfl
theorem dksX4_scan_4 : cX4_scan.data.toList.drop 93 = dktX4_scan_4 := dk_seg dksX4_scan_3 22 rfl rfl
theorem dksX4_scan_5 : cX4_scan.data.toList.drop 116 = dktX4_scan_5 := dk_seg dksX4_scan_4 23 rfl rfl
theorem dksX4_scan_6 : cX4_scan.data.toList.drop 138 = dktX4_scan_6 := dk_seg dksX4_scan_5 22 rfl rfl
theorem dksX4_scan_7 : cX4_scan.data.toList.drop 161 = dktX4_scan_7 := dk_seg dksX4_scan_6 23 rfl rfl
theorem dksX4_scan_8 : cX4_scan.data.toList.drop 185 = dktX4_scan_8 := dk_seg dksX4_scan_7 24 rfl rfl
theorem dksX4_scan_9 : cX4_scan.data.toList.drop 209 = dktX4_scan_9 := dk_seg dksX4_scan_8 24 rfl rfl
theorem dksX4_scan_10 : cX4_scan.data.toList.drop 233 = dktX4_scan_10 := dk_seg dksX4_scan_9 24 rfl rfl
theorem dX4_scan_0 : decode cX4_scan 0 = .ok (.aload_n 0, 1) := dk_42 (dk_at dksX4_scan_0 0 rfl rfl)
theorem dX4_scan_1 : decode cX4_scan 1 = .ok (.getfield 66, 3) := dk_180 0 66 (dk_at dksX4_scan_0 1 rfl rfl)
theorem dX4_scan_4 : decode cX4_scan 4 = .ok (.aload_n 0, 1) := dk_42 (dk_at dksX4_scan_0 4 rfl rfl)
theorem dX4_scan_5 : decode cX4_scan 5 = .ok (.getfield 50, 3) := dk_180 0 50 (dk_at dksX4_scan_0 5 rfl rfl)
theorem dX4_scan_8 : decode cX4_scan 8 = .ok (.if_icmp .lt 7, 3) := dk_161 0 7 (dk_at dksX4_scan_0 8 rfl rfl)
theorem dX4_scan_11 : decode cX4_scan 11 = .ok (.getstatic 69, 3) := dk_178 0 69 (dk_at dksX4_scan_0 11 rfl rfl)
theorem dX4_scan_14 : decode cX4_scan 14 = .ok (.areturn, 1) := dk_176 (dk_at dksX4_scan_0 14 rfl rfl)
theorem dX4_scan_15 : decode cX4_scan 15 = .ok (.aload_n 0, 1) := dk_42 (dk_at dksX4_scan_0 15 rfl rfl)
theorem dX4_scan_16 : decode cX4_scan 16 = .ok (.aload_n 0, 1) := dk_42 (dk_at dksX4_scan_0 16 rfl rfl)
theorem dX4_scan_17 : decode cX4_scan 17 = .ok (.getfield 66, 3) := dk_180 0 66 (dk_at dksX4_scan_0 17 rfl rfl)
theorem dX4_scan_20 : decode cX4_scan 20 = .ok (.invokevirtual 72, 3) := dk_182 0 72 (dk_at dksX4_scan_0 20 rfl rfl)
theorem dX4_scan_23 : decode cX4_scan 23 = .ok (.ifCond .eq 97, 3) := dk_153 0 97 (dk_at dksX4_scan_1 0 rfl rfl)
theorem dX4_scan_26 : decode cX4_scan 26 = .ok (.new 76, 3) := dk_187 0 76 (dk_at dksX4_scan_1 3 rfl rfl)
theorem dX4_scan_29 : decode cX4_scan 29 = .ok (.dup, 1) := dk_89 (dk_at dksX4_scan_1 6 rfl rfl)
theorem dX4_scan_30 : decode cX4_scan 30 = .ok (.bipush 6, 2) := dk_16 6 (dk_at dksX4_scan_1 7 rfl rfl)
theorem dX4_scan_32 : decode cX4_scan 32 = .ok (.invokespecial 78, 3) := dk_183 0 78 (dk_at dksX4_scan_1 9 rfl rfl)
theorem dX4_scan_35 : decode cX4_scan 35 = .ok (.astore_n 1, 1) := dk_76 (dk_at dksX4_scan_1 12 rfl rfl)
theorem dX4_scan_36 : decode cX4_scan 36 = .ok (.aload_n 0, 1) := dk_42 (dk_at dksX4_scan_1 13 rfl rfl)
theorem dX4_scan_37 : decode cX4_scan 37 = .ok (.aload_n 0, 1) := dk_42 (dk_at dksX4_scan_1 14 rfl rfl)
theorem dX4_scan_38 : decode cX4_scan 38 = .ok (.getfield 66, 3) := dk_180 0 66 (dk_at dksX4_scan_1 15 rfl rfl)
theorem dX4_scan_41 : decode cX4_scan 41 = .ok (.invokevirtual 72, 3) := dk_182 0 72 (dk_at dksX4_scan_1 18 rfl rfl)
theorem dX4_scan_44 : decode cX4_scan 44 = .ok (.ifCond .eq 44, 3) := dk_153 0 44 (dk_at dksX4_scan_1 21 rfl rfl)
theorem dX4_scan_47 : decode cX4_scan 47 = .ok (.aload_n 0, 1) := dk_42 (dk_at dksX4_scan_2 0 rfl rfl)
theorem dX4_scan_48 : decode cX4_scan 48 = .ok (.getfield 66, 3) := dk_180 0 66 (dk_at dksX4_scan_2 1 rfl rfl)
theorem dX4_scan_51 : decode cX4_scan 51 = .ok (.aload_n 0, 1) := dk_42 (dk_at dksX4_scan_2 4 rfl rfl)
theorem dX4_scan_52 : decode cX4_scan 52 = .ok (.getfield 79, 3) := dk_180 0 79 (dk_at dksX4_scan_2 5 rfl rfl)
theorem dX4_scan_55 : decode cX4_scan 55 = .ok (.isub, 1) := dk_100 (dk_at dksX4_scan_2 8 rfl rfl)
theorem dX4_scan_56 : decode cX4_scan 56 = .ok (.bipush 6, 2) := dk_16 6 (dk_at dksX4_scan_2 9 rfl rfl)
theorem dX4_scan_58 : decode cX4_scan 58 = .ok (.if_icmp .ge 17, 3) := dk_162 0 17 (dk_at dksX4_scan_2 11 rfl rfl)
theorem dX4_scan_61 : decode cX4_scan 61 = .ok (.aload_n 1, 1) := dk_43 (dk_at dksX4_scan_2 14 rfl rfl)
theorem dX4_scan_62 : decode cX4_scan 62 = .ok (.aload_n 0, 1) := dk_42 (dk_at dksX4_scan_2 15 rfl rfl)
theorem dX4_scan_63 : decode cX4_scan 63 = .ok (.aload_n 0, 1) := dk_42 (dk_at dksX4_scan_2 16 rfl rfl)
theorem dX4_scan_64 : decode cX4_scan 64 = .ok (.getfield 66, 3) := dk_180 0 66 (dk_at dksX4_scan_2 17 rfl rfl)
theorem dX4_scan_67 : decode cX4_scan 67 = .ok (.invokevirtual 58, 3) := dk_182 0 58 (dk_at dksX4_scan_2 20 rfl rfl)
theorem dX4_scan_70 : decode cX4_scan 70 = .ok (.i2c, 1) := dk_146 (dk_at dksX4_scan_2 23 rfl rfl)
theorem dX4_scan_71 : decode cX4_scan 71 = .ok (.invokevirtual 82, 3) := dk_182 0 82 (dk_at dksX4_scan_3 0 rfl rfl)
theorem dX4_scan_74 : decode cX4_scan 74 = .ok (.pop, 1) := dk_87 (dk_at dksX4_scan_3 3 rfl rfl)
theorem dX4_scan_75 : decode cX4_scan 75 = .ok (.aload_n 0, 1) := dk_42 (dk_at dksX4_scan_3 4 rfl rfl)
theorem dX4_scan_76 : decode cX4_scan 76 = .ok (.dup, 1) := dk_89 (dk_at dksX4_scan_3 5 rfl rfl)
theorem dX4_scan_77 : decode cX4_scan 77 = .ok (.getfield 66, 3) := dk_180 0 66 (dk_at dksX4_scan_3 6 rfl rfl)
theorem dX4_scan_80 : decode cX4_scan 80 = .ok (.iconst 1, 1) := dk_4 (dk_at dksX4_scan_3 9 rfl rfl)
theorem dX4_scan_81 : decode cX4_scan 81 = .ok (.iadd, 1) := dk_96 (dk_at dksX4_scan_3 10 rfl rfl)
theorem dX4_scan_82 : decode cX4_scan 82 = .ok (.putfield 66, 3) := dk_181 0 66 (dk_at dksX4_scan_3 11 rfl rfl)
theorem dX4_scan_85 : decode cX4_scan 85 = .ok (.goto (-49), 3) := dk_167 255 207 (dk_at dksX4_scan_3 14 rfl rfl)
theorem dX4_scan_88 : decode cX4_scan 88 = .ok (.aload_n 0, 1) := dk_42 (dk_at dksX4_scan_3 17 rfl rfl)
theorem dX4_scan_89 : decode cX4_scan 89 = .ok (.aload_n 1, 1) := dk_43 (dk_at dksX4_scan_3 18 rfl rfl)
theorem dX4_scan_90 : decode cX4_scan 90 = .ok (.invokevirtual 86, 3) := dk_182 0 86 (dk_at dksX4_scan_3 19 rfl rfl)
theorem dX4_scan_93 : decode cX4_scan 93 = .ok (.putfield 26, 3) := dk_181 0 26 (dk_at dksX4_scan_4 0 rfl rfl)
theorem dX4_scan_96 : decode cX4_scan 96 = .ok (.aload_n 0, 1) := dk_42 (dk_at dksX4_scan_4 3 rfl rfl)
theorem dX4_scan_97 : decode cX4_scan 97 = .ok (.getfield 66, 3) := dk_180 0 66 (dk_at dksX4_scan_4 4 rfl rfl)
theorem dX4_scan_100 : decode cX4_scan 100 = .ok (.aload_n 0, 1) := dk_42 (dk_at dksX4_scan_4 7 rfl rfl)
theorem dX4_scan_101 : decode cX4_scan 101 = .ok (.getfield 79, 3) := dk_180 0 79 (dk_at dksX4_scan_4 8 rfl rfl)
theorem dX4_scan_104 : decode cX4_scan 104 = .ok (.isub, 1) := dk_100 (dk_at dksX4_scan_4 11 rfl rfl)
theorem dX4_scan_105 : decode cX4_scan 105 = .ok (.bipush 6, 2) := dk_16 6 (dk_at dksX4_scan_4 12 rfl rfl)
theorem dX4_scan_107 : decode cX4_scan 107 = .ok (.if_icmp .le 9, 3) := dk_164 0 9 (dk_at dksX4_scan_4 14 rfl rfl)
theorem dX4_scan_110 : decode cX4_scan 110 = .ok (.getstatic 15, 3) := dk_178 0 15 (dk_at dksX4_scan_4 17 rfl rfl)
theorem dX4_scan_113 : decode cX4_scan 113 = .ok (.goto 6, 3) := dk_167 0 6 (dk_at dksX4_scan_4 20 rfl rfl)
theorem dX4_scan_116 : decode cX4_scan 116 = .ok (.getstatic 90, 3) := dk_178 0 90 (dk_at dksX4_scan_5 0 rfl rfl)
theorem dX4_scan_119 : decode cX4_scan 119 = .ok (.areturn, 1) := dk_176 (dk_at dksX4_scan_5 3 rfl rfl)
theorem dX4_scan_120 : decode cX4_scan 120 = .ok (.aload_n 0, 1) := dk_42 (dk_at dksX4_scan_5 4 rfl rfl)
theorem dX4_scan_121 : decode cX4_scan 121 = .ok (.aload_n 0, 1) := dk_42 (dk_at dksX4_scan_5 5 rfl rfl)
theorem dX4_scan_122 : decode cX4_scan 122 = .ok (.getfield 66, 3) := dk_180 0 66 (dk_at dksX4_scan_5 6 rfl rfl)
theorem dX4_scan_125 : decode cX4_scan 125 = .ok (.invokevirtual 93, 3) := dk_182 0 93 (dk_at dksX4_scan_5 9 rfl rfl)
theorem dX4_scan_128 : decode cX4_scan 128 = .ok (.ifCond .eq 91, 3) := dk_153 0 91 (dk_at dksX4_scan_5 12 rfl rfl)
theorem dX4_scan_131 : decode cX4_scan 131 = .ok (.aload_n 0, 1) := dk_42 (dk_at dksX4_scan_5 15 rfl rfl)
theorem dX4_scan_132 : decode cX4_scan 132 = .ok (.iconst 0, 1) := dk_3 (dk_at dksX4_scan_5 16 rfl rfl)
theorem dX4_scan_133 : decode cX4_scan 133 = .ok (.putfield 96, 3) := dk_181 0 96 (dk_at dksX4_scan_5 17 rfl rfl)
theorem dX4_scan_136 : decode cX4_scan 136 = .ok (.aload_n 0, 1) := dk_42 (dk_at dksX4_scan_5 20 rfl rfl)
theorem dX4_scan_137 : decode cX4_scan 137 = .ok (.aload_n 0, 1) := dk_42 (dk_at dksX4_scan_5 21 rfl rfl)
theorem dX4_scan_138 : decode cX4_scan 138 = .ok (.getfield 66, 3) := dk_180 0 66 (dk_at dksX4_scan_6 0 rfl rfl)
theorem dX4_scan_141 : decode cX4_scan 141 = .ok (.invokevirtual 93, 3) := dk_182 0 93 (dk_at dksX4_scan_6 3 rfl rfl)
theorem dX4_scan_144 : decode cX4_scan 144 = .ok (.ifCond .eq 52, 3) := dk_153 0 52 (dk_at dksX4_scan_6 6 rfl rfl)
theorem dX4_scan_147 : decode cX4_scan 147 = .ok (.aload_n 0, 1) := dk_42 (dk_at dksX4_scan_6 9 rfl rfl)
theorem dX4_scan_148 : decode cX4_scan 148 = .ok (.getfield 66, 3) := dk_180 0 66 (dk_at dksX4_scan_6 10 rfl rfl)
theorem dX4_scan_151 : decode cX4_scan 151 = .ok (.aload_n 0, 1) := dk_42 (dk_at dksX4_scan_6 13 rfl rfl)
theorem dX4_scan_152 : decode cX4_scan 152 = .ok (.getfield 79, 3) := dk_180 0 79 (dk_at dksX4_scan_6 14 rfl rfl)
theorem dX4_scan_155 : decode cX4_scan 155 = .ok (.isub, 1) := dk_100 (dk_at dksX4_scan_6 17 rfl rfl)
theorem dX4_scan_156 : decode cX4_scan 156 = .ok (.iconst 5, 1) := dk_8 (dk_at dksX4_scan_6 18 rfl rfl)
theorem dX4_scan_157 : decode cX4_scan 157 = .ok (.if_icmp .ge 26, 3) := dk_162 0 26 (dk_at dksX4_scan_6 19 rfl rfl)
theorem dX4_scan_160 : decode cX4_scan 160 = .ok (.aload_n 0, 1) := dk_42 (dk_at dksX4_scan_6 22 rfl rfl)
theorem dX4_scan_161 : decode cX4_scan 161 = .ok (.bipush 10, 2) := dk_16 10 (dk_at dksX4_scan_7 0 rfl rfl)
theorem dX4_scan_163 : decode cX4_scan 163 = .ok (.aload_n 0, 1) := dk_42 (dk_at dksX4_scan_7 2 rfl rfl)
theorem dX4_scan_164 : decode cX4_scan 164 = .ok (.getfield 96, 3) := dk_180 0 96 (dk_at dksX4_scan_7 3 rfl rfl)
theorem dX4_scan_167 : decode cX4_scan 167 = .ok (.imul, 1) := dk_104 (dk_at dksX4_scan_7 6 rfl rfl)
theorem dX4_scan_168 : decode cX4_scan 168 = .ok (.aload_n 0, 1) := dk_42 (dk_at dksX4_scan_7 7 rfl rfl)
theorem dX4_scan_169 : decode cX4_scan 169 = .ok (.aload_n 0, 1) := dk_42 (dk_at dksX4_scan_7 8 rfl rfl)
theorem dX4_scan_170 : decode cX4_scan 170 = .ok (.getfield 66, 3) := dk_180 0 66 (dk_at dksX4_scan_7 9 rfl rfl)
theorem dX4_scan_173 : decode cX4_scan 173 = .ok (.invokevirtual 58, 3) := dk_182 0 58 (dk_at dksX4_scan_7 12 rfl rfl)
theorem dX4_scan_176 : decode cX4_scan 176 = .ok (.iadd, 1) := dk_96 (dk_at dksX4_scan_7 15 rfl rfl)
theorem dX4_scan_177 : decode cX4_scan 177 = .ok (.bipush 48, 2) := dk_16 48 (dk_at dksX4_scan_7 16 rfl rfl)
theorem dX4_scan_179 : decode cX4_scan 179 = .ok (.isub, 1) := dk_100 (dk_at dksX4_scan_7 18 rfl rfl)
theorem dX4_scan_180 : decode cX4_scan 180 = .ok (.putfield 96, 3) := dk_181 0 96 (dk_at dksX4_scan_7 19 rfl rfl)
theorem dX4_scan_183 : decode cX4_scan 183 = .ok (.aload_n 0, 1) := dk_42 (dk_at dksX4_scan_7 22 rfl rfl)
theorem dX4_scan_184 : decode cX4_scan 184 = .ok (.dup, 1) := dk_89 (dk_at dksX4_scan_7 23 rfl rfl)
theorem dX4_scan_185 : decode cX4_scan 185 = .ok (.getfield 66, 3) := dk_180 0 66 (dk_at dksX4_scan_8 0 rfl rfl)
theorem dX4_scan_188 : decode cX4_scan 188 = .ok (.iconst 1, 1) := dk_4 (dk_at dksX4_scan_8 3 rfl rfl)
theorem dX4_scan_189 : decode cX4_scan 189 = .ok (.iadd, 1) := dk_96 (dk_at dksX4_scan_8 4 rfl rfl)
theorem dX4_scan_190 : decode cX4_scan 190 = .ok (.putfield 66, 3) := dk_181 0 66 (dk_at dksX4_scan_8 5 rfl rfl)
theorem dX4_scan_193 : decode cX4_scan 193 = .ok (.goto (-57), 3) := dk_167 255 199 (dk_at dksX4_scan_8 8 rfl rfl)
theorem dX4_scan_196 : decode cX4_scan 196 = .ok (.aload_n 0, 1) := dk_42 (dk_at dksX4_scan_8 11 rfl rfl)
theorem dX4_scan_197 : decode cX4_scan 197 = .ok (.getfield 66, 3) := dk_180 0 66 (dk_at dksX4_scan_8 12 rfl rfl)
theorem dX4_scan_200 : decode cX4_scan 200 = .ok (.aload_n 0, 1) := dk_42 (dk_at dksX4_scan_8 15 rfl rfl)
theorem dX4_scan_201 : decode cX4_scan 201 = .ok (.getfield 79, 3) := dk_180 0 79 (dk_at dksX4_scan_8 16 rfl rfl)
theorem dX4_scan_204 : decode cX4_scan 204 = .ok (.isub, 1) := dk_100 (dk_at dksX4_scan_8 19 rfl rfl)
theorem dX4_scan_205 : decode cX4_scan 205 = .ok (.iconst 5, 1) := dk_8 (dk_at dksX4_scan_8 20 rfl rfl)
theorem dX4_scan_206 : decode cX4_scan 206 = .ok (.if_icmp .le 9, 3) := dk_164 0 9 (dk_at dksX4_scan_8 21 rfl rfl)
theorem dX4_scan_209 : decode cX4_scan 209 = .ok (.getstatic 15, 3) := dk_178 0 15 (dk_at dksX4_scan_9 0 rfl rfl)
theorem dX4_scan_212 : decode cX4_scan 212 = .ok (.goto 6, 3) := dk_167 0 6 (dk_at dksX4_scan_9 3 rfl rfl)
theorem dX4_scan_215 : decode cX4_scan 215 = .ok (.getstatic 99, 3) := dk_178 0 99 (dk_at dksX4_scan_9 6 rfl rfl)
theorem dX4_scan_218 : decode cX4_scan 218 = .ok (.areturn, 1) := dk_176 (dk_at dksX4_scan_9 9 rfl rfl)
theorem dX4_scan_219 : decode cX4_scan 219 = .ok (.aload_n 0, 1) := dk_42 (dk_at dksX4_scan_9 10 rfl rfl)
theorem dX4_scan_220 : decode cX4_scan 220 = .ok (.aload_n 0, 1) := dk_42 (dk_at dksX4_scan_9 11 rfl rfl)
theorem dX4_scan_221 : decode cX4_scan 221 = .ok (.getfield 66, 3) := dk_180 0 66 (dk_at dksX4_scan_9 12 rfl rfl)
theorem dX4_scan_224 : decode cX4_scan 224 = .ok (.invokevirtual 58, 3) := dk_182 0 58 (dk_at dksX4_scan_9 15 rfl rfl)
theorem dX4_scan_227 : decode cX4_scan 227 = .ok (.istore_n 1, 1) := dk_60 (dk_at dksX4_scan_9 18 rfl rfl)
theorem dX4_scan_228 : decode cX4_scan 228 = .ok (.aload_n 0, 1) := dk_42 (dk_at dksX4_scan_9 19 rfl rfl)
theorem dX4_scan_229 : decode cX4_scan 229 = .ok (.dup, 1) := dk_89 (dk_at dksX4_scan_9 20 rfl rfl)
theorem dX4_scan_230 : decode cX4_scan 230 = .ok (.getfield 66, 3) := dk_180 0 66 (dk_at dksX4_scan_9 21 rfl rfl)
theorem dX4_scan_233 : decode cX4_scan 233 = .ok (.iconst 1, 1) := dk_4 (dk_at dksX4_scan_10 0 rfl rfl)
theorem dX4_scan_234 : decode cX4_scan 234 = .ok (.iadd, 1) := dk_96 (dk_at dksX4_scan_10 1 rfl rfl)
theorem dX4_scan_235 : decode cX4_scan 235 = .ok (.putfield 66, 3) := dk_181 0 66 (dk_at dksX4_scan_10 2 rfl rfl)
theorem dX4_scan_238 : decode cX4_scan 238 = .ok (.iload_n 1, 1) := dk_27 (dk_at dksX4_scan_10 5 rfl rfl)
theorem dX4_scan_239 : decode cX4_scan 239 = .ok (.bipush 59, 2) := dk_16 59 (dk_at dksX4_scan_10 6 rfl rfl)
theorem dX4_scan_241 : decode cX4_scan 241 = .ok (.if_icmp .ne 9, 3) := dk_160 0 9 (dk_at dksX4_scan_10 8 rfl rfl)
theorem dX4_scan_244 : decode cX4_scan 244 = .ok (.getstatic 102, 3) := dk_178 0 102 (dk_at dksX4_scan_10 11 rfl rfl)
theorem dX4_scan_247 : decode cX4_scan 247 = .ok (.goto 6, 3) := dk_167 0 6 (dk_at dksX4_scan_10 14 rfl rfl)
theorem dX4_scan_250 : decode cX4_scan 250 = .ok (.getstatic 15, 3) := dk_178 0 15 (dk_at dksX4_scan_10 17 rfl rfl)
theorem dX4_scan_253 : decode cX4_scan 253 = .ok (.areturn, 1) := dk_176 (dk_at dksX4_scan_10 20 rfl rfl)
abbrev cX4_isLetter : ByteArray := prog_9_method_3_code
def yX4_isLetter : MethodName := ⟨RX4, "isLetter", "(I)Z"⟩
def dkwX4_isLetter_0 : List UInt8 := [42, 27, 182, 0, 58, 16, 97, 16, 122, 184, 0, 62, 172]
abbrev dktX4_isLetter_0 : List UInt8 := dkwX4_isLetter_0 ++ []
theorem dksX4_isLetter_0 : cX4_isLetter.data.toList.drop 0 = dktX4_isLetter_0 := by decide +kernel
theorem dX4_isLetter_0 : decode cX4_isLetter 0 = .ok (.aload_n 0, 1) := dk_42 (dk_at dksX4_isLetter_0 0 rfl rfl)
theorem dX4_isLetter_1 : decode cX4_isLetter 1 = .ok (.iload_n 1, 1) := dk_27 (dk_at dksX4_isLetter_0 1 rfl rfl)
theorem dX4_isLetter_2 : decode cX4_isLetter 2 = .ok (.invokevirtual 58, 3) := dk_182 0 58 (dk_at dksX4_isLetter_0 2 rfl rfl)
theorem dX4_isLetter_5 : decode cX4_isLetter 5 = .ok (.bipush 97, 2) := dk_16 97 (dk_at dksX4_isLetter_0 5 rfl rfl)
theorem dX4_isLetter_7 : decode cX4_isLetter 7 = .ok (.bipush 122, 2) := dk_16 122 (dk_at dksX4_isLetter_0 7 rfl rfl)
theorem dX4_isLetter_9 : decode cX4_isLetter 9 = .ok (.invokestatic 62, 3) := dk_184 0 62 (dk_at dksX4_isLetter_0 9 rfl rfl)
theorem dX4_isLetter_12 : decode cX4_isLetter 12 = .ok (.ireturn, 1) := dk_172 (dk_at dksX4_isLetter_0 12 rfl rfl)
abbrev cX4_isDigit : ByteArray := prog_9_method_4_code
def yX4_isDigit : MethodName := ⟨RX4, "isDigit", "(I)Z"⟩
def dkwX4_isDigit_0 : List UInt8 := [42, 27, 182, 0, 58, 16, 48, 16, 57, 184, 0, 62, 172]
abbrev dktX4_isDigit_0 : List UInt8 := dkwX4_isDigit_0 ++ []
theorem dksX4_isDigit_0 : cX4_isDigit.data.toList.drop 0 = dktX4_isDigit_0 := by decide +kernel
theorem dX4_isDigit_0 : decode cX4_isDigit 0 = .ok (.aload_n 0, 1) := dk_42 (dk_at dksX4_isDigit_0 0 rfl rfl)
theorem dX4_isDigit_1 : decode cX4_isDigit 1 = .ok (.iload_n 1, 1) := dk_27 (dk_at dksX4_isDigit_0 1 rfl rfl)
theorem dX4_isDigit_2 : decode cX4_isDigit 2 = .ok (.invokevirtual 58, 3) := dk_182 0 58 (dk_at dksX4_isDigit_0 2 rfl rfl)
theorem dX4_isDigit_5 : decode cX4_isDigit 5 = .ok (.bipush 48, 2) := dk_16 48 (dk_at dksX4_isDigit_0 5 rfl rfl)
theorem dX4_isDigit_7 : decode cX4_isDigit 7 = .ok (.bipush 57, 2) := dk_16 57 (dk_at dksX4_isDigit_0 7 rfl rfl)
theorem dX4_isDigit_9 : decode cX4_isDigit 9 = .ok (.invokestatic 62, 3) := dk_184 0 62 (dk_at dksX4_isDigit_0 9 rfl rfl)
theorem dX4_isDigit_12 : decode cX4_isDigit 12 = .ok (.ireturn, 1) := dk_172 (dk_at dksX4_isDigit_0 12 rfl rfl)
abbrev cX4_rules : ByteArray := prog_9_method_14_code
def yX4_rules : MethodName := ⟨RX4, "rules", "()V"⟩
def dkwX4_rules_4 : List UInt8 := [17, 3, 231, 182, 0, 153, 181, 0, 182, 177]
abbrev dktX4_rules_4 : List UInt8 := dkwX4_rules_4 ++ []
def dkwX4_rules_3 : List UInt8 := [182, 0, 139, 181, 0, 173, 43, 42, 18, 176, 3, 16, 60, 182, 0, 153, 181, 0, 178, 43, 42, 18, 180, 3]
abbrev dktX4_rules_3 : List UInt8 := dkwX4_rules_3 ++ dktX4_rules_4
def dkwX4_rules_2 : List UInt8 := [182, 0, 139, 181, 0, 166, 43, 42, 18, 169, 3, 16, 20, 182, 0, 153, 181, 0, 171, 43, 42, 3, 16, 20]
abbrev dktX4_rules_2 : List UInt8 := dkwX4_rules_2 ++ dktX4_rules_3
def dkwX4_rules_1 : List UInt8 := [181, 0, 157, 43, 42, 18, 161, 3, 16, 120, 182, 0, 153, 181, 0, 163, 43, 42, 16, 100, 17, 1, 144]
abbrev dktX4_rules_1 : List UInt8 := dkwX4_rules_1 ++ dktX4_rules_2
def dkwX4_rules_0 : List UInt8 := [42, 180, 0, 33, 180, 0, 145, 76, 42, 18, 149, 182, 0, 135, 43, 42, 18, 151, 3, 16, 120, 182, 0, 153]
abbrev dktX4_rules_0 : List UInt8 := dkwX4_rules_0 ++ dktX4_rules_1
theorem dksX4_rules_0 : cX4_rules.data.toList.drop 0 = dktX4_rules_0 := by decide +kernel
theorem dksX4_rules_1 : cX4_rules.data.toList.drop 24 = dktX4_rules_1 := dk_seg dksX4_rules_0 24 rfl rfl
theorem dksX4_rules_2 : cX4_rules.data.toList.drop 47 = dktX4_rules_2 := dk_seg dksX4_rules_1 23 rfl rfl
theorem dksX4_rules_3 : cX4_rules.data.toList.drop 71 = dktX4_rules_3 := dk_seg dksX4_rules_2 24 rfl rfl
theorem dksX4_rules_4 : cX4_rules.data.toList.drop 95 = dktX4_rules_4 := dk_seg dksX4_rules_3 24 rfl rfl
theorem dX4_rules_0 : decode cX4_rules 0 = .ok (.aload_n 0, 1) := dk_42 (dk_at dksX4_rules_0 0 rfl rfl)
theorem dX4_rules_1 : decode cX4_rules 1 = .ok (.getfield 33, 3) := dk_180 0 33 (dk_at dksX4_rules_0 1 rfl rfl)
theorem dX4_rules_4 : decode cX4_rules 4 = .ok (.getfield 145, 3) := dk_180 0 145 (dk_at dksX4_rules_0 4 rfl rfl)
theorem dX4_rules_7 : decode cX4_rules 7 = .ok (.astore_n 1, 1) := dk_76 (dk_at dksX4_rules_0 7 rfl rfl)
theorem dX4_rules_8 : decode cX4_rules 8 = .ok (.aload_n 0, 1) := dk_42 (dk_at dksX4_rules_0 8 rfl rfl)
theorem dX4_rules_9 : decode cX4_rules 9 = .ok (.ldc 149, 2) := dk_18 149 (dk_at dksX4_rules_0 9 rfl rfl)
theorem dX4_rules_11 : decode cX4_rules 11 = .ok (.invokevirtual 135, 3) := dk_182 0 135 (dk_at dksX4_rules_0 11 rfl rfl)
theorem dX4_rules_14 : decode cX4_rules 14 = .ok (.aload_n 1, 1) := dk_43 (dk_at dksX4_rules_0 14 rfl rfl)
theorem dX4_rules_15 : decode cX4_rules 15 = .ok (.aload_n 0, 1) := dk_42 (dk_at dksX4_rules_0 15 rfl rfl)
theorem dX4_rules_16 : decode cX4_rules 16 = .ok (.ldc 151, 2) := dk_18 151 (dk_at dksX4_rules_0 16 rfl rfl)
theorem dX4_rules_18 : decode cX4_rules 18 = .ok (.iconst 0, 1) := dk_3 (dk_at dksX4_rules_0 18 rfl rfl)
theorem dX4_rules_19 : decode cX4_rules 19 = .ok (.bipush 120, 2) := dk_16 120 (dk_at dksX4_rules_0 19 rfl rfl)
theorem dX4_rules_21 : decode cX4_rules 21 = .ok (.invokevirtual 153, 3) := dk_182 0 153 (dk_at dksX4_rules_0 21 rfl rfl)
theorem dX4_rules_24 : decode cX4_rules 24 = .ok (.putfield 157, 3) := dk_181 0 157 (dk_at dksX4_rules_1 0 rfl rfl)
theorem dX4_rules_27 : decode cX4_rules 27 = .ok (.aload_n 1, 1) := dk_43 (dk_at dksX4_rules_1 3 rfl rfl)
theorem dX4_rules_28 : decode cX4_rules 28 = .ok (.aload_n 0, 1) := dk_42 (dk_at dksX4_rules_1 4 rfl rfl)
theorem dX4_rules_29 : decode cX4_rules 29 = .ok (.ldc 161, 2) := dk_18 161 (dk_at dksX4_rules_1 5 rfl rfl)
theorem dX4_rules_31 : decode cX4_rules 31 = .ok (.iconst 0, 1) := dk_3 (dk_at dksX4_rules_1 7 rfl rfl)
theorem dX4_rules_32 : decode cX4_rules 32 = .ok (.bipush 120, 2) := dk_16 120 (dk_at dksX4_rules_1 8 rfl rfl)
theorem dX4_rules_34 : decode cX4_rules 34 = .ok (.invokevirtual 153, 3) := dk_182 0 153 (dk_at dksX4_rules_1 10 rfl rfl)
theorem dX4_rules_37 : decode cX4_rules 37 = .ok (.putfield 163, 3) := dk_181 0 163 (dk_at dksX4_rules_1 13 rfl rfl)
theorem dX4_rules_40 : decode cX4_rules 40 = .ok (.aload_n 1, 1) := dk_43 (dk_at dksX4_rules_1 16 rfl rfl)
theorem dX4_rules_41 : decode cX4_rules 41 = .ok (.aload_n 0, 1) := dk_42 (dk_at dksX4_rules_1 17 rfl rfl)
theorem dX4_rules_42 : decode cX4_rules 42 = .ok (.bipush 100, 2) := dk_16 100 (dk_at dksX4_rules_1 18 rfl rfl)
theorem dX4_rules_44 : decode cX4_rules 44 = .ok (.sipush 400, 3) := dk_17 1 144 (dk_at dksX4_rules_1 20 rfl rfl)
theorem dX4_rules_47 : decode cX4_rules 47 = .ok (.invokevirtual 139, 3) := dk_182 0 139 (dk_at dksX4_rules_2 0 rfl rfl)
theorem dX4_rules_50 : decode cX4_rules 50 = .ok (.putfield 166, 3) := dk_181 0 166 (dk_at dksX4_rules_2 3 rfl rfl)
theorem dX4_rules_53 : decode cX4_rules 53 = .ok (.aload_n 1, 1) := dk_43 (dk_at dksX4_rules_2 6 rfl rfl)
theorem dX4_rules_54 : decode cX4_rules 54 = .ok (.aload_n 0, 1) := dk_42 (dk_at dksX4_rules_2 7 rfl rfl)
theorem dX4_rules_55 : decode cX4_rules 55 = .ok (.ldc 169, 2) := dk_18 169 (dk_at dksX4_rules_2 8 rfl rfl)
theorem dX4_rules_57 : decode cX4_rules 57 = .ok (.iconst 0, 1) := dk_3 (dk_at dksX4_rules_2 10 rfl rfl)
theorem dX4_rules_58 : decode cX4_rules 58 = .ok (.bipush 20, 2) := dk_16 20 (dk_at dksX4_rules_2 11 rfl rfl)
theorem dX4_rules_60 : decode cX4_rules 60 = .ok (.invokevirtual 153, 3) := dk_182 0 153 (dk_at dksX4_rules_2 13 rfl rfl)
theorem dX4_rules_63 : decode cX4_rules 63 = .ok (.putfield 171, 3) := dk_181 0 171 (dk_at dksX4_rules_2 16 rfl rfl)
theorem dX4_rules_66 : decode cX4_rules 66 = .ok (.aload_n 1, 1) := dk_43 (dk_at dksX4_rules_2 19 rfl rfl)
theorem dX4_rules_67 : decode cX4_rules 67 = .ok (.aload_n 0, 1) := dk_42 (dk_at dksX4_rules_2 20 rfl rfl)
theorem dX4_rules_68 : decode cX4_rules 68 = .ok (.iconst 0, 1) := dk_3 (dk_at dksX4_rules_2 21 rfl rfl)
theorem dX4_rules_69 : decode cX4_rules 69 = .ok (.bipush 20, 2) := dk_16 20 (dk_at dksX4_rules_2 22 rfl rfl)
theorem dX4_rules_71 : decode cX4_rules 71 = .ok (.invokevirtual 139, 3) := dk_182 0 139 (dk_at dksX4_rules_3 0 rfl rfl)
theorem dX4_rules_74 : decode cX4_rules 74 = .ok (.putfield 173, 3) := dk_181 0 173 (dk_at dksX4_rules_3 3 rfl rfl)
theorem dX4_rules_77 : decode cX4_rules 77 = .ok (.aload_n 1, 1) := dk_43 (dk_at dksX4_rules_3 6 rfl rfl)
theorem dX4_rules_78 : decode cX4_rules 78 = .ok (.aload_n 0, 1) := dk_42 (dk_at dksX4_rules_3 7 rfl rfl)
theorem dX4_rules_79 : decode cX4_rules 79 = .ok (.ldc 176, 2) := dk_18 176 (dk_at dksX4_rules_3 8 rfl rfl)
theorem dX4_rules_81 : decode cX4_rules 81 = .ok (.iconst 0, 1) := dk_3 (dk_at dksX4_rules_3 10 rfl rfl)
theorem dX4_rules_82 : decode cX4_rules 82 = .ok (.bipush 60, 2) := dk_16 60 (dk_at dksX4_rules_3 11 rfl rfl)
theorem dX4_rules_84 : decode cX4_rules 84 = .ok (.invokevirtual 153, 3) := dk_182 0 153 (dk_at dksX4_rules_3 13 rfl rfl)
theorem dX4_rules_87 : decode cX4_rules 87 = .ok (.putfield 178, 3) := dk_181 0 178 (dk_at dksX4_rules_3 16 rfl rfl)
theorem dX4_rules_90 : decode cX4_rules 90 = .ok (.aload_n 1, 1) := dk_43 (dk_at dksX4_rules_3 19 rfl rfl)
theorem dX4_rules_91 : decode cX4_rules 91 = .ok (.aload_n 0, 1) := dk_42 (dk_at dksX4_rules_3 20 rfl rfl)
theorem dX4_rules_92 : decode cX4_rules 92 = .ok (.ldc 180, 2) := dk_18 180 (dk_at dksX4_rules_3 21 rfl rfl)
theorem dX4_rules_94 : decode cX4_rules 94 = .ok (.iconst 0, 1) := dk_3 (dk_at dksX4_rules_3 23 rfl rfl)
theorem dX4_rules_95 : decode cX4_rules 95 = .ok (.sipush 999, 3) := dk_17 3 231 (dk_at dksX4_rules_4 0 rfl rfl)
theorem dX4_rules_98 : decode cX4_rules 98 = .ok (.invokevirtual 153, 3) := dk_182 0 153 (dk_at dksX4_rules_4 3 rfl rfl)
theorem dX4_rules_101 : decode cX4_rules 101 = .ok (.putfield 182, 3) := dk_181 0 182 (dk_at dksX4_rules_4 6 rfl rfl)
theorem dX4_rules_104 : decode cX4_rules 104 = .ok (.return_, 1) := dk_177 (dk_at dksX4_rules_4 9 rfl rfl)
abbrev cX4_take : ByteArray := prog_9_method_9_code
def yX4_take : MethodName := ⟨RX4, "take", "(Ljava/lang/String;)V"⟩
def dkwX4_take_0 : List UInt8 := [42, 42, 43, 182, 0, 120, 4, 182, 0, 124, 42, 182, 0, 128, 177]
abbrev dktX4_take_0 : List UInt8 := dkwX4_take_0 ++ []
theorem dksX4_take_0 : cX4_take.data.toList.drop 0 = dktX4_take_0 := by decide +kernel
theorem dX4_take_0 : decode cX4_take 0 = .ok (.aload_n 0, 1) := dk_42 (dk_at dksX4_take_0 0 rfl rfl)
theorem dX4_take_1 : decode cX4_take 1 = .ok (.aload_n 0, 1) := dk_42 (dk_at dksX4_take_0 1 rfl rfl)
theorem dX4_take_2 : decode cX4_take 2 = .ok (.aload_n 1, 1) := dk_43 (dk_at dksX4_take_0 2 rfl rfl)
theorem dX4_take_3 : decode cX4_take 3 = .ok (.invokevirtual 120, 3) := dk_182 0 120 (dk_at dksX4_take_0 3 rfl rfl)
theorem dX4_take_6 : decode cX4_take 6 = .ok (.iconst 1, 1) := dk_4 (dk_at dksX4_take_0 6 rfl rfl)
theorem dX4_take_7 : decode cX4_take 7 = .ok (.invokevirtual 124, 3) := dk_182 0 124 (dk_at dksX4_take_0 7 rfl rfl)
theorem dX4_take_10 : decode cX4_take 10 = .ok (.aload_n 0, 1) := dk_42 (dk_at dksX4_take_0 10 rfl rfl)
theorem dX4_take_11 : decode cX4_take 11 = .ok (.invokevirtual 128, 3) := dk_182 0 128 (dk_at dksX4_take_0 11 rfl rfl)
theorem dX4_take_14 : decode cX4_take 14 = .ok (.return_, 1) := dk_177 (dk_at dksX4_take_0 14 rfl rfl)
abbrev cX4_is : ByteArray := prog_9_method_8_code
def yX4_is : MethodName := ⟨RX4, "is", "(Ljava/lang/String;)Z"⟩
def dkwX4_is_1 : List UInt8 := [167, 0, 4, 3, 172]
abbrev dktX4_is_1 : List UInt8 := dkwX4_is_1 ++ []
def dkwX4_is_0 : List UInt8 := [42, 180, 0, 21, 178, 0, 90, 166, 0, 18, 42, 180, 0, 26, 43, 182, 0, 114, 153, 0, 7, 4]
abbrev dktX4_is_0 : List UInt8 := dkwX4_is_0 ++ dktX4_is_1
theorem dksX4_is_0 : cX4_is.data.toList.drop 0 = dktX4_is_0 := by decide +kernel
theorem dksX4_is_1 : cX4_is.data.toList.drop 22 = dktX4_is_1 := dk_seg dksX4_is_0 22 rfl rfl
theorem dX4_is_0 : decode cX4_is 0 = .ok (.aload_n 0, 1) := dk_42 (dk_at dksX4_is_0 0 rfl rfl)
theorem dX4_is_1 : decode cX4_is 1 = .ok (.getfield 21, 3) := dk_180 0 21 (dk_at dksX4_is_0 1 rfl rfl)
theorem dX4_is_4 : decode cX4_is 4 = .ok (.getstatic 90, 3) := dk_178 0 90 (dk_at dksX4_is_0 4 rfl rfl)
theorem dX4_is_7 : decode cX4_is 7 = .ok (.if_acmp .ne 18, 3) := dk_166 0 18 (dk_at dksX4_is_0 7 rfl rfl)
theorem dX4_is_10 : decode cX4_is 10 = .ok (.aload_n 0, 1) := dk_42 (dk_at dksX4_is_0 10 rfl rfl)
theorem dX4_is_11 : decode cX4_is 11 = .ok (.getfield 26, 3) := dk_180 0 26 (dk_at dksX4_is_0 11 rfl rfl)
theorem dX4_is_14 : decode cX4_is 14 = .ok (.aload_n 1, 1) := dk_43 (dk_at dksX4_is_0 14 rfl rfl)
theorem dX4_is_15 : decode cX4_is 15 = .ok (.invokevirtual 114, 3) := dk_182 0 114 (dk_at dksX4_is_0 15 rfl rfl)
theorem dX4_is_18 : decode cX4_is 18 = .ok (.ifCond .eq 7, 3) := dk_153 0 7 (dk_at dksX4_is_0 18 rfl rfl)
theorem dX4_is_21 : decode cX4_is 21 = .ok (.iconst 1, 1) := dk_4 (dk_at dksX4_is_0 21 rfl rfl)
theorem dX4_is_22 : decode cX4_is 22 = .ok (.goto 4, 3) := dk_167 0 4 (dk_at dksX4_is_1 0 rfl rfl)
theorem dX4_is_25 : decode cX4_is 25 = .ok (.iconst 0, 1) := dk_3 (dk_at dksX4_is_1 3 rfl rfl)
theorem dX4_is_26 : decode cX4_is 26 = .ok (.ireturn, 1) := dk_172 (dk_at dksX4_is_1 4 rfl rfl)
abbrev cX4_require : ByteArray := prog_9_method_7_code
def yX4_require : MethodName := ⟨RX4, "require", "(ZI)V"⟩
def dkwX4_require_0 : List UInt8 := [27, 154, 0, 16, 187, 0, 109, 89, 28, 42, 180, 0, 79, 183, 0, 111, 191, 177]
abbrev dktX4_require_0 : List UInt8 := dkwX4_require_0 ++ []
theorem dksX4_require_0 : cX4_require.data.toList.drop 0 = dktX4_require_0 := by decide +kernel
theorem dX4_require_0 : decode cX4_require 0 = .ok (.iload_n 1, 1) := dk_27 (dk_at dksX4_require_0 0 rfl rfl)
theorem dX4_require_1 : decode cX4_require 1 = .ok (.ifCond .ne 16, 3) := dk_154 0 16 (dk_at dksX4_require_0 1 rfl rfl)
theorem dX4_require_4 : decode cX4_require 4 = .ok (.new 109, 3) := dk_187 0 109 (dk_at dksX4_require_0 4 rfl rfl)
theorem dX4_require_7 : decode cX4_require 7 = .ok (.dup, 1) := dk_89 (dk_at dksX4_require_0 7 rfl rfl)
theorem dX4_require_8 : decode cX4_require 8 = .ok (.iload_n 2, 1) := dk_28 (dk_at dksX4_require_0 8 rfl rfl)
theorem dX4_require_9 : decode cX4_require 9 = .ok (.aload_n 0, 1) := dk_42 (dk_at dksX4_require_0 9 rfl rfl)
theorem dX4_require_10 : decode cX4_require 10 = .ok (.getfield 79, 3) := dk_180 0 79 (dk_at dksX4_require_0 10 rfl rfl)
theorem dX4_require_13 : decode cX4_require 13 = .ok (.invokespecial 111, 3) := dk_183 0 111 (dk_at dksX4_require_0 13 rfl rfl)
theorem dX4_require_16 : decode cX4_require 16 = .ok (.athrow, 1) := dk_191 (dk_at dksX4_require_0 16 rfl rfl)
theorem dX4_require_17 : decode cX4_require 17 = .ok (.return_, 1) := dk_177 (dk_at dksX4_require_0 17 rfl rfl)
abbrev cX4_measure : ByteArray := prog_9_method_12_code
def yX4_measure : MethodName := ⟨RX4, "measure", "(Ljava/lang/String;II)I"⟩
def dkwX4_measure_0 : List UInt8 := [42, 43, 182, 0, 135, 42, 28, 29, 182, 0, 139, 172]
abbrev dktX4_measure_0 : List UInt8 := dkwX4_measure_0 ++ []
theorem dksX4_measure_0 : cX4_measure.data.toList.drop 0 = dktX4_measure_0 := by decide +kernel
theorem dX4_measure_0 : decode cX4_measure 0 = .ok (.aload_n 0, 1) := dk_42 (dk_at dksX4_measure_0 0 rfl rfl)
theorem dX4_measure_1 : decode cX4_measure 1 = .ok (.aload_n 1, 1) := dk_43 (dk_at dksX4_measure_0 1 rfl rfl)
theorem dX4_measure_2 : decode cX4_measure 2 = .ok (.invokevirtual 135, 3) := dk_182 0 135 (dk_at dksX4_measure_0 2 rfl rfl)
theorem dX4_measure_5 : decode cX4_measure 5 = .ok (.aload_n 0, 1) := dk_42 (dk_at dksX4_measure_0 5 rfl rfl)
theorem dX4_measure_6 : decode cX4_measure 6 = .ok (.iload_n 2, 1) := dk_28 (dk_at dksX4_measure_0 6 rfl rfl)
theorem dX4_measure_7 : decode cX4_measure 7 = .ok (.iload_n 3, 1) := dk_29 (dk_at dksX4_measure_0 7 rfl rfl)
theorem dX4_measure_8 : decode cX4_measure 8 = .ok (.invokevirtual 139, 3) := dk_182 0 139 (dk_at dksX4_measure_0 8 rfl rfl)
theorem dX4_measure_11 : decode cX4_measure 11 = .ok (.ireturn, 1) := dk_172 (dk_at dksX4_measure_0 11 rfl rfl)
abbrev cX4_number : ByteArray := prog_9_method_11_code
def yX4_number : MethodName := ⟨RX4, "number", "(II)I"⟩
def dkwX4_number_0 : List UInt8 := [42, 27, 28, 182, 0, 131, 62, 42, 182, 0, 128, 29, 172]
abbrev dktX4_number_0 : List UInt8 := dkwX4_number_0 ++ []
theorem dksX4_number_0 : cX4_number.data.toList.drop 0 = dktX4_number_0 := by decide +kernel
theorem dX4_number_0 : decode cX4_number 0 = .ok (.aload_n 0, 1) := dk_42 (dk_at dksX4_number_0 0 rfl rfl)
theorem dX4_number_1 : decode cX4_number 1 = .ok (.iload_n 1, 1) := dk_27 (dk_at dksX4_number_0 1 rfl rfl)
theorem dX4_number_2 : decode cX4_number 2 = .ok (.iload_n 2, 1) := dk_28 (dk_at dksX4_number_0 2 rfl rfl)
theorem dX4_number_3 : decode cX4_number 3 = .ok (.invokevirtual 131, 3) := dk_182 0 131 (dk_at dksX4_number_0 3 rfl rfl)
theorem dX4_number_6 : decode cX4_number 6 = .ok (.istore_n 3, 1) := dk_62 (dk_at dksX4_number_0 6 rfl rfl)
theorem dX4_number_7 : decode cX4_number 7 = .ok (.aload_n 0, 1) := dk_42 (dk_at dksX4_number_0 7 rfl rfl)
theorem dX4_number_8 : decode cX4_number 8 = .ok (.invokevirtual 128, 3) := dk_182 0 128 (dk_at dksX4_number_0 8 rfl rfl)
theorem dX4_number_11 : decode cX4_number 11 = .ok (.iload_n 3, 1) := dk_29 (dk_at dksX4_number_0 11 rfl rfl)
theorem dX4_number_12 : decode cX4_number 12 = .ok (.ireturn, 1) := dk_172 (dk_at dksX4_number_0 12 rfl rfl)
abbrev cX4_look : ByteArray := prog_9_method_10_code
def yX4_look : MethodName := ⟨RX4, "look", "(II)I"⟩
def dkwX4_look_1 : List UInt8 := [180, 0, 96, 27, 28, 184, 0, 62, 5, 182, 0, 124, 42, 180, 0, 96, 172]
abbrev dktX4_look_1 : List UInt8 := dkwX4_look_1 ++ []
def dkwX4_look_0 : List UInt8 := [42, 42, 180, 0, 21, 178, 0, 99, 166, 0, 7, 4, 167, 0, 4, 3, 4, 182, 0, 124, 42, 42]
abbrev dktX4_look_0 : List UInt8 := dkwX4_look_0 ++ dktX4_look_1
theorem dksX4_look_0 : cX4_look.data.toList.drop 0 = dktX4_look_0 := by decide +kernel
theorem dksX4_look_1 : cX4_look.data.toList.drop 22 = dktX4_look_1 := dk_seg dksX4_look_0 22 rfl rfl
theorem dX4_look_0 : decode cX4_look 0 = .ok (.aload_n 0, 1) := dk_42 (dk_at dksX4_look_0 0 rfl rfl)
theorem dX4_look_1 : decode cX4_look 1 = .ok (.aload_n 0, 1) := dk_42 (dk_at dksX4_look_0 1 rfl rfl)
theorem dX4_look_2 : decode cX4_look 2 = .ok (.getfield 21, 3) := dk_180 0 21 (dk_at dksX4_look_0 2 rfl rfl)
theorem dX4_look_5 : decode cX4_look 5 = .ok (.getstatic 99, 3) := dk_178 0 99 (dk_at dksX4_look_0 5 rfl rfl)
theorem dX4_look_8 : decode cX4_look 8 = .ok (.if_acmp .ne 7, 3) := dk_166 0 7 (dk_at dksX4_look_0 8 rfl rfl)
theorem dX4_look_11 : decode cX4_look 11 = .ok (.iconst 1, 1) := dk_4 (dk_at dksX4_look_0 11 rfl rfl)
theorem dX4_look_12 : decode cX4_look 12 = .ok (.goto 4, 3) := dk_167 0 4 (dk_at dksX4_look_0 12 rfl rfl)
theorem dX4_look_15 : decode cX4_look 15 = .ok (.iconst 0, 1) := dk_3 (dk_at dksX4_look_0 15 rfl rfl)
theorem dX4_look_16 : decode cX4_look 16 = .ok (.iconst 1, 1) := dk_4 (dk_at dksX4_look_0 16 rfl rfl)
theorem dX4_look_17 : decode cX4_look 17 = .ok (.invokevirtual 124, 3) := dk_182 0 124 (dk_at dksX4_look_0 17 rfl rfl)
theorem dX4_look_20 : decode cX4_look 20 = .ok (.aload_n 0, 1) := dk_42 (dk_at dksX4_look_0 20 rfl rfl)
theorem dX4_look_21 : decode cX4_look 21 = .ok (.aload_n 0, 1) := dk_42 (dk_at dksX4_look_0 21 rfl rfl)
theorem dX4_look_22 : decode cX4_look 22 = .ok (.getfield 96, 3) := dk_180 0 96 (dk_at dksX4_look_1 0 rfl rfl)
theorem dX4_look_25 : decode cX4_look 25 = .ok (.iload_n 1, 1) := dk_27 (dk_at dksX4_look_1 3 rfl rfl)
theorem dX4_look_26 : decode cX4_look 26 = .ok (.iload_n 2, 1) := dk_28 (dk_at dksX4_look_1 4 rfl rfl)
theorem dX4_look_27 : decode cX4_look 27 = .ok (.invokestatic 62, 3) := dk_184 0 62 (dk_at dksX4_look_1 5 rfl rfl)
theorem dX4_look_30 : decode cX4_look 30 = .ok (.iconst 2, 1) := dk_5 (dk_at dksX4_look_1 8 rfl rfl)
theorem dX4_look_31 : decode cX4_look 31 = .ok (.invokevirtual 124, 3) := dk_182 0 124 (dk_at dksX4_look_1 9 rfl rfl)
theorem dX4_look_34 : decode cX4_look 34 = .ok (.aload_n 0, 1) := dk_42 (dk_at dksX4_look_1 12 rfl rfl)
theorem dX4_look_35 : decode cX4_look 35 = .ok (.getfield 96, 3) := dk_180 0 96 (dk_at dksX4_look_1 13 rfl rfl)
theorem dX4_look_38 : decode cX4_look 38 = .ok (.ireturn, 1) := dk_172 (dk_at dksX4_look_1 16 rfl rfl)
abbrev cX4_line : ByteArray := prog_9_method_20_code
def yX4_line : MethodName := ⟨RX4, "line", "()V"⟩
def dkwX4_line_7 : List UInt8 := [182, 0, 124, 177]
abbrev dktX4_line_7 : List UInt8 := dkwX4_line_7 ++ []
def dkwX4_line_6 : List UInt8 := [42, 182, 1, 12, 167, 0, 23, 42, 182, 1, 14, 167, 0, 16, 42, 182, 1, 16, 167, 0, 9, 42, 3, 4]
abbrev dktX4_line_6 : List UInt8 := dkwX4_line_6 ++ dktX4_line_7
def dkwX4_line_5 : List UInt8 := [170, 0, 0, 0, 46, 0, 0, 0, 0, 0, 0, 0, 2, 0, 0, 0, 25, 0, 0, 0, 32, 0, 0, 0, 39]
abbrev dktX4_line_5 : List UInt8 := dkwX4_line_5 ++ dktX4_line_6
def dkwX4_line_4 : List UInt8 := [153, 0, 20, 4, 61, 167, 0, 15, 43, 19, 1, 10, 182, 0, 114, 153, 0, 5, 5, 61, 28]
abbrev dktX4_line_4 : List UInt8 := dkwX4_line_4 ++ dktX4_line_5
def dkwX4_line_3 : List UInt8 := [43, 19, 1, 6, 182, 0, 114, 153, 0, 35, 3, 61, 167, 0, 30, 43, 19, 1, 8, 182, 0, 114]
abbrev dktX4_line_3 : List UInt8 := dkwX4_line_3 ++ dktX4_line_4
def dkwX4_line_2 : List UInt8 := [171, 0, 0, 0, 75, 0, 0, 0, 3, 0, 1, 199, 35, 0, 0, 0, 48, 0, 46, 122, 94, 0, 0, 0, 63, 6, 119, 250, 12, 0, 0, 0, 33]
abbrev dktX4_line_2 : List UInt8 := dkwX4_line_2 ++ dktX4_line_3
def dkwX4_line_1 : List UInt8 := [76, 2, 61, 43, 182, 1, 3]
abbrev dktX4_line_1 : List UInt8 := dkwX4_line_1 ++ dktX4_line_2
def dkwX4_line_0 : List UInt8 := [42, 42, 180, 0, 21, 178, 0, 90, 166, 0, 7, 4, 167, 0, 4, 3, 4, 182, 0, 124, 42, 180, 0, 26]
abbrev dktX4_line_0 : List UInt8 := dkwX4_line_0 ++ dktX4_line_1
theorem dksX4_line_0 : cX4_line.data.toList.drop 0 = dktX4_line_0 := by decide +kernel
theorem dksX4_line_1 : cX4_line.data.toList.drop 24 = dktX4_line_1 := dk_seg dksX4_line_0 24 rfl rfl
theorem dksX4_line_2 : cX4_line.data.toList.drop 31 = dktX4_line_2 := dk_seg dksX4_line_1 7 rfl rfl
theorem dksX4_line_3 : cX4_line.data.toList.drop 64 = dktX4_line_3 := dk_seg dksX4_line_2 33 rfl rfl
theorem dksX4_line_4 : cX4_line.data.toList.drop 86 = dktX4_line_4 := dk_seg dksX4_line_3 22 rfl rfl
theorem dksX4_line_5 : cX4_line.data.toList.drop 107 = dktX4_line_5 := dk_seg dksX4_line_4 21 rfl rfl
theorem dksX4_line_6 : cX4_line.data.toList.drop 132 = dktX4_line_6 := dk_seg dksX4_line_5 25 rfl rfl
theorem dksX4_line_7 : cX4_line.data.toList.drop 156 = dktX4_line_7 := dk_seg dksX4_line_6 24 rfl rfl
theorem dX4_line_0 : decode cX4_line 0 = .ok (.aload_n 0, 1) := dk_42 (dk_at dksX4_line_0 0 rfl rfl)
theorem dX4_line_1 : decode cX4_line 1 = .ok (.aload_n 0, 1) := dk_42 (dk_at dksX4_line_0 1 rfl rfl)
theorem dX4_line_2 : decode cX4_line 2 = .ok (.getfield 21, 3) := dk_180 0 21 (dk_at dksX4_line_0 2 rfl rfl)
theorem dX4_line_5 : decode cX4_line 5 = .ok (.getstatic 90, 3) := dk_178 0 90 (dk_at dksX4_line_0 5 rfl rfl)
theorem dX4_line_8 : decode cX4_line 8 = .ok (.if_acmp .ne 7, 3) := dk_166 0 7 (dk_at dksX4_line_0 8 rfl rfl)
theorem dX4_line_11 : decode cX4_line 11 = .ok (.iconst 1, 1) := dk_4 (dk_at dksX4_line_0 11 rfl rfl)
theorem dX4_line_12 : decode cX4_line 12 = .ok (.goto 4, 3) := dk_167 0 4 (dk_at dksX4_line_0 12 rfl rfl)
theorem dX4_line_15 : decode cX4_line 15 = .ok (.iconst 0, 1) := dk_3 (dk_at dksX4_line_0 15 rfl rfl)
theorem dX4_line_16 : decode cX4_line 16 = .ok (.iconst 1, 1) := dk_4 (dk_at dksX4_line_0 16 rfl rfl)
theorem dX4_line_17 : decode cX4_line 17 = .ok (.invokevirtual 124, 3) := dk_182 0 124 (dk_at dksX4_line_0 17 rfl rfl)
theorem dX4_line_20 : decode cX4_line 20 = .ok (.aload_n 0, 1) := dk_42 (dk_at dksX4_line_0 20 rfl rfl)
theorem dX4_line_21 : decode cX4_line 21 = .ok (.getfield 26, 3) := dk_180 0 26 (dk_at dksX4_line_0 21 rfl rfl)
theorem dX4_line_24 : decode cX4_line 24 = .ok (.astore_n 1, 1) := dk_76 (dk_at dksX4_line_1 0 rfl rfl)
theorem dX4_line_25 : decode cX4_line 25 = .ok (.iconst (-1), 1) := dk_2 (dk_at dksX4_line_1 1 rfl rfl)
theorem dX4_line_26 : decode cX4_line 26 = .ok (.istore_n 2, 1) := dk_61 (dk_at dksX4_line_1 2 rfl rfl)
theorem dX4_line_27 : decode cX4_line 27 = .ok (.aload_n 1, 1) := dk_43 (dk_at dksX4_line_1 3 rfl rfl)
theorem dX4_line_28 : decode cX4_line 28 = .ok (.invokevirtual 259, 3) := dk_182 1 3 (dk_at dksX4_line_1 4 rfl rfl)
theorem dX4_line_31 : decode cX4_line 31 = .ok (.lookupswitch 75 #[(116515, 48), (3045982, 63), (108526092, 33)], 33) := by decide +kernel
theorem dX4_line_64 : decode cX4_line 64 = .ok (.aload_n 1, 1) := dk_43 (dk_at dksX4_line_3 0 rfl rfl)
theorem dX4_line_65 : decode cX4_line 65 = .ok (.ldc_w 262, 3) := dk_19 1 6 (dk_at dksX4_line_3 1 rfl rfl)
theorem dX4_line_68 : decode cX4_line 68 = .ok (.invokevirtual 114, 3) := dk_182 0 114 (dk_at dksX4_line_3 4 rfl rfl)
theorem dX4_line_71 : decode cX4_line 71 = .ok (.ifCond .eq 35, 3) := dk_153 0 35 (dk_at dksX4_line_3 7 rfl rfl)
theorem dX4_line_74 : decode cX4_line 74 = .ok (.iconst 0, 1) := dk_3 (dk_at dksX4_line_3 10 rfl rfl)
theorem dX4_line_75 : decode cX4_line 75 = .ok (.istore_n 2, 1) := dk_61 (dk_at dksX4_line_3 11 rfl rfl)
theorem dX4_line_76 : decode cX4_line 76 = .ok (.goto 30, 3) := dk_167 0 30 (dk_at dksX4_line_3 12 rfl rfl)
theorem dX4_line_79 : decode cX4_line 79 = .ok (.aload_n 1, 1) := dk_43 (dk_at dksX4_line_3 15 rfl rfl)
theorem dX4_line_80 : decode cX4_line 80 = .ok (.ldc_w 264, 3) := dk_19 1 8 (dk_at dksX4_line_3 16 rfl rfl)
theorem dX4_line_83 : decode cX4_line 83 = .ok (.invokevirtual 114, 3) := dk_182 0 114 (dk_at dksX4_line_3 19 rfl rfl)
theorem dX4_line_86 : decode cX4_line 86 = .ok (.ifCond .eq 20, 3) := dk_153 0 20 (dk_at dksX4_line_4 0 rfl rfl)
theorem dX4_line_89 : decode cX4_line 89 = .ok (.iconst 1, 1) := dk_4 (dk_at dksX4_line_4 3 rfl rfl)
theorem dX4_line_90 : decode cX4_line 90 = .ok (.istore_n 2, 1) := dk_61 (dk_at dksX4_line_4 4 rfl rfl)
theorem dX4_line_91 : decode cX4_line 91 = .ok (.goto 15, 3) := dk_167 0 15 (dk_at dksX4_line_4 5 rfl rfl)
theorem dX4_line_94 : decode cX4_line 94 = .ok (.aload_n 1, 1) := dk_43 (dk_at dksX4_line_4 8 rfl rfl)
theorem dX4_line_95 : decode cX4_line 95 = .ok (.ldc_w 266, 3) := dk_19 1 10 (dk_at dksX4_line_4 9 rfl rfl)
theorem dX4_line_98 : decode cX4_line 98 = .ok (.invokevirtual 114, 3) := dk_182 0 114 (dk_at dksX4_line_4 12 rfl rfl)
theorem dX4_line_101 : decode cX4_line 101 = .ok (.ifCond .eq 5, 3) := dk_153 0 5 (dk_at dksX4_line_4 15 rfl rfl)
theorem dX4_line_104 : decode cX4_line 104 = .ok (.iconst 2, 1) := dk_5 (dk_at dksX4_line_4 18 rfl rfl)
theorem dX4_line_105 : decode cX4_line 105 = .ok (.istore_n 2, 1) := dk_61 (dk_at dksX4_line_4 19 rfl rfl)
theorem dX4_line_106 : decode cX4_line 106 = .ok (.iload_n 2, 1) := dk_28 (dk_at dksX4_line_4 20 rfl rfl)
theorem dX4_line_107 : decode cX4_line 107 = .ok (.tableswitch 46 0 2 #[25, 32, 39], 25) := by decide +kernel
theorem dX4_line_132 : decode cX4_line 132 = .ok (.aload_n 0, 1) := dk_42 (dk_at dksX4_line_6 0 rfl rfl)
theorem dX4_line_133 : decode cX4_line 133 = .ok (.invokevirtual 268, 3) := dk_182 1 12 (dk_at dksX4_line_6 1 rfl rfl)
theorem dX4_line_136 : decode cX4_line 136 = .ok (.goto 23, 3) := dk_167 0 23 (dk_at dksX4_line_6 4 rfl rfl)
theorem dX4_line_139 : decode cX4_line 139 = .ok (.aload_n 0, 1) := dk_42 (dk_at dksX4_line_6 7 rfl rfl)
theorem dX4_line_140 : decode cX4_line 140 = .ok (.invokevirtual 270, 3) := dk_182 1 14 (dk_at dksX4_line_6 8 rfl rfl)
theorem dX4_line_143 : decode cX4_line 143 = .ok (.goto 16, 3) := dk_167 0 16 (dk_at dksX4_line_6 11 rfl rfl)
theorem dX4_line_146 : decode cX4_line 146 = .ok (.aload_n 0, 1) := dk_42 (dk_at dksX4_line_6 14 rfl rfl)
theorem dX4_line_147 : decode cX4_line 147 = .ok (.invokevirtual 272, 3) := dk_182 1 16 (dk_at dksX4_line_6 15 rfl rfl)
theorem dX4_line_150 : decode cX4_line 150 = .ok (.goto 9, 3) := dk_167 0 9 (dk_at dksX4_line_6 18 rfl rfl)
theorem dX4_line_153 : decode cX4_line 153 = .ok (.aload_n 0, 1) := dk_42 (dk_at dksX4_line_6 21 rfl rfl)
theorem dX4_line_154 : decode cX4_line 154 = .ok (.iconst 0, 1) := dk_3 (dk_at dksX4_line_6 22 rfl rfl)
theorem dX4_line_155 : decode cX4_line 155 = .ok (.iconst 1, 1) := dk_4 (dk_at dksX4_line_6 23 rfl rfl)
theorem dX4_line_156 : decode cX4_line 156 = .ok (.invokevirtual 124, 3) := dk_182 0 124 (dk_at dksX4_line_7 0 rfl rfl)
theorem dX4_line_159 : decode cX4_line 159 = .ok (.return_, 1) := dk_177 (dk_at dksX4_line_7 3 rfl rfl)
abbrev cX4_river : ByteArray := prog_9_method_16_code
def yX4_river : MethodName := ⟨RX4, "river", "()V"⟩
def dkwX4_river_5 : List UInt8 := [182, 0, 139, 183, 0, 209, 185, 0, 210, 2, 0, 87, 177]
abbrev dktX4_river_5 : List UInt8 := dkwX4_river_5 ++ []
def dkwX4_river_4 : List UInt8 := [167, 255, 204, 42, 182, 0, 128, 42, 180, 0, 33, 180, 0, 184, 187, 0, 204, 89, 27, 42, 4, 16, 30]
abbrev dktX4_river_4 : List UInt8 := dkwX4_river_4 ++ dktX4_river_5
def dkwX4_river_3 : List UInt8 := [192, 0, 204, 180, 0, 206, 27, 159, 0, 7, 4, 167, 0, 4, 3, 6, 182, 0, 124, 132, 2, 1]
abbrev dktX4_river_3 : List UInt8 := dkwX4_river_3 ++ dktX4_river_4
def dkwX4_river_2 : List UInt8 := [185, 0, 187, 1, 0, 162, 0, 42, 42, 42, 180, 0, 33, 180, 0, 184, 28, 185, 0, 200, 2, 0]
abbrev dktX4_river_2 : List UInt8 := dkwX4_river_2 ++ dktX4_river_3
def dkwX4_river_1 : List UInt8 := [182, 0, 196, 42, 4, 16, 99, 182, 0, 131, 60, 3, 61, 28, 42, 180, 0, 33, 180, 0, 184]
abbrev dktX4_river_1 : List UInt8 := dkwX4_river_1 ++ dktX4_river_2
def dkwX4_river_0 : List UInt8 := [42, 42, 180, 0, 33, 180, 0, 184, 185, 0, 187, 1, 0, 6, 42, 180, 0, 42, 185, 0, 192, 1, 0]
abbrev dktX4_river_0 : List UInt8 := dkwX4_river_0 ++ dktX4_river_1
theorem dksX4_river_0 : cX4_river.data.toList.drop 0 = dktX4_river_0 := by decide +kernel
theorem dksX4_river_1 : cX4_river.data.toList.drop 23 = dktX4_river_1 := dk_seg dksX4_river_0 23 rfl rfl
theorem dksX4_river_2 : cX4_river.data.toList.drop 44 = dktX4_river_2 := dk_seg dksX4_river_1 21 rfl rfl
theorem dksX4_river_3 : cX4_river.data.toList.drop 66 = dktX4_river_3 := dk_seg dksX4_river_2 22 rfl rfl
theorem dksX4_river_4 : cX4_river.data.toList.drop 88 = dktX4_river_4 := dk_seg dksX4_river_3 22 rfl rfl
theorem dksX4_river_5 : cX4_river.data.toList.drop 111 = dktX4_river_5 := dk_seg dksX4_river_4 23 rfl rfl
theorem dX4_river_0 : decode cX4_river 0 = .ok (.aload_n 0, 1) := dk_42 (dk_at dksX4_river_0 0 rfl rfl)
theorem dX4_river_1 : decode cX4_river 1 = .ok (.aload_n 0, 1) := dk_42 (dk_at dksX4_river_0 1 rfl rfl)
theorem dX4_river_2 : decode cX4_river 2 = .ok (.getfield 33, 3) := dk_180 0 33 (dk_at dksX4_river_0 2 rfl rfl)
theorem dX4_river_5 : decode cX4_river 5 = .ok (.getfield 184, 3) := dk_180 0 184 (dk_at dksX4_river_0 5 rfl rfl)
theorem dX4_river_8 : decode cX4_river 8 = .ok (.invokeinterface 187 1, 5) := by decide +kernel
theorem dX4_river_13 : decode cX4_river 13 = .ok (.iconst 3, 1) := dk_6 (dk_at dksX4_river_0 13 rfl rfl)
theorem dX4_river_14 : decode cX4_river 14 = .ok (.aload_n 0, 1) := dk_42 (dk_at dksX4_river_0 14 rfl rfl)
theorem dX4_river_15 : decode cX4_river 15 = .ok (.getfield 42, 3) := dk_180 0 42 (dk_at dksX4_river_0 15 rfl rfl)
theorem dX4_river_18 : decode cX4_river 18 = .ok (.invokeinterface 192 1, 5) := by decide +kernel
theorem dX4_river_23 : decode cX4_river 23 = .ok (.invokevirtual 196, 3) := dk_182 0 196 (dk_at dksX4_river_1 0 rfl rfl)
theorem dX4_river_26 : decode cX4_river 26 = .ok (.aload_n 0, 1) := dk_42 (dk_at dksX4_river_1 3 rfl rfl)
theorem dX4_river_27 : decode cX4_river 27 = .ok (.iconst 1, 1) := dk_4 (dk_at dksX4_river_1 4 rfl rfl)
theorem dX4_river_28 : decode cX4_river 28 = .ok (.bipush 99, 2) := dk_16 99 (dk_at dksX4_river_1 5 rfl rfl)
theorem dX4_river_30 : decode cX4_river 30 = .ok (.invokevirtual 131, 3) := dk_182 0 131 (dk_at dksX4_river_1 7 rfl rfl)
theorem dX4_river_33 : decode cX4_river 33 = .ok (.istore_n 1, 1) := dk_60 (dk_at dksX4_river_1 10 rfl rfl)
theorem dX4_river_34 : decode cX4_river 34 = .ok (.iconst 0, 1) := dk_3 (dk_at dksX4_river_1 11 rfl rfl)
theorem dX4_river_35 : decode cX4_river 35 = .ok (.istore_n 2, 1) := dk_61 (dk_at dksX4_river_1 12 rfl rfl)
theorem dX4_river_36 : decode cX4_river 36 = .ok (.iload_n 2, 1) := dk_28 (dk_at dksX4_river_1 13 rfl rfl)
theorem dX4_river_37 : decode cX4_river 37 = .ok (.aload_n 0, 1) := dk_42 (dk_at dksX4_river_1 14 rfl rfl)
theorem dX4_river_38 : decode cX4_river 38 = .ok (.getfield 33, 3) := dk_180 0 33 (dk_at dksX4_river_1 15 rfl rfl)
theorem dX4_river_41 : decode cX4_river 41 = .ok (.getfield 184, 3) := dk_180 0 184 (dk_at dksX4_river_1 18 rfl rfl)
theorem dX4_river_44 : decode cX4_river 44 = .ok (.invokeinterface 187 1, 5) := by decide +kernel
theorem dX4_river_49 : decode cX4_river 49 = .ok (.if_icmp .ge 42, 3) := dk_162 0 42 (dk_at dksX4_river_2 5 rfl rfl)
theorem dX4_river_52 : decode cX4_river 52 = .ok (.aload_n 0, 1) := dk_42 (dk_at dksX4_river_2 8 rfl rfl)
theorem dX4_river_53 : decode cX4_river 53 = .ok (.aload_n 0, 1) := dk_42 (dk_at dksX4_river_2 9 rfl rfl)
theorem dX4_river_54 : decode cX4_river 54 = .ok (.getfield 33, 3) := dk_180 0 33 (dk_at dksX4_river_2 10 rfl rfl)
theorem dX4_river_57 : decode cX4_river 57 = .ok (.getfield 184, 3) := dk_180 0 184 (dk_at dksX4_river_2 13 rfl rfl)
theorem dX4_river_60 : decode cX4_river 60 = .ok (.iload_n 2, 1) := dk_28 (dk_at dksX4_river_2 16 rfl rfl)
theorem dX4_river_61 : decode cX4_river 61 = .ok (.invokeinterface 200 2, 5) := by decide +kernel
theorem dX4_river_66 : decode cX4_river 66 = .ok (.checkcast 204, 3) := dk_192 0 204 (dk_at dksX4_river_3 0 rfl rfl)
theorem dX4_river_69 : decode cX4_river 69 = .ok (.getfield 206, 3) := dk_180 0 206 (dk_at dksX4_river_3 3 rfl rfl)
theorem dX4_river_72 : decode cX4_river 72 = .ok (.iload_n 1, 1) := dk_27 (dk_at dksX4_river_3 6 rfl rfl)
theorem dX4_river_73 : decode cX4_river 73 = .ok (.if_icmp .eq 7, 3) := dk_159 0 7 (dk_at dksX4_river_3 7 rfl rfl)
theorem dX4_river_76 : decode cX4_river 76 = .ok (.iconst 1, 1) := dk_4 (dk_at dksX4_river_3 10 rfl rfl)
theorem dX4_river_77 : decode cX4_river 77 = .ok (.goto 4, 3) := dk_167 0 4 (dk_at dksX4_river_3 11 rfl rfl)
theorem dX4_river_80 : decode cX4_river 80 = .ok (.iconst 0, 1) := dk_3 (dk_at dksX4_river_3 14 rfl rfl)
theorem dX4_river_81 : decode cX4_river 81 = .ok (.iconst 3, 1) := dk_6 (dk_at dksX4_river_3 15 rfl rfl)
theorem dX4_river_82 : decode cX4_river 82 = .ok (.invokevirtual 124, 3) := dk_182 0 124 (dk_at dksX4_river_3 16 rfl rfl)
theorem dX4_river_85 : decode cX4_river 85 = .ok (.iinc 2 1, 3) := dk_132 2 1 (dk_at dksX4_river_3 19 rfl rfl)
theorem dX4_river_88 : decode cX4_river 88 = .ok (.goto (-52), 3) := dk_167 255 204 (dk_at dksX4_river_4 0 rfl rfl)
theorem dX4_river_91 : decode cX4_river 91 = .ok (.aload_n 0, 1) := dk_42 (dk_at dksX4_river_4 3 rfl rfl)
theorem dX4_river_92 : decode cX4_river 92 = .ok (.invokevirtual 128, 3) := dk_182 0 128 (dk_at dksX4_river_4 4 rfl rfl)
theorem dX4_river_95 : decode cX4_river 95 = .ok (.aload_n 0, 1) := dk_42 (dk_at dksX4_river_4 7 rfl rfl)
theorem dX4_river_96 : decode cX4_river 96 = .ok (.getfield 33, 3) := dk_180 0 33 (dk_at dksX4_river_4 8 rfl rfl)
theorem dX4_river_99 : decode cX4_river 99 = .ok (.getfield 184, 3) := dk_180 0 184 (dk_at dksX4_river_4 11 rfl rfl)
theorem dX4_river_102 : decode cX4_river 102 = .ok (.new 204, 3) := dk_187 0 204 (dk_at dksX4_river_4 14 rfl rfl)
theorem dX4_river_105 : decode cX4_river 105 = .ok (.dup, 1) := dk_89 (dk_at dksX4_river_4 17 rfl rfl)
theorem dX4_river_106 : decode cX4_river 106 = .ok (.iload_n 1, 1) := dk_27 (dk_at dksX4_river_4 18 rfl rfl)
theorem dX4_river_107 : decode cX4_river 107 = .ok (.aload_n 0, 1) := dk_42 (dk_at dksX4_river_4 19 rfl rfl)
theorem dX4_river_108 : decode cX4_river 108 = .ok (.iconst 1, 1) := dk_4 (dk_at dksX4_river_4 20 rfl rfl)
theorem dX4_river_109 : decode cX4_river 109 = .ok (.bipush 30, 2) := dk_16 30 (dk_at dksX4_river_4 21 rfl rfl)
theorem dX4_river_111 : decode cX4_river 111 = .ok (.invokevirtual 139, 3) := dk_182 0 139 (dk_at dksX4_river_5 0 rfl rfl)
theorem dX4_river_114 : decode cX4_river 114 = .ok (.invokespecial 209, 3) := dk_183 0 209 (dk_at dksX4_river_5 3 rfl rfl)
theorem dX4_river_117 : decode cX4_river 117 = .ok (.invokeinterface 210 2, 5) := by decide +kernel
theorem dX4_river_122 : decode cX4_river 122 = .ok (.pop, 1) := dk_87 (dk_at dksX4_river_5 11 rfl rfl)
theorem dX4_river_123 : decode cX4_river 123 = .ok (.return_, 1) := dk_177 (dk_at dksX4_river_5 12 rfl rfl)
abbrev cX4_begin : ByteArray := prog_9_method_15_code
def yX4_begin : MethodName := ⟨RX4, "begin", "(IIZ)V"⟩
def dkwX4_begin_1 : List UInt8 := [182, 0, 128, 177]
abbrev dktX4_begin_1 : List UInt8 := dkwX4_begin_1 ++ []
def dkwX4_begin_0 : List UInt8 := [42, 29, 7, 182, 0, 124, 42, 27, 28, 162, 0, 7, 4, 167, 0, 4, 3, 8, 182, 0, 124, 42]
abbrev dktX4_begin_0 : List UInt8 := dkwX4_begin_0 ++ dktX4_begin_1
theorem dksX4_begin_0 : cX4_begin.data.toList.drop 0 = dktX4_begin_0 := by decide +kernel
theorem dksX4_begin_1 : cX4_begin.data.toList.drop 22 = dktX4_begin_1 := dk_seg dksX4_begin_0 22 rfl rfl
theorem dX4_begin_0 : decode cX4_begin 0 = .ok (.aload_n 0, 1) := dk_42 (dk_at dksX4_begin_0 0 rfl rfl)
theorem dX4_begin_1 : decode cX4_begin 1 = .ok (.iload_n 3, 1) := dk_29 (dk_at dksX4_begin_0 1 rfl rfl)
theorem dX4_begin_2 : decode cX4_begin 2 = .ok (.iconst 4, 1) := dk_7 (dk_at dksX4_begin_0 2 rfl rfl)
theorem dX4_begin_3 : decode cX4_begin 3 = .ok (.invokevirtual 124, 3) := dk_182 0 124 (dk_at dksX4_begin_0 3 rfl rfl)
theorem dX4_begin_6 : decode cX4_begin 6 = .ok (.aload_n 0, 1) := dk_42 (dk_at dksX4_begin_0 6 rfl rfl)
theorem dX4_begin_7 : decode cX4_begin 7 = .ok (.iload_n 1, 1) := dk_27 (dk_at dksX4_begin_0 7 rfl rfl)
theorem dX4_begin_8 : decode cX4_begin 8 = .ok (.iload_n 2, 1) := dk_28 (dk_at dksX4_begin_0 8 rfl rfl)
theorem dX4_begin_9 : decode cX4_begin 9 = .ok (.if_icmp .ge 7, 3) := dk_162 0 7 (dk_at dksX4_begin_0 9 rfl rfl)
theorem dX4_begin_12 : decode cX4_begin 12 = .ok (.iconst 1, 1) := dk_4 (dk_at dksX4_begin_0 12 rfl rfl)
theorem dX4_begin_13 : decode cX4_begin 13 = .ok (.goto 4, 3) := dk_167 0 4 (dk_at dksX4_begin_0 13 rfl rfl)
theorem dX4_begin_16 : decode cX4_begin 16 = .ok (.iconst 0, 1) := dk_3 (dk_at dksX4_begin_0 16 rfl rfl)
theorem dX4_begin_17 : decode cX4_begin 17 = .ok (.iconst 5, 1) := dk_8 (dk_at dksX4_begin_0 17 rfl rfl)
theorem dX4_begin_18 : decode cX4_begin 18 = .ok (.invokevirtual 124, 3) := dk_182 0 124 (dk_at dksX4_begin_0 18 rfl rfl)
theorem dX4_begin_21 : decode cX4_begin 21 = .ok (.aload_n 0, 1) := dk_42 (dk_at dksX4_begin_0 21 rfl rfl)
theorem dX4_begin_22 : decode cX4_begin 22 = .ok (.invokevirtual 128, 3) := dk_182 0 128 (dk_at dksX4_begin_1 0 rfl rfl)
theorem dX4_begin_25 : decode cX4_begin 25 = .ok (.return_, 1) := dk_177 (dk_at dksX4_begin_1 3 rfl rfl)
abbrev cX4_van : ByteArray := prog_9_method_17_code
def yX4_van : MethodName := ⟨RX4, "van", "()V"⟩
def dkwX4_van_4 : List UInt8 := [185, 0, 210, 2, 0, 87, 177]
abbrev dktX4_van_4 : List UInt8 := dkwX4_van_4 ++ []
def dkwX4_van_3 : List UInt8 := [187, 0, 225, 89, 43, 28, 29, 21, 4, 42, 18, 227, 21, 4, 17, 5, 160, 182, 0, 153, 183, 0, 229]
abbrev dktX4_van_3 : List UInt8 := dkwX4_van_3 ++ dktX4_van_4
def dkwX4_van_2 : List UInt8 := [182, 0, 153, 62, 42, 18, 224, 3, 17, 5, 160, 182, 0, 153, 54, 4, 42, 180, 0, 33, 180, 0, 213]
abbrev dktX4_van_2 : List UInt8 := dkwX4_van_2 ++ dktX4_van_3
def dkwX4_van_1 : List UInt8 := [182, 0, 196, 42, 182, 0, 216, 76, 42, 18, 220, 3, 16, 8, 182, 0, 153, 61, 42, 18, 222, 3, 6]
abbrev dktX4_van_1 : List UInt8 := dkwX4_van_1 ++ dktX4_van_2
def dkwX4_van_0 : List UInt8 := [42, 42, 180, 0, 33, 180, 0, 213, 185, 0, 187, 1, 0, 7, 42, 180, 0, 42, 185, 0, 192, 1, 0]
abbrev dktX4_van_0 : List UInt8 := dkwX4_van_0 ++ dktX4_van_1
theorem dksX4_van_0 : cX4_van.data.toList.drop 0 = dktX4_van_0 := by decide +kernel
theorem dksX4_van_1 : cX4_van.data.toList.drop 23 = dktX4_van_1 := dk_seg dksX4_van_0 23 rfl rfl
theorem dksX4_van_2 : cX4_van.data.toList.drop 46 = dktX4_van_2 := dk_seg dksX4_van_1 23 rfl rfl
theorem dksX4_van_3 : cX4_van.data.toList.drop 69 = dktX4_van_3 := dk_seg dksX4_van_2 23 rfl rfl
theorem dksX4_van_4 : cX4_van.data.toList.drop 92 = dktX4_van_4 := dk_seg dksX4_van_3 23 rfl rfl
theorem dX4_van_0 : decode cX4_van 0 = .ok (.aload_n 0, 1) := dk_42 (dk_at dksX4_van_0 0 rfl rfl)
theorem dX4_van_1 : decode cX4_van 1 = .ok (.aload_n 0, 1) := dk_42 (dk_at dksX4_van_0 1 rfl rfl)
theorem dX4_van_2 : decode cX4_van 2 = .ok (.getfield 33, 3) := dk_180 0 33 (dk_at dksX4_van_0 2 rfl rfl)
theorem dX4_van_5 : decode cX4_van 5 = .ok (.getfield 213, 3) := dk_180 0 213 (dk_at dksX4_van_0 5 rfl rfl)
theorem dX4_van_8 : decode cX4_van 8 = .ok (.invokeinterface 187 1, 5) := by decide +kernel
theorem dX4_van_13 : decode cX4_van 13 = .ok (.iconst 4, 1) := dk_7 (dk_at dksX4_van_0 13 rfl rfl)
theorem dX4_van_14 : decode cX4_van 14 = .ok (.aload_n 0, 1) := dk_42 (dk_at dksX4_van_0 14 rfl rfl)
theorem dX4_van_15 : decode cX4_van 15 = .ok (.getfield 42, 3) := dk_180 0 42 (dk_at dksX4_van_0 15 rfl rfl)
theorem dX4_van_18 : decode cX4_van 18 = .ok (.invokeinterface 192 1, 5) := by decide +kernel
theorem dX4_van_23 : decode cX4_van 23 = .ok (.invokevirtual 196, 3) := dk_182 0 196 (dk_at dksX4_van_1 0 rfl rfl)
theorem dX4_van_26 : decode cX4_van 26 = .ok (.aload_n 0, 1) := dk_42 (dk_at dksX4_van_1 3 rfl rfl)
theorem dX4_van_27 : decode cX4_van 27 = .ok (.invokevirtual 216, 3) := dk_182 0 216 (dk_at dksX4_van_1 4 rfl rfl)
theorem dX4_van_30 : decode cX4_van 30 = .ok (.astore_n 1, 1) := dk_76 (dk_at dksX4_van_1 7 rfl rfl)
theorem dX4_van_31 : decode cX4_van 31 = .ok (.aload_n 0, 1) := dk_42 (dk_at dksX4_van_1 8 rfl rfl)
theorem dX4_van_32 : decode cX4_van 32 = .ok (.ldc 220, 2) := dk_18 220 (dk_at dksX4_van_1 9 rfl rfl)
theorem dX4_van_34 : decode cX4_van 34 = .ok (.iconst 0, 1) := dk_3 (dk_at dksX4_van_1 11 rfl rfl)
theorem dX4_van_35 : decode cX4_van 35 = .ok (.bipush 8, 2) := dk_16 8 (dk_at dksX4_van_1 12 rfl rfl)
theorem dX4_van_37 : decode cX4_van 37 = .ok (.invokevirtual 153, 3) := dk_182 0 153 (dk_at dksX4_van_1 14 rfl rfl)
theorem dX4_van_40 : decode cX4_van 40 = .ok (.istore_n 2, 1) := dk_61 (dk_at dksX4_van_1 17 rfl rfl)
theorem dX4_van_41 : decode cX4_van 41 = .ok (.aload_n 0, 1) := dk_42 (dk_at dksX4_van_1 18 rfl rfl)
theorem dX4_van_42 : decode cX4_van 42 = .ok (.ldc 222, 2) := dk_18 222 (dk_at dksX4_van_1 19 rfl rfl)
theorem dX4_van_44 : decode cX4_van 44 = .ok (.iconst 0, 1) := dk_3 (dk_at dksX4_van_1 21 rfl rfl)
theorem dX4_van_45 : decode cX4_van 45 = .ok (.iconst 3, 1) := dk_6 (dk_at dksX4_van_1 22 rfl rfl)
theorem dX4_van_46 : decode cX4_van 46 = .ok (.invokevirtual 153, 3) := dk_182 0 153 (dk_at dksX4_van_2 0 rfl rfl)
theorem dX4_van_49 : decode cX4_van 49 = .ok (.istore_n 3, 1) := dk_62 (dk_at dksX4_van_2 3 rfl rfl)
theorem dX4_van_50 : decode cX4_van 50 = .ok (.aload_n 0, 1) := dk_42 (dk_at dksX4_van_2 4 rfl rfl)
theorem dX4_van_51 : decode cX4_van 51 = .ok (.ldc 224, 2) := dk_18 224 (dk_at dksX4_van_2 5 rfl rfl)
theorem dX4_van_53 : decode cX4_van 53 = .ok (.iconst 0, 1) := dk_3 (dk_at dksX4_van_2 7 rfl rfl)
theorem dX4_van_54 : decode cX4_van 54 = .ok (.sipush 1440, 3) := dk_17 5 160 (dk_at dksX4_van_2 8 rfl rfl)
theorem dX4_van_57 : decode cX4_van 57 = .ok (.invokevirtual 153, 3) := dk_182 0 153 (dk_at dksX4_van_2 11 rfl rfl)
theorem dX4_van_60 : decode cX4_van 60 = .ok (.istore 4, 2) := dk_54 4 (dk_at dksX4_van_2 14 rfl rfl)
theorem dX4_van_62 : decode cX4_van 62 = .ok (.aload_n 0, 1) := dk_42 (dk_at dksX4_van_2 16 rfl rfl)
theorem dX4_van_63 : decode cX4_van 63 = .ok (.getfield 33, 3) := dk_180 0 33 (dk_at dksX4_van_2 17 rfl rfl)
theorem dX4_van_66 : decode cX4_van 66 = .ok (.getfield 213, 3) := dk_180 0 213 (dk_at dksX4_van_2 20 rfl rfl)
theorem dX4_van_69 : decode cX4_van 69 = .ok (.new 225, 3) := dk_187 0 225 (dk_at dksX4_van_3 0 rfl rfl)
theorem dX4_van_72 : decode cX4_van 72 = .ok (.dup, 1) := dk_89 (dk_at dksX4_van_3 3 rfl rfl)
theorem dX4_van_73 : decode cX4_van 73 = .ok (.aload_n 1, 1) := dk_43 (dk_at dksX4_van_3 4 rfl rfl)
theorem dX4_van_74 : decode cX4_van 74 = .ok (.iload_n 2, 1) := dk_28 (dk_at dksX4_van_3 5 rfl rfl)
theorem dX4_van_75 : decode cX4_van 75 = .ok (.iload_n 3, 1) := dk_29 (dk_at dksX4_van_3 6 rfl rfl)
theorem dX4_van_76 : decode cX4_van 76 = .ok (.iload 4, 2) := dk_21 4 (dk_at dksX4_van_3 7 rfl rfl)
theorem dX4_van_78 : decode cX4_van 78 = .ok (.aload_n 0, 1) := dk_42 (dk_at dksX4_van_3 9 rfl rfl)
theorem dX4_van_79 : decode cX4_van 79 = .ok (.ldc 227, 2) := dk_18 227 (dk_at dksX4_van_3 10 rfl rfl)
theorem dX4_van_81 : decode cX4_van 81 = .ok (.iload 4, 2) := dk_21 4 (dk_at dksX4_van_3 12 rfl rfl)
theorem dX4_van_83 : decode cX4_van 83 = .ok (.sipush 1440, 3) := dk_17 5 160 (dk_at dksX4_van_3 14 rfl rfl)
theorem dX4_van_86 : decode cX4_van 86 = .ok (.invokevirtual 153, 3) := dk_182 0 153 (dk_at dksX4_van_3 17 rfl rfl)
theorem dX4_van_89 : decode cX4_van 89 = .ok (.invokespecial 229, 3) := dk_183 0 229 (dk_at dksX4_van_3 20 rfl rfl)
theorem dX4_van_92 : decode cX4_van 92 = .ok (.invokeinterface 210 2, 5) := by decide +kernel
theorem dX4_van_97 : decode cX4_van 97 = .ok (.pop, 1) := dk_87 (dk_at dksX4_van_4 5 rfl rfl)
theorem dX4_van_98 : decode cX4_van 98 = .ok (.return_, 1) := dk_177 (dk_at dksX4_van_4 6 rfl rfl)
abbrev cX4_spot : ByteArray := prog_9_method_13_code
def yX4_spot : MethodName := ⟨RX4, "spot", "()LRideDesk$Spot;"⟩
def dkwX4_spot_0 : List UInt8 := [42, 3, 16, 99, 182, 0, 139, 60, 187, 0, 142, 89, 27, 42, 3, 16, 99, 182, 0, 139, 183, 0, 144, 176]
abbrev dktX4_spot_0 : List UInt8 := dkwX4_spot_0 ++ []
theorem dksX4_spot_0 : cX4_spot.data.toList.drop 0 = dktX4_spot_0 := by decide +kernel
theorem dX4_spot_0 : decode cX4_spot 0 = .ok (.aload_n 0, 1) := dk_42 (dk_at dksX4_spot_0 0 rfl rfl)
theorem dX4_spot_1 : decode cX4_spot 1 = .ok (.iconst 0, 1) := dk_3 (dk_at dksX4_spot_0 1 rfl rfl)
theorem dX4_spot_2 : decode cX4_spot 2 = .ok (.bipush 99, 2) := dk_16 99 (dk_at dksX4_spot_0 2 rfl rfl)
theorem dX4_spot_4 : decode cX4_spot 4 = .ok (.invokevirtual 139, 3) := dk_182 0 139 (dk_at dksX4_spot_0 4 rfl rfl)
theorem dX4_spot_7 : decode cX4_spot 7 = .ok (.istore_n 1, 1) := dk_60 (dk_at dksX4_spot_0 7 rfl rfl)
theorem dX4_spot_8 : decode cX4_spot 8 = .ok (.new 142, 3) := dk_187 0 142 (dk_at dksX4_spot_0 8 rfl rfl)
theorem dX4_spot_11 : decode cX4_spot 11 = .ok (.dup, 1) := dk_89 (dk_at dksX4_spot_0 11 rfl rfl)
theorem dX4_spot_12 : decode cX4_spot 12 = .ok (.iload_n 1, 1) := dk_27 (dk_at dksX4_spot_0 12 rfl rfl)
theorem dX4_spot_13 : decode cX4_spot 13 = .ok (.aload_n 0, 1) := dk_42 (dk_at dksX4_spot_0 13 rfl rfl)
theorem dX4_spot_14 : decode cX4_spot 14 = .ok (.iconst 0, 1) := dk_3 (dk_at dksX4_spot_0 14 rfl rfl)
theorem dX4_spot_15 : decode cX4_spot 15 = .ok (.bipush 99, 2) := dk_16 99 (dk_at dksX4_spot_0 15 rfl rfl)
theorem dX4_spot_17 : decode cX4_spot 17 = .ok (.invokevirtual 139, 3) := dk_182 0 139 (dk_at dksX4_spot_0 17 rfl rfl)
theorem dX4_spot_20 : decode cX4_spot 20 = .ok (.invokespecial 144, 3) := dk_183 0 144 (dk_at dksX4_spot_0 20 rfl rfl)
theorem dX4_spot_23 : decode cX4_spot 23 = .ok (.areturn, 1) := dk_176 (dk_at dksX4_spot_0 23 rfl rfl)
abbrev cX4_call : ByteArray := prog_9_method_19_code
def yX4_call : MethodName := ⟨RX4, "call", "()V"⟩
def dkwX4_call_3 : List UInt8 := [183, 1, 0, 185, 0, 210, 2, 0, 87, 177]
abbrev dktX4_call_3 : List UInt8 := dkwX4_call_3 ++ []
def dkwX4_call_2 : List UInt8 := [17, 5, 160, 182, 0, 139, 79, 42, 180, 0, 42, 187, 0, 254, 89, 43, 44, 45, 42, 180, 0, 33]
abbrev dktX4_call_2 : List UInt8 := dkwX4_call_2 ++ dktX4_call_3
def dkwX4_call_1 : List UInt8 := [182, 0, 216, 77, 42, 182, 0, 250, 78, 42, 180, 0, 46, 42, 180, 0, 42, 185, 0, 187, 1, 0, 42, 3]
abbrev dktX4_call_1 : List UInt8 := dkwX4_call_1 ++ dktX4_call_2
def dkwX4_call_0 : List UInt8 := [42, 42, 180, 0, 42, 185, 0, 187, 1, 0, 16, 24, 4, 182, 0, 196, 42, 182, 0, 216, 76, 42]
abbrev dktX4_call_0 : List UInt8 := dkwX4_call_0 ++ dktX4_call_1
theorem dksX4_call_0 : cX4_call.data.toList.drop 0 = dktX4_call_0 := by decide +kernel
theorem dksX4_call_1 : cX4_call.data.toList.drop 22 = dktX4_call_1 := dk_seg dksX4_call_0 22 rfl rfl
theorem dksX4_call_2 : cX4_call.data.toList.drop 46 = dktX4_call_2 := dk_seg dksX4_call_1 24 rfl rfl
theorem dksX4_call_3 : cX4_call.data.toList.drop 68 = dktX4_call_3 := dk_seg dksX4_call_2 22 rfl rfl
theorem dX4_call_0 : decode cX4_call 0 = .ok (.aload_n 0, 1) := dk_42 (dk_at dksX4_call_0 0 rfl rfl)
theorem dX4_call_1 : decode cX4_call 1 = .ok (.aload_n 0, 1) := dk_42 (dk_at dksX4_call_0 1 rfl rfl)
theorem dX4_call_2 : decode cX4_call 2 = .ok (.getfield 42, 3) := dk_180 0 42 (dk_at dksX4_call_0 2 rfl rfl)
theorem dX4_call_5 : decode cX4_call 5 = .ok (.invokeinterface 187 1, 5) := by decide +kernel
theorem dX4_call_10 : decode cX4_call 10 = .ok (.bipush 24, 2) := dk_16 24 (dk_at dksX4_call_0 10 rfl rfl)
theorem dX4_call_12 : decode cX4_call 12 = .ok (.iconst 1, 1) := dk_4 (dk_at dksX4_call_0 12 rfl rfl)
theorem dX4_call_13 : decode cX4_call 13 = .ok (.invokevirtual 196, 3) := dk_182 0 196 (dk_at dksX4_call_0 13 rfl rfl)
theorem dX4_call_16 : decode cX4_call 16 = .ok (.aload_n 0, 1) := dk_42 (dk_at dksX4_call_0 16 rfl rfl)
theorem dX4_call_17 : decode cX4_call 17 = .ok (.invokevirtual 216, 3) := dk_182 0 216 (dk_at dksX4_call_0 17 rfl rfl)
theorem dX4_call_20 : decode cX4_call 20 = .ok (.astore_n 1, 1) := dk_76 (dk_at dksX4_call_0 20 rfl rfl)
theorem dX4_call_21 : decode cX4_call 21 = .ok (.aload_n 0, 1) := dk_42 (dk_at dksX4_call_0 21 rfl rfl)
theorem dX4_call_22 : decode cX4_call 22 = .ok (.invokevirtual 216, 3) := dk_182 0 216 (dk_at dksX4_call_1 0 rfl rfl)
theorem dX4_call_25 : decode cX4_call 25 = .ok (.astore_n 2, 1) := dk_77 (dk_at dksX4_call_1 3 rfl rfl)
theorem dX4_call_26 : decode cX4_call 26 = .ok (.aload_n 0, 1) := dk_42 (dk_at dksX4_call_1 4 rfl rfl)
theorem dX4_call_27 : decode cX4_call 27 = .ok (.invokevirtual 250, 3) := dk_182 0 250 (dk_at dksX4_call_1 5 rfl rfl)
theorem dX4_call_30 : decode cX4_call 30 = .ok (.astore_n 3, 1) := dk_78 (dk_at dksX4_call_1 8 rfl rfl)
theorem dX4_call_31 : decode cX4_call 31 = .ok (.aload_n 0, 1) := dk_42 (dk_at dksX4_call_1 9 rfl rfl)
theorem dX4_call_32 : decode cX4_call 32 = .ok (.getfield 46, 3) := dk_180 0 46 (dk_at dksX4_call_1 10 rfl rfl)
theorem dX4_call_35 : decode cX4_call 35 = .ok (.aload_n 0, 1) := dk_42 (dk_at dksX4_call_1 13 rfl rfl)
theorem dX4_call_36 : decode cX4_call 36 = .ok (.getfield 42, 3) := dk_180 0 42 (dk_at dksX4_call_1 14 rfl rfl)
theorem dX4_call_39 : decode cX4_call 39 = .ok (.invokeinterface 187 1, 5) := by decide +kernel
theorem dX4_call_44 : decode cX4_call 44 = .ok (.aload_n 0, 1) := dk_42 (dk_at dksX4_call_1 22 rfl rfl)
theorem dX4_call_45 : decode cX4_call 45 = .ok (.iconst 0, 1) := dk_3 (dk_at dksX4_call_1 23 rfl rfl)
theorem dX4_call_46 : decode cX4_call 46 = .ok (.sipush 1440, 3) := dk_17 5 160 (dk_at dksX4_call_2 0 rfl rfl)
theorem dX4_call_49 : decode cX4_call 49 = .ok (.invokevirtual 139, 3) := dk_182 0 139 (dk_at dksX4_call_2 3 rfl rfl)
theorem dX4_call_52 : decode cX4_call 52 = .ok (.iastore, 1) := dk_79 (dk_at dksX4_call_2 6 rfl rfl)
theorem dX4_call_53 : decode cX4_call 53 = .ok (.aload_n 0, 1) := dk_42 (dk_at dksX4_call_2 7 rfl rfl)
theorem dX4_call_54 : decode cX4_call 54 = .ok (.getfield 42, 3) := dk_180 0 42 (dk_at dksX4_call_2 8 rfl rfl)
theorem dX4_call_57 : decode cX4_call 57 = .ok (.new 254, 3) := dk_187 0 254 (dk_at dksX4_call_2 11 rfl rfl)
theorem dX4_call_60 : decode cX4_call 60 = .ok (.dup, 1) := dk_89 (dk_at dksX4_call_2 14 rfl rfl)
theorem dX4_call_61 : decode cX4_call 61 = .ok (.aload_n 1, 1) := dk_43 (dk_at dksX4_call_2 15 rfl rfl)
theorem dX4_call_62 : decode cX4_call 62 = .ok (.aload_n 2, 1) := dk_44 (dk_at dksX4_call_2 16 rfl rfl)
theorem dX4_call_63 : decode cX4_call 63 = .ok (.aload_n 3, 1) := dk_45 (dk_at dksX4_call_2 17 rfl rfl)
theorem dX4_call_64 : decode cX4_call 64 = .ok (.aload_n 0, 1) := dk_42 (dk_at dksX4_call_2 18 rfl rfl)
theorem dX4_call_65 : decode cX4_call 65 = .ok (.getfield 33, 3) := dk_180 0 33 (dk_at dksX4_call_2 19 rfl rfl)
theorem dX4_call_68 : decode cX4_call 68 = .ok (.invokespecial 256, 3) := dk_183 1 0 (dk_at dksX4_call_3 0 rfl rfl)
theorem dX4_call_71 : decode cX4_call 71 = .ok (.invokeinterface 210 2, 5) := by decide +kernel
theorem dX4_call_76 : decode cX4_call 76 = .ok (.pop, 1) := dk_87 (dk_at dksX4_call_3 8 rfl rfl)
theorem dX4_call_77 : decode cX4_call 77 = .ok (.return_, 1) := dk_177 (dk_at dksX4_call_3 9 rfl rfl)
abbrev cX4_kind : ByteArray := prog_9_method_18_code
def yX4_kind : MethodName := ⟨RX4, "kind", "()LRideDesk$Kind;"⟩
def dkwX4_kind_3 : List UInt8 := [76, 42, 182, 0, 128, 43, 176]
abbrev dktX4_kind_3 : List UInt8 := dkwX4_kind_3 ++ []
def dkwX4_kind_2 : List UInt8 := [178, 0, 238, 167, 0, 21, 42, 18, 234, 182, 0, 120, 153, 0, 9, 178, 0, 244, 167, 0, 6, 178, 0, 247]
abbrev dktX4_kind_2 : List UInt8 := dkwX4_kind_2 ++ dktX4_kind_3
def dkwX4_kind_1 : List UInt8 := [182, 0, 120, 153, 0, 7, 4, 167, 0, 4, 3, 4, 182, 0, 124, 42, 18, 232, 182, 0, 120, 153, 0, 9]
abbrev dktX4_kind_1 : List UInt8 := dkwX4_kind_1 ++ dktX4_kind_2
def dkwX4_kind_0 : List UInt8 := [42, 42, 18, 232, 182, 0, 120, 154, 0, 21, 42, 18, 234, 182, 0, 120, 154, 0, 12, 42, 18, 236]
abbrev dktX4_kind_0 : List UInt8 := dkwX4_kind_0 ++ dktX4_kind_1
theorem dksX4_kind_0 : cX4_kind.data.toList.drop 0 = dktX4_kind_0 := by decide +kernel
theorem dksX4_kind_1 : cX4_kind.data.toList.drop 22 = dktX4_kind_1 := dk_seg dksX4_kind_0 22 rfl rfl
theorem dksX4_kind_2 : cX4_kind.data.toList.drop 46 = dktX4_kind_2 := dk_seg dksX4_kind_1 24 rfl rfl
theorem dksX4_kind_3 : cX4_kind.data.toList.drop 70 = dktX4_kind_3 := dk_seg dksX4_kind_2 24 rfl rfl
theorem dX4_kind_0 : decode cX4_kind 0 = .ok (.aload_n 0, 1) := dk_42 (dk_at dksX4_kind_0 0 rfl rfl)
theorem dX4_kind_1 : decode cX4_kind 1 = .ok (.aload_n 0, 1) := dk_42 (dk_at dksX4_kind_0 1 rfl rfl)
theorem dX4_kind_2 : decode cX4_kind 2 = .ok (.ldc 232, 2) := dk_18 232 (dk_at dksX4_kind_0 2 rfl rfl)
theorem dX4_kind_4 : decode cX4_kind 4 = .ok (.invokevirtual 120, 3) := dk_182 0 120 (dk_at dksX4_kind_0 4 rfl rfl)
theorem dX4_kind_7 : decode cX4_kind 7 = .ok (.ifCond .ne 21, 3) := dk_154 0 21 (dk_at dksX4_kind_0 7 rfl rfl)
theorem dX4_kind_10 : decode cX4_kind 10 = .ok (.aload_n 0, 1) := dk_42 (dk_at dksX4_kind_0 10 rfl rfl)
theorem dX4_kind_11 : decode cX4_kind 11 = .ok (.ldc 234, 2) := dk_18 234 (dk_at dksX4_kind_0 11 rfl rfl)
theorem dX4_kind_13 : decode cX4_kind 13 = .ok (.invokevirtual 120, 3) := dk_182 0 120 (dk_at dksX4_kind_0 13 rfl rfl)
theorem dX4_kind_16 : decode cX4_kind 16 = .ok (.ifCond .ne 12, 3) := dk_154 0 12 (dk_at dksX4_kind_0 16 rfl rfl)
theorem dX4_kind_19 : decode cX4_kind 19 = .ok (.aload_n 0, 1) := dk_42 (dk_at dksX4_kind_0 19 rfl rfl)
theorem dX4_kind_20 : decode cX4_kind 20 = .ok (.ldc 236, 2) := dk_18 236 (dk_at dksX4_kind_0 20 rfl rfl)
theorem dX4_kind_22 : decode cX4_kind 22 = .ok (.invokevirtual 120, 3) := dk_182 0 120 (dk_at dksX4_kind_1 0 rfl rfl)
theorem dX4_kind_25 : decode cX4_kind 25 = .ok (.ifCond .eq 7, 3) := dk_153 0 7 (dk_at dksX4_kind_1 3 rfl rfl)
theorem dX4_kind_28 : decode cX4_kind 28 = .ok (.iconst 1, 1) := dk_4 (dk_at dksX4_kind_1 6 rfl rfl)
theorem dX4_kind_29 : decode cX4_kind 29 = .ok (.goto 4, 3) := dk_167 0 4 (dk_at dksX4_kind_1 7 rfl rfl)
theorem dX4_kind_32 : decode cX4_kind 32 = .ok (.iconst 0, 1) := dk_3 (dk_at dksX4_kind_1 10 rfl rfl)
theorem dX4_kind_33 : decode cX4_kind 33 = .ok (.iconst 1, 1) := dk_4 (dk_at dksX4_kind_1 11 rfl rfl)
theorem dX4_kind_34 : decode cX4_kind 34 = .ok (.invokevirtual 124, 3) := dk_182 0 124 (dk_at dksX4_kind_1 12 rfl rfl)
theorem dX4_kind_37 : decode cX4_kind 37 = .ok (.aload_n 0, 1) := dk_42 (dk_at dksX4_kind_1 15 rfl rfl)
theorem dX4_kind_38 : decode cX4_kind 38 = .ok (.ldc 232, 2) := dk_18 232 (dk_at dksX4_kind_1 16 rfl rfl)
theorem dX4_kind_40 : decode cX4_kind 40 = .ok (.invokevirtual 120, 3) := dk_182 0 120 (dk_at dksX4_kind_1 18 rfl rfl)
theorem dX4_kind_43 : decode cX4_kind 43 = .ok (.ifCond .eq 9, 3) := dk_153 0 9 (dk_at dksX4_kind_1 21 rfl rfl)
theorem dX4_kind_46 : decode cX4_kind 46 = .ok (.getstatic 238, 3) := dk_178 0 238 (dk_at dksX4_kind_2 0 rfl rfl)
theorem dX4_kind_49 : decode cX4_kind 49 = .ok (.goto 21, 3) := dk_167 0 21 (dk_at dksX4_kind_2 3 rfl rfl)
theorem dX4_kind_52 : decode cX4_kind 52 = .ok (.aload_n 0, 1) := dk_42 (dk_at dksX4_kind_2 6 rfl rfl)
theorem dX4_kind_53 : decode cX4_kind 53 = .ok (.ldc 234, 2) := dk_18 234 (dk_at dksX4_kind_2 7 rfl rfl)
theorem dX4_kind_55 : decode cX4_kind 55 = .ok (.invokevirtual 120, 3) := dk_182 0 120 (dk_at dksX4_kind_2 9 rfl rfl)
theorem dX4_kind_58 : decode cX4_kind 58 = .ok (.ifCond .eq 9, 3) := dk_153 0 9 (dk_at dksX4_kind_2 12 rfl rfl)
theorem dX4_kind_61 : decode cX4_kind 61 = .ok (.getstatic 244, 3) := dk_178 0 244 (dk_at dksX4_kind_2 15 rfl rfl)
theorem dX4_kind_64 : decode cX4_kind 64 = .ok (.goto 6, 3) := dk_167 0 6 (dk_at dksX4_kind_2 18 rfl rfl)
theorem dX4_kind_67 : decode cX4_kind 67 = .ok (.getstatic 247, 3) := dk_178 0 247 (dk_at dksX4_kind_2 21 rfl rfl)
theorem dX4_kind_70 : decode cX4_kind 70 = .ok (.astore_n 1, 1) := dk_76 (dk_at dksX4_kind_3 0 rfl rfl)
theorem dX4_kind_71 : decode cX4_kind 71 = .ok (.aload_n 0, 1) := dk_42 (dk_at dksX4_kind_3 1 rfl rfl)
theorem dX4_kind_72 : decode cX4_kind 72 = .ok (.invokevirtual 128, 3) := dk_182 0 128 (dk_at dksX4_kind_3 2 rfl rfl)
theorem dX4_kind_75 : decode cX4_kind 75 = .ok (.aload_n 1, 1) := dk_43 (dk_at dksX4_kind_3 5 rfl rfl)
theorem dX4_kind_76 : decode cX4_kind 76 = .ok (.areturn, 1) := dk_176 (dk_at dksX4_kind_3 6 rfl rfl)
theorem q158 : (Jvm.Cond.initialized "RideDesk$Parser") ∈ lw_all := lw_g (lw_at lw_m1 12 rfl) rfl
theorem q253 : (Jvm.Cond.fieldLinkNest "RideDesk$Parser" (279 : Nat) "RideDesk" "plan" "LRideDesk$Plan;" "RideDesk") ∈ lw_tbl := lw_at lw_m1 107 rfl
theorem q254 : (Jvm.Cond.fieldLinkNest "RideDesk$Parser" (288 : Nat) "RideDesk" "now" "LRideDesk$State;" "RideDesk") ∈ lw_tbl := lw_at lw_m1 108 rfl
theorem q266 : (Jvm.Cond.fieldLinkNest "RideDesk$Parser" (54 : Nat) "RideDesk" "buffer" "[B" "RideDesk") ∈ lw_tbl := lw_at lw_m1 120 rfl
theorem q538 : (Jvm.Cond.instantiable "RideDesk$Parser" (10 : Nat)) ∈ lw_all := lw_g (lw_at lw_m2 152 rfl) rfl
theorem q540 : (Jvm.Cond.instanceMethod ({ cls := "RideDesk$Parser", name := "<init>", desc := "(LRideDesk;I)V" } : Jvm.MethodName)) ∈ lw_all := lw_g (lw_at lw_m2 154 rfl) rfl
theorem q541 : (Jvm.Cond.code ({ cls := "RideDesk$Parser", name := "<init>", desc := "(LRideDesk;I)V" } : Jvm.MethodName) prog_9_method_1_code (3 : Nat) (Option.none : Option Jvm.ClassFile.FieldType)) ∈ lw_all := lw_g (lw_at lw_m2 155 rfl) rfl
theorem q542 : (Jvm.Cond.methodLink "RideDesk$Parser" (9 : Nat) ({ cls := "java/lang/Object", name := "<init>", desc := "()V" } : Jvm.MethodName)) ∈ lw_all := lw_g (lw_at lw_m2 156 rfl) rfl
theorem q543 : (Jvm.Cond.fieldLink "RideDesk$Parser" (15 : Nat) "RideDesk$Token" "INVALID" "LRideDesk$Token;") ∈ lw_all := lw_g (lw_at lw_m2 157 rfl) rfl
theorem q545 : (Jvm.Cond.stringRef "RideDesk$Parser" (24 : Nat) "") ∈ lw_tbl := lw_at lw_m2 159 rfl
theorem q546 : (Jvm.Cond.classLink "RideDesk$Parser" (30 : Nat) "RideDesk$Plan") ∈ lw_all := lw_g (lw_at lw_m2 160 rfl) rfl
theorem q548 : (Jvm.Cond.methodLinkNest "RideDesk$Parser" (32 : Nat) ({ cls := "RideDesk$Plan", name := "<init>", desc := "()V" } : Jvm.MethodName) "RideDesk") ∈ lw_tbl := lw_at lw_m2 162 rfl
theorem q559 : (Jvm.Cond.fieldLinkNest "RideDesk$Parser" (157 : Nat) "RideDesk$Rules" "window" "I" "RideDesk") ∈ lw_tbl := lw_at lw_m2 173 rfl
theorem q561 : (Jvm.Cond.fieldLinkNest "RideDesk$Parser" (163 : Nat) "RideDesk$Rules" "base" "I" "RideDesk") ∈ lw_tbl := lw_at lw_m2 175 rfl
theorem q563 : (Jvm.Cond.fieldLinkNest "RideDesk$Parser" (166 : Nat) "RideDesk$Rules" "factor" "I" "RideDesk") ∈ lw_tbl := lw_at lw_m2 177 rfl
theorem q565 : (Jvm.Cond.fieldLinkNest "RideDesk$Parser" (171 : Nat) "RideDesk$Rules" "board" "I" "RideDesk") ∈ lw_tbl := lw_at lw_m2 179 rfl
theorem q567 : (Jvm.Cond.fieldLinkNest "RideDesk$Parser" (173 : Nat) "RideDesk$Rules" "lift" "I" "RideDesk") ∈ lw_tbl := lw_at lw_m2 181 rfl
theorem q568 : (Jvm.Cond.fieldLinkNest "RideDesk$Parser" (178 : Nat) "RideDesk$Rules" "grace" "I" "RideDesk") ∈ lw_tbl := lw_at lw_m2 182 rfl
theorem q570 : (Jvm.Cond.fieldLinkNest "RideDesk$Parser" (182 : Nat) "RideDesk$Rules" "rate" "I" "RideDesk") ∈ lw_tbl := lw_at lw_m2 184 rfl
theorem q871 : (Jvm.Cond.fieldLinkNest "RideDesk$Parser" (145 : Nat) "RideDesk$Plan" "rules" "LRideDesk$Rules;" "RideDesk") ∈ lw_tbl := lw_at lw_m4 5 rfl
theorem q873 : (Jvm.Cond.fieldLinkNest "RideDesk$Parser" (184 : Nat) "RideDesk$Plan" "rivers" "Ljava/util/List;" "RideDesk") ∈ lw_tbl := lw_at lw_m4 7 rfl
theorem q877 : (Jvm.Cond.fieldLinkNest "RideDesk$Parser" (213 : Nat) "RideDesk$Plan" "vans" "Ljava/util/List;" "RideDesk") ∈ lw_tbl := lw_at lw_m4 11 rfl
theorem q885 : (Jvm.Cond.classLink "RideDesk$Parser" (37 : Nat) "java/util/ArrayList") ∈ lw_all := lw_g (lw_at lw_m4 19 rfl) rfl
theorem q886 : (Jvm.Cond.methodLink "RideDesk$Parser" (39 : Nat) ({ cls := "java/util/ArrayList", name := "<init>", desc := "(I)V" } : Jvm.MethodName)) ∈ lw_all := lw_g (lw_at lw_m4 20 rfl) rfl
theorem q887 : (Jvm.Cond.fieldLink "RideDesk$Parser" (50 : Nat) "RideDesk$Parser" "size" "I") ∈ lw_all := lw_g (lw_at lw_m4 21 rfl) rfl
theorem q888 : (Jvm.Cond.fieldLink "RideDesk$Parser" (79 : Nat) "RideDesk$Parser" "from" "I") ∈ lw_all := lw_g (lw_at lw_m4 22 rfl) rfl
theorem q889 : (Jvm.Cond.fieldLink "RideDesk$Parser" (66 : Nat) "RideDesk$Parser" "to" "I") ∈ lw_all := lw_g (lw_at lw_m4 23 rfl) rfl
theorem q890 : (Jvm.Cond.fieldLink "RideDesk$Parser" (96 : Nat) "RideDesk$Parser" "value" "I") ∈ lw_all := lw_g (lw_at lw_m4 24 rfl) rfl
theorem q891 : (Jvm.Cond.fieldLink "RideDesk$Parser" (21 : Nat) "RideDesk$Parser" "token" "LRideDesk$Token;") ∈ lw_all := lw_g (lw_at lw_m4 25 rfl) rfl
theorem q892 : (Jvm.Cond.fieldLink "RideDesk$Parser" (26 : Nat) "RideDesk$Parser" "word" "Ljava/lang/String;") ∈ lw_all := lw_g (lw_at lw_m4 26 rfl) rfl
theorem q893 : (Jvm.Cond.fieldLink "RideDesk$Parser" (33 : Nat) "RideDesk$Parser" "read" "LRideDesk$Plan;") ∈ lw_all := lw_g (lw_at lw_m4 27 rfl) rfl
theorem q894 : (Jvm.Cond.fieldLink "RideDesk$Parser" (42 : Nat) "RideDesk$Parser" "calls" "Ljava/util/List;") ∈ lw_all := lw_g (lw_at lw_m4 28 rfl) rfl
theorem q895 : (Jvm.Cond.fieldLink "RideDesk$Parser" (46 : Nat) "RideDesk$Parser" "ready" "[I") ∈ lw_all := lw_g (lw_at lw_m4 29 rfl) rfl
theorem q896 : (Jvm.Cond.fieldLink "RideDesk$Parser" (3 : Nat) "RideDesk$Parser" "this$0" "LRideDesk;") ∈ lw_all := lw_g (lw_at lw_m4 30 rfl) rfl
theorem q897 : (Jvm.Cond.laysFinal "RideDesk$Parser" "RideDesk$Parser" "size" "I") ∈ lw_all := lw_g (lw_at lw_m4 31 rfl) rfl
theorem q898 : (Jvm.Cond.soleField "RideDesk$Parser" "size") ∈ lw_all := lw_g (lw_at lw_m4 32 rfl) rfl
theorem q899 : (Jvm.Cond.lays "RideDesk$Parser" "RideDesk$Parser" "from" "I") ∈ lw_all := lw_g (lw_at lw_m4 33 rfl) rfl
theorem q900 : (Jvm.Cond.soleField "RideDesk$Parser" "from") ∈ lw_all := lw_g (lw_at lw_m4 34 rfl) rfl
theorem q901 : (Jvm.Cond.lays "RideDesk$Parser" "RideDesk$Parser" "to" "I") ∈ lw_all := lw_g (lw_at lw_m4 35 rfl) rfl
theorem q902 : (Jvm.Cond.soleField "RideDesk$Parser" "to") ∈ lw_all := lw_g (lw_at lw_m4 36 rfl) rfl
theorem q903 : (Jvm.Cond.lays "RideDesk$Parser" "RideDesk$Parser" "value" "I") ∈ lw_all := lw_g (lw_at lw_m4 37 rfl) rfl
theorem q904 : (Jvm.Cond.soleField "RideDesk$Parser" "value") ∈ lw_all := lw_g (lw_at lw_m4 38 rfl) rfl
theorem q905 : (Jvm.Cond.lays "RideDesk$Parser" "RideDesk$Parser" "token" "LRideDesk$Token;") ∈ lw_all := lw_g (lw_at lw_m4 39 rfl) rfl
theorem q906 : (Jvm.Cond.soleField "RideDesk$Parser" "token") ∈ lw_all := lw_g (lw_at lw_m4 40 rfl) rfl
theorem q907 : (Jvm.Cond.lays "RideDesk$Parser" "RideDesk$Parser" "word" "Ljava/lang/String;") ∈ lw_all := lw_g (lw_at lw_m4 41 rfl) rfl
theorem q908 : (Jvm.Cond.soleField "RideDesk$Parser" "word") ∈ lw_all := lw_g (lw_at lw_m4 42 rfl) rfl
theorem q909 : (Jvm.Cond.laysFinal "RideDesk$Parser" "RideDesk$Parser" "read" "LRideDesk$Plan;") ∈ lw_all := lw_g (lw_at lw_m4 43 rfl) rfl
theorem q910 : (Jvm.Cond.soleField "RideDesk$Parser" "read") ∈ lw_all := lw_g (lw_at lw_m4 44 rfl) rfl
theorem q911 : (Jvm.Cond.laysFinal "RideDesk$Parser" "RideDesk$Parser" "calls" "Ljava/util/List;") ∈ lw_all := lw_g (lw_at lw_m4 45 rfl) rfl
theorem q912 : (Jvm.Cond.soleField "RideDesk$Parser" "calls") ∈ lw_all := lw_g (lw_at lw_m4 46 rfl) rfl
theorem q913 : (Jvm.Cond.laysFinal "RideDesk$Parser" "RideDesk$Parser" "ready" "[I") ∈ lw_all := lw_g (lw_at lw_m4 47 rfl) rfl
theorem q914 : (Jvm.Cond.soleField "RideDesk$Parser" "ready") ∈ lw_all := lw_g (lw_at lw_m4 48 rfl) rfl
theorem q915 : (Jvm.Cond.laysFinal "RideDesk$Parser" "RideDesk$Parser" "this$0" "LRideDesk;") ∈ lw_all := lw_g (lw_at lw_m4 49 rfl) rfl
theorem q916 : (Jvm.Cond.soleField "RideDesk$Parser" "this$0") ∈ lw_all := lw_g (lw_at lw_m4 50 rfl) rfl
theorem q917 : (Jvm.Cond.superclass "RideDesk$Parser" "java/lang/Object") ∈ lw_all := lw_g (lw_at lw_m4 51 rfl) rfl
theorem q919 : (Jvm.Cond.instanceMethod ({ cls := "RideDesk$Parser", name := "text", desc := "()V" } : Jvm.MethodName)) ∈ lw_all := lw_g (lw_at lw_m4 53 rfl) rfl
theorem q920 : (Jvm.Cond.selects "RideDesk$Parser" ({ cls := "RideDesk$Parser", name := "text", desc := "()V" } : Jvm.MethodName) ({ cls := "RideDesk$Parser", name := "text", desc := "()V" } : Jvm.MethodName)) ∈ lw_all := lw_g (lw_at lw_m4 54 rfl) rfl
theorem q921 : (Jvm.Cond.code ({ cls := "RideDesk$Parser", name := "text", desc := "()V" } : Jvm.MethodName) prog_9_method_21_code (3 : Nat) (Option.none : Option Jvm.ClassFile.FieldType)) ∈ lw_all := lw_g (lw_at lw_m4 55 rfl) rfl
theorem q922 : (Jvm.Cond.methodLink "RideDesk$Parser" (128 : Nat) ({ cls := "RideDesk$Parser", name := "advance", desc := "()V" } : Jvm.MethodName)) ∈ lw_all := lw_g (lw_at lw_m4 56 rfl) rfl
theorem q923 : (Jvm.Cond.privateMethod ({ cls := "RideDesk$Parser", name := "advance", desc := "()V" } : Jvm.MethodName)) ∈ lw_tbl := lw_at lw_m4 57 rfl
theorem q924 : (Jvm.Cond.instanceMethod ({ cls := "RideDesk$Parser", name := "advance", desc := "()V" } : Jvm.MethodName)) ∈ lw_all := lw_g (lw_at lw_m4 58 rfl) rfl
theorem q925 : (Jvm.Cond.code ({ cls := "RideDesk$Parser", name := "advance", desc := "()V" } : Jvm.MethodName) prog_9_method_6_code (1 : Nat) (Option.none : Option Jvm.ClassFile.FieldType)) ∈ lw_all := lw_g (lw_at lw_m4 59 rfl) rfl
theorem q926 : (Jvm.Cond.methodLink "RideDesk$Parser" (58 : Nat) ({ cls := "RideDesk$Parser", name := "byteAt", desc := "(I)I" } : Jvm.MethodName)) ∈ lw_all := lw_g (lw_at lw_m4 60 rfl) rfl
theorem q927 : (Jvm.Cond.privateMethod ({ cls := "RideDesk$Parser", name := "byteAt", desc := "(I)I" } : Jvm.MethodName)) ∈ lw_tbl := lw_at lw_m4 61 rfl
theorem q928 : (Jvm.Cond.instanceMethod ({ cls := "RideDesk$Parser", name := "byteAt", desc := "(I)I" } : Jvm.MethodName)) ∈ lw_all := lw_g (lw_at lw_m4 62 rfl) rfl
theorem q929 : (Jvm.Cond.code ({ cls := "RideDesk$Parser", name := "byteAt", desc := "(I)I" } : Jvm.MethodName) prog_9_method_2_code (2 : Nat) (Option.some Jvm.ClassFile.FieldType.int)) ∈ lw_all := lw_g (lw_at lw_m4 63 rfl) rfl
theorem q930 : (Jvm.Cond.methodLink "RideDesk$Parser" (105 : Nat) ({ cls := "RideDesk$Parser", name := "scan", desc := "()LRideDesk$Token;" } : Jvm.MethodName)) ∈ lw_all := lw_g (lw_at lw_m4 64 rfl) rfl
theorem q931 : (Jvm.Cond.privateMethod ({ cls := "RideDesk$Parser", name := "scan", desc := "()LRideDesk$Token;" } : Jvm.MethodName)) ∈ lw_tbl := lw_at lw_m4 65 rfl
theorem q932 : (Jvm.Cond.instanceMethod ({ cls := "RideDesk$Parser", name := "scan", desc := "()LRideDesk$Token;" } : Jvm.MethodName)) ∈ lw_all := lw_g (lw_at lw_m4 66 rfl) rfl
theorem q933 : (Jvm.Cond.code ({ cls := "RideDesk$Parser", name := "scan", desc := "()LRideDesk$Token;" } : Jvm.MethodName) prog_9_method_5_code (2 : Nat) (Option.some (Jvm.ClassFile.FieldType.object "RideDesk$Token"))) ∈ lw_all := lw_g (lw_at lw_m4 67 rfl) rfl
theorem q934 : (Jvm.Cond.fieldLink "RideDesk$Parser" (69 : Nat) "RideDesk$Token" "END" "LRideDesk$Token;") ∈ lw_all := lw_g (lw_at lw_m4 68 rfl) rfl
theorem q936 : (Jvm.Cond.methodLink "RideDesk$Parser" (72 : Nat) ({ cls := "RideDesk$Parser", name := "isLetter", desc := "(I)Z" } : Jvm.MethodName)) ∈ lw_all := lw_g (lw_at lw_m4 70 rfl) rfl
theorem q937 : (Jvm.Cond.privateMethod ({ cls := "RideDesk$Parser", name := "isLetter", desc := "(I)Z" } : Jvm.MethodName)) ∈ lw_tbl := lw_at lw_m4 71 rfl
theorem q938 : (Jvm.Cond.instanceMethod ({ cls := "RideDesk$Parser", name := "isLetter", desc := "(I)Z" } : Jvm.MethodName)) ∈ lw_all := lw_g (lw_at lw_m4 72 rfl) rfl
theorem q939 : (Jvm.Cond.code ({ cls := "RideDesk$Parser", name := "isLetter", desc := "(I)Z" } : Jvm.MethodName) prog_9_method_3_code (2 : Nat) (Option.some Jvm.ClassFile.FieldType.boolean)) ∈ lw_all := lw_g (lw_at lw_m4 73 rfl) rfl
theorem q940 : (Jvm.Cond.methodLinkNest "RideDesk$Parser" (62 : Nat) ({ cls := "RideDesk", name := "in", desc := "(III)Z" } : Jvm.MethodName) "RideDesk") ∈ lw_tbl := lw_at lw_m4 74 rfl
theorem q941 : (Jvm.Cond.classLink "RideDesk$Parser" (76 : Nat) "java/lang/StringBuilder") ∈ lw_all := lw_g (lw_at lw_m4 75 rfl) rfl
theorem q942 : (Jvm.Cond.methodLink "RideDesk$Parser" (78 : Nat) ({ cls := "java/lang/StringBuilder", name := "<init>", desc := "(I)V" } : Jvm.MethodName)) ∈ lw_all := lw_g (lw_at lw_m4 76 rfl) rfl
theorem q945 : (Jvm.Cond.methodLink "RideDesk$Parser" (82 : Nat) ({ cls := "java/lang/StringBuilder", name := "append", desc := "(C)Ljava/lang/StringBuilder;" } : Jvm.MethodName)) ∈ lw_all := lw_g (lw_at lw_m4 79 rfl) rfl
theorem q965 : (Jvm.Cond.methodLink "RideDesk$Parser" (86 : Nat) ({ cls := "java/lang/StringBuilder", name := "toString", desc := "()Ljava/lang/String;" } : Jvm.MethodName)) ∈ lw_all := lw_g (lw_at lw_m4 99 rfl) rfl
theorem q966 : (Jvm.Cond.fieldLink "RideDesk$Parser" (90 : Nat) "RideDesk$Token" "WORD" "LRideDesk$Token;") ∈ lw_all := lw_g (lw_at lw_m4 100 rfl) rfl
theorem q968 : (Jvm.Cond.methodLink "RideDesk$Parser" (93 : Nat) ({ cls := "RideDesk$Parser", name := "isDigit", desc := "(I)Z" } : Jvm.MethodName)) ∈ lw_all := lw_g (lw_at lw_m4 102 rfl) rfl
theorem q969 : (Jvm.Cond.privateMethod ({ cls := "RideDesk$Parser", name := "isDigit", desc := "(I)Z" } : Jvm.MethodName)) ∈ lw_tbl := lw_at lw_m4 103 rfl
theorem q970 : (Jvm.Cond.instanceMethod ({ cls := "RideDesk$Parser", name := "isDigit", desc := "(I)Z" } : Jvm.MethodName)) ∈ lw_all := lw_g (lw_at lw_m4 104 rfl) rfl
theorem q971 : (Jvm.Cond.code ({ cls := "RideDesk$Parser", name := "isDigit", desc := "(I)Z" } : Jvm.MethodName) prog_9_method_4_code (2 : Nat) (Option.some Jvm.ClassFile.FieldType.boolean)) ∈ lw_all := lw_g (lw_at lw_m4 105 rfl) rfl
theorem q972 : (Jvm.Cond.fieldLink "RideDesk$Parser" (99 : Nat) "RideDesk$Token" "NUMBER" "LRideDesk$Token;") ∈ lw_all := lw_g (lw_at lw_m4 106 rfl) rfl
theorem q974 : (Jvm.Cond.fieldLink "RideDesk$Parser" (102 : Nat) "RideDesk$Token" "SEMICOLON" "LRideDesk$Token;") ∈ lw_all := lw_g (lw_at lw_m4 108 rfl) rfl
theorem q976 : (Jvm.Cond.methodLink "RideDesk$Parser" (274 : Nat) ({ cls := "RideDesk$Parser", name := "rules", desc := "()V" } : Jvm.MethodName)) ∈ lw_all := lw_g (lw_at lw_m4 110 rfl) rfl
theorem q977 : (Jvm.Cond.privateMethod ({ cls := "RideDesk$Parser", name := "rules", desc := "()V" } : Jvm.MethodName)) ∈ lw_tbl := lw_at lw_m4 111 rfl
theorem q978 : (Jvm.Cond.instanceMethod ({ cls := "RideDesk$Parser", name := "rules", desc := "()V" } : Jvm.MethodName)) ∈ lw_all := lw_g (lw_at lw_m4 112 rfl) rfl
theorem q979 : (Jvm.Cond.code ({ cls := "RideDesk$Parser", name := "rules", desc := "()V" } : Jvm.MethodName) prog_9_method_14_code (2 : Nat) (Option.none : Option Jvm.ClassFile.FieldType)) ∈ lw_all := lw_g (lw_at lw_m4 113 rfl) rfl
theorem q980 : (Jvm.Cond.stringRef "RideDesk$Parser" (149 : Nat) "desk") ∈ lw_tbl := lw_at lw_m4 114 rfl
theorem q981 : (Jvm.Cond.methodLink "RideDesk$Parser" (135 : Nat) ({ cls := "RideDesk$Parser", name := "take", desc := "(Ljava/lang/String;)V" } : Jvm.MethodName)) ∈ lw_all := lw_g (lw_at lw_m4 115 rfl) rfl
theorem q982 : (Jvm.Cond.privateMethod ({ cls := "RideDesk$Parser", name := "take", desc := "(Ljava/lang/String;)V" } : Jvm.MethodName)) ∈ lw_tbl := lw_at lw_m4 116 rfl
theorem q983 : (Jvm.Cond.instanceMethod ({ cls := "RideDesk$Parser", name := "take", desc := "(Ljava/lang/String;)V" } : Jvm.MethodName)) ∈ lw_all := lw_g (lw_at lw_m4 117 rfl) rfl
theorem q984 : (Jvm.Cond.code ({ cls := "RideDesk$Parser", name := "take", desc := "(Ljava/lang/String;)V" } : Jvm.MethodName) prog_9_method_9_code (2 : Nat) (Option.none : Option Jvm.ClassFile.FieldType)) ∈ lw_all := lw_g (lw_at lw_m4 118 rfl) rfl
theorem q985 : (Jvm.Cond.methodLink "RideDesk$Parser" (120 : Nat) ({ cls := "RideDesk$Parser", name := "is", desc := "(Ljava/lang/String;)Z" } : Jvm.MethodName)) ∈ lw_all := lw_g (lw_at lw_m4 119 rfl) rfl
theorem q986 : (Jvm.Cond.privateMethod ({ cls := "RideDesk$Parser", name := "is", desc := "(Ljava/lang/String;)Z" } : Jvm.MethodName)) ∈ lw_tbl := lw_at lw_m4 120 rfl
theorem q987 : (Jvm.Cond.instanceMethod ({ cls := "RideDesk$Parser", name := "is", desc := "(Ljava/lang/String;)Z" } : Jvm.MethodName)) ∈ lw_all := lw_g (lw_at lw_m4 121 rfl) rfl
theorem q988 : (Jvm.Cond.code ({ cls := "RideDesk$Parser", name := "is", desc := "(Ljava/lang/String;)Z" } : Jvm.MethodName) prog_9_method_8_code (2 : Nat) (Option.some Jvm.ClassFile.FieldType.boolean)) ∈ lw_all := lw_g (lw_at lw_m4 122 rfl) rfl
theorem q989 : (Jvm.Cond.methodLink "RideDesk$Parser" (114 : Nat) ({ cls := "java/lang/String", name := "equals", desc := "(Ljava/lang/Object;)Z" } : Jvm.MethodName)) ∈ lw_all := lw_g (lw_at lw_m4 123 rfl) rfl
theorem q997 : (Jvm.Cond.methodLink "RideDesk$Parser" (124 : Nat) ({ cls := "RideDesk$Parser", name := "require", desc := "(ZI)V" } : Jvm.MethodName)) ∈ lw_all := lw_g (lw_at lw_m4 131 rfl) rfl
theorem q998 : (Jvm.Cond.privateMethod ({ cls := "RideDesk$Parser", name := "require", desc := "(ZI)V" } : Jvm.MethodName)) ∈ lw_tbl := lw_at lw_m4 132 rfl
theorem q999 : (Jvm.Cond.instanceMethod ({ cls := "RideDesk$Parser", name := "require", desc := "(ZI)V" } : Jvm.MethodName)) ∈ lw_all := lw_g (lw_at lw_m4 133 rfl) rfl
theorem q1000 : (Jvm.Cond.code ({ cls := "RideDesk$Parser", name := "require", desc := "(ZI)V" } : Jvm.MethodName) prog_9_method_7_code (3 : Nat) (Option.none : Option Jvm.ClassFile.FieldType)) ∈ lw_all := lw_g (lw_at lw_m4 134 rfl) rfl
theorem q1001 : (Jvm.Cond.classLink "RideDesk$Parser" (109 : Nat) "RideDesk$FormatException") ∈ lw_all := lw_g (lw_at lw_m4 135 rfl) rfl
theorem q1010 : (Jvm.Cond.methodLink "RideDesk$Parser" (111 : Nat) ({ cls := "RideDesk$FormatException", name := "<init>", desc := "(II)V" } : Jvm.MethodName)) ∈ lw_all := lw_g (lw_at lw_m4 144 rfl) rfl
theorem q1029 : (Jvm.Cond.stringRef "RideDesk$Parser" (151 : Nat) "window") ∈ lw_tbl := lw_at lw_m4 163 rfl
theorem q1030 : (Jvm.Cond.methodLink "RideDesk$Parser" (153 : Nat) ({ cls := "RideDesk$Parser", name := "measure", desc := "(Ljava/lang/String;II)I" } : Jvm.MethodName)) ∈ lw_all := lw_g (lw_at lw_m4 164 rfl) rfl
theorem q1031 : (Jvm.Cond.privateMethod ({ cls := "RideDesk$Parser", name := "measure", desc := "(Ljava/lang/String;II)I" } : Jvm.MethodName)) ∈ lw_tbl := lw_at lw_m4 165 rfl
theorem q1032 : (Jvm.Cond.instanceMethod ({ cls := "RideDesk$Parser", name := "measure", desc := "(Ljava/lang/String;II)I" } : Jvm.MethodName)) ∈ lw_all := lw_g (lw_at lw_m4 166 rfl) rfl
theorem q1033 : (Jvm.Cond.code ({ cls := "RideDesk$Parser", name := "measure", desc := "(Ljava/lang/String;II)I" } : Jvm.MethodName) prog_9_method_12_code (4 : Nat) (Option.some Jvm.ClassFile.FieldType.int)) ∈ lw_all := lw_g (lw_at lw_m4 167 rfl) rfl
theorem q1034 : (Jvm.Cond.methodLink "RideDesk$Parser" (139 : Nat) ({ cls := "RideDesk$Parser", name := "number", desc := "(II)I" } : Jvm.MethodName)) ∈ lw_all := lw_g (lw_at lw_m4 168 rfl) rfl
theorem q1035 : (Jvm.Cond.privateMethod ({ cls := "RideDesk$Parser", name := "number", desc := "(II)I" } : Jvm.MethodName)) ∈ lw_tbl := lw_at lw_m4 169 rfl
theorem q1036 : (Jvm.Cond.instanceMethod ({ cls := "RideDesk$Parser", name := "number", desc := "(II)I" } : Jvm.MethodName)) ∈ lw_all := lw_g (lw_at lw_m4 170 rfl) rfl
theorem q1037 : (Jvm.Cond.code ({ cls := "RideDesk$Parser", name := "number", desc := "(II)I" } : Jvm.MethodName) prog_9_method_11_code (4 : Nat) (Option.some Jvm.ClassFile.FieldType.int)) ∈ lw_all := lw_g (lw_at lw_m4 171 rfl) rfl
theorem q1038 : (Jvm.Cond.methodLink "RideDesk$Parser" (131 : Nat) ({ cls := "RideDesk$Parser", name := "look", desc := "(II)I" } : Jvm.MethodName)) ∈ lw_all := lw_g (lw_at lw_m4 172 rfl) rfl
theorem q1039 : (Jvm.Cond.privateMethod ({ cls := "RideDesk$Parser", name := "look", desc := "(II)I" } : Jvm.MethodName)) ∈ lw_tbl := lw_at lw_m4 173 rfl
theorem q1040 : (Jvm.Cond.instanceMethod ({ cls := "RideDesk$Parser", name := "look", desc := "(II)I" } : Jvm.MethodName)) ∈ lw_all := lw_g (lw_at lw_m4 174 rfl) rfl
theorem q1041 : (Jvm.Cond.code ({ cls := "RideDesk$Parser", name := "look", desc := "(II)I" } : Jvm.MethodName) prog_9_method_10_code (3 : Nat) (Option.some Jvm.ClassFile.FieldType.int)) ∈ lw_all := lw_g (lw_at lw_m4 175 rfl) rfl
theorem q1042 : (Jvm.Cond.stringRef "RideDesk$Parser" (161 : Nat) "ride") ∈ lw_tbl := lw_at lw_m4 176 rfl
theorem q1043 : (Jvm.Cond.stringRef "RideDesk$Parser" (169 : Nat) "board") ∈ lw_tbl := lw_at lw_m4 177 rfl
theorem q1044 : (Jvm.Cond.stringRef "RideDesk$Parser" (176 : Nat) "grace") ∈ lw_tbl := lw_at lw_m4 178 rfl
theorem q1045 : (Jvm.Cond.stringRef "RideDesk$Parser" (180 : Nat) "rate") ∈ lw_tbl := lw_at lw_m4 179 rfl
theorem q1046 : (Jvm.Cond.methodLink "RideDesk$Parser" (276 : Nat) ({ cls := "RideDesk$Parser", name := "line", desc := "()V" } : Jvm.MethodName)) ∈ lw_all := lw_g (lw_at lw_m4 180 rfl) rfl
theorem q1047 : (Jvm.Cond.privateMethod ({ cls := "RideDesk$Parser", name := "line", desc := "()V" } : Jvm.MethodName)) ∈ lw_tbl := lw_at lw_m4 181 rfl
theorem q1048 : (Jvm.Cond.instanceMethod ({ cls := "RideDesk$Parser", name := "line", desc := "()V" } : Jvm.MethodName)) ∈ lw_all := lw_g (lw_at lw_m4 182 rfl) rfl
theorem q1049 : (Jvm.Cond.code ({ cls := "RideDesk$Parser", name := "line", desc := "()V" } : Jvm.MethodName) prog_9_method_20_code (3 : Nat) (Option.none : Option Jvm.ClassFile.FieldType)) ∈ lw_all := lw_g (lw_at lw_m4 183 rfl) rfl
theorem q1050 : (Jvm.Cond.methodLink "RideDesk$Parser" (259 : Nat) ({ cls := "java/lang/String", name := "hashCode", desc := "()I" } : Jvm.MethodName)) ∈ lw_all := lw_g (lw_at lw_m4 184 rfl) rfl
theorem q1111 : (Jvm.Cond.stringRef "RideDesk$Parser" (262 : Nat) "river") ∈ lw_tbl := lw_at lw_m5 5 rfl
theorem q1112 : (Jvm.Cond.stringRef "RideDesk$Parser" (264 : Nat) "van") ∈ lw_tbl := lw_at lw_m5 6 rfl
theorem q1113 : (Jvm.Cond.stringRef "RideDesk$Parser" (266 : Nat) "call") ∈ lw_tbl := lw_at lw_m5 7 rfl
theorem q1114 : (Jvm.Cond.methodLink "RideDesk$Parser" (268 : Nat) ({ cls := "RideDesk$Parser", name := "river", desc := "()V" } : Jvm.MethodName)) ∈ lw_all := lw_g (lw_at lw_m5 8 rfl) rfl
theorem q1115 : (Jvm.Cond.privateMethod ({ cls := "RideDesk$Parser", name := "river", desc := "()V" } : Jvm.MethodName)) ∈ lw_tbl := lw_at lw_m5 9 rfl
theorem q1116 : (Jvm.Cond.instanceMethod ({ cls := "RideDesk$Parser", name := "river", desc := "()V" } : Jvm.MethodName)) ∈ lw_all := lw_g (lw_at lw_m5 10 rfl) rfl
theorem q1117 : (Jvm.Cond.code ({ cls := "RideDesk$Parser", name := "river", desc := "()V" } : Jvm.MethodName) prog_9_method_16_code (3 : Nat) (Option.none : Option Jvm.ClassFile.FieldType)) ∈ lw_all := lw_g (lw_at lw_m5 11 rfl) rfl
theorem q1118 : (Jvm.Cond.interfaceEntry "RideDesk$Parser" (187 : Nat)) ∈ lw_tbl := lw_at lw_m5 12 rfl
theorem q1119 : (Jvm.Cond.methodLink "RideDesk$Parser" (187 : Nat) ({ cls := "java/util/List", name := "size", desc := "()I" } : Jvm.MethodName)) ∈ lw_all := lw_g (lw_at lw_m5 13 rfl) rfl
theorem q1120 : (Jvm.Cond.interfaceEntry "RideDesk$Parser" (192 : Nat)) ∈ lw_tbl := lw_at lw_m5 14 rfl
theorem q1121 : (Jvm.Cond.methodLink "RideDesk$Parser" (192 : Nat) ({ cls := "java/util/List", name := "isEmpty", desc := "()Z" } : Jvm.MethodName)) ∈ lw_all := lw_g (lw_at lw_m5 15 rfl) rfl
theorem q1129 : (Jvm.Cond.methodLink "RideDesk$Parser" (196 : Nat) ({ cls := "RideDesk$Parser", name := "begin", desc := "(IIZ)V" } : Jvm.MethodName)) ∈ lw_all := lw_g (lw_at lw_m5 23 rfl) rfl
theorem q1130 : (Jvm.Cond.privateMethod ({ cls := "RideDesk$Parser", name := "begin", desc := "(IIZ)V" } : Jvm.MethodName)) ∈ lw_tbl := lw_at lw_m5 24 rfl
theorem q1131 : (Jvm.Cond.instanceMethod ({ cls := "RideDesk$Parser", name := "begin", desc := "(IIZ)V" } : Jvm.MethodName)) ∈ lw_all := lw_g (lw_at lw_m5 25 rfl) rfl
theorem q1132 : (Jvm.Cond.code ({ cls := "RideDesk$Parser", name := "begin", desc := "(IIZ)V" } : Jvm.MethodName) prog_9_method_15_code (4 : Nat) (Option.none : Option Jvm.ClassFile.FieldType)) ∈ lw_all := lw_g (lw_at lw_m5 26 rfl) rfl
theorem q1133 : (Jvm.Cond.interfaceEntry "RideDesk$Parser" (200 : Nat)) ∈ lw_tbl := lw_at lw_m5 27 rfl
theorem q1134 : (Jvm.Cond.methodLink "RideDesk$Parser" (200 : Nat) ({ cls := "java/util/List", name := "get", desc := "(I)Ljava/lang/Object;" } : Jvm.MethodName)) ∈ lw_all := lw_g (lw_at lw_m5 28 rfl) rfl
theorem q1135 : (Jvm.Cond.classLink "RideDesk$Parser" (204 : Nat) "RideDesk$River") ∈ lw_all := lw_g (lw_at lw_m5 29 rfl) rfl
theorem q1137 : (Jvm.Cond.methodLink "RideDesk$Parser" (209 : Nat) ({ cls := "RideDesk$River", name := "<init>", desc := "(II)V" } : Jvm.MethodName)) ∈ lw_all := lw_g (lw_at lw_m5 31 rfl) rfl
theorem q1142 : (Jvm.Cond.fieldLinkNest "RideDesk$Parser" (206 : Nat) "RideDesk$River" "x" "I" "RideDesk") ∈ lw_tbl := lw_at lw_m5 36 rfl
theorem q1150 : (Jvm.Cond.interfaceEntry "RideDesk$Parser" (210 : Nat)) ∈ lw_tbl := lw_at lw_m5 44 rfl
theorem q1151 : (Jvm.Cond.methodLink "RideDesk$Parser" (210 : Nat) ({ cls := "java/util/List", name := "add", desc := "(Ljava/lang/Object;)Z" } : Jvm.MethodName)) ∈ lw_all := lw_g (lw_at lw_m5 45 rfl) rfl
theorem q1187 : (Jvm.Cond.selects "RideDesk$Parser" ({ cls := "java/lang/Object", name := "getClass", desc := "()Ljava/lang/Class;" } : Jvm.MethodName) ({ cls := "java/lang/Object", name := "getClass", desc := "()Ljava/lang/Class;" } : Jvm.MethodName)) ∈ lw_all := lw_g (lw_at lw_m5 81 rfl) rfl
theorem q1216 : (Jvm.Cond.methodLink "RideDesk$Parser" (270 : Nat) ({ cls := "RideDesk$Parser", name := "van", desc := "()V" } : Jvm.MethodName)) ∈ lw_all := lw_g (lw_at lw_m5 110 rfl) rfl
theorem q1217 : (Jvm.Cond.privateMethod ({ cls := "RideDesk$Parser", name := "van", desc := "()V" } : Jvm.MethodName)) ∈ lw_tbl := lw_at lw_m5 111 rfl
theorem q1218 : (Jvm.Cond.instanceMethod ({ cls := "RideDesk$Parser", name := "van", desc := "()V" } : Jvm.MethodName)) ∈ lw_all := lw_g (lw_at lw_m5 112 rfl) rfl
theorem q1219 : (Jvm.Cond.code ({ cls := "RideDesk$Parser", name := "van", desc := "()V" } : Jvm.MethodName) prog_9_method_17_code (5 : Nat) (Option.none : Option Jvm.ClassFile.FieldType)) ∈ lw_all := lw_g (lw_at lw_m5 113 rfl) rfl
theorem q1220 : (Jvm.Cond.methodLink "RideDesk$Parser" (216 : Nat) ({ cls := "RideDesk$Parser", name := "spot", desc := "()LRideDesk$Spot;" } : Jvm.MethodName)) ∈ lw_all := lw_g (lw_at lw_m5 114 rfl) rfl
theorem q1221 : (Jvm.Cond.privateMethod ({ cls := "RideDesk$Parser", name := "spot", desc := "()LRideDesk$Spot;" } : Jvm.MethodName)) ∈ lw_tbl := lw_at lw_m5 115 rfl
theorem q1222 : (Jvm.Cond.instanceMethod ({ cls := "RideDesk$Parser", name := "spot", desc := "()LRideDesk$Spot;" } : Jvm.MethodName)) ∈ lw_all := lw_g (lw_at lw_m5 116 rfl) rfl
theorem q1223 : (Jvm.Cond.code ({ cls := "RideDesk$Parser", name := "spot", desc := "()LRideDesk$Spot;" } : Jvm.MethodName) prog_9_method_13_code (2 : Nat) (Option.some (Jvm.ClassFile.FieldType.object "RideDesk$Spot"))) ∈ lw_all := lw_g (lw_at lw_m5 117 rfl) rfl
theorem q1224 : (Jvm.Cond.classLink "RideDesk$Parser" (142 : Nat) "RideDesk$Spot") ∈ lw_all := lw_g (lw_at lw_m5 118 rfl) rfl
theorem q1226 : (Jvm.Cond.methodLink "RideDesk$Parser" (144 : Nat) ({ cls := "RideDesk$Spot", name := "<init>", desc := "(II)V" } : Jvm.MethodName)) ∈ lw_all := lw_g (lw_at lw_m5 120 rfl) rfl
theorem q1242 : (Jvm.Cond.stringRef "RideDesk$Parser" (220 : Nat) "seats") ∈ lw_tbl := lw_at lw_m5 136 rfl
theorem q1243 : (Jvm.Cond.stringRef "RideDesk$Parser" (222 : Nat) "wheels") ∈ lw_tbl := lw_at lw_m5 137 rfl
theorem q1244 : (Jvm.Cond.stringRef "RideDesk$Parser" (224 : Nat) "from") ∈ lw_tbl := lw_at lw_m5 138 rfl
theorem q1245 : (Jvm.Cond.classLink "RideDesk$Parser" (225 : Nat) "RideDesk$Van") ∈ lw_all := lw_g (lw_at lw_m5 139 rfl) rfl
theorem q1247 : (Jvm.Cond.stringRef "RideDesk$Parser" (227 : Nat) "until") ∈ lw_tbl := lw_at lw_m5 141 rfl
theorem q1248 : (Jvm.Cond.methodLink "RideDesk$Parser" (229 : Nat) ({ cls := "RideDesk$Van", name := "<init>", desc := "(LRideDesk$Spot;IIII)V" } : Jvm.MethodName)) ∈ lw_all := lw_g (lw_at lw_m5 142 rfl) rfl
theorem q1271 : (Jvm.Cond.methodLink "RideDesk$Parser" (272 : Nat) ({ cls := "RideDesk$Parser", name := "call", desc := "()V" } : Jvm.MethodName)) ∈ lw_all := lw_g (lw_at lw_m5 165 rfl) rfl
theorem q1272 : (Jvm.Cond.privateMethod ({ cls := "RideDesk$Parser", name := "call", desc := "()V" } : Jvm.MethodName)) ∈ lw_tbl := lw_at lw_m5 166 rfl
theorem q1273 : (Jvm.Cond.instanceMethod ({ cls := "RideDesk$Parser", name := "call", desc := "()V" } : Jvm.MethodName)) ∈ lw_all := lw_g (lw_at lw_m5 167 rfl) rfl
theorem q1274 : (Jvm.Cond.code ({ cls := "RideDesk$Parser", name := "call", desc := "()V" } : Jvm.MethodName) prog_9_method_19_code (4 : Nat) (Option.none : Option Jvm.ClassFile.FieldType)) ∈ lw_all := lw_g (lw_at lw_m5 168 rfl) rfl
theorem q1275 : (Jvm.Cond.methodLink "RideDesk$Parser" (250 : Nat) ({ cls := "RideDesk$Parser", name := "kind", desc := "()LRideDesk$Kind;" } : Jvm.MethodName)) ∈ lw_all := lw_g (lw_at lw_m5 169 rfl) rfl
theorem q1276 : (Jvm.Cond.privateMethod ({ cls := "RideDesk$Parser", name := "kind", desc := "()LRideDesk$Kind;" } : Jvm.MethodName)) ∈ lw_tbl := lw_at lw_m5 170 rfl
theorem q1277 : (Jvm.Cond.instanceMethod ({ cls := "RideDesk$Parser", name := "kind", desc := "()LRideDesk$Kind;" } : Jvm.MethodName)) ∈ lw_all := lw_g (lw_at lw_m5 171 rfl) rfl
theorem q1278 : (Jvm.Cond.code ({ cls := "RideDesk$Parser", name := "kind", desc := "()LRideDesk$Kind;" } : Jvm.MethodName) prog_9_method_18_code (2 : Nat) (Option.some (Jvm.ClassFile.FieldType.object "RideDesk$Kind"))) ∈ lw_all := lw_g (lw_at lw_m5 172 rfl) rfl
theorem q1279 : (Jvm.Cond.stringRef "RideDesk$Parser" (232 : Nat) "walk") ∈ lw_tbl := lw_at lw_m5 173 rfl
theorem q1280 : (Jvm.Cond.stringRef "RideDesk$Parser" (234 : Nat) "chair") ∈ lw_tbl := lw_at lw_m5 174 rfl
theorem q1281 : (Jvm.Cond.stringRef "RideDesk$Parser" (236 : Nat) "aide") ∈ lw_tbl := lw_at lw_m5 175 rfl
theorem q1282 : (Jvm.Cond.fieldLink "RideDesk$Parser" (238 : Nat) "RideDesk$Kind" "WALK" "LRideDesk$Kind;") ∈ lw_all := lw_g (lw_at lw_m5 176 rfl) rfl
theorem q1284 : (Jvm.Cond.fieldLink "RideDesk$Parser" (244 : Nat) "RideDesk$Kind" "CHAIR" "LRideDesk$Kind;") ∈ lw_all := lw_g (lw_at lw_m5 178 rfl) rfl
theorem q1286 : (Jvm.Cond.fieldLink "RideDesk$Parser" (247 : Nat) "RideDesk$Kind" "AIDE" "LRideDesk$Kind;") ∈ lw_all := lw_g (lw_at lw_m5 180 rfl) rfl
theorem q1288 : (Jvm.Cond.classLink "RideDesk$Parser" (254 : Nat) "RideDesk$Call") ∈ lw_all := lw_g (lw_at lw_m5 182 rfl) rfl
theorem q1290 : (Jvm.Cond.methodLink "RideDesk$Parser" (256 : Nat) ({ cls := "RideDesk$Call", name := "<init>", desc := "(LRideDesk$Spot;LRideDesk$Spot;LRideDesk$Kind;LRideDesk$Plan;)V" } : Jvm.MethodName)) ∈ lw_all := lw_g (lw_at lw_m5 184 rfl) rfl
theorem q1331 : (Jvm.Cond.methodLink "RideDesk$Parser" (282 : Nat) ({ cls := "RideDesk$State", name := "first", desc := "(LRideDesk$Plan;)LRideDesk$State;" } : Jvm.MethodName)) ∈ lw_all := lw_g (lw_at lw_m5 225 rfl) rfl
theorem q1390 : (Jvm.Cond.methodLinkNest "RideDesk$Parser" (292 : Nat) ({ cls := "RideDesk", name := "adds", desc := "(LRideDesk$State;LRideDesk$Call;I)I" } : Jvm.MethodName) "RideDesk") ∈ lw_tbl := lw_at lw_m6 44 rfl
theorem q2896 : (Jvm.Cond.castable "RideDesk$Parser" "java/lang/Object") ∈ lw_tbl := lw_at lw_m12 110 rfl
theorem in_X4 : ∀ w ∈ wsX40, w ∈ lw_all := lw_in wsX40 [897, 899, 901, 903, 905, 907, 909, 911, 913, 915] (by decide +kernel) (by decide +kernel)

/-! RideDesk$Plan -/
set_option maxRecDepth 100000
def RX5 : String := "RideDesk$Plan"
def TX5 : u_T := fun k => match k with
  | 0 => ("RideDesk$Plan", "rules", "LRideDesk$Rules;", true)
  | 1 => ("RideDesk$Plan", "rivers", "Ljava/util/List;", true)
  | _ => ("RideDesk$Plan", "vans", "Ljava/util/List;", true)
def tyX5 : Nat → FieldType := fun k => match k with
  | 0 => .object "RideDesk$Rules"
  | 1 => .object "java/util/List"
  | _ => .object "java/util/List"
abbrev wsX50 : List Cond := u_ws RX5 TX5 3
theorem nmX5 : ∀ a, a < 3 → ∀ b, b < 3 → a ≠ b → (TX5 a).2.1 ≠ (TX5 b).2.1 := by decide +kernel
theorem tyX5_ok : ∀ k, k < 3 → parseFieldDescriptor (TX5 k).2.2.1 = some (tyX5 k) := by decide +kernel
abbrev cX5_way : ByteArray := prog_11_method_2_code
def yX5_way : MethodName := ⟨RX5, "way", "(LRideDesk$Spot;LRideDesk$Spot;)I"⟩
def dkwX5_way_4 : List UInt8 := [172]
abbrev dktX5_way_4 : List UInt8 := dkwX5_way_4 ++ []
def dkwX5_way_3 : List UInt8 := [185, 0, 51, 2, 0, 192, 0, 55, 180, 0, 61, 167, 0, 4, 3, 96, 62, 132, 4, 1, 167, 255, 193, 29]
abbrev dktX5_way_3 : List UInt8 := dkwX5_way_3 ++ dktX5_way_4
def dkwX5_way_2 : List UInt8 := [21, 4, 185, 0, 51, 2, 0, 192, 0, 55, 43, 44, 182, 0, 57, 153, 0, 23, 42, 180, 0, 23, 21, 4]
abbrev dktX5_way_2 : List UInt8 := dkwX5_way_2 ++ dktX5_way_3
def dkwX5_way_1 : List UInt8 := [96, 62, 3, 54, 4, 21, 4, 42, 180, 0, 23, 185, 0, 45, 1, 0, 162, 0, 55, 29, 42, 180, 0, 23]
abbrev dktX5_way_1 : List UInt8 := dkwX5_way_1 ++ dktX5_way_2
def dkwX5_way_0 : List UInt8 := [43, 180, 0, 30, 44, 180, 0, 30, 100, 184, 0, 36, 43, 180, 0, 42, 44, 180, 0, 42, 100, 184, 0, 36]
abbrev dktX5_way_0 : List UInt8 := dkwX5_way_0 ++ dktX5_way_1
theorem dksX5_way_0 : cX5_way.data.toList.drop 0 = dktX5_way_0 := by decide +kernel
theorem dksX5_way_1 : cX5_way.data.toList.drop 24 = dktX5_way_1 := dk_seg dksX5_way_0 24 rfl rfl
theorem dksX5_way_2 : cX5_way.data.toList.drop 48 = dktX5_way_2 := dk_seg dksX5_way_1 24 rfl rfl
theorem dksX5_way_3 : cX5_way.data.toList.drop 72 = dktX5_way_3 := dk_seg dksX5_way_2 24 rfl rfl
theorem dksX5_way_4 : cX5_way.data.toList.drop 96 = dktX5_way_4 := dk_seg dksX5_way_3 24 rfl rfl
theorem dX5_way_0 : decode cX5_way 0 = .ok (.aload_n 1, 1) := dk_43 (dk_at dksX5_way_0 0 rfl rfl)
theorem dX5_way_1 : decode cX5_way 1 = .ok (.getfield 30, 3) := dk_180 0 30 (dk_at dksX5_way_0 1 rfl rfl)
theorem dX5_way_4 : decode cX5_way 4 = .ok (.aload_n 2, 1) := dk_44 (dk_at dksX5_way_0 4 rfl rfl)
theorem dX5_way_5 : decode cX5_way 5 = .ok (.getfield 30, 3) := dk_180 0 30 (dk_at dksX5_way_0 5 rfl rfl)
theorem dX5_way_8 : decode cX5_way 8 = .ok (.isub, 1) := dk_100 (dk_at dksX5_way_0 8 rfl rfl)
theorem dX5_way_9 : decode cX5_way 9 = .ok (.invokestatic 36, 3) := dk_184 0 36 (dk_at dksX5_way_0 9 rfl rfl)
theorem dX5_way_12 : decode cX5_way 12 = .ok (.aload_n 1, 1) := dk_43 (dk_at dksX5_way_0 12 rfl rfl)
theorem dX5_way_13 : decode cX5_way 13 = .ok (.getfield 42, 3) := dk_180 0 42 (dk_at dksX5_way_0 13 rfl rfl)
theorem dX5_way_16 : decode cX5_way 16 = .ok (.aload_n 2, 1) := dk_44 (dk_at dksX5_way_0 16 rfl rfl)
theorem dX5_way_17 : decode cX5_way 17 = .ok (.getfield 42, 3) := dk_180 0 42 (dk_at dksX5_way_0 17 rfl rfl)
theorem dX5_way_20 : decode cX5_way 20 = .ok (.isub, 1) := dk_100 (dk_at dksX5_way_0 20 rfl rfl)
theorem dX5_way_21 : decode cX5_way 21 = .ok (.invokestatic 36, 3) := dk_184 0 36 (dk_at dksX5_way_0 21 rfl rfl)
theorem dX5_way_24 : decode cX5_way 24 = .ok (.iadd, 1) := dk_96 (dk_at dksX5_way_1 0 rfl rfl)
theorem dX5_way_25 : decode cX5_way 25 = .ok (.istore_n 3, 1) := dk_62 (dk_at dksX5_way_1 1 rfl rfl)
theorem dX5_way_26 : decode cX5_way 26 = .ok (.iconst 0, 1) := dk_3 (dk_at dksX5_way_1 2 rfl rfl)
theorem dX5_way_27 : decode cX5_way 27 = .ok (.istore 4, 2) := dk_54 4 (dk_at dksX5_way_1 3 rfl rfl)
theorem dX5_way_29 : decode cX5_way 29 = .ok (.iload 4, 2) := dk_21 4 (dk_at dksX5_way_1 5 rfl rfl)
theorem dX5_way_31 : decode cX5_way 31 = .ok (.aload_n 0, 1) := dk_42 (dk_at dksX5_way_1 7 rfl rfl)
theorem dX5_way_32 : decode cX5_way 32 = .ok (.getfield 23, 3) := dk_180 0 23 (dk_at dksX5_way_1 8 rfl rfl)
theorem dX5_way_35 : decode cX5_way 35 = .ok (.invokeinterface 45 1, 5) := by decide +kernel
theorem dX5_way_40 : decode cX5_way 40 = .ok (.if_icmp .ge 55, 3) := dk_162 0 55 (dk_at dksX5_way_1 16 rfl rfl)
theorem dX5_way_43 : decode cX5_way 43 = .ok (.iload_n 3, 1) := dk_29 (dk_at dksX5_way_1 19 rfl rfl)
theorem dX5_way_44 : decode cX5_way 44 = .ok (.aload_n 0, 1) := dk_42 (dk_at dksX5_way_1 20 rfl rfl)
theorem dX5_way_45 : decode cX5_way 45 = .ok (.getfield 23, 3) := dk_180 0 23 (dk_at dksX5_way_1 21 rfl rfl)
theorem dX5_way_48 : decode cX5_way 48 = .ok (.iload 4, 2) := dk_21 4 (dk_at dksX5_way_2 0 rfl rfl)
theorem dX5_way_50 : decode cX5_way 50 = .ok (.invokeinterface 51 2, 5) := by decide +kernel
theorem dX5_way_55 : decode cX5_way 55 = .ok (.checkcast 55, 3) := dk_192 0 55 (dk_at dksX5_way_2 7 rfl rfl)
theorem dX5_way_58 : decode cX5_way 58 = .ok (.aload_n 1, 1) := dk_43 (dk_at dksX5_way_2 10 rfl rfl)
theorem dX5_way_59 : decode cX5_way 59 = .ok (.aload_n 2, 1) := dk_44 (dk_at dksX5_way_2 11 rfl rfl)
theorem dX5_way_60 : decode cX5_way 60 = .ok (.invokevirtual 57, 3) := dk_182 0 57 (dk_at dksX5_way_2 12 rfl rfl)
theorem dX5_way_63 : decode cX5_way 63 = .ok (.ifCond .eq 23, 3) := dk_153 0 23 (dk_at dksX5_way_2 15 rfl rfl)
theorem dX5_way_66 : decode cX5_way 66 = .ok (.aload_n 0, 1) := dk_42 (dk_at dksX5_way_2 18 rfl rfl)
theorem dX5_way_67 : decode cX5_way 67 = .ok (.getfield 23, 3) := dk_180 0 23 (dk_at dksX5_way_2 19 rfl rfl)
theorem dX5_way_70 : decode cX5_way 70 = .ok (.iload 4, 2) := dk_21 4 (dk_at dksX5_way_2 22 rfl rfl)
theorem dX5_way_72 : decode cX5_way 72 = .ok (.invokeinterface 51 2, 5) := by decide +kernel
theorem dX5_way_77 : decode cX5_way 77 = .ok (.checkcast 55, 3) := dk_192 0 55 (dk_at dksX5_way_3 5 rfl rfl)
theorem dX5_way_80 : decode cX5_way 80 = .ok (.getfield 61, 3) := dk_180 0 61 (dk_at dksX5_way_3 8 rfl rfl)
theorem dX5_way_83 : decode cX5_way 83 = .ok (.goto 4, 3) := dk_167 0 4 (dk_at dksX5_way_3 11 rfl rfl)
theorem dX5_way_86 : decode cX5_way 86 = .ok (.iconst 0, 1) := dk_3 (dk_at dksX5_way_3 14 rfl rfl)
theorem dX5_way_87 : decode cX5_way 87 = .ok (.iadd, 1) := dk_96 (dk_at dksX5_way_3 15 rfl rfl)
theorem dX5_way_88 : decode cX5_way 88 = .ok (.istore_n 3, 1) := dk_62 (dk_at dksX5_way_3 16 rfl rfl)
theorem dX5_way_89 : decode cX5_way 89 = .ok (.iinc 4 1, 3) := dk_132 4 1 (dk_at dksX5_way_3 17 rfl rfl)
theorem dX5_way_92 : decode cX5_way 92 = .ok (.goto (-63), 3) := dk_167 255 193 (dk_at dksX5_way_3 20 rfl rfl)
theorem dX5_way_95 : decode cX5_way 95 = .ok (.iload_n 3, 1) := dk_29 (dk_at dksX5_way_3 23 rfl rfl)
theorem dX5_way_96 : decode cX5_way 96 = .ok (.ireturn, 1) := dk_172 (dk_at dksX5_way_4 0 rfl rfl)
abbrev cX5_init : ByteArray := prog_11_method_1_code
def yX5_init : MethodName := ⟨RX5, "<init>", "()V"⟩
def dkwX5_init_1 : List UInt8 := [181, 0, 23, 42, 187, 0, 18, 89, 7, 183, 0, 20, 181, 0, 27, 177]
abbrev dktX5_init_1 : List UInt8 := dkwX5_init_1 ++ []
def dkwX5_init_0 : List UInt8 := [42, 183, 0, 3, 42, 187, 0, 9, 89, 183, 0, 11, 181, 0, 12, 42, 187, 0, 18, 89, 6, 183, 0, 20]
abbrev dktX5_init_0 : List UInt8 := dkwX5_init_0 ++ dktX5_init_1
theorem dksX5_init_0 : cX5_init.data.toList.drop 0 = dktX5_init_0 := by decide +kernel
theorem dksX5_init_1 : cX5_init.data.toList.drop 24 = dktX5_init_1 := dk_seg dksX5_init_0 24 rfl rfl
theorem dX5_init_0 : decode cX5_init 0 = .ok (.aload_n 0, 1) := dk_42 (dk_at dksX5_init_0 0 rfl rfl)
theorem dX5_init_1 : decode cX5_init 1 = .ok (.invokespecial 3, 3) := dk_183 0 3 (dk_at dksX5_init_0 1 rfl rfl)
theorem dX5_init_4 : decode cX5_init 4 = .ok (.aload_n 0, 1) := dk_42 (dk_at dksX5_init_0 4 rfl rfl)
theorem dX5_init_5 : decode cX5_init 5 = .ok (.new 9, 3) := dk_187 0 9 (dk_at dksX5_init_0 5 rfl rfl)
theorem dX5_init_8 : decode cX5_init 8 = .ok (.dup, 1) := dk_89 (dk_at dksX5_init_0 8 rfl rfl)
theorem dX5_init_9 : decode cX5_init 9 = .ok (.invokespecial 11, 3) := dk_183 0 11 (dk_at dksX5_init_0 9 rfl rfl)
theorem dX5_init_12 : decode cX5_init 12 = .ok (.putfield 12, 3) := dk_181 0 12 (dk_at dksX5_init_0 12 rfl rfl)
theorem dX5_init_15 : decode cX5_init 15 = .ok (.aload_n 0, 1) := dk_42 (dk_at dksX5_init_0 15 rfl rfl)
theorem dX5_init_16 : decode cX5_init 16 = .ok (.new 18, 3) := dk_187 0 18 (dk_at dksX5_init_0 16 rfl rfl)
theorem dX5_init_19 : decode cX5_init 19 = .ok (.dup, 1) := dk_89 (dk_at dksX5_init_0 19 rfl rfl)
theorem dX5_init_20 : decode cX5_init 20 = .ok (.iconst 3, 1) := dk_6 (dk_at dksX5_init_0 20 rfl rfl)
theorem dX5_init_21 : decode cX5_init 21 = .ok (.invokespecial 20, 3) := dk_183 0 20 (dk_at dksX5_init_0 21 rfl rfl)
theorem dX5_init_24 : decode cX5_init 24 = .ok (.putfield 23, 3) := dk_181 0 23 (dk_at dksX5_init_1 0 rfl rfl)
theorem dX5_init_27 : decode cX5_init 27 = .ok (.aload_n 0, 1) := dk_42 (dk_at dksX5_init_1 3 rfl rfl)
theorem dX5_init_28 : decode cX5_init 28 = .ok (.new 18, 3) := dk_187 0 18 (dk_at dksX5_init_1 4 rfl rfl)
theorem dX5_init_31 : decode cX5_init 31 = .ok (.dup, 1) := dk_89 (dk_at dksX5_init_1 7 rfl rfl)
theorem dX5_init_32 : decode cX5_init 32 = .ok (.iconst 4, 1) := dk_7 (dk_at dksX5_init_1 8 rfl rfl)
theorem dX5_init_33 : decode cX5_init 33 = .ok (.invokespecial 20, 3) := dk_183 0 20 (dk_at dksX5_init_1 9 rfl rfl)
theorem dX5_init_36 : decode cX5_init 36 = .ok (.putfield 27, 3) := dk_181 0 27 (dk_at dksX5_init_1 12 rfl rfl)
theorem dX5_init_39 : decode cX5_init 39 = .ok (.return_, 1) := dk_177 (dk_at dksX5_init_1 15 rfl rfl)
theorem q161 : (Jvm.Cond.initialized "RideDesk$Plan") ∈ lw_all := lw_g (lw_at lw_m1 15 rfl) rfl
theorem q383 : (Jvm.Cond.instanceMethod ({ cls := "RideDesk$Plan", name := "way", desc := "(LRideDesk$Spot;LRideDesk$Spot;)I" } : Jvm.MethodName)) ∈ lw_all := lw_g (lw_at lw_m1 237 rfl) rfl
theorem q384 : (Jvm.Cond.selects "RideDesk$Plan" ({ cls := "RideDesk$Plan", name := "way", desc := "(LRideDesk$Spot;LRideDesk$Spot;)I" } : Jvm.MethodName) ({ cls := "RideDesk$Plan", name := "way", desc := "(LRideDesk$Spot;LRideDesk$Spot;)I" } : Jvm.MethodName)) ∈ lw_all := lw_g (lw_at lw_m1 238 rfl) rfl
theorem q385 : (Jvm.Cond.code ({ cls := "RideDesk$Plan", name := "way", desc := "(LRideDesk$Spot;LRideDesk$Spot;)I" } : Jvm.MethodName) prog_11_method_2_code (5 : Nat) (Option.some Jvm.ClassFile.FieldType.int)) ∈ lw_all := lw_g (lw_at lw_m1 239 rfl) rfl
theorem q386 : (Jvm.Cond.methodLink "RideDesk$Plan" (36 : Nat) ({ cls := "java/lang/Math", name := "abs", desc := "(I)I" } : Jvm.MethodName)) ∈ lw_all := lw_g (lw_at lw_m2 0 rfl) rfl
theorem q389 : (Jvm.Cond.interfaceEntry "RideDesk$Plan" (45 : Nat)) ∈ lw_tbl := lw_at lw_m2 3 rfl
theorem q390 : (Jvm.Cond.methodLink "RideDesk$Plan" (45 : Nat) ({ cls := "java/util/List", name := "size", desc := "()I" } : Jvm.MethodName)) ∈ lw_all := lw_g (lw_at lw_m2 4 rfl) rfl
theorem q391 : (Jvm.Cond.interfaceEntry "RideDesk$Plan" (51 : Nat)) ∈ lw_tbl := lw_at lw_m2 5 rfl
theorem q392 : (Jvm.Cond.methodLink "RideDesk$Plan" (51 : Nat) ({ cls := "java/util/List", name := "get", desc := "(I)Ljava/lang/Object;" } : Jvm.MethodName)) ∈ lw_all := lw_g (lw_at lw_m2 6 rfl) rfl
theorem q393 : (Jvm.Cond.classLink "RideDesk$Plan" (55 : Nat) "RideDesk$River") ∈ lw_all := lw_g (lw_at lw_m2 7 rfl) rfl
theorem q394 : (Jvm.Cond.methodLink "RideDesk$Plan" (57 : Nat) ({ cls := "RideDesk$River", name := "parts", desc := "(LRideDesk$Spot;LRideDesk$Spot;)Z" } : Jvm.MethodName)) ∈ lw_all := lw_g (lw_at lw_m2 8 rfl) rfl
theorem q547 : (Jvm.Cond.instantiable "RideDesk$Plan" (3 : Nat)) ∈ lw_all := lw_g (lw_at lw_m2 161 rfl) rfl
theorem q549 : (Jvm.Cond.instanceMethod ({ cls := "RideDesk$Plan", name := "<init>", desc := "()V" } : Jvm.MethodName)) ∈ lw_all := lw_g (lw_at lw_m2 163 rfl) rfl
theorem q550 : (Jvm.Cond.code ({ cls := "RideDesk$Plan", name := "<init>", desc := "()V" } : Jvm.MethodName) prog_11_method_1_code (1 : Nat) (Option.none : Option Jvm.ClassFile.FieldType)) ∈ lw_all := lw_g (lw_at lw_m2 164 rfl) rfl
theorem q551 : (Jvm.Cond.methodLink "RideDesk$Plan" (3 : Nat) ({ cls := "java/lang/Object", name := "<init>", desc := "()V" } : Jvm.MethodName)) ∈ lw_all := lw_g (lw_at lw_m2 165 rfl) rfl
theorem q552 : (Jvm.Cond.classLink "RideDesk$Plan" (9 : Nat) "RideDesk$Rules") ∈ lw_all := lw_g (lw_at lw_m2 166 rfl) rfl
theorem q554 : (Jvm.Cond.methodLinkNest "RideDesk$Plan" (11 : Nat) ({ cls := "RideDesk$Rules", name := "<init>", desc := "()V" } : Jvm.MethodName) "RideDesk") ∈ lw_tbl := lw_at lw_m2 168 rfl
theorem q587 : (Jvm.Cond.classLink "RideDesk$Plan" (18 : Nat) "java/util/ArrayList") ∈ lw_all := lw_g (lw_at lw_m2 201 rfl) rfl
theorem q589 : (Jvm.Cond.methodLink "RideDesk$Plan" (20 : Nat) ({ cls := "java/util/ArrayList", name := "<init>", desc := "(I)V" } : Jvm.MethodName)) ∈ lw_all := lw_g (lw_at lw_m2 203 rfl) rfl
theorem q868 : (Jvm.Cond.fieldLink "RideDesk$Plan" (12 : Nat) "RideDesk$Plan" "rules" "LRideDesk$Rules;") ∈ lw_all := lw_g (lw_at lw_m4 2 rfl) rfl
theorem q872 : (Jvm.Cond.fieldLink "RideDesk$Plan" (23 : Nat) "RideDesk$Plan" "rivers" "Ljava/util/List;") ∈ lw_all := lw_g (lw_at lw_m4 6 rfl) rfl
theorem q874 : (Jvm.Cond.fieldLink "RideDesk$Plan" (27 : Nat) "RideDesk$Plan" "vans" "Ljava/util/List;") ∈ lw_all := lw_g (lw_at lw_m4 8 rfl) rfl
theorem q878 : (Jvm.Cond.laysFinal "RideDesk$Plan" "RideDesk$Plan" "rules" "LRideDesk$Rules;") ∈ lw_all := lw_g (lw_at lw_m4 12 rfl) rfl
theorem q879 : (Jvm.Cond.soleField "RideDesk$Plan" "rules") ∈ lw_all := lw_g (lw_at lw_m4 13 rfl) rfl
theorem q880 : (Jvm.Cond.laysFinal "RideDesk$Plan" "RideDesk$Plan" "rivers" "Ljava/util/List;") ∈ lw_all := lw_g (lw_at lw_m4 14 rfl) rfl
theorem q881 : (Jvm.Cond.soleField "RideDesk$Plan" "rivers") ∈ lw_all := lw_g (lw_at lw_m4 15 rfl) rfl
theorem q882 : (Jvm.Cond.laysFinal "RideDesk$Plan" "RideDesk$Plan" "vans" "Ljava/util/List;") ∈ lw_all := lw_g (lw_at lw_m4 16 rfl) rfl
theorem q883 : (Jvm.Cond.soleField "RideDesk$Plan" "vans") ∈ lw_all := lw_g (lw_at lw_m4 17 rfl) rfl
theorem q884 : (Jvm.Cond.superclass "RideDesk$Plan" "java/lang/Object") ∈ lw_all := lw_g (lw_at lw_m4 18 rfl) rfl
theorem q1144 : (Jvm.Cond.fieldLinkNest "RideDesk$Plan" (61 : Nat) "RideDesk$River" "extra" "I" "RideDesk") ∈ lw_tbl := lw_at lw_m5 38 rfl
theorem q1189 : (Jvm.Cond.selects "RideDesk$Plan" ({ cls := "java/lang/Object", name := "getClass", desc := "()Ljava/lang/Class;" } : Jvm.MethodName) ({ cls := "java/lang/Object", name := "getClass", desc := "()Ljava/lang/Class;" } : Jvm.MethodName)) ∈ lw_all := lw_g (lw_at lw_m5 83 rfl) rfl
theorem q1232 : (Jvm.Cond.fieldLink "RideDesk$Plan" (30 : Nat) "RideDesk$Spot" "x" "I") ∈ lw_all := lw_g (lw_at lw_m5 126 rfl) rfl
theorem q1236 : (Jvm.Cond.fieldLink "RideDesk$Plan" (42 : Nat) "RideDesk$Spot" "y" "I") ∈ lw_all := lw_g (lw_at lw_m5 130 rfl) rfl
theorem q2898 : (Jvm.Cond.castable "RideDesk$Plan" "java/lang/Object") ∈ lw_tbl := lw_at lw_m12 112 rfl
theorem in_X5 : ∀ w ∈ wsX50, w ∈ lw_all := lw_in wsX50 [878, 880, 882] (by decide +kernel) (by decide +kernel)

/-! RideDesk$Rules -/
set_option maxRecDepth 100000
def RX6 : String := "RideDesk$Rules"
def TX6 : u_T := fun k => match k with
  | 0 => ("RideDesk$Rules", "window", "I", false)
  | 1 => ("RideDesk$Rules", "base", "I", false)
  | 2 => ("RideDesk$Rules", "factor", "I", false)
  | 3 => ("RideDesk$Rules", "board", "I", false)
  | 4 => ("RideDesk$Rules", "lift", "I", false)
  | 5 => ("RideDesk$Rules", "grace", "I", false)
  | _ => ("RideDesk$Rules", "rate", "I", false)
def tyX6 : Nat → FieldType := fun k => match k with
  | 0 => .int
  | 1 => .int
  | 2 => .int
  | 3 => .int
  | 4 => .int
  | 5 => .int
  | _ => .int
abbrev wsX60 : List Cond := u_ws RX6 TX6 7
theorem nmX6 : ∀ a, a < 7 → ∀ b, b < 7 → a ≠ b → (TX6 a).2.1 ≠ (TX6 b).2.1 := by decide +kernel
theorem tyX6_ok : ∀ k, k < 7 → parseFieldDescriptor (TX6 k).2.2.1 = some (tyX6 k) := by decide +kernel
abbrev cX6_init : ByteArray := prog_15_method_1_code
def yX6_init : MethodName := ⟨RX6, "<init>", "()V"⟩
theorem dX6_init_0 : decode cX6_init 0 = .ok (.aload_n 0, 1) := by decide +kernel
theorem dX6_init_1 : decode cX6_init 1 = .ok (.invokespecial 1, 3) := by decide +kernel
theorem dX6_init_4 : decode cX6_init 4 = .ok (.return_, 1) := by decide +kernel
theorem q162 : (Jvm.Cond.initialized "RideDesk$Rules") ∈ lw_all := lw_g (lw_at lw_m1 16 rfl) rfl
theorem q553 : (Jvm.Cond.instantiable "RideDesk$Rules" (7 : Nat)) ∈ lw_all := lw_g (lw_at lw_m2 167 rfl) rfl
theorem q555 : (Jvm.Cond.instanceMethod ({ cls := "RideDesk$Rules", name := "<init>", desc := "()V" } : Jvm.MethodName)) ∈ lw_all := lw_g (lw_at lw_m2 169 rfl) rfl
theorem q556 : (Jvm.Cond.code ({ cls := "RideDesk$Rules", name := "<init>", desc := "()V" } : Jvm.MethodName) prog_15_method_1_code (1 : Nat) (Option.none : Option Jvm.ClassFile.FieldType)) ∈ lw_all := lw_g (lw_at lw_m2 170 rfl) rfl
theorem q557 : (Jvm.Cond.methodLink "RideDesk$Rules" (1 : Nat) ({ cls := "java/lang/Object", name := "<init>", desc := "()V" } : Jvm.MethodName)) ∈ lw_all := lw_g (lw_at lw_m2 171 rfl) rfl
theorem q572 : (Jvm.Cond.lays "RideDesk$Rules" "RideDesk$Rules" "window" "I") ∈ lw_all := lw_g (lw_at lw_m2 186 rfl) rfl
theorem q573 : (Jvm.Cond.soleField "RideDesk$Rules" "window") ∈ lw_all := lw_g (lw_at lw_m2 187 rfl) rfl
theorem q574 : (Jvm.Cond.lays "RideDesk$Rules" "RideDesk$Rules" "base" "I") ∈ lw_all := lw_g (lw_at lw_m2 188 rfl) rfl
theorem q575 : (Jvm.Cond.soleField "RideDesk$Rules" "base") ∈ lw_all := lw_g (lw_at lw_m2 189 rfl) rfl
theorem q576 : (Jvm.Cond.lays "RideDesk$Rules" "RideDesk$Rules" "factor" "I") ∈ lw_all := lw_g (lw_at lw_m2 190 rfl) rfl
theorem q577 : (Jvm.Cond.soleField "RideDesk$Rules" "factor") ∈ lw_all := lw_g (lw_at lw_m2 191 rfl) rfl
theorem q578 : (Jvm.Cond.lays "RideDesk$Rules" "RideDesk$Rules" "board" "I") ∈ lw_all := lw_g (lw_at lw_m2 192 rfl) rfl
theorem q579 : (Jvm.Cond.soleField "RideDesk$Rules" "board") ∈ lw_all := lw_g (lw_at lw_m2 193 rfl) rfl
theorem q580 : (Jvm.Cond.lays "RideDesk$Rules" "RideDesk$Rules" "lift" "I") ∈ lw_all := lw_g (lw_at lw_m2 194 rfl) rfl
theorem q581 : (Jvm.Cond.soleField "RideDesk$Rules" "lift") ∈ lw_all := lw_g (lw_at lw_m2 195 rfl) rfl
theorem q582 : (Jvm.Cond.lays "RideDesk$Rules" "RideDesk$Rules" "grace" "I") ∈ lw_all := lw_g (lw_at lw_m2 196 rfl) rfl
theorem q583 : (Jvm.Cond.soleField "RideDesk$Rules" "grace") ∈ lw_all := lw_g (lw_at lw_m2 197 rfl) rfl
theorem q584 : (Jvm.Cond.lays "RideDesk$Rules" "RideDesk$Rules" "rate" "I") ∈ lw_all := lw_g (lw_at lw_m2 198 rfl) rfl
theorem q585 : (Jvm.Cond.soleField "RideDesk$Rules" "rate") ∈ lw_all := lw_g (lw_at lw_m2 199 rfl) rfl
theorem q586 : (Jvm.Cond.superclass "RideDesk$Rules" "java/lang/Object") ∈ lw_all := lw_g (lw_at lw_m2 200 rfl) rfl
theorem q1193 : (Jvm.Cond.selects "RideDesk$Rules" ({ cls := "java/lang/Object", name := "getClass", desc := "()Ljava/lang/Class;" } : Jvm.MethodName) ({ cls := "java/lang/Object", name := "getClass", desc := "()Ljava/lang/Class;" } : Jvm.MethodName)) ∈ lw_all := lw_g (lw_at lw_m5 87 rfl) rfl
theorem q2899 : (Jvm.Cond.castable "RideDesk$Rules" "java/lang/Object") ∈ lw_tbl := lw_at lw_m12 113 rfl
theorem in_X6 : ∀ w ∈ wsX60, w ∈ lw_all := lw_in wsX60 [572, 574, 576, 578, 580, 582, 584] (by decide +kernel) (by decide +kernel)

/-! RideDesk$FormatException -/
set_option maxRecDepth 100000
def RX7 : String := "RideDesk$FormatException"
def TX7 : u_T := fun k => match k with
  | 0 => ("java/lang/Throwable", "cause", "Ljava/lang/Throwable;", false)
  | 1 => ("java/lang/Throwable", "stackTrace", "[Ljava/lang/StackTraceElement;", false)
  | 2 => ("java/lang/Throwable", "suppressedExceptions", "Ljava/util/List;", false)
  | 3 => ("java/lang/Throwable", "detailMessage", "Ljava/lang/String;", false)
  | 4 => ("java/lang/Throwable", "backtrace", "Ljava/lang/Object;", false)
  | 5 => ("java/lang/Throwable", "depth", "I", false)
  | 6 => ("RideDesk$FormatException", "kind", "I", true)
  | _ => ("RideDesk$FormatException", "position", "I", true)
def tyX7 : Nat → FieldType := fun k => match k with
  | 0 => .object "java/lang/Throwable"
  | 1 => .array (.object "java/lang/StackTraceElement")
  | 2 => .object "java/util/List"
  | 3 => .object "java/lang/String"
  | 4 => .object "java/lang/Object"
  | 5 => .int
  | 6 => .int
  | _ => .int
abbrev wsX70 : List Cond := u_ws RX7 TX7 8
theorem nmX7 : ∀ a, a < 8 → ∀ b, b < 8 → a ≠ b → (TX7 a).2.1 ≠ (TX7 b).2.1 := by decide +kernel
theorem tyX7_ok : ∀ k, k < 8 → parseFieldDescriptor (TX7 k).2.2.1 = some (tyX7 k) := by decide +kernel
abbrev cX7_init : ByteArray := prog_4_method_1_code
def yX7_init : MethodName := ⟨RX7, "<init>", "(II)V"⟩
def dkwX7_init_0 : List UInt8 := [42, 1, 1, 3, 3, 183, 0, 1, 42, 27, 181, 0, 7, 42, 28, 181, 0, 13, 177]
abbrev dktX7_init_0 : List UInt8 := dkwX7_init_0 ++ []
theorem dksX7_init_0 : cX7_init.data.toList.drop 0 = dktX7_init_0 := by decide +kernel
theorem dX7_init_0 : decode cX7_init 0 = .ok (.aload_n 0, 1) := dk_42 (dk_at dksX7_init_0 0 rfl rfl)
theorem dX7_init_1 : decode cX7_init 1 = .ok (.aconst_null, 1) := dk_1 (dk_at dksX7_init_0 1 rfl rfl)
theorem dX7_init_2 : decode cX7_init 2 = .ok (.aconst_null, 1) := dk_1 (dk_at dksX7_init_0 2 rfl rfl)
theorem dX7_init_3 : decode cX7_init 3 = .ok (.iconst 0, 1) := dk_3 (dk_at dksX7_init_0 3 rfl rfl)
theorem dX7_init_4 : decode cX7_init 4 = .ok (.iconst 0, 1) := dk_3 (dk_at dksX7_init_0 4 rfl rfl)
theorem dX7_init_5 : decode cX7_init 5 = .ok (.invokespecial 1, 3) := dk_183 0 1 (dk_at dksX7_init_0 5 rfl rfl)
theorem dX7_init_8 : decode cX7_init 8 = .ok (.aload_n 0, 1) := dk_42 (dk_at dksX7_init_0 8 rfl rfl)
theorem dX7_init_9 : decode cX7_init 9 = .ok (.iload_n 1, 1) := dk_27 (dk_at dksX7_init_0 9 rfl rfl)
theorem dX7_init_10 : decode cX7_init 10 = .ok (.putfield 7, 3) := dk_181 0 7 (dk_at dksX7_init_0 10 rfl rfl)
theorem dX7_init_13 : decode cX7_init 13 = .ok (.aload_n 0, 1) := dk_42 (dk_at dksX7_init_0 13 rfl rfl)
theorem dX7_init_14 : decode cX7_init 14 = .ok (.iload_n 2, 1) := dk_28 (dk_at dksX7_init_0 14 rfl rfl)
theorem dX7_init_15 : decode cX7_init 15 = .ok (.putfield 13, 3) := dk_181 0 13 (dk_at dksX7_init_0 15 rfl rfl)
theorem dX7_init_18 : decode cX7_init 18 = .ok (.return_, 1) := dk_177 (dk_at dksX7_init_0 18 rfl rfl)
theorem q177 : (Jvm.Cond.initialized "RideDesk$FormatException") ∈ lw_all := lw_g (lw_at lw_m1 31 rfl) rfl
theorem q450 : (Jvm.Cond.selects "RideDesk$FormatException" ({ cls := "java/lang/Throwable", name := "fillInStackTrace", desc := "()Ljava/lang/Throwable;" } : Jvm.MethodName) ({ cls := "java/lang/Throwable", name := "fillInStackTrace", desc := "()Ljava/lang/Throwable;" } : Jvm.MethodName)) ∈ lw_all := lw_g (lw_at lw_m2 64 rfl) rfl
theorem q1002 : (Jvm.Cond.instantiable "RideDesk$FormatException" (8 : Nat)) ∈ lw_all := lw_g (lw_at lw_m4 136 rfl) rfl
theorem q1003 : (Jvm.Cond.castable "RideDesk$FormatException" "RideDesk$FormatException") ∈ lw_tbl := lw_at lw_m4 137 rfl
theorem q1004 : (Jvm.Cond.selects "RideDesk$FormatException" ({ cls := "java/lang/Throwable", name := "fillInStackTrace", desc := "(I)Ljava/lang/Throwable;" } : Jvm.MethodName) ({ cls := "java/lang/Throwable", name := "fillInStackTrace", desc := "(I)Ljava/lang/Throwable;" } : Jvm.MethodName)) ∈ lw_all := lw_g (lw_at lw_m4 138 rfl) rfl
theorem q1005 : (Jvm.Cond.lays "RideDesk$FormatException" "java/lang/Throwable" "cause" "Ljava/lang/Throwable;") ∈ lw_all := lw_g (lw_at lw_m4 139 rfl) rfl
theorem q1006 : (Jvm.Cond.lays "RideDesk$FormatException" "java/lang/Throwable" "stackTrace" "[Ljava/lang/StackTraceElement;") ∈ lw_all := lw_g (lw_at lw_m4 140 rfl) rfl
theorem q1007 : (Jvm.Cond.lays "RideDesk$FormatException" "java/lang/Throwable" "suppressedExceptions" "Ljava/util/List;") ∈ lw_all := lw_g (lw_at lw_m4 141 rfl) rfl
theorem q1008 : (Jvm.Cond.lays "RideDesk$FormatException" "java/lang/Throwable" "detailMessage" "Ljava/lang/String;") ∈ lw_all := lw_g (lw_at lw_m4 142 rfl) rfl
theorem q1009 : (Jvm.Cond.lays "RideDesk$FormatException" "java/lang/Throwable" "backtrace" "Ljava/lang/Object;") ∈ lw_all := lw_g (lw_at lw_m4 143 rfl) rfl
theorem q1011 : (Jvm.Cond.instanceMethod ({ cls := "RideDesk$FormatException", name := "<init>", desc := "(II)V" } : Jvm.MethodName)) ∈ lw_all := lw_g (lw_at lw_m4 145 rfl) rfl
theorem q1012 : (Jvm.Cond.code ({ cls := "RideDesk$FormatException", name := "<init>", desc := "(II)V" } : Jvm.MethodName) prog_4_method_1_code (3 : Nat) (Option.none : Option Jvm.ClassFile.FieldType)) ∈ lw_all := lw_g (lw_at lw_m4 146 rfl) rfl
theorem q1013 : (Jvm.Cond.methodLink "RideDesk$FormatException" (1 : Nat) ({ cls := "java/lang/Exception", name := "<init>", desc := "(Ljava/lang/String;Ljava/lang/Throwable;ZZ)V" } : Jvm.MethodName)) ∈ lw_all := lw_g (lw_at lw_m4 147 rfl) rfl
theorem q1019 : (Jvm.Cond.fieldLink "RideDesk$FormatException" (7 : Nat) "RideDesk$FormatException" "kind" "I") ∈ lw_all := lw_g (lw_at lw_m4 153 rfl) rfl
theorem q1021 : (Jvm.Cond.fieldLink "RideDesk$FormatException" (13 : Nat) "RideDesk$FormatException" "position" "I") ∈ lw_all := lw_g (lw_at lw_m4 155 rfl) rfl
theorem q1023 : (Jvm.Cond.laysFinal "RideDesk$FormatException" "RideDesk$FormatException" "kind" "I") ∈ lw_all := lw_g (lw_at lw_m4 157 rfl) rfl
theorem q1024 : (Jvm.Cond.soleField "RideDesk$FormatException" "kind") ∈ lw_all := lw_g (lw_at lw_m4 158 rfl) rfl
theorem q1025 : (Jvm.Cond.laysFinal "RideDesk$FormatException" "RideDesk$FormatException" "position" "I") ∈ lw_all := lw_g (lw_at lw_m4 159 rfl) rfl
theorem q1026 : (Jvm.Cond.soleField "RideDesk$FormatException" "position") ∈ lw_all := lw_g (lw_at lw_m4 160 rfl) rfl
theorem q1027 : (Jvm.Cond.lays "RideDesk$FormatException" "java/lang/Throwable" "depth" "I") ∈ lw_all := lw_g (lw_at lw_m4 161 rfl) rfl
theorem q1028 : (Jvm.Cond.superclass "RideDesk$FormatException" "java/lang/Exception") ∈ lw_all := lw_g (lw_at lw_m4 162 rfl) rfl
theorem q1183 : (Jvm.Cond.selects "RideDesk$FormatException" ({ cls := "java/lang/Object", name := "getClass", desc := "()Ljava/lang/Class;" } : Jvm.MethodName) ({ cls := "java/lang/Object", name := "getClass", desc := "()Ljava/lang/Class;" } : Jvm.MethodName)) ∈ lw_all := lw_g (lw_at lw_m5 77 rfl) rfl
theorem q2904 : (Jvm.Cond.castable "RideDesk$FormatException" "java/lang/Object") ∈ lw_tbl := lw_at lw_m12 118 rfl
theorem in_X7 : ∀ w ∈ wsX70, w ∈ lw_all := lw_in wsX70 [1005, 1006, 1007, 1008, 1009, 1027, 1023, 1025] (by decide +kernel) (by decide +kernel)

/-! RideDesk$River -/
set_option maxRecDepth 100000
def RX8 : String := "RideDesk$River"
def TX8 : u_T := fun k => match k with
  | 0 => ("RideDesk$River", "x", "I", true)
  | _ => ("RideDesk$River", "extra", "I", true)
def tyX8 : Nat → FieldType := fun k => match k with
  | 0 => .int
  | _ => .int
abbrev wsX80 : List Cond := u_ws RX8 TX8 2
theorem nmX8 : ∀ a, a < 2 → ∀ b, b < 2 → a ≠ b → (TX8 a).2.1 ≠ (TX8 b).2.1 := by decide +kernel
theorem tyX8_ok : ∀ k, k < 2 → parseFieldDescriptor (TX8 k).2.2.1 = some (tyX8 k) := by decide +kernel
abbrev cX8_parts : ByteArray := prog_12_method_2_code
def yX8_parts : MethodName := ⟨RX8, "parts", "(LRideDesk$Spot;LRideDesk$Spot;)Z"⟩
def dkwX8_parts_1 : List UInt8 := [162, 0, 7, 4, 167, 0, 4, 3, 159, 0, 7, 4, 167, 0, 4, 3, 172]
abbrev dktX8_parts_1 : List UInt8 := dkwX8_parts_1 ++ []
def dkwX8_parts_0 : List UInt8 := [43, 180, 0, 16, 42, 180, 0, 7, 162, 0, 7, 4, 167, 0, 4, 3, 44, 180, 0, 16, 42, 180, 0, 7]
abbrev dktX8_parts_0 : List UInt8 := dkwX8_parts_0 ++ dktX8_parts_1
theorem dksX8_parts_0 : cX8_parts.data.toList.drop 0 = dktX8_parts_0 := by decide +kernel
theorem dksX8_parts_1 : cX8_parts.data.toList.drop 24 = dktX8_parts_1 := dk_seg dksX8_parts_0 24 rfl rfl
theorem dX8_parts_0 : decode cX8_parts 0 = .ok (.aload_n 1, 1) := dk_43 (dk_at dksX8_parts_0 0 rfl rfl)
theorem dX8_parts_1 : decode cX8_parts 1 = .ok (.getfield 16, 3) := dk_180 0 16 (dk_at dksX8_parts_0 1 rfl rfl)
theorem dX8_parts_4 : decode cX8_parts 4 = .ok (.aload_n 0, 1) := dk_42 (dk_at dksX8_parts_0 4 rfl rfl)
theorem dX8_parts_5 : decode cX8_parts 5 = .ok (.getfield 7, 3) := dk_180 0 7 (dk_at dksX8_parts_0 5 rfl rfl)
theorem dX8_parts_8 : decode cX8_parts 8 = .ok (.if_icmp .ge 7, 3) := dk_162 0 7 (dk_at dksX8_parts_0 8 rfl rfl)
theorem dX8_parts_11 : decode cX8_parts 11 = .ok (.iconst 1, 1) := dk_4 (dk_at dksX8_parts_0 11 rfl rfl)
theorem dX8_parts_12 : decode cX8_parts 12 = .ok (.goto 4, 3) := dk_167 0 4 (dk_at dksX8_parts_0 12 rfl rfl)
theorem dX8_parts_15 : decode cX8_parts 15 = .ok (.iconst 0, 1) := dk_3 (dk_at dksX8_parts_0 15 rfl rfl)
theorem dX8_parts_16 : decode cX8_parts 16 = .ok (.aload_n 2, 1) := dk_44 (dk_at dksX8_parts_0 16 rfl rfl)
theorem dX8_parts_17 : decode cX8_parts 17 = .ok (.getfield 16, 3) := dk_180 0 16 (dk_at dksX8_parts_0 17 rfl rfl)
theorem dX8_parts_20 : decode cX8_parts 20 = .ok (.aload_n 0, 1) := dk_42 (dk_at dksX8_parts_0 20 rfl rfl)
theorem dX8_parts_21 : decode cX8_parts 21 = .ok (.getfield 7, 3) := dk_180 0 7 (dk_at dksX8_parts_0 21 rfl rfl)
theorem dX8_parts_24 : decode cX8_parts 24 = .ok (.if_icmp .ge 7, 3) := dk_162 0 7 (dk_at dksX8_parts_1 0 rfl rfl)
theorem dX8_parts_27 : decode cX8_parts 27 = .ok (.iconst 1, 1) := dk_4 (dk_at dksX8_parts_1 3 rfl rfl)
theorem dX8_parts_28 : decode cX8_parts 28 = .ok (.goto 4, 3) := dk_167 0 4 (dk_at dksX8_parts_1 4 rfl rfl)
theorem dX8_parts_31 : decode cX8_parts 31 = .ok (.iconst 0, 1) := dk_3 (dk_at dksX8_parts_1 7 rfl rfl)
theorem dX8_parts_32 : decode cX8_parts 32 = .ok (.if_icmp .eq 7, 3) := dk_159 0 7 (dk_at dksX8_parts_1 8 rfl rfl)
theorem dX8_parts_35 : decode cX8_parts 35 = .ok (.iconst 1, 1) := dk_4 (dk_at dksX8_parts_1 11 rfl rfl)
theorem dX8_parts_36 : decode cX8_parts 36 = .ok (.goto 4, 3) := dk_167 0 4 (dk_at dksX8_parts_1 12 rfl rfl)
theorem dX8_parts_39 : decode cX8_parts 39 = .ok (.iconst 0, 1) := dk_3 (dk_at dksX8_parts_1 15 rfl rfl)
theorem dX8_parts_40 : decode cX8_parts 40 = .ok (.ireturn, 1) := dk_172 (dk_at dksX8_parts_1 16 rfl rfl)
abbrev cX8_init : ByteArray := prog_12_method_1_code
def yX8_init : MethodName := ⟨RX8, "<init>", "(II)V"⟩
def dkwX8_init_0 : List UInt8 := [42, 183, 0, 1, 42, 27, 181, 0, 7, 42, 28, 181, 0, 13, 177]
abbrev dktX8_init_0 : List UInt8 := dkwX8_init_0 ++ []
theorem dksX8_init_0 : cX8_init.data.toList.drop 0 = dktX8_init_0 := by decide +kernel
theorem dX8_init_0 : decode cX8_init 0 = .ok (.aload_n 0, 1) := dk_42 (dk_at dksX8_init_0 0 rfl rfl)
theorem dX8_init_1 : decode cX8_init 1 = .ok (.invokespecial 1, 3) := dk_183 0 1 (dk_at dksX8_init_0 1 rfl rfl)
theorem dX8_init_4 : decode cX8_init 4 = .ok (.aload_n 0, 1) := dk_42 (dk_at dksX8_init_0 4 rfl rfl)
theorem dX8_init_5 : decode cX8_init 5 = .ok (.iload_n 1, 1) := dk_27 (dk_at dksX8_init_0 5 rfl rfl)
theorem dX8_init_6 : decode cX8_init 6 = .ok (.putfield 7, 3) := dk_181 0 7 (dk_at dksX8_init_0 6 rfl rfl)
theorem dX8_init_9 : decode cX8_init 9 = .ok (.aload_n 0, 1) := dk_42 (dk_at dksX8_init_0 9 rfl rfl)
theorem dX8_init_10 : decode cX8_init 10 = .ok (.iload_n 2, 1) := dk_28 (dk_at dksX8_init_0 10 rfl rfl)
theorem dX8_init_11 : decode cX8_init 11 = .ok (.putfield 13, 3) := dk_181 0 13 (dk_at dksX8_init_0 11 rfl rfl)
theorem dX8_init_14 : decode cX8_init 14 = .ok (.return_, 1) := dk_177 (dk_at dksX8_init_0 14 rfl rfl)
theorem q179 : (Jvm.Cond.initialized "RideDesk$River") ∈ lw_all := lw_g (lw_at lw_m1 33 rfl) rfl
theorem q395 : (Jvm.Cond.instanceMethod ({ cls := "RideDesk$River", name := "parts", desc := "(LRideDesk$Spot;LRideDesk$Spot;)Z" } : Jvm.MethodName)) ∈ lw_all := lw_g (lw_at lw_m2 9 rfl) rfl
theorem q396 : (Jvm.Cond.selects "RideDesk$River" ({ cls := "RideDesk$River", name := "parts", desc := "(LRideDesk$Spot;LRideDesk$Spot;)Z" } : Jvm.MethodName) ({ cls := "RideDesk$River", name := "parts", desc := "(LRideDesk$Spot;LRideDesk$Spot;)Z" } : Jvm.MethodName)) ∈ lw_all := lw_g (lw_at lw_m2 10 rfl) rfl
theorem q397 : (Jvm.Cond.code ({ cls := "RideDesk$River", name := "parts", desc := "(LRideDesk$Spot;LRideDesk$Spot;)Z" } : Jvm.MethodName) prog_12_method_2_code (3 : Nat) (Option.some Jvm.ClassFile.FieldType.boolean)) ∈ lw_all := lw_g (lw_at lw_m2 11 rfl) rfl
theorem q1136 : (Jvm.Cond.instantiable "RideDesk$River" (2 : Nat)) ∈ lw_all := lw_g (lw_at lw_m5 30 rfl) rfl
theorem q1138 : (Jvm.Cond.instanceMethod ({ cls := "RideDesk$River", name := "<init>", desc := "(II)V" } : Jvm.MethodName)) ∈ lw_all := lw_g (lw_at lw_m5 32 rfl) rfl
theorem q1139 : (Jvm.Cond.code ({ cls := "RideDesk$River", name := "<init>", desc := "(II)V" } : Jvm.MethodName) prog_12_method_1_code (3 : Nat) (Option.none : Option Jvm.ClassFile.FieldType)) ∈ lw_all := lw_g (lw_at lw_m5 33 rfl) rfl
theorem q1140 : (Jvm.Cond.methodLink "RideDesk$River" (1 : Nat) ({ cls := "java/lang/Object", name := "<init>", desc := "()V" } : Jvm.MethodName)) ∈ lw_all := lw_g (lw_at lw_m5 34 rfl) rfl
theorem q1141 : (Jvm.Cond.fieldLink "RideDesk$River" (7 : Nat) "RideDesk$River" "x" "I") ∈ lw_all := lw_g (lw_at lw_m5 35 rfl) rfl
theorem q1143 : (Jvm.Cond.fieldLink "RideDesk$River" (13 : Nat) "RideDesk$River" "extra" "I") ∈ lw_all := lw_g (lw_at lw_m5 37 rfl) rfl
theorem q1145 : (Jvm.Cond.laysFinal "RideDesk$River" "RideDesk$River" "x" "I") ∈ lw_all := lw_g (lw_at lw_m5 39 rfl) rfl
theorem q1146 : (Jvm.Cond.soleField "RideDesk$River" "x") ∈ lw_all := lw_g (lw_at lw_m5 40 rfl) rfl
theorem q1147 : (Jvm.Cond.laysFinal "RideDesk$River" "RideDesk$River" "extra" "I") ∈ lw_all := lw_g (lw_at lw_m5 41 rfl) rfl
theorem q1148 : (Jvm.Cond.soleField "RideDesk$River" "extra") ∈ lw_all := lw_g (lw_at lw_m5 42 rfl) rfl
theorem q1149 : (Jvm.Cond.superclass "RideDesk$River" "java/lang/Object") ∈ lw_all := lw_g (lw_at lw_m5 43 rfl) rfl
theorem q1190 : (Jvm.Cond.selects "RideDesk$River" ({ cls := "java/lang/Object", name := "getClass", desc := "()Ljava/lang/Class;" } : Jvm.MethodName) ({ cls := "java/lang/Object", name := "getClass", desc := "()Ljava/lang/Class;" } : Jvm.MethodName)) ∈ lw_all := lw_g (lw_at lw_m5 84 rfl) rfl
theorem q1233 : (Jvm.Cond.fieldLink "RideDesk$River" (16 : Nat) "RideDesk$Spot" "x" "I") ∈ lw_all := lw_g (lw_at lw_m5 127 rfl) rfl
theorem q2906 : (Jvm.Cond.castable "RideDesk$River" "java/lang/Object") ∈ lw_tbl := lw_at lw_m12 120 rfl
theorem in_X8 : ∀ w ∈ wsX80, w ∈ lw_all := lw_in wsX80 [1145, 1147] (by decide +kernel) (by decide +kernel)

/-! RideDesk$Spot -/
set_option maxRecDepth 100000
def RX9 : String := "RideDesk$Spot"
def TX9 : u_T := fun k => match k with
  | 0 => ("RideDesk$Spot", "x", "I", true)
  | _ => ("RideDesk$Spot", "y", "I", true)
def tyX9 : Nat → FieldType := fun k => match k with
  | 0 => .int
  | _ => .int
abbrev wsX90 : List Cond := u_ws RX9 TX9 2
theorem nmX9 : ∀ a, a < 2 → ∀ b, b < 2 → a ≠ b → (TX9 a).2.1 ≠ (TX9 b).2.1 := by decide +kernel
theorem tyX9_ok : ∀ k, k < 2 → parseFieldDescriptor (TX9 k).2.2.1 = some (tyX9 k) := by decide +kernel
abbrev cX9_init : ByteArray := prog_16_method_1_code
def yX9_init : MethodName := ⟨RX9, "<init>", "(II)V"⟩
def dkwX9_init_0 : List UInt8 := [42, 183, 0, 3, 42, 27, 181, 0, 9, 42, 28, 181, 0, 15, 177]
abbrev dktX9_init_0 : List UInt8 := dkwX9_init_0 ++ []
theorem dksX9_init_0 : cX9_init.data.toList.drop 0 = dktX9_init_0 := by decide +kernel
theorem dX9_init_0 : decode cX9_init 0 = .ok (.aload_n 0, 1) := dk_42 (dk_at dksX9_init_0 0 rfl rfl)
theorem dX9_init_1 : decode cX9_init 1 = .ok (.invokespecial 3, 3) := dk_183 0 3 (dk_at dksX9_init_0 1 rfl rfl)
theorem dX9_init_4 : decode cX9_init 4 = .ok (.aload_n 0, 1) := dk_42 (dk_at dksX9_init_0 4 rfl rfl)
theorem dX9_init_5 : decode cX9_init 5 = .ok (.iload_n 1, 1) := dk_27 (dk_at dksX9_init_0 5 rfl rfl)
theorem dX9_init_6 : decode cX9_init 6 = .ok (.putfield 9, 3) := dk_181 0 9 (dk_at dksX9_init_0 6 rfl rfl)
theorem dX9_init_9 : decode cX9_init 9 = .ok (.aload_n 0, 1) := dk_42 (dk_at dksX9_init_0 9 rfl rfl)
theorem dX9_init_10 : decode cX9_init 10 = .ok (.iload_n 2, 1) := dk_28 (dk_at dksX9_init_0 10 rfl rfl)
theorem dX9_init_11 : decode cX9_init 11 = .ok (.putfield 15, 3) := dk_181 0 15 (dk_at dksX9_init_0 11 rfl rfl)
theorem dX9_init_14 : decode cX9_init 14 = .ok (.return_, 1) := dk_177 (dk_at dksX9_init_0 14 rfl rfl)
abbrev cX9_isRight : ByteArray := prog_16_method_2_code
def yX9_isRight : MethodName := ⟨RX9, "isRight", "([I)Z"⟩
def dkwX9_isRight_1 : List UInt8 := [21, 5, 3, 16, 99, 184, 0, 18, 126, 60, 132, 4, 1, 167, 255, 230, 27, 172]
abbrev dktX9_isRight_1 : List UInt8 := dkwX9_isRight_1 ++ []
def dkwX9_isRight_0 : List UInt8 := [4, 60, 42, 77, 44, 190, 62, 3, 54, 4, 21, 4, 29, 162, 0, 26, 44, 21, 4, 46, 54, 5, 27]
abbrev dktX9_isRight_0 : List UInt8 := dkwX9_isRight_0 ++ dktX9_isRight_1
theorem dksX9_isRight_0 : cX9_isRight.data.toList.drop 0 = dktX9_isRight_0 := by decide +kernel
theorem dksX9_isRight_1 : cX9_isRight.data.toList.drop 23 = dktX9_isRight_1 := dk_seg dksX9_isRight_0 23 rfl rfl
theorem dX9_isRight_0 : decode cX9_isRight 0 = .ok (.iconst 1, 1) := dk_4 (dk_at dksX9_isRight_0 0 rfl rfl)
theorem dX9_isRight_1 : decode cX9_isRight 1 = .ok (.istore_n 1, 1) := dk_60 (dk_at dksX9_isRight_0 1 rfl rfl)
theorem dX9_isRight_2 : decode cX9_isRight 2 = .ok (.aload_n 0, 1) := dk_42 (dk_at dksX9_isRight_0 2 rfl rfl)
theorem dX9_isRight_3 : decode cX9_isRight 3 = .ok (.astore_n 2, 1) := dk_77 (dk_at dksX9_isRight_0 3 rfl rfl)
theorem dX9_isRight_4 : decode cX9_isRight 4 = .ok (.aload_n 2, 1) := dk_44 (dk_at dksX9_isRight_0 4 rfl rfl)
theorem dX9_isRight_5 : decode cX9_isRight 5 = .ok (.arraylength, 1) := dk_190 (dk_at dksX9_isRight_0 5 rfl rfl)
theorem dX9_isRight_6 : decode cX9_isRight 6 = .ok (.istore_n 3, 1) := dk_62 (dk_at dksX9_isRight_0 6 rfl rfl)
theorem dX9_isRight_7 : decode cX9_isRight 7 = .ok (.iconst 0, 1) := dk_3 (dk_at dksX9_isRight_0 7 rfl rfl)
theorem dX9_isRight_8 : decode cX9_isRight 8 = .ok (.istore 4, 2) := dk_54 4 (dk_at dksX9_isRight_0 8 rfl rfl)
theorem dX9_isRight_10 : decode cX9_isRight 10 = .ok (.iload 4, 2) := dk_21 4 (dk_at dksX9_isRight_0 10 rfl rfl)
theorem dX9_isRight_12 : decode cX9_isRight 12 = .ok (.iload_n 3, 1) := dk_29 (dk_at dksX9_isRight_0 12 rfl rfl)
theorem dX9_isRight_13 : decode cX9_isRight 13 = .ok (.if_icmp .ge 26, 3) := dk_162 0 26 (dk_at dksX9_isRight_0 13 rfl rfl)
theorem dX9_isRight_16 : decode cX9_isRight 16 = .ok (.aload_n 2, 1) := dk_44 (dk_at dksX9_isRight_0 16 rfl rfl)
theorem dX9_isRight_17 : decode cX9_isRight 17 = .ok (.iload 4, 2) := dk_21 4 (dk_at dksX9_isRight_0 17 rfl rfl)
theorem dX9_isRight_19 : decode cX9_isRight 19 = .ok (.iaload, 1) := dk_46 (dk_at dksX9_isRight_0 19 rfl rfl)
theorem dX9_isRight_20 : decode cX9_isRight 20 = .ok (.istore 5, 2) := dk_54 5 (dk_at dksX9_isRight_0 20 rfl rfl)
theorem dX9_isRight_22 : decode cX9_isRight 22 = .ok (.iload_n 1, 1) := dk_27 (dk_at dksX9_isRight_0 22 rfl rfl)
theorem dX9_isRight_23 : decode cX9_isRight 23 = .ok (.iload 5, 2) := dk_21 5 (dk_at dksX9_isRight_1 0 rfl rfl)
theorem dX9_isRight_25 : decode cX9_isRight 25 = .ok (.iconst 0, 1) := dk_3 (dk_at dksX9_isRight_1 2 rfl rfl)
theorem dX9_isRight_26 : decode cX9_isRight 26 = .ok (.bipush 99, 2) := dk_16 99 (dk_at dksX9_isRight_1 3 rfl rfl)
theorem dX9_isRight_28 : decode cX9_isRight 28 = .ok (.invokestatic 18, 3) := dk_184 0 18 (dk_at dksX9_isRight_1 5 rfl rfl)
theorem dX9_isRight_31 : decode cX9_isRight 31 = .ok (.iand, 1) := dk_126 (dk_at dksX9_isRight_1 8 rfl rfl)
theorem dX9_isRight_32 : decode cX9_isRight 32 = .ok (.istore_n 1, 1) := dk_60 (dk_at dksX9_isRight_1 9 rfl rfl)
theorem dX9_isRight_33 : decode cX9_isRight 33 = .ok (.iinc 4 1, 3) := dk_132 4 1 (dk_at dksX9_isRight_1 10 rfl rfl)
theorem dX9_isRight_36 : decode cX9_isRight 36 = .ok (.goto (-26), 3) := dk_167 255 230 (dk_at dksX9_isRight_1 13 rfl rfl)
theorem dX9_isRight_39 : decode cX9_isRight 39 = .ok (.iload_n 1, 1) := dk_27 (dk_at dksX9_isRight_1 16 rfl rfl)
theorem dX9_isRight_40 : decode cX9_isRight 40 = .ok (.ireturn, 1) := dk_172 (dk_at dksX9_isRight_1 17 rfl rfl)
theorem q180 : (Jvm.Cond.initialized "RideDesk$Spot") ∈ lw_all := lw_g (lw_at lw_m1 34 rfl) rfl
theorem q1194 : (Jvm.Cond.selects "RideDesk$Spot" ({ cls := "java/lang/Object", name := "getClass", desc := "()Ljava/lang/Class;" } : Jvm.MethodName) ({ cls := "java/lang/Object", name := "getClass", desc := "()Ljava/lang/Class;" } : Jvm.MethodName)) ∈ lw_all := lw_g (lw_at lw_m5 88 rfl) rfl
theorem q1225 : (Jvm.Cond.instantiable "RideDesk$Spot" (2 : Nat)) ∈ lw_all := lw_g (lw_at lw_m5 119 rfl) rfl
theorem q1227 : (Jvm.Cond.instanceMethod ({ cls := "RideDesk$Spot", name := "<init>", desc := "(II)V" } : Jvm.MethodName)) ∈ lw_all := lw_g (lw_at lw_m5 121 rfl) rfl
theorem q1228 : (Jvm.Cond.code ({ cls := "RideDesk$Spot", name := "<init>", desc := "(II)V" } : Jvm.MethodName) prog_16_method_1_code (3 : Nat) (Option.none : Option Jvm.ClassFile.FieldType)) ∈ lw_all := lw_g (lw_at lw_m5 122 rfl) rfl
theorem q1229 : (Jvm.Cond.methodLink "RideDesk$Spot" (3 : Nat) ({ cls := "java/lang/Object", name := "<init>", desc := "()V" } : Jvm.MethodName)) ∈ lw_all := lw_g (lw_at lw_m5 123 rfl) rfl
theorem q1231 : (Jvm.Cond.fieldLink "RideDesk$Spot" (9 : Nat) "RideDesk$Spot" "x" "I") ∈ lw_all := lw_g (lw_at lw_m5 125 rfl) rfl
theorem q1235 : (Jvm.Cond.fieldLink "RideDesk$Spot" (15 : Nat) "RideDesk$Spot" "y" "I") ∈ lw_all := lw_g (lw_at lw_m5 129 rfl) rfl
theorem q1237 : (Jvm.Cond.laysFinal "RideDesk$Spot" "RideDesk$Spot" "x" "I") ∈ lw_all := lw_g (lw_at lw_m5 131 rfl) rfl
theorem q1238 : (Jvm.Cond.soleField "RideDesk$Spot" "x") ∈ lw_all := lw_g (lw_at lw_m5 132 rfl) rfl
theorem q1239 : (Jvm.Cond.laysFinal "RideDesk$Spot" "RideDesk$Spot" "y" "I") ∈ lw_all := lw_g (lw_at lw_m5 133 rfl) rfl
theorem q1240 : (Jvm.Cond.soleField "RideDesk$Spot" "y") ∈ lw_all := lw_g (lw_at lw_m5 134 rfl) rfl
theorem q1241 : (Jvm.Cond.superclass "RideDesk$Spot" "java/lang/Object") ∈ lw_all := lw_g (lw_at lw_m5 135 rfl) rfl
theorem q1580 : (Jvm.Cond.static ({ cls := "RideDesk$Spot", name := "isRight", desc := "([I)Z" } : Jvm.MethodName)) ∈ lw_all := lw_g (lw_at lw_m6 234 rfl) rfl
theorem q1581 : (Jvm.Cond.code ({ cls := "RideDesk$Spot", name := "isRight", desc := "([I)Z" } : Jvm.MethodName) prog_16_method_2_code (6 : Nat) (Option.some Jvm.ClassFile.FieldType.boolean)) ∈ lw_all := lw_g (lw_at lw_m6 235 rfl) rfl
theorem q1582 : (Jvm.Cond.methodLinkNest "RideDesk$Spot" (18 : Nat) ({ cls := "RideDesk", name := "in", desc := "(III)Z" } : Jvm.MethodName) "RideDesk") ∈ lw_tbl := lw_at lw_m6 236 rfl
theorem q2907 : (Jvm.Cond.castable "RideDesk$Spot" "java/lang/Object") ∈ lw_tbl := lw_at lw_m12 121 rfl
theorem in_X9 : ∀ w ∈ wsX90, w ∈ lw_all := lw_in wsX90 [1237, 1239] (by decide +kernel) (by decide +kernel)

theorem q1931 : (Jvm.Cond.interfaceMethod "RideDesk$Test" "RideDesk$Test" "isGood" "(I)Z") ∈ lw_tbl := lw_at lw_m8 105 rfl
set_option maxRecDepth 100000
theorem q1932 : (Jvm.Cond.declares ({ cls := "RideDesk$Test", name := "isGood", desc := "(I)Z" } : Jvm.MethodName)) ∈ lw_tbl := lw_at lw_m8 106 rfl

theorem q160 : (Jvm.Cond.initialized "RideDesk$Token") ∈ lw_all := lw_g (lw_at lw_m1 14 rfl) rfl
set_option maxRecDepth 100000
theorem q544 : (Jvm.Cond.laysStatic "RideDesk$Token" "INVALID" "LRideDesk$Token;") ∈ lw_tbl := lw_at lw_m2 158 rfl
theorem q935 : (Jvm.Cond.laysStatic "RideDesk$Token" "END" "LRideDesk$Token;") ∈ lw_tbl := lw_at lw_m4 69 rfl
theorem q967 : (Jvm.Cond.laysStatic "RideDesk$Token" "WORD" "LRideDesk$Token;") ∈ lw_tbl := lw_at lw_m4 101 rfl
theorem q973 : (Jvm.Cond.laysStatic "RideDesk$Token" "NUMBER" "LRideDesk$Token;") ∈ lw_tbl := lw_at lw_m4 107 rfl
theorem q975 : (Jvm.Cond.laysStatic "RideDesk$Token" "SEMICOLON" "LRideDesk$Token;") ∈ lw_tbl := lw_at lw_m4 109 rfl
theorem q1196 : (Jvm.Cond.selects "RideDesk$Token" ({ cls := "java/lang/Object", name := "getClass", desc := "()Ljava/lang/Class;" } : Jvm.MethodName) ({ cls := "java/lang/Object", name := "getClass", desc := "()Ljava/lang/Class;" } : Jvm.MethodName)) ∈ lw_all := lw_g (lw_at lw_m5 90 rfl) rfl
theorem q2897 : (Jvm.Cond.castable "RideDesk$Token" "java/lang/Object") ∈ lw_tbl := lw_at lw_m12 111 rfl

theorem q674 : (Jvm.Cond.sameMethod "[B" "java/lang/Object" "clone" "()Ljava/lang/Object;") ∈ lw_all := lw_g (lw_at lw_m3 48 rfl) rfl
set_option maxRecDepth 100000
theorem q677 : (Jvm.Cond.selects "[B" ({ cls := "[B", name := "clone", desc := "()Ljava/lang/Object;" } : Jvm.MethodName) ({ cls := "java/lang/Object", name := "clone", desc := "()Ljava/lang/Object;" } : Jvm.MethodName)) ∈ lw_all := lw_g (lw_at lw_m3 51 rfl) rfl
theorem q678 : (Jvm.Cond.castable "[B" "java/lang/Cloneable") ∈ lw_tbl := lw_at lw_m3 52 rfl
theorem q2928 : (Jvm.Cond.castable "[B" "java/lang/Object") ∈ lw_tbl := lw_at lw_m12 142 rfl

theorem q2934 : (Jvm.Cond.castable "[D" "java/lang/Object") ∈ lw_tbl := lw_at lw_m12 148 rfl
set_option maxRecDepth 100000

theorem q2927 : (Jvm.Cond.castable "[I" "java/lang/Object") ∈ lw_tbl := lw_at lw_m12 141 rfl
set_option maxRecDepth 100000

theorem q2933 : (Jvm.Cond.castable "[J" "java/lang/Object") ∈ lw_tbl := lw_at lw_m12 147 rfl
set_option maxRecDepth 100000

theorem q2930 : (Jvm.Cond.castable "[LRideDesk$Call;" "java/lang/Object") ∈ lw_tbl := lw_at lw_m12 144 rfl
set_option maxRecDepth 100000

theorem q1864 : (Jvm.Cond.sameMethod "[LRideDesk$Kind;" "java/lang/Object" "clone" "()Ljava/lang/Object;") ∈ lw_all := lw_g (lw_at lw_m8 38 rfl) rfl
set_option maxRecDepth 100000
theorem q1865 : (Jvm.Cond.selects "[LRideDesk$Kind;" ({ cls := "[LRideDesk$Kind;", name := "clone", desc := "()Ljava/lang/Object;" } : Jvm.MethodName) ({ cls := "java/lang/Object", name := "clone", desc := "()Ljava/lang/Object;" } : Jvm.MethodName)) ∈ lw_all := lw_g (lw_at lw_m8 39 rfl) rfl
theorem q1866 : (Jvm.Cond.castable "[LRideDesk$Kind;" "java/lang/Cloneable") ∈ lw_tbl := lw_at lw_m8 40 rfl
theorem q2931 : (Jvm.Cond.castable "[LRideDesk$Kind;" "java/lang/Object") ∈ lw_tbl := lw_at lw_m12 145 rfl

theorem q2929 : (Jvm.Cond.castable "[LRideDesk$Route;" "java/lang/Object") ∈ lw_tbl := lw_at lw_m12 143 rfl
set_option maxRecDepth 100000

theorem q2925 : (Jvm.Cond.castable "[LRideDesk$State;" "java/lang/Object") ∈ lw_tbl := lw_at lw_m12 139 rfl
set_option maxRecDepth 100000

theorem q2926 : (Jvm.Cond.castable "[LRideDesk$Stop;" "java/lang/Object") ∈ lw_tbl := lw_at lw_m12 140 rfl
set_option maxRecDepth 100000

theorem q2921 : (Jvm.Cond.sameMethod "[Ljava/lang/Object;" "java/lang/Object" "getClass" "()Ljava/lang/Class;") ∈ lw_all := lw_g (lw_at lw_m12 135 rfl) rfl
set_option maxRecDepth 100000
theorem q2922 : (Jvm.Cond.selects "[Ljava/lang/Object;" ({ cls := "java/lang/Object", name := "getClass", desc := "()Ljava/lang/Class;" } : Jvm.MethodName) ({ cls := "java/lang/Object", name := "getClass", desc := "()Ljava/lang/Class;" } : Jvm.MethodName)) ∈ lw_all := lw_g (lw_at lw_m12 136 rfl) rfl
theorem q2924 : (Jvm.Cond.castable "[Ljava/lang/Object;" "java/lang/Object") ∈ lw_tbl := lw_at lw_m12 138 rfl

theorem q2932 : (Jvm.Cond.castable "[Z" "java/lang/Object") ∈ lw_tbl := lw_at lw_m12 146 rfl
set_option maxRecDepth 100000

theorem q159 : (Jvm.Cond.initialized "java/lang/Enum") ∈ lw_all := lw_g (lw_at lw_m1 13 rfl) rfl
set_option maxRecDepth 100000

theorem q175 : (Jvm.Cond.initialized "java/lang/Number") ∈ lw_all := lw_g (lw_at lw_m1 29 rfl) rfl
set_option maxRecDepth 100000

theorem q172 : (Jvm.Cond.initialized "java/lang/System") ∈ lw_all := lw_g (lw_at lw_m1 26 rfl) rfl
set_option maxRecDepth 100000
theorem q684 : (Jvm.Cond.static ({ cls := "java/lang/System", name := "arraycopy", desc := "(Ljava/lang/Object;ILjava/lang/Object;II)V" } : Jvm.MethodName)) ∈ lw_all := lw_g (lw_at lw_m3 58 rfl) rfl
theorem q685 : (Jvm.Cond.native ({ cls := "java/lang/System", name := "arraycopy", desc := "(Ljava/lang/Object;ILjava/lang/Object;II)V" } : Jvm.MethodName)) ∈ lw_all := lw_g (lw_at lw_m3 59 rfl) rfl

theorem q1519 : (Jvm.Cond.publicMethod ({ cls := "java/util/Collection", name := "clear", desc := "()V" } : Jvm.MethodName)) ∈ lw_tbl := lw_at lw_m6 173 rfl
set_option maxRecDepth 100000
theorem q1520 : (Jvm.Cond.declares ({ cls := "java/util/Collection", name := "clear", desc := "()V" } : Jvm.MethodName)) ∈ lw_tbl := lw_at lw_m6 174 rfl
theorem q2131 : (Jvm.Cond.publicMethod ({ cls := "java/util/Collection", name := "isEmpty", desc := "()Z" } : Jvm.MethodName)) ∈ lw_tbl := lw_at lw_m9 65 rfl
theorem q2132 : (Jvm.Cond.declares ({ cls := "java/util/Collection", name := "isEmpty", desc := "()Z" } : Jvm.MethodName)) ∈ lw_tbl := lw_at lw_m9 66 rfl

theorem q412 : (Jvm.Cond.interfaceMethod "java/util/Deque" "java/util/Deque" "size" "()I") ∈ lw_tbl := lw_at lw_m2 26 rfl
set_option maxRecDepth 100000
theorem q413 : (Jvm.Cond.declares ({ cls := "java/util/Deque", name := "size", desc := "()I" } : Jvm.MethodName)) ∈ lw_tbl := lw_at lw_m2 27 rfl
theorem q2034 : (Jvm.Cond.interfaceMethod "java/util/Deque" "java/util/Deque" "removeFirst" "()Ljava/lang/Object;") ∈ lw_tbl := lw_at lw_m8 208 rfl
theorem q2035 : (Jvm.Cond.declares ({ cls := "java/util/Deque", name := "removeFirst", desc := "()Ljava/lang/Object;" } : Jvm.MethodName)) ∈ lw_tbl := lw_at lw_m8 209 rfl
theorem q2053 : (Jvm.Cond.interfaceMethod "java/util/Deque" "java/util/Deque" "addLast" "(Ljava/lang/Object;)V") ∈ lw_tbl := lw_at lw_m8 227 rfl
theorem q2054 : (Jvm.Cond.declares ({ cls := "java/util/Deque", name := "addLast", desc := "(Ljava/lang/Object;)V" } : Jvm.MethodName)) ∈ lw_tbl := lw_at lw_m8 228 rfl
theorem q2140 : (Jvm.Cond.interfaceMethod "java/util/Deque" "java/util/Deque" "removeLast" "()Ljava/lang/Object;") ∈ lw_tbl := lw_at lw_m9 74 rfl
theorem q2141 : (Jvm.Cond.declares ({ cls := "java/util/Deque", name := "removeLast", desc := "()Ljava/lang/Object;" } : Jvm.MethodName)) ∈ lw_tbl := lw_at lw_m9 75 rfl

theorem q1806 : (Jvm.Cond.interfaceMethod "java/util/Iterator" "java/util/Iterator" "hasNext" "()Z") ∈ lw_tbl := lw_at lw_m7 220 rfl
set_option maxRecDepth 100000
theorem q1807 : (Jvm.Cond.declares ({ cls := "java/util/Iterator", name := "hasNext", desc := "()Z" } : Jvm.MethodName)) ∈ lw_tbl := lw_at lw_m7 221 rfl
theorem q1816 : (Jvm.Cond.interfaceMethod "java/util/Iterator" "java/util/Iterator" "next" "()Ljava/lang/Object;") ∈ lw_tbl := lw_at lw_m7 230 rfl
theorem q1817 : (Jvm.Cond.declares ({ cls := "java/util/Iterator", name := "next", desc := "()Ljava/lang/Object;" } : Jvm.MethodName)) ∈ lw_tbl := lw_at lw_m7 231 rfl

theorem q330 : (Jvm.Cond.interfaceMethod "java/util/List" "java/util/List" "size" "()I") ∈ lw_tbl := lw_at lw_m1 184 rfl
set_option maxRecDepth 100000
theorem q331 : (Jvm.Cond.declares ({ cls := "java/util/List", name := "size", desc := "()I" } : Jvm.MethodName)) ∈ lw_tbl := lw_at lw_m1 185 rfl
theorem q364 : (Jvm.Cond.interfaceMethod "java/util/List" "java/util/List" "get" "(I)Ljava/lang/Object;") ∈ lw_tbl := lw_at lw_m1 218 rfl
theorem q365 : (Jvm.Cond.declares ({ cls := "java/util/List", name := "get", desc := "(I)Ljava/lang/Object;" } : Jvm.MethodName)) ∈ lw_tbl := lw_at lw_m1 219 rfl
theorem q1122 : (Jvm.Cond.interfaceMethod "java/util/List" "java/util/List" "isEmpty" "()Z") ∈ lw_tbl := lw_at lw_m5 16 rfl
theorem q1123 : (Jvm.Cond.declares ({ cls := "java/util/List", name := "isEmpty", desc := "()Z" } : Jvm.MethodName)) ∈ lw_tbl := lw_at lw_m5 17 rfl
theorem q1152 : (Jvm.Cond.interfaceMethod "java/util/List" "java/util/List" "add" "(Ljava/lang/Object;)Z") ∈ lw_tbl := lw_at lw_m5 46 rfl
theorem q1153 : (Jvm.Cond.declares ({ cls := "java/util/List", name := "add", desc := "(Ljava/lang/Object;)Z" } : Jvm.MethodName)) ∈ lw_tbl := lw_at lw_m5 47 rfl

theorem q1075 : (Jvm.Cond.interfaceMethod "jdk/internal/access/JavaLangAccess" "jdk/internal/access/JavaLangAccess" "getUTF16Char" "([BI)C") ∈ lw_tbl := lw_at lw_m4 209 rfl
set_option maxRecDepth 100000
theorem q1076 : (Jvm.Cond.declares ({ cls := "jdk/internal/access/JavaLangAccess", name := "getUTF16Char", desc := "([BI)C" } : Jvm.MethodName)) ∈ lw_tbl := lw_at lw_m4 210 rfl

theorem q211 : (Jvm.Cond.arrayOver (Jvm.ClassFile.FieldType.object "java/lang/Object")) ∈ lw_tbl := lw_at lw_m1 65 rfl
set_option maxRecDepth 100000
theorem q223 : (Jvm.Cond.arrayOver (Jvm.ClassFile.FieldType.object "RideDesk$State")) ∈ lw_tbl := lw_at lw_m1 77 rfl
theorem q231 : (Jvm.Cond.arrayOver (Jvm.ClassFile.FieldType.object "RideDesk$Stop")) ∈ lw_tbl := lw_at lw_m1 85 rfl
theorem q251 : (Jvm.Cond.arrayClass Jvm.ClassFile.FieldType.int) ∈ lw_all := lw_g (lw_at lw_m1 105 rfl) rfl
theorem q307 : (Jvm.Cond.arrayClass Jvm.ClassFile.FieldType.byte) ∈ lw_all := lw_g (lw_at lw_m1 161 rfl) rfl
theorem q1341 : (Jvm.Cond.arrayOver (Jvm.ClassFile.FieldType.object "RideDesk$Route")) ∈ lw_tbl := lw_at lw_m5 235 rfl
theorem q1343 : (Jvm.Cond.arrayOver (Jvm.ClassFile.FieldType.object "RideDesk$Call")) ∈ lw_tbl := lw_at lw_m5 237 rfl
theorem q1867 : (Jvm.Cond.arrayOver (Jvm.ClassFile.FieldType.object "RideDesk$Kind")) ∈ lw_tbl := lw_at lw_m8 41 rfl
theorem q2283 : (Jvm.Cond.arrayClass Jvm.ClassFile.FieldType.boolean) ∈ lw_all := lw_g (lw_at lw_m9 217 rfl) rfl
theorem q2867 : (Jvm.Cond.arrayClass Jvm.ClassFile.FieldType.long) ∈ lw_all := lw_g (lw_at lw_m12 81 rfl) rfl
theorem q2868 : (Jvm.Cond.arrayClass Jvm.ClassFile.FieldType.double) ∈ lw_all := lw_g (lw_at lw_m12 82 rfl) rfl
theorem q2935 : (Jvm.Cond.arrayClass Jvm.ClassFile.FieldType.char) ∈ lw_all := lw_g (lw_at lw_m12 149 rfl) rfl
theorem q2936 : (Jvm.Cond.arrayClass Jvm.ClassFile.FieldType.short) ∈ lw_all := lw_g (lw_at lw_m12 150 rfl) rfl

