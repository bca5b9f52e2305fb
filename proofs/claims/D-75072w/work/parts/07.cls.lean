/-! ===== the classes, fields, array types, words of the tables that ride along ===== -/
set_option maxRecDepth 100000
def TKind : u_T := fun k => match k with
  | 0 => ("RideDesk$Kind", "seats", "I", true)
  | _ => ("RideDesk$Kind", "wheels", "I", true)
abbrev NNEW : Nat := 22
def CL : List vw_C := [(RX3, TX3, 36), (RX1, TX1, 17), (RX2, TX2, 4), (RX4, TX4, 10), (RX5, TX5, 3), (RX6, TX6, 7), (RX7, TX7, 8), (RX8, TX8, 2), (RX9, TX9, 2), (RX10, TX10, 6), (RX12, TX12, 5), (RX14, TX14, 9), (RX16, TX16, 2), (RX17, TX17, 2), (RX18, TX18, 2), (RJ1, TJ1, 3), (RJ9, TJ9, 3), (RJ12, TJ12, 4), (RJ7, TJ7, 4), (RJ5, TJ5, 0), (RJ10, TJ10, 0), (RJ21, TJ21, 0), (RX19, TKind, 2), (RX20, TKind, 2), (RX13, TKind, 2)]
def FLDL : List (List Nat) := [[0, 1, 2, 3, 4, 5, 6, 7, 8, 9, 10, 11, 12, 13, 14, 15, 16, 17, 18, 19, 20, 21, 22, 23, 24, 25, 26, 27, 28, 29, 30, 31, 32, 33, 34, 35], [100, 101, 102, 103, 104, 105, 106, 107, 108, 109, 110, 111, 112, 113, 114, 115, 116], [200, 201, 202, 203], [300, 301, 302, 303, 304, 305, 306, 307, 308, 309], [400, 401, 402], [500, 501, 502, 503, 504, 505, 506], [600, 601, 602, 603, 604, 605, 700, 701], [800, 801], [900, 901], [900, 901, 1000, 1001, 1002, 1003], [1100, 1101, 1102, 1103, 1104], [1200, 1201, 1202, 1203, 1204, 1205, 1206, 1207, 1208], [1300, 1301], [1300, 1301], [1400, 1401], [1500, 1501, 1502], [1600, 1700, 1701], [1800, 1801, 1802, 1803], [1900, 1901, 1902, 1903], [], [], [], [2000, 2001], [2000, 2001], [2000, 2001]]
def FLD (ci k : Nat) : Nat := (FLDL.getD ci []).getD k 0
def ATY : List FieldType := [.int, .byte, .boolean, .long, .double, .object "RideDesk$Stop", .object "RideDesk$Route", .object "RideDesk$Call", .object "RideDesk$State", .object "java/lang/Object", .object "RideDesk$Kind"]
def XWF : List (String × Nat × String × String × String × String) := [("RideDesk", 3, "RideDesk$Route", "size", "I", "RideDesk"), ("RideDesk", 19, "RideDesk$Plan", "vans", "Ljava/util/List;", "RideDesk"), ("RideDesk", 33, "RideDesk$Route", "stops", "[LRideDesk$Stop;", "RideDesk"), ("RideDesk", 51, "RideDesk$Route", "begin", "[I", "RideDesk"), ("RideDesk", 55, "RideDesk$State", "calls", "[LRideDesk$Call;", "RideDesk"), ("RideDesk", 64, "RideDesk$Call", "service", "I", "RideDesk"), ("RideDesk", 69, "RideDesk$Route", "departure", "[I", "RideDesk"), ("RideDesk", 72, "RideDesk$State", "clock", "I", "RideDesk"), ("RideDesk", 85, "RideDesk$Van", "from", "I", "RideDesk"), ("RideDesk", 105, "RideDesk$Van", "seats", "I", "RideDesk"), ("RideDesk", 108, "RideDesk$Van", "wheels", "I", "RideDesk"), ("RideDesk", 111, "RideDesk$Call", "kind", "LRideDesk$Kind;", "RideDesk"), ("RideDesk", 135, "RideDesk$State", "until", "[I", "RideDesk"), ("RideDesk", 138, "RideDesk$State", "ready", "[I", "RideDesk"), ("RideDesk", 141, "RideDesk$Plan", "rules", "LRideDesk$Rules;", "RideDesk"), ("RideDesk", 145, "RideDesk$Rules", "window", "I", "RideDesk"), ("RideDesk", 150, "RideDesk$Call", "limit", "I", "RideDesk"), ("RideDesk", 156, "RideDesk$State", "routes", "[LRideDesk$Route;", "RideDesk"), ("RideDesk", 168, "RideDesk$Call", "home", "LRideDesk$Spot;", "RideDesk"), ("RideDesk", 177, "RideDesk$Call", "goal", "LRideDesk$Spot;", "RideDesk"), ("RideDesk", 232, "RideDesk$State", "state", "[I", "RideDesk"), ("RideDesk", 235, "RideDesk$State", "callCount", "I", "RideDesk"), ("RideDesk", 238, "RideDesk$State", "promise", "[I", "RideDesk"), ("RideDesk", 241, "RideDesk$State", "credit", "[I", "RideDesk"), ("RideDesk", 277, "RideDesk$Rules", "rate", "I", "RideDesk"), ("RideDesk", 357, "RideDesk$FormatException", "kind", "I", "RideDesk"), ("RideDesk", 359, "RideDesk$FormatException", "position", "I", "RideDesk"), ("RideDesk", 456, "RideDesk$Rules", "grace", "I", "RideDesk"), ("RideDesk$Call", 20, "RideDesk$Plan", "rules", "LRideDesk$Rules;", "RideDesk"), ("RideDesk$Call", 26, "RideDesk$Rules", "base", "I", "RideDesk"), ("RideDesk$Call", 36, "RideDesk$Rules", "factor", "I", "RideDesk"), ("RideDesk$Drop", 9, "RideDesk$State", "state", "[I", "RideDesk"), ("RideDesk$Kind$1", 7, "RideDesk$Rules", "board", "I", "RideDesk"), ("RideDesk$Kind$2", 7, "RideDesk$Rules", "lift", "I", "RideDesk"), ("RideDesk$Parser", 54, "RideDesk", "buffer", "[B", "RideDesk"), ("RideDesk$Parser", 145, "RideDesk$Plan", "rules", "LRideDesk$Rules;", "RideDesk"), ("RideDesk$Parser", 157, "RideDesk$Rules", "window", "I", "RideDesk"), ("RideDesk$Parser", 163, "RideDesk$Rules", "base", "I", "RideDesk"), ("RideDesk$Parser", 166, "RideDesk$Rules", "factor", "I", "RideDesk"), ("RideDesk$Parser", 171, "RideDesk$Rules", "board", "I", "RideDesk"), ("RideDesk$Parser", 173, "RideDesk$Rules", "lift", "I", "RideDesk"), ("RideDesk$Parser", 178, "RideDesk$Rules", "grace", "I", "RideDesk"), ("RideDesk$Parser", 182, "RideDesk$Rules", "rate", "I", "RideDesk"), ("RideDesk$Parser", 184, "RideDesk$Plan", "rivers", "Ljava/util/List;", "RideDesk"), ("RideDesk$Parser", 206, "RideDesk$River", "x", "I", "RideDesk"), ("RideDesk$Parser", 213, "RideDesk$Plan", "vans", "Ljava/util/List;", "RideDesk"), ("RideDesk$Parser", 279, "RideDesk", "plan", "LRideDesk$Plan;", "RideDesk"), ("RideDesk$Parser", 288, "RideDesk", "now", "LRideDesk$State;", "RideDesk"), ("RideDesk$Pickup", 9, "RideDesk$State", "ready", "[I", "RideDesk"), ("RideDesk$Pickup", 31, "RideDesk$State", "state", "[I", "RideDesk"), ("RideDesk$Plan", 61, "RideDesk$River", "extra", "I", "RideDesk"), ("RideDesk$Route$1", 17, "RideDesk$Route", "size", "I", "RideDesk"), ("RideDesk$Route$1", 25, "RideDesk$Route", "stops", "[LRideDesk$Stop;", "RideDesk"), ("RideDesk$State", 58, "RideDesk$Plan", "vans", "Ljava/util/List;", "RideDesk"), ("RideDesk$State", 76, "RideDesk$Van", "until", "I", "RideDesk")]
def XWM : List (String × Nat × MethodName × String) := [("RideDesk", 308, ⟨"RideDesk$Route", "<init>", "()V"⟩, "RideDesk"), ("RideDesk$Parser", 32, ⟨"RideDesk$Plan", "<init>", "()V"⟩, "RideDesk"), ("RideDesk$Parser", 62, ⟨"RideDesk", "in", "(III)Z"⟩, "RideDesk"), ("RideDesk$Parser", 292, ⟨"RideDesk", "adds", "(LRideDesk$State;LRideDesk$Call;I)I"⟩, "RideDesk"), ("RideDesk$Plan", 11, ⟨"RideDesk$Rules", "<init>", "()V"⟩, "RideDesk"), ("RideDesk$Spot", 18, ⟨"RideDesk", "in", "(III)Z"⟩, "RideDesk"), ("RideDesk$State", 57, ⟨"RideDesk$Route", "<init>", "()V"⟩, "RideDesk")]
def XWC : List (String × String) := [("RideDesk", "java/lang/Object"), ("RideDesk$Call", "java/lang/Object"), ("RideDesk$Drop", "RideDesk$Stop"), ("RideDesk$Drop", "java/lang/Object"), ("RideDesk$FormatException", "RideDesk$FormatException"), ("RideDesk$FormatException", "java/lang/Object"), ("RideDesk$Kind", "java/lang/Object"), ("RideDesk$Kind$1", "RideDesk$Kind"), ("RideDesk$Kind$1", "java/lang/Object"), ("RideDesk$Kind$2", "RideDesk$Kind"), ("RideDesk$Kind$2", "java/lang/Object"), ("RideDesk$Kind$3", "RideDesk$Kind"), ("RideDesk$Kind$3", "java/lang/Object"), ("RideDesk$Parser", "java/lang/Object"), ("RideDesk$Pickup", "RideDesk$Stop"), ("RideDesk$Pickup", "java/lang/Object"), ("RideDesk$Plan", "java/lang/Object"), ("RideDesk$River", "java/lang/Object"), ("RideDesk$Route", "java/lang/Object"), ("RideDesk$Route$1", "java/lang/Object"), ("RideDesk$Route$1", "java/util/Iterator"), ("RideDesk$Rules", "java/lang/Object"), ("RideDesk$Spot", "java/lang/Object"), ("RideDesk$State", "java/lang/Object"), ("RideDesk$Stop", "java/lang/Object"), ("RideDesk$Token", "java/lang/Object"), ("RideDesk$Van", "RideDesk$Spot"), ("RideDesk$Van", "java/lang/Object"), ("RideDeskModel", "java/lang/Object"), ("[B", "java/lang/Cloneable"), ("[B", "java/lang/Object"), ("[D", "java/lang/Object"), ("[I", "java/lang/Object"), ("[J", "java/lang/Object"), ("[LRideDesk$Call;", "java/lang/Object"), ("[LRideDesk$Kind;", "java/lang/Cloneable"), ("[LRideDesk$Kind;", "java/lang/Object"), ("[LRideDesk$Route;", "java/lang/Object"), ("[LRideDesk$State;", "java/lang/Object"), ("[LRideDesk$Stop;", "java/lang/Object"), ("[Ljava/lang/Object;", "java/lang/Object"), ("[Z", "java/lang/Object"), ("java/lang/ArrayIndexOutOfBoundsException", "java/lang/ArrayIndexOutOfBoundsException"), ("java/lang/ArrayIndexOutOfBoundsException", "java/lang/IndexOutOfBoundsException"), ("java/lang/ArrayIndexOutOfBoundsException", "java/lang/Object"), ("java/lang/IllegalArgumentException", "java/lang/IllegalArgumentException"), ("java/lang/IllegalArgumentException", "java/lang/Object"), ("java/lang/IllegalStateException", "java/lang/IllegalStateException"), ("java/lang/IllegalStateException", "java/lang/Object"), ("java/lang/IndexOutOfBoundsException", "java/lang/IndexOutOfBoundsException"), ("java/lang/IndexOutOfBoundsException", "java/lang/Object"), ("java/lang/String", "java/lang/Object"), ("java/lang/StringBuilder", "java/lang/Object"), ("java/lang/System$2", "java/lang/Object"), ("java/lang/System$2", "jdk/internal/access/JavaLangAccess"), ("java/lang/Throwable", "java/lang/Object"), ("java/util/ArrayDeque", "java/lang/Object"), ("java/util/ArrayDeque", "java/util/Deque"), ("java/util/ArrayList", "java/lang/Object"), ("java/util/ArrayList", "java/util/List"), ("java/util/NoSuchElementException", "java/lang/Object"), ("java/util/NoSuchElementException", "java/util/NoSuchElementException")]
def XWA : List String := ["RideDesk$Call", "RideDesk$Kind", "RideDesk$Route", "RideDesk$State", "RideDesk$Stop", "java/lang/Object"]
def XWI : List (String × MethodName × MethodName) := [("java/util/ArrayList", ⟨"java/util/List", "size", "()I"⟩, ⟨"java/util/ArrayList", "size", "()I"⟩), ("java/util/ArrayList", ⟨"java/util/List", "get", "(I)Ljava/lang/Object;"⟩, ⟨"java/util/ArrayList", "get", "(I)Ljava/lang/Object;"⟩), ("java/util/ArrayList", ⟨"java/util/List", "isEmpty", "()Z"⟩, ⟨"java/util/ArrayList", "isEmpty", "()Z"⟩), ("java/util/ArrayList", ⟨"java/util/List", "add", "(Ljava/lang/Object;)Z"⟩, ⟨"java/util/ArrayList", "add", "(Ljava/lang/Object;)Z"⟩), ("java/util/ArrayDeque", ⟨"java/util/Deque", "size", "()I"⟩, ⟨"java/util/ArrayDeque", "size", "()I"⟩), ("java/util/ArrayDeque", ⟨"java/util/Deque", "removeFirst", "()Ljava/lang/Object;"⟩, ⟨"java/util/ArrayDeque", "removeFirst", "()Ljava/lang/Object;"⟩), ("java/util/ArrayDeque", ⟨"java/util/Deque", "addLast", "(Ljava/lang/Object;)V"⟩, ⟨"java/util/ArrayDeque", "addLast", "(Ljava/lang/Object;)V"⟩), ("java/util/ArrayDeque", ⟨"java/util/Deque", "removeLast", "()Ljava/lang/Object;"⟩, ⟨"java/util/ArrayDeque", "removeLast", "()Ljava/lang/Object;"⟩), ("RideDesk$Route$1", ⟨"java/util/Iterator", "hasNext", "()Z"⟩, ⟨"RideDesk$Route$1", "hasNext", "()Z"⟩), ("RideDesk$Route$1", ⟨"java/util/Iterator", "next", "()Ljava/lang/Object;"⟩, ⟨"RideDesk$Route$1", "next", "()Ljava/lang/Object;"⟩)]
def XWN : List (String × String) := [("RideDesk$Pickup", "RideDesk$Drop"), ("RideDesk$Drop", "RideDesk$Pickup"), ("java/lang/IndexOutOfBoundsException", "java/lang/IllegalArgumentException"), ("java/lang/IndexOutOfBoundsException", "java/lang/IllegalStateException"), ("java/lang/IndexOutOfBoundsException", "RideDesk$FormatException"), ("java/lang/IllegalArgumentException", "java/lang/IndexOutOfBoundsException"), ("java/lang/IllegalArgumentException", "java/lang/IllegalStateException"), ("java/lang/IllegalArgumentException", "RideDesk$FormatException"), ("java/lang/IllegalStateException", "java/lang/IndexOutOfBoundsException"), ("java/lang/IllegalStateException", "java/lang/IllegalArgumentException"), ("java/lang/IllegalStateException", "RideDesk$FormatException"), ("RideDesk$FormatException", "java/lang/IndexOutOfBoundsException"), ("RideDesk$FormatException", "java/lang/IllegalArgumentException"), ("RideDesk$FormatException", "java/lang/IllegalStateException")]
def XST : List (String × String × String × Nat) := [("RideDesk$Token", "INVALID", "LRideDesk$Token;", 0), ("RideDesk$Token", "END", "LRideDesk$Token;", 1), ("RideDesk$Token", "WORD", "LRideDesk$Token;", 2), ("RideDesk$Token", "NUMBER", "LRideDesk$Token;", 3), ("RideDesk$Token", "SEMICOLON", "LRideDesk$Token;", 4), ("RideDesk$Kind", "WALK", "LRideDesk$Kind;", 5), ("RideDesk$Kind", "CHAIR", "LRideDesk$Kind;", 6), ("RideDesk$Kind", "AIDE", "LRideDesk$Kind;", 7), ("RideDesk$Kind", "$VALUES", "[LRideDesk$Kind;", 8), ("java/lang/Throwable", "UNASSIGNED_STACK", "[Ljava/lang/StackTraceElement;", 9), ("java/lang/Throwable", "SUPPRESSED_SENTINEL", "Ljava/util/List;", 10), ("java/util/ArrayList", "EMPTY_ELEMENTDATA", "[Ljava/lang/Object;", 11), ("java/util/ArrayList", "DEFAULTCAPACITY_EMPTY_ELEMENTDATA", "[Ljava/lang/Object;", 12), ("java/lang/String", "COMPACT_STRINGS", "Z", 13), ("java/lang/Integer", "DigitOnes", "[B", 14), ("java/lang/Integer", "DigitTens", "[B", 15), ("java/lang/StringUTF16", "HI_BYTE_SHIFT", "I", 16), ("java/lang/StringUTF16", "LO_BYTE_SHIFT", "I", 17), ("jdk/internal/util/Preconditions", "SIOOBE_FORMATTER", "Ljava/util/function/BiFunction;", 18)]
def XSQ : List (String × String × String) := [(Bundle.tN, "UNASSIGNED_STACK", Bundle.steD), (Bundle.tN, "SUPPRESSED_SENTINEL", Bundle.listD)]
def XSR : List (String × Nat × String × Nat) := [("RideDesk", 488, "", 0), ("RideDesk", 490, ";", 2), ("RideDesk$Parser", 24, "", 0), ("RideDesk$Parser", 149, "desk", 9), ("RideDesk$Parser", 151, "window", 21), ("RideDesk$Parser", 161, "ride", 13), ("RideDesk$Parser", 169, "board", 6), ("RideDesk$Parser", 176, "grace", 11), ("RideDesk$Parser", 180, "rate", 12), ("RideDesk$Parser", 220, "seats", 15), ("RideDesk$Parser", 222, "wheels", 20), ("RideDesk$Parser", 224, "from", 10), ("RideDesk$Parser", 227, "until", 17), ("RideDesk$Parser", 232, "walk", 19), ("RideDesk$Parser", 234, "chair", 8), ("RideDesk$Parser", 236, "aide", 5), ("RideDesk$Parser", 262, "river", 14), ("RideDesk$Parser", 264, "van", 18), ("RideDesk$Parser", 266, "call", 7), ("RideDeskModel", 139, "desk", 9), ("RideDeskModel", 141, "window", 21), ("RideDeskModel", 146, "ride", 13), ("RideDeskModel", 148, "board", 6), ("RideDeskModel", 150, "grace", 11), ("RideDeskModel", 152, "rate", 12), ("RideDeskModel", 158, "seats", 15), ("RideDeskModel", 160, "wheels", 20), ("RideDeskModel", 162, "from", 10), ("RideDeskModel", 163, "until", 17), ("RideDeskModel", 165, "walk", 19), ("RideDeskModel", 167, "chair", 8), ("RideDeskModel", 169, "aide", 5), ("RideDeskModel", 174, "river", 14), ("RideDeskModel", 179, "van", 18), ("RideDeskModel", 184, "call", 7), ("java/util/ArrayDeque", 35, "Sorry, deque too big", 4), ("java/util/ArrayList", 23, "Illegal Capacity: ", 3), ("java/util/Arrays", 337, " > ", 1), ("jdk/internal/util/ArraysSupport", 92, "unrecognized basic type: ", 16)]
def XWD : List MethodName := [⟨"RideDesk$Kind", "service", "(LRideDesk$Rules;)I"⟩, ⟨"RideDesk$Stop", "isExecuted", "(LRideDesk$State;)Z"⟩, ⟨"RideDesk$Stop", "taken", "(I)I"⟩, ⟨"java/lang/Exception", "<init>", "()V"⟩, ⟨"java/lang/IndexOutOfBoundsException", "<init>", "()V"⟩, ⟨"java/lang/RuntimeException", "<init>", "()V"⟩, ⟨"java/lang/Throwable", "<init>", "()V"⟩]
def XML : List (String × Nat × MethodName) := [("RideDesk", 338, ⟨"java/util/Deque", "clear", "()V"⟩), ("RideDesk", 543, ⟨"java/util/Deque", "isEmpty", "()Z"⟩)]
/-- an interface method inherited from another interface -/
def XIC : List (String × String × String × String) := [("java/util/Deque", "java/util/Collection", "clear", "()V"), ("java/util/Deque", "java/util/Collection", "isEmpty", "()Z")]
theorem XIC_ok : ∀ w ∈ XIC, w.2.1 ≠ "java/lang/invoke/MethodHandle" ∧ w.2.1 ≠ "java/lang/invoke/VarHandle" := by decide +kernel
def XPU : List (MethodName × String) := [(⟨"java/util/ArrayDeque", "clear", "()V"⟩, "java/util/ArrayDeque"), (⟨"java/util/ArrayDeque", "isEmpty", "()Z"⟩, "java/util/ArrayDeque"), (⟨"java/util/Collection", "clear", "()V"⟩, "java/util/ArrayDeque"), (⟨"java/util/Collection", "isEmpty", "()Z"⟩, "java/util/ArrayDeque")]
/-- private methods called on an object of a class below -/
def XPR : List MethodName := [⟨"java/lang/AbstractStringBuilder", "ensureCapacityInternal", "(I)V"⟩, ⟨"java/lang/AbstractStringBuilder", "newCapacity", "(I)I"⟩, ⟨"java/lang/AbstractStringBuilder", "putStringAt", "(ILjava/lang/String;)V"⟩, ⟨"java/lang/AbstractStringBuilder", "inflateIfNeededFor", "(Ljava/lang/String;)V"⟩]
theorem XWI_ok : ∀ w ∈ XWI, w.2.1.cls ≠ "java/lang/invoke/MethodHandle" ∧ w.2.1.cls ≠ "java/lang/invoke/VarHandle" := by decide +kernel
/-- a new class: its field words, types, names apart -/
def CG (r : vw_C) : Prop := (∀ w ∈ u_ws r.1 r.2.1 r.2.2, w ∈ lw_all) ∧ (∃ ty : Nat → FieldType, ∀ k, k < r.2.2 → parseFieldDescriptor (r.2.1 k).2.2.1 = some (ty k)) ∧ (∀ a, a < r.2.2 → ∀ b, b < r.2.2 → a ≠ b → (r.2.1 a).2.1 ≠ (r.2.1 b).2.1)
theorem cg_0 : CG (RX3, TX3, 36) := ⟨in_X3, ⟨tyX3, tyX3_ok⟩, nmX3⟩
theorem cg_1 : CG (RX1, TX1, 17) := ⟨in_X1, ⟨tyX1, tyX1_ok⟩, nmX1⟩
theorem cg_2 : CG (RX2, TX2, 4) := ⟨in_X2, ⟨tyX2, tyX2_ok⟩, nmX2⟩
theorem cg_3 : CG (RX4, TX4, 10) := ⟨in_X4, ⟨tyX4, tyX4_ok⟩, nmX4⟩
theorem cg_4 : CG (RX5, TX5, 3) := ⟨in_X5, ⟨tyX5, tyX5_ok⟩, nmX5⟩
theorem cg_5 : CG (RX6, TX6, 7) := ⟨in_X6, ⟨tyX6, tyX6_ok⟩, nmX6⟩
theorem cg_6 : CG (RX7, TX7, 8) := ⟨in_X7, ⟨tyX7, tyX7_ok⟩, nmX7⟩
theorem cg_7 : CG (RX8, TX8, 2) := ⟨in_X8, ⟨tyX8, tyX8_ok⟩, nmX8⟩
theorem cg_8 : CG (RX9, TX9, 2) := ⟨in_X9, ⟨tyX9, tyX9_ok⟩, nmX9⟩
theorem cg_9 : CG (RX10, TX10, 6) := ⟨in_X10, ⟨tyX10, tyX10_ok⟩, nmX10⟩
theorem cg_10 : CG (RX12, TX12, 5) := ⟨in_X12, ⟨tyX12, tyX12_ok⟩, nmX12⟩
theorem cg_11 : CG (RX14, TX14, 9) := ⟨in_X14, ⟨tyX14, tyX14_ok⟩, nmX14⟩
theorem cg_12 : CG (RX16, TX16, 2) := ⟨in_X16, ⟨tyX16, tyX16_ok⟩, nmX16⟩
theorem cg_13 : CG (RX17, TX17, 2) := ⟨in_X17, ⟨tyX17, tyX17_ok⟩, nmX17⟩
theorem cg_14 : CG (RX18, TX18, 2) := ⟨in_X18, ⟨tyX18, tyX18_ok⟩, nmX18⟩
theorem cg_15 : CG (RJ1, TJ1, 3) := ⟨in_J1, ⟨tyJ1, tyJ1_ok⟩, nmJ1⟩
theorem cg_16 : CG (RJ9, TJ9, 3) := ⟨in_J9, ⟨tyJ9, tyJ9_ok⟩, nmJ9⟩
theorem cg_17 : CG (RJ12, TJ12, 4) := ⟨in_J12, ⟨tyJ12, tyJ12_ok⟩, nmJ12⟩
theorem cg_18 : CG (RJ7, TJ7, 4) := ⟨in_J7, ⟨tyJ7, tyJ7_ok⟩, nmJ7⟩
theorem cg_19 : CG (RJ5, TJ5, 0) := ⟨fun w h => by simp [u_ws] at h, ⟨fun _ => .int, fun k h => absurd h (Nat.not_lt_zero k)⟩, fun a h => absurd h (Nat.not_lt_zero a)⟩
theorem cg_20 : CG (RJ10, TJ10, 0) := ⟨fun w h => by simp [u_ws] at h, ⟨fun _ => .int, fun k h => absurd h (Nat.not_lt_zero k)⟩, fun a h => absurd h (Nat.not_lt_zero a)⟩
theorem cg_21 : CG (RJ21, TJ21, 0) := ⟨fun w h => by simp [u_ws] at h, ⟨fun _ => .int, fun k h => absurd h (Nat.not_lt_zero k)⟩, fun a h => absurd h (Nat.not_lt_zero a)⟩
theorem cg_all : ∀ (ci : Nat) (r : vw_C), ci < NNEW → CL[ci]? = some r → CG r := by
  intro ci r h hr
  match ci, h, hr with
  | 0, _, hr => cases hr; exact cg_0
  | 1, _, hr => cases hr; exact cg_1
  | 2, _, hr => cases hr; exact cg_2
  | 3, _, hr => cases hr; exact cg_3
  | 4, _, hr => cases hr; exact cg_4
  | 5, _, hr => cases hr; exact cg_5
  | 6, _, hr => cases hr; exact cg_6
  | 7, _, hr => cases hr; exact cg_7
  | 8, _, hr => cases hr; exact cg_8
  | 9, _, hr => cases hr; exact cg_9
  | 10, _, hr => cases hr; exact cg_10
  | 11, _, hr => cases hr; exact cg_11
  | 12, _, hr => cases hr; exact cg_12
  | 13, _, hr => cases hr; exact cg_13
  | 14, _, hr => cases hr; exact cg_14
  | 15, _, hr => cases hr; exact cg_15
  | 16, _, hr => cases hr; exact cg_16
  | 17, _, hr => cases hr; exact cg_17
  | 18, _, hr => cases hr; exact cg_18
  | 19, _, hr => cases hr; exact cg_19
  | 20, _, hr => cases hr; exact cg_20
  | 21, _, hr => cases hr; exact cg_21
  | k + 22, h, _ => exact absurd h (Nat.not_lt.mpr (Nat.le_add_left _ _))
theorem FLD_inj : ∀ ci, ci < NNEW → ∀ N : Nat, (CL[ci]?.map (fun r => r.2.2)) = some N → ∀ j, j < N → ∀ k, k < N → FLD ci j = FLD ci k → j = k := by
  intro ci h N hN
  match ci, h, hN with
  | 0, _, hN => cases hN; decide +kernel
  | 1, _, hN => cases hN; decide +kernel
  | 2, _, hN => cases hN; decide +kernel
  | 3, _, hN => cases hN; decide +kernel
  | 4, _, hN => cases hN; decide +kernel
  | 5, _, hN => cases hN; decide +kernel
  | 6, _, hN => cases hN; decide +kernel
  | 7, _, hN => cases hN; decide +kernel
  | 8, _, hN => cases hN; decide +kernel
  | 9, _, hN => cases hN; decide +kernel
  | 10, _, hN => cases hN; decide +kernel
  | 11, _, hN => cases hN; decide +kernel
  | 12, _, hN => cases hN; decide +kernel
  | 13, _, hN => cases hN; decide +kernel
  | 14, _, hN => cases hN; decide +kernel
  | 15, _, hN => cases hN; decide +kernel
  | 16, _, hN => cases hN; decide +kernel
  | 17, _, hN => cases hN; decide +kernel
  | 18, _, hN => cases hN; decide +kernel
  | 19, _, hN => cases hN; decide +kernel
  | 20, _, hN => cases hN; decide +kernel
  | 21, _, hN => cases hN; decide +kernel
  | k + 22, h, _ => exact absurd h (Nat.not_lt.mpr (Nat.le_add_left _ _))
/-- a field reference of class own (entry idx) at an object of class ci: the field number fid -/
def FO (own : String) (idx fid ci : Nat) : Prop := ∃ (k : Nat) (r : vw_C) (ref : String), CL[ci]? = some r ∧ k < r.2.2 ∧ FLD ci k = fid ∧ (Cond.fieldLink own idx ref (r.2.1 k).2.1 (r.2.1 k).2.2.1 ∈ lw_all ∨ ∃ host : String, (own, idx, ref, (r.2.1 k).2.1, (r.2.1 k).2.2.1, host) ∈ XWF) ∧ (ref = (r.2.1 k).1 ∨ Cond.sameField ref (r.2.1 k).1 (r.2.1 k).2.1 (r.2.1 k).2.2.1 ∈ lw_all)
theorem fo_X1_3_2 : FO "RideDesk" 3 203 2 := ⟨3, _, "RideDesk$Route", rfl, by decide, rfl, Or.inr ⟨"RideDesk", List.mem_of_getElem? (i := 0) rfl⟩, Or.inl rfl⟩
theorem fo_X1_15_1 : FO "RideDesk" 15 100 1 := ⟨0, _, "RideDesk", rfl, by decide, rfl, Or.inl q252, Or.inl rfl⟩
theorem fo_X1_19_4 : FO "RideDesk" 19 402 4 := ⟨2, _, "RideDesk$Plan", rfl, by decide, rfl, Or.inr ⟨"RideDesk", List.mem_of_getElem? (i := 1) rfl⟩, Or.inl rfl⟩
theorem fo_X1_33_2 : FO "RideDesk" 33 200 2 := ⟨0, _, "RideDesk$Route", rfl, by decide, rfl, Or.inr ⟨"RideDesk", List.mem_of_getElem? (i := 2) rfl⟩, Or.inl rfl⟩
theorem fo_X1_37_12 : FO "RideDesk" 37 1301 12 := ⟨1, _, "RideDesk$Stop", rfl, by decide, rfl, Or.inl q1419, Or.inl rfl⟩
theorem fo_X1_37_13 : FO "RideDesk" 37 1301 13 := ⟨1, _, "RideDesk$Stop", rfl, by decide, rfl, Or.inl q1419, Or.inl rfl⟩
theorem fo_X1_51_2 : FO "RideDesk" 51 202 2 := ⟨2, _, "RideDesk$Route", rfl, by decide, rfl, Or.inr ⟨"RideDesk", List.mem_of_getElem? (i := 3) rfl⟩, Or.inl rfl⟩
theorem fo_X1_55_11 : FO "RideDesk" 55 1206 11 := ⟨6, _, "RideDesk$State", rfl, by decide, rfl, Or.inr ⟨"RideDesk", List.mem_of_getElem? (i := 4) rfl⟩, Or.inl rfl⟩
theorem fo_X1_61_12 : FO "RideDesk" 61 1300 12 := ⟨0, _, "RideDesk$Stop", rfl, by decide, rfl, Or.inl q1416, Or.inl rfl⟩
theorem fo_X1_61_13 : FO "RideDesk" 61 1300 13 := ⟨0, _, "RideDesk$Stop", rfl, by decide, rfl, Or.inl q1416, Or.inl rfl⟩
theorem fo_X1_64_10 : FO "RideDesk" 64 1104 10 := ⟨4, _, "RideDesk$Call", rfl, by decide, rfl, Or.inr ⟨"RideDesk", List.mem_of_getElem? (i := 5) rfl⟩, Or.inl rfl⟩
theorem fo_X1_69_2 : FO "RideDesk" 69 201 2 := ⟨1, _, "RideDesk$Route", rfl, by decide, rfl, Or.inr ⟨"RideDesk", List.mem_of_getElem? (i := 6) rfl⟩, Or.inl rfl⟩
theorem fo_X1_72_11 : FO "RideDesk" 72 1208 11 := ⟨8, _, "RideDesk$State", rfl, by decide, rfl, Or.inr ⟨"RideDesk", List.mem_of_getElem? (i := 7) rfl⟩, Or.inl rfl⟩
theorem fo_X1_85_9 : FO "RideDesk" 85 1002 9 := ⟨4, _, "RideDesk$Van", rfl, by decide, rfl, Or.inr ⟨"RideDesk", List.mem_of_getElem? (i := 8) rfl⟩, Or.inl rfl⟩
theorem fo_X1_105_9 : FO "RideDesk" 105 1000 9 := ⟨2, _, "RideDesk$Van", rfl, by decide, rfl, Or.inr ⟨"RideDesk", List.mem_of_getElem? (i := 9) rfl⟩, Or.inl rfl⟩
theorem fo_X1_108_9 : FO "RideDesk" 108 1001 9 := ⟨3, _, "RideDesk$Van", rfl, by decide, rfl, Or.inr ⟨"RideDesk", List.mem_of_getElem? (i := 10) rfl⟩, Or.inl rfl⟩
theorem fo_X1_111_10 : FO "RideDesk" 111 1102 10 := ⟨2, _, "RideDesk$Call", rfl, by decide, rfl, Or.inr ⟨"RideDesk", List.mem_of_getElem? (i := 11) rfl⟩, Or.inl rfl⟩
theorem fo_X1_115_22 : FO "RideDesk" 115 2000 22 := ⟨0, _, "RideDesk$Kind", rfl, by decide, rfl, Or.inl q2937, Or.inl rfl⟩
theorem fo_X1_115_23 : FO "RideDesk" 115 2000 23 := ⟨0, _, "RideDesk$Kind", rfl, by decide, rfl, Or.inl q2937, Or.inl rfl⟩
theorem fo_X1_115_24 : FO "RideDesk" 115 2000 24 := ⟨0, _, "RideDesk$Kind", rfl, by decide, rfl, Or.inl q2937, Or.inl rfl⟩
theorem fo_X1_122_22 : FO "RideDesk" 122 2001 22 := ⟨1, _, "RideDesk$Kind", rfl, by decide, rfl, Or.inl q2938, Or.inl rfl⟩
theorem fo_X1_122_23 : FO "RideDesk" 122 2001 23 := ⟨1, _, "RideDesk$Kind", rfl, by decide, rfl, Or.inl q2938, Or.inl rfl⟩
theorem fo_X1_122_24 : FO "RideDesk" 122 2001 24 := ⟨1, _, "RideDesk$Kind", rfl, by decide, rfl, Or.inl q2938, Or.inl rfl⟩
theorem fo_X1_125_1 : FO "RideDesk" 125 104 1 := ⟨4, _, "RideDesk", rfl, by decide, rfl, Or.inl q258, Or.inl rfl⟩
theorem fo_X1_135_11 : FO "RideDesk" 135 1201 11 := ⟨1, _, "RideDesk$State", rfl, by decide, rfl, Or.inr ⟨"RideDesk", List.mem_of_getElem? (i := 12) rfl⟩, Or.inl rfl⟩
theorem fo_X1_138_11 : FO "RideDesk" 138 1203 11 := ⟨3, _, "RideDesk$State", rfl, by decide, rfl, Or.inr ⟨"RideDesk", List.mem_of_getElem? (i := 13) rfl⟩, Or.inl rfl⟩
theorem fo_X1_141_4 : FO "RideDesk" 141 400 4 := ⟨0, _, "RideDesk$Plan", rfl, by decide, rfl, Or.inr ⟨"RideDesk", List.mem_of_getElem? (i := 14) rfl⟩, Or.inl rfl⟩
theorem fo_X1_145_5 : FO "RideDesk" 145 500 5 := ⟨0, _, "RideDesk$Rules", rfl, by decide, rfl, Or.inr ⟨"RideDesk", List.mem_of_getElem? (i := 15) rfl⟩, Or.inl rfl⟩
theorem fo_X1_150_10 : FO "RideDesk" 150 1103 10 := ⟨3, _, "RideDesk$Call", rfl, by decide, rfl, Or.inr ⟨"RideDesk", List.mem_of_getElem? (i := 16) rfl⟩, Or.inl rfl⟩
theorem fo_X1_156_11 : FO "RideDesk" 156 1200 11 := ⟨0, _, "RideDesk$State", rfl, by decide, rfl, Or.inr ⟨"RideDesk", List.mem_of_getElem? (i := 17) rfl⟩, Or.inl rfl⟩
theorem fo_X1_168_10 : FO "RideDesk" 168 1100 10 := ⟨0, _, "RideDesk$Call", rfl, by decide, rfl, Or.inr ⟨"RideDesk", List.mem_of_getElem? (i := 18) rfl⟩, Or.inl rfl⟩
theorem fo_X1_177_10 : FO "RideDesk" 177 1101 10 := ⟨1, _, "RideDesk$Call", rfl, by decide, rfl, Or.inr ⟨"RideDesk", List.mem_of_getElem? (i := 19) rfl⟩, Or.inl rfl⟩
theorem fo_X1_181_1 : FO "RideDesk" 181 107 1 := ⟨7, _, "RideDesk", rfl, by decide, rfl, Or.inl q261, Or.inl rfl⟩
theorem fo_X1_188_12 : FO "RideDesk" 188 1301 12 := ⟨1, _, "RideDesk$Pickup", rfl, by decide, rfl, Or.inl q1420, Or.inr q1421⟩
theorem fo_X1_189_13 : FO "RideDesk" 189 1301 13 := ⟨1, _, "RideDesk$Drop", rfl, by decide, rfl, Or.inl q1422, Or.inr q1423⟩
theorem fo_X1_194_1 : FO "RideDesk" 194 111 1 := ⟨11, _, "RideDesk", rfl, by decide, rfl, Or.inl q265, Or.inl rfl⟩
theorem fo_X1_197_1 : FO "RideDesk" 197 109 1 := ⟨9, _, "RideDesk", rfl, by decide, rfl, Or.inl q263, Or.inl rfl⟩
theorem fo_X1_200_1 : FO "RideDesk" 200 110 1 := ⟨10, _, "RideDesk", rfl, by decide, rfl, Or.inl q264, Or.inl rfl⟩
theorem fo_X1_203_1 : FO "RideDesk" 203 108 1 := ⟨8, _, "RideDesk", rfl, by decide, rfl, Or.inl q262, Or.inl rfl⟩
theorem fo_X1_210_1 : FO "RideDesk" 210 105 1 := ⟨5, _, "RideDesk", rfl, by decide, rfl, Or.inl q259, Or.inl rfl⟩
theorem fo_X1_225_1 : FO "RideDesk" 225 106 1 := ⟨6, _, "RideDesk", rfl, by decide, rfl, Or.inl q260, Or.inl rfl⟩
theorem fo_X1_232_11 : FO "RideDesk" 232 1202 11 := ⟨2, _, "RideDesk$State", rfl, by decide, rfl, Or.inr ⟨"RideDesk", List.mem_of_getElem? (i := 20) rfl⟩, Or.inl rfl⟩
theorem fo_X1_235_11 : FO "RideDesk" 235 1207 11 := ⟨7, _, "RideDesk$State", rfl, by decide, rfl, Or.inr ⟨"RideDesk", List.mem_of_getElem? (i := 21) rfl⟩, Or.inl rfl⟩
theorem fo_X1_238_11 : FO "RideDesk" 238 1204 11 := ⟨4, _, "RideDesk$State", rfl, by decide, rfl, Or.inr ⟨"RideDesk", List.mem_of_getElem? (i := 22) rfl⟩, Or.inl rfl⟩
theorem fo_X1_241_11 : FO "RideDesk" 241 1205 11 := ⟨5, _, "RideDesk$State", rfl, by decide, rfl, Or.inr ⟨"RideDesk", List.mem_of_getElem? (i := 23) rfl⟩, Or.inl rfl⟩
theorem fo_X1_277_5 : FO "RideDesk" 277 506 5 := ⟨6, _, "RideDesk$Rules", rfl, by decide, rfl, Or.inr ⟨"RideDesk", List.mem_of_getElem? (i := 24) rfl⟩, Or.inl rfl⟩
theorem fo_X1_300_1 : FO "RideDesk" 300 102 1 := ⟨2, _, "RideDesk", rfl, by decide, rfl, Or.inl q256, Or.inl rfl⟩
theorem fo_X1_304_1 : FO "RideDesk" 304 103 1 := ⟨3, _, "RideDesk", rfl, by decide, rfl, Or.inl q257, Or.inl rfl⟩
theorem fo_X1_309_1 : FO "RideDesk" 309 112 1 := ⟨12, _, "RideDesk", rfl, by decide, rfl, Or.inl q267, Or.inl rfl⟩
theorem fo_X1_313_1 : FO "RideDesk" 313 115 1 := ⟨15, _, "RideDesk", rfl, by decide, rfl, Or.inl q270, Or.inl rfl⟩
theorem fo_X1_316_1 : FO "RideDesk" 316 116 1 := ⟨16, _, "RideDesk", rfl, by decide, rfl, Or.inl q271, Or.inl rfl⟩
theorem fo_X1_319_1 : FO "RideDesk" 319 113 1 := ⟨13, _, "RideDesk", rfl, by decide, rfl, Or.inl q268, Or.inl rfl⟩
theorem fo_X1_352_1 : FO "RideDesk" 352 114 1 := ⟨14, _, "RideDesk", rfl, by decide, rfl, Or.inl q269, Or.inl rfl⟩
theorem fo_X1_357_6 : FO "RideDesk" 357 700 6 := ⟨6, _, "RideDesk$FormatException", rfl, by decide, rfl, Or.inr ⟨"RideDesk", List.mem_of_getElem? (i := 25) rfl⟩, Or.inl rfl⟩
theorem fo_X1_359_6 : FO "RideDesk" 359 701 6 := ⟨7, _, "RideDesk$FormatException", rfl, by decide, rfl, Or.inr ⟨"RideDesk", List.mem_of_getElem? (i := 26) rfl⟩, Or.inl rfl⟩
theorem fo_X1_368_1 : FO "RideDesk" 368 101 1 := ⟨1, _, "RideDesk", rfl, by decide, rfl, Or.inl q255, Or.inl rfl⟩
theorem fo_X1_456_5 : FO "RideDesk" 456 505 5 := ⟨5, _, "RideDesk$Rules", rfl, by decide, rfl, Or.inr ⟨"RideDesk", List.mem_of_getElem? (i := 27) rfl⟩, Or.inl rfl⟩
theorem fo_X12_7_10 : FO "RideDesk$Call" 7 1100 10 := ⟨0, _, "RideDesk$Call", rfl, by decide, rfl, Or.inl q1310, Or.inl rfl⟩
theorem fo_X12_13_10 : FO "RideDesk$Call" 13 1101 10 := ⟨1, _, "RideDesk$Call", rfl, by decide, rfl, Or.inl q1312, Or.inl rfl⟩
theorem fo_X12_16_10 : FO "RideDesk$Call" 16 1102 10 := ⟨2, _, "RideDesk$Call", rfl, by decide, rfl, Or.inl q1314, Or.inl rfl⟩
theorem fo_X12_20_4 : FO "RideDesk$Call" 20 400 4 := ⟨0, _, "RideDesk$Plan", rfl, by decide, rfl, Or.inr ⟨"RideDesk", List.mem_of_getElem? (i := 28) rfl⟩, Or.inl rfl⟩
theorem fo_X12_26_5 : FO "RideDesk$Call" 26 501 5 := ⟨1, _, "RideDesk$Rules", rfl, by decide, rfl, Or.inr ⟨"RideDesk", List.mem_of_getElem? (i := 29) rfl⟩, Or.inl rfl⟩
theorem fo_X12_36_5 : FO "RideDesk$Call" 36 502 5 := ⟨2, _, "RideDesk$Rules", rfl, by decide, rfl, Or.inr ⟨"RideDesk", List.mem_of_getElem? (i := 30) rfl⟩, Or.inl rfl⟩
theorem fo_X12_39_10 : FO "RideDesk$Call" 39 1103 10 := ⟨3, _, "RideDesk$Call", rfl, by decide, rfl, Or.inl q1316, Or.inl rfl⟩
theorem fo_X12_48_10 : FO "RideDesk$Call" 48 1104 10 := ⟨4, _, "RideDesk$Call", rfl, by decide, rfl, Or.inl q1318, Or.inl rfl⟩
theorem fo_X17_9_11 : FO "RideDesk$Drop" 9 1202 11 := ⟨2, _, "RideDesk$State", rfl, by decide, rfl, Or.inr ⟨"RideDesk", List.mem_of_getElem? (i := 31) rfl⟩, Or.inl rfl⟩
theorem fo_X17_15_13 : FO "RideDesk$Drop" 15 1300 13 := ⟨0, _, "RideDesk$Drop", rfl, by decide, rfl, Or.inl q1414, Or.inr q1415⟩
theorem fo_X7_7_6 : FO "RideDesk$FormatException" 7 700 6 := ⟨6, _, "RideDesk$FormatException", rfl, by decide, rfl, Or.inl q1019, Or.inl rfl⟩
theorem fo_X7_13_6 : FO "RideDesk$FormatException" 13 701 6 := ⟨7, _, "RideDesk$FormatException", rfl, by decide, rfl, Or.inl q1021, Or.inl rfl⟩
theorem fo_X19_7_5 : FO "RideDesk$Kind$1" 7 503 5 := ⟨3, _, "RideDesk$Rules", rfl, by decide, rfl, Or.inr ⟨"RideDesk", List.mem_of_getElem? (i := 32) rfl⟩, Or.inl rfl⟩
theorem fo_X20_7_5 : FO "RideDesk$Kind$2" 7 504 5 := ⟨4, _, "RideDesk$Rules", rfl, by decide, rfl, Or.inr ⟨"RideDesk", List.mem_of_getElem? (i := 33) rfl⟩, Or.inl rfl⟩
theorem fo_X4_3_3 : FO "RideDesk$Parser" 3 309 3 := ⟨9, _, "RideDesk$Parser", rfl, by decide, rfl, Or.inl q896, Or.inl rfl⟩
theorem fo_X4_21_3 : FO "RideDesk$Parser" 21 304 3 := ⟨4, _, "RideDesk$Parser", rfl, by decide, rfl, Or.inl q891, Or.inl rfl⟩
theorem fo_X4_26_3 : FO "RideDesk$Parser" 26 305 3 := ⟨5, _, "RideDesk$Parser", rfl, by decide, rfl, Or.inl q892, Or.inl rfl⟩
theorem fo_X4_33_3 : FO "RideDesk$Parser" 33 306 3 := ⟨6, _, "RideDesk$Parser", rfl, by decide, rfl, Or.inl q893, Or.inl rfl⟩
theorem fo_X4_42_3 : FO "RideDesk$Parser" 42 307 3 := ⟨7, _, "RideDesk$Parser", rfl, by decide, rfl, Or.inl q894, Or.inl rfl⟩
theorem fo_X4_46_3 : FO "RideDesk$Parser" 46 308 3 := ⟨8, _, "RideDesk$Parser", rfl, by decide, rfl, Or.inl q895, Or.inl rfl⟩
theorem fo_X4_50_3 : FO "RideDesk$Parser" 50 300 3 := ⟨0, _, "RideDesk$Parser", rfl, by decide, rfl, Or.inl q887, Or.inl rfl⟩
theorem fo_X4_54_1 : FO "RideDesk$Parser" 54 112 1 := ⟨12, _, "RideDesk", rfl, by decide, rfl, Or.inr ⟨"RideDesk", List.mem_of_getElem? (i := 34) rfl⟩, Or.inl rfl⟩
theorem fo_X4_66_3 : FO "RideDesk$Parser" 66 302 3 := ⟨2, _, "RideDesk$Parser", rfl, by decide, rfl, Or.inl q889, Or.inl rfl⟩
theorem fo_X4_79_3 : FO "RideDesk$Parser" 79 301 3 := ⟨1, _, "RideDesk$Parser", rfl, by decide, rfl, Or.inl q888, Or.inl rfl⟩
theorem fo_X4_96_3 : FO "RideDesk$Parser" 96 303 3 := ⟨3, _, "RideDesk$Parser", rfl, by decide, rfl, Or.inl q890, Or.inl rfl⟩
theorem fo_X4_145_4 : FO "RideDesk$Parser" 145 400 4 := ⟨0, _, "RideDesk$Plan", rfl, by decide, rfl, Or.inr ⟨"RideDesk", List.mem_of_getElem? (i := 35) rfl⟩, Or.inl rfl⟩
theorem fo_X4_157_5 : FO "RideDesk$Parser" 157 500 5 := ⟨0, _, "RideDesk$Rules", rfl, by decide, rfl, Or.inr ⟨"RideDesk", List.mem_of_getElem? (i := 36) rfl⟩, Or.inl rfl⟩
theorem fo_X4_163_5 : FO "RideDesk$Parser" 163 501 5 := ⟨1, _, "RideDesk$Rules", rfl, by decide, rfl, Or.inr ⟨"RideDesk", List.mem_of_getElem? (i := 37) rfl⟩, Or.inl rfl⟩
theorem fo_X4_166_5 : FO "RideDesk$Parser" 166 502 5 := ⟨2, _, "RideDesk$Rules", rfl, by decide, rfl, Or.inr ⟨"RideDesk", List.mem_of_getElem? (i := 38) rfl⟩, Or.inl rfl⟩
theorem fo_X4_171_5 : FO "RideDesk$Parser" 171 503 5 := ⟨3, _, "RideDesk$Rules", rfl, by decide, rfl, Or.inr ⟨"RideDesk", List.mem_of_getElem? (i := 39) rfl⟩, Or.inl rfl⟩
theorem fo_X4_173_5 : FO "RideDesk$Parser" 173 504 5 := ⟨4, _, "RideDesk$Rules", rfl, by decide, rfl, Or.inr ⟨"RideDesk", List.mem_of_getElem? (i := 40) rfl⟩, Or.inl rfl⟩
theorem fo_X4_178_5 : FO "RideDesk$Parser" 178 505 5 := ⟨5, _, "RideDesk$Rules", rfl, by decide, rfl, Or.inr ⟨"RideDesk", List.mem_of_getElem? (i := 41) rfl⟩, Or.inl rfl⟩
theorem fo_X4_182_5 : FO "RideDesk$Parser" 182 506 5 := ⟨6, _, "RideDesk$Rules", rfl, by decide, rfl, Or.inr ⟨"RideDesk", List.mem_of_getElem? (i := 42) rfl⟩, Or.inl rfl⟩
theorem fo_X4_184_4 : FO "RideDesk$Parser" 184 401 4 := ⟨1, _, "RideDesk$Plan", rfl, by decide, rfl, Or.inr ⟨"RideDesk", List.mem_of_getElem? (i := 43) rfl⟩, Or.inl rfl⟩
theorem fo_X4_206_7 : FO "RideDesk$Parser" 206 800 7 := ⟨0, _, "RideDesk$River", rfl, by decide, rfl, Or.inr ⟨"RideDesk", List.mem_of_getElem? (i := 44) rfl⟩, Or.inl rfl⟩
theorem fo_X4_213_4 : FO "RideDesk$Parser" 213 402 4 := ⟨2, _, "RideDesk$Plan", rfl, by decide, rfl, Or.inr ⟨"RideDesk", List.mem_of_getElem? (i := 45) rfl⟩, Or.inl rfl⟩
theorem fo_X4_279_1 : FO "RideDesk$Parser" 279 100 1 := ⟨0, _, "RideDesk", rfl, by decide, rfl, Or.inr ⟨"RideDesk", List.mem_of_getElem? (i := 46) rfl⟩, Or.inl rfl⟩
theorem fo_X4_288_1 : FO "RideDesk$Parser" 288 101 1 := ⟨1, _, "RideDesk", rfl, by decide, rfl, Or.inr ⟨"RideDesk", List.mem_of_getElem? (i := 47) rfl⟩, Or.inl rfl⟩
theorem fo_X16_9_11 : FO "RideDesk$Pickup" 9 1203 11 := ⟨3, _, "RideDesk$State", rfl, by decide, rfl, Or.inr ⟨"RideDesk", List.mem_of_getElem? (i := 48) rfl⟩, Or.inl rfl⟩
theorem fo_X16_15_12 : FO "RideDesk$Pickup" 15 1300 12 := ⟨0, _, "RideDesk$Pickup", rfl, by decide, rfl, Or.inl q1412, Or.inr q1413⟩
theorem fo_X16_31_11 : FO "RideDesk$Pickup" 31 1202 11 := ⟨2, _, "RideDesk$State", rfl, by decide, rfl, Or.inr ⟨"RideDesk", List.mem_of_getElem? (i := 49) rfl⟩, Or.inl rfl⟩
theorem fo_X5_12_4 : FO "RideDesk$Plan" 12 400 4 := ⟨0, _, "RideDesk$Plan", rfl, by decide, rfl, Or.inl q868, Or.inl rfl⟩
theorem fo_X5_23_4 : FO "RideDesk$Plan" 23 401 4 := ⟨1, _, "RideDesk$Plan", rfl, by decide, rfl, Or.inl q872, Or.inl rfl⟩
theorem fo_X5_27_4 : FO "RideDesk$Plan" 27 402 4 := ⟨2, _, "RideDesk$Plan", rfl, by decide, rfl, Or.inl q874, Or.inl rfl⟩
theorem fo_X5_30_8 : FO "RideDesk$Plan" 30 900 8 := ⟨0, _, "RideDesk$Spot", rfl, by decide, rfl, Or.inl q1232, Or.inl rfl⟩
theorem fo_X5_30_9 : FO "RideDesk$Plan" 30 900 9 := ⟨0, _, "RideDesk$Spot", rfl, by decide, rfl, Or.inl q1232, Or.inl rfl⟩
theorem fo_X5_42_8 : FO "RideDesk$Plan" 42 901 8 := ⟨1, _, "RideDesk$Spot", rfl, by decide, rfl, Or.inl q1236, Or.inl rfl⟩
theorem fo_X5_42_9 : FO "RideDesk$Plan" 42 901 9 := ⟨1, _, "RideDesk$Spot", rfl, by decide, rfl, Or.inl q1236, Or.inl rfl⟩
theorem fo_X5_61_7 : FO "RideDesk$Plan" 61 801 7 := ⟨1, _, "RideDesk$River", rfl, by decide, rfl, Or.inr ⟨"RideDesk", List.mem_of_getElem? (i := 50) rfl⟩, Or.inl rfl⟩
theorem fo_X8_7_7 : FO "RideDesk$River" 7 800 7 := ⟨0, _, "RideDesk$River", rfl, by decide, rfl, Or.inl q1141, Or.inl rfl⟩
theorem fo_X8_13_7 : FO "RideDesk$River" 13 801 7 := ⟨1, _, "RideDesk$River", rfl, by decide, rfl, Or.inl q1143, Or.inl rfl⟩
theorem fo_X8_16_8 : FO "RideDesk$River" 16 900 8 := ⟨0, _, "RideDesk$Spot", rfl, by decide, rfl, Or.inl q1233, Or.inl rfl⟩
theorem fo_X8_16_9 : FO "RideDesk$River" 16 900 9 := ⟨0, _, "RideDesk$Spot", rfl, by decide, rfl, Or.inl q1233, Or.inl rfl⟩
theorem fo_X2_11_2 : FO "RideDesk$Route" 11 200 2 := ⟨0, _, "RideDesk$Route", rfl, by decide, rfl, Or.inl q232, Or.inl rfl⟩
theorem fo_X2_17_2 : FO "RideDesk$Route" 17 201 2 := ⟨1, _, "RideDesk$Route", rfl, by decide, rfl, Or.inl q235, Or.inl rfl⟩
theorem fo_X2_21_2 : FO "RideDesk$Route" 21 202 2 := ⟨2, _, "RideDesk$Route", rfl, by decide, rfl, Or.inl q237, Or.inl rfl⟩
theorem fo_X2_25_2 : FO "RideDesk$Route" 25 203 2 := ⟨3, _, "RideDesk$Route", rfl, by decide, rfl, Or.inl q241, Or.inl rfl⟩
theorem fo_X2_40_12 : FO "RideDesk$Route" 40 1300 12 := ⟨0, _, "RideDesk$Stop", rfl, by decide, rfl, Or.inl q1417, Or.inl rfl⟩
theorem fo_X2_40_13 : FO "RideDesk$Route" 40 1300 13 := ⟨0, _, "RideDesk$Stop", rfl, by decide, rfl, Or.inl q1417, Or.inl rfl⟩
theorem fo_X18_1_14 : FO "RideDesk$Route$1" 1 1401 14 := ⟨1, _, "RideDesk$Route$1", rfl, by decide, rfl, Or.inl q1798, Or.inl rfl⟩
theorem fo_X18_13_14 : FO "RideDesk$Route$1" 13 1400 14 := ⟨0, _, "RideDesk$Route$1", rfl, by decide, rfl, Or.inl q1797, Or.inl rfl⟩
theorem fo_X18_17_2 : FO "RideDesk$Route$1" 17 203 2 := ⟨3, _, "RideDesk$Route", rfl, by decide, rfl, Or.inr ⟨"RideDesk", List.mem_of_getElem? (i := 51) rfl⟩, Or.inl rfl⟩
theorem fo_X18_25_2 : FO "RideDesk$Route$1" 25 200 2 := ⟨0, _, "RideDesk$Route", rfl, by decide, rfl, Or.inr ⟨"RideDesk", List.mem_of_getElem? (i := 52) rfl⟩, Or.inl rfl⟩
theorem fo_X9_9_8 : FO "RideDesk$Spot" 9 900 8 := ⟨0, _, "RideDesk$Spot", rfl, by decide, rfl, Or.inl q1231, Or.inl rfl⟩
theorem fo_X9_9_9 : FO "RideDesk$Spot" 9 900 9 := ⟨0, _, "RideDesk$Spot", rfl, by decide, rfl, Or.inl q1231, Or.inl rfl⟩
theorem fo_X9_15_8 : FO "RideDesk$Spot" 15 901 8 := ⟨1, _, "RideDesk$Spot", rfl, by decide, rfl, Or.inl q1235, Or.inl rfl⟩
theorem fo_X9_15_9 : FO "RideDesk$Spot" 15 901 9 := ⟨1, _, "RideDesk$Spot", rfl, by decide, rfl, Or.inl q1235, Or.inl rfl⟩
theorem fo_X14_11_11 : FO "RideDesk$State" 11 1200 11 := ⟨0, _, "RideDesk$State", rfl, by decide, rfl, Or.inl q1344, Or.inl rfl⟩
theorem fo_X14_17_11 : FO "RideDesk$State" 17 1201 11 := ⟨1, _, "RideDesk$State", rfl, by decide, rfl, Or.inl q1346, Or.inl rfl⟩
theorem fo_X14_21_11 : FO "RideDesk$State" 21 1202 11 := ⟨2, _, "RideDesk$State", rfl, by decide, rfl, Or.inl q1348, Or.inl rfl⟩
theorem fo_X14_24_11 : FO "RideDesk$State" 24 1203 11 := ⟨3, _, "RideDesk$State", rfl, by decide, rfl, Or.inl q1352, Or.inl rfl⟩
theorem fo_X14_27_11 : FO "RideDesk$State" 27 1204 11 := ⟨4, _, "RideDesk$State", rfl, by decide, rfl, Or.inl q1355, Or.inl rfl⟩
theorem fo_X14_30_11 : FO "RideDesk$State" 30 1205 11 := ⟨5, _, "RideDesk$State", rfl, by decide, rfl, Or.inl q1357, Or.inl rfl⟩
theorem fo_X14_35_11 : FO "RideDesk$State" 35 1206 11 := ⟨6, _, "RideDesk$State", rfl, by decide, rfl, Or.inl q1359, Or.inl rfl⟩
theorem fo_X14_40_11 : FO "RideDesk$State" 40 1207 11 := ⟨7, _, "RideDesk$State", rfl, by decide, rfl, Or.inl q1361, Or.inl rfl⟩
theorem fo_X14_44_11 : FO "RideDesk$State" 44 1208 11 := ⟨8, _, "RideDesk$State", rfl, by decide, rfl, Or.inl q1363, Or.inl rfl⟩
theorem fo_X14_58_4 : FO "RideDesk$State" 58 402 4 := ⟨2, _, "RideDesk$Plan", rfl, by decide, rfl, Or.inr ⟨"RideDesk", List.mem_of_getElem? (i := 53) rfl⟩, Or.inl rfl⟩
theorem fo_X14_76_9 : FO "RideDesk$State" 76 1003 9 := ⟨5, _, "RideDesk$Van", rfl, by decide, rfl, Or.inr ⟨"RideDesk", List.mem_of_getElem? (i := 54) rfl⟩, Or.inl rfl⟩
theorem fo_X15_7_12 : FO "RideDesk$Stop" 7 1300 12 := ⟨0, _, "RideDesk$Stop", rfl, by decide, rfl, Or.inl q1411, Or.inl rfl⟩
theorem fo_X15_7_13 : FO "RideDesk$Stop" 7 1300 13 := ⟨0, _, "RideDesk$Stop", rfl, by decide, rfl, Or.inl q1411, Or.inl rfl⟩
theorem fo_X15_13_12 : FO "RideDesk$Stop" 13 1301 12 := ⟨1, _, "RideDesk$Stop", rfl, by decide, rfl, Or.inl q1418, Or.inl rfl⟩
theorem fo_X15_13_13 : FO "RideDesk$Stop" 13 1301 13 := ⟨1, _, "RideDesk$Stop", rfl, by decide, rfl, Or.inl q1418, Or.inl rfl⟩
theorem fo_X10_1_8 : FO "RideDesk$Van" 1 900 8 := ⟨0, _, "RideDesk$Spot", rfl, by decide, rfl, Or.inl q1230, Or.inl rfl⟩
theorem fo_X10_1_9 : FO "RideDesk$Van" 1 900 9 := ⟨0, _, "RideDesk$Spot", rfl, by decide, rfl, Or.inl q1230, Or.inl rfl⟩
theorem fo_X10_7_8 : FO "RideDesk$Van" 7 901 8 := ⟨1, _, "RideDesk$Spot", rfl, by decide, rfl, Or.inl q1234, Or.inl rfl⟩
theorem fo_X10_7_9 : FO "RideDesk$Van" 7 901 9 := ⟨1, _, "RideDesk$Spot", rfl, by decide, rfl, Or.inl q1234, Or.inl rfl⟩
theorem fo_X10_14_9 : FO "RideDesk$Van" 14 1000 9 := ⟨2, _, "RideDesk$Van", rfl, by decide, rfl, Or.inl q1252, Or.inl rfl⟩
theorem fo_X10_19_9 : FO "RideDesk$Van" 19 1001 9 := ⟨3, _, "RideDesk$Van", rfl, by decide, rfl, Or.inl q1254, Or.inl rfl⟩
theorem fo_X10_22_9 : FO "RideDesk$Van" 22 1002 9 := ⟨4, _, "RideDesk$Van", rfl, by decide, rfl, Or.inl q1256, Or.inl rfl⟩
theorem fo_X10_25_9 : FO "RideDesk$Van" 25 1003 9 := ⟨5, _, "RideDesk$Van", rfl, by decide, rfl, Or.inl q1258, Or.inl rfl⟩
theorem fo_X3_7_0 : FO "RideDeskModel" 7 2 0 := ⟨2, _, "RideDeskModel", rfl, by decide, rfl, Or.inl q2176, Or.inl rfl⟩
theorem fo_X3_13_0 : FO "RideDeskModel" 13 3 0 := ⟨3, _, "RideDeskModel", rfl, by decide, rfl, Or.inl q2177, Or.inl rfl⟩
theorem fo_X3_16_0 : FO "RideDeskModel" 16 5 0 := ⟨5, _, "RideDeskModel", rfl, by decide, rfl, Or.inl q2179, Or.inl rfl⟩
theorem fo_X3_20_0 : FO "RideDeskModel" 20 6 0 := ⟨6, _, "RideDeskModel", rfl, by decide, rfl, Or.inl q2180, Or.inl rfl⟩
theorem fo_X3_23_0 : FO "RideDeskModel" 23 9 0 := ⟨9, _, "RideDeskModel", rfl, by decide, rfl, Or.inl q2183, Or.inl rfl⟩
theorem fo_X3_27_0 : FO "RideDeskModel" 27 14 0 := ⟨14, _, "RideDeskModel", rfl, by decide, rfl, Or.inl q2188, Or.inl rfl⟩
theorem fo_X3_30_0 : FO "RideDeskModel" 30 19 0 := ⟨19, _, "RideDeskModel", rfl, by decide, rfl, Or.inl q2193, Or.inl rfl⟩
theorem fo_X3_33_0 : FO "RideDeskModel" 33 20 0 := ⟨20, _, "RideDeskModel", rfl, by decide, rfl, Or.inl q2194, Or.inl rfl⟩
theorem fo_X3_36_0 : FO "RideDeskModel" 36 31 0 := ⟨31, _, "RideDeskModel", rfl, by decide, rfl, Or.inl q2205, Or.inl rfl⟩
theorem fo_X3_39_0 : FO "RideDeskModel" 39 32 0 := ⟨32, _, "RideDeskModel", rfl, by decide, rfl, Or.inl q2206, Or.inl rfl⟩
theorem fo_X3_42_0 : FO "RideDeskModel" 42 33 0 := ⟨33, _, "RideDeskModel", rfl, by decide, rfl, Or.inl q2207, Or.inl rfl⟩
theorem fo_X3_45_0 : FO "RideDeskModel" 45 34 0 := ⟨34, _, "RideDeskModel", rfl, by decide, rfl, Or.inl q2208, Or.inl rfl⟩
theorem fo_X3_48_0 : FO "RideDeskModel" 48 0 0 := ⟨0, _, "RideDeskModel", rfl, by decide, rfl, Or.inl q2174, Or.inl rfl⟩
theorem fo_X3_51_0 : FO "RideDeskModel" 51 1 0 := ⟨1, _, "RideDeskModel", rfl, by decide, rfl, Or.inl q2175, Or.inl rfl⟩
theorem fo_X3_59_0 : FO "RideDeskModel" 59 7 0 := ⟨7, _, "RideDeskModel", rfl, by decide, rfl, Or.inl q2181, Or.inl rfl⟩
theorem fo_X3_62_0 : FO "RideDeskModel" 62 8 0 := ⟨8, _, "RideDeskModel", rfl, by decide, rfl, Or.inl q2182, Or.inl rfl⟩
theorem fo_X3_65_0 : FO "RideDeskModel" 65 10 0 := ⟨10, _, "RideDeskModel", rfl, by decide, rfl, Or.inl q2184, Or.inl rfl⟩
theorem fo_X3_68_0 : FO "RideDeskModel" 68 11 0 := ⟨11, _, "RideDeskModel", rfl, by decide, rfl, Or.inl q2185, Or.inl rfl⟩
theorem fo_X3_75_0 : FO "RideDeskModel" 75 12 0 := ⟨12, _, "RideDeskModel", rfl, by decide, rfl, Or.inl q2186, Or.inl rfl⟩
theorem fo_X3_78_0 : FO "RideDeskModel" 78 13 0 := ⟨13, _, "RideDeskModel", rfl, by decide, rfl, Or.inl q2187, Or.inl rfl⟩
theorem fo_X3_85_0 : FO "RideDeskModel" 85 15 0 := ⟨15, _, "RideDeskModel", rfl, by decide, rfl, Or.inl q2189, Or.inl rfl⟩
theorem fo_X3_91_0 : FO "RideDeskModel" 91 16 0 := ⟨16, _, "RideDeskModel", rfl, by decide, rfl, Or.inl q2190, Or.inl rfl⟩
theorem fo_X3_94_0 : FO "RideDeskModel" 94 17 0 := ⟨17, _, "RideDeskModel", rfl, by decide, rfl, Or.inl q2191, Or.inl rfl⟩
theorem fo_X3_97_0 : FO "RideDeskModel" 97 18 0 := ⟨18, _, "RideDeskModel", rfl, by decide, rfl, Or.inl q2192, Or.inl rfl⟩
theorem fo_X3_198_0 : FO "RideDeskModel" 198 4 0 := ⟨4, _, "RideDeskModel", rfl, by decide, rfl, Or.inl q2178, Or.inl rfl⟩
theorem fo_X3_275_0 : FO "RideDeskModel" 275 25 0 := ⟨25, _, "RideDeskModel", rfl, by decide, rfl, Or.inl q2199, Or.inl rfl⟩
theorem fo_X3_278_0 : FO "RideDeskModel" 278 26 0 := ⟨26, _, "RideDeskModel", rfl, by decide, rfl, Or.inl q2200, Or.inl rfl⟩
theorem fo_X3_281_0 : FO "RideDeskModel" 281 27 0 := ⟨27, _, "RideDeskModel", rfl, by decide, rfl, Or.inl q2201, Or.inl rfl⟩
theorem fo_X3_284_0 : FO "RideDeskModel" 284 28 0 := ⟨28, _, "RideDeskModel", rfl, by decide, rfl, Or.inl q2202, Or.inl rfl⟩
theorem fo_X3_287_0 : FO "RideDeskModel" 287 29 0 := ⟨29, _, "RideDeskModel", rfl, by decide, rfl, Or.inl q2203, Or.inl rfl⟩
theorem fo_X3_290_0 : FO "RideDeskModel" 290 30 0 := ⟨30, _, "RideDeskModel", rfl, by decide, rfl, Or.inl q2204, Or.inl rfl⟩
theorem fo_X3_310_0 : FO "RideDeskModel" 310 22 0 := ⟨22, _, "RideDeskModel", rfl, by decide, rfl, Or.inl q2196, Or.inl rfl⟩
theorem fo_X3_313_0 : FO "RideDeskModel" 313 21 0 := ⟨21, _, "RideDeskModel", rfl, by decide, rfl, Or.inl q2195, Or.inl rfl⟩
theorem fo_X3_319_0 : FO "RideDeskModel" 319 23 0 := ⟨23, _, "RideDeskModel", rfl, by decide, rfl, Or.inl q2197, Or.inl rfl⟩
theorem fo_X3_322_0 : FO "RideDeskModel" 322 24 0 := ⟨24, _, "RideDeskModel", rfl, by decide, rfl, Or.inl q2198, Or.inl rfl⟩
theorem fo_X3_399_0 : FO "RideDeskModel" 399 35 0 := ⟨35, _, "RideDeskModel", rfl, by decide, rfl, Or.inl q2209, Or.inl rfl⟩
theorem fo_J11_15_17 : FO "java/lang/AbstractStringBuilder" 15 1800 17 := ⟨0, _, "java/lang/AbstractStringBuilder", rfl, by decide, rfl, Or.inl q626, Or.inl rfl⟩
theorem fo_J11_22_17 : FO "java/lang/AbstractStringBuilder" 22 1801 17 := ⟨1, _, "java/lang/AbstractStringBuilder", rfl, by decide, rfl, Or.inl q627, Or.inl rfl⟩
theorem fo_J11_79_17 : FO "java/lang/AbstractStringBuilder" 79 1803 17 := ⟨3, _, "java/lang/AbstractStringBuilder", rfl, by decide, rfl, Or.inl q629, Or.inl rfl⟩
theorem fo_J7_9_18 : FO "java/lang/String" 9 1900 18 := ⟨0, _, "java/lang/String", rfl, by decide, rfl, Or.inl q846, Or.inl rfl⟩
theorem fo_J7_15_18 : FO "java/lang/String" 15 1901 18 := ⟨1, _, "java/lang/String", rfl, by decide, rfl, Or.inl q847, Or.inl rfl⟩
theorem fo_J7_19_18 : FO "java/lang/String" 19 1902 18 := ⟨2, _, "java/lang/String", rfl, by decide, rfl, Or.inl q848, Or.inl rfl⟩
theorem fo_J7_23_18 : FO "java/lang/String" 23 1903 18 := ⟨3, _, "java/lang/String", rfl, by decide, rfl, Or.inl q849, Or.inl rfl⟩
theorem fo_J7_1048_17 : FO "java/lang/String" 1048 1802 17 := ⟨2, _, "java/lang/AbstractStringBuilder", rfl, by decide, rfl, Or.inl q628, Or.inl rfl⟩
theorem fo_J2_7_6 : FO "java/lang/Throwable" 7 600 6 := ⟨0, _, "java/lang/Throwable", rfl, by decide, rfl, Or.inl q464, Or.inl rfl⟩
theorem fo_J2_17_6 : FO "java/lang/Throwable" 17 601 6 := ⟨1, _, "java/lang/Throwable", rfl, by decide, rfl, Or.inl q465, Or.inl rfl⟩
theorem fo_J2_24_6 : FO "java/lang/Throwable" 24 602 6 := ⟨2, _, "java/lang/Throwable", rfl, by decide, rfl, Or.inl q466, Or.inl rfl⟩
theorem fo_J2_31_6 : FO "java/lang/Throwable" 31 603 6 := ⟨3, _, "java/lang/Throwable", rfl, by decide, rfl, Or.inl q463, Or.inl rfl⟩
theorem fo_J2_198_6 : FO "java/lang/Throwable" 198 604 6 := ⟨4, _, "java/lang/Throwable", rfl, by decide, rfl, Or.inl q495, Or.inl rfl⟩
theorem fo_J8_7_16 : FO "java/util/AbstractList" 7 1600 16 := ⟨0, _, "java/util/AbstractList", rfl, by decide, rfl, Or.inl q858, Or.inl rfl⟩
theorem fo_J1_3_15 : FO "java/util/ArrayDeque" 3 1500 15 := ⟨0, _, "java/util/ArrayDeque", rfl, by decide, rfl, Or.inl q212, Or.inl rfl⟩
theorem fo_J1_20_15 : FO "java/util/ArrayDeque" 20 1502 15 := ⟨2, _, "java/util/ArrayDeque", rfl, by decide, rfl, Or.inl q214, Or.inl rfl⟩
theorem fo_J1_24_15 : FO "java/util/ArrayDeque" 24 1501 15 := ⟨1, _, "java/util/ArrayDeque", rfl, by decide, rfl, Or.inl q213, Or.inl rfl⟩
theorem fo_J9_9_16 : FO "java/util/ArrayList" 9 1700 16 := ⟨1, _, "java/util/ArrayList", rfl, by decide, rfl, Or.inl q856, Or.inl rfl⟩
theorem fo_J9_48_16 : FO "java/util/ArrayList" 48 1701 16 := ⟨2, _, "java/util/ArrayList", rfl, by decide, rfl, Or.inl q857, Or.inl rfl⟩
theorem fo_J9_63_16 : FO "java/util/ArrayList" 63 1600 16 := ⟨0, _, "java/util/ArrayList", rfl, by decide, rfl, Or.inl q859, Or.inr q860⟩
def FDFL : List Nat := [0, 1, 4, 7, 8, 9, 10, 11, 12, 13, 15, 16, 17, 18, 21, 22, 23, 24, 25, 26, 27, 28, 29, 30, 35, 107, 108, 113, 114, 115, 203, 300, 301, 302, 303, 500, 501, 502, 503, 504, 505, 506, 605, 700, 701, 800, 801, 900, 901, 1000, 1001, 1002, 1003, 1103, 1104, 1207, 1208, 1300, 1400, 1501, 1502, 1600, 1701, 1801, 1802, 1803, 1901, 1902, 1903, 2000, 2001]
def FDF (f : Nat) : Value := if FDFL.contains f then .int 0 else .null
/-- .. a field that the method may write: v fits -/
def PO (own mname : String) (idx fid ci : Nat) (v : Value) : Prop := ∃ (k : Nat) (r : vw_C) (ref : String) (ty : FieldType), CL[ci]? = some r ∧ k < r.2.2 ∧ FLD ci k = fid ∧ (Cond.fieldLink own idx ref (r.2.1 k).2.1 (r.2.1 k).2.2.1 ∈ lw_all ∨ ∃ host : String, (own, idx, ref, (r.2.1 k).2.1, (r.2.1 k).2.2.1, host) ∈ XWF) ∧ (ref = (r.2.1 k).1 ∨ Cond.sameField ref (r.2.1 k).1 (r.2.1 k).2.1 (r.2.1 k).2.2.1 ∈ lw_all) ∧ parseFieldDescriptor (r.2.1 k).2.2.1 = some ty ∧ narrow ty v = v ∧ fits ty v = true ∧ ((r.2.1 k).2.2.2 = false ∨ ((r.2.1 k).2.2.2 = true ∧ (r.2.1 k).1 = own ∧ mname = "<init>" ∧ Cond.fieldLink own idx ref (r.2.1 k).2.1 (r.2.1 k).2.2.1 ∈ lw_all))
/-- a class that the method may make -/
def NO (own : String) (idx ci N : Nat) : Prop := ci < NNEW ∧ ∃ (r : vw_C) (ty : Nat → FieldType), CL[ci]? = some r ∧ r.2.2 = N ∧ Cond.classLink own idx r.1 ∈ lw_all ∧ Cond.instantiable r.1 N ∈ lw_all ∧ Cond.initialized r.1 ∈ lw_all ∧ (∀ k, k < N → parseFieldDescriptor (r.2.1 k).2.2.1 = some (ty k)) ∧ ∀ k, k < N → defaultValue (ty k) = FDF (FLD ci k)
/-- a static that nobody writes, asked for by class own at entry idx: its number -/
def SO (own : String) (idx i : Nat) : Prop := ∃ (C n d ref : String), (C, n, d, i) ∈ XST ∧ (Cond.fieldLink own idx ref n d ∈ lw_all ∨ ∃ host : String, (own, idx, ref, n, d, host) ∈ XWF) ∧ (ref = C ∨ Cond.sameField ref C n d ∈ lw_all)
theorem so_X1_475 : SO "RideDesk" 475 5 := ⟨"RideDesk$Kind", "WALK", "LRideDesk$Kind;", "RideDesk$Kind", List.mem_of_getElem? (i := 5) rfl, Or.inl q1933, Or.inl rfl⟩
theorem so_X1_478 : SO "RideDesk" 478 6 := ⟨"RideDesk$Kind", "CHAIR", "LRideDesk$Kind;", "RideDesk$Kind", List.mem_of_getElem? (i := 6) rfl, Or.inl q1934, Or.inl rfl⟩
theorem so_X11_13 : SO "RideDesk$Kind" 13 8 := ⟨"RideDesk$Kind", "$VALUES", "[LRideDesk$Kind;", "RideDesk$Kind", List.mem_of_getElem? (i := 8) rfl, Or.inl q1861, Or.inl rfl⟩
theorem so_X13_7 : SO "RideDesk$Kind$3" 7 6 := ⟨"RideDesk$Kind", "CHAIR", "LRideDesk$Kind;", "RideDesk$Kind$3", List.mem_of_getElem? (i := 6) rfl, Or.inl q1307, Or.inr q1308⟩
theorem so_X4_15 : SO "RideDesk$Parser" 15 0 := ⟨"RideDesk$Token", "INVALID", "LRideDesk$Token;", "RideDesk$Token", List.mem_of_getElem? (i := 0) rfl, Or.inl q543, Or.inl rfl⟩
theorem so_X4_69 : SO "RideDesk$Parser" 69 1 := ⟨"RideDesk$Token", "END", "LRideDesk$Token;", "RideDesk$Token", List.mem_of_getElem? (i := 1) rfl, Or.inl q934, Or.inl rfl⟩
theorem so_X4_90 : SO "RideDesk$Parser" 90 2 := ⟨"RideDesk$Token", "WORD", "LRideDesk$Token;", "RideDesk$Token", List.mem_of_getElem? (i := 2) rfl, Or.inl q966, Or.inl rfl⟩
theorem so_X4_99 : SO "RideDesk$Parser" 99 3 := ⟨"RideDesk$Token", "NUMBER", "LRideDesk$Token;", "RideDesk$Token", List.mem_of_getElem? (i := 3) rfl, Or.inl q972, Or.inl rfl⟩
theorem so_X4_102 : SO "RideDesk$Parser" 102 4 := ⟨"RideDesk$Token", "SEMICOLON", "LRideDesk$Token;", "RideDesk$Token", List.mem_of_getElem? (i := 4) rfl, Or.inl q974, Or.inl rfl⟩
theorem so_X4_238 : SO "RideDesk$Parser" 238 5 := ⟨"RideDesk$Kind", "WALK", "LRideDesk$Kind;", "RideDesk$Kind", List.mem_of_getElem? (i := 5) rfl, Or.inl q1282, Or.inl rfl⟩
theorem so_X4_244 : SO "RideDesk$Parser" 244 6 := ⟨"RideDesk$Kind", "CHAIR", "LRideDesk$Kind;", "RideDesk$Kind", List.mem_of_getElem? (i := 6) rfl, Or.inl q1284, Or.inl rfl⟩
theorem so_X4_247 : SO "RideDesk$Parser" 247 7 := ⟨"RideDesk$Kind", "AIDE", "LRideDesk$Kind;", "RideDesk$Kind", List.mem_of_getElem? (i := 7) rfl, Or.inl q1286, Or.inl rfl⟩
theorem so_J11_18 : SO "java/lang/AbstractStringBuilder" 18 13 := ⟨"java/lang/String", "COMPACT_STRINGS", "Z", "java/lang/String", List.mem_of_getElem? (i := 13) rfl, Or.inl q617, Or.inl rfl⟩
theorem so_J19_83 : SO "java/lang/Integer" 83 14 := ⟨"java/lang/Integer", "DigitOnes", "[B", "java/lang/Integer", List.mem_of_getElem? (i := 14) rfl, Or.inl q773, Or.inl rfl⟩
theorem so_J19_87 : SO "java/lang/Integer" 87 15 := ⟨"java/lang/Integer", "DigitTens", "[B", "java/lang/Integer", List.mem_of_getElem? (i := 15) rfl, Or.inl q775, Or.inl rfl⟩
theorem so_J7_38 : SO "java/lang/String" 38 13 := ⟨"java/lang/String", "COMPACT_STRINGS", "Z", "java/lang/String", List.mem_of_getElem? (i := 13) rfl, Or.inl q725, Or.inl rfl⟩
theorem so_J7_1053 : SO "java/lang/String" 1053 18 := ⟨"jdk/internal/util/Preconditions", "SIOOBE_FORMATTER", "Ljava/util/function/BiFunction;", "jdk/internal/util/Preconditions", List.mem_of_getElem? (i := 18) rfl, Or.inl q703, Or.inl rfl⟩
theorem so_J13_59 : SO "java/lang/StringUTF16" 59 16 := ⟨"java/lang/StringUTF16", "HI_BYTE_SHIFT", "I", "java/lang/StringUTF16", List.mem_of_getElem? (i := 16) rfl, Or.inl q713, Or.inl rfl⟩
theorem so_J13_63 : SO "java/lang/StringUTF16" 63 17 := ⟨"java/lang/StringUTF16", "LO_BYTE_SHIFT", "I", "java/lang/StringUTF16", List.mem_of_getElem? (i := 17) rfl, Or.inl q715, Or.inl rfl⟩
theorem so_J13_403 : SO "java/lang/StringUTF16" 403 14 := ⟨"java/lang/Integer", "DigitOnes", "[B", "java/lang/Integer", List.mem_of_getElem? (i := 14) rfl, Or.inl q783, Or.inl rfl⟩
theorem so_J13_407 : SO "java/lang/StringUTF16" 407 15 := ⟨"java/lang/Integer", "DigitTens", "[B", "java/lang/Integer", List.mem_of_getElem? (i := 15) rfl, Or.inl q784, Or.inl rfl⟩
theorem so_J2_13 : SO "java/lang/Throwable" 13 9 := ⟨"java/lang/Throwable", "UNASSIGNED_STACK", "[Ljava/lang/StackTraceElement;", "java/lang/Throwable", List.mem_of_getElem? (i := 9) rfl, Or.inl q443, Or.inl rfl⟩
theorem so_J2_20 : SO "java/lang/Throwable" 20 10 := ⟨"java/lang/Throwable", "SUPPRESSED_SENTINEL", "Ljava/util/List;", "java/lang/Throwable", List.mem_of_getElem? (i := 10) rfl, Or.inl q445, Or.inl rfl⟩
theorem so_J9_15 : SO "java/util/ArrayList" 15 11 := ⟨"java/util/ArrayList", "EMPTY_ELEMENTDATA", "[Ljava/lang/Object;", "java/util/ArrayList", List.mem_of_getElem? (i := 11) rfl, Or.inl q597, Or.inl rfl⟩
theorem so_J9_39 : SO "java/util/ArrayList" 39 12 := ⟨"java/util/ArrayList", "DEFAULTCAPACITY_EMPTY_ELEMENTDATA", "[Ljava/lang/Object;", "java/util/ArrayList", List.mem_of_getElem? (i := 12) rfl, Or.inl q1171, Or.inl rfl⟩
theorem no_X1_4 : NO "RideDesk" 4 2 4 := ⟨by decide, _, tyX2, rfl, rfl, q224, q225, q150, tyX2_ok, by decide +kernel⟩
theorem no_X1_31 : NO "RideDesk" 31 8 2 := ⟨by decide, _, tyX9, rfl, rfl, q381, q1225, q180, tyX9_ok, by decide +kernel⟩
theorem no_X1_56 : NO "RideDesk" 56 11 9 := ⟨by decide, _, tyX14, rfl, rfl, q222, q1335, q185, tyX14_ok, by decide +kernel⟩
theorem no_X1_65 : NO "RideDesk" 65 10 5 := ⟨by decide, _, tyX12, rfl, rfl, q1857, q1289, q183, tyX12_ok, by decide +kernel⟩
theorem no_X1_83 : NO "RideDesk" 83 9 6 := ⟨by decide, _, tyX10, rfl, rfl, q1459, q1246, q181, tyX10_ok, by decide +kernel⟩
theorem no_X1_123 : NO "RideDesk" 123 12 2 := ⟨by decide, _, tyX16, rfl, rfl, q1402, q1403, q187, tyX16_ok, by decide +kernel⟩
theorem no_X1_175 : NO "RideDesk" 175 13 2 := ⟨by decide, _, tyX17, rfl, rfl, q1429, q1430, q188, tyX17_ok, by decide +kernel⟩
theorem no_X1_295 : NO "RideDesk" 295 15 3 := ⟨by decide, _, tyJ1, rfl, rfl, q200, q201, q149, tyJ1_ok, by decide +kernel⟩
theorem no_X1_330 : NO "RideDesk" 330 3 10 := ⟨by decide, _, tyX4, rfl, rfl, q537, q538, q158, tyX4_ok, by decide +kernel⟩
theorem no_X1_355 : NO "RideDesk" 355 6 8 := ⟨by decide, _, tyX7, rfl, rfl, q509, q1002, q177, tyX7_ok, by decide +kernel⟩
theorem no_X1_485 : NO "RideDesk" 485 17 4 := ⟨by decide, _, tyJ12, rfl, rfl, q1996, q609, q167, tyJ12_ok, by decide +kernel⟩
theorem no_X4_30 : NO "RideDesk$Parser" 30 4 3 := ⟨by decide, _, tyX5, rfl, rfl, q546, q547, q161, tyX5_ok, by decide +kernel⟩
theorem no_X4_37 : NO "RideDesk$Parser" 37 16 3 := ⟨by decide, _, tyJ9, rfl, rfl, q885, q588, q164, tyJ9_ok, by decide +kernel⟩
theorem no_X4_76 : NO "RideDesk$Parser" 76 17 4 := ⟨by decide, _, tyJ12, rfl, rfl, q941, q609, q167, tyJ12_ok, by decide +kernel⟩
theorem no_X4_109 : NO "RideDesk$Parser" 109 6 8 := ⟨by decide, _, tyX7, rfl, rfl, q1001, q1002, q177, tyX7_ok, by decide +kernel⟩
theorem no_X4_142 : NO "RideDesk$Parser" 142 8 2 := ⟨by decide, _, tyX9, rfl, rfl, q1224, q1225, q180, tyX9_ok, by decide +kernel⟩
theorem no_X4_204 : NO "RideDesk$Parser" 204 7 2 := ⟨by decide, _, tyX8, rfl, rfl, q1135, q1136, q179, tyX8_ok, by decide +kernel⟩
theorem no_X4_225 : NO "RideDesk$Parser" 225 9 6 := ⟨by decide, _, tyX10, rfl, rfl, q1245, q1246, q181, tyX10_ok, by decide +kernel⟩
theorem no_X4_254 : NO "RideDesk$Parser" 254 10 5 := ⟨by decide, _, tyX12, rfl, rfl, q1288, q1289, q183, tyX12_ok, by decide +kernel⟩
theorem no_X5_9 : NO "RideDesk$Plan" 9 5 7 := ⟨by decide, _, tyX6, rfl, rfl, q552, q553, q162, tyX6_ok, by decide +kernel⟩
theorem no_X5_18 : NO "RideDesk$Plan" 18 16 3 := ⟨by decide, _, tyJ9, rfl, rfl, q587, q588, q164, tyJ9_ok, by decide +kernel⟩
theorem no_X5_55 : NO "RideDesk$Plan" 55 7 2 := ⟨by decide, _, tyX8, rfl, rfl, q393, q1136, q179, tyX8_ok, by decide +kernel⟩
theorem no_X2_12 : NO "RideDesk$Route" 12 2 4 := ⟨by decide, _, tyX2, rfl, rfl, q1950, q225, q150, tyX2_ok, by decide +kernel⟩
theorem no_X2_35 : NO "RideDesk$Route" 35 14 2 := ⟨by decide, _, tyX18, rfl, rfl, q1791, q1792, q190, tyX18_ok, by decide +kernel⟩
theorem no_X2_43 : NO "RideDesk$Route" 43 12 2 := ⟨by decide, _, tyX16, rfl, rfl, q1517, q1403, q187, tyX16_ok, by decide +kernel⟩
theorem no_X14_9 : NO "RideDesk$State" 9 2 4 := ⟨by decide, _, tyX2, rfl, rfl, q1340, q225, q150, tyX2_ok, by decide +kernel⟩
theorem no_X14_12 : NO "RideDesk$State" 12 11 9 := ⟨by decide, _, tyX14, rfl, rfl, q1334, q1335, q185, tyX14_ok, by decide +kernel⟩
theorem no_X14_33 : NO "RideDesk$State" 33 10 5 := ⟨by decide, _, tyX12, rfl, rfl, q1342, q1289, q183, tyX12_ok, by decide +kernel⟩
theorem no_X14_74 : NO "RideDesk$State" 74 9 6 := ⟨by decide, _, tyX10, rfl, rfl, q1389, q1246, q181, tyX10_ok, by decide +kernel⟩
theorem no_X0_8 : NO "RideDeskLaw" 8 1 17 := ⟨by decide, _, tyX1, rfl, rfl, q192, q193, q147, tyX1_ok, by decide +kernel⟩
theorem no_X0_159 : NO "RideDeskLaw" 159 0 36 := ⟨by decide, _, tyX3, rfl, rfl, q2168, q2169, q151, tyX3_ok, by decide +kernel⟩
theorem no_J7_10 : NO "java/lang/String" 10 18 4 := ⟨by decide, _, tyJ7, rfl, rfl, q993, q499, q157, tyJ7_ok, by decide +kernel⟩
theorem no_J12_18 : NO "java/lang/StringBuilder" 18 18 4 := ⟨by decide, _, tyJ7, rfl, rfl, q789, q499, q157, tyJ7_ok, by decide +kernel⟩
theorem no_J9_20 : NO "java/util/ArrayList" 20 17 4 := ⟨by decide, _, tyJ12, rfl, rfl, q608, q609, q167, tyJ12_ok, by decide +kernel⟩
theorem no_J16_45 : NO "java/util/Arrays" 45 17 4 := ⟨by decide, _, tyJ12, rfl, rfl, q821, q609, q167, tyJ12_ok, by decide +kernel⟩
theorem no_J14_89 : NO "jdk/internal/util/ArraysSupport" 89 17 4 := ⟨by decide, _, tyJ12, rfl, rfl, q1100, q609, q167, tyJ12_ok, by decide +kernel⟩
