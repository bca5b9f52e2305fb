/-! DECODE ROWS BY BYTES: one lemma an opcode; a method's code is cut into short pieces once, and a row reads its own piece alone. -/
set_option maxRecDepth 100000
/-- the code has just these bytes from pc on -/
def DkAt (code : ByteArray) (pc : Nat) (bs : List UInt8) : Prop := ∀ (j : Nat) (b : UInt8), bs[j]? = some b → code.data.toList[pc + j]? = some b
/-- the piece W has the bytes bs from its place j on -/
def dkIn (W : List UInt8) (j : Nat) (bs : List UInt8) : Bool := decide ((W.drop j).take bs.length = bs)
theorem dk_seg {l W T : List UInt8} {o o2 : Nat} (h : l.drop o = W ++ T) (n : Nat) (hn : W.length = n) (ho : o + n = o2) : l.drop o2 = T := by
  subst ho
  rw [← List.drop_drop, h, List.drop_left' hn]
theorem dk_at {code : ByteArray} {W T bs : List UInt8} {o pc : Nat} (h : code.data.toList.drop o = W ++ T) (j : Nat) (hp : o + j = pc) (hw : dkIn W j bs = true) : DkAt code pc bs := by
  subst hp
  intro i b e
  have h1 := of_decide_eq_true hw
  have h2 : i < bs.length := (List.getElem?_eq_some_iff.mp e).1
  have h3 : W[j + i]? = some b := by
    rw [← h1, List.getElem?_take, if_pos h2, List.getElem?_drop] at e
    exact e
  have h4 : j + i < W.length := (List.getElem?_eq_some_iff.mp h3).1
  have h5 : (code.data.toList.drop o)[j + i]? = some b := by
    rw [h, List.getElem?_append_left h4]
    exact h3
  rw [List.getElem?_drop, ← Nat.add_assoc] at h5
  exact h5
theorem dk_u1 {A : ByteArray} {p : Nat} {b : UInt8} (h : A.data.toList[p]? = some b) : (Reader.u1 : Reader DecodeError Nat) A p = .ok (b.toNat, p + 1) := by
  obtain ⟨h1, h2⟩ := List.getElem?_eq_some_iff.mp h
  have h3 : p < A.size := by simpa using h1
  have h4 : A[p]'h3 = b := h2
  have e : (Reader.u1 : Reader DecodeError Nat) A p = (if h : p < A.size then .ok (A[p].toNat, p + 1) else .error (HasTruncated.truncated p)) := by
    show (do if h : p < A.size then do set (p + 1); Pure.pure A[p].toNat else MonadExcept.throw (HasTruncated.truncated p) : Reader DecodeError Nat) A p = _
    by_cases hi : p < A.size
    · rw [dif_pos hi, dif_pos hi]; rfl
    · rw [dif_neg hi, dif_neg hi]; rfl
  rw [e, dif_pos h3, h4]
theorem dk_bind {α β : Type} {r : Reader DecodeError α} {f : α → Reader DecodeError β} {A : ByteArray} {p s : Nat} {a : α} (h : r A p = .ok (a, s)) : (r >>= f) A p = f a A s := by
  show (do let (a, s) ← r A p; f a A s : Except DecodeError (β × Nat)) = _
  rw [h]
  rfl
theorem dk_map {α β : Type} {r : Reader DecodeError α} {g : α → β} {A : ByteArray} {p s : Nat} {a : α} (h : r A p = .ok (a, s)) : (g <$> r) A p = .ok (g a, s) := by
  show (do let (a, s) ← r A p; .ok (g a, s) : Except DecodeError (β × Nat)) = _
  rw [h]
  rfl
theorem dk_u2 {A : ByteArray} {p : Nat} {a b : UInt8} (h : A.data.toList[p]? = some a) (h2 : A.data.toList[p + 1]? = some b) : (Reader.u2 : Reader DecodeError Nat) A p = .ok (a.toNat * 256 + b.toNat, p + 2) := by
  show (Reader.u1 >>= fun hi => Reader.u1 >>= fun lo => Pure.pure (hi * 256 + lo) : Reader DecodeError Nat) A p = _
  rw [dk_bind (dk_u1 h), dk_bind (dk_u1 h2)]
  rfl
theorem dk_of {code : ByteArray} {pc n : Nat} {i : Instr} (h : Decoder.instr pc code pc = .ok (i, pc + n)) : decode code pc = .ok (i, n) := by
  have e : decode code pc = (match Decoder.instr pc code pc with | .error x => .error x | .ok (j, s) => .ok (j, s - pc)) := by
    show (do let (j, s) ← Decoder.instr pc code pc; Pure.pure (j, s - pc) : Except DecodeError (Instr × Nat)) = _
    cases Decoder.instr pc code pc <;> rfl
  rw [e, h]
  show Except.ok (i, pc + n - pc) = _
  rw [Nat.add_sub_cancel_left]
theorem dk_1 {code : ByteArray} {pc : Nat} (h : DkAt code pc [1]) : decode code pc = .ok (.aconst_null, 1) := dk_of ((dk_bind (dk_u1 (h 0 _ rfl))).trans rfl)
theorem dk_2 {code : ByteArray} {pc : Nat} (h : DkAt code pc [2]) : decode code pc = .ok (.iconst (-1), 1) := dk_of ((dk_bind (dk_u1 (h 0 _ rfl))).trans rfl)
theorem dk_3 {code : ByteArray} {pc : Nat} (h : DkAt code pc [3]) : decode code pc = .ok (.iconst 0, 1) := dk_of ((dk_bind (dk_u1 (h 0 _ rfl))).trans rfl)
theorem dk_4 {code : ByteArray} {pc : Nat} (h : DkAt code pc [4]) : decode code pc = .ok (.iconst 1, 1) := dk_of ((dk_bind (dk_u1 (h 0 _ rfl))).trans rfl)
theorem dk_5 {code : ByteArray} {pc : Nat} (h : DkAt code pc [5]) : decode code pc = .ok (.iconst 2, 1) := dk_of ((dk_bind (dk_u1 (h 0 _ rfl))).trans rfl)
theorem dk_6 {code : ByteArray} {pc : Nat} (h : DkAt code pc [6]) : decode code pc = .ok (.iconst 3, 1) := dk_of ((dk_bind (dk_u1 (h 0 _ rfl))).trans rfl)
theorem dk_7 {code : ByteArray} {pc : Nat} (h : DkAt code pc [7]) : decode code pc = .ok (.iconst 4, 1) := dk_of ((dk_bind (dk_u1 (h 0 _ rfl))).trans rfl)
theorem dk_8 {code : ByteArray} {pc : Nat} (h : DkAt code pc [8]) : decode code pc = .ok (.iconst 5, 1) := dk_of ((dk_bind (dk_u1 (h 0 _ rfl))).trans rfl)
theorem dk_9 {code : ByteArray} {pc : Nat} (h : DkAt code pc [9]) : decode code pc = .ok (.lconst 0, 1) := dk_of ((dk_bind (dk_u1 (h 0 _ rfl))).trans rfl)
theorem dk_10 {code : ByteArray} {pc : Nat} (h : DkAt code pc [10]) : decode code pc = .ok (.lconst 1, 1) := dk_of ((dk_bind (dk_u1 (h 0 _ rfl))).trans rfl)
theorem dk_11 {code : ByteArray} {pc : Nat} (h : DkAt code pc [11]) : decode code pc = .ok (.fconst 0, 1) := dk_of ((dk_bind (dk_u1 (h 0 _ rfl))).trans rfl)
theorem dk_16 {code : ByteArray} {pc : Nat} (a : UInt8) (h : DkAt code pc [16, a]) : decode code pc = .ok (.bipush (Reader.signed 8 a.toNat), 2) := dk_of ((dk_bind (dk_u1 (h 0 _ rfl))).trans ((dk_bind (dk_map (dk_u1 (h 1 _ rfl)))).trans rfl))
theorem dk_17 {code : ByteArray} {pc : Nat} (a b : UInt8) (h : DkAt code pc [17, a, b]) : decode code pc = .ok (.sipush (Reader.signed 16 (a.toNat * 256 + b.toNat)), 3) := dk_of ((dk_bind (dk_u1 (h 0 _ rfl))).trans ((dk_bind (dk_map (dk_u2 (h 1 _ rfl) (h 2 _ rfl)))).trans rfl))
theorem dk_18 {code : ByteArray} {pc : Nat} (a : UInt8) (h : DkAt code pc [18, a]) : decode code pc = .ok (.ldc a.toNat, 2) := dk_of ((dk_bind (dk_u1 (h 0 _ rfl))).trans ((dk_bind (dk_u1 (h 1 _ rfl))).trans rfl))
theorem dk_19 {code : ByteArray} {pc : Nat} (a b : UInt8) (h : DkAt code pc [19, a, b]) : decode code pc = .ok (.ldc_w (a.toNat * 256 + b.toNat), 3) := dk_of ((dk_bind (dk_u1 (h 0 _ rfl))).trans ((dk_bind (dk_u2 (h 1 _ rfl) (h 2 _ rfl))).trans rfl))
theorem dk_21 {code : ByteArray} {pc : Nat} (a : UInt8) (h : DkAt code pc [21, a]) : decode code pc = .ok (.iload a.toNat, 2) := dk_of ((dk_bind (dk_u1 (h 0 _ rfl))).trans ((dk_bind (dk_u1 (h 1 _ rfl))).trans rfl))
theorem dk_23 {code : ByteArray} {pc : Nat} (a : UInt8) (h : DkAt code pc [23, a]) : decode code pc = .ok (.fload a.toNat, 2) := dk_of ((dk_bind (dk_u1 (h 0 _ rfl))).trans ((dk_bind (dk_u1 (h 1 _ rfl))).trans rfl))
theorem dk_25 {code : ByteArray} {pc : Nat} (a : UInt8) (h : DkAt code pc [25, a]) : decode code pc = .ok (.aload a.toNat, 2) := dk_of ((dk_bind (dk_u1 (h 0 _ rfl))).trans ((dk_bind (dk_u1 (h 1 _ rfl))).trans rfl))
theorem dk_26 {code : ByteArray} {pc : Nat} (h : DkAt code pc [26]) : decode code pc = .ok (.iload_n 0, 1) := dk_of ((dk_bind (dk_u1 (h 0 _ rfl))).trans rfl)
theorem dk_27 {code : ByteArray} {pc : Nat} (h : DkAt code pc [27]) : decode code pc = .ok (.iload_n 1, 1) := dk_of ((dk_bind (dk_u1 (h 0 _ rfl))).trans rfl)
theorem dk_28 {code : ByteArray} {pc : Nat} (h : DkAt code pc [28]) : decode code pc = .ok (.iload_n 2, 1) := dk_of ((dk_bind (dk_u1 (h 0 _ rfl))).trans rfl)
theorem dk_29 {code : ByteArray} {pc : Nat} (h : DkAt code pc [29]) : decode code pc = .ok (.iload_n 3, 1) := dk_of ((dk_bind (dk_u1 (h 0 _ rfl))).trans rfl)
theorem dk_35 {code : ByteArray} {pc : Nat} (h : DkAt code pc [35]) : decode code pc = .ok (.fload_n 1, 1) := dk_of ((dk_bind (dk_u1 (h 0 _ rfl))).trans rfl)
theorem dk_36 {code : ByteArray} {pc : Nat} (h : DkAt code pc [36]) : decode code pc = .ok (.fload_n 2, 1) := dk_of ((dk_bind (dk_u1 (h 0 _ rfl))).trans rfl)
theorem dk_42 {code : ByteArray} {pc : Nat} (h : DkAt code pc [42]) : decode code pc = .ok (.aload_n 0, 1) := dk_of ((dk_bind (dk_u1 (h 0 _ rfl))).trans rfl)
theorem dk_43 {code : ByteArray} {pc : Nat} (h : DkAt code pc [43]) : decode code pc = .ok (.aload_n 1, 1) := dk_of ((dk_bind (dk_u1 (h 0 _ rfl))).trans rfl)
theorem dk_44 {code : ByteArray} {pc : Nat} (h : DkAt code pc [44]) : decode code pc = .ok (.aload_n 2, 1) := dk_of ((dk_bind (dk_u1 (h 0 _ rfl))).trans rfl)
theorem dk_45 {code : ByteArray} {pc : Nat} (h : DkAt code pc [45]) : decode code pc = .ok (.aload_n 3, 1) := dk_of ((dk_bind (dk_u1 (h 0 _ rfl))).trans rfl)
theorem dk_46 {code : ByteArray} {pc : Nat} (h : DkAt code pc [46]) : decode code pc = .ok (.iaload, 1) := dk_of ((dk_bind (dk_u1 (h 0 _ rfl))).trans rfl)
theorem dk_47 {code : ByteArray} {pc : Nat} (h : DkAt code pc [47]) : decode code pc = .ok (.laload, 1) := dk_of ((dk_bind (dk_u1 (h 0 _ rfl))).trans rfl)
theorem dk_49 {code : ByteArray} {pc : Nat} (h : DkAt code pc [49]) : decode code pc = .ok (.daload, 1) := dk_of ((dk_bind (dk_u1 (h 0 _ rfl))).trans rfl)
theorem dk_50 {code : ByteArray} {pc : Nat} (h : DkAt code pc [50]) : decode code pc = .ok (.aaload, 1) := dk_of ((dk_bind (dk_u1 (h 0 _ rfl))).trans rfl)
theorem dk_51 {code : ByteArray} {pc : Nat} (h : DkAt code pc [51]) : decode code pc = .ok (.baload, 1) := dk_of ((dk_bind (dk_u1 (h 0 _ rfl))).trans rfl)
theorem dk_52 {code : ByteArray} {pc : Nat} (h : DkAt code pc [52]) : decode code pc = .ok (.caload, 1) := dk_of ((dk_bind (dk_u1 (h 0 _ rfl))).trans rfl)
theorem dk_53 {code : ByteArray} {pc : Nat} (h : DkAt code pc [53]) : decode code pc = .ok (.saload, 1) := dk_of ((dk_bind (dk_u1 (h 0 _ rfl))).trans rfl)
theorem dk_54 {code : ByteArray} {pc : Nat} (a : UInt8) (h : DkAt code pc [54, a]) : decode code pc = .ok (.istore a.toNat, 2) := dk_of ((dk_bind (dk_u1 (h 0 _ rfl))).trans ((dk_bind (dk_u1 (h 1 _ rfl))).trans rfl))
theorem dk_56 {code : ByteArray} {pc : Nat} (a : UInt8) (h : DkAt code pc [56, a]) : decode code pc = .ok (.fstore a.toNat, 2) := dk_of ((dk_bind (dk_u1 (h 0 _ rfl))).trans ((dk_bind (dk_u1 (h 1 _ rfl))).trans rfl))
theorem dk_58 {code : ByteArray} {pc : Nat} (a : UInt8) (h : DkAt code pc [58, a]) : decode code pc = .ok (.astore a.toNat, 2) := dk_of ((dk_bind (dk_u1 (h 0 _ rfl))).trans ((dk_bind (dk_u1 (h 1 _ rfl))).trans rfl))
theorem dk_59 {code : ByteArray} {pc : Nat} (h : DkAt code pc [59]) : decode code pc = .ok (.istore_n 0, 1) := dk_of ((dk_bind (dk_u1 (h 0 _ rfl))).trans rfl)
theorem dk_60 {code : ByteArray} {pc : Nat} (h : DkAt code pc [60]) : decode code pc = .ok (.istore_n 1, 1) := dk_of ((dk_bind (dk_u1 (h 0 _ rfl))).trans rfl)
theorem dk_61 {code : ByteArray} {pc : Nat} (h : DkAt code pc [61]) : decode code pc = .ok (.istore_n 2, 1) := dk_of ((dk_bind (dk_u1 (h 0 _ rfl))).trans rfl)
theorem dk_62 {code : ByteArray} {pc : Nat} (h : DkAt code pc [62]) : decode code pc = .ok (.istore_n 3, 1) := dk_of ((dk_bind (dk_u1 (h 0 _ rfl))).trans rfl)
theorem dk_68 {code : ByteArray} {pc : Nat} (h : DkAt code pc [68]) : decode code pc = .ok (.fstore_n 1, 1) := dk_of ((dk_bind (dk_u1 (h 0 _ rfl))).trans rfl)
theorem dk_69 {code : ByteArray} {pc : Nat} (h : DkAt code pc [69]) : decode code pc = .ok (.fstore_n 2, 1) := dk_of ((dk_bind (dk_u1 (h 0 _ rfl))).trans rfl)
theorem dk_76 {code : ByteArray} {pc : Nat} (h : DkAt code pc [76]) : decode code pc = .ok (.astore_n 1, 1) := dk_of ((dk_bind (dk_u1 (h 0 _ rfl))).trans rfl)
theorem dk_77 {code : ByteArray} {pc : Nat} (h : DkAt code pc [77]) : decode code pc = .ok (.astore_n 2, 1) := dk_of ((dk_bind (dk_u1 (h 0 _ rfl))).trans rfl)
theorem dk_78 {code : ByteArray} {pc : Nat} (h : DkAt code pc [78]) : decode code pc = .ok (.astore_n 3, 1) := dk_of ((dk_bind (dk_u1 (h 0 _ rfl))).trans rfl)
theorem dk_79 {code : ByteArray} {pc : Nat} (h : DkAt code pc [79]) : decode code pc = .ok (.iastore, 1) := dk_of ((dk_bind (dk_u1 (h 0 _ rfl))).trans rfl)
theorem dk_80 {code : ByteArray} {pc : Nat} (h : DkAt code pc [80]) : decode code pc = .ok (.lastore, 1) := dk_of ((dk_bind (dk_u1 (h 0 _ rfl))).trans rfl)
theorem dk_82 {code : ByteArray} {pc : Nat} (h : DkAt code pc [82]) : decode code pc = .ok (.dastore, 1) := dk_of ((dk_bind (dk_u1 (h 0 _ rfl))).trans rfl)
theorem dk_83 {code : ByteArray} {pc : Nat} (h : DkAt code pc [83]) : decode code pc = .ok (.aastore, 1) := dk_of ((dk_bind (dk_u1 (h 0 _ rfl))).trans rfl)
theorem dk_84 {code : ByteArray} {pc : Nat} (h : DkAt code pc [84]) : decode code pc = .ok (.bastore, 1) := dk_of ((dk_bind (dk_u1 (h 0 _ rfl))).trans rfl)
theorem dk_87 {code : ByteArray} {pc : Nat} (h : DkAt code pc [87]) : decode code pc = .ok (.pop, 1) := dk_of ((dk_bind (dk_u1 (h 0 _ rfl))).trans rfl)
theorem dk_89 {code : ByteArray} {pc : Nat} (h : DkAt code pc [89]) : decode code pc = .ok (.dup, 1) := dk_of ((dk_bind (dk_u1 (h 0 _ rfl))).trans rfl)
theorem dk_90 {code : ByteArray} {pc : Nat} (h : DkAt code pc [90]) : decode code pc = .ok (.dup_x1, 1) := dk_of ((dk_bind (dk_u1 (h 0 _ rfl))).trans rfl)
theorem dk_92 {code : ByteArray} {pc : Nat} (h : DkAt code pc [92]) : decode code pc = .ok (.dup2, 1) := dk_of ((dk_bind (dk_u1 (h 0 _ rfl))).trans rfl)
theorem dk_96 {code : ByteArray} {pc : Nat} (h : DkAt code pc [96]) : decode code pc = .ok (.iadd, 1) := dk_of ((dk_bind (dk_u1 (h 0 _ rfl))).trans rfl)
theorem dk_98 {code : ByteArray} {pc : Nat} (h : DkAt code pc [98]) : decode code pc = .ok (.fadd, 1) := dk_of ((dk_bind (dk_u1 (h 0 _ rfl))).trans rfl)
theorem dk_100 {code : ByteArray} {pc : Nat} (h : DkAt code pc [100]) : decode code pc = .ok (.isub, 1) := dk_of ((dk_bind (dk_u1 (h 0 _ rfl))).trans rfl)
theorem dk_104 {code : ByteArray} {pc : Nat} (h : DkAt code pc [104]) : decode code pc = .ok (.imul, 1) := dk_of ((dk_bind (dk_u1 (h 0 _ rfl))).trans rfl)
theorem dk_108 {code : ByteArray} {pc : Nat} (h : DkAt code pc [108]) : decode code pc = .ok (.idiv, 1) := dk_of ((dk_bind (dk_u1 (h 0 _ rfl))).trans rfl)
theorem dk_110 {code : ByteArray} {pc : Nat} (h : DkAt code pc [110]) : decode code pc = .ok (.fdiv, 1) := dk_of ((dk_bind (dk_u1 (h 0 _ rfl))).trans rfl)
theorem dk_112 {code : ByteArray} {pc : Nat} (h : DkAt code pc [112]) : decode code pc = .ok (.irem, 1) := dk_of ((dk_bind (dk_u1 (h 0 _ rfl))).trans rfl)
theorem dk_116 {code : ByteArray} {pc : Nat} (h : DkAt code pc [116]) : decode code pc = .ok (.ineg, 1) := dk_of ((dk_bind (dk_u1 (h 0 _ rfl))).trans rfl)
theorem dk_120 {code : ByteArray} {pc : Nat} (h : DkAt code pc [120]) : decode code pc = .ok (.ishl, 1) := dk_of ((dk_bind (dk_u1 (h 0 _ rfl))).trans rfl)
theorem dk_122 {code : ByteArray} {pc : Nat} (h : DkAt code pc [122]) : decode code pc = .ok (.ishr, 1) := dk_of ((dk_bind (dk_u1 (h 0 _ rfl))).trans rfl)
theorem dk_124 {code : ByteArray} {pc : Nat} (h : DkAt code pc [124]) : decode code pc = .ok (.iushr, 1) := dk_of ((dk_bind (dk_u1 (h 0 _ rfl))).trans rfl)
theorem dk_126 {code : ByteArray} {pc : Nat} (h : DkAt code pc [126]) : decode code pc = .ok (.iand, 1) := dk_of ((dk_bind (dk_u1 (h 0 _ rfl))).trans rfl)
theorem dk_128 {code : ByteArray} {pc : Nat} (h : DkAt code pc [128]) : decode code pc = .ok (.ior, 1) := dk_of ((dk_bind (dk_u1 (h 0 _ rfl))).trans rfl)
theorem dk_130 {code : ByteArray} {pc : Nat} (h : DkAt code pc [130]) : decode code pc = .ok (.ixor, 1) := dk_of ((dk_bind (dk_u1 (h 0 _ rfl))).trans rfl)
theorem dk_132 {code : ByteArray} {pc : Nat} (a b : UInt8) (h : DkAt code pc [132, a, b]) : decode code pc = .ok (.iinc a.toNat (Reader.signed 8 b.toNat), 3) := dk_of ((dk_bind (dk_u1 (h 0 _ rfl))).trans ((dk_bind (dk_u1 (h 1 _ rfl))).trans ((dk_bind (dk_map (dk_u1 (h 2 _ rfl)))).trans rfl)))
theorem dk_133 {code : ByteArray} {pc : Nat} (h : DkAt code pc [133]) : decode code pc = .ok (.i2l, 1) := dk_of ((dk_bind (dk_u1 (h 0 _ rfl))).trans rfl)
theorem dk_134 {code : ByteArray} {pc : Nat} (h : DkAt code pc [134]) : decode code pc = .ok (.i2f, 1) := dk_of ((dk_bind (dk_u1 (h 0 _ rfl))).trans rfl)
theorem dk_141 {code : ByteArray} {pc : Nat} (h : DkAt code pc [141]) : decode code pc = .ok (.f2d, 1) := dk_of ((dk_bind (dk_u1 (h 0 _ rfl))).trans rfl)
theorem dk_145 {code : ByteArray} {pc : Nat} (h : DkAt code pc [145]) : decode code pc = .ok (.i2b, 1) := dk_of ((dk_bind (dk_u1 (h 0 _ rfl))).trans rfl)
theorem dk_146 {code : ByteArray} {pc : Nat} (h : DkAt code pc [146]) : decode code pc = .ok (.i2c, 1) := dk_of ((dk_bind (dk_u1 (h 0 _ rfl))).trans rfl)
theorem dk_148 {code : ByteArray} {pc : Nat} (h : DkAt code pc [148]) : decode code pc = .ok (.lcmp, 1) := dk_of ((dk_bind (dk_u1 (h 0 _ rfl))).trans rfl)
theorem dk_149 {code : ByteArray} {pc : Nat} (h : DkAt code pc [149]) : decode code pc = .ok (.fcmp .l, 1) := dk_of ((dk_bind (dk_u1 (h 0 _ rfl))).trans rfl)
theorem dk_151 {code : ByteArray} {pc : Nat} (h : DkAt code pc [151]) : decode code pc = .ok (.dcmp .l, 1) := dk_of ((dk_bind (dk_u1 (h 0 _ rfl))).trans rfl)
theorem dk_153 {code : ByteArray} {pc : Nat} (a b : UInt8) (h : DkAt code pc [153, a, b]) : decode code pc = .ok (.ifCond .eq (Reader.signed 16 (a.toNat * 256 + b.toNat)), 3) := dk_of ((dk_bind (dk_u1 (h 0 _ rfl))).trans ((dk_bind (dk_map (dk_u2 (h 1 _ rfl) (h 2 _ rfl)))).trans rfl))
theorem dk_154 {code : ByteArray} {pc : Nat} (a b : UInt8) (h : DkAt code pc [154, a, b]) : decode code pc = .ok (.ifCond .ne (Reader.signed 16 (a.toNat * 256 + b.toNat)), 3) := dk_of ((dk_bind (dk_u1 (h 0 _ rfl))).trans ((dk_bind (dk_map (dk_u2 (h 1 _ rfl) (h 2 _ rfl)))).trans rfl))
theorem dk_155 {code : ByteArray} {pc : Nat} (a b : UInt8) (h : DkAt code pc [155, a, b]) : decode code pc = .ok (.ifCond .lt (Reader.signed 16 (a.toNat * 256 + b.toNat)), 3) := dk_of ((dk_bind (dk_u1 (h 0 _ rfl))).trans ((dk_bind (dk_map (dk_u2 (h 1 _ rfl) (h 2 _ rfl)))).trans rfl))
theorem dk_156 {code : ByteArray} {pc : Nat} (a b : UInt8) (h : DkAt code pc [156, a, b]) : decode code pc = .ok (.ifCond .ge (Reader.signed 16 (a.toNat * 256 + b.toNat)), 3) := dk_of ((dk_bind (dk_u1 (h 0 _ rfl))).trans ((dk_bind (dk_map (dk_u2 (h 1 _ rfl) (h 2 _ rfl)))).trans rfl))
theorem dk_157 {code : ByteArray} {pc : Nat} (a b : UInt8) (h : DkAt code pc [157, a, b]) : decode code pc = .ok (.ifCond .gt (Reader.signed 16 (a.toNat * 256 + b.toNat)), 3) := dk_of ((dk_bind (dk_u1 (h 0 _ rfl))).trans ((dk_bind (dk_map (dk_u2 (h 1 _ rfl) (h 2 _ rfl)))).trans rfl))
theorem dk_158 {code : ByteArray} {pc : Nat} (a b : UInt8) (h : DkAt code pc [158, a, b]) : decode code pc = .ok (.ifCond .le (Reader.signed 16 (a.toNat * 256 + b.toNat)), 3) := dk_of ((dk_bind (dk_u1 (h 0 _ rfl))).trans ((dk_bind (dk_map (dk_u2 (h 1 _ rfl) (h 2 _ rfl)))).trans rfl))
theorem dk_159 {code : ByteArray} {pc : Nat} (a b : UInt8) (h : DkAt code pc [159, a, b]) : decode code pc = .ok (.if_icmp .eq (Reader.signed 16 (a.toNat * 256 + b.toNat)), 3) := dk_of ((dk_bind (dk_u1 (h 0 _ rfl))).trans ((dk_bind (dk_map (dk_u2 (h 1 _ rfl) (h 2 _ rfl)))).trans rfl))
theorem dk_160 {code : ByteArray} {pc : Nat} (a b : UInt8) (h : DkAt code pc [160, a, b]) : decode code pc = .ok (.if_icmp .ne (Reader.signed 16 (a.toNat * 256 + b.toNat)), 3) := dk_of ((dk_bind (dk_u1 (h 0 _ rfl))).trans ((dk_bind (dk_map (dk_u2 (h 1 _ rfl) (h 2 _ rfl)))).trans rfl))
theorem dk_161 {code : ByteArray} {pc : Nat} (a b : UInt8) (h : DkAt code pc [161, a, b]) : decode code pc = .ok (.if_icmp .lt (Reader.signed 16 (a.toNat * 256 + b.toNat)), 3) := dk_of ((dk_bind (dk_u1 (h 0 _ rfl))).trans ((dk_bind (dk_map (dk_u2 (h 1 _ rfl) (h 2 _ rfl)))).trans rfl))
theorem dk_162 {code : ByteArray} {pc : Nat} (a b : UInt8) (h : DkAt code pc [162, a, b]) : decode code pc = .ok (.if_icmp .ge (Reader.signed 16 (a.toNat * 256 + b.toNat)), 3) := dk_of ((dk_bind (dk_u1 (h 0 _ rfl))).trans ((dk_bind (dk_map (dk_u2 (h 1 _ rfl) (h 2 _ rfl)))).trans rfl))
theorem dk_163 {code : ByteArray} {pc : Nat} (a b : UInt8) (h : DkAt code pc [163, a, b]) : decode code pc = .ok (.if_icmp .gt (Reader.signed 16 (a.toNat * 256 + b.toNat)), 3) := dk_of ((dk_bind (dk_u1 (h 0 _ rfl))).trans ((dk_bind (dk_map (dk_u2 (h 1 _ rfl) (h 2 _ rfl)))).trans rfl))
theorem dk_164 {code : ByteArray} {pc : Nat} (a b : UInt8) (h : DkAt code pc [164, a, b]) : decode code pc = .ok (.if_icmp .le (Reader.signed 16 (a.toNat * 256 + b.toNat)), 3) := dk_of ((dk_bind (dk_u1 (h 0 _ rfl))).trans ((dk_bind (dk_map (dk_u2 (h 1 _ rfl) (h 2 _ rfl)))).trans rfl))
theorem dk_165 {code : ByteArray} {pc : Nat} (a b : UInt8) (h : DkAt code pc [165, a, b]) : decode code pc = .ok (.if_acmp .eq (Reader.signed 16 (a.toNat * 256 + b.toNat)), 3) := dk_of ((dk_bind (dk_u1 (h 0 _ rfl))).trans ((dk_bind (dk_map (dk_u2 (h 1 _ rfl) (h 2 _ rfl)))).trans rfl))
theorem dk_166 {code : ByteArray} {pc : Nat} (a b : UInt8) (h : DkAt code pc [166, a, b]) : decode code pc = .ok (.if_acmp .ne (Reader.signed 16 (a.toNat * 256 + b.toNat)), 3) := dk_of ((dk_bind (dk_u1 (h 0 _ rfl))).trans ((dk_bind (dk_map (dk_u2 (h 1 _ rfl) (h 2 _ rfl)))).trans rfl))
theorem dk_167 {code : ByteArray} {pc : Nat} (a b : UInt8) (h : DkAt code pc [167, a, b]) : decode code pc = .ok (.goto (Reader.signed 16 (a.toNat * 256 + b.toNat)), 3) := dk_of ((dk_bind (dk_u1 (h 0 _ rfl))).trans ((dk_bind (dk_map (dk_u2 (h 1 _ rfl) (h 2 _ rfl)))).trans rfl))
theorem dk_172 {code : ByteArray} {pc : Nat} (h : DkAt code pc [172]) : decode code pc = .ok (.ireturn, 1) := dk_of ((dk_bind (dk_u1 (h 0 _ rfl))).trans rfl)
theorem dk_174 {code : ByteArray} {pc : Nat} (h : DkAt code pc [174]) : decode code pc = .ok (.freturn, 1) := dk_of ((dk_bind (dk_u1 (h 0 _ rfl))).trans rfl)
theorem dk_176 {code : ByteArray} {pc : Nat} (h : DkAt code pc [176]) : decode code pc = .ok (.areturn, 1) := dk_of ((dk_bind (dk_u1 (h 0 _ rfl))).trans rfl)
theorem dk_177 {code : ByteArray} {pc : Nat} (h : DkAt code pc [177]) : decode code pc = .ok (.return_, 1) := dk_of ((dk_bind (dk_u1 (h 0 _ rfl))).trans rfl)
theorem dk_178 {code : ByteArray} {pc : Nat} (a b : UInt8) (h : DkAt code pc [178, a, b]) : decode code pc = .ok (.getstatic (a.toNat * 256 + b.toNat), 3) := dk_of ((dk_bind (dk_u1 (h 0 _ rfl))).trans ((dk_bind (dk_u2 (h 1 _ rfl) (h 2 _ rfl))).trans rfl))
theorem dk_180 {code : ByteArray} {pc : Nat} (a b : UInt8) (h : DkAt code pc [180, a, b]) : decode code pc = .ok (.getfield (a.toNat * 256 + b.toNat), 3) := dk_of ((dk_bind (dk_u1 (h 0 _ rfl))).trans ((dk_bind (dk_u2 (h 1 _ rfl) (h 2 _ rfl))).trans rfl))
theorem dk_181 {code : ByteArray} {pc : Nat} (a b : UInt8) (h : DkAt code pc [181, a, b]) : decode code pc = .ok (.putfield (a.toNat * 256 + b.toNat), 3) := dk_of ((dk_bind (dk_u1 (h 0 _ rfl))).trans ((dk_bind (dk_u2 (h 1 _ rfl) (h 2 _ rfl))).trans rfl))
theorem dk_182 {code : ByteArray} {pc : Nat} (a b : UInt8) (h : DkAt code pc [182, a, b]) : decode code pc = .ok (.invokevirtual (a.toNat * 256 + b.toNat), 3) := dk_of ((dk_bind (dk_u1 (h 0 _ rfl))).trans ((dk_bind (dk_u2 (h 1 _ rfl) (h 2 _ rfl))).trans rfl))
theorem dk_183 {code : ByteArray} {pc : Nat} (a b : UInt8) (h : DkAt code pc [183, a, b]) : decode code pc = .ok (.invokespecial (a.toNat * 256 + b.toNat), 3) := dk_of ((dk_bind (dk_u1 (h 0 _ rfl))).trans ((dk_bind (dk_u2 (h 1 _ rfl) (h 2 _ rfl))).trans rfl))
theorem dk_184 {code : ByteArray} {pc : Nat} (a b : UInt8) (h : DkAt code pc [184, a, b]) : decode code pc = .ok (.invokestatic (a.toNat * 256 + b.toNat), 3) := dk_of ((dk_bind (dk_u1 (h 0 _ rfl))).trans ((dk_bind (dk_u2 (h 1 _ rfl) (h 2 _ rfl))).trans rfl))
theorem dk_187 {code : ByteArray} {pc : Nat} (a b : UInt8) (h : DkAt code pc [187, a, b]) : decode code pc = .ok (.new (a.toNat * 256 + b.toNat), 3) := dk_of ((dk_bind (dk_u1 (h 0 _ rfl))).trans ((dk_bind (dk_u2 (h 1 _ rfl) (h 2 _ rfl))).trans rfl))
theorem dk_188_4 {code : ByteArray} {pc : Nat} (h : DkAt code pc [188, 4]) : decode code pc = .ok (.newarray .boolean, 2) := dk_of ((dk_bind (dk_u1 (h 0 _ rfl))).trans ((dk_bind (dk_u1 (h 1 _ rfl))).trans rfl))
theorem dk_188_7 {code : ByteArray} {pc : Nat} (h : DkAt code pc [188, 7]) : decode code pc = .ok (.newarray .double, 2) := dk_of ((dk_bind (dk_u1 (h 0 _ rfl))).trans ((dk_bind (dk_u1 (h 1 _ rfl))).trans rfl))
theorem dk_188_8 {code : ByteArray} {pc : Nat} (h : DkAt code pc [188, 8]) : decode code pc = .ok (.newarray .byte, 2) := dk_of ((dk_bind (dk_u1 (h 0 _ rfl))).trans ((dk_bind (dk_u1 (h 1 _ rfl))).trans rfl))
theorem dk_188_10 {code : ByteArray} {pc : Nat} (h : DkAt code pc [188, 10]) : decode code pc = .ok (.newarray .int, 2) := dk_of ((dk_bind (dk_u1 (h 0 _ rfl))).trans ((dk_bind (dk_u1 (h 1 _ rfl))).trans rfl))
theorem dk_188_11 {code : ByteArray} {pc : Nat} (h : DkAt code pc [188, 11]) : decode code pc = .ok (.newarray .long, 2) := dk_of ((dk_bind (dk_u1 (h 0 _ rfl))).trans ((dk_bind (dk_u1 (h 1 _ rfl))).trans rfl))
theorem dk_189 {code : ByteArray} {pc : Nat} (a b : UInt8) (h : DkAt code pc [189, a, b]) : decode code pc = .ok (.anewarray (a.toNat * 256 + b.toNat), 3) := dk_of ((dk_bind (dk_u1 (h 0 _ rfl))).trans ((dk_bind (dk_u2 (h 1 _ rfl) (h 2 _ rfl))).trans rfl))
theorem dk_190 {code : ByteArray} {pc : Nat} (h : DkAt code pc [190]) : decode code pc = .ok (.arraylength, 1) := dk_of ((dk_bind (dk_u1 (h 0 _ rfl))).trans rfl)
theorem dk_191 {code : ByteArray} {pc : Nat} (h : DkAt code pc [191]) : decode code pc = .ok (.athrow, 1) := dk_of ((dk_bind (dk_u1 (h 0 _ rfl))).trans rfl)
theorem dk_192 {code : ByteArray} {pc : Nat} (a b : UInt8) (h : DkAt code pc [192, a, b]) : decode code pc = .ok (.checkcast (a.toNat * 256 + b.toNat), 3) := dk_of ((dk_bind (dk_u1 (h 0 _ rfl))).trans ((dk_bind (dk_u2 (h 1 _ rfl) (h 2 _ rfl))).trans rfl))
theorem dk_193 {code : ByteArray} {pc : Nat} (a b : UInt8) (h : DkAt code pc [193, a, b]) : decode code pc = .ok (.instanceof (a.toNat * 256 + b.toNat), 3) := dk_of ((dk_bind (dk_u1 (h 0 _ rfl))).trans ((dk_bind (dk_u2 (h 1 _ rfl) (h 2 _ rfl))).trans rfl))
theorem dk_198 {code : ByteArray} {pc : Nat} (a b : UInt8) (h : DkAt code pc [198, a, b]) : decode code pc = .ok (.ifnull (Reader.signed 16 (a.toNat * 256 + b.toNat)), 3) := dk_of ((dk_bind (dk_u1 (h 0 _ rfl))).trans ((dk_bind (dk_map (dk_u2 (h 1 _ rfl) (h 2 _ rfl)))).trans rfl))
theorem dk_199 {code : ByteArray} {pc : Nat} (a b : UInt8) (h : DkAt code pc [199, a, b]) : decode code pc = .ok (.ifnonnull (Reader.signed 16 (a.toNat * 256 + b.toNat)), 3) := dk_of ((dk_bind (dk_u1 (h 0 _ rfl))).trans ((dk_bind (dk_map (dk_u2 (h 1 _ rfl) (h 2 _ rfl)))).trans rfl))

/-! RideDeskModel -/
set_option maxRecDepth 100000
def RX3 : String := "RideDeskModel"
def TX3 : u_T := fun k => match k with
  | 0 => ("RideDeskModel", "thrown", "I", false)
  | 1 => ("RideDeskModel", "hasDesk", "Z", false)
  | 2 => ("RideDeskModel", "s", "[I", true)
  | 3 => ("RideDeskModel", "stores", "[I", true)
  | 4 => ("RideDeskModel", "changes", "I", false)
  | 5 => ("RideDeskModel", "isKept", "[Z", true)
  | 6 => ("RideDeskModel", "buffer", "[I", true)
  | 7 => ("RideDeskModel", "buffered", "I", false)
  | 8 => ("RideDeskModel", "parseError", "I", false)
  | 9 => ("RideDeskModel", "errorPosition", "I", false)
  | 10 => ("RideDeskModel", "size", "I", false)
  | 11 => ("RideDeskModel", "next", "I", false)
  | 12 => ("RideDeskModel", "from", "I", false)
  | 13 => ("RideDeskModel", "sort", "I", false)
  | 14 => ("RideDeskModel", "word", "[I", true)
  | 15 => ("RideDeskModel", "wordLong", "I", false)
  | 16 => ("RideDeskModel", "number", "I", false)
  | 17 => ("RideDeskModel", "wrong", "I", false)
  | 18 => ("RideDeskModel", "wrongAt", "I", false)
  | 19 => ("RideDeskModel", "read", "[I", true)
  | 20 => ("RideDeskModel", "p", "[I", true)
  | 21 => ("RideDeskModel", "bestMore", "I", false)
  | 22 => ("RideDeskModel", "bestVan", "I", false)
  | 23 => ("RideDeskModel", "bestUp", "I", false)
  | 24 => ("RideDeskModel", "bestDown", "I", false)
  | 25 => ("RideDeskModel", "triedVan", "I", false)
  | 26 => ("RideDeskModel", "tryTime", "I", false)
  | 27 => ("RideDeskModel", "tryX", "I", false)
  | 28 => ("RideDeskModel", "tryY", "I", false)
  | 29 => ("RideDeskModel", "trySeats", "I", false)
  | 30 => ("RideDeskModel", "tryWheels", "I", false)
  | 31 => ("RideDeskModel", "picked", "[I", true)
  | 32 => ("RideDeskModel", "isOut", "[Z", true)
  | 33 => ("RideDeskModel", "shifted", "[I", true)
  | 34 => ("RideDeskModel", "text", "[I", true)
  | _ => ("RideDeskModel", "textLong", "I", false)
def tyX3 : Nat → FieldType := fun k => match k with
  | 0 => .int
  | 1 => .boolean
  | 2 => .array .int
  | 3 => .array .int
  | 4 => .int
  | 5 => .array .boolean
  | 6 => .array .int
  | 7 => .int
  | 8 => .int
  | 9 => .int
  | 10 => .int
  | 11 => .int
  | 12 => .int
  | 13 => .int
  | 14 => .array .int
  | 15 => .int
  | 16 => .int
  | 17 => .int
  | 18 => .int
  | 19 => .array .int
  | 20 => .array .int
  | 21 => .int
  | 22 => .int
  | 23 => .int
  | 24 => .int
  | 25 => .int
  | 26 => .int
  | 27 => .int
  | 28 => .int
  | 29 => .int
  | 30 => .int
  | 31 => .array .int
  | 32 => .array .boolean
  | 33 => .array .int
  | 34 => .array .int
  | _ => .int
abbrev wsX30 : List Cond := u_ws RX3 TX3 36
set_option maxRecDepth 100000 in
theorem nmX3 : ∀ a, a < 36 → ∀ b, b < 36 → a ≠ b → (TX3 a).2.1 ≠ (TX3 b).2.1 := by decide +kernel
set_option maxRecDepth 100000 in
theorem tyX3_ok : ∀ k, k < 36 → parseFieldDescriptor (TX3 k).2.2.1 = some (tyX3 k) := by decide +kernel
abbrev cX3_init : ByteArray := prog_23_method_1_code
def yX3_init : MethodName := ⟨RX3, "<init>", "()V"⟩
def dkwX3_init_4 : List UInt8 := [17, 2, 188, 188, 10, 181, 0, 45, 177]
abbrev dktX3_init_4 : List UInt8 := dkwX3_init_4 ++ []
def dkwX3_init_3 : List UInt8 := [188, 10, 181, 0, 36, 42, 16, 25, 188, 4, 181, 0, 39, 42, 16, 50, 188, 10, 181, 0, 42, 42]
abbrev dktX3_init_3 : List UInt8 := dkwX3_init_3 ++ dktX3_init_4
def dkwX3_init_2 : List UInt8 := [181, 0, 27, 42, 17, 0, 184, 188, 10, 181, 0, 30, 42, 17, 0, 184, 188, 10, 181, 0, 33, 42, 16, 25]
abbrev dktX3_init_2 : List UInt8 := dkwX3_init_2 ++ dktX3_init_3
def dkwX3_init_1 : List UInt8 := [188, 4, 181, 0, 16, 42, 17, 3, 232, 188, 10, 181, 0, 20, 42, 2, 181, 0, 23, 42, 16, 6, 188, 10]
abbrev dktX3_init_1 : List UInt8 := dkwX3_init_1 ++ dktX3_init_2
def dkwX3_init_0 : List UInt8 := [42, 183, 0, 1, 42, 17, 3, 67, 188, 10, 181, 0, 7, 42, 17, 29, 91, 188, 10, 181, 0, 13, 42, 5]
abbrev dktX3_init_0 : List UInt8 := dkwX3_init_0 ++ dktX3_init_1
theorem dksX3_init_0 : cX3_init.data.toList.drop 0 = dktX3_init_0 := by decide +kernel
theorem dksX3_init_1 : cX3_init.data.toList.drop 24 = dktX3_init_1 := dk_seg dksX3_init_0 24 rfl rfl
theorem dksX3_init_2 : cX3_init.data.toList.drop 48 = dktX3_init_2 := dk_seg dksX3_init_1 24 rfl rfl
theorem dksX3_init_3 : cX3_init.data.toList.drop 72 = dktX3_init_3 := dk_seg dksX3_init_2 24 rfl rfl
theorem dksX3_init_4 : cX3_init.data.toList.drop 94 = dktX3_init_4 := dk_seg dksX3_init_3 22 rfl rfl
theorem dX3_init_0 : decode cX3_init 0 = .ok (.aload_n 0, 1) := dk_42 (dk_at dksX3_init_0 0 rfl rfl)
theorem dX3_init_1 : decode cX3_init 1 = .ok (.invokespecial 1, 3) := dk_183 0 1 (dk_at dksX3_init_0 1 rfl rfl)
theorem dX3_init_4 : decode cX3_init 4 = .ok (.aload_n 0, 1) := dk_42 (dk_at dksX3_init_0 4 rfl rfl)
theorem dX3_init_5 : decode cX3_init 5 = .ok (.sipush 835, 3) := dk_17 3 67 (dk_at dksX3_init_0 5 rfl rfl)
theorem dX3_init_8 : decode cX3_init 8 = .ok (.newarray .int, 2) := dk_188_10 (dk_at dksX3_init_0 8 rfl rfl)
theorem dX3_init_10 : decode cX3_init 10 = .ok (.putfield 7, 3) := dk_181 0 7 (dk_at dksX3_init_0 10 rfl rfl)
theorem dX3_init_13 : decode cX3_init 13 = .ok (.aload_n 0, 1) := dk_42 (dk_at dksX3_init_0 13 rfl rfl)
theorem dX3_init_14 : decode cX3_init 14 = .ok (.sipush 7515, 3) := dk_17 29 91 (dk_at dksX3_init_0 14 rfl rfl)
theorem dX3_init_17 : decode cX3_init 17 = .ok (.newarray .int, 2) := dk_188_10 (dk_at dksX3_init_0 17 rfl rfl)
theorem dX3_init_19 : decode cX3_init 19 = .ok (.putfield 13, 3) := dk_181 0 13 (dk_at dksX3_init_0 19 rfl rfl)
theorem dX3_init_22 : decode cX3_init 22 = .ok (.aload_n 0, 1) := dk_42 (dk_at dksX3_init_0 22 rfl rfl)
theorem dX3_init_23 : decode cX3_init 23 = .ok (.iconst 2, 1) := dk_5 (dk_at dksX3_init_0 23 rfl rfl)
theorem dX3_init_24 : decode cX3_init 24 = .ok (.newarray .boolean, 2) := dk_188_4 (dk_at dksX3_init_1 0 rfl rfl)
theorem dX3_init_26 : decode cX3_init 26 = .ok (.putfield 16, 3) := dk_181 0 16 (dk_at dksX3_init_1 2 rfl rfl)
theorem dX3_init_29 : decode cX3_init 29 = .ok (.aload_n 0, 1) := dk_42 (dk_at dksX3_init_1 5 rfl rfl)
theorem dX3_init_30 : decode cX3_init 30 = .ok (.sipush 1000, 3) := dk_17 3 232 (dk_at dksX3_init_1 6 rfl rfl)
theorem dX3_init_33 : decode cX3_init 33 = .ok (.newarray .int, 2) := dk_188_10 (dk_at dksX3_init_1 9 rfl rfl)
theorem dX3_init_35 : decode cX3_init 35 = .ok (.putfield 20, 3) := dk_181 0 20 (dk_at dksX3_init_1 11 rfl rfl)
theorem dX3_init_38 : decode cX3_init 38 = .ok (.aload_n 0, 1) := dk_42 (dk_at dksX3_init_1 14 rfl rfl)
theorem dX3_init_39 : decode cX3_init 39 = .ok (.iconst (-1), 1) := dk_2 (dk_at dksX3_init_1 15 rfl rfl)
theorem dX3_init_40 : decode cX3_init 40 = .ok (.putfield 23, 3) := dk_181 0 23 (dk_at dksX3_init_1 16 rfl rfl)
theorem dX3_init_43 : decode cX3_init 43 = .ok (.aload_n 0, 1) := dk_42 (dk_at dksX3_init_1 19 rfl rfl)
theorem dX3_init_44 : decode cX3_init 44 = .ok (.bipush 6, 2) := dk_16 6 (dk_at dksX3_init_1 20 rfl rfl)
theorem dX3_init_46 : decode cX3_init 46 = .ok (.newarray .int, 2) := dk_188_10 (dk_at dksX3_init_1 22 rfl rfl)
theorem dX3_init_48 : decode cX3_init 48 = .ok (.putfield 27, 3) := dk_181 0 27 (dk_at dksX3_init_2 0 rfl rfl)
theorem dX3_init_51 : decode cX3_init 51 = .ok (.aload_n 0, 1) := dk_42 (dk_at dksX3_init_2 3 rfl rfl)
theorem dX3_init_52 : decode cX3_init 52 = .ok (.sipush 184, 3) := dk_17 0 184 (dk_at dksX3_init_2 4 rfl rfl)
theorem dX3_init_55 : decode cX3_init 55 = .ok (.newarray .int, 2) := dk_188_10 (dk_at dksX3_init_2 7 rfl rfl)
theorem dX3_init_57 : decode cX3_init 57 = .ok (.putfield 30, 3) := dk_181 0 30 (dk_at dksX3_init_2 9 rfl rfl)
theorem dX3_init_60 : decode cX3_init 60 = .ok (.aload_n 0, 1) := dk_42 (dk_at dksX3_init_2 12 rfl rfl)
theorem dX3_init_61 : decode cX3_init 61 = .ok (.sipush 184, 3) := dk_17 0 184 (dk_at dksX3_init_2 13 rfl rfl)
theorem dX3_init_64 : decode cX3_init 64 = .ok (.newarray .int, 2) := dk_188_10 (dk_at dksX3_init_2 16 rfl rfl)
theorem dX3_init_66 : decode cX3_init 66 = .ok (.putfield 33, 3) := dk_181 0 33 (dk_at dksX3_init_2 18 rfl rfl)
theorem dX3_init_69 : decode cX3_init 69 = .ok (.aload_n 0, 1) := dk_42 (dk_at dksX3_init_2 21 rfl rfl)
theorem dX3_init_70 : decode cX3_init 70 = .ok (.bipush 25, 2) := dk_16 25 (dk_at dksX3_init_2 22 rfl rfl)
theorem dX3_init_72 : decode cX3_init 72 = .ok (.newarray .int, 2) := dk_188_10 (dk_at dksX3_init_3 0 rfl rfl)
theorem dX3_init_74 : decode cX3_init 74 = .ok (.putfield 36, 3) := dk_181 0 36 (dk_at dksX3_init_3 2 rfl rfl)
theorem dX3_init_77 : decode cX3_init 77 = .ok (.aload_n 0, 1) := dk_42 (dk_at dksX3_init_3 5 rfl rfl)
theorem dX3_init_78 : decode cX3_init 78 = .ok (.bipush 25, 2) := dk_16 25 (dk_at dksX3_init_3 6 rfl rfl)
theorem dX3_init_80 : decode cX3_init 80 = .ok (.newarray .boolean, 2) := dk_188_4 (dk_at dksX3_init_3 8 rfl rfl)
theorem dX3_init_82 : decode cX3_init 82 = .ok (.putfield 39, 3) := dk_181 0 39 (dk_at dksX3_init_3 10 rfl rfl)
theorem dX3_init_85 : decode cX3_init 85 = .ok (.aload_n 0, 1) := dk_42 (dk_at dksX3_init_3 13 rfl rfl)
theorem dX3_init_86 : decode cX3_init 86 = .ok (.bipush 50, 2) := dk_16 50 (dk_at dksX3_init_3 14 rfl rfl)
theorem dX3_init_88 : decode cX3_init 88 = .ok (.newarray .int, 2) := dk_188_10 (dk_at dksX3_init_3 16 rfl rfl)
theorem dX3_init_90 : decode cX3_init 90 = .ok (.putfield 42, 3) := dk_181 0 42 (dk_at dksX3_init_3 18 rfl rfl)
theorem dX3_init_93 : decode cX3_init 93 = .ok (.aload_n 0, 1) := dk_42 (dk_at dksX3_init_3 21 rfl rfl)
theorem dX3_init_94 : decode cX3_init 94 = .ok (.sipush 700, 3) := dk_17 2 188 (dk_at dksX3_init_4 0 rfl rfl)
theorem dX3_init_97 : decode cX3_init 97 = .ok (.newarray .int, 2) := dk_188_10 (dk_at dksX3_init_4 3 rfl rfl)
theorem dX3_init_99 : decode cX3_init 99 = .ok (.putfield 45, 3) := dk_181 0 45 (dk_at dksX3_init_4 5 rfl rfl)
theorem dX3_init_102 : decode cX3_init 102 = .ok (.return_, 1) := dk_177 (dk_at dksX3_init_4 8 rfl rfl)
abbrev cX3_thrown : ByteArray := prog_23_method_2_code
def yX3_thrown : MethodName := ⟨RX3, "thrown", "()I"⟩
theorem dX3_thrown_0 : decode cX3_thrown 0 = .ok (.aload_n 0, 1) := by decide +kernel
theorem dX3_thrown_1 : decode cX3_thrown 1 = .ok (.getfield 48, 3) := by decide +kernel
theorem dX3_thrown_4 : decode cX3_thrown 4 = .ok (.ireturn, 1) := by decide +kernel
abbrev cX3_append : ByteArray := prog_23_method_6_code
def yX3_append : MethodName := ⟨RX3, "append", "(IIIII)I"⟩
def dkwX3_append_5 : List UInt8 := [16, 20, 96, 181, 0, 59, 42, 180, 0, 59, 172]
abbrev dktX3_append_5 : List UInt8 := dkwX3_append_5 ++ []
def dkwX3_append_4 : List UInt8 := [21, 6, 7, 112, 104, 100, 122, 17, 0, 255, 126, 79, 132, 6, 1, 167, 255, 169, 42, 89, 180, 0, 59]
abbrev dktX3_append_4 : List UInt8 := dkwX3_append_4 ++ dktX3_append_5
def dkwX3_append_3 : List UInt8 := [167, 0, 5, 21, 5, 54, 7, 42, 180, 0, 20, 42, 180, 0, 59, 21, 6, 96, 21, 7, 16, 24, 16, 8]
abbrev dktX3_append_3 : List UInt8 := dkwX3_append_3 ++ dktX3_append_4
def dkwX3_append_2 : List UInt8 := [28, 167, 0, 28, 21, 6, 16, 12, 162, 0, 7, 29, 167, 0, 17, 21, 6, 16, 16, 162, 0, 8, 21, 4]
abbrev dktX3_append_2 : List UInt8 := dkwX3_append_2 ++ dktX3_append_3
def dkwX3_append_1 : List UInt8 := [21, 6, 16, 20, 162, 0, 86, 21, 6, 7, 162, 0, 7, 27, 167, 0, 39, 21, 6, 16, 8, 162, 0, 7]
abbrev dktX3_append_1 : List UInt8 := dkwX3_append_1 ++ dktX3_append_2
def dkwX3_append_0 : List UInt8 := [42, 3, 181, 0, 48, 42, 180, 0, 59, 16, 20, 96, 17, 3, 232, 164, 0, 5, 2, 172, 3, 54, 6]
abbrev dktX3_append_0 : List UInt8 := dkwX3_append_0 ++ dktX3_append_1
theorem dksX3_append_0 : cX3_append.data.toList.drop 0 = dktX3_append_0 := by decide +kernel
theorem dksX3_append_1 : cX3_append.data.toList.drop 23 = dktX3_append_1 := dk_seg dksX3_append_0 23 rfl rfl
theorem dksX3_append_2 : cX3_append.data.toList.drop 47 = dktX3_append_2 := dk_seg dksX3_append_1 24 rfl rfl
theorem dksX3_append_3 : cX3_append.data.toList.drop 71 = dktX3_append_3 := dk_seg dksX3_append_2 24 rfl rfl
theorem dksX3_append_4 : cX3_append.data.toList.drop 95 = dktX3_append_4 := dk_seg dksX3_append_3 24 rfl rfl
theorem dksX3_append_5 : cX3_append.data.toList.drop 118 = dktX3_append_5 := dk_seg dksX3_append_4 23 rfl rfl
theorem dX3_append_0 : decode cX3_append 0 = .ok (.aload_n 0, 1) := dk_42 (dk_at dksX3_append_0 0 rfl rfl)
theorem dX3_append_1 : decode cX3_append 1 = .ok (.iconst 0, 1) := dk_3 (dk_at dksX3_append_0 1 rfl rfl)
theorem dX3_append_2 : decode cX3_append 2 = .ok (.putfield 48, 3) := dk_181 0 48 (dk_at dksX3_append_0 2 rfl rfl)
theorem dX3_append_5 : decode cX3_append 5 = .ok (.aload_n 0, 1) := dk_42 (dk_at dksX3_append_0 5 rfl rfl)
theorem dX3_append_6 : decode cX3_append 6 = .ok (.getfield 59, 3) := dk_180 0 59 (dk_at dksX3_append_0 6 rfl rfl)
theorem dX3_append_9 : decode cX3_append 9 = .ok (.bipush 20, 2) := dk_16 20 (dk_at dksX3_append_0 9 rfl rfl)
theorem dX3_append_11 : decode cX3_append 11 = .ok (.iadd, 1) := dk_96 (dk_at dksX3_append_0 11 rfl rfl)
theorem dX3_append_12 : decode cX3_append 12 = .ok (.sipush 1000, 3) := dk_17 3 232 (dk_at dksX3_append_0 12 rfl rfl)
theorem dX3_append_15 : decode cX3_append 15 = .ok (.if_icmp .le 5, 3) := dk_164 0 5 (dk_at dksX3_append_0 15 rfl rfl)
theorem dX3_append_18 : decode cX3_append 18 = .ok (.iconst (-1), 1) := dk_2 (dk_at dksX3_append_0 18 rfl rfl)
theorem dX3_append_19 : decode cX3_append 19 = .ok (.ireturn, 1) := dk_172 (dk_at dksX3_append_0 19 rfl rfl)
theorem dX3_append_20 : decode cX3_append 20 = .ok (.iconst 0, 1) := dk_3 (dk_at dksX3_append_0 20 rfl rfl)
theorem dX3_append_21 : decode cX3_append 21 = .ok (.istore 6, 2) := dk_54 6 (dk_at dksX3_append_0 21 rfl rfl)
theorem dX3_append_23 : decode cX3_append 23 = .ok (.iload 6, 2) := dk_21 6 (dk_at dksX3_append_1 0 rfl rfl)
theorem dX3_append_25 : decode cX3_append 25 = .ok (.bipush 20, 2) := dk_16 20 (dk_at dksX3_append_1 2 rfl rfl)
theorem dX3_append_27 : decode cX3_append 27 = .ok (.if_icmp .ge 86, 3) := dk_162 0 86 (dk_at dksX3_append_1 4 rfl rfl)
theorem dX3_append_30 : decode cX3_append 30 = .ok (.iload 6, 2) := dk_21 6 (dk_at dksX3_append_1 7 rfl rfl)
theorem dX3_append_32 : decode cX3_append 32 = .ok (.iconst 4, 1) := dk_7 (dk_at dksX3_append_1 9 rfl rfl)
theorem dX3_append_33 : decode cX3_append 33 = .ok (.if_icmp .ge 7, 3) := dk_162 0 7 (dk_at dksX3_append_1 10 rfl rfl)
theorem dX3_append_36 : decode cX3_append 36 = .ok (.iload_n 1, 1) := dk_27 (dk_at dksX3_append_1 13 rfl rfl)
theorem dX3_append_37 : decode cX3_append 37 = .ok (.goto 39, 3) := dk_167 0 39 (dk_at dksX3_append_1 14 rfl rfl)
theorem dX3_append_40 : decode cX3_append 40 = .ok (.iload 6, 2) := dk_21 6 (dk_at dksX3_append_1 17 rfl rfl)
theorem dX3_append_42 : decode cX3_append 42 = .ok (.bipush 8, 2) := dk_16 8 (dk_at dksX3_append_1 19 rfl rfl)
theorem dX3_append_44 : decode cX3_append 44 = .ok (.if_icmp .ge 7, 3) := dk_162 0 7 (dk_at dksX3_append_1 21 rfl rfl)
theorem dX3_append_47 : decode cX3_append 47 = .ok (.iload_n 2, 1) := dk_28 (dk_at dksX3_append_2 0 rfl rfl)
theorem dX3_append_48 : decode cX3_append 48 = .ok (.goto 28, 3) := dk_167 0 28 (dk_at dksX3_append_2 1 rfl rfl)
theorem dX3_append_51 : decode cX3_append 51 = .ok (.iload 6, 2) := dk_21 6 (dk_at dksX3_append_2 4 rfl rfl)
theorem dX3_append_53 : decode cX3_append 53 = .ok (.bipush 12, 2) := dk_16 12 (dk_at dksX3_append_2 6 rfl rfl)
theorem dX3_append_55 : decode cX3_append 55 = .ok (.if_icmp .ge 7, 3) := dk_162 0 7 (dk_at dksX3_append_2 8 rfl rfl)
theorem dX3_append_58 : decode cX3_append 58 = .ok (.iload_n 3, 1) := dk_29 (dk_at dksX3_append_2 11 rfl rfl)
theorem dX3_append_59 : decode cX3_append 59 = .ok (.goto 17, 3) := dk_167 0 17 (dk_at dksX3_append_2 12 rfl rfl)
theorem dX3_append_62 : decode cX3_append 62 = .ok (.iload 6, 2) := dk_21 6 (dk_at dksX3_append_2 15 rfl rfl)
theorem dX3_append_64 : decode cX3_append 64 = .ok (.bipush 16, 2) := dk_16 16 (dk_at dksX3_append_2 17 rfl rfl)
theorem dX3_append_66 : decode cX3_append 66 = .ok (.if_icmp .ge 8, 3) := dk_162 0 8 (dk_at dksX3_append_2 19 rfl rfl)
theorem dX3_append_69 : decode cX3_append 69 = .ok (.iload 4, 2) := dk_21 4 (dk_at dksX3_append_2 22 rfl rfl)
theorem dX3_append_71 : decode cX3_append 71 = .ok (.goto 5, 3) := dk_167 0 5 (dk_at dksX3_append_3 0 rfl rfl)
theorem dX3_append_74 : decode cX3_append 74 = .ok (.iload 5, 2) := dk_21 5 (dk_at dksX3_append_3 3 rfl rfl)
theorem dX3_append_76 : decode cX3_append 76 = .ok (.istore 7, 2) := dk_54 7 (dk_at dksX3_append_3 5 rfl rfl)
theorem dX3_append_78 : decode cX3_append 78 = .ok (.aload_n 0, 1) := dk_42 (dk_at dksX3_append_3 7 rfl rfl)
theorem dX3_append_79 : decode cX3_append 79 = .ok (.getfield 20, 3) := dk_180 0 20 (dk_at dksX3_append_3 8 rfl rfl)
theorem dX3_append_82 : decode cX3_append 82 = .ok (.aload_n 0, 1) := dk_42 (dk_at dksX3_append_3 11 rfl rfl)
theorem dX3_append_83 : decode cX3_append 83 = .ok (.getfield 59, 3) := dk_180 0 59 (dk_at dksX3_append_3 12 rfl rfl)
theorem dX3_append_86 : decode cX3_append 86 = .ok (.iload 6, 2) := dk_21 6 (dk_at dksX3_append_3 15 rfl rfl)
theorem dX3_append_88 : decode cX3_append 88 = .ok (.iadd, 1) := dk_96 (dk_at dksX3_append_3 17 rfl rfl)
theorem dX3_append_89 : decode cX3_append 89 = .ok (.iload 7, 2) := dk_21 7 (dk_at dksX3_append_3 18 rfl rfl)
theorem dX3_append_91 : decode cX3_append 91 = .ok (.bipush 24, 2) := dk_16 24 (dk_at dksX3_append_3 20 rfl rfl)
theorem dX3_append_93 : decode cX3_append 93 = .ok (.bipush 8, 2) := dk_16 8 (dk_at dksX3_append_3 22 rfl rfl)
theorem dX3_append_95 : decode cX3_append 95 = .ok (.iload 6, 2) := dk_21 6 (dk_at dksX3_append_4 0 rfl rfl)
theorem dX3_append_97 : decode cX3_append 97 = .ok (.iconst 4, 1) := dk_7 (dk_at dksX3_append_4 2 rfl rfl)
theorem dX3_append_98 : decode cX3_append 98 = .ok (.irem, 1) := dk_112 (dk_at dksX3_append_4 3 rfl rfl)
theorem dX3_append_99 : decode cX3_append 99 = .ok (.imul, 1) := dk_104 (dk_at dksX3_append_4 4 rfl rfl)
theorem dX3_append_100 : decode cX3_append 100 = .ok (.isub, 1) := dk_100 (dk_at dksX3_append_4 5 rfl rfl)
theorem dX3_append_101 : decode cX3_append 101 = .ok (.ishr, 1) := dk_122 (dk_at dksX3_append_4 6 rfl rfl)
theorem dX3_append_102 : decode cX3_append 102 = .ok (.sipush 255, 3) := dk_17 0 255 (dk_at dksX3_append_4 7 rfl rfl)
theorem dX3_append_105 : decode cX3_append 105 = .ok (.iand, 1) := dk_126 (dk_at dksX3_append_4 10 rfl rfl)
theorem dX3_append_106 : decode cX3_append 106 = .ok (.iastore, 1) := dk_79 (dk_at dksX3_append_4 11 rfl rfl)
theorem dX3_append_107 : decode cX3_append 107 = .ok (.iinc 6 1, 3) := dk_132 6 1 (dk_at dksX3_append_4 12 rfl rfl)
theorem dX3_append_110 : decode cX3_append 110 = .ok (.goto (-87), 3) := dk_167 255 169 (dk_at dksX3_append_4 15 rfl rfl)
theorem dX3_append_113 : decode cX3_append 113 = .ok (.aload_n 0, 1) := dk_42 (dk_at dksX3_append_4 18 rfl rfl)
theorem dX3_append_114 : decode cX3_append 114 = .ok (.dup, 1) := dk_89 (dk_at dksX3_append_4 19 rfl rfl)
theorem dX3_append_115 : decode cX3_append 115 = .ok (.getfield 59, 3) := dk_180 0 59 (dk_at dksX3_append_4 20 rfl rfl)
theorem dX3_append_118 : decode cX3_append 118 = .ok (.bipush 20, 2) := dk_16 20 (dk_at dksX3_append_5 0 rfl rfl)
theorem dX3_append_120 : decode cX3_append 120 = .ok (.iadd, 1) := dk_96 (dk_at dksX3_append_5 2 rfl rfl)
theorem dX3_append_121 : decode cX3_append 121 = .ok (.putfield 59, 3) := dk_181 0 59 (dk_at dksX3_append_5 3 rfl rfl)
theorem dX3_append_124 : decode cX3_append 124 = .ok (.aload_n 0, 1) := dk_42 (dk_at dksX3_append_5 6 rfl rfl)
theorem dX3_append_125 : decode cX3_append 125 = .ok (.getfield 59, 3) := dk_180 0 59 (dk_at dksX3_append_5 7 rfl rfl)
theorem dX3_append_128 : decode cX3_append 128 = .ok (.ireturn, 1) := dk_172 (dk_at dksX3_append_5 10 rfl rfl)
abbrev cX3_buffered : ByteArray := prog_23_method_7_code
def yX3_buffered : MethodName := ⟨RX3, "buffered", "()I"⟩
def dkwX3_buffered_0 : List UInt8 := [42, 3, 181, 0, 48, 42, 180, 0, 59, 172]
abbrev dktX3_buffered_0 : List UInt8 := dkwX3_buffered_0 ++ []
theorem dksX3_buffered_0 : cX3_buffered.data.toList.drop 0 = dktX3_buffered_0 := by decide +kernel
theorem dX3_buffered_0 : decode cX3_buffered 0 = .ok (.aload_n 0, 1) := dk_42 (dk_at dksX3_buffered_0 0 rfl rfl)
theorem dX3_buffered_1 : decode cX3_buffered 1 = .ok (.iconst 0, 1) := dk_3 (dk_at dksX3_buffered_0 1 rfl rfl)
theorem dX3_buffered_2 : decode cX3_buffered 2 = .ok (.putfield 48, 3) := dk_181 0 48 (dk_at dksX3_buffered_0 2 rfl rfl)
theorem dX3_buffered_5 : decode cX3_buffered 5 = .ok (.aload_n 0, 1) := dk_42 (dk_at dksX3_buffered_0 5 rfl rfl)
theorem dX3_buffered_6 : decode cX3_buffered 6 = .ok (.getfield 59, 3) := dk_180 0 59 (dk_at dksX3_buffered_0 6 rfl rfl)
theorem dX3_buffered_9 : decode cX3_buffered 9 = .ok (.ireturn, 1) := dk_172 (dk_at dksX3_buffered_0 9 rfl rfl)
abbrev cX3_parseError : ByteArray := prog_23_method_8_code
def yX3_parseError : MethodName := ⟨RX3, "parseError", "()I"⟩
def dkwX3_parseError_0 : List UInt8 := [42, 3, 181, 0, 48, 42, 180, 0, 62, 172]
abbrev dktX3_parseError_0 : List UInt8 := dkwX3_parseError_0 ++ []
theorem dksX3_parseError_0 : cX3_parseError.data.toList.drop 0 = dktX3_parseError_0 := by decide +kernel
theorem dX3_parseError_0 : decode cX3_parseError 0 = .ok (.aload_n 0, 1) := dk_42 (dk_at dksX3_parseError_0 0 rfl rfl)
theorem dX3_parseError_1 : decode cX3_parseError 1 = .ok (.iconst 0, 1) := dk_3 (dk_at dksX3_parseError_0 1 rfl rfl)
theorem dX3_parseError_2 : decode cX3_parseError 2 = .ok (.putfield 48, 3) := dk_181 0 48 (dk_at dksX3_parseError_0 2 rfl rfl)
theorem dX3_parseError_5 : decode cX3_parseError 5 = .ok (.aload_n 0, 1) := dk_42 (dk_at dksX3_parseError_0 5 rfl rfl)
theorem dX3_parseError_6 : decode cX3_parseError 6 = .ok (.getfield 62, 3) := dk_180 0 62 (dk_at dksX3_parseError_0 6 rfl rfl)
theorem dX3_parseError_9 : decode cX3_parseError 9 = .ok (.ireturn, 1) := dk_172 (dk_at dksX3_parseError_0 9 rfl rfl)
abbrev cX3_errorPosition : ByteArray := prog_23_method_9_code
def yX3_errorPosition : MethodName := ⟨RX3, "errorPosition", "()I"⟩
def dkwX3_errorPosition_0 : List UInt8 := [42, 3, 181, 0, 48, 42, 180, 0, 23, 172]
abbrev dktX3_errorPosition_0 : List UInt8 := dkwX3_errorPosition_0 ++ []
theorem dksX3_errorPosition_0 : cX3_errorPosition.data.toList.drop 0 = dktX3_errorPosition_0 := by decide +kernel
theorem dX3_errorPosition_0 : decode cX3_errorPosition 0 = .ok (.aload_n 0, 1) := dk_42 (dk_at dksX3_errorPosition_0 0 rfl rfl)
theorem dX3_errorPosition_1 : decode cX3_errorPosition 1 = .ok (.iconst 0, 1) := dk_3 (dk_at dksX3_errorPosition_0 1 rfl rfl)
theorem dX3_errorPosition_2 : decode cX3_errorPosition 2 = .ok (.putfield 48, 3) := dk_181 0 48 (dk_at dksX3_errorPosition_0 2 rfl rfl)
theorem dX3_errorPosition_5 : decode cX3_errorPosition 5 = .ok (.aload_n 0, 1) := dk_42 (dk_at dksX3_errorPosition_0 5 rfl rfl)
theorem dX3_errorPosition_6 : decode cX3_errorPosition 6 = .ok (.getfield 23, 3) := dk_180 0 23 (dk_at dksX3_errorPosition_0 6 rfl rfl)
theorem dX3_errorPosition_9 : decode cX3_errorPosition 9 = .ok (.ireturn, 1) := dk_172 (dk_at dksX3_errorPosition_0 9 rfl rfl)
abbrev cX3_load : ByteArray := prog_23_method_27_code
def yX3_load : MethodName := ⟨RX3, "load", "(I)I"⟩
def dkwX3_load_11 : List UInt8 := [181, 0, 198, 42, 180, 0, 16, 3, 3, 84, 42, 180, 0, 16, 4, 3, 84, 42, 4, 182, 0, 201, 172]
abbrev dktX3_load_11 : List UInt8 := dkwX3_load_11 ++ []
def dkwX3_load_10 : List UInt8 := [7, 96, 46, 42, 180, 0, 33, 29, 8, 96, 46, 182, 0, 194, 132, 2, 1, 167, 255, 184, 42, 3]
abbrev dktX3_load_10 : List UInt8 := dkwX3_load_10 ++ dktX3_load_11
def dkwX3_load_9 : List UInt8 := [4, 96, 46, 42, 180, 0, 33, 29, 5, 96, 46, 42, 180, 0, 33, 29, 6, 96, 46, 42, 180, 0, 33, 29]
abbrev dktX3_load_9 : List UInt8 := dkwX3_load_9 ++ dktX3_load_10
def dkwX3_load_8 : List UInt8 := [46, 162, 0, 67, 16, 40, 16, 6, 28, 104, 96, 62, 42, 42, 180, 0, 33, 29, 46, 42, 180, 0, 33, 29]
abbrev dktX3_load_8 : List UInt8 := dkwX3_load_8 ++ dktX3_load_9
def dkwX3_load_7 : List UInt8 := [28, 96, 42, 28, 8, 182, 0, 192, 79, 132, 2, 1, 167, 255, 228, 3, 61, 28, 42, 180, 0, 33, 16, 9]
abbrev dktX3_load_7 : List UInt8 := dkwX3_load_7 ++ dktX3_load_8
def dkwX3_load_6 : List UInt8 := [132, 2, 1, 167, 255, 239, 3, 61, 28, 42, 180, 0, 33, 16, 8, 46, 162, 0, 23, 42, 180, 0, 7, 5]
abbrev dktX3_load_6 : List UInt8 := dkwX3_load_6 ++ dktX3_load_7
def dkwX3_load_5 : List UInt8 := [132, 2, 1, 167, 255, 234, 3, 61, 28, 17, 3, 67, 162, 0, 16, 42, 180, 0, 7, 28, 3, 79]
abbrev dktX3_load_5 : List UInt8 := dkwX3_load_5 ++ dktX3_load_6
def dkwX3_load_4 : List UInt8 := [181, 0, 51, 3, 61, 28, 17, 0, 184, 162, 0, 21, 42, 180, 0, 33, 28, 42, 180, 0, 30, 28, 46, 79]
abbrev dktX3_load_4 : List UInt8 := dkwX3_load_4 ++ dktX3_load_5
def dkwX3_load_3 : List UInt8 := [180, 0, 94, 153, 0, 7, 4, 167, 0, 4, 3, 5, 182, 0, 55, 153, 0, 5, 3, 172, 42, 4]
abbrev dktX3_load_3 : List UInt8 := dkwX3_load_3 ++ dktX3_load_4
def dkwX3_load_2 : List UInt8 := [181, 0, 62, 42, 42, 180, 0, 94, 154, 0, 7, 2, 167, 0, 7, 42, 180, 0, 97, 181, 0, 23, 42, 42]
abbrev dktX3_load_2 : List UInt8 := dkwX3_load_2 ++ dktX3_load_3
def dkwX3_load_1 : List UInt8 := [182, 0, 55, 153, 0, 5, 3, 172, 42, 3, 181, 0, 59, 42, 27, 182, 0, 189, 42, 42, 180, 0, 94]
abbrev dktX3_load_1 : List UInt8 := dkwX3_load_1 ++ dktX3_load_2
def dkwX3_load_0 : List UInt8 := [42, 3, 181, 0, 48, 42, 27, 3, 42, 180, 0, 59, 184, 0, 124, 154, 0, 7, 4, 167, 0, 4, 3, 4]
abbrev dktX3_load_0 : List UInt8 := dkwX3_load_0 ++ dktX3_load_1
theorem dksX3_load_0 : cX3_load.data.toList.drop 0 = dktX3_load_0 := by decide +kernel
theorem dksX3_load_1 : cX3_load.data.toList.drop 24 = dktX3_load_1 := dk_seg dksX3_load_0 24 rfl rfl
theorem dksX3_load_2 : cX3_load.data.toList.drop 47 = dktX3_load_2 := dk_seg dksX3_load_1 23 rfl rfl
theorem dksX3_load_3 : cX3_load.data.toList.drop 71 = dktX3_load_3 := dk_seg dksX3_load_2 24 rfl rfl
theorem dksX3_load_4 : cX3_load.data.toList.drop 93 = dktX3_load_4 := dk_seg dksX3_load_3 22 rfl rfl
theorem dksX3_load_5 : cX3_load.data.toList.drop 117 = dktX3_load_5 := dk_seg dksX3_load_4 24 rfl rfl
theorem dksX3_load_6 : cX3_load.data.toList.drop 139 = dktX3_load_6 := dk_seg dksX3_load_5 22 rfl rfl
theorem dksX3_load_7 : cX3_load.data.toList.drop 163 = dktX3_load_7 := dk_seg dksX3_load_6 24 rfl rfl
theorem dksX3_load_8 : cX3_load.data.toList.drop 187 = dktX3_load_8 := dk_seg dksX3_load_7 24 rfl rfl
theorem dksX3_load_9 : cX3_load.data.toList.drop 211 = dktX3_load_9 := dk_seg dksX3_load_8 24 rfl rfl
theorem dksX3_load_10 : cX3_load.data.toList.drop 235 = dktX3_load_10 := dk_seg dksX3_load_9 24 rfl rfl
theorem dksX3_load_11 : cX3_load.data.toList.drop 257 = dktX3_load_11 := dk_seg dksX3_load_10 22 rfl rfl
theorem dX3_load_0 : decode cX3_load 0 = .ok (.aload_n 0, 1) := dk_42 (dk_at dksX3_load_0 0 rfl rfl)
theorem dX3_load_1 : decode cX3_load 1 = .ok (.iconst 0, 1) := dk_3 (dk_at dksX3_load_0 1 rfl rfl)
theorem dX3_load_2 : decode cX3_load 2 = .ok (.putfield 48, 3) := dk_181 0 48 (dk_at dksX3_load_0 2 rfl rfl)
theorem dX3_load_5 : decode cX3_load 5 = .ok (.aload_n 0, 1) := dk_42 (dk_at dksX3_load_0 5 rfl rfl)
theorem dX3_load_6 : decode cX3_load 6 = .ok (.iload_n 1, 1) := dk_27 (dk_at dksX3_load_0 6 rfl rfl)
theorem dX3_load_7 : decode cX3_load 7 = .ok (.iconst 0, 1) := dk_3 (dk_at dksX3_load_0 7 rfl rfl)
theorem dX3_load_8 : decode cX3_load 8 = .ok (.aload_n 0, 1) := dk_42 (dk_at dksX3_load_0 8 rfl rfl)
theorem dX3_load_9 : decode cX3_load 9 = .ok (.getfield 59, 3) := dk_180 0 59 (dk_at dksX3_load_0 9 rfl rfl)
theorem dX3_load_12 : decode cX3_load 12 = .ok (.invokestatic 124, 3) := dk_184 0 124 (dk_at dksX3_load_0 12 rfl rfl)
theorem dX3_load_15 : decode cX3_load 15 = .ok (.ifCond .ne 7, 3) := dk_154 0 7 (dk_at dksX3_load_0 15 rfl rfl)
theorem dX3_load_18 : decode cX3_load 18 = .ok (.iconst 1, 1) := dk_4 (dk_at dksX3_load_0 18 rfl rfl)
theorem dX3_load_19 : decode cX3_load 19 = .ok (.goto 4, 3) := dk_167 0 4 (dk_at dksX3_load_0 19 rfl rfl)
theorem dX3_load_22 : decode cX3_load 22 = .ok (.iconst 0, 1) := dk_3 (dk_at dksX3_load_0 22 rfl rfl)
theorem dX3_load_23 : decode cX3_load 23 = .ok (.iconst 1, 1) := dk_4 (dk_at dksX3_load_0 23 rfl rfl)
theorem dX3_load_24 : decode cX3_load 24 = .ok (.invokevirtual 55, 3) := dk_182 0 55 (dk_at dksX3_load_1 0 rfl rfl)
theorem dX3_load_27 : decode cX3_load 27 = .ok (.ifCond .eq 5, 3) := dk_153 0 5 (dk_at dksX3_load_1 3 rfl rfl)
theorem dX3_load_30 : decode cX3_load 30 = .ok (.iconst 0, 1) := dk_3 (dk_at dksX3_load_1 6 rfl rfl)
theorem dX3_load_31 : decode cX3_load 31 = .ok (.ireturn, 1) := dk_172 (dk_at dksX3_load_1 7 rfl rfl)
theorem dX3_load_32 : decode cX3_load 32 = .ok (.aload_n 0, 1) := dk_42 (dk_at dksX3_load_1 8 rfl rfl)
theorem dX3_load_33 : decode cX3_load 33 = .ok (.iconst 0, 1) := dk_3 (dk_at dksX3_load_1 9 rfl rfl)
theorem dX3_load_34 : decode cX3_load 34 = .ok (.putfield 59, 3) := dk_181 0 59 (dk_at dksX3_load_1 10 rfl rfl)
theorem dX3_load_37 : decode cX3_load 37 = .ok (.aload_n 0, 1) := dk_42 (dk_at dksX3_load_1 13 rfl rfl)
theorem dX3_load_38 : decode cX3_load 38 = .ok (.iload_n 1, 1) := dk_27 (dk_at dksX3_load_1 14 rfl rfl)
theorem dX3_load_39 : decode cX3_load 39 = .ok (.invokevirtual 189, 3) := dk_182 0 189 (dk_at dksX3_load_1 15 rfl rfl)
theorem dX3_load_42 : decode cX3_load 42 = .ok (.aload_n 0, 1) := dk_42 (dk_at dksX3_load_1 18 rfl rfl)
theorem dX3_load_43 : decode cX3_load 43 = .ok (.aload_n 0, 1) := dk_42 (dk_at dksX3_load_1 19 rfl rfl)
theorem dX3_load_44 : decode cX3_load 44 = .ok (.getfield 94, 3) := dk_180 0 94 (dk_at dksX3_load_1 20 rfl rfl)
theorem dX3_load_47 : decode cX3_load 47 = .ok (.putfield 62, 3) := dk_181 0 62 (dk_at dksX3_load_2 0 rfl rfl)
theorem dX3_load_50 : decode cX3_load 50 = .ok (.aload_n 0, 1) := dk_42 (dk_at dksX3_load_2 3 rfl rfl)
theorem dX3_load_51 : decode cX3_load 51 = .ok (.aload_n 0, 1) := dk_42 (dk_at dksX3_load_2 4 rfl rfl)
theorem dX3_load_52 : decode cX3_load 52 = .ok (.getfield 94, 3) := dk_180 0 94 (dk_at dksX3_load_2 5 rfl rfl)
theorem dX3_load_55 : decode cX3_load 55 = .ok (.ifCond .ne 7, 3) := dk_154 0 7 (dk_at dksX3_load_2 8 rfl rfl)
theorem dX3_load_58 : decode cX3_load 58 = .ok (.iconst (-1), 1) := dk_2 (dk_at dksX3_load_2 11 rfl rfl)
theorem dX3_load_59 : decode cX3_load 59 = .ok (.goto 7, 3) := dk_167 0 7 (dk_at dksX3_load_2 12 rfl rfl)
theorem dX3_load_62 : decode cX3_load 62 = .ok (.aload_n 0, 1) := dk_42 (dk_at dksX3_load_2 15 rfl rfl)
theorem dX3_load_63 : decode cX3_load 63 = .ok (.getfield 97, 3) := dk_180 0 97 (dk_at dksX3_load_2 16 rfl rfl)
theorem dX3_load_66 : decode cX3_load 66 = .ok (.putfield 23, 3) := dk_181 0 23 (dk_at dksX3_load_2 19 rfl rfl)
theorem dX3_load_69 : decode cX3_load 69 = .ok (.aload_n 0, 1) := dk_42 (dk_at dksX3_load_2 22 rfl rfl)
theorem dX3_load_70 : decode cX3_load 70 = .ok (.aload_n 0, 1) := dk_42 (dk_at dksX3_load_2 23 rfl rfl)
theorem dX3_load_71 : decode cX3_load 71 = .ok (.getfield 94, 3) := dk_180 0 94 (dk_at dksX3_load_3 0 rfl rfl)
theorem dX3_load_74 : decode cX3_load 74 = .ok (.ifCond .eq 7, 3) := dk_153 0 7 (dk_at dksX3_load_3 3 rfl rfl)
theorem dX3_load_77 : decode cX3_load 77 = .ok (.iconst 1, 1) := dk_4 (dk_at dksX3_load_3 6 rfl rfl)
theorem dX3_load_78 : decode cX3_load 78 = .ok (.goto 4, 3) := dk_167 0 4 (dk_at dksX3_load_3 7 rfl rfl)
theorem dX3_load_81 : decode cX3_load 81 = .ok (.iconst 0, 1) := dk_3 (dk_at dksX3_load_3 10 rfl rfl)
theorem dX3_load_82 : decode cX3_load 82 = .ok (.iconst 2, 1) := dk_5 (dk_at dksX3_load_3 11 rfl rfl)
theorem dX3_load_83 : decode cX3_load 83 = .ok (.invokevirtual 55, 3) := dk_182 0 55 (dk_at dksX3_load_3 12 rfl rfl)
theorem dX3_load_86 : decode cX3_load 86 = .ok (.ifCond .eq 5, 3) := dk_153 0 5 (dk_at dksX3_load_3 15 rfl rfl)
theorem dX3_load_89 : decode cX3_load 89 = .ok (.iconst 0, 1) := dk_3 (dk_at dksX3_load_3 18 rfl rfl)
theorem dX3_load_90 : decode cX3_load 90 = .ok (.ireturn, 1) := dk_172 (dk_at dksX3_load_3 19 rfl rfl)
theorem dX3_load_91 : decode cX3_load 91 = .ok (.aload_n 0, 1) := dk_42 (dk_at dksX3_load_3 20 rfl rfl)
theorem dX3_load_92 : decode cX3_load 92 = .ok (.iconst 1, 1) := dk_4 (dk_at dksX3_load_3 21 rfl rfl)
theorem dX3_load_93 : decode cX3_load 93 = .ok (.putfield 51, 3) := dk_181 0 51 (dk_at dksX3_load_4 0 rfl rfl)
theorem dX3_load_96 : decode cX3_load 96 = .ok (.iconst 0, 1) := dk_3 (dk_at dksX3_load_4 3 rfl rfl)
theorem dX3_load_97 : decode cX3_load 97 = .ok (.istore_n 2, 1) := dk_61 (dk_at dksX3_load_4 4 rfl rfl)
theorem dX3_load_98 : decode cX3_load 98 = .ok (.iload_n 2, 1) := dk_28 (dk_at dksX3_load_4 5 rfl rfl)
theorem dX3_load_99 : decode cX3_load 99 = .ok (.sipush 184, 3) := dk_17 0 184 (dk_at dksX3_load_4 6 rfl rfl)
theorem dX3_load_102 : decode cX3_load 102 = .ok (.if_icmp .ge 21, 3) := dk_162 0 21 (dk_at dksX3_load_4 9 rfl rfl)
theorem dX3_load_105 : decode cX3_load 105 = .ok (.aload_n 0, 1) := dk_42 (dk_at dksX3_load_4 12 rfl rfl)
theorem dX3_load_106 : decode cX3_load 106 = .ok (.getfield 33, 3) := dk_180 0 33 (dk_at dksX3_load_4 13 rfl rfl)
theorem dX3_load_109 : decode cX3_load 109 = .ok (.iload_n 2, 1) := dk_28 (dk_at dksX3_load_4 16 rfl rfl)
theorem dX3_load_110 : decode cX3_load 110 = .ok (.aload_n 0, 1) := dk_42 (dk_at dksX3_load_4 17 rfl rfl)
theorem dX3_load_111 : decode cX3_load 111 = .ok (.getfield 30, 3) := dk_180 0 30 (dk_at dksX3_load_4 18 rfl rfl)
theorem dX3_load_114 : decode cX3_load 114 = .ok (.iload_n 2, 1) := dk_28 (dk_at dksX3_load_4 21 rfl rfl)
theorem dX3_load_115 : decode cX3_load 115 = .ok (.iaload, 1) := dk_46 (dk_at dksX3_load_4 22 rfl rfl)
theorem dX3_load_116 : decode cX3_load 116 = .ok (.iastore, 1) := dk_79 (dk_at dksX3_load_4 23 rfl rfl)
theorem dX3_load_117 : decode cX3_load 117 = .ok (.iinc 2 1, 3) := dk_132 2 1 (dk_at dksX3_load_5 0 rfl rfl)
theorem dX3_load_120 : decode cX3_load 120 = .ok (.goto (-22), 3) := dk_167 255 234 (dk_at dksX3_load_5 3 rfl rfl)
theorem dX3_load_123 : decode cX3_load 123 = .ok (.iconst 0, 1) := dk_3 (dk_at dksX3_load_5 6 rfl rfl)
theorem dX3_load_124 : decode cX3_load 124 = .ok (.istore_n 2, 1) := dk_61 (dk_at dksX3_load_5 7 rfl rfl)
theorem dX3_load_125 : decode cX3_load 125 = .ok (.iload_n 2, 1) := dk_28 (dk_at dksX3_load_5 8 rfl rfl)
theorem dX3_load_126 : decode cX3_load 126 = .ok (.sipush 835, 3) := dk_17 3 67 (dk_at dksX3_load_5 9 rfl rfl)
theorem dX3_load_129 : decode cX3_load 129 = .ok (.if_icmp .ge 16, 3) := dk_162 0 16 (dk_at dksX3_load_5 12 rfl rfl)
theorem dX3_load_132 : decode cX3_load 132 = .ok (.aload_n 0, 1) := dk_42 (dk_at dksX3_load_5 15 rfl rfl)
theorem dX3_load_133 : decode cX3_load 133 = .ok (.getfield 7, 3) := dk_180 0 7 (dk_at dksX3_load_5 16 rfl rfl)
theorem dX3_load_136 : decode cX3_load 136 = .ok (.iload_n 2, 1) := dk_28 (dk_at dksX3_load_5 19 rfl rfl)
theorem dX3_load_137 : decode cX3_load 137 = .ok (.iconst 0, 1) := dk_3 (dk_at dksX3_load_5 20 rfl rfl)
theorem dX3_load_138 : decode cX3_load 138 = .ok (.iastore, 1) := dk_79 (dk_at dksX3_load_5 21 rfl rfl)
theorem dX3_load_139 : decode cX3_load 139 = .ok (.iinc 2 1, 3) := dk_132 2 1 (dk_at dksX3_load_6 0 rfl rfl)
theorem dX3_load_142 : decode cX3_load 142 = .ok (.goto (-17), 3) := dk_167 255 239 (dk_at dksX3_load_6 3 rfl rfl)
theorem dX3_load_145 : decode cX3_load 145 = .ok (.iconst 0, 1) := dk_3 (dk_at dksX3_load_6 6 rfl rfl)
theorem dX3_load_146 : decode cX3_load 146 = .ok (.istore_n 2, 1) := dk_61 (dk_at dksX3_load_6 7 rfl rfl)
theorem dX3_load_147 : decode cX3_load 147 = .ok (.iload_n 2, 1) := dk_28 (dk_at dksX3_load_6 8 rfl rfl)
theorem dX3_load_148 : decode cX3_load 148 = .ok (.aload_n 0, 1) := dk_42 (dk_at dksX3_load_6 9 rfl rfl)
theorem dX3_load_149 : decode cX3_load 149 = .ok (.getfield 33, 3) := dk_180 0 33 (dk_at dksX3_load_6 10 rfl rfl)
theorem dX3_load_152 : decode cX3_load 152 = .ok (.bipush 8, 2) := dk_16 8 (dk_at dksX3_load_6 13 rfl rfl)
theorem dX3_load_154 : decode cX3_load 154 = .ok (.iaload, 1) := dk_46 (dk_at dksX3_load_6 15 rfl rfl)
theorem dX3_load_155 : decode cX3_load 155 = .ok (.if_icmp .ge 23, 3) := dk_162 0 23 (dk_at dksX3_load_6 16 rfl rfl)
theorem dX3_load_158 : decode cX3_load 158 = .ok (.aload_n 0, 1) := dk_42 (dk_at dksX3_load_6 19 rfl rfl)
theorem dX3_load_159 : decode cX3_load 159 = .ok (.getfield 7, 3) := dk_180 0 7 (dk_at dksX3_load_6 20 rfl rfl)
theorem dX3_load_162 : decode cX3_load 162 = .ok (.iconst 2, 1) := dk_5 (dk_at dksX3_load_6 23 rfl rfl)
theorem dX3_load_163 : decode cX3_load 163 = .ok (.iload_n 2, 1) := dk_28 (dk_at dksX3_load_7 0 rfl rfl)
theorem dX3_load_164 : decode cX3_load 164 = .ok (.iadd, 1) := dk_96 (dk_at dksX3_load_7 1 rfl rfl)
theorem dX3_load_165 : decode cX3_load 165 = .ok (.aload_n 0, 1) := dk_42 (dk_at dksX3_load_7 2 rfl rfl)
theorem dX3_load_166 : decode cX3_load 166 = .ok (.iload_n 2, 1) := dk_28 (dk_at dksX3_load_7 3 rfl rfl)
theorem dX3_load_167 : decode cX3_load 167 = .ok (.iconst 5, 1) := dk_8 (dk_at dksX3_load_7 4 rfl rfl)
theorem dX3_load_168 : decode cX3_load 168 = .ok (.invokevirtual 192, 3) := dk_182 0 192 (dk_at dksX3_load_7 5 rfl rfl)
theorem dX3_load_171 : decode cX3_load 171 = .ok (.iastore, 1) := dk_79 (dk_at dksX3_load_7 8 rfl rfl)
theorem dX3_load_172 : decode cX3_load 172 = .ok (.iinc 2 1, 3) := dk_132 2 1 (dk_at dksX3_load_7 9 rfl rfl)
theorem dX3_load_175 : decode cX3_load 175 = .ok (.goto (-28), 3) := dk_167 255 228 (dk_at dksX3_load_7 12 rfl rfl)
theorem dX3_load_178 : decode cX3_load 178 = .ok (.iconst 0, 1) := dk_3 (dk_at dksX3_load_7 15 rfl rfl)
theorem dX3_load_179 : decode cX3_load 179 = .ok (.istore_n 2, 1) := dk_61 (dk_at dksX3_load_7 16 rfl rfl)
theorem dX3_load_180 : decode cX3_load 180 = .ok (.iload_n 2, 1) := dk_28 (dk_at dksX3_load_7 17 rfl rfl)
theorem dX3_load_181 : decode cX3_load 181 = .ok (.aload_n 0, 1) := dk_42 (dk_at dksX3_load_7 18 rfl rfl)
theorem dX3_load_182 : decode cX3_load 182 = .ok (.getfield 33, 3) := dk_180 0 33 (dk_at dksX3_load_7 19 rfl rfl)
theorem dX3_load_185 : decode cX3_load 185 = .ok (.bipush 9, 2) := dk_16 9 (dk_at dksX3_load_7 22 rfl rfl)
theorem dX3_load_187 : decode cX3_load 187 = .ok (.iaload, 1) := dk_46 (dk_at dksX3_load_8 0 rfl rfl)
theorem dX3_load_188 : decode cX3_load 188 = .ok (.if_icmp .ge 67, 3) := dk_162 0 67 (dk_at dksX3_load_8 1 rfl rfl)
theorem dX3_load_191 : decode cX3_load 191 = .ok (.bipush 40, 2) := dk_16 40 (dk_at dksX3_load_8 4 rfl rfl)
theorem dX3_load_193 : decode cX3_load 193 = .ok (.bipush 6, 2) := dk_16 6 (dk_at dksX3_load_8 6 rfl rfl)
theorem dX3_load_195 : decode cX3_load 195 = .ok (.iload_n 2, 1) := dk_28 (dk_at dksX3_load_8 8 rfl rfl)
theorem dX3_load_196 : decode cX3_load 196 = .ok (.imul, 1) := dk_104 (dk_at dksX3_load_8 9 rfl rfl)
theorem dX3_load_197 : decode cX3_load 197 = .ok (.iadd, 1) := dk_96 (dk_at dksX3_load_8 10 rfl rfl)
theorem dX3_load_198 : decode cX3_load 198 = .ok (.istore_n 3, 1) := dk_62 (dk_at dksX3_load_8 11 rfl rfl)
theorem dX3_load_199 : decode cX3_load 199 = .ok (.aload_n 0, 1) := dk_42 (dk_at dksX3_load_8 12 rfl rfl)
theorem dX3_load_200 : decode cX3_load 200 = .ok (.aload_n 0, 1) := dk_42 (dk_at dksX3_load_8 13 rfl rfl)
theorem dX3_load_201 : decode cX3_load 201 = .ok (.getfield 33, 3) := dk_180 0 33 (dk_at dksX3_load_8 14 rfl rfl)
theorem dX3_load_204 : decode cX3_load 204 = .ok (.iload_n 3, 1) := dk_29 (dk_at dksX3_load_8 17 rfl rfl)
theorem dX3_load_205 : decode cX3_load 205 = .ok (.iaload, 1) := dk_46 (dk_at dksX3_load_8 18 rfl rfl)
theorem dX3_load_206 : decode cX3_load 206 = .ok (.aload_n 0, 1) := dk_42 (dk_at dksX3_load_8 19 rfl rfl)
theorem dX3_load_207 : decode cX3_load 207 = .ok (.getfield 33, 3) := dk_180 0 33 (dk_at dksX3_load_8 20 rfl rfl)
theorem dX3_load_210 : decode cX3_load 210 = .ok (.iload_n 3, 1) := dk_29 (dk_at dksX3_load_8 23 rfl rfl)
theorem dX3_load_211 : decode cX3_load 211 = .ok (.iconst 1, 1) := dk_4 (dk_at dksX3_load_9 0 rfl rfl)
theorem dX3_load_212 : decode cX3_load 212 = .ok (.iadd, 1) := dk_96 (dk_at dksX3_load_9 1 rfl rfl)
theorem dX3_load_213 : decode cX3_load 213 = .ok (.iaload, 1) := dk_46 (dk_at dksX3_load_9 2 rfl rfl)
theorem dX3_load_214 : decode cX3_load 214 = .ok (.aload_n 0, 1) := dk_42 (dk_at dksX3_load_9 3 rfl rfl)
theorem dX3_load_215 : decode cX3_load 215 = .ok (.getfield 33, 3) := dk_180 0 33 (dk_at dksX3_load_9 4 rfl rfl)
theorem dX3_load_218 : decode cX3_load 218 = .ok (.iload_n 3, 1) := dk_29 (dk_at dksX3_load_9 7 rfl rfl)
theorem dX3_load_219 : decode cX3_load 219 = .ok (.iconst 2, 1) := dk_5 (dk_at dksX3_load_9 8 rfl rfl)
theorem dX3_load_220 : decode cX3_load 220 = .ok (.iadd, 1) := dk_96 (dk_at dksX3_load_9 9 rfl rfl)
theorem dX3_load_221 : decode cX3_load 221 = .ok (.iaload, 1) := dk_46 (dk_at dksX3_load_9 10 rfl rfl)
theorem dX3_load_222 : decode cX3_load 222 = .ok (.aload_n 0, 1) := dk_42 (dk_at dksX3_load_9 11 rfl rfl)
theorem dX3_load_223 : decode cX3_load 223 = .ok (.getfield 33, 3) := dk_180 0 33 (dk_at dksX3_load_9 12 rfl rfl)
theorem dX3_load_226 : decode cX3_load 226 = .ok (.iload_n 3, 1) := dk_29 (dk_at dksX3_load_9 15 rfl rfl)
theorem dX3_load_227 : decode cX3_load 227 = .ok (.iconst 3, 1) := dk_6 (dk_at dksX3_load_9 16 rfl rfl)
theorem dX3_load_228 : decode cX3_load 228 = .ok (.iadd, 1) := dk_96 (dk_at dksX3_load_9 17 rfl rfl)
theorem dX3_load_229 : decode cX3_load 229 = .ok (.iaload, 1) := dk_46 (dk_at dksX3_load_9 18 rfl rfl)
theorem dX3_load_230 : decode cX3_load 230 = .ok (.aload_n 0, 1) := dk_42 (dk_at dksX3_load_9 19 rfl rfl)
theorem dX3_load_231 : decode cX3_load 231 = .ok (.getfield 33, 3) := dk_180 0 33 (dk_at dksX3_load_9 20 rfl rfl)
theorem dX3_load_234 : decode cX3_load 234 = .ok (.iload_n 3, 1) := dk_29 (dk_at dksX3_load_9 23 rfl rfl)
theorem dX3_load_235 : decode cX3_load 235 = .ok (.iconst 4, 1) := dk_7 (dk_at dksX3_load_10 0 rfl rfl)
theorem dX3_load_236 : decode cX3_load 236 = .ok (.iadd, 1) := dk_96 (dk_at dksX3_load_10 1 rfl rfl)
theorem dX3_load_237 : decode cX3_load 237 = .ok (.iaload, 1) := dk_46 (dk_at dksX3_load_10 2 rfl rfl)
theorem dX3_load_238 : decode cX3_load 238 = .ok (.aload_n 0, 1) := dk_42 (dk_at dksX3_load_10 3 rfl rfl)
theorem dX3_load_239 : decode cX3_load 239 = .ok (.getfield 33, 3) := dk_180 0 33 (dk_at dksX3_load_10 4 rfl rfl)
theorem dX3_load_242 : decode cX3_load 242 = .ok (.iload_n 3, 1) := dk_29 (dk_at dksX3_load_10 7 rfl rfl)
theorem dX3_load_243 : decode cX3_load 243 = .ok (.iconst 5, 1) := dk_8 (dk_at dksX3_load_10 8 rfl rfl)
theorem dX3_load_244 : decode cX3_load 244 = .ok (.iadd, 1) := dk_96 (dk_at dksX3_load_10 9 rfl rfl)
theorem dX3_load_245 : decode cX3_load 245 = .ok (.iaload, 1) := dk_46 (dk_at dksX3_load_10 10 rfl rfl)
theorem dX3_load_246 : decode cX3_load 246 = .ok (.invokevirtual 194, 3) := dk_182 0 194 (dk_at dksX3_load_10 11 rfl rfl)
theorem dX3_load_249 : decode cX3_load 249 = .ok (.iinc 2 1, 3) := dk_132 2 1 (dk_at dksX3_load_10 14 rfl rfl)
theorem dX3_load_252 : decode cX3_load 252 = .ok (.goto (-72), 3) := dk_167 255 184 (dk_at dksX3_load_10 17 rfl rfl)
theorem dX3_load_255 : decode cX3_load 255 = .ok (.aload_n 0, 1) := dk_42 (dk_at dksX3_load_10 20 rfl rfl)
theorem dX3_load_256 : decode cX3_load 256 = .ok (.iconst 0, 1) := dk_3 (dk_at dksX3_load_10 21 rfl rfl)
theorem dX3_load_257 : decode cX3_load 257 = .ok (.putfield 198, 3) := dk_181 0 198 (dk_at dksX3_load_11 0 rfl rfl)
theorem dX3_load_260 : decode cX3_load 260 = .ok (.aload_n 0, 1) := dk_42 (dk_at dksX3_load_11 3 rfl rfl)
theorem dX3_load_261 : decode cX3_load 261 = .ok (.getfield 16, 3) := dk_180 0 16 (dk_at dksX3_load_11 4 rfl rfl)
theorem dX3_load_264 : decode cX3_load 264 = .ok (.iconst 0, 1) := dk_3 (dk_at dksX3_load_11 7 rfl rfl)
theorem dX3_load_265 : decode cX3_load 265 = .ok (.iconst 0, 1) := dk_3 (dk_at dksX3_load_11 8 rfl rfl)
theorem dX3_load_266 : decode cX3_load 266 = .ok (.bastore, 1) := dk_84 (dk_at dksX3_load_11 9 rfl rfl)
theorem dX3_load_267 : decode cX3_load 267 = .ok (.aload_n 0, 1) := dk_42 (dk_at dksX3_load_11 10 rfl rfl)
theorem dX3_load_268 : decode cX3_load 268 = .ok (.getfield 16, 3) := dk_180 0 16 (dk_at dksX3_load_11 11 rfl rfl)
theorem dX3_load_271 : decode cX3_load 271 = .ok (.iconst 1, 1) := dk_4 (dk_at dksX3_load_11 14 rfl rfl)
theorem dX3_load_272 : decode cX3_load 272 = .ok (.iconst 0, 1) := dk_3 (dk_at dksX3_load_11 15 rfl rfl)
theorem dX3_load_273 : decode cX3_load 273 = .ok (.bastore, 1) := dk_84 (dk_at dksX3_load_11 16 rfl rfl)
theorem dX3_load_274 : decode cX3_load 274 = .ok (.aload_n 0, 1) := dk_42 (dk_at dksX3_load_11 17 rfl rfl)
theorem dX3_load_275 : decode cX3_load 275 = .ok (.iconst 1, 1) := dk_4 (dk_at dksX3_load_11 18 rfl rfl)
theorem dX3_load_276 : decode cX3_load 276 = .ok (.invokevirtual 201, 3) := dk_182 0 201 (dk_at dksX3_load_11 19 rfl rfl)
theorem dX3_load_279 : decode cX3_load 279 = .ok (.ireturn, 1) := dk_172 (dk_at dksX3_load_11 22 rfl rfl)
abbrev cX3_in : ByteArray := prog_23_method_3_code
def yX3_in : MethodName := ⟨RX3, "in", "(III)Z"⟩
def dkwX3_in_0 : List UInt8 := [26, 27, 161, 0, 12, 26, 28, 163, 0, 7, 4, 167, 0, 4, 3, 172]
abbrev dktX3_in_0 : List UInt8 := dkwX3_in_0 ++ []
theorem dksX3_in_0 : cX3_in.data.toList.drop 0 = dktX3_in_0 := by decide +kernel
theorem dX3_in_0 : decode cX3_in 0 = .ok (.iload_n 0, 1) := dk_26 (dk_at dksX3_in_0 0 rfl rfl)
theorem dX3_in_1 : decode cX3_in 1 = .ok (.iload_n 1, 1) := dk_27 (dk_at dksX3_in_0 1 rfl rfl)
theorem dX3_in_2 : decode cX3_in 2 = .ok (.if_icmp .lt 12, 3) := dk_161 0 12 (dk_at dksX3_in_0 2 rfl rfl)
theorem dX3_in_5 : decode cX3_in 5 = .ok (.iload_n 0, 1) := dk_26 (dk_at dksX3_in_0 5 rfl rfl)
theorem dX3_in_6 : decode cX3_in 6 = .ok (.iload_n 2, 1) := dk_28 (dk_at dksX3_in_0 6 rfl rfl)
theorem dX3_in_7 : decode cX3_in 7 = .ok (.if_icmp .gt 7, 3) := dk_163 0 7 (dk_at dksX3_in_0 7 rfl rfl)
theorem dX3_in_10 : decode cX3_in 10 = .ok (.iconst 1, 1) := dk_4 (dk_at dksX3_in_0 10 rfl rfl)
theorem dX3_in_11 : decode cX3_in 11 = .ok (.goto 4, 3) := dk_167 0 4 (dk_at dksX3_in_0 11 rfl rfl)
theorem dX3_in_14 : decode cX3_in 14 = .ok (.iconst 0, 1) := dk_3 (dk_at dksX3_in_0 14 rfl rfl)
theorem dX3_in_15 : decode cX3_in 15 = .ok (.ireturn, 1) := dk_172 (dk_at dksX3_in_0 15 rfl rfl)
abbrev cX3_refuse : ByteArray := prog_23_method_4_code
def yX3_refuse : MethodName := ⟨RX3, "refuse", "(ZI)Z"⟩
def dkwX3_refuse_1 : List UInt8 := [167, 0, 4, 3, 172]
abbrev dktX3_refuse_1 : List UInt8 := dkwX3_refuse_1 ++ []
def dkwX3_refuse_0 : List UInt8 := [42, 180, 0, 48, 154, 0, 12, 27, 153, 0, 8, 42, 28, 181, 0, 48, 42, 180, 0, 48, 153, 0, 7, 4]
abbrev dktX3_refuse_0 : List UInt8 := dkwX3_refuse_0 ++ dktX3_refuse_1
theorem dksX3_refuse_0 : cX3_refuse.data.toList.drop 0 = dktX3_refuse_0 := by decide +kernel
theorem dksX3_refuse_1 : cX3_refuse.data.toList.drop 24 = dktX3_refuse_1 := dk_seg dksX3_refuse_0 24 rfl rfl
theorem dX3_refuse_0 : decode cX3_refuse 0 = .ok (.aload_n 0, 1) := dk_42 (dk_at dksX3_refuse_0 0 rfl rfl)
theorem dX3_refuse_1 : decode cX3_refuse 1 = .ok (.getfield 48, 3) := dk_180 0 48 (dk_at dksX3_refuse_0 1 rfl rfl)
theorem dX3_refuse_4 : decode cX3_refuse 4 = .ok (.ifCond .ne 12, 3) := dk_154 0 12 (dk_at dksX3_refuse_0 4 rfl rfl)
theorem dX3_refuse_7 : decode cX3_refuse 7 = .ok (.iload_n 1, 1) := dk_27 (dk_at dksX3_refuse_0 7 rfl rfl)
theorem dX3_refuse_8 : decode cX3_refuse 8 = .ok (.ifCond .eq 8, 3) := dk_153 0 8 (dk_at dksX3_refuse_0 8 rfl rfl)
theorem dX3_refuse_11 : decode cX3_refuse 11 = .ok (.aload_n 0, 1) := dk_42 (dk_at dksX3_refuse_0 11 rfl rfl)
theorem dX3_refuse_12 : decode cX3_refuse 12 = .ok (.iload_n 2, 1) := dk_28 (dk_at dksX3_refuse_0 12 rfl rfl)
theorem dX3_refuse_13 : decode cX3_refuse 13 = .ok (.putfield 48, 3) := dk_181 0 48 (dk_at dksX3_refuse_0 13 rfl rfl)
theorem dX3_refuse_16 : decode cX3_refuse 16 = .ok (.aload_n 0, 1) := dk_42 (dk_at dksX3_refuse_0 16 rfl rfl)
theorem dX3_refuse_17 : decode cX3_refuse 17 = .ok (.getfield 48, 3) := dk_180 0 48 (dk_at dksX3_refuse_0 17 rfl rfl)
theorem dX3_refuse_20 : decode cX3_refuse 20 = .ok (.ifCond .eq 7, 3) := dk_153 0 7 (dk_at dksX3_refuse_0 20 rfl rfl)
theorem dX3_refuse_23 : decode cX3_refuse 23 = .ok (.iconst 1, 1) := dk_4 (dk_at dksX3_refuse_0 23 rfl rfl)
theorem dX3_refuse_24 : decode cX3_refuse 24 = .ok (.goto 4, 3) := dk_167 0 4 (dk_at dksX3_refuse_1 0 rfl rfl)
theorem dX3_refuse_27 : decode cX3_refuse 27 = .ok (.iconst 0, 1) := dk_3 (dk_at dksX3_refuse_1 3 rfl rfl)
theorem dX3_refuse_28 : decode cX3_refuse 28 = .ok (.ireturn, 1) := dk_172 (dk_at dksX3_refuse_1 4 rfl rfl)
abbrev cX3_reads : ByteArray := prog_23_method_26_code
def yX3_reads : MethodName := ⟨RX3, "reads", "(I)V"⟩
def dkwX3_reads_6 : List UInt8 := [180, 0, 30, 16, 8, 46, 154, 0, 9, 42, 16, 6, 182, 0, 117, 177]
abbrev dktX3_reads_6 : List UInt8 := dkwX3_reads_6 ++ []
def dkwX3_reads_5 : List UInt8 := [4, 182, 0, 117, 167, 255, 184, 42, 180, 0, 78, 153, 0, 11, 42, 4, 182, 0, 117, 167, 0, 19, 42]
abbrev dktX3_reads_5 : List UInt8 := dkwX3_reads_5 ++ dktX3_reads_6
def dkwX3_reads_4 : List UInt8 := [42, 182, 0, 181, 167, 255, 208, 42, 18, 184, 182, 0, 113, 153, 0, 10, 42, 182, 0, 186, 167, 255, 192, 42]
abbrev dktX3_reads_4 : List UInt8 := dkwX3_reads_4 ++ dktX3_reads_5
def dkwX3_reads_3 : List UInt8 := [18, 174, 182, 0, 113, 153, 0, 10, 42, 182, 0, 176, 167, 255, 224, 42, 18, 179, 182, 0, 113, 153, 0, 10]
abbrev dktX3_reads_3 : List UInt8 := dkwX3_reads_3 ++ dktX3_reads_4
def dkwX3_reads_2 : List UInt8 := [182, 0, 171, 42, 180, 0, 94, 154, 0, 71, 42, 180, 0, 78, 6, 160, 0, 63, 42, 182, 0, 100, 42]
abbrev dktX3_reads_2 : List UInt8 := dkwX3_reads_2 ++ dktX3_reads_3
def dkwX3_reads_1 : List UInt8 := [17, 0, 184, 162, 0, 16, 42, 180, 0, 30, 28, 3, 79, 132, 2, 1, 167, 255, 239, 42, 182, 0, 100, 42]
abbrev dktX3_reads_1 : List UInt8 := dkwX3_reads_1 ++ dktX3_reads_2
def dkwX3_reads_0 : List UInt8 := [42, 27, 181, 0, 65, 42, 3, 181, 0, 68, 42, 3, 181, 0, 94, 42, 2, 181, 0, 97, 3, 61, 28]
abbrev dktX3_reads_0 : List UInt8 := dkwX3_reads_0 ++ dktX3_reads_1
theorem dksX3_reads_0 : cX3_reads.data.toList.drop 0 = dktX3_reads_0 := by decide +kernel
theorem dksX3_reads_1 : cX3_reads.data.toList.drop 23 = dktX3_reads_1 := dk_seg dksX3_reads_0 23 rfl rfl
theorem dksX3_reads_2 : cX3_reads.data.toList.drop 47 = dktX3_reads_2 := dk_seg dksX3_reads_1 24 rfl rfl
theorem dksX3_reads_3 : cX3_reads.data.toList.drop 70 = dktX3_reads_3 := dk_seg dksX3_reads_2 23 rfl rfl
theorem dksX3_reads_4 : cX3_reads.data.toList.drop 94 = dktX3_reads_4 := dk_seg dksX3_reads_3 24 rfl rfl
theorem dksX3_reads_5 : cX3_reads.data.toList.drop 118 = dktX3_reads_5 := dk_seg dksX3_reads_4 24 rfl rfl
theorem dksX3_reads_6 : cX3_reads.data.toList.drop 141 = dktX3_reads_6 := dk_seg dksX3_reads_5 23 rfl rfl
theorem dX3_reads_0 : decode cX3_reads 0 = .ok (.aload_n 0, 1) := dk_42 (dk_at dksX3_reads_0 0 rfl rfl)
theorem dX3_reads_1 : decode cX3_reads 1 = .ok (.iload_n 1, 1) := dk_27 (dk_at dksX3_reads_0 1 rfl rfl)
theorem dX3_reads_2 : decode cX3_reads 2 = .ok (.putfield 65, 3) := dk_181 0 65 (dk_at dksX3_reads_0 2 rfl rfl)
theorem dX3_reads_5 : decode cX3_reads 5 = .ok (.aload_n 0, 1) := dk_42 (dk_at dksX3_reads_0 5 rfl rfl)
theorem dX3_reads_6 : decode cX3_reads 6 = .ok (.iconst 0, 1) := dk_3 (dk_at dksX3_reads_0 6 rfl rfl)
theorem dX3_reads_7 : decode cX3_reads 7 = .ok (.putfield 68, 3) := dk_181 0 68 (dk_at dksX3_reads_0 7 rfl rfl)
theorem dX3_reads_10 : decode cX3_reads 10 = .ok (.aload_n 0, 1) := dk_42 (dk_at dksX3_reads_0 10 rfl rfl)
theorem dX3_reads_11 : decode cX3_reads 11 = .ok (.iconst 0, 1) := dk_3 (dk_at dksX3_reads_0 11 rfl rfl)
theorem dX3_reads_12 : decode cX3_reads 12 = .ok (.putfield 94, 3) := dk_181 0 94 (dk_at dksX3_reads_0 12 rfl rfl)
theorem dX3_reads_15 : decode cX3_reads 15 = .ok (.aload_n 0, 1) := dk_42 (dk_at dksX3_reads_0 15 rfl rfl)
theorem dX3_reads_16 : decode cX3_reads 16 = .ok (.iconst (-1), 1) := dk_2 (dk_at dksX3_reads_0 16 rfl rfl)
theorem dX3_reads_17 : decode cX3_reads 17 = .ok (.putfield 97, 3) := dk_181 0 97 (dk_at dksX3_reads_0 17 rfl rfl)
theorem dX3_reads_20 : decode cX3_reads 20 = .ok (.iconst 0, 1) := dk_3 (dk_at dksX3_reads_0 20 rfl rfl)
theorem dX3_reads_21 : decode cX3_reads 21 = .ok (.istore_n 2, 1) := dk_61 (dk_at dksX3_reads_0 21 rfl rfl)
theorem dX3_reads_22 : decode cX3_reads 22 = .ok (.iload_n 2, 1) := dk_28 (dk_at dksX3_reads_0 22 rfl rfl)
theorem dX3_reads_23 : decode cX3_reads 23 = .ok (.sipush 184, 3) := dk_17 0 184 (dk_at dksX3_reads_1 0 rfl rfl)
theorem dX3_reads_26 : decode cX3_reads 26 = .ok (.if_icmp .ge 16, 3) := dk_162 0 16 (dk_at dksX3_reads_1 3 rfl rfl)
theorem dX3_reads_29 : decode cX3_reads 29 = .ok (.aload_n 0, 1) := dk_42 (dk_at dksX3_reads_1 6 rfl rfl)
theorem dX3_reads_30 : decode cX3_reads 30 = .ok (.getfield 30, 3) := dk_180 0 30 (dk_at dksX3_reads_1 7 rfl rfl)
theorem dX3_reads_33 : decode cX3_reads 33 = .ok (.iload_n 2, 1) := dk_28 (dk_at dksX3_reads_1 10 rfl rfl)
theorem dX3_reads_34 : decode cX3_reads 34 = .ok (.iconst 0, 1) := dk_3 (dk_at dksX3_reads_1 11 rfl rfl)
theorem dX3_reads_35 : decode cX3_reads 35 = .ok (.iastore, 1) := dk_79 (dk_at dksX3_reads_1 12 rfl rfl)
theorem dX3_reads_36 : decode cX3_reads 36 = .ok (.iinc 2 1, 3) := dk_132 2 1 (dk_at dksX3_reads_1 13 rfl rfl)
theorem dX3_reads_39 : decode cX3_reads 39 = .ok (.goto (-17), 3) := dk_167 255 239 (dk_at dksX3_reads_1 16 rfl rfl)
theorem dX3_reads_42 : decode cX3_reads 42 = .ok (.aload_n 0, 1) := dk_42 (dk_at dksX3_reads_1 19 rfl rfl)
theorem dX3_reads_43 : decode cX3_reads 43 = .ok (.invokevirtual 100, 3) := dk_182 0 100 (dk_at dksX3_reads_1 20 rfl rfl)
theorem dX3_reads_46 : decode cX3_reads 46 = .ok (.aload_n 0, 1) := dk_42 (dk_at dksX3_reads_1 23 rfl rfl)
theorem dX3_reads_47 : decode cX3_reads 47 = .ok (.invokevirtual 171, 3) := dk_182 0 171 (dk_at dksX3_reads_2 0 rfl rfl)
theorem dX3_reads_50 : decode cX3_reads 50 = .ok (.aload_n 0, 1) := dk_42 (dk_at dksX3_reads_2 3 rfl rfl)
theorem dX3_reads_51 : decode cX3_reads 51 = .ok (.getfield 94, 3) := dk_180 0 94 (dk_at dksX3_reads_2 4 rfl rfl)
theorem dX3_reads_54 : decode cX3_reads 54 = .ok (.ifCond .ne 71, 3) := dk_154 0 71 (dk_at dksX3_reads_2 7 rfl rfl)
theorem dX3_reads_57 : decode cX3_reads 57 = .ok (.aload_n 0, 1) := dk_42 (dk_at dksX3_reads_2 10 rfl rfl)
theorem dX3_reads_58 : decode cX3_reads 58 = .ok (.getfield 78, 3) := dk_180 0 78 (dk_at dksX3_reads_2 11 rfl rfl)
theorem dX3_reads_61 : decode cX3_reads 61 = .ok (.iconst 3, 1) := dk_6 (dk_at dksX3_reads_2 14 rfl rfl)
theorem dX3_reads_62 : decode cX3_reads 62 = .ok (.if_icmp .ne 63, 3) := dk_160 0 63 (dk_at dksX3_reads_2 15 rfl rfl)
theorem dX3_reads_65 : decode cX3_reads 65 = .ok (.aload_n 0, 1) := dk_42 (dk_at dksX3_reads_2 18 rfl rfl)
theorem dX3_reads_66 : decode cX3_reads 66 = .ok (.invokevirtual 100, 3) := dk_182 0 100 (dk_at dksX3_reads_2 19 rfl rfl)
theorem dX3_reads_69 : decode cX3_reads 69 = .ok (.aload_n 0, 1) := dk_42 (dk_at dksX3_reads_2 22 rfl rfl)
theorem dX3_reads_70 : decode cX3_reads 70 = .ok (.ldc 174, 2) := dk_18 174 (dk_at dksX3_reads_3 0 rfl rfl)
theorem dX3_reads_72 : decode cX3_reads 72 = .ok (.invokevirtual 113, 3) := dk_182 0 113 (dk_at dksX3_reads_3 2 rfl rfl)
theorem dX3_reads_75 : decode cX3_reads 75 = .ok (.ifCond .eq 10, 3) := dk_153 0 10 (dk_at dksX3_reads_3 5 rfl rfl)
theorem dX3_reads_78 : decode cX3_reads 78 = .ok (.aload_n 0, 1) := dk_42 (dk_at dksX3_reads_3 8 rfl rfl)
theorem dX3_reads_79 : decode cX3_reads 79 = .ok (.invokevirtual 176, 3) := dk_182 0 176 (dk_at dksX3_reads_3 9 rfl rfl)
theorem dX3_reads_82 : decode cX3_reads 82 = .ok (.goto (-32), 3) := dk_167 255 224 (dk_at dksX3_reads_3 12 rfl rfl)
theorem dX3_reads_85 : decode cX3_reads 85 = .ok (.aload_n 0, 1) := dk_42 (dk_at dksX3_reads_3 15 rfl rfl)
theorem dX3_reads_86 : decode cX3_reads 86 = .ok (.ldc 179, 2) := dk_18 179 (dk_at dksX3_reads_3 16 rfl rfl)
theorem dX3_reads_88 : decode cX3_reads 88 = .ok (.invokevirtual 113, 3) := dk_182 0 113 (dk_at dksX3_reads_3 18 rfl rfl)
theorem dX3_reads_91 : decode cX3_reads 91 = .ok (.ifCond .eq 10, 3) := dk_153 0 10 (dk_at dksX3_reads_3 21 rfl rfl)
theorem dX3_reads_94 : decode cX3_reads 94 = .ok (.aload_n 0, 1) := dk_42 (dk_at dksX3_reads_4 0 rfl rfl)
theorem dX3_reads_95 : decode cX3_reads 95 = .ok (.invokevirtual 181, 3) := dk_182 0 181 (dk_at dksX3_reads_4 1 rfl rfl)
theorem dX3_reads_98 : decode cX3_reads 98 = .ok (.goto (-48), 3) := dk_167 255 208 (dk_at dksX3_reads_4 4 rfl rfl)
theorem dX3_reads_101 : decode cX3_reads 101 = .ok (.aload_n 0, 1) := dk_42 (dk_at dksX3_reads_4 7 rfl rfl)
theorem dX3_reads_102 : decode cX3_reads 102 = .ok (.ldc 184, 2) := dk_18 184 (dk_at dksX3_reads_4 8 rfl rfl)
theorem dX3_reads_104 : decode cX3_reads 104 = .ok (.invokevirtual 113, 3) := dk_182 0 113 (dk_at dksX3_reads_4 10 rfl rfl)
theorem dX3_reads_107 : decode cX3_reads 107 = .ok (.ifCond .eq 10, 3) := dk_153 0 10 (dk_at dksX3_reads_4 13 rfl rfl)
theorem dX3_reads_110 : decode cX3_reads 110 = .ok (.aload_n 0, 1) := dk_42 (dk_at dksX3_reads_4 16 rfl rfl)
theorem dX3_reads_111 : decode cX3_reads 111 = .ok (.invokevirtual 186, 3) := dk_182 0 186 (dk_at dksX3_reads_4 17 rfl rfl)
theorem dX3_reads_114 : decode cX3_reads 114 = .ok (.goto (-64), 3) := dk_167 255 192 (dk_at dksX3_reads_4 20 rfl rfl)
theorem dX3_reads_117 : decode cX3_reads 117 = .ok (.aload_n 0, 1) := dk_42 (dk_at dksX3_reads_4 23 rfl rfl)
theorem dX3_reads_118 : decode cX3_reads 118 = .ok (.iconst 1, 1) := dk_4 (dk_at dksX3_reads_5 0 rfl rfl)
theorem dX3_reads_119 : decode cX3_reads 119 = .ok (.invokevirtual 117, 3) := dk_182 0 117 (dk_at dksX3_reads_5 1 rfl rfl)
theorem dX3_reads_122 : decode cX3_reads 122 = .ok (.goto (-72), 3) := dk_167 255 184 (dk_at dksX3_reads_5 4 rfl rfl)
theorem dX3_reads_125 : decode cX3_reads 125 = .ok (.aload_n 0, 1) := dk_42 (dk_at dksX3_reads_5 7 rfl rfl)
theorem dX3_reads_126 : decode cX3_reads 126 = .ok (.getfield 78, 3) := dk_180 0 78 (dk_at dksX3_reads_5 8 rfl rfl)
theorem dX3_reads_129 : decode cX3_reads 129 = .ok (.ifCond .eq 11, 3) := dk_153 0 11 (dk_at dksX3_reads_5 11 rfl rfl)
theorem dX3_reads_132 : decode cX3_reads 132 = .ok (.aload_n 0, 1) := dk_42 (dk_at dksX3_reads_5 14 rfl rfl)
theorem dX3_reads_133 : decode cX3_reads 133 = .ok (.iconst 1, 1) := dk_4 (dk_at dksX3_reads_5 15 rfl rfl)
theorem dX3_reads_134 : decode cX3_reads 134 = .ok (.invokevirtual 117, 3) := dk_182 0 117 (dk_at dksX3_reads_5 16 rfl rfl)
theorem dX3_reads_137 : decode cX3_reads 137 = .ok (.goto 19, 3) := dk_167 0 19 (dk_at dksX3_reads_5 19 rfl rfl)
theorem dX3_reads_140 : decode cX3_reads 140 = .ok (.aload_n 0, 1) := dk_42 (dk_at dksX3_reads_5 22 rfl rfl)
theorem dX3_reads_141 : decode cX3_reads 141 = .ok (.getfield 30, 3) := dk_180 0 30 (dk_at dksX3_reads_6 0 rfl rfl)
theorem dX3_reads_144 : decode cX3_reads 144 = .ok (.bipush 8, 2) := dk_16 8 (dk_at dksX3_reads_6 3 rfl rfl)
theorem dX3_reads_146 : decode cX3_reads 146 = .ok (.iaload, 1) := dk_46 (dk_at dksX3_reads_6 5 rfl rfl)
theorem dX3_reads_147 : decode cX3_reads 147 = .ok (.ifCond .ne 9, 3) := dk_154 0 9 (dk_at dksX3_reads_6 6 rfl rfl)
theorem dX3_reads_150 : decode cX3_reads 150 = .ok (.aload_n 0, 1) := dk_42 (dk_at dksX3_reads_6 9 rfl rfl)
theorem dX3_reads_151 : decode cX3_reads 151 = .ok (.bipush 6, 2) := dk_16 6 (dk_at dksX3_reads_6 10 rfl rfl)
theorem dX3_reads_153 : decode cX3_reads 153 = .ok (.invokevirtual 117, 3) := dk_182 0 117 (dk_at dksX3_reads_6 12 rfl rfl)
theorem dX3_reads_156 : decode cX3_reads 156 = .ok (.return_, 1) := dk_177 (dk_at dksX3_reads_6 15 rfl rfl)
abbrev cX3_token : ByteArray := prog_23_method_13_code
def yX3_token : MethodName := ⟨RX3, "token", "()V"⟩
def dkwX3_token_11 : List UInt8 := [167, 0, 4, 7, 181, 0, 78, 42, 89, 180, 0, 68, 4, 96, 181, 0, 68, 177]
abbrev dktX3_token_11 : List UInt8 := dkwX3_token_11 ++ []
def dkwX3_token_10 : List UInt8 := [164, 0, 7, 7, 167, 0, 4, 5, 181, 0, 78, 167, 0, 28, 42, 27, 16, 59, 160, 0, 7, 6]
abbrev dktX3_token_10 : List UInt8 := dkwX3_token_10 ++ dktX3_token_11
def dkwX3_token_9 : List UInt8 := [181, 0, 91, 132, 2, 1, 42, 89, 180, 0, 68, 4, 96, 181, 0, 68, 167, 255, 197, 42, 28, 8]
abbrev dktX3_token_9 : List UInt8 := dkwX3_token_9 ++ dktX3_token_10
def dkwX3_token_8 : List UInt8 := [16, 10, 42, 180, 0, 91, 104, 42, 42, 180, 0, 68, 182, 0, 71, 96, 16, 48, 100, 167, 0, 4, 3]
abbrev dktX3_token_8 : List UInt8 := dkwX3_token_8 ++ dktX3_token_9
def dkwX3_token_7 : List UInt8 := [3, 181, 0, 91, 42, 42, 180, 0, 68, 182, 0, 71, 184, 0, 88, 153, 0, 51, 42, 28, 8, 162, 0, 25]
abbrev dktX3_token_7 : List UInt8 := dkwX3_token_7 ++ dktX3_token_8
def dkwX3_token_6 : List UInt8 := [164, 0, 7, 7, 167, 0, 4, 4, 181, 0, 78, 167, 0, 121, 27, 184, 0, 88, 153, 0, 89, 3, 61, 42]
abbrev dktX3_token_6 : List UInt8 := dkwX3_token_6 ++ dktX3_token_7
def dkwX3_token_5 : List UInt8 := [181, 0, 85, 42, 89, 180, 0, 68, 4, 96, 181, 0, 68, 167, 255, 196, 42, 42, 180, 0, 85, 16, 6]
abbrev dktX3_token_5 : List UInt8 := dkwX3_token_5 ++ dktX3_token_6
def dkwX3_token_4 : List UInt8 := [180, 0, 27, 42, 180, 0, 85, 42, 42, 180, 0, 68, 182, 0, 71, 79, 42, 89, 180, 0, 85, 4, 96]
abbrev dktX3_token_4 : List UInt8 := dkwX3_token_4 ++ dktX3_token_5
def dkwX3_token_3 : List UInt8 := [42, 180, 0, 68, 182, 0, 71, 184, 0, 81, 153, 0, 52, 42, 180, 0, 85, 16, 6, 162, 0, 20, 42]
abbrev dktX3_token_3 : List UInt8 := dkwX3_token_3 ++ dktX3_token_4
def dkwX3_token_2 : List UInt8 := [160, 0, 11, 42, 3, 181, 0, 78, 167, 0, 217, 27, 184, 0, 81, 153, 0, 92, 42, 3, 181, 0, 85, 42]
abbrev dktX3_token_2 : List UInt8 := dkwX3_token_2 ++ dktX3_token_3
def dkwX3_token_1 : List UInt8 := [167, 255, 233, 42, 42, 180, 0, 68, 181, 0, 75, 42, 42, 180, 0, 68, 182, 0, 71, 60, 27, 2]
abbrev dktX3_token_1 : List UInt8 := dkwX3_token_1 ++ dktX3_token_2
def dkwX3_token_0 : List UInt8 := [42, 42, 180, 0, 68, 182, 0, 71, 16, 32, 160, 0, 16, 42, 89, 180, 0, 68, 4, 96, 181, 0, 68]
abbrev dktX3_token_0 : List UInt8 := dkwX3_token_0 ++ dktX3_token_1
theorem dksX3_token_0 : cX3_token.data.toList.drop 0 = dktX3_token_0 := by decide +kernel
theorem dksX3_token_1 : cX3_token.data.toList.drop 23 = dktX3_token_1 := dk_seg dksX3_token_0 23 rfl rfl
theorem dksX3_token_2 : cX3_token.data.toList.drop 45 = dktX3_token_2 := dk_seg dksX3_token_1 22 rfl rfl
theorem dksX3_token_3 : cX3_token.data.toList.drop 69 = dktX3_token_3 := dk_seg dksX3_token_2 24 rfl rfl
theorem dksX3_token_4 : cX3_token.data.toList.drop 92 = dktX3_token_4 := dk_seg dksX3_token_3 23 rfl rfl
theorem dksX3_token_5 : cX3_token.data.toList.drop 115 = dktX3_token_5 := dk_seg dksX3_token_4 23 rfl rfl
theorem dksX3_token_6 : cX3_token.data.toList.drop 138 = dktX3_token_6 := dk_seg dksX3_token_5 23 rfl rfl
theorem dksX3_token_7 : cX3_token.data.toList.drop 162 = dktX3_token_7 := dk_seg dksX3_token_6 24 rfl rfl
theorem dksX3_token_8 : cX3_token.data.toList.drop 186 = dktX3_token_8 := dk_seg dksX3_token_7 24 rfl rfl
theorem dksX3_token_9 : cX3_token.data.toList.drop 209 = dktX3_token_9 := dk_seg dksX3_token_8 23 rfl rfl
theorem dksX3_token_10 : cX3_token.data.toList.drop 231 = dktX3_token_10 := dk_seg dksX3_token_9 22 rfl rfl
theorem dksX3_token_11 : cX3_token.data.toList.drop 253 = dktX3_token_11 := dk_seg dksX3_token_10 22 rfl rfl
theorem dX3_token_0 : decode cX3_token 0 = .ok (.aload_n 0, 1) := dk_42 (dk_at dksX3_token_0 0 rfl rfl)
theorem dX3_token_1 : decode cX3_token 1 = .ok (.aload_n 0, 1) := dk_42 (dk_at dksX3_token_0 1 rfl rfl)
theorem dX3_token_2 : decode cX3_token 2 = .ok (.getfield 68, 3) := dk_180 0 68 (dk_at dksX3_token_0 2 rfl rfl)
theorem dX3_token_5 : decode cX3_token 5 = .ok (.invokevirtual 71, 3) := dk_182 0 71 (dk_at dksX3_token_0 5 rfl rfl)
theorem dX3_token_8 : decode cX3_token 8 = .ok (.bipush 32, 2) := dk_16 32 (dk_at dksX3_token_0 8 rfl rfl)
theorem dX3_token_10 : decode cX3_token 10 = .ok (.if_icmp .ne 16, 3) := dk_160 0 16 (dk_at dksX3_token_0 10 rfl rfl)
theorem dX3_token_13 : decode cX3_token 13 = .ok (.aload_n 0, 1) := dk_42 (dk_at dksX3_token_0 13 rfl rfl)
theorem dX3_token_14 : decode cX3_token 14 = .ok (.dup, 1) := dk_89 (dk_at dksX3_token_0 14 rfl rfl)
theorem dX3_token_15 : decode cX3_token 15 = .ok (.getfield 68, 3) := dk_180 0 68 (dk_at dksX3_token_0 15 rfl rfl)
theorem dX3_token_18 : decode cX3_token 18 = .ok (.iconst 1, 1) := dk_4 (dk_at dksX3_token_0 18 rfl rfl)
theorem dX3_token_19 : decode cX3_token 19 = .ok (.iadd, 1) := dk_96 (dk_at dksX3_token_0 19 rfl rfl)
theorem dX3_token_20 : decode cX3_token 20 = .ok (.putfield 68, 3) := dk_181 0 68 (dk_at dksX3_token_0 20 rfl rfl)
theorem dX3_token_23 : decode cX3_token 23 = .ok (.goto (-23), 3) := dk_167 255 233 (dk_at dksX3_token_1 0 rfl rfl)
theorem dX3_token_26 : decode cX3_token 26 = .ok (.aload_n 0, 1) := dk_42 (dk_at dksX3_token_1 3 rfl rfl)
theorem dX3_token_27 : decode cX3_token 27 = .ok (.aload_n 0, 1) := dk_42 (dk_at dksX3_token_1 4 rfl rfl)
theorem dX3_token_28 : decode cX3_token 28 = .ok (.getfield 68, 3) := dk_180 0 68 (dk_at dksX3_token_1 5 rfl rfl)
theorem dX3_token_31 : decode cX3_token 31 = .ok (.putfield 75, 3) := dk_181 0 75 (dk_at dksX3_token_1 8 rfl rfl)
theorem dX3_token_34 : decode cX3_token 34 = .ok (.aload_n 0, 1) := dk_42 (dk_at dksX3_token_1 11 rfl rfl)
theorem dX3_token_35 : decode cX3_token 35 = .ok (.aload_n 0, 1) := dk_42 (dk_at dksX3_token_1 12 rfl rfl)
theorem dX3_token_36 : decode cX3_token 36 = .ok (.getfield 68, 3) := dk_180 0 68 (dk_at dksX3_token_1 13 rfl rfl)
theorem dX3_token_39 : decode cX3_token 39 = .ok (.invokevirtual 71, 3) := dk_182 0 71 (dk_at dksX3_token_1 16 rfl rfl)
theorem dX3_token_42 : decode cX3_token 42 = .ok (.istore_n 1, 1) := dk_60 (dk_at dksX3_token_1 19 rfl rfl)
theorem dX3_token_43 : decode cX3_token 43 = .ok (.iload_n 1, 1) := dk_27 (dk_at dksX3_token_1 20 rfl rfl)
theorem dX3_token_44 : decode cX3_token 44 = .ok (.iconst (-1), 1) := dk_2 (dk_at dksX3_token_1 21 rfl rfl)
theorem dX3_token_45 : decode cX3_token 45 = .ok (.if_icmp .ne 11, 3) := dk_160 0 11 (dk_at dksX3_token_2 0 rfl rfl)
theorem dX3_token_48 : decode cX3_token 48 = .ok (.aload_n 0, 1) := dk_42 (dk_at dksX3_token_2 3 rfl rfl)
theorem dX3_token_49 : decode cX3_token 49 = .ok (.iconst 0, 1) := dk_3 (dk_at dksX3_token_2 4 rfl rfl)
theorem dX3_token_50 : decode cX3_token 50 = .ok (.putfield 78, 3) := dk_181 0 78 (dk_at dksX3_token_2 5 rfl rfl)
theorem dX3_token_53 : decode cX3_token 53 = .ok (.goto 217, 3) := dk_167 0 217 (dk_at dksX3_token_2 8 rfl rfl)
theorem dX3_token_56 : decode cX3_token 56 = .ok (.iload_n 1, 1) := dk_27 (dk_at dksX3_token_2 11 rfl rfl)
theorem dX3_token_57 : decode cX3_token 57 = .ok (.invokestatic 81, 3) := dk_184 0 81 (dk_at dksX3_token_2 12 rfl rfl)
theorem dX3_token_60 : decode cX3_token 60 = .ok (.ifCond .eq 92, 3) := dk_153 0 92 (dk_at dksX3_token_2 15 rfl rfl)
theorem dX3_token_63 : decode cX3_token 63 = .ok (.aload_n 0, 1) := dk_42 (dk_at dksX3_token_2 18 rfl rfl)
theorem dX3_token_64 : decode cX3_token 64 = .ok (.iconst 0, 1) := dk_3 (dk_at dksX3_token_2 19 rfl rfl)
theorem dX3_token_65 : decode cX3_token 65 = .ok (.putfield 85, 3) := dk_181 0 85 (dk_at dksX3_token_2 20 rfl rfl)
theorem dX3_token_68 : decode cX3_token 68 = .ok (.aload_n 0, 1) := dk_42 (dk_at dksX3_token_2 23 rfl rfl)
theorem dX3_token_69 : decode cX3_token 69 = .ok (.aload_n 0, 1) := dk_42 (dk_at dksX3_token_3 0 rfl rfl)
theorem dX3_token_70 : decode cX3_token 70 = .ok (.getfield 68, 3) := dk_180 0 68 (dk_at dksX3_token_3 1 rfl rfl)
theorem dX3_token_73 : decode cX3_token 73 = .ok (.invokevirtual 71, 3) := dk_182 0 71 (dk_at dksX3_token_3 4 rfl rfl)
theorem dX3_token_76 : decode cX3_token 76 = .ok (.invokestatic 81, 3) := dk_184 0 81 (dk_at dksX3_token_3 7 rfl rfl)
theorem dX3_token_79 : decode cX3_token 79 = .ok (.ifCond .eq 52, 3) := dk_153 0 52 (dk_at dksX3_token_3 10 rfl rfl)
theorem dX3_token_82 : decode cX3_token 82 = .ok (.aload_n 0, 1) := dk_42 (dk_at dksX3_token_3 13 rfl rfl)
theorem dX3_token_83 : decode cX3_token 83 = .ok (.getfield 85, 3) := dk_180 0 85 (dk_at dksX3_token_3 14 rfl rfl)
theorem dX3_token_86 : decode cX3_token 86 = .ok (.bipush 6, 2) := dk_16 6 (dk_at dksX3_token_3 17 rfl rfl)
theorem dX3_token_88 : decode cX3_token 88 = .ok (.if_icmp .ge 20, 3) := dk_162 0 20 (dk_at dksX3_token_3 19 rfl rfl)
theorem dX3_token_91 : decode cX3_token 91 = .ok (.aload_n 0, 1) := dk_42 (dk_at dksX3_token_3 22 rfl rfl)
theorem dX3_token_92 : decode cX3_token 92 = .ok (.getfield 27, 3) := dk_180 0 27 (dk_at dksX3_token_4 0 rfl rfl)
theorem dX3_token_95 : decode cX3_token 95 = .ok (.aload_n 0, 1) := dk_42 (dk_at dksX3_token_4 3 rfl rfl)
theorem dX3_token_96 : decode cX3_token 96 = .ok (.getfield 85, 3) := dk_180 0 85 (dk_at dksX3_token_4 4 rfl rfl)
theorem dX3_token_99 : decode cX3_token 99 = .ok (.aload_n 0, 1) := dk_42 (dk_at dksX3_token_4 7 rfl rfl)
theorem dX3_token_100 : decode cX3_token 100 = .ok (.aload_n 0, 1) := dk_42 (dk_at dksX3_token_4 8 rfl rfl)
theorem dX3_token_101 : decode cX3_token 101 = .ok (.getfield 68, 3) := dk_180 0 68 (dk_at dksX3_token_4 9 rfl rfl)
theorem dX3_token_104 : decode cX3_token 104 = .ok (.invokevirtual 71, 3) := dk_182 0 71 (dk_at dksX3_token_4 12 rfl rfl)
theorem dX3_token_107 : decode cX3_token 107 = .ok (.iastore, 1) := dk_79 (dk_at dksX3_token_4 15 rfl rfl)
theorem dX3_token_108 : decode cX3_token 108 = .ok (.aload_n 0, 1) := dk_42 (dk_at dksX3_token_4 16 rfl rfl)
theorem dX3_token_109 : decode cX3_token 109 = .ok (.dup, 1) := dk_89 (dk_at dksX3_token_4 17 rfl rfl)
theorem dX3_token_110 : decode cX3_token 110 = .ok (.getfield 85, 3) := dk_180 0 85 (dk_at dksX3_token_4 18 rfl rfl)
theorem dX3_token_113 : decode cX3_token 113 = .ok (.iconst 1, 1) := dk_4 (dk_at dksX3_token_4 21 rfl rfl)
theorem dX3_token_114 : decode cX3_token 114 = .ok (.iadd, 1) := dk_96 (dk_at dksX3_token_4 22 rfl rfl)
theorem dX3_token_115 : decode cX3_token 115 = .ok (.putfield 85, 3) := dk_181 0 85 (dk_at dksX3_token_5 0 rfl rfl)
theorem dX3_token_118 : decode cX3_token 118 = .ok (.aload_n 0, 1) := dk_42 (dk_at dksX3_token_5 3 rfl rfl)
theorem dX3_token_119 : decode cX3_token 119 = .ok (.dup, 1) := dk_89 (dk_at dksX3_token_5 4 rfl rfl)
theorem dX3_token_120 : decode cX3_token 120 = .ok (.getfield 68, 3) := dk_180 0 68 (dk_at dksX3_token_5 5 rfl rfl)
theorem dX3_token_123 : decode cX3_token 123 = .ok (.iconst 1, 1) := dk_4 (dk_at dksX3_token_5 8 rfl rfl)
theorem dX3_token_124 : decode cX3_token 124 = .ok (.iadd, 1) := dk_96 (dk_at dksX3_token_5 9 rfl rfl)
theorem dX3_token_125 : decode cX3_token 125 = .ok (.putfield 68, 3) := dk_181 0 68 (dk_at dksX3_token_5 10 rfl rfl)
theorem dX3_token_128 : decode cX3_token 128 = .ok (.goto (-60), 3) := dk_167 255 196 (dk_at dksX3_token_5 13 rfl rfl)
theorem dX3_token_131 : decode cX3_token 131 = .ok (.aload_n 0, 1) := dk_42 (dk_at dksX3_token_5 16 rfl rfl)
theorem dX3_token_132 : decode cX3_token 132 = .ok (.aload_n 0, 1) := dk_42 (dk_at dksX3_token_5 17 rfl rfl)
theorem dX3_token_133 : decode cX3_token 133 = .ok (.getfield 85, 3) := dk_180 0 85 (dk_at dksX3_token_5 18 rfl rfl)
theorem dX3_token_136 : decode cX3_token 136 = .ok (.bipush 6, 2) := dk_16 6 (dk_at dksX3_token_5 21 rfl rfl)
theorem dX3_token_138 : decode cX3_token 138 = .ok (.if_icmp .le 7, 3) := dk_164 0 7 (dk_at dksX3_token_6 0 rfl rfl)
theorem dX3_token_141 : decode cX3_token 141 = .ok (.iconst 4, 1) := dk_7 (dk_at dksX3_token_6 3 rfl rfl)
theorem dX3_token_142 : decode cX3_token 142 = .ok (.goto 4, 3) := dk_167 0 4 (dk_at dksX3_token_6 4 rfl rfl)
theorem dX3_token_145 : decode cX3_token 145 = .ok (.iconst 1, 1) := dk_4 (dk_at dksX3_token_6 7 rfl rfl)
theorem dX3_token_146 : decode cX3_token 146 = .ok (.putfield 78, 3) := dk_181 0 78 (dk_at dksX3_token_6 8 rfl rfl)
theorem dX3_token_149 : decode cX3_token 149 = .ok (.goto 121, 3) := dk_167 0 121 (dk_at dksX3_token_6 11 rfl rfl)
theorem dX3_token_152 : decode cX3_token 152 = .ok (.iload_n 1, 1) := dk_27 (dk_at dksX3_token_6 14 rfl rfl)
theorem dX3_token_153 : decode cX3_token 153 = .ok (.invokestatic 88, 3) := dk_184 0 88 (dk_at dksX3_token_6 15 rfl rfl)
theorem dX3_token_156 : decode cX3_token 156 = .ok (.ifCond .eq 89, 3) := dk_153 0 89 (dk_at dksX3_token_6 18 rfl rfl)
theorem dX3_token_159 : decode cX3_token 159 = .ok (.iconst 0, 1) := dk_3 (dk_at dksX3_token_6 21 rfl rfl)
theorem dX3_token_160 : decode cX3_token 160 = .ok (.istore_n 2, 1) := dk_61 (dk_at dksX3_token_6 22 rfl rfl)
theorem dX3_token_161 : decode cX3_token 161 = .ok (.aload_n 0, 1) := dk_42 (dk_at dksX3_token_6 23 rfl rfl)
theorem dX3_token_162 : decode cX3_token 162 = .ok (.iconst 0, 1) := dk_3 (dk_at dksX3_token_7 0 rfl rfl)
theorem dX3_token_163 : decode cX3_token 163 = .ok (.putfield 91, 3) := dk_181 0 91 (dk_at dksX3_token_7 1 rfl rfl)
theorem dX3_token_166 : decode cX3_token 166 = .ok (.aload_n 0, 1) := dk_42 (dk_at dksX3_token_7 4 rfl rfl)
theorem dX3_token_167 : decode cX3_token 167 = .ok (.aload_n 0, 1) := dk_42 (dk_at dksX3_token_7 5 rfl rfl)
theorem dX3_token_168 : decode cX3_token 168 = .ok (.getfield 68, 3) := dk_180 0 68 (dk_at dksX3_token_7 6 rfl rfl)
theorem dX3_token_171 : decode cX3_token 171 = .ok (.invokevirtual 71, 3) := dk_182 0 71 (dk_at dksX3_token_7 9 rfl rfl)
theorem dX3_token_174 : decode cX3_token 174 = .ok (.invokestatic 88, 3) := dk_184 0 88 (dk_at dksX3_token_7 12 rfl rfl)
theorem dX3_token_177 : decode cX3_token 177 = .ok (.ifCond .eq 51, 3) := dk_153 0 51 (dk_at dksX3_token_7 15 rfl rfl)
theorem dX3_token_180 : decode cX3_token 180 = .ok (.aload_n 0, 1) := dk_42 (dk_at dksX3_token_7 18 rfl rfl)
theorem dX3_token_181 : decode cX3_token 181 = .ok (.iload_n 2, 1) := dk_28 (dk_at dksX3_token_7 19 rfl rfl)
theorem dX3_token_182 : decode cX3_token 182 = .ok (.iconst 5, 1) := dk_8 (dk_at dksX3_token_7 20 rfl rfl)
theorem dX3_token_183 : decode cX3_token 183 = .ok (.if_icmp .ge 25, 3) := dk_162 0 25 (dk_at dksX3_token_7 21 rfl rfl)
theorem dX3_token_186 : decode cX3_token 186 = .ok (.bipush 10, 2) := dk_16 10 (dk_at dksX3_token_8 0 rfl rfl)
theorem dX3_token_188 : decode cX3_token 188 = .ok (.aload_n 0, 1) := dk_42 (dk_at dksX3_token_8 2 rfl rfl)
theorem dX3_token_189 : decode cX3_token 189 = .ok (.getfield 91, 3) := dk_180 0 91 (dk_at dksX3_token_8 3 rfl rfl)
theorem dX3_token_192 : decode cX3_token 192 = .ok (.imul, 1) := dk_104 (dk_at dksX3_token_8 6 rfl rfl)
theorem dX3_token_193 : decode cX3_token 193 = .ok (.aload_n 0, 1) := dk_42 (dk_at dksX3_token_8 7 rfl rfl)
theorem dX3_token_194 : decode cX3_token 194 = .ok (.aload_n 0, 1) := dk_42 (dk_at dksX3_token_8 8 rfl rfl)
theorem dX3_token_195 : decode cX3_token 195 = .ok (.getfield 68, 3) := dk_180 0 68 (dk_at dksX3_token_8 9 rfl rfl)
theorem dX3_token_198 : decode cX3_token 198 = .ok (.invokevirtual 71, 3) := dk_182 0 71 (dk_at dksX3_token_8 12 rfl rfl)
theorem dX3_token_201 : decode cX3_token 201 = .ok (.iadd, 1) := dk_96 (dk_at dksX3_token_8 15 rfl rfl)
theorem dX3_token_202 : decode cX3_token 202 = .ok (.bipush 48, 2) := dk_16 48 (dk_at dksX3_token_8 16 rfl rfl)
theorem dX3_token_204 : decode cX3_token 204 = .ok (.isub, 1) := dk_100 (dk_at dksX3_token_8 18 rfl rfl)
theorem dX3_token_205 : decode cX3_token 205 = .ok (.goto 4, 3) := dk_167 0 4 (dk_at dksX3_token_8 19 rfl rfl)
theorem dX3_token_208 : decode cX3_token 208 = .ok (.iconst 0, 1) := dk_3 (dk_at dksX3_token_8 22 rfl rfl)
theorem dX3_token_209 : decode cX3_token 209 = .ok (.putfield 91, 3) := dk_181 0 91 (dk_at dksX3_token_9 0 rfl rfl)
theorem dX3_token_212 : decode cX3_token 212 = .ok (.iinc 2 1, 3) := dk_132 2 1 (dk_at dksX3_token_9 3 rfl rfl)
theorem dX3_token_215 : decode cX3_token 215 = .ok (.aload_n 0, 1) := dk_42 (dk_at dksX3_token_9 6 rfl rfl)
theorem dX3_token_216 : decode cX3_token 216 = .ok (.dup, 1) := dk_89 (dk_at dksX3_token_9 7 rfl rfl)
theorem dX3_token_217 : decode cX3_token 217 = .ok (.getfield 68, 3) := dk_180 0 68 (dk_at dksX3_token_9 8 rfl rfl)
theorem dX3_token_220 : decode cX3_token 220 = .ok (.iconst 1, 1) := dk_4 (dk_at dksX3_token_9 11 rfl rfl)
theorem dX3_token_221 : decode cX3_token 221 = .ok (.iadd, 1) := dk_96 (dk_at dksX3_token_9 12 rfl rfl)
theorem dX3_token_222 : decode cX3_token 222 = .ok (.putfield 68, 3) := dk_181 0 68 (dk_at dksX3_token_9 13 rfl rfl)
theorem dX3_token_225 : decode cX3_token 225 = .ok (.goto (-59), 3) := dk_167 255 197 (dk_at dksX3_token_9 16 rfl rfl)
theorem dX3_token_228 : decode cX3_token 228 = .ok (.aload_n 0, 1) := dk_42 (dk_at dksX3_token_9 19 rfl rfl)
theorem dX3_token_229 : decode cX3_token 229 = .ok (.iload_n 2, 1) := dk_28 (dk_at dksX3_token_9 20 rfl rfl)
theorem dX3_token_230 : decode cX3_token 230 = .ok (.iconst 5, 1) := dk_8 (dk_at dksX3_token_9 21 rfl rfl)
theorem dX3_token_231 : decode cX3_token 231 = .ok (.if_icmp .le 7, 3) := dk_164 0 7 (dk_at dksX3_token_10 0 rfl rfl)
theorem dX3_token_234 : decode cX3_token 234 = .ok (.iconst 4, 1) := dk_7 (dk_at dksX3_token_10 3 rfl rfl)
theorem dX3_token_235 : decode cX3_token 235 = .ok (.goto 4, 3) := dk_167 0 4 (dk_at dksX3_token_10 4 rfl rfl)
theorem dX3_token_238 : decode cX3_token 238 = .ok (.iconst 2, 1) := dk_5 (dk_at dksX3_token_10 7 rfl rfl)
theorem dX3_token_239 : decode cX3_token 239 = .ok (.putfield 78, 3) := dk_181 0 78 (dk_at dksX3_token_10 8 rfl rfl)
theorem dX3_token_242 : decode cX3_token 242 = .ok (.goto 28, 3) := dk_167 0 28 (dk_at dksX3_token_10 11 rfl rfl)
theorem dX3_token_245 : decode cX3_token 245 = .ok (.aload_n 0, 1) := dk_42 (dk_at dksX3_token_10 14 rfl rfl)
theorem dX3_token_246 : decode cX3_token 246 = .ok (.iload_n 1, 1) := dk_27 (dk_at dksX3_token_10 15 rfl rfl)
theorem dX3_token_247 : decode cX3_token 247 = .ok (.bipush 59, 2) := dk_16 59 (dk_at dksX3_token_10 16 rfl rfl)
theorem dX3_token_249 : decode cX3_token 249 = .ok (.if_icmp .ne 7, 3) := dk_160 0 7 (dk_at dksX3_token_10 18 rfl rfl)
theorem dX3_token_252 : decode cX3_token 252 = .ok (.iconst 3, 1) := dk_6 (dk_at dksX3_token_10 21 rfl rfl)
theorem dX3_token_253 : decode cX3_token 253 = .ok (.goto 4, 3) := dk_167 0 4 (dk_at dksX3_token_11 0 rfl rfl)
theorem dX3_token_256 : decode cX3_token 256 = .ok (.iconst 4, 1) := dk_7 (dk_at dksX3_token_11 3 rfl rfl)
theorem dX3_token_257 : decode cX3_token 257 = .ok (.putfield 78, 3) := dk_181 0 78 (dk_at dksX3_token_11 4 rfl rfl)
theorem dX3_token_260 : decode cX3_token 260 = .ok (.aload_n 0, 1) := dk_42 (dk_at dksX3_token_11 7 rfl rfl)
theorem dX3_token_261 : decode cX3_token 261 = .ok (.dup, 1) := dk_89 (dk_at dksX3_token_11 8 rfl rfl)
theorem dX3_token_262 : decode cX3_token 262 = .ok (.getfield 68, 3) := dk_180 0 68 (dk_at dksX3_token_11 9 rfl rfl)
theorem dX3_token_265 : decode cX3_token 265 = .ok (.iconst 1, 1) := dk_4 (dk_at dksX3_token_11 12 rfl rfl)
theorem dX3_token_266 : decode cX3_token 266 = .ok (.iadd, 1) := dk_96 (dk_at dksX3_token_11 13 rfl rfl)
theorem dX3_token_267 : decode cX3_token 267 = .ok (.putfield 68, 3) := dk_181 0 68 (dk_at dksX3_token_11 14 rfl rfl)
theorem dX3_token_270 : decode cX3_token 270 = .ok (.return_, 1) := dk_177 (dk_at dksX3_token_11 17 rfl rfl)
abbrev cX3_seen : ByteArray := prog_23_method_10_code
def yX3_seen : MethodName := ⟨RX3, "seen", "(I)I"⟩
def dkwX3_seen_0 : List UInt8 := [27, 42, 180, 0, 65, 162, 0, 12, 42, 180, 0, 20, 27, 46, 167, 0, 4, 2, 172]
abbrev dktX3_seen_0 : List UInt8 := dkwX3_seen_0 ++ []
theorem dksX3_seen_0 : cX3_seen.data.toList.drop 0 = dktX3_seen_0 := by decide +kernel
theorem dX3_seen_0 : decode cX3_seen 0 = .ok (.iload_n 1, 1) := dk_27 (dk_at dksX3_seen_0 0 rfl rfl)
theorem dX3_seen_1 : decode cX3_seen 1 = .ok (.aload_n 0, 1) := dk_42 (dk_at dksX3_seen_0 1 rfl rfl)
theorem dX3_seen_2 : decode cX3_seen 2 = .ok (.getfield 65, 3) := dk_180 0 65 (dk_at dksX3_seen_0 2 rfl rfl)
theorem dX3_seen_5 : decode cX3_seen 5 = .ok (.if_icmp .ge 12, 3) := dk_162 0 12 (dk_at dksX3_seen_0 5 rfl rfl)
theorem dX3_seen_8 : decode cX3_seen 8 = .ok (.aload_n 0, 1) := dk_42 (dk_at dksX3_seen_0 8 rfl rfl)
theorem dX3_seen_9 : decode cX3_seen 9 = .ok (.getfield 20, 3) := dk_180 0 20 (dk_at dksX3_seen_0 9 rfl rfl)
theorem dX3_seen_12 : decode cX3_seen 12 = .ok (.iload_n 1, 1) := dk_27 (dk_at dksX3_seen_0 12 rfl rfl)
theorem dX3_seen_13 : decode cX3_seen 13 = .ok (.iaload, 1) := dk_46 (dk_at dksX3_seen_0 13 rfl rfl)
theorem dX3_seen_14 : decode cX3_seen 14 = .ok (.goto 4, 3) := dk_167 0 4 (dk_at dksX3_seen_0 14 rfl rfl)
theorem dX3_seen_17 : decode cX3_seen 17 = .ok (.iconst (-1), 1) := dk_2 (dk_at dksX3_seen_0 17 rfl rfl)
theorem dX3_seen_18 : decode cX3_seen 18 = .ok (.ireturn, 1) := dk_172 (dk_at dksX3_seen_0 18 rfl rfl)
abbrev cX3_isLetter : ByteArray := prog_23_method_11_code
def yX3_isLetter : MethodName := ⟨RX3, "isLetter", "(I)Z"⟩
def dkwX3_isLetter_0 : List UInt8 := [26, 16, 97, 161, 0, 13, 26, 16, 122, 163, 0, 7, 4, 167, 0, 4, 3, 172]
abbrev dktX3_isLetter_0 : List UInt8 := dkwX3_isLetter_0 ++ []
theorem dksX3_isLetter_0 : cX3_isLetter.data.toList.drop 0 = dktX3_isLetter_0 := by decide +kernel
theorem dX3_isLetter_0 : decode cX3_isLetter 0 = .ok (.iload_n 0, 1) := dk_26 (dk_at dksX3_isLetter_0 0 rfl rfl)
theorem dX3_isLetter_1 : decode cX3_isLetter 1 = .ok (.bipush 97, 2) := dk_16 97 (dk_at dksX3_isLetter_0 1 rfl rfl)
theorem dX3_isLetter_3 : decode cX3_isLetter 3 = .ok (.if_icmp .lt 13, 3) := dk_161 0 13 (dk_at dksX3_isLetter_0 3 rfl rfl)
theorem dX3_isLetter_6 : decode cX3_isLetter 6 = .ok (.iload_n 0, 1) := dk_26 (dk_at dksX3_isLetter_0 6 rfl rfl)
theorem dX3_isLetter_7 : decode cX3_isLetter 7 = .ok (.bipush 122, 2) := dk_16 122 (dk_at dksX3_isLetter_0 7 rfl rfl)
theorem dX3_isLetter_9 : decode cX3_isLetter 9 = .ok (.if_icmp .gt 7, 3) := dk_163 0 7 (dk_at dksX3_isLetter_0 9 rfl rfl)
theorem dX3_isLetter_12 : decode cX3_isLetter 12 = .ok (.iconst 1, 1) := dk_4 (dk_at dksX3_isLetter_0 12 rfl rfl)
theorem dX3_isLetter_13 : decode cX3_isLetter 13 = .ok (.goto 4, 3) := dk_167 0 4 (dk_at dksX3_isLetter_0 13 rfl rfl)
theorem dX3_isLetter_16 : decode cX3_isLetter 16 = .ok (.iconst 0, 1) := dk_3 (dk_at dksX3_isLetter_0 16 rfl rfl)
theorem dX3_isLetter_17 : decode cX3_isLetter 17 = .ok (.ireturn, 1) := dk_172 (dk_at dksX3_isLetter_0 17 rfl rfl)
abbrev cX3_isDigit : ByteArray := prog_23_method_12_code
def yX3_isDigit : MethodName := ⟨RX3, "isDigit", "(I)Z"⟩
def dkwX3_isDigit_0 : List UInt8 := [26, 16, 48, 161, 0, 13, 26, 16, 57, 163, 0, 7, 4, 167, 0, 4, 3, 172]
abbrev dktX3_isDigit_0 : List UInt8 := dkwX3_isDigit_0 ++ []
theorem dksX3_isDigit_0 : cX3_isDigit.data.toList.drop 0 = dktX3_isDigit_0 := by decide +kernel
theorem dX3_isDigit_0 : decode cX3_isDigit 0 = .ok (.iload_n 0, 1) := dk_26 (dk_at dksX3_isDigit_0 0 rfl rfl)
theorem dX3_isDigit_1 : decode cX3_isDigit 1 = .ok (.bipush 48, 2) := dk_16 48 (dk_at dksX3_isDigit_0 1 rfl rfl)
theorem dX3_isDigit_3 : decode cX3_isDigit 3 = .ok (.if_icmp .lt 13, 3) := dk_161 0 13 (dk_at dksX3_isDigit_0 3 rfl rfl)
theorem dX3_isDigit_6 : decode cX3_isDigit 6 = .ok (.iload_n 0, 1) := dk_26 (dk_at dksX3_isDigit_0 6 rfl rfl)
theorem dX3_isDigit_7 : decode cX3_isDigit 7 = .ok (.bipush 57, 2) := dk_16 57 (dk_at dksX3_isDigit_0 7 rfl rfl)
theorem dX3_isDigit_9 : decode cX3_isDigit 9 = .ok (.if_icmp .gt 7, 3) := dk_163 0 7 (dk_at dksX3_isDigit_0 9 rfl rfl)
theorem dX3_isDigit_12 : decode cX3_isDigit 12 = .ok (.iconst 1, 1) := dk_4 (dk_at dksX3_isDigit_0 12 rfl rfl)
theorem dX3_isDigit_13 : decode cX3_isDigit 13 = .ok (.goto 4, 3) := dk_167 0 4 (dk_at dksX3_isDigit_0 13 rfl rfl)
theorem dX3_isDigit_16 : decode cX3_isDigit 16 = .ok (.iconst 0, 1) := dk_3 (dk_at dksX3_isDigit_0 16 rfl rfl)
theorem dX3_isDigit_17 : decode cX3_isDigit 17 = .ok (.ireturn, 1) := dk_172 (dk_at dksX3_isDigit_0 17 rfl rfl)
abbrev cX3_rules : ByteArray := prog_23_method_21_code
def yX3_rules : MethodName := ⟨RX3, "rules", "()V"⟩
def dkwX3_rules_4 : List UInt8 := [182, 0, 143, 79, 42, 180, 0, 30, 16, 6, 42, 18, 152, 3, 17, 3, 231, 182, 0, 143, 79, 177]
abbrev dktX3_rules_4 : List UInt8 := dkwX3_rules_4 ++ []
def dkwX3_rules_3 : List UInt8 := [180, 0, 30, 7, 42, 3, 16, 20, 182, 0, 136, 79, 42, 180, 0, 30, 8, 42, 18, 150, 3, 16, 60]
abbrev dktX3_rules_3 : List UInt8 := dkwX3_rules_3 ++ dktX3_rules_4
def dkwX3_rules_2 : List UInt8 := [17, 1, 144, 182, 0, 136, 79, 42, 180, 0, 30, 6, 42, 18, 148, 3, 16, 20, 182, 0, 143, 79, 42]
abbrev dktX3_rules_2 : List UInt8 := dkwX3_rules_2 ++ dktX3_rules_3
def dkwX3_rules_1 : List UInt8 := [180, 0, 30, 4, 42, 18, 146, 3, 16, 120, 182, 0, 143, 79, 42, 180, 0, 30, 5, 42, 16, 100]
abbrev dktX3_rules_1 : List UInt8 := dkwX3_rules_1 ++ dktX3_rules_2
def dkwX3_rules_0 : List UInt8 := [42, 18, 139, 182, 0, 132, 42, 180, 0, 30, 3, 42, 18, 141, 3, 16, 120, 182, 0, 143, 79, 42]
abbrev dktX3_rules_0 : List UInt8 := dkwX3_rules_0 ++ dktX3_rules_1
theorem dksX3_rules_0 : cX3_rules.data.toList.drop 0 = dktX3_rules_0 := by decide +kernel
theorem dksX3_rules_1 : cX3_rules.data.toList.drop 22 = dktX3_rules_1 := dk_seg dksX3_rules_0 22 rfl rfl
theorem dksX3_rules_2 : cX3_rules.data.toList.drop 44 = dktX3_rules_2 := dk_seg dksX3_rules_1 22 rfl rfl
theorem dksX3_rules_3 : cX3_rules.data.toList.drop 67 = dktX3_rules_3 := dk_seg dksX3_rules_2 23 rfl rfl
theorem dksX3_rules_4 : cX3_rules.data.toList.drop 90 = dktX3_rules_4 := dk_seg dksX3_rules_3 23 rfl rfl
theorem dX3_rules_0 : decode cX3_rules 0 = .ok (.aload_n 0, 1) := dk_42 (dk_at dksX3_rules_0 0 rfl rfl)
theorem dX3_rules_1 : decode cX3_rules 1 = .ok (.ldc 139, 2) := dk_18 139 (dk_at dksX3_rules_0 1 rfl rfl)
theorem dX3_rules_3 : decode cX3_rules 3 = .ok (.invokevirtual 132, 3) := dk_182 0 132 (dk_at dksX3_rules_0 3 rfl rfl)
theorem dX3_rules_6 : decode cX3_rules 6 = .ok (.aload_n 0, 1) := dk_42 (dk_at dksX3_rules_0 6 rfl rfl)
theorem dX3_rules_7 : decode cX3_rules 7 = .ok (.getfield 30, 3) := dk_180 0 30 (dk_at dksX3_rules_0 7 rfl rfl)
theorem dX3_rules_10 : decode cX3_rules 10 = .ok (.iconst 0, 1) := dk_3 (dk_at dksX3_rules_0 10 rfl rfl)
theorem dX3_rules_11 : decode cX3_rules 11 = .ok (.aload_n 0, 1) := dk_42 (dk_at dksX3_rules_0 11 rfl rfl)
theorem dX3_rules_12 : decode cX3_rules 12 = .ok (.ldc 141, 2) := dk_18 141 (dk_at dksX3_rules_0 12 rfl rfl)
theorem dX3_rules_14 : decode cX3_rules 14 = .ok (.iconst 0, 1) := dk_3 (dk_at dksX3_rules_0 14 rfl rfl)
theorem dX3_rules_15 : decode cX3_rules 15 = .ok (.bipush 120, 2) := dk_16 120 (dk_at dksX3_rules_0 15 rfl rfl)
theorem dX3_rules_17 : decode cX3_rules 17 = .ok (.invokevirtual 143, 3) := dk_182 0 143 (dk_at dksX3_rules_0 17 rfl rfl)
theorem dX3_rules_20 : decode cX3_rules 20 = .ok (.iastore, 1) := dk_79 (dk_at dksX3_rules_0 20 rfl rfl)
theorem dX3_rules_21 : decode cX3_rules 21 = .ok (.aload_n 0, 1) := dk_42 (dk_at dksX3_rules_0 21 rfl rfl)
theorem dX3_rules_22 : decode cX3_rules 22 = .ok (.getfield 30, 3) := dk_180 0 30 (dk_at dksX3_rules_1 0 rfl rfl)
theorem dX3_rules_25 : decode cX3_rules 25 = .ok (.iconst 1, 1) := dk_4 (dk_at dksX3_rules_1 3 rfl rfl)
theorem dX3_rules_26 : decode cX3_rules 26 = .ok (.aload_n 0, 1) := dk_42 (dk_at dksX3_rules_1 4 rfl rfl)
theorem dX3_rules_27 : decode cX3_rules 27 = .ok (.ldc 146, 2) := dk_18 146 (dk_at dksX3_rules_1 5 rfl rfl)
theorem dX3_rules_29 : decode cX3_rules 29 = .ok (.iconst 0, 1) := dk_3 (dk_at dksX3_rules_1 7 rfl rfl)
theorem dX3_rules_30 : decode cX3_rules 30 = .ok (.bipush 120, 2) := dk_16 120 (dk_at dksX3_rules_1 8 rfl rfl)
theorem dX3_rules_32 : decode cX3_rules 32 = .ok (.invokevirtual 143, 3) := dk_182 0 143 (dk_at dksX3_rules_1 10 rfl rfl)
theorem dX3_rules_35 : decode cX3_rules 35 = .ok (.iastore, 1) := dk_79 (dk_at dksX3_rules_1 13 rfl rfl)
theorem dX3_rules_36 : decode cX3_rules 36 = .ok (.aload_n 0, 1) := dk_42 (dk_at dksX3_rules_1 14 rfl rfl)
theorem dX3_rules_37 : decode cX3_rules 37 = .ok (.getfield 30, 3) := dk_180 0 30 (dk_at dksX3_rules_1 15 rfl rfl)
theorem dX3_rules_40 : decode cX3_rules 40 = .ok (.iconst 2, 1) := dk_5 (dk_at dksX3_rules_1 18 rfl rfl)
theorem dX3_rules_41 : decode cX3_rules 41 = .ok (.aload_n 0, 1) := dk_42 (dk_at dksX3_rules_1 19 rfl rfl)
theorem dX3_rules_42 : decode cX3_rules 42 = .ok (.bipush 100, 2) := dk_16 100 (dk_at dksX3_rules_1 20 rfl rfl)
theorem dX3_rules_44 : decode cX3_rules 44 = .ok (.sipush 400, 3) := dk_17 1 144 (dk_at dksX3_rules_2 0 rfl rfl)
theorem dX3_rules_47 : decode cX3_rules 47 = .ok (.invokevirtual 136, 3) := dk_182 0 136 (dk_at dksX3_rules_2 3 rfl rfl)
theorem dX3_rules_50 : decode cX3_rules 50 = .ok (.iastore, 1) := dk_79 (dk_at dksX3_rules_2 6 rfl rfl)
theorem dX3_rules_51 : decode cX3_rules 51 = .ok (.aload_n 0, 1) := dk_42 (dk_at dksX3_rules_2 7 rfl rfl)
theorem dX3_rules_52 : decode cX3_rules 52 = .ok (.getfield 30, 3) := dk_180 0 30 (dk_at dksX3_rules_2 8 rfl rfl)
theorem dX3_rules_55 : decode cX3_rules 55 = .ok (.iconst 3, 1) := dk_6 (dk_at dksX3_rules_2 11 rfl rfl)
theorem dX3_rules_56 : decode cX3_rules 56 = .ok (.aload_n 0, 1) := dk_42 (dk_at dksX3_rules_2 12 rfl rfl)
theorem dX3_rules_57 : decode cX3_rules 57 = .ok (.ldc 148, 2) := dk_18 148 (dk_at dksX3_rules_2 13 rfl rfl)
theorem dX3_rules_59 : decode cX3_rules 59 = .ok (.iconst 0, 1) := dk_3 (dk_at dksX3_rules_2 15 rfl rfl)
theorem dX3_rules_60 : decode cX3_rules 60 = .ok (.bipush 20, 2) := dk_16 20 (dk_at dksX3_rules_2 16 rfl rfl)
theorem dX3_rules_62 : decode cX3_rules 62 = .ok (.invokevirtual 143, 3) := dk_182 0 143 (dk_at dksX3_rules_2 18 rfl rfl)
theorem dX3_rules_65 : decode cX3_rules 65 = .ok (.iastore, 1) := dk_79 (dk_at dksX3_rules_2 21 rfl rfl)
theorem dX3_rules_66 : decode cX3_rules 66 = .ok (.aload_n 0, 1) := dk_42 (dk_at dksX3_rules_2 22 rfl rfl)
theorem dX3_rules_67 : decode cX3_rules 67 = .ok (.getfield 30, 3) := dk_180 0 30 (dk_at dksX3_rules_3 0 rfl rfl)
theorem dX3_rules_70 : decode cX3_rules 70 = .ok (.iconst 4, 1) := dk_7 (dk_at dksX3_rules_3 3 rfl rfl)
theorem dX3_rules_71 : decode cX3_rules 71 = .ok (.aload_n 0, 1) := dk_42 (dk_at dksX3_rules_3 4 rfl rfl)
theorem dX3_rules_72 : decode cX3_rules 72 = .ok (.iconst 0, 1) := dk_3 (dk_at dksX3_rules_3 5 rfl rfl)
theorem dX3_rules_73 : decode cX3_rules 73 = .ok (.bipush 20, 2) := dk_16 20 (dk_at dksX3_rules_3 6 rfl rfl)
theorem dX3_rules_75 : decode cX3_rules 75 = .ok (.invokevirtual 136, 3) := dk_182 0 136 (dk_at dksX3_rules_3 8 rfl rfl)
theorem dX3_rules_78 : decode cX3_rules 78 = .ok (.iastore, 1) := dk_79 (dk_at dksX3_rules_3 11 rfl rfl)
theorem dX3_rules_79 : decode cX3_rules 79 = .ok (.aload_n 0, 1) := dk_42 (dk_at dksX3_rules_3 12 rfl rfl)
theorem dX3_rules_80 : decode cX3_rules 80 = .ok (.getfield 30, 3) := dk_180 0 30 (dk_at dksX3_rules_3 13 rfl rfl)
theorem dX3_rules_83 : decode cX3_rules 83 = .ok (.iconst 5, 1) := dk_8 (dk_at dksX3_rules_3 16 rfl rfl)
theorem dX3_rules_84 : decode cX3_rules 84 = .ok (.aload_n 0, 1) := dk_42 (dk_at dksX3_rules_3 17 rfl rfl)
theorem dX3_rules_85 : decode cX3_rules 85 = .ok (.ldc 150, 2) := dk_18 150 (dk_at dksX3_rules_3 18 rfl rfl)
theorem dX3_rules_87 : decode cX3_rules 87 = .ok (.iconst 0, 1) := dk_3 (dk_at dksX3_rules_3 20 rfl rfl)
theorem dX3_rules_88 : decode cX3_rules 88 = .ok (.bipush 60, 2) := dk_16 60 (dk_at dksX3_rules_3 21 rfl rfl)
theorem dX3_rules_90 : decode cX3_rules 90 = .ok (.invokevirtual 143, 3) := dk_182 0 143 (dk_at dksX3_rules_4 0 rfl rfl)
theorem dX3_rules_93 : decode cX3_rules 93 = .ok (.iastore, 1) := dk_79 (dk_at dksX3_rules_4 3 rfl rfl)
theorem dX3_rules_94 : decode cX3_rules 94 = .ok (.aload_n 0, 1) := dk_42 (dk_at dksX3_rules_4 4 rfl rfl)
theorem dX3_rules_95 : decode cX3_rules 95 = .ok (.getfield 30, 3) := dk_180 0 30 (dk_at dksX3_rules_4 5 rfl rfl)
theorem dX3_rules_98 : decode cX3_rules 98 = .ok (.bipush 6, 2) := dk_16 6 (dk_at dksX3_rules_4 8 rfl rfl)
theorem dX3_rules_100 : decode cX3_rules 100 = .ok (.aload_n 0, 1) := dk_42 (dk_at dksX3_rules_4 10 rfl rfl)
theorem dX3_rules_101 : decode cX3_rules 101 = .ok (.ldc 152, 2) := dk_18 152 (dk_at dksX3_rules_4 11 rfl rfl)
theorem dX3_rules_103 : decode cX3_rules 103 = .ok (.iconst 0, 1) := dk_3 (dk_at dksX3_rules_4 13 rfl rfl)
theorem dX3_rules_104 : decode cX3_rules 104 = .ok (.sipush 999, 3) := dk_17 3 231 (dk_at dksX3_rules_4 14 rfl rfl)
theorem dX3_rules_107 : decode cX3_rules 107 = .ok (.invokevirtual 143, 3) := dk_182 0 143 (dk_at dksX3_rules_4 17 rfl rfl)
theorem dX3_rules_110 : decode cX3_rules 110 = .ok (.iastore, 1) := dk_79 (dk_at dksX3_rules_4 20 rfl rfl)
theorem dX3_rules_111 : decode cX3_rules 111 = .ok (.return_, 1) := dk_177 (dk_at dksX3_rules_4 21 rfl rfl)
abbrev cX3_must : ByteArray := prog_23_method_17_code
def yX3_must : MethodName := ⟨RX3, "must", "(Ljava/lang/String;)V"⟩
def dkwX3_must_0 : List UInt8 := [42, 43, 182, 0, 113, 154, 0, 8, 42, 4, 182, 0, 117, 42, 182, 0, 121, 177]
abbrev dktX3_must_0 : List UInt8 := dkwX3_must_0 ++ []
theorem dksX3_must_0 : cX3_must.data.toList.drop 0 = dktX3_must_0 := by decide +kernel
theorem dX3_must_0 : decode cX3_must 0 = .ok (.aload_n 0, 1) := dk_42 (dk_at dksX3_must_0 0 rfl rfl)
theorem dX3_must_1 : decode cX3_must 1 = .ok (.aload_n 1, 1) := dk_43 (dk_at dksX3_must_0 1 rfl rfl)
theorem dX3_must_2 : decode cX3_must 2 = .ok (.invokevirtual 113, 3) := dk_182 0 113 (dk_at dksX3_must_0 2 rfl rfl)
theorem dX3_must_5 : decode cX3_must 5 = .ok (.ifCond .ne 8, 3) := dk_154 0 8 (dk_at dksX3_must_0 5 rfl rfl)
theorem dX3_must_8 : decode cX3_must 8 = .ok (.aload_n 0, 1) := dk_42 (dk_at dksX3_must_0 8 rfl rfl)
theorem dX3_must_9 : decode cX3_must 9 = .ok (.iconst 1, 1) := dk_4 (dk_at dksX3_must_0 9 rfl rfl)
theorem dX3_must_10 : decode cX3_must 10 = .ok (.invokevirtual 117, 3) := dk_182 0 117 (dk_at dksX3_must_0 10 rfl rfl)
theorem dX3_must_13 : decode cX3_must 13 = .ok (.aload_n 0, 1) := dk_42 (dk_at dksX3_must_0 13 rfl rfl)
theorem dX3_must_14 : decode cX3_must 14 = .ok (.invokevirtual 121, 3) := dk_182 0 121 (dk_at dksX3_must_0 14 rfl rfl)
theorem dX3_must_17 : decode cX3_must 17 = .ok (.return_, 1) := dk_177 (dk_at dksX3_must_0 17 rfl rfl)
abbrev cX3_isWord : ByteArray := prog_23_method_16_code
def yX3_isWord : MethodName := ⟨RX3, "isWord", "(Ljava/lang/String;)Z"⟩
def dkwX3_isWord_2 : List UInt8 := [182, 0, 109, 159, 0, 5, 3, 172, 132, 2, 1, 167, 255, 229, 4, 172]
abbrev dktX3_isWord_2 : List UInt8 := dkwX3_isWord_2 ++ []
def dkwX3_isWord_1 : List UInt8 := [159, 0, 5, 3, 172, 3, 61, 28, 42, 180, 0, 85, 162, 0, 25, 42, 180, 0, 27, 28, 46, 43, 28]
abbrev dktX3_isWord_1 : List UInt8 := dkwX3_isWord_1 ++ dktX3_isWord_2
def dkwX3_isWord_0 : List UInt8 := [42, 180, 0, 94, 154, 0, 22, 42, 180, 0, 78, 4, 160, 0, 14, 42, 180, 0, 85, 43, 182, 0, 103]
abbrev dktX3_isWord_0 : List UInt8 := dkwX3_isWord_0 ++ dktX3_isWord_1
theorem dksX3_isWord_0 : cX3_isWord.data.toList.drop 0 = dktX3_isWord_0 := by decide +kernel
theorem dksX3_isWord_1 : cX3_isWord.data.toList.drop 23 = dktX3_isWord_1 := dk_seg dksX3_isWord_0 23 rfl rfl
theorem dksX3_isWord_2 : cX3_isWord.data.toList.drop 46 = dktX3_isWord_2 := dk_seg dksX3_isWord_1 23 rfl rfl
theorem dX3_isWord_0 : decode cX3_isWord 0 = .ok (.aload_n 0, 1) := dk_42 (dk_at dksX3_isWord_0 0 rfl rfl)
theorem dX3_isWord_1 : decode cX3_isWord 1 = .ok (.getfield 94, 3) := dk_180 0 94 (dk_at dksX3_isWord_0 1 rfl rfl)
theorem dX3_isWord_4 : decode cX3_isWord 4 = .ok (.ifCond .ne 22, 3) := dk_154 0 22 (dk_at dksX3_isWord_0 4 rfl rfl)
theorem dX3_isWord_7 : decode cX3_isWord 7 = .ok (.aload_n 0, 1) := dk_42 (dk_at dksX3_isWord_0 7 rfl rfl)
theorem dX3_isWord_8 : decode cX3_isWord 8 = .ok (.getfield 78, 3) := dk_180 0 78 (dk_at dksX3_isWord_0 8 rfl rfl)
theorem dX3_isWord_11 : decode cX3_isWord 11 = .ok (.iconst 1, 1) := dk_4 (dk_at dksX3_isWord_0 11 rfl rfl)
theorem dX3_isWord_12 : decode cX3_isWord 12 = .ok (.if_icmp .ne 14, 3) := dk_160 0 14 (dk_at dksX3_isWord_0 12 rfl rfl)
theorem dX3_isWord_15 : decode cX3_isWord 15 = .ok (.aload_n 0, 1) := dk_42 (dk_at dksX3_isWord_0 15 rfl rfl)
theorem dX3_isWord_16 : decode cX3_isWord 16 = .ok (.getfield 85, 3) := dk_180 0 85 (dk_at dksX3_isWord_0 16 rfl rfl)
theorem dX3_isWord_19 : decode cX3_isWord 19 = .ok (.aload_n 1, 1) := dk_43 (dk_at dksX3_isWord_0 19 rfl rfl)
theorem dX3_isWord_20 : decode cX3_isWord 20 = .ok (.invokevirtual 103, 3) := dk_182 0 103 (dk_at dksX3_isWord_0 20 rfl rfl)
theorem dX3_isWord_23 : decode cX3_isWord 23 = .ok (.if_icmp .eq 5, 3) := dk_159 0 5 (dk_at dksX3_isWord_1 0 rfl rfl)
theorem dX3_isWord_26 : decode cX3_isWord 26 = .ok (.iconst 0, 1) := dk_3 (dk_at dksX3_isWord_1 3 rfl rfl)
theorem dX3_isWord_27 : decode cX3_isWord 27 = .ok (.ireturn, 1) := dk_172 (dk_at dksX3_isWord_1 4 rfl rfl)
theorem dX3_isWord_28 : decode cX3_isWord 28 = .ok (.iconst 0, 1) := dk_3 (dk_at dksX3_isWord_1 5 rfl rfl)
theorem dX3_isWord_29 : decode cX3_isWord 29 = .ok (.istore_n 2, 1) := dk_61 (dk_at dksX3_isWord_1 6 rfl rfl)
theorem dX3_isWord_30 : decode cX3_isWord 30 = .ok (.iload_n 2, 1) := dk_28 (dk_at dksX3_isWord_1 7 rfl rfl)
theorem dX3_isWord_31 : decode cX3_isWord 31 = .ok (.aload_n 0, 1) := dk_42 (dk_at dksX3_isWord_1 8 rfl rfl)
theorem dX3_isWord_32 : decode cX3_isWord 32 = .ok (.getfield 85, 3) := dk_180 0 85 (dk_at dksX3_isWord_1 9 rfl rfl)
theorem dX3_isWord_35 : decode cX3_isWord 35 = .ok (.if_icmp .ge 25, 3) := dk_162 0 25 (dk_at dksX3_isWord_1 12 rfl rfl)
theorem dX3_isWord_38 : decode cX3_isWord 38 = .ok (.aload_n 0, 1) := dk_42 (dk_at dksX3_isWord_1 15 rfl rfl)
theorem dX3_isWord_39 : decode cX3_isWord 39 = .ok (.getfield 27, 3) := dk_180 0 27 (dk_at dksX3_isWord_1 16 rfl rfl)
theorem dX3_isWord_42 : decode cX3_isWord 42 = .ok (.iload_n 2, 1) := dk_28 (dk_at dksX3_isWord_1 19 rfl rfl)
theorem dX3_isWord_43 : decode cX3_isWord 43 = .ok (.iaload, 1) := dk_46 (dk_at dksX3_isWord_1 20 rfl rfl)
theorem dX3_isWord_44 : decode cX3_isWord 44 = .ok (.aload_n 1, 1) := dk_43 (dk_at dksX3_isWord_1 21 rfl rfl)
theorem dX3_isWord_45 : decode cX3_isWord 45 = .ok (.iload_n 2, 1) := dk_28 (dk_at dksX3_isWord_1 22 rfl rfl)
theorem dX3_isWord_46 : decode cX3_isWord 46 = .ok (.invokevirtual 109, 3) := dk_182 0 109 (dk_at dksX3_isWord_2 0 rfl rfl)
theorem dX3_isWord_49 : decode cX3_isWord 49 = .ok (.if_icmp .eq 5, 3) := dk_159 0 5 (dk_at dksX3_isWord_2 3 rfl rfl)
theorem dX3_isWord_52 : decode cX3_isWord 52 = .ok (.iconst 0, 1) := dk_3 (dk_at dksX3_isWord_2 6 rfl rfl)
theorem dX3_isWord_53 : decode cX3_isWord 53 = .ok (.ireturn, 1) := dk_172 (dk_at dksX3_isWord_2 7 rfl rfl)
theorem dX3_isWord_54 : decode cX3_isWord 54 = .ok (.iinc 2 1, 3) := dk_132 2 1 (dk_at dksX3_isWord_2 8 rfl rfl)
theorem dX3_isWord_57 : decode cX3_isWord 57 = .ok (.goto (-27), 3) := dk_167 255 229 (dk_at dksX3_isWord_2 11 rfl rfl)
theorem dX3_isWord_60 : decode cX3_isWord 60 = .ok (.iconst 1, 1) := dk_4 (dk_at dksX3_isWord_2 14 rfl rfl)
theorem dX3_isWord_61 : decode cX3_isWord 61 = .ok (.ireturn, 1) := dk_172 (dk_at dksX3_isWord_2 15 rfl rfl)
abbrev cX3_fails : ByteArray := prog_23_method_14_code
def yX3_fails : MethodName := ⟨RX3, "fails", "(I)V"⟩
def dkwX3_fails_0 : List UInt8 := [42, 180, 0, 94, 154, 0, 16, 42, 27, 181, 0, 94, 42, 42, 180, 0, 75, 181, 0, 97, 177]
abbrev dktX3_fails_0 : List UInt8 := dkwX3_fails_0 ++ []
theorem dksX3_fails_0 : cX3_fails.data.toList.drop 0 = dktX3_fails_0 := by decide +kernel
theorem dX3_fails_0 : decode cX3_fails 0 = .ok (.aload_n 0, 1) := dk_42 (dk_at dksX3_fails_0 0 rfl rfl)
theorem dX3_fails_1 : decode cX3_fails 1 = .ok (.getfield 94, 3) := dk_180 0 94 (dk_at dksX3_fails_0 1 rfl rfl)
theorem dX3_fails_4 : decode cX3_fails 4 = .ok (.ifCond .ne 16, 3) := dk_154 0 16 (dk_at dksX3_fails_0 4 rfl rfl)
theorem dX3_fails_7 : decode cX3_fails 7 = .ok (.aload_n 0, 1) := dk_42 (dk_at dksX3_fails_0 7 rfl rfl)
theorem dX3_fails_8 : decode cX3_fails 8 = .ok (.iload_n 1, 1) := dk_27 (dk_at dksX3_fails_0 8 rfl rfl)
theorem dX3_fails_9 : decode cX3_fails 9 = .ok (.putfield 94, 3) := dk_181 0 94 (dk_at dksX3_fails_0 9 rfl rfl)
theorem dX3_fails_12 : decode cX3_fails 12 = .ok (.aload_n 0, 1) := dk_42 (dk_at dksX3_fails_0 12 rfl rfl)
theorem dX3_fails_13 : decode cX3_fails 13 = .ok (.aload_n 0, 1) := dk_42 (dk_at dksX3_fails_0 13 rfl rfl)
theorem dX3_fails_14 : decode cX3_fails 14 = .ok (.getfield 75, 3) := dk_180 0 75 (dk_at dksX3_fails_0 14 rfl rfl)
theorem dX3_fails_17 : decode cX3_fails 17 = .ok (.putfield 97, 3) := dk_181 0 97 (dk_at dksX3_fails_0 17 rfl rfl)
theorem dX3_fails_20 : decode cX3_fails 20 = .ok (.return_, 1) := dk_177 (dk_at dksX3_fails_0 20 rfl rfl)
abbrev cX3_goesOn : ByteArray := prog_23_method_15_code
def yX3_goesOn : MethodName := ⟨RX3, "goesOn", "()V"⟩
def dkwX3_goesOn_0 : List UInt8 := [42, 180, 0, 94, 154, 0, 7, 42, 182, 0, 100, 177]
abbrev dktX3_goesOn_0 : List UInt8 := dkwX3_goesOn_0 ++ []
theorem dksX3_goesOn_0 : cX3_goesOn.data.toList.drop 0 = dktX3_goesOn_0 := by decide +kernel
theorem dX3_goesOn_0 : decode cX3_goesOn 0 = .ok (.aload_n 0, 1) := dk_42 (dk_at dksX3_goesOn_0 0 rfl rfl)
theorem dX3_goesOn_1 : decode cX3_goesOn 1 = .ok (.getfield 94, 3) := dk_180 0 94 (dk_at dksX3_goesOn_0 1 rfl rfl)
theorem dX3_goesOn_4 : decode cX3_goesOn 4 = .ok (.ifCond .ne 7, 3) := dk_154 0 7 (dk_at dksX3_goesOn_0 4 rfl rfl)
theorem dX3_goesOn_7 : decode cX3_goesOn 7 = .ok (.aload_n 0, 1) := dk_42 (dk_at dksX3_goesOn_0 7 rfl rfl)
theorem dX3_goesOn_8 : decode cX3_goesOn 8 = .ok (.invokevirtual 100, 3) := dk_182 0 100 (dk_at dksX3_goesOn_0 8 rfl rfl)
theorem dX3_goesOn_11 : decode cX3_goesOn 11 = .ok (.return_, 1) := dk_177 (dk_at dksX3_goesOn_0 11 rfl rfl)
abbrev cX3_takes : ByteArray := prog_23_method_20_code
def yX3_takes : MethodName := ⟨RX3, "takes", "(Ljava/lang/String;II)I"⟩
def dkwX3_takes_0 : List UInt8 := [42, 43, 182, 0, 132, 42, 28, 29, 182, 0, 136, 172]
abbrev dktX3_takes_0 : List UInt8 := dkwX3_takes_0 ++ []
theorem dksX3_takes_0 : cX3_takes.data.toList.drop 0 = dktX3_takes_0 := by decide +kernel
theorem dX3_takes_0 : decode cX3_takes 0 = .ok (.aload_n 0, 1) := dk_42 (dk_at dksX3_takes_0 0 rfl rfl)
theorem dX3_takes_1 : decode cX3_takes 1 = .ok (.aload_n 1, 1) := dk_43 (dk_at dksX3_takes_0 1 rfl rfl)
theorem dX3_takes_2 : decode cX3_takes 2 = .ok (.invokevirtual 132, 3) := dk_182 0 132 (dk_at dksX3_takes_0 2 rfl rfl)
theorem dX3_takes_5 : decode cX3_takes 5 = .ok (.aload_n 0, 1) := dk_42 (dk_at dksX3_takes_0 5 rfl rfl)
theorem dX3_takes_6 : decode cX3_takes 6 = .ok (.iload_n 2, 1) := dk_28 (dk_at dksX3_takes_0 6 rfl rfl)
theorem dX3_takes_7 : decode cX3_takes 7 = .ok (.iload_n 3, 1) := dk_29 (dk_at dksX3_takes_0 7 rfl rfl)
theorem dX3_takes_8 : decode cX3_takes 8 = .ok (.invokevirtual 136, 3) := dk_182 0 136 (dk_at dksX3_takes_0 8 rfl rfl)
theorem dX3_takes_11 : decode cX3_takes 11 = .ok (.ireturn, 1) := dk_172 (dk_at dksX3_takes_0 11 rfl rfl)
abbrev cX3_takes_2 : ByteArray := prog_23_method_19_code
def yX3_takes_2 : MethodName := ⟨RX3, "takes", "(II)I"⟩
def dkwX3_takes_2_0 : List UInt8 := [42, 27, 28, 182, 0, 128, 62, 42, 182, 0, 121, 29, 172]
abbrev dktX3_takes_2_0 : List UInt8 := dkwX3_takes_2_0 ++ []
theorem dksX3_takes_2_0 : cX3_takes_2.data.toList.drop 0 = dktX3_takes_2_0 := by decide +kernel
theorem dX3_takes_2_0 : decode cX3_takes_2 0 = .ok (.aload_n 0, 1) := dk_42 (dk_at dksX3_takes_2_0 0 rfl rfl)
theorem dX3_takes_2_1 : decode cX3_takes_2 1 = .ok (.iload_n 1, 1) := dk_27 (dk_at dksX3_takes_2_0 1 rfl rfl)
theorem dX3_takes_2_2 : decode cX3_takes_2 2 = .ok (.iload_n 2, 1) := dk_28 (dk_at dksX3_takes_2_0 2 rfl rfl)
theorem dX3_takes_2_3 : decode cX3_takes_2 3 = .ok (.invokevirtual 128, 3) := dk_182 0 128 (dk_at dksX3_takes_2_0 3 rfl rfl)
theorem dX3_takes_2_6 : decode cX3_takes_2 6 = .ok (.istore_n 3, 1) := dk_62 (dk_at dksX3_takes_2_0 6 rfl rfl)
theorem dX3_takes_2_7 : decode cX3_takes_2 7 = .ok (.aload_n 0, 1) := dk_42 (dk_at dksX3_takes_2_0 7 rfl rfl)
theorem dX3_takes_2_8 : decode cX3_takes_2 8 = .ok (.invokevirtual 121, 3) := dk_182 0 121 (dk_at dksX3_takes_2_0 8 rfl rfl)
theorem dX3_takes_2_11 : decode cX3_takes_2 11 = .ok (.iload_n 3, 1) := dk_29 (dk_at dksX3_takes_2_0 11 rfl rfl)
theorem dX3_takes_2_12 : decode cX3_takes_2 12 = .ok (.ireturn, 1) := dk_172 (dk_at dksX3_takes_2_0 12 rfl rfl)
abbrev cX3_numberHere : ByteArray := prog_23_method_18_code
def yX3_numberHere : MethodName := ⟨RX3, "numberHere", "(II)I"⟩
def dkwX3_numberHere_2 : List UInt8 := [180, 0, 91, 172]
abbrev dktX3_numberHere_2 : List UInt8 := dkwX3_numberHere_2 ++ []
def dkwX3_numberHere_1 : List UInt8 := [184, 0, 124, 154, 0, 8, 42, 5, 182, 0, 117, 42, 180, 0, 94, 153, 0, 7, 27, 167, 0, 7, 42]
abbrev dktX3_numberHere_1 : List UInt8 := dkwX3_numberHere_1 ++ dktX3_numberHere_2
def dkwX3_numberHere_0 : List UInt8 := [42, 180, 0, 78, 5, 159, 0, 11, 42, 4, 182, 0, 117, 167, 0, 20, 42, 180, 0, 91, 27, 28]
abbrev dktX3_numberHere_0 : List UInt8 := dkwX3_numberHere_0 ++ dktX3_numberHere_1
theorem dksX3_numberHere_0 : cX3_numberHere.data.toList.drop 0 = dktX3_numberHere_0 := by decide +kernel
theorem dksX3_numberHere_1 : cX3_numberHere.data.toList.drop 22 = dktX3_numberHere_1 := dk_seg dksX3_numberHere_0 22 rfl rfl
theorem dksX3_numberHere_2 : cX3_numberHere.data.toList.drop 45 = dktX3_numberHere_2 := dk_seg dksX3_numberHere_1 23 rfl rfl
theorem dX3_numberHere_0 : decode cX3_numberHere 0 = .ok (.aload_n 0, 1) := dk_42 (dk_at dksX3_numberHere_0 0 rfl rfl)
theorem dX3_numberHere_1 : decode cX3_numberHere 1 = .ok (.getfield 78, 3) := dk_180 0 78 (dk_at dksX3_numberHere_0 1 rfl rfl)
theorem dX3_numberHere_4 : decode cX3_numberHere 4 = .ok (.iconst 2, 1) := dk_5 (dk_at dksX3_numberHere_0 4 rfl rfl)
theorem dX3_numberHere_5 : decode cX3_numberHere 5 = .ok (.if_icmp .eq 11, 3) := dk_159 0 11 (dk_at dksX3_numberHere_0 5 rfl rfl)
theorem dX3_numberHere_8 : decode cX3_numberHere 8 = .ok (.aload_n 0, 1) := dk_42 (dk_at dksX3_numberHere_0 8 rfl rfl)
theorem dX3_numberHere_9 : decode cX3_numberHere 9 = .ok (.iconst 1, 1) := dk_4 (dk_at dksX3_numberHere_0 9 rfl rfl)
theorem dX3_numberHere_10 : decode cX3_numberHere 10 = .ok (.invokevirtual 117, 3) := dk_182 0 117 (dk_at dksX3_numberHere_0 10 rfl rfl)
theorem dX3_numberHere_13 : decode cX3_numberHere 13 = .ok (.goto 20, 3) := dk_167 0 20 (dk_at dksX3_numberHere_0 13 rfl rfl)
theorem dX3_numberHere_16 : decode cX3_numberHere 16 = .ok (.aload_n 0, 1) := dk_42 (dk_at dksX3_numberHere_0 16 rfl rfl)
theorem dX3_numberHere_17 : decode cX3_numberHere 17 = .ok (.getfield 91, 3) := dk_180 0 91 (dk_at dksX3_numberHere_0 17 rfl rfl)
theorem dX3_numberHere_20 : decode cX3_numberHere 20 = .ok (.iload_n 1, 1) := dk_27 (dk_at dksX3_numberHere_0 20 rfl rfl)
theorem dX3_numberHere_21 : decode cX3_numberHere 21 = .ok (.iload_n 2, 1) := dk_28 (dk_at dksX3_numberHere_0 21 rfl rfl)
theorem dX3_numberHere_22 : decode cX3_numberHere 22 = .ok (.invokestatic 124, 3) := dk_184 0 124 (dk_at dksX3_numberHere_1 0 rfl rfl)
theorem dX3_numberHere_25 : decode cX3_numberHere 25 = .ok (.ifCond .ne 8, 3) := dk_154 0 8 (dk_at dksX3_numberHere_1 3 rfl rfl)
theorem dX3_numberHere_28 : decode cX3_numberHere 28 = .ok (.aload_n 0, 1) := dk_42 (dk_at dksX3_numberHere_1 6 rfl rfl)
theorem dX3_numberHere_29 : decode cX3_numberHere 29 = .ok (.iconst 2, 1) := dk_5 (dk_at dksX3_numberHere_1 7 rfl rfl)
theorem dX3_numberHere_30 : decode cX3_numberHere 30 = .ok (.invokevirtual 117, 3) := dk_182 0 117 (dk_at dksX3_numberHere_1 8 rfl rfl)
theorem dX3_numberHere_33 : decode cX3_numberHere 33 = .ok (.aload_n 0, 1) := dk_42 (dk_at dksX3_numberHere_1 11 rfl rfl)
theorem dX3_numberHere_34 : decode cX3_numberHere 34 = .ok (.getfield 94, 3) := dk_180 0 94 (dk_at dksX3_numberHere_1 12 rfl rfl)
theorem dX3_numberHere_37 : decode cX3_numberHere 37 = .ok (.ifCond .eq 7, 3) := dk_153 0 7 (dk_at dksX3_numberHere_1 15 rfl rfl)
theorem dX3_numberHere_40 : decode cX3_numberHere 40 = .ok (.iload_n 1, 1) := dk_27 (dk_at dksX3_numberHere_1 18 rfl rfl)
theorem dX3_numberHere_41 : decode cX3_numberHere 41 = .ok (.goto 7, 3) := dk_167 0 7 (dk_at dksX3_numberHere_1 19 rfl rfl)
theorem dX3_numberHere_44 : decode cX3_numberHere 44 = .ok (.aload_n 0, 1) := dk_42 (dk_at dksX3_numberHere_1 22 rfl rfl)
theorem dX3_numberHere_45 : decode cX3_numberHere 45 = .ok (.getfield 91, 3) := dk_180 0 91 (dk_at dksX3_numberHere_2 0 rfl rfl)
theorem dX3_numberHere_48 : decode cX3_numberHere 48 = .ok (.ireturn, 1) := dk_172 (dk_at dksX3_numberHere_2 3 rfl rfl)
abbrev cX3_riverLine : ByteArray := prog_23_method_22_code
def yX3_riverLine : MethodName := ⟨RX3, "riverLine", "()V"⟩
def dkwX3_riverLine_4 : List UInt8 := [5, 27, 104, 96, 4, 96, 29, 79, 42, 180, 0, 30, 16, 7, 92, 46, 4, 96, 79, 177]
abbrev dktX3_riverLine_4 : List UInt8 := dkwX3_riverLine_4 ++ []
def dkwX3_riverLine_3 : List UInt8 := [180, 0, 94, 154, 0, 40, 42, 180, 0, 30, 16, 10, 5, 27, 104, 96, 28, 79, 42, 180, 0, 30, 16, 10]
abbrev dktX3_riverLine_3 : List UInt8 := dkwX3_riverLine_3 ++ dktX3_riverLine_4
def dkwX3_riverLine_2 : List UInt8 := [182, 0, 117, 132, 3, 1, 167, 255, 228, 42, 182, 0, 121, 42, 4, 16, 30, 182, 0, 136, 62, 42]
abbrev dktX3_riverLine_2 : List UInt8 := dkwX3_riverLine_2 ++ dktX3_riverLine_3
def dkwX3_riverLine_1 : List UInt8 := [62, 29, 27, 162, 0, 29, 42, 180, 0, 30, 16, 10, 5, 29, 104, 96, 46, 28, 160, 0, 8, 42, 6]
abbrev dktX3_riverLine_1 : List UInt8 := dkwX3_riverLine_1 ++ dktX3_riverLine_2
def dkwX3_riverLine_0 : List UInt8 := [42, 180, 0, 30, 16, 7, 46, 60, 42, 16, 7, 6, 182, 0, 154, 42, 4, 16, 99, 182, 0, 128, 61, 3]
abbrev dktX3_riverLine_0 : List UInt8 := dkwX3_riverLine_0 ++ dktX3_riverLine_1
theorem dksX3_riverLine_0 : cX3_riverLine.data.toList.drop 0 = dktX3_riverLine_0 := by decide +kernel
theorem dksX3_riverLine_1 : cX3_riverLine.data.toList.drop 24 = dktX3_riverLine_1 := dk_seg dksX3_riverLine_0 24 rfl rfl
theorem dksX3_riverLine_2 : cX3_riverLine.data.toList.drop 47 = dktX3_riverLine_2 := dk_seg dksX3_riverLine_1 23 rfl rfl
theorem dksX3_riverLine_3 : cX3_riverLine.data.toList.drop 69 = dktX3_riverLine_3 := dk_seg dksX3_riverLine_2 22 rfl rfl
theorem dksX3_riverLine_4 : cX3_riverLine.data.toList.drop 93 = dktX3_riverLine_4 := dk_seg dksX3_riverLine_3 24 rfl rfl
theorem dX3_riverLine_0 : decode cX3_riverLine 0 = .ok (.aload_n 0, 1) := dk_42 (dk_at dksX3_riverLine_0 0 rfl rfl)
theorem dX3_riverLine_1 : decode cX3_riverLine 1 = .ok (.getfield 30, 3) := dk_180 0 30 (dk_at dksX3_riverLine_0 1 rfl rfl)
theorem dX3_riverLine_4 : decode cX3_riverLine 4 = .ok (.bipush 7, 2) := dk_16 7 (dk_at dksX3_riverLine_0 4 rfl rfl)
theorem dX3_riverLine_6 : decode cX3_riverLine 6 = .ok (.iaload, 1) := dk_46 (dk_at dksX3_riverLine_0 6 rfl rfl)
theorem dX3_riverLine_7 : decode cX3_riverLine 7 = .ok (.istore_n 1, 1) := dk_60 (dk_at dksX3_riverLine_0 7 rfl rfl)
theorem dX3_riverLine_8 : decode cX3_riverLine 8 = .ok (.aload_n 0, 1) := dk_42 (dk_at dksX3_riverLine_0 8 rfl rfl)
theorem dX3_riverLine_9 : decode cX3_riverLine 9 = .ok (.bipush 7, 2) := dk_16 7 (dk_at dksX3_riverLine_0 9 rfl rfl)
theorem dX3_riverLine_11 : decode cX3_riverLine 11 = .ok (.iconst 3, 1) := dk_6 (dk_at dksX3_riverLine_0 11 rfl rfl)
theorem dX3_riverLine_12 : decode cX3_riverLine 12 = .ok (.invokevirtual 154, 3) := dk_182 0 154 (dk_at dksX3_riverLine_0 12 rfl rfl)
theorem dX3_riverLine_15 : decode cX3_riverLine 15 = .ok (.aload_n 0, 1) := dk_42 (dk_at dksX3_riverLine_0 15 rfl rfl)
theorem dX3_riverLine_16 : decode cX3_riverLine 16 = .ok (.iconst 1, 1) := dk_4 (dk_at dksX3_riverLine_0 16 rfl rfl)
theorem dX3_riverLine_17 : decode cX3_riverLine 17 = .ok (.bipush 99, 2) := dk_16 99 (dk_at dksX3_riverLine_0 17 rfl rfl)
theorem dX3_riverLine_19 : decode cX3_riverLine 19 = .ok (.invokevirtual 128, 3) := dk_182 0 128 (dk_at dksX3_riverLine_0 19 rfl rfl)
theorem dX3_riverLine_22 : decode cX3_riverLine 22 = .ok (.istore_n 2, 1) := dk_61 (dk_at dksX3_riverLine_0 22 rfl rfl)
theorem dX3_riverLine_23 : decode cX3_riverLine 23 = .ok (.iconst 0, 1) := dk_3 (dk_at dksX3_riverLine_0 23 rfl rfl)
theorem dX3_riverLine_24 : decode cX3_riverLine 24 = .ok (.istore_n 3, 1) := dk_62 (dk_at dksX3_riverLine_1 0 rfl rfl)
theorem dX3_riverLine_25 : decode cX3_riverLine 25 = .ok (.iload_n 3, 1) := dk_29 (dk_at dksX3_riverLine_1 1 rfl rfl)
theorem dX3_riverLine_26 : decode cX3_riverLine 26 = .ok (.iload_n 1, 1) := dk_27 (dk_at dksX3_riverLine_1 2 rfl rfl)
theorem dX3_riverLine_27 : decode cX3_riverLine 27 = .ok (.if_icmp .ge 29, 3) := dk_162 0 29 (dk_at dksX3_riverLine_1 3 rfl rfl)
theorem dX3_riverLine_30 : decode cX3_riverLine 30 = .ok (.aload_n 0, 1) := dk_42 (dk_at dksX3_riverLine_1 6 rfl rfl)
theorem dX3_riverLine_31 : decode cX3_riverLine 31 = .ok (.getfield 30, 3) := dk_180 0 30 (dk_at dksX3_riverLine_1 7 rfl rfl)
theorem dX3_riverLine_34 : decode cX3_riverLine 34 = .ok (.bipush 10, 2) := dk_16 10 (dk_at dksX3_riverLine_1 10 rfl rfl)
theorem dX3_riverLine_36 : decode cX3_riverLine 36 = .ok (.iconst 2, 1) := dk_5 (dk_at dksX3_riverLine_1 12 rfl rfl)
theorem dX3_riverLine_37 : decode cX3_riverLine 37 = .ok (.iload_n 3, 1) := dk_29 (dk_at dksX3_riverLine_1 13 rfl rfl)
theorem dX3_riverLine_38 : decode cX3_riverLine 38 = .ok (.imul, 1) := dk_104 (dk_at dksX3_riverLine_1 14 rfl rfl)
theorem dX3_riverLine_39 : decode cX3_riverLine 39 = .ok (.iadd, 1) := dk_96 (dk_at dksX3_riverLine_1 15 rfl rfl)
theorem dX3_riverLine_40 : decode cX3_riverLine 40 = .ok (.iaload, 1) := dk_46 (dk_at dksX3_riverLine_1 16 rfl rfl)
theorem dX3_riverLine_41 : decode cX3_riverLine 41 = .ok (.iload_n 2, 1) := dk_28 (dk_at dksX3_riverLine_1 17 rfl rfl)
theorem dX3_riverLine_42 : decode cX3_riverLine 42 = .ok (.if_icmp .ne 8, 3) := dk_160 0 8 (dk_at dksX3_riverLine_1 18 rfl rfl)
theorem dX3_riverLine_45 : decode cX3_riverLine 45 = .ok (.aload_n 0, 1) := dk_42 (dk_at dksX3_riverLine_1 21 rfl rfl)
theorem dX3_riverLine_46 : decode cX3_riverLine 46 = .ok (.iconst 3, 1) := dk_6 (dk_at dksX3_riverLine_1 22 rfl rfl)
theorem dX3_riverLine_47 : decode cX3_riverLine 47 = .ok (.invokevirtual 117, 3) := dk_182 0 117 (dk_at dksX3_riverLine_2 0 rfl rfl)
theorem dX3_riverLine_50 : decode cX3_riverLine 50 = .ok (.iinc 3 1, 3) := dk_132 3 1 (dk_at dksX3_riverLine_2 3 rfl rfl)
theorem dX3_riverLine_53 : decode cX3_riverLine 53 = .ok (.goto (-28), 3) := dk_167 255 228 (dk_at dksX3_riverLine_2 6 rfl rfl)
theorem dX3_riverLine_56 : decode cX3_riverLine 56 = .ok (.aload_n 0, 1) := dk_42 (dk_at dksX3_riverLine_2 9 rfl rfl)
theorem dX3_riverLine_57 : decode cX3_riverLine 57 = .ok (.invokevirtual 121, 3) := dk_182 0 121 (dk_at dksX3_riverLine_2 10 rfl rfl)
theorem dX3_riverLine_60 : decode cX3_riverLine 60 = .ok (.aload_n 0, 1) := dk_42 (dk_at dksX3_riverLine_2 13 rfl rfl)
theorem dX3_riverLine_61 : decode cX3_riverLine 61 = .ok (.iconst 1, 1) := dk_4 (dk_at dksX3_riverLine_2 14 rfl rfl)
theorem dX3_riverLine_62 : decode cX3_riverLine 62 = .ok (.bipush 30, 2) := dk_16 30 (dk_at dksX3_riverLine_2 15 rfl rfl)
theorem dX3_riverLine_64 : decode cX3_riverLine 64 = .ok (.invokevirtual 136, 3) := dk_182 0 136 (dk_at dksX3_riverLine_2 17 rfl rfl)
theorem dX3_riverLine_67 : decode cX3_riverLine 67 = .ok (.istore_n 3, 1) := dk_62 (dk_at dksX3_riverLine_2 20 rfl rfl)
theorem dX3_riverLine_68 : decode cX3_riverLine 68 = .ok (.aload_n 0, 1) := dk_42 (dk_at dksX3_riverLine_2 21 rfl rfl)
theorem dX3_riverLine_69 : decode cX3_riverLine 69 = .ok (.getfield 94, 3) := dk_180 0 94 (dk_at dksX3_riverLine_3 0 rfl rfl)
theorem dX3_riverLine_72 : decode cX3_riverLine 72 = .ok (.ifCond .ne 40, 3) := dk_154 0 40 (dk_at dksX3_riverLine_3 3 rfl rfl)
theorem dX3_riverLine_75 : decode cX3_riverLine 75 = .ok (.aload_n 0, 1) := dk_42 (dk_at dksX3_riverLine_3 6 rfl rfl)
theorem dX3_riverLine_76 : decode cX3_riverLine 76 = .ok (.getfield 30, 3) := dk_180 0 30 (dk_at dksX3_riverLine_3 7 rfl rfl)
theorem dX3_riverLine_79 : decode cX3_riverLine 79 = .ok (.bipush 10, 2) := dk_16 10 (dk_at dksX3_riverLine_3 10 rfl rfl)
theorem dX3_riverLine_81 : decode cX3_riverLine 81 = .ok (.iconst 2, 1) := dk_5 (dk_at dksX3_riverLine_3 12 rfl rfl)
theorem dX3_riverLine_82 : decode cX3_riverLine 82 = .ok (.iload_n 1, 1) := dk_27 (dk_at dksX3_riverLine_3 13 rfl rfl)
theorem dX3_riverLine_83 : decode cX3_riverLine 83 = .ok (.imul, 1) := dk_104 (dk_at dksX3_riverLine_3 14 rfl rfl)
theorem dX3_riverLine_84 : decode cX3_riverLine 84 = .ok (.iadd, 1) := dk_96 (dk_at dksX3_riverLine_3 15 rfl rfl)
theorem dX3_riverLine_85 : decode cX3_riverLine 85 = .ok (.iload_n 2, 1) := dk_28 (dk_at dksX3_riverLine_3 16 rfl rfl)
theorem dX3_riverLine_86 : decode cX3_riverLine 86 = .ok (.iastore, 1) := dk_79 (dk_at dksX3_riverLine_3 17 rfl rfl)
theorem dX3_riverLine_87 : decode cX3_riverLine 87 = .ok (.aload_n 0, 1) := dk_42 (dk_at dksX3_riverLine_3 18 rfl rfl)
theorem dX3_riverLine_88 : decode cX3_riverLine 88 = .ok (.getfield 30, 3) := dk_180 0 30 (dk_at dksX3_riverLine_3 19 rfl rfl)
theorem dX3_riverLine_91 : decode cX3_riverLine 91 = .ok (.bipush 10, 2) := dk_16 10 (dk_at dksX3_riverLine_3 22 rfl rfl)
theorem dX3_riverLine_93 : decode cX3_riverLine 93 = .ok (.iconst 2, 1) := dk_5 (dk_at dksX3_riverLine_4 0 rfl rfl)
theorem dX3_riverLine_94 : decode cX3_riverLine 94 = .ok (.iload_n 1, 1) := dk_27 (dk_at dksX3_riverLine_4 1 rfl rfl)
theorem dX3_riverLine_95 : decode cX3_riverLine 95 = .ok (.imul, 1) := dk_104 (dk_at dksX3_riverLine_4 2 rfl rfl)
theorem dX3_riverLine_96 : decode cX3_riverLine 96 = .ok (.iadd, 1) := dk_96 (dk_at dksX3_riverLine_4 3 rfl rfl)
theorem dX3_riverLine_97 : decode cX3_riverLine 97 = .ok (.iconst 1, 1) := dk_4 (dk_at dksX3_riverLine_4 4 rfl rfl)
theorem dX3_riverLine_98 : decode cX3_riverLine 98 = .ok (.iadd, 1) := dk_96 (dk_at dksX3_riverLine_4 5 rfl rfl)
theorem dX3_riverLine_99 : decode cX3_riverLine 99 = .ok (.iload_n 3, 1) := dk_29 (dk_at dksX3_riverLine_4 6 rfl rfl)
theorem dX3_riverLine_100 : decode cX3_riverLine 100 = .ok (.iastore, 1) := dk_79 (dk_at dksX3_riverLine_4 7 rfl rfl)
theorem dX3_riverLine_101 : decode cX3_riverLine 101 = .ok (.aload_n 0, 1) := dk_42 (dk_at dksX3_riverLine_4 8 rfl rfl)
theorem dX3_riverLine_102 : decode cX3_riverLine 102 = .ok (.getfield 30, 3) := dk_180 0 30 (dk_at dksX3_riverLine_4 9 rfl rfl)
theorem dX3_riverLine_105 : decode cX3_riverLine 105 = .ok (.bipush 7, 2) := dk_16 7 (dk_at dksX3_riverLine_4 12 rfl rfl)
theorem dX3_riverLine_107 : decode cX3_riverLine 107 = .ok (.dup2, 1) := dk_92 (dk_at dksX3_riverLine_4 14 rfl rfl)
theorem dX3_riverLine_108 : decode cX3_riverLine 108 = .ok (.iaload, 1) := dk_46 (dk_at dksX3_riverLine_4 15 rfl rfl)
theorem dX3_riverLine_109 : decode cX3_riverLine 109 = .ok (.iconst 1, 1) := dk_4 (dk_at dksX3_riverLine_4 16 rfl rfl)
theorem dX3_riverLine_110 : decode cX3_riverLine 110 = .ok (.iadd, 1) := dk_96 (dk_at dksX3_riverLine_4 17 rfl rfl)
theorem dX3_riverLine_111 : decode cX3_riverLine 111 = .ok (.iastore, 1) := dk_79 (dk_at dksX3_riverLine_4 18 rfl rfl)
theorem dX3_riverLine_112 : decode cX3_riverLine 112 = .ok (.return_, 1) := dk_177 (dk_at dksX3_riverLine_4 19 rfl rfl)
abbrev cX3_begins : ByteArray := prog_23_method_23_code
def yX3_begins : MethodName := ⟨RX3, "begins", "(II)V"⟩
def dkwX3_begins_1 : List UInt8 := [180, 0, 30, 27, 46, 28, 160, 0, 8, 42, 8, 182, 0, 117, 42, 182, 0, 121, 177]
abbrev dktX3_begins_1 : List UInt8 := dkwX3_begins_1 ++ []
def dkwX3_begins_0 : List UInt8 := [27, 16, 9, 159, 0, 18, 42, 180, 0, 30, 16, 9, 46, 158, 0, 8, 42, 7, 182, 0, 117, 42]
abbrev dktX3_begins_0 : List UInt8 := dkwX3_begins_0 ++ dktX3_begins_1
theorem dksX3_begins_0 : cX3_begins.data.toList.drop 0 = dktX3_begins_0 := by decide +kernel
theorem dksX3_begins_1 : cX3_begins.data.toList.drop 22 = dktX3_begins_1 := dk_seg dksX3_begins_0 22 rfl rfl
theorem dX3_begins_0 : decode cX3_begins 0 = .ok (.iload_n 1, 1) := dk_27 (dk_at dksX3_begins_0 0 rfl rfl)
theorem dX3_begins_1 : decode cX3_begins 1 = .ok (.bipush 9, 2) := dk_16 9 (dk_at dksX3_begins_0 1 rfl rfl)
theorem dX3_begins_3 : decode cX3_begins 3 = .ok (.if_icmp .eq 18, 3) := dk_159 0 18 (dk_at dksX3_begins_0 3 rfl rfl)
theorem dX3_begins_6 : decode cX3_begins 6 = .ok (.aload_n 0, 1) := dk_42 (dk_at dksX3_begins_0 6 rfl rfl)
theorem dX3_begins_7 : decode cX3_begins 7 = .ok (.getfield 30, 3) := dk_180 0 30 (dk_at dksX3_begins_0 7 rfl rfl)
theorem dX3_begins_10 : decode cX3_begins 10 = .ok (.bipush 9, 2) := dk_16 9 (dk_at dksX3_begins_0 10 rfl rfl)
theorem dX3_begins_12 : decode cX3_begins 12 = .ok (.iaload, 1) := dk_46 (dk_at dksX3_begins_0 12 rfl rfl)
theorem dX3_begins_13 : decode cX3_begins 13 = .ok (.ifCond .le 8, 3) := dk_158 0 8 (dk_at dksX3_begins_0 13 rfl rfl)
theorem dX3_begins_16 : decode cX3_begins 16 = .ok (.aload_n 0, 1) := dk_42 (dk_at dksX3_begins_0 16 rfl rfl)
theorem dX3_begins_17 : decode cX3_begins 17 = .ok (.iconst 4, 1) := dk_7 (dk_at dksX3_begins_0 17 rfl rfl)
theorem dX3_begins_18 : decode cX3_begins 18 = .ok (.invokevirtual 117, 3) := dk_182 0 117 (dk_at dksX3_begins_0 18 rfl rfl)
theorem dX3_begins_21 : decode cX3_begins 21 = .ok (.aload_n 0, 1) := dk_42 (dk_at dksX3_begins_0 21 rfl rfl)
theorem dX3_begins_22 : decode cX3_begins 22 = .ok (.getfield 30, 3) := dk_180 0 30 (dk_at dksX3_begins_1 0 rfl rfl)
theorem dX3_begins_25 : decode cX3_begins 25 = .ok (.iload_n 1, 1) := dk_27 (dk_at dksX3_begins_1 3 rfl rfl)
theorem dX3_begins_26 : decode cX3_begins 26 = .ok (.iaload, 1) := dk_46 (dk_at dksX3_begins_1 4 rfl rfl)
theorem dX3_begins_27 : decode cX3_begins 27 = .ok (.iload_n 2, 1) := dk_28 (dk_at dksX3_begins_1 5 rfl rfl)
theorem dX3_begins_28 : decode cX3_begins 28 = .ok (.if_icmp .ne 8, 3) := dk_160 0 8 (dk_at dksX3_begins_1 6 rfl rfl)
theorem dX3_begins_31 : decode cX3_begins 31 = .ok (.aload_n 0, 1) := dk_42 (dk_at dksX3_begins_1 9 rfl rfl)
theorem dX3_begins_32 : decode cX3_begins 32 = .ok (.iconst 5, 1) := dk_8 (dk_at dksX3_begins_1 10 rfl rfl)
theorem dX3_begins_33 : decode cX3_begins 33 = .ok (.invokevirtual 117, 3) := dk_182 0 117 (dk_at dksX3_begins_1 11 rfl rfl)
theorem dX3_begins_36 : decode cX3_begins 36 = .ok (.aload_n 0, 1) := dk_42 (dk_at dksX3_begins_1 14 rfl rfl)
theorem dX3_begins_37 : decode cX3_begins 37 = .ok (.invokevirtual 121, 3) := dk_182 0 121 (dk_at dksX3_begins_1 15 rfl rfl)
theorem dX3_begins_40 : decode cX3_begins 40 = .ok (.return_, 1) := dk_177 (dk_at dksX3_begins_1 18 rfl rfl)
abbrev cX3_vanLine : ByteArray := prog_23_method_24_code
def yX3_vanLine : MethodName := ⟨RX3, "vanLine", "()V"⟩
def dkwX3_vanLine_6 : List UInt8 := [79, 42, 180, 0, 30, 21, 7, 8, 96, 21, 6, 79, 42, 180, 0, 30, 16, 8, 92, 46, 4, 96, 79, 177]
abbrev dktX3_vanLine_6 : List UInt8 := dkwX3_vanLine_6 ++ []
def dkwX3_vanLine_5 : List UInt8 := [96, 29, 79, 42, 180, 0, 30, 21, 7, 6, 96, 21, 4, 79, 42, 180, 0, 30, 21, 7, 7, 96, 21, 5]
abbrev dktX3_vanLine_5 : List UInt8 := dkwX3_vanLine_5 ++ dktX3_vanLine_6
def dkwX3_vanLine_4 : List UInt8 := [180, 0, 30, 21, 7, 27, 79, 42, 180, 0, 30, 21, 7, 4, 96, 28, 79, 42, 180, 0, 30, 21, 7, 5]
abbrev dktX3_vanLine_4 : List UInt8 := dkwX3_vanLine_4 ++ dktX3_vanLine_5
def dkwX3_vanLine_3 : List UInt8 := [180, 0, 94, 153, 0, 4, 177, 16, 16, 16, 6, 42, 180, 0, 30, 16, 8, 46, 104, 96, 54, 7, 42]
abbrev dktX3_vanLine_3 : List UInt8 := dkwX3_vanLine_3 ++ dktX3_vanLine_4
def dkwX3_vanLine_2 : List UInt8 := [17, 5, 160, 182, 0, 143, 54, 5, 42, 18, 163, 21, 5, 17, 5, 160, 182, 0, 143, 54, 6, 42]
abbrev dktX3_vanLine_2 : List UInt8 := dkwX3_vanLine_2 ++ dktX3_vanLine_3
def dkwX3_vanLine_1 : List UInt8 := [18, 158, 3, 16, 8, 182, 0, 143, 62, 42, 18, 160, 3, 6, 182, 0, 143, 54, 4, 42, 18, 162, 3]
abbrev dktX3_vanLine_1 : List UInt8 := dkwX3_vanLine_1 ++ dktX3_vanLine_2
def dkwX3_vanLine_0 : List UInt8 := [42, 16, 8, 7, 182, 0, 154, 42, 3, 16, 99, 182, 0, 136, 60, 42, 3, 16, 99, 182, 0, 136, 61, 42]
abbrev dktX3_vanLine_0 : List UInt8 := dkwX3_vanLine_0 ++ dktX3_vanLine_1
theorem dksX3_vanLine_0 : cX3_vanLine.data.toList.drop 0 = dktX3_vanLine_0 := by decide +kernel
theorem dksX3_vanLine_1 : cX3_vanLine.data.toList.drop 24 = dktX3_vanLine_1 := dk_seg dksX3_vanLine_0 24 rfl rfl
theorem dksX3_vanLine_2 : cX3_vanLine.data.toList.drop 47 = dktX3_vanLine_2 := dk_seg dksX3_vanLine_1 23 rfl rfl
theorem dksX3_vanLine_3 : cX3_vanLine.data.toList.drop 69 = dktX3_vanLine_3 := dk_seg dksX3_vanLine_2 22 rfl rfl
theorem dksX3_vanLine_4 : cX3_vanLine.data.toList.drop 92 = dktX3_vanLine_4 := dk_seg dksX3_vanLine_3 23 rfl rfl
theorem dksX3_vanLine_5 : cX3_vanLine.data.toList.drop 116 = dktX3_vanLine_5 := dk_seg dksX3_vanLine_4 24 rfl rfl
theorem dksX3_vanLine_6 : cX3_vanLine.data.toList.drop 140 = dktX3_vanLine_6 := dk_seg dksX3_vanLine_5 24 rfl rfl
theorem dX3_vanLine_0 : decode cX3_vanLine 0 = .ok (.aload_n 0, 1) := dk_42 (dk_at dksX3_vanLine_0 0 rfl rfl)
theorem dX3_vanLine_1 : decode cX3_vanLine 1 = .ok (.bipush 8, 2) := dk_16 8 (dk_at dksX3_vanLine_0 1 rfl rfl)
theorem dX3_vanLine_3 : decode cX3_vanLine 3 = .ok (.iconst 4, 1) := dk_7 (dk_at dksX3_vanLine_0 3 rfl rfl)
theorem dX3_vanLine_4 : decode cX3_vanLine 4 = .ok (.invokevirtual 154, 3) := dk_182 0 154 (dk_at dksX3_vanLine_0 4 rfl rfl)
theorem dX3_vanLine_7 : decode cX3_vanLine 7 = .ok (.aload_n 0, 1) := dk_42 (dk_at dksX3_vanLine_0 7 rfl rfl)
theorem dX3_vanLine_8 : decode cX3_vanLine 8 = .ok (.iconst 0, 1) := dk_3 (dk_at dksX3_vanLine_0 8 rfl rfl)
theorem dX3_vanLine_9 : decode cX3_vanLine 9 = .ok (.bipush 99, 2) := dk_16 99 (dk_at dksX3_vanLine_0 9 rfl rfl)
theorem dX3_vanLine_11 : decode cX3_vanLine 11 = .ok (.invokevirtual 136, 3) := dk_182 0 136 (dk_at dksX3_vanLine_0 11 rfl rfl)
theorem dX3_vanLine_14 : decode cX3_vanLine 14 = .ok (.istore_n 1, 1) := dk_60 (dk_at dksX3_vanLine_0 14 rfl rfl)
theorem dX3_vanLine_15 : decode cX3_vanLine 15 = .ok (.aload_n 0, 1) := dk_42 (dk_at dksX3_vanLine_0 15 rfl rfl)
theorem dX3_vanLine_16 : decode cX3_vanLine 16 = .ok (.iconst 0, 1) := dk_3 (dk_at dksX3_vanLine_0 16 rfl rfl)
theorem dX3_vanLine_17 : decode cX3_vanLine 17 = .ok (.bipush 99, 2) := dk_16 99 (dk_at dksX3_vanLine_0 17 rfl rfl)
theorem dX3_vanLine_19 : decode cX3_vanLine 19 = .ok (.invokevirtual 136, 3) := dk_182 0 136 (dk_at dksX3_vanLine_0 19 rfl rfl)
theorem dX3_vanLine_22 : decode cX3_vanLine 22 = .ok (.istore_n 2, 1) := dk_61 (dk_at dksX3_vanLine_0 22 rfl rfl)
theorem dX3_vanLine_23 : decode cX3_vanLine 23 = .ok (.aload_n 0, 1) := dk_42 (dk_at dksX3_vanLine_0 23 rfl rfl)
theorem dX3_vanLine_24 : decode cX3_vanLine 24 = .ok (.ldc 158, 2) := dk_18 158 (dk_at dksX3_vanLine_1 0 rfl rfl)
theorem dX3_vanLine_26 : decode cX3_vanLine 26 = .ok (.iconst 0, 1) := dk_3 (dk_at dksX3_vanLine_1 2 rfl rfl)
theorem dX3_vanLine_27 : decode cX3_vanLine 27 = .ok (.bipush 8, 2) := dk_16 8 (dk_at dksX3_vanLine_1 3 rfl rfl)
theorem dX3_vanLine_29 : decode cX3_vanLine 29 = .ok (.invokevirtual 143, 3) := dk_182 0 143 (dk_at dksX3_vanLine_1 5 rfl rfl)
theorem dX3_vanLine_32 : decode cX3_vanLine 32 = .ok (.istore_n 3, 1) := dk_62 (dk_at dksX3_vanLine_1 8 rfl rfl)
theorem dX3_vanLine_33 : decode cX3_vanLine 33 = .ok (.aload_n 0, 1) := dk_42 (dk_at dksX3_vanLine_1 9 rfl rfl)
theorem dX3_vanLine_34 : decode cX3_vanLine 34 = .ok (.ldc 160, 2) := dk_18 160 (dk_at dksX3_vanLine_1 10 rfl rfl)
theorem dX3_vanLine_36 : decode cX3_vanLine 36 = .ok (.iconst 0, 1) := dk_3 (dk_at dksX3_vanLine_1 12 rfl rfl)
theorem dX3_vanLine_37 : decode cX3_vanLine 37 = .ok (.iconst 3, 1) := dk_6 (dk_at dksX3_vanLine_1 13 rfl rfl)
theorem dX3_vanLine_38 : decode cX3_vanLine 38 = .ok (.invokevirtual 143, 3) := dk_182 0 143 (dk_at dksX3_vanLine_1 14 rfl rfl)
theorem dX3_vanLine_41 : decode cX3_vanLine 41 = .ok (.istore 4, 2) := dk_54 4 (dk_at dksX3_vanLine_1 17 rfl rfl)
theorem dX3_vanLine_43 : decode cX3_vanLine 43 = .ok (.aload_n 0, 1) := dk_42 (dk_at dksX3_vanLine_1 19 rfl rfl)
theorem dX3_vanLine_44 : decode cX3_vanLine 44 = .ok (.ldc 162, 2) := dk_18 162 (dk_at dksX3_vanLine_1 20 rfl rfl)
theorem dX3_vanLine_46 : decode cX3_vanLine 46 = .ok (.iconst 0, 1) := dk_3 (dk_at dksX3_vanLine_1 22 rfl rfl)
theorem dX3_vanLine_47 : decode cX3_vanLine 47 = .ok (.sipush 1440, 3) := dk_17 5 160 (dk_at dksX3_vanLine_2 0 rfl rfl)
theorem dX3_vanLine_50 : decode cX3_vanLine 50 = .ok (.invokevirtual 143, 3) := dk_182 0 143 (dk_at dksX3_vanLine_2 3 rfl rfl)
theorem dX3_vanLine_53 : decode cX3_vanLine 53 = .ok (.istore 5, 2) := dk_54 5 (dk_at dksX3_vanLine_2 6 rfl rfl)
theorem dX3_vanLine_55 : decode cX3_vanLine 55 = .ok (.aload_n 0, 1) := dk_42 (dk_at dksX3_vanLine_2 8 rfl rfl)
theorem dX3_vanLine_56 : decode cX3_vanLine 56 = .ok (.ldc 163, 2) := dk_18 163 (dk_at dksX3_vanLine_2 9 rfl rfl)
theorem dX3_vanLine_58 : decode cX3_vanLine 58 = .ok (.iload 5, 2) := dk_21 5 (dk_at dksX3_vanLine_2 11 rfl rfl)
theorem dX3_vanLine_60 : decode cX3_vanLine 60 = .ok (.sipush 1440, 3) := dk_17 5 160 (dk_at dksX3_vanLine_2 13 rfl rfl)
theorem dX3_vanLine_63 : decode cX3_vanLine 63 = .ok (.invokevirtual 143, 3) := dk_182 0 143 (dk_at dksX3_vanLine_2 16 rfl rfl)
theorem dX3_vanLine_66 : decode cX3_vanLine 66 = .ok (.istore 6, 2) := dk_54 6 (dk_at dksX3_vanLine_2 19 rfl rfl)
theorem dX3_vanLine_68 : decode cX3_vanLine 68 = .ok (.aload_n 0, 1) := dk_42 (dk_at dksX3_vanLine_2 21 rfl rfl)
theorem dX3_vanLine_69 : decode cX3_vanLine 69 = .ok (.getfield 94, 3) := dk_180 0 94 (dk_at dksX3_vanLine_3 0 rfl rfl)
theorem dX3_vanLine_72 : decode cX3_vanLine 72 = .ok (.ifCond .eq 4, 3) := dk_153 0 4 (dk_at dksX3_vanLine_3 3 rfl rfl)
theorem dX3_vanLine_75 : decode cX3_vanLine 75 = .ok (.return_, 1) := dk_177 (dk_at dksX3_vanLine_3 6 rfl rfl)
theorem dX3_vanLine_76 : decode cX3_vanLine 76 = .ok (.bipush 16, 2) := dk_16 16 (dk_at dksX3_vanLine_3 7 rfl rfl)
theorem dX3_vanLine_78 : decode cX3_vanLine 78 = .ok (.bipush 6, 2) := dk_16 6 (dk_at dksX3_vanLine_3 9 rfl rfl)
theorem dX3_vanLine_80 : decode cX3_vanLine 80 = .ok (.aload_n 0, 1) := dk_42 (dk_at dksX3_vanLine_3 11 rfl rfl)
theorem dX3_vanLine_81 : decode cX3_vanLine 81 = .ok (.getfield 30, 3) := dk_180 0 30 (dk_at dksX3_vanLine_3 12 rfl rfl)
theorem dX3_vanLine_84 : decode cX3_vanLine 84 = .ok (.bipush 8, 2) := dk_16 8 (dk_at dksX3_vanLine_3 15 rfl rfl)
theorem dX3_vanLine_86 : decode cX3_vanLine 86 = .ok (.iaload, 1) := dk_46 (dk_at dksX3_vanLine_3 17 rfl rfl)
theorem dX3_vanLine_87 : decode cX3_vanLine 87 = .ok (.imul, 1) := dk_104 (dk_at dksX3_vanLine_3 18 rfl rfl)
theorem dX3_vanLine_88 : decode cX3_vanLine 88 = .ok (.iadd, 1) := dk_96 (dk_at dksX3_vanLine_3 19 rfl rfl)
theorem dX3_vanLine_89 : decode cX3_vanLine 89 = .ok (.istore 7, 2) := dk_54 7 (dk_at dksX3_vanLine_3 20 rfl rfl)
theorem dX3_vanLine_91 : decode cX3_vanLine 91 = .ok (.aload_n 0, 1) := dk_42 (dk_at dksX3_vanLine_3 22 rfl rfl)
theorem dX3_vanLine_92 : decode cX3_vanLine 92 = .ok (.getfield 30, 3) := dk_180 0 30 (dk_at dksX3_vanLine_4 0 rfl rfl)
theorem dX3_vanLine_95 : decode cX3_vanLine 95 = .ok (.iload 7, 2) := dk_21 7 (dk_at dksX3_vanLine_4 3 rfl rfl)
theorem dX3_vanLine_97 : decode cX3_vanLine 97 = .ok (.iload_n 1, 1) := dk_27 (dk_at dksX3_vanLine_4 5 rfl rfl)
theorem dX3_vanLine_98 : decode cX3_vanLine 98 = .ok (.iastore, 1) := dk_79 (dk_at dksX3_vanLine_4 6 rfl rfl)
theorem dX3_vanLine_99 : decode cX3_vanLine 99 = .ok (.aload_n 0, 1) := dk_42 (dk_at dksX3_vanLine_4 7 rfl rfl)
theorem dX3_vanLine_100 : decode cX3_vanLine 100 = .ok (.getfield 30, 3) := dk_180 0 30 (dk_at dksX3_vanLine_4 8 rfl rfl)
theorem dX3_vanLine_103 : decode cX3_vanLine 103 = .ok (.iload 7, 2) := dk_21 7 (dk_at dksX3_vanLine_4 11 rfl rfl)
theorem dX3_vanLine_105 : decode cX3_vanLine 105 = .ok (.iconst 1, 1) := dk_4 (dk_at dksX3_vanLine_4 13 rfl rfl)
theorem dX3_vanLine_106 : decode cX3_vanLine 106 = .ok (.iadd, 1) := dk_96 (dk_at dksX3_vanLine_4 14 rfl rfl)
theorem dX3_vanLine_107 : decode cX3_vanLine 107 = .ok (.iload_n 2, 1) := dk_28 (dk_at dksX3_vanLine_4 15 rfl rfl)
theorem dX3_vanLine_108 : decode cX3_vanLine 108 = .ok (.iastore, 1) := dk_79 (dk_at dksX3_vanLine_4 16 rfl rfl)
theorem dX3_vanLine_109 : decode cX3_vanLine 109 = .ok (.aload_n 0, 1) := dk_42 (dk_at dksX3_vanLine_4 17 rfl rfl)
theorem dX3_vanLine_110 : decode cX3_vanLine 110 = .ok (.getfield 30, 3) := dk_180 0 30 (dk_at dksX3_vanLine_4 18 rfl rfl)
theorem dX3_vanLine_113 : decode cX3_vanLine 113 = .ok (.iload 7, 2) := dk_21 7 (dk_at dksX3_vanLine_4 21 rfl rfl)
theorem dX3_vanLine_115 : decode cX3_vanLine 115 = .ok (.iconst 2, 1) := dk_5 (dk_at dksX3_vanLine_4 23 rfl rfl)
theorem dX3_vanLine_116 : decode cX3_vanLine 116 = .ok (.iadd, 1) := dk_96 (dk_at dksX3_vanLine_5 0 rfl rfl)
theorem dX3_vanLine_117 : decode cX3_vanLine 117 = .ok (.iload_n 3, 1) := dk_29 (dk_at dksX3_vanLine_5 1 rfl rfl)
theorem dX3_vanLine_118 : decode cX3_vanLine 118 = .ok (.iastore, 1) := dk_79 (dk_at dksX3_vanLine_5 2 rfl rfl)
theorem dX3_vanLine_119 : decode cX3_vanLine 119 = .ok (.aload_n 0, 1) := dk_42 (dk_at dksX3_vanLine_5 3 rfl rfl)
theorem dX3_vanLine_120 : decode cX3_vanLine 120 = .ok (.getfield 30, 3) := dk_180 0 30 (dk_at dksX3_vanLine_5 4 rfl rfl)
theorem dX3_vanLine_123 : decode cX3_vanLine 123 = .ok (.iload 7, 2) := dk_21 7 (dk_at dksX3_vanLine_5 7 rfl rfl)
theorem dX3_vanLine_125 : decode cX3_vanLine 125 = .ok (.iconst 3, 1) := dk_6 (dk_at dksX3_vanLine_5 9 rfl rfl)
theorem dX3_vanLine_126 : decode cX3_vanLine 126 = .ok (.iadd, 1) := dk_96 (dk_at dksX3_vanLine_5 10 rfl rfl)
theorem dX3_vanLine_127 : decode cX3_vanLine 127 = .ok (.iload 4, 2) := dk_21 4 (dk_at dksX3_vanLine_5 11 rfl rfl)
theorem dX3_vanLine_129 : decode cX3_vanLine 129 = .ok (.iastore, 1) := dk_79 (dk_at dksX3_vanLine_5 13 rfl rfl)
theorem dX3_vanLine_130 : decode cX3_vanLine 130 = .ok (.aload_n 0, 1) := dk_42 (dk_at dksX3_vanLine_5 14 rfl rfl)
theorem dX3_vanLine_131 : decode cX3_vanLine 131 = .ok (.getfield 30, 3) := dk_180 0 30 (dk_at dksX3_vanLine_5 15 rfl rfl)
theorem dX3_vanLine_134 : decode cX3_vanLine 134 = .ok (.iload 7, 2) := dk_21 7 (dk_at dksX3_vanLine_5 18 rfl rfl)
theorem dX3_vanLine_136 : decode cX3_vanLine 136 = .ok (.iconst 4, 1) := dk_7 (dk_at dksX3_vanLine_5 20 rfl rfl)
theorem dX3_vanLine_137 : decode cX3_vanLine 137 = .ok (.iadd, 1) := dk_96 (dk_at dksX3_vanLine_5 21 rfl rfl)
theorem dX3_vanLine_138 : decode cX3_vanLine 138 = .ok (.iload 5, 2) := dk_21 5 (dk_at dksX3_vanLine_5 22 rfl rfl)
theorem dX3_vanLine_140 : decode cX3_vanLine 140 = .ok (.iastore, 1) := dk_79 (dk_at dksX3_vanLine_6 0 rfl rfl)
theorem dX3_vanLine_141 : decode cX3_vanLine 141 = .ok (.aload_n 0, 1) := dk_42 (dk_at dksX3_vanLine_6 1 rfl rfl)
theorem dX3_vanLine_142 : decode cX3_vanLine 142 = .ok (.getfield 30, 3) := dk_180 0 30 (dk_at dksX3_vanLine_6 2 rfl rfl)
theorem dX3_vanLine_145 : decode cX3_vanLine 145 = .ok (.iload 7, 2) := dk_21 7 (dk_at dksX3_vanLine_6 5 rfl rfl)
theorem dX3_vanLine_147 : decode cX3_vanLine 147 = .ok (.iconst 5, 1) := dk_8 (dk_at dksX3_vanLine_6 7 rfl rfl)
theorem dX3_vanLine_148 : decode cX3_vanLine 148 = .ok (.iadd, 1) := dk_96 (dk_at dksX3_vanLine_6 8 rfl rfl)
theorem dX3_vanLine_149 : decode cX3_vanLine 149 = .ok (.iload 6, 2) := dk_21 6 (dk_at dksX3_vanLine_6 9 rfl rfl)
theorem dX3_vanLine_151 : decode cX3_vanLine 151 = .ok (.iastore, 1) := dk_79 (dk_at dksX3_vanLine_6 11 rfl rfl)
theorem dX3_vanLine_152 : decode cX3_vanLine 152 = .ok (.aload_n 0, 1) := dk_42 (dk_at dksX3_vanLine_6 12 rfl rfl)
theorem dX3_vanLine_153 : decode cX3_vanLine 153 = .ok (.getfield 30, 3) := dk_180 0 30 (dk_at dksX3_vanLine_6 13 rfl rfl)
theorem dX3_vanLine_156 : decode cX3_vanLine 156 = .ok (.bipush 8, 2) := dk_16 8 (dk_at dksX3_vanLine_6 16 rfl rfl)
theorem dX3_vanLine_158 : decode cX3_vanLine 158 = .ok (.dup2, 1) := dk_92 (dk_at dksX3_vanLine_6 18 rfl rfl)
theorem dX3_vanLine_159 : decode cX3_vanLine 159 = .ok (.iaload, 1) := dk_46 (dk_at dksX3_vanLine_6 19 rfl rfl)
theorem dX3_vanLine_160 : decode cX3_vanLine 160 = .ok (.iconst 1, 1) := dk_4 (dk_at dksX3_vanLine_6 20 rfl rfl)
theorem dX3_vanLine_161 : decode cX3_vanLine 161 = .ok (.iadd, 1) := dk_96 (dk_at dksX3_vanLine_6 21 rfl rfl)
theorem dX3_vanLine_162 : decode cX3_vanLine 162 = .ok (.iastore, 1) := dk_79 (dk_at dksX3_vanLine_6 22 rfl rfl)
theorem dX3_vanLine_163 : decode cX3_vanLine 163 = .ok (.return_, 1) := dk_177 (dk_at dksX3_vanLine_6 23 rfl rfl)
abbrev cX3_callLine : ByteArray := prog_23_method_25_code
def yX3_callLine : MethodName := ⟨RX3, "callLine", "()V"⟩
def dkwX3_callLine_6 : List UInt8 := [79, 42, 180, 0, 30, 16, 9, 92, 46, 4, 96, 79, 177]
abbrev dktX3_callLine_6 : List UInt8 := dkwX3_callLine_6 ++ []
def dkwX3_callLine_5 : List UInt8 := [42, 180, 0, 94, 154, 0, 32, 42, 180, 0, 30, 27, 7, 96, 28, 79, 42, 180, 0, 30, 27, 8, 96, 29]
abbrev dktX3_callLine_5 : List UInt8 := dkwX3_callLine_5 ++ dktX3_callLine_6
def dkwX3_callLine_4 : List UInt8 := [182, 0, 113, 154, 0, 8, 42, 4, 182, 0, 117, 42, 182, 0, 121, 42, 3, 17, 5, 160, 182, 0, 136, 62]
abbrev dktX3_callLine_4 : List UInt8 := dkwX3_callLine_4 ++ dktX3_callLine_5
def dkwX3_callLine_3 : List UInt8 := [42, 18, 167, 182, 0, 113, 153, 0, 7, 4, 167, 0, 4, 5, 61, 28, 5, 160, 0, 17, 42, 18, 169]
abbrev dktX3_callLine_3 : List UInt8 := dkwX3_callLine_3 ++ dktX3_callLine_4
def dkwX3_callLine_2 : List UInt8 := [27, 28, 96, 29, 79, 132, 2, 1, 167, 255, 224, 42, 18, 165, 182, 0, 113, 153, 0, 7, 3, 167, 0, 17]
abbrev dktX3_callLine_2 : List UInt8 := dkwX3_callLine_2 ++ dktX3_callLine_3
def dkwX3_callLine_1 : List UInt8 := [28, 7, 162, 0, 33, 42, 3, 16, 99, 182, 0, 136, 62, 42, 180, 0, 94, 154, 0, 12, 42, 180, 0, 30]
abbrev dktX3_callLine_1 : List UInt8 := dkwX3_callLine_1 ++ dktX3_callLine_2
def dkwX3_callLine_0 : List UInt8 := [42, 16, 9, 16, 24, 182, 0, 154, 16, 40, 16, 6, 42, 180, 0, 30, 16, 9, 46, 104, 96, 60, 3, 61]
abbrev dktX3_callLine_0 : List UInt8 := dkwX3_callLine_0 ++ dktX3_callLine_1
theorem dksX3_callLine_0 : cX3_callLine.data.toList.drop 0 = dktX3_callLine_0 := by decide +kernel
theorem dksX3_callLine_1 : cX3_callLine.data.toList.drop 24 = dktX3_callLine_1 := dk_seg dksX3_callLine_0 24 rfl rfl
theorem dksX3_callLine_2 : cX3_callLine.data.toList.drop 48 = dktX3_callLine_2 := dk_seg dksX3_callLine_1 24 rfl rfl
theorem dksX3_callLine_3 : cX3_callLine.data.toList.drop 72 = dktX3_callLine_3 := dk_seg dksX3_callLine_2 24 rfl rfl
theorem dksX3_callLine_4 : cX3_callLine.data.toList.drop 95 = dktX3_callLine_4 := dk_seg dksX3_callLine_3 23 rfl rfl
theorem dksX3_callLine_5 : cX3_callLine.data.toList.drop 119 = dktX3_callLine_5 := dk_seg dksX3_callLine_4 24 rfl rfl
theorem dksX3_callLine_6 : cX3_callLine.data.toList.drop 143 = dktX3_callLine_6 := dk_seg dksX3_callLine_5 24 rfl rfl
theorem dX3_callLine_0 : decode cX3_callLine 0 = .ok (.aload_n 0, 1) := dk_42 (dk_at dksX3_callLine_0 0 rfl rfl)
theorem dX3_callLine_1 : decode cX3_callLine 1 = .ok (.bipush 9, 2) := dk_16 9 (dk_at dksX3_callLine_0 1 rfl rfl)
theorem dX3_callLine_3 : decode cX3_callLine 3 = .ok (.bipush 24, 2) := dk_16 24 (dk_at dksX3_callLine_0 3 rfl rfl)
theorem dX3_callLine_5 : decode cX3_callLine 5 = .ok (.invokevirtual 154, 3) := dk_182 0 154 (dk_at dksX3_callLine_0 5 rfl rfl)
theorem dX3_callLine_8 : decode cX3_callLine 8 = .ok (.bipush 40, 2) := dk_16 40 (dk_at dksX3_callLine_0 8 rfl rfl)
theorem dX3_callLine_10 : decode cX3_callLine 10 = .ok (.bipush 6, 2) := dk_16 6 (dk_at dksX3_callLine_0 10 rfl rfl)
theorem dX3_callLine_12 : decode cX3_callLine 12 = .ok (.aload_n 0, 1) := dk_42 (dk_at dksX3_callLine_0 12 rfl rfl)
theorem dX3_callLine_13 : decode cX3_callLine 13 = .ok (.getfield 30, 3) := dk_180 0 30 (dk_at dksX3_callLine_0 13 rfl rfl)
theorem dX3_callLine_16 : decode cX3_callLine 16 = .ok (.bipush 9, 2) := dk_16 9 (dk_at dksX3_callLine_0 16 rfl rfl)
theorem dX3_callLine_18 : decode cX3_callLine 18 = .ok (.iaload, 1) := dk_46 (dk_at dksX3_callLine_0 18 rfl rfl)
theorem dX3_callLine_19 : decode cX3_callLine 19 = .ok (.imul, 1) := dk_104 (dk_at dksX3_callLine_0 19 rfl rfl)
theorem dX3_callLine_20 : decode cX3_callLine 20 = .ok (.iadd, 1) := dk_96 (dk_at dksX3_callLine_0 20 rfl rfl)
theorem dX3_callLine_21 : decode cX3_callLine 21 = .ok (.istore_n 1, 1) := dk_60 (dk_at dksX3_callLine_0 21 rfl rfl)
theorem dX3_callLine_22 : decode cX3_callLine 22 = .ok (.iconst 0, 1) := dk_3 (dk_at dksX3_callLine_0 22 rfl rfl)
theorem dX3_callLine_23 : decode cX3_callLine 23 = .ok (.istore_n 2, 1) := dk_61 (dk_at dksX3_callLine_0 23 rfl rfl)
theorem dX3_callLine_24 : decode cX3_callLine 24 = .ok (.iload_n 2, 1) := dk_28 (dk_at dksX3_callLine_1 0 rfl rfl)
theorem dX3_callLine_25 : decode cX3_callLine 25 = .ok (.iconst 4, 1) := dk_7 (dk_at dksX3_callLine_1 1 rfl rfl)
theorem dX3_callLine_26 : decode cX3_callLine 26 = .ok (.if_icmp .ge 33, 3) := dk_162 0 33 (dk_at dksX3_callLine_1 2 rfl rfl)
theorem dX3_callLine_29 : decode cX3_callLine 29 = .ok (.aload_n 0, 1) := dk_42 (dk_at dksX3_callLine_1 5 rfl rfl)
theorem dX3_callLine_30 : decode cX3_callLine 30 = .ok (.iconst 0, 1) := dk_3 (dk_at dksX3_callLine_1 6 rfl rfl)
theorem dX3_callLine_31 : decode cX3_callLine 31 = .ok (.bipush 99, 2) := dk_16 99 (dk_at dksX3_callLine_1 7 rfl rfl)
theorem dX3_callLine_33 : decode cX3_callLine 33 = .ok (.invokevirtual 136, 3) := dk_182 0 136 (dk_at dksX3_callLine_1 9 rfl rfl)
theorem dX3_callLine_36 : decode cX3_callLine 36 = .ok (.istore_n 3, 1) := dk_62 (dk_at dksX3_callLine_1 12 rfl rfl)
theorem dX3_callLine_37 : decode cX3_callLine 37 = .ok (.aload_n 0, 1) := dk_42 (dk_at dksX3_callLine_1 13 rfl rfl)
theorem dX3_callLine_38 : decode cX3_callLine 38 = .ok (.getfield 94, 3) := dk_180 0 94 (dk_at dksX3_callLine_1 14 rfl rfl)
theorem dX3_callLine_41 : decode cX3_callLine 41 = .ok (.ifCond .ne 12, 3) := dk_154 0 12 (dk_at dksX3_callLine_1 17 rfl rfl)
theorem dX3_callLine_44 : decode cX3_callLine 44 = .ok (.aload_n 0, 1) := dk_42 (dk_at dksX3_callLine_1 20 rfl rfl)
theorem dX3_callLine_45 : decode cX3_callLine 45 = .ok (.getfield 30, 3) := dk_180 0 30 (dk_at dksX3_callLine_1 21 rfl rfl)
theorem dX3_callLine_48 : decode cX3_callLine 48 = .ok (.iload_n 1, 1) := dk_27 (dk_at dksX3_callLine_2 0 rfl rfl)
theorem dX3_callLine_49 : decode cX3_callLine 49 = .ok (.iload_n 2, 1) := dk_28 (dk_at dksX3_callLine_2 1 rfl rfl)
theorem dX3_callLine_50 : decode cX3_callLine 50 = .ok (.iadd, 1) := dk_96 (dk_at dksX3_callLine_2 2 rfl rfl)
theorem dX3_callLine_51 : decode cX3_callLine 51 = .ok (.iload_n 3, 1) := dk_29 (dk_at dksX3_callLine_2 3 rfl rfl)
theorem dX3_callLine_52 : decode cX3_callLine 52 = .ok (.iastore, 1) := dk_79 (dk_at dksX3_callLine_2 4 rfl rfl)
theorem dX3_callLine_53 : decode cX3_callLine 53 = .ok (.iinc 2 1, 3) := dk_132 2 1 (dk_at dksX3_callLine_2 5 rfl rfl)
theorem dX3_callLine_56 : decode cX3_callLine 56 = .ok (.goto (-32), 3) := dk_167 255 224 (dk_at dksX3_callLine_2 8 rfl rfl)
theorem dX3_callLine_59 : decode cX3_callLine 59 = .ok (.aload_n 0, 1) := dk_42 (dk_at dksX3_callLine_2 11 rfl rfl)
theorem dX3_callLine_60 : decode cX3_callLine 60 = .ok (.ldc 165, 2) := dk_18 165 (dk_at dksX3_callLine_2 12 rfl rfl)
theorem dX3_callLine_62 : decode cX3_callLine 62 = .ok (.invokevirtual 113, 3) := dk_182 0 113 (dk_at dksX3_callLine_2 14 rfl rfl)
theorem dX3_callLine_65 : decode cX3_callLine 65 = .ok (.ifCond .eq 7, 3) := dk_153 0 7 (dk_at dksX3_callLine_2 17 rfl rfl)
theorem dX3_callLine_68 : decode cX3_callLine 68 = .ok (.iconst 0, 1) := dk_3 (dk_at dksX3_callLine_2 20 rfl rfl)
theorem dX3_callLine_69 : decode cX3_callLine 69 = .ok (.goto 17, 3) := dk_167 0 17 (dk_at dksX3_callLine_2 21 rfl rfl)
theorem dX3_callLine_72 : decode cX3_callLine 72 = .ok (.aload_n 0, 1) := dk_42 (dk_at dksX3_callLine_3 0 rfl rfl)
theorem dX3_callLine_73 : decode cX3_callLine 73 = .ok (.ldc 167, 2) := dk_18 167 (dk_at dksX3_callLine_3 1 rfl rfl)
theorem dX3_callLine_75 : decode cX3_callLine 75 = .ok (.invokevirtual 113, 3) := dk_182 0 113 (dk_at dksX3_callLine_3 3 rfl rfl)
theorem dX3_callLine_78 : decode cX3_callLine 78 = .ok (.ifCond .eq 7, 3) := dk_153 0 7 (dk_at dksX3_callLine_3 6 rfl rfl)
theorem dX3_callLine_81 : decode cX3_callLine 81 = .ok (.iconst 1, 1) := dk_4 (dk_at dksX3_callLine_3 9 rfl rfl)
theorem dX3_callLine_82 : decode cX3_callLine 82 = .ok (.goto 4, 3) := dk_167 0 4 (dk_at dksX3_callLine_3 10 rfl rfl)
theorem dX3_callLine_85 : decode cX3_callLine 85 = .ok (.iconst 2, 1) := dk_5 (dk_at dksX3_callLine_3 13 rfl rfl)
theorem dX3_callLine_86 : decode cX3_callLine 86 = .ok (.istore_n 2, 1) := dk_61 (dk_at dksX3_callLine_3 14 rfl rfl)
theorem dX3_callLine_87 : decode cX3_callLine 87 = .ok (.iload_n 2, 1) := dk_28 (dk_at dksX3_callLine_3 15 rfl rfl)
theorem dX3_callLine_88 : decode cX3_callLine 88 = .ok (.iconst 2, 1) := dk_5 (dk_at dksX3_callLine_3 16 rfl rfl)
theorem dX3_callLine_89 : decode cX3_callLine 89 = .ok (.if_icmp .ne 17, 3) := dk_160 0 17 (dk_at dksX3_callLine_3 17 rfl rfl)
theorem dX3_callLine_92 : decode cX3_callLine 92 = .ok (.aload_n 0, 1) := dk_42 (dk_at dksX3_callLine_3 20 rfl rfl)
theorem dX3_callLine_93 : decode cX3_callLine 93 = .ok (.ldc 169, 2) := dk_18 169 (dk_at dksX3_callLine_3 21 rfl rfl)
theorem dX3_callLine_95 : decode cX3_callLine 95 = .ok (.invokevirtual 113, 3) := dk_182 0 113 (dk_at dksX3_callLine_4 0 rfl rfl)
theorem dX3_callLine_98 : decode cX3_callLine 98 = .ok (.ifCond .ne 8, 3) := dk_154 0 8 (dk_at dksX3_callLine_4 3 rfl rfl)
theorem dX3_callLine_101 : decode cX3_callLine 101 = .ok (.aload_n 0, 1) := dk_42 (dk_at dksX3_callLine_4 6 rfl rfl)
theorem dX3_callLine_102 : decode cX3_callLine 102 = .ok (.iconst 1, 1) := dk_4 (dk_at dksX3_callLine_4 7 rfl rfl)
theorem dX3_callLine_103 : decode cX3_callLine 103 = .ok (.invokevirtual 117, 3) := dk_182 0 117 (dk_at dksX3_callLine_4 8 rfl rfl)
theorem dX3_callLine_106 : decode cX3_callLine 106 = .ok (.aload_n 0, 1) := dk_42 (dk_at dksX3_callLine_4 11 rfl rfl)
theorem dX3_callLine_107 : decode cX3_callLine 107 = .ok (.invokevirtual 121, 3) := dk_182 0 121 (dk_at dksX3_callLine_4 12 rfl rfl)
theorem dX3_callLine_110 : decode cX3_callLine 110 = .ok (.aload_n 0, 1) := dk_42 (dk_at dksX3_callLine_4 15 rfl rfl)
theorem dX3_callLine_111 : decode cX3_callLine 111 = .ok (.iconst 0, 1) := dk_3 (dk_at dksX3_callLine_4 16 rfl rfl)
theorem dX3_callLine_112 : decode cX3_callLine 112 = .ok (.sipush 1440, 3) := dk_17 5 160 (dk_at dksX3_callLine_4 17 rfl rfl)
theorem dX3_callLine_115 : decode cX3_callLine 115 = .ok (.invokevirtual 136, 3) := dk_182 0 136 (dk_at dksX3_callLine_4 20 rfl rfl)
theorem dX3_callLine_118 : decode cX3_callLine 118 = .ok (.istore_n 3, 1) := dk_62 (dk_at dksX3_callLine_4 23 rfl rfl)
theorem dX3_callLine_119 : decode cX3_callLine 119 = .ok (.aload_n 0, 1) := dk_42 (dk_at dksX3_callLine_5 0 rfl rfl)
theorem dX3_callLine_120 : decode cX3_callLine 120 = .ok (.getfield 94, 3) := dk_180 0 94 (dk_at dksX3_callLine_5 1 rfl rfl)
theorem dX3_callLine_123 : decode cX3_callLine 123 = .ok (.ifCond .ne 32, 3) := dk_154 0 32 (dk_at dksX3_callLine_5 4 rfl rfl)
theorem dX3_callLine_126 : decode cX3_callLine 126 = .ok (.aload_n 0, 1) := dk_42 (dk_at dksX3_callLine_5 7 rfl rfl)
theorem dX3_callLine_127 : decode cX3_callLine 127 = .ok (.getfield 30, 3) := dk_180 0 30 (dk_at dksX3_callLine_5 8 rfl rfl)
theorem dX3_callLine_130 : decode cX3_callLine 130 = .ok (.iload_n 1, 1) := dk_27 (dk_at dksX3_callLine_5 11 rfl rfl)
theorem dX3_callLine_131 : decode cX3_callLine 131 = .ok (.iconst 4, 1) := dk_7 (dk_at dksX3_callLine_5 12 rfl rfl)
theorem dX3_callLine_132 : decode cX3_callLine 132 = .ok (.iadd, 1) := dk_96 (dk_at dksX3_callLine_5 13 rfl rfl)
theorem dX3_callLine_133 : decode cX3_callLine 133 = .ok (.iload_n 2, 1) := dk_28 (dk_at dksX3_callLine_5 14 rfl rfl)
theorem dX3_callLine_134 : decode cX3_callLine 134 = .ok (.iastore, 1) := dk_79 (dk_at dksX3_callLine_5 15 rfl rfl)
theorem dX3_callLine_135 : decode cX3_callLine 135 = .ok (.aload_n 0, 1) := dk_42 (dk_at dksX3_callLine_5 16 rfl rfl)
theorem dX3_callLine_136 : decode cX3_callLine 136 = .ok (.getfield 30, 3) := dk_180 0 30 (dk_at dksX3_callLine_5 17 rfl rfl)
theorem dX3_callLine_139 : decode cX3_callLine 139 = .ok (.iload_n 1, 1) := dk_27 (dk_at dksX3_callLine_5 20 rfl rfl)
theorem dX3_callLine_140 : decode cX3_callLine 140 = .ok (.iconst 5, 1) := dk_8 (dk_at dksX3_callLine_5 21 rfl rfl)
theorem dX3_callLine_141 : decode cX3_callLine 141 = .ok (.iadd, 1) := dk_96 (dk_at dksX3_callLine_5 22 rfl rfl)
theorem dX3_callLine_142 : decode cX3_callLine 142 = .ok (.iload_n 3, 1) := dk_29 (dk_at dksX3_callLine_5 23 rfl rfl)
theorem dX3_callLine_143 : decode cX3_callLine 143 = .ok (.iastore, 1) := dk_79 (dk_at dksX3_callLine_6 0 rfl rfl)
theorem dX3_callLine_144 : decode cX3_callLine 144 = .ok (.aload_n 0, 1) := dk_42 (dk_at dksX3_callLine_6 1 rfl rfl)
theorem dX3_callLine_145 : decode cX3_callLine 145 = .ok (.getfield 30, 3) := dk_180 0 30 (dk_at dksX3_callLine_6 2 rfl rfl)
theorem dX3_callLine_148 : decode cX3_callLine 148 = .ok (.bipush 9, 2) := dk_16 9 (dk_at dksX3_callLine_6 5 rfl rfl)
theorem dX3_callLine_150 : decode cX3_callLine 150 = .ok (.dup2, 1) := dk_92 (dk_at dksX3_callLine_6 7 rfl rfl)
theorem dX3_callLine_151 : decode cX3_callLine 151 = .ok (.iaload, 1) := dk_46 (dk_at dksX3_callLine_6 8 rfl rfl)
theorem dX3_callLine_152 : decode cX3_callLine 152 = .ok (.iconst 1, 1) := dk_4 (dk_at dksX3_callLine_6 9 rfl rfl)
theorem dX3_callLine_153 : decode cX3_callLine 153 = .ok (.iadd, 1) := dk_96 (dk_at dksX3_callLine_6 10 rfl rfl)
theorem dX3_callLine_154 : decode cX3_callLine 154 = .ok (.iastore, 1) := dk_79 (dk_at dksX3_callLine_6 11 rfl rfl)
theorem dX3_callLine_155 : decode cX3_callLine 155 = .ok (.return_, 1) := dk_177 (dk_at dksX3_callLine_6 12 rfl rfl)
abbrev cX3_van : ByteArray := prog_23_method_28_code
def yX3_van : MethodName := ⟨RX3, "van", "(II)I"⟩
def dkwX3_van_0 : List UInt8 := [42, 180, 0, 33, 16, 16, 16, 6, 27, 104, 96, 28, 96, 46, 172]
abbrev dktX3_van_0 : List UInt8 := dkwX3_van_0 ++ []
theorem dksX3_van_0 : cX3_van.data.toList.drop 0 = dktX3_van_0 := by decide +kernel
theorem dX3_van_0 : decode cX3_van 0 = .ok (.aload_n 0, 1) := dk_42 (dk_at dksX3_van_0 0 rfl rfl)
theorem dX3_van_1 : decode cX3_van 1 = .ok (.getfield 33, 3) := dk_180 0 33 (dk_at dksX3_van_0 1 rfl rfl)
theorem dX3_van_4 : decode cX3_van 4 = .ok (.bipush 16, 2) := dk_16 16 (dk_at dksX3_van_0 4 rfl rfl)
theorem dX3_van_6 : decode cX3_van 6 = .ok (.bipush 6, 2) := dk_16 6 (dk_at dksX3_van_0 6 rfl rfl)
theorem dX3_van_8 : decode cX3_van 8 = .ok (.iload_n 1, 1) := dk_27 (dk_at dksX3_van_0 8 rfl rfl)
theorem dX3_van_9 : decode cX3_van 9 = .ok (.imul, 1) := dk_104 (dk_at dksX3_van_0 9 rfl rfl)
theorem dX3_van_10 : decode cX3_van 10 = .ok (.iadd, 1) := dk_96 (dk_at dksX3_van_0 10 rfl rfl)
theorem dX3_van_11 : decode cX3_van 11 = .ok (.iload_n 2, 1) := dk_28 (dk_at dksX3_van_0 11 rfl rfl)
theorem dX3_van_12 : decode cX3_van 12 = .ok (.iadd, 1) := dk_96 (dk_at dksX3_van_0 12 rfl rfl)
theorem dX3_van_13 : decode cX3_van 13 = .ok (.iaload, 1) := dk_46 (dk_at dksX3_van_0 13 rfl rfl)
theorem dX3_van_14 : decode cX3_van 14 = .ok (.ireturn, 1) := dk_172 (dk_at dksX3_van_0 14 rfl rfl)
abbrev cX3_comes : ByteArray := prog_23_method_67_code
def yX3_comes : MethodName := ⟨RX3, "comes", "(IIIIII)V"⟩
def dkwX3_comes_5 : List UInt8 := [182, 0, 213, 182, 1, 78, 167, 0, 12, 42, 21, 7, 16, 6, 3, 182, 1, 78, 177]
abbrev dktX3_comes_5 : List UInt8 := dkwX3_comes_5 ++ []
def dkwX3_comes_4 : List UInt8 := [79, 42, 21, 7, 182, 1, 81, 153, 0, 26, 42, 21, 7, 16, 7, 42, 42, 180, 1, 54, 42, 180, 1, 63]
abbrev dktX3_comes_4 : List UInt8 := dkwX3_comes_4 ++ dktX3_comes_5
def dkwX3_comes_3 : List UInt8 := [16, 7, 2, 182, 1, 78, 42, 21, 7, 16, 8, 3, 182, 1, 78, 42, 180, 0, 7, 4, 92, 46, 4, 96]
abbrev dktX3_comes_3 : List UInt8 := dkwX3_comes_3 ++ dktX3_comes_4
def dkwX3_comes_2 : List UInt8 := [182, 1, 78, 42, 21, 7, 8, 21, 6, 182, 1, 78, 42, 21, 7, 16, 6, 4, 182, 1, 78, 42, 21, 7]
abbrev dktX3_comes_2 : List UInt8 := dkwX3_comes_2 ++ dktX3_comes_3
def dkwX3_comes_1 : List UInt8 := [42, 21, 7, 5, 29, 182, 1, 78, 42, 21, 7, 6, 21, 4, 182, 1, 78, 42, 21, 7, 7, 21, 5]
abbrev dktX3_comes_1 : List UInt8 := dkwX3_comes_1 ++ dktX3_comes_2
def dkwX3_comes_0 : List UInt8 := [42, 180, 0, 7, 4, 46, 54, 7, 42, 21, 7, 3, 27, 182, 1, 78, 42, 21, 7, 4, 28, 182, 1, 78]
abbrev dktX3_comes_0 : List UInt8 := dkwX3_comes_0 ++ dktX3_comes_1
theorem dksX3_comes_0 : cX3_comes.data.toList.drop 0 = dktX3_comes_0 := by decide +kernel
theorem dksX3_comes_1 : cX3_comes.data.toList.drop 24 = dktX3_comes_1 := dk_seg dksX3_comes_0 24 rfl rfl
theorem dksX3_comes_2 : cX3_comes.data.toList.drop 47 = dktX3_comes_2 := dk_seg dksX3_comes_1 23 rfl rfl
theorem dksX3_comes_3 : cX3_comes.data.toList.drop 71 = dktX3_comes_3 := dk_seg dksX3_comes_2 24 rfl rfl
theorem dksX3_comes_4 : cX3_comes.data.toList.drop 95 = dktX3_comes_4 := dk_seg dksX3_comes_3 24 rfl rfl
theorem dksX3_comes_5 : cX3_comes.data.toList.drop 119 = dktX3_comes_5 := dk_seg dksX3_comes_4 24 rfl rfl
theorem dX3_comes_0 : decode cX3_comes 0 = .ok (.aload_n 0, 1) := dk_42 (dk_at dksX3_comes_0 0 rfl rfl)
theorem dX3_comes_1 : decode cX3_comes 1 = .ok (.getfield 7, 3) := dk_180 0 7 (dk_at dksX3_comes_0 1 rfl rfl)
theorem dX3_comes_4 : decode cX3_comes 4 = .ok (.iconst 1, 1) := dk_4 (dk_at dksX3_comes_0 4 rfl rfl)
theorem dX3_comes_5 : decode cX3_comes 5 = .ok (.iaload, 1) := dk_46 (dk_at dksX3_comes_0 5 rfl rfl)
theorem dX3_comes_6 : decode cX3_comes 6 = .ok (.istore 7, 2) := dk_54 7 (dk_at dksX3_comes_0 6 rfl rfl)
theorem dX3_comes_8 : decode cX3_comes 8 = .ok (.aload_n 0, 1) := dk_42 (dk_at dksX3_comes_0 8 rfl rfl)
theorem dX3_comes_9 : decode cX3_comes 9 = .ok (.iload 7, 2) := dk_21 7 (dk_at dksX3_comes_0 9 rfl rfl)
theorem dX3_comes_11 : decode cX3_comes 11 = .ok (.iconst 0, 1) := dk_3 (dk_at dksX3_comes_0 11 rfl rfl)
theorem dX3_comes_12 : decode cX3_comes 12 = .ok (.iload_n 1, 1) := dk_27 (dk_at dksX3_comes_0 12 rfl rfl)
theorem dX3_comes_13 : decode cX3_comes 13 = .ok (.invokevirtual 334, 3) := dk_182 1 78 (dk_at dksX3_comes_0 13 rfl rfl)
theorem dX3_comes_16 : decode cX3_comes 16 = .ok (.aload_n 0, 1) := dk_42 (dk_at dksX3_comes_0 16 rfl rfl)
theorem dX3_comes_17 : decode cX3_comes 17 = .ok (.iload 7, 2) := dk_21 7 (dk_at dksX3_comes_0 17 rfl rfl)
theorem dX3_comes_19 : decode cX3_comes 19 = .ok (.iconst 1, 1) := dk_4 (dk_at dksX3_comes_0 19 rfl rfl)
theorem dX3_comes_20 : decode cX3_comes 20 = .ok (.iload_n 2, 1) := dk_28 (dk_at dksX3_comes_0 20 rfl rfl)
theorem dX3_comes_21 : decode cX3_comes 21 = .ok (.invokevirtual 334, 3) := dk_182 1 78 (dk_at dksX3_comes_0 21 rfl rfl)
theorem dX3_comes_24 : decode cX3_comes 24 = .ok (.aload_n 0, 1) := dk_42 (dk_at dksX3_comes_1 0 rfl rfl)
theorem dX3_comes_25 : decode cX3_comes 25 = .ok (.iload 7, 2) := dk_21 7 (dk_at dksX3_comes_1 1 rfl rfl)
theorem dX3_comes_27 : decode cX3_comes 27 = .ok (.iconst 2, 1) := dk_5 (dk_at dksX3_comes_1 3 rfl rfl)
theorem dX3_comes_28 : decode cX3_comes 28 = .ok (.iload_n 3, 1) := dk_29 (dk_at dksX3_comes_1 4 rfl rfl)
theorem dX3_comes_29 : decode cX3_comes 29 = .ok (.invokevirtual 334, 3) := dk_182 1 78 (dk_at dksX3_comes_1 5 rfl rfl)
theorem dX3_comes_32 : decode cX3_comes 32 = .ok (.aload_n 0, 1) := dk_42 (dk_at dksX3_comes_1 8 rfl rfl)
theorem dX3_comes_33 : decode cX3_comes 33 = .ok (.iload 7, 2) := dk_21 7 (dk_at dksX3_comes_1 9 rfl rfl)
theorem dX3_comes_35 : decode cX3_comes 35 = .ok (.iconst 3, 1) := dk_6 (dk_at dksX3_comes_1 11 rfl rfl)
theorem dX3_comes_36 : decode cX3_comes 36 = .ok (.iload 4, 2) := dk_21 4 (dk_at dksX3_comes_1 12 rfl rfl)
theorem dX3_comes_38 : decode cX3_comes 38 = .ok (.invokevirtual 334, 3) := dk_182 1 78 (dk_at dksX3_comes_1 14 rfl rfl)
theorem dX3_comes_41 : decode cX3_comes 41 = .ok (.aload_n 0, 1) := dk_42 (dk_at dksX3_comes_1 17 rfl rfl)
theorem dX3_comes_42 : decode cX3_comes 42 = .ok (.iload 7, 2) := dk_21 7 (dk_at dksX3_comes_1 18 rfl rfl)
theorem dX3_comes_44 : decode cX3_comes 44 = .ok (.iconst 4, 1) := dk_7 (dk_at dksX3_comes_1 20 rfl rfl)
theorem dX3_comes_45 : decode cX3_comes 45 = .ok (.iload 5, 2) := dk_21 5 (dk_at dksX3_comes_1 21 rfl rfl)
theorem dX3_comes_47 : decode cX3_comes 47 = .ok (.invokevirtual 334, 3) := dk_182 1 78 (dk_at dksX3_comes_2 0 rfl rfl)
theorem dX3_comes_50 : decode cX3_comes 50 = .ok (.aload_n 0, 1) := dk_42 (dk_at dksX3_comes_2 3 rfl rfl)
theorem dX3_comes_51 : decode cX3_comes 51 = .ok (.iload 7, 2) := dk_21 7 (dk_at dksX3_comes_2 4 rfl rfl)
theorem dX3_comes_53 : decode cX3_comes 53 = .ok (.iconst 5, 1) := dk_8 (dk_at dksX3_comes_2 6 rfl rfl)
theorem dX3_comes_54 : decode cX3_comes 54 = .ok (.iload 6, 2) := dk_21 6 (dk_at dksX3_comes_2 7 rfl rfl)
theorem dX3_comes_56 : decode cX3_comes 56 = .ok (.invokevirtual 334, 3) := dk_182 1 78 (dk_at dksX3_comes_2 9 rfl rfl)
theorem dX3_comes_59 : decode cX3_comes 59 = .ok (.aload_n 0, 1) := dk_42 (dk_at dksX3_comes_2 12 rfl rfl)
theorem dX3_comes_60 : decode cX3_comes 60 = .ok (.iload 7, 2) := dk_21 7 (dk_at dksX3_comes_2 13 rfl rfl)
theorem dX3_comes_62 : decode cX3_comes 62 = .ok (.bipush 6, 2) := dk_16 6 (dk_at dksX3_comes_2 15 rfl rfl)
theorem dX3_comes_64 : decode cX3_comes 64 = .ok (.iconst 1, 1) := dk_4 (dk_at dksX3_comes_2 17 rfl rfl)
theorem dX3_comes_65 : decode cX3_comes 65 = .ok (.invokevirtual 334, 3) := dk_182 1 78 (dk_at dksX3_comes_2 18 rfl rfl)
theorem dX3_comes_68 : decode cX3_comes 68 = .ok (.aload_n 0, 1) := dk_42 (dk_at dksX3_comes_2 21 rfl rfl)
theorem dX3_comes_69 : decode cX3_comes 69 = .ok (.iload 7, 2) := dk_21 7 (dk_at dksX3_comes_2 22 rfl rfl)
theorem dX3_comes_71 : decode cX3_comes 71 = .ok (.bipush 7, 2) := dk_16 7 (dk_at dksX3_comes_3 0 rfl rfl)
theorem dX3_comes_73 : decode cX3_comes 73 = .ok (.iconst (-1), 1) := dk_2 (dk_at dksX3_comes_3 2 rfl rfl)
theorem dX3_comes_74 : decode cX3_comes 74 = .ok (.invokevirtual 334, 3) := dk_182 1 78 (dk_at dksX3_comes_3 3 rfl rfl)
theorem dX3_comes_77 : decode cX3_comes 77 = .ok (.aload_n 0, 1) := dk_42 (dk_at dksX3_comes_3 6 rfl rfl)
theorem dX3_comes_78 : decode cX3_comes 78 = .ok (.iload 7, 2) := dk_21 7 (dk_at dksX3_comes_3 7 rfl rfl)
theorem dX3_comes_80 : decode cX3_comes 80 = .ok (.bipush 8, 2) := dk_16 8 (dk_at dksX3_comes_3 9 rfl rfl)
theorem dX3_comes_82 : decode cX3_comes 82 = .ok (.iconst 0, 1) := dk_3 (dk_at dksX3_comes_3 11 rfl rfl)
theorem dX3_comes_83 : decode cX3_comes 83 = .ok (.invokevirtual 334, 3) := dk_182 1 78 (dk_at dksX3_comes_3 12 rfl rfl)
theorem dX3_comes_86 : decode cX3_comes 86 = .ok (.aload_n 0, 1) := dk_42 (dk_at dksX3_comes_3 15 rfl rfl)
theorem dX3_comes_87 : decode cX3_comes 87 = .ok (.getfield 7, 3) := dk_180 0 7 (dk_at dksX3_comes_3 16 rfl rfl)
theorem dX3_comes_90 : decode cX3_comes 90 = .ok (.iconst 1, 1) := dk_4 (dk_at dksX3_comes_3 19 rfl rfl)
theorem dX3_comes_91 : decode cX3_comes 91 = .ok (.dup2, 1) := dk_92 (dk_at dksX3_comes_3 20 rfl rfl)
theorem dX3_comes_92 : decode cX3_comes 92 = .ok (.iaload, 1) := dk_46 (dk_at dksX3_comes_3 21 rfl rfl)
theorem dX3_comes_93 : decode cX3_comes 93 = .ok (.iconst 1, 1) := dk_4 (dk_at dksX3_comes_3 22 rfl rfl)
theorem dX3_comes_94 : decode cX3_comes 94 = .ok (.iadd, 1) := dk_96 (dk_at dksX3_comes_3 23 rfl rfl)
theorem dX3_comes_95 : decode cX3_comes 95 = .ok (.iastore, 1) := dk_79 (dk_at dksX3_comes_4 0 rfl rfl)
theorem dX3_comes_96 : decode cX3_comes 96 = .ok (.aload_n 0, 1) := dk_42 (dk_at dksX3_comes_4 1 rfl rfl)
theorem dX3_comes_97 : decode cX3_comes 97 = .ok (.iload 7, 2) := dk_21 7 (dk_at dksX3_comes_4 2 rfl rfl)
theorem dX3_comes_99 : decode cX3_comes 99 = .ok (.invokevirtual 337, 3) := dk_182 1 81 (dk_at dksX3_comes_4 4 rfl rfl)
theorem dX3_comes_102 : decode cX3_comes 102 = .ok (.ifCond .eq 26, 3) := dk_153 0 26 (dk_at dksX3_comes_4 7 rfl rfl)
theorem dX3_comes_105 : decode cX3_comes 105 = .ok (.aload_n 0, 1) := dk_42 (dk_at dksX3_comes_4 10 rfl rfl)
theorem dX3_comes_106 : decode cX3_comes 106 = .ok (.iload 7, 2) := dk_21 7 (dk_at dksX3_comes_4 11 rfl rfl)
theorem dX3_comes_108 : decode cX3_comes 108 = .ok (.bipush 7, 2) := dk_16 7 (dk_at dksX3_comes_4 13 rfl rfl)
theorem dX3_comes_110 : decode cX3_comes 110 = .ok (.aload_n 0, 1) := dk_42 (dk_at dksX3_comes_4 15 rfl rfl)
theorem dX3_comes_111 : decode cX3_comes 111 = .ok (.aload_n 0, 1) := dk_42 (dk_at dksX3_comes_4 16 rfl rfl)
theorem dX3_comes_112 : decode cX3_comes 112 = .ok (.getfield 310, 3) := dk_180 1 54 (dk_at dksX3_comes_4 17 rfl rfl)
theorem dX3_comes_115 : decode cX3_comes 115 = .ok (.aload_n 0, 1) := dk_42 (dk_at dksX3_comes_4 20 rfl rfl)
theorem dX3_comes_116 : decode cX3_comes 116 = .ok (.getfield 319, 3) := dk_180 1 63 (dk_at dksX3_comes_4 21 rfl rfl)
theorem dX3_comes_119 : decode cX3_comes 119 = .ok (.invokevirtual 213, 3) := dk_182 0 213 (dk_at dksX3_comes_5 0 rfl rfl)
theorem dX3_comes_122 : decode cX3_comes 122 = .ok (.invokevirtual 334, 3) := dk_182 1 78 (dk_at dksX3_comes_5 3 rfl rfl)
theorem dX3_comes_125 : decode cX3_comes 125 = .ok (.goto 12, 3) := dk_167 0 12 (dk_at dksX3_comes_5 6 rfl rfl)
theorem dX3_comes_128 : decode cX3_comes 128 = .ok (.aload_n 0, 1) := dk_42 (dk_at dksX3_comes_5 9 rfl rfl)
theorem dX3_comes_129 : decode cX3_comes 129 = .ok (.iload 7, 2) := dk_21 7 (dk_at dksX3_comes_5 10 rfl rfl)
theorem dX3_comes_131 : decode cX3_comes 131 = .ok (.bipush 6, 2) := dk_16 6 (dk_at dksX3_comes_5 12 rfl rfl)
theorem dX3_comes_133 : decode cX3_comes 133 = .ok (.iconst 0, 1) := dk_3 (dk_at dksX3_comes_5 14 rfl rfl)
theorem dX3_comes_134 : decode cX3_comes 134 = .ok (.invokevirtual 334, 3) := dk_182 1 78 (dk_at dksX3_comes_5 15 rfl rfl)
theorem dX3_comes_137 : decode cX3_comes 137 = .ok (.return_, 1) := dk_177 (dk_at dksX3_comes_5 18 rfl rfl)
abbrev cX3_lets : ByteArray := prog_23_method_30_code
def yX3_lets : MethodName := ⟨RX3, "lets", "(III)V"⟩
def dkwX3_lets_0 : List UInt8 := [42, 180, 0, 7, 17, 2, 98, 16, 9, 27, 104, 96, 28, 96, 29, 79, 177]
abbrev dktX3_lets_0 : List UInt8 := dkwX3_lets_0 ++ []
theorem dksX3_lets_0 : cX3_lets.data.toList.drop 0 = dktX3_lets_0 := by decide +kernel
theorem dX3_lets_0 : decode cX3_lets 0 = .ok (.aload_n 0, 1) := dk_42 (dk_at dksX3_lets_0 0 rfl rfl)
theorem dX3_lets_1 : decode cX3_lets 1 = .ok (.getfield 7, 3) := dk_180 0 7 (dk_at dksX3_lets_0 1 rfl rfl)
theorem dX3_lets_4 : decode cX3_lets 4 = .ok (.sipush 610, 3) := dk_17 2 98 (dk_at dksX3_lets_0 4 rfl rfl)
theorem dX3_lets_7 : decode cX3_lets 7 = .ok (.bipush 9, 2) := dk_16 9 (dk_at dksX3_lets_0 7 rfl rfl)
theorem dX3_lets_9 : decode cX3_lets 9 = .ok (.iload_n 1, 1) := dk_27 (dk_at dksX3_lets_0 9 rfl rfl)
theorem dX3_lets_10 : decode cX3_lets 10 = .ok (.imul, 1) := dk_104 (dk_at dksX3_lets_0 10 rfl rfl)
theorem dX3_lets_11 : decode cX3_lets 11 = .ok (.iadd, 1) := dk_96 (dk_at dksX3_lets_0 11 rfl rfl)
theorem dX3_lets_12 : decode cX3_lets 12 = .ok (.iload_n 2, 1) := dk_28 (dk_at dksX3_lets_0 12 rfl rfl)
theorem dX3_lets_13 : decode cX3_lets 13 = .ok (.iadd, 1) := dk_96 (dk_at dksX3_lets_0 13 rfl rfl)
theorem dX3_lets_14 : decode cX3_lets 14 = .ok (.iload_n 3, 1) := dk_29 (dk_at dksX3_lets_0 14 rfl rfl)
theorem dX3_lets_15 : decode cX3_lets 15 = .ok (.iastore, 1) := dk_79 (dk_at dksX3_lets_0 15 rfl rfl)
theorem dX3_lets_16 : decode cX3_lets 16 = .ok (.return_, 1) := dk_177 (dk_at dksX3_lets_0 16 rfl rfl)
abbrev cX3_inserts : ByteArray := prog_23_method_66_code
def yX3_inserts : MethodName := ⟨RX3, "inserts", "(I)Z"⟩
def dkwX3_inserts_3 : List UInt8 := [180, 1, 66, 5, 27, 104, 4, 96, 182, 1, 75, 42, 42, 180, 1, 54, 28, 182, 1, 16, 4, 172]
abbrev dktX3_inserts_3 : List UInt8 := dkwX3_inserts_3 ++ []
def dkwX3_inserts_2 : List UInt8 := [61, 42, 42, 180, 1, 54, 42, 180, 1, 63, 5, 27, 104, 182, 1, 75, 42, 42, 180, 1, 54, 42]
abbrev dktX3_inserts_2 : List UInt8 := dkwX3_inserts_2 ++ dktX3_inserts_3
def dkwX3_inserts_1 : List UInt8 := [132, 2, 1, 167, 255, 236, 42, 180, 1, 54, 2, 160, 0, 5, 3, 172, 42, 42, 180, 1, 54, 182, 1, 10]
abbrev dktX3_inserts_1 : List UInt8 := dkwX3_inserts_1 ++ dktX3_inserts_2
def dkwX3_inserts_0 : List UInt8 := [42, 2, 181, 1, 54, 3, 61, 28, 42, 180, 0, 33, 16, 8, 46, 162, 0, 15, 42, 28, 27, 182, 1, 72]
abbrev dktX3_inserts_0 : List UInt8 := dkwX3_inserts_0 ++ dktX3_inserts_1
theorem dksX3_inserts_0 : cX3_inserts.data.toList.drop 0 = dktX3_inserts_0 := by decide +kernel
theorem dksX3_inserts_1 : cX3_inserts.data.toList.drop 24 = dktX3_inserts_1 := dk_seg dksX3_inserts_0 24 rfl rfl
theorem dksX3_inserts_2 : cX3_inserts.data.toList.drop 48 = dktX3_inserts_2 := dk_seg dksX3_inserts_1 24 rfl rfl
theorem dksX3_inserts_3 : cX3_inserts.data.toList.drop 70 = dktX3_inserts_3 := dk_seg dksX3_inserts_2 22 rfl rfl
theorem dX3_inserts_0 : decode cX3_inserts 0 = .ok (.aload_n 0, 1) := dk_42 (dk_at dksX3_inserts_0 0 rfl rfl)
theorem dX3_inserts_1 : decode cX3_inserts 1 = .ok (.iconst (-1), 1) := dk_2 (dk_at dksX3_inserts_0 1 rfl rfl)
theorem dX3_inserts_2 : decode cX3_inserts 2 = .ok (.putfield 310, 3) := dk_181 1 54 (dk_at dksX3_inserts_0 2 rfl rfl)
theorem dX3_inserts_5 : decode cX3_inserts 5 = .ok (.iconst 0, 1) := dk_3 (dk_at dksX3_inserts_0 5 rfl rfl)
theorem dX3_inserts_6 : decode cX3_inserts 6 = .ok (.istore_n 2, 1) := dk_61 (dk_at dksX3_inserts_0 6 rfl rfl)
theorem dX3_inserts_7 : decode cX3_inserts 7 = .ok (.iload_n 2, 1) := dk_28 (dk_at dksX3_inserts_0 7 rfl rfl)
theorem dX3_inserts_8 : decode cX3_inserts 8 = .ok (.aload_n 0, 1) := dk_42 (dk_at dksX3_inserts_0 8 rfl rfl)
theorem dX3_inserts_9 : decode cX3_inserts 9 = .ok (.getfield 33, 3) := dk_180 0 33 (dk_at dksX3_inserts_0 9 rfl rfl)
theorem dX3_inserts_12 : decode cX3_inserts 12 = .ok (.bipush 8, 2) := dk_16 8 (dk_at dksX3_inserts_0 12 rfl rfl)
theorem dX3_inserts_14 : decode cX3_inserts 14 = .ok (.iaload, 1) := dk_46 (dk_at dksX3_inserts_0 14 rfl rfl)
theorem dX3_inserts_15 : decode cX3_inserts 15 = .ok (.if_icmp .ge 15, 3) := dk_162 0 15 (dk_at dksX3_inserts_0 15 rfl rfl)
theorem dX3_inserts_18 : decode cX3_inserts 18 = .ok (.aload_n 0, 1) := dk_42 (dk_at dksX3_inserts_0 18 rfl rfl)
theorem dX3_inserts_19 : decode cX3_inserts 19 = .ok (.iload_n 2, 1) := dk_28 (dk_at dksX3_inserts_0 19 rfl rfl)
theorem dX3_inserts_20 : decode cX3_inserts 20 = .ok (.iload_n 1, 1) := dk_27 (dk_at dksX3_inserts_0 20 rfl rfl)
theorem dX3_inserts_21 : decode cX3_inserts 21 = .ok (.invokevirtual 328, 3) := dk_182 1 72 (dk_at dksX3_inserts_0 21 rfl rfl)
theorem dX3_inserts_24 : decode cX3_inserts 24 = .ok (.iinc 2 1, 3) := dk_132 2 1 (dk_at dksX3_inserts_1 0 rfl rfl)
theorem dX3_inserts_27 : decode cX3_inserts 27 = .ok (.goto (-20), 3) := dk_167 255 236 (dk_at dksX3_inserts_1 3 rfl rfl)
theorem dX3_inserts_30 : decode cX3_inserts 30 = .ok (.aload_n 0, 1) := dk_42 (dk_at dksX3_inserts_1 6 rfl rfl)
theorem dX3_inserts_31 : decode cX3_inserts 31 = .ok (.getfield 310, 3) := dk_180 1 54 (dk_at dksX3_inserts_1 7 rfl rfl)
theorem dX3_inserts_34 : decode cX3_inserts 34 = .ok (.iconst (-1), 1) := dk_2 (dk_at dksX3_inserts_1 10 rfl rfl)
theorem dX3_inserts_35 : decode cX3_inserts 35 = .ok (.if_icmp .ne 5, 3) := dk_160 0 5 (dk_at dksX3_inserts_1 11 rfl rfl)
theorem dX3_inserts_38 : decode cX3_inserts 38 = .ok (.iconst 0, 1) := dk_3 (dk_at dksX3_inserts_1 14 rfl rfl)
theorem dX3_inserts_39 : decode cX3_inserts 39 = .ok (.ireturn, 1) := dk_172 (dk_at dksX3_inserts_1 15 rfl rfl)
theorem dX3_inserts_40 : decode cX3_inserts 40 = .ok (.aload_n 0, 1) := dk_42 (dk_at dksX3_inserts_1 16 rfl rfl)
theorem dX3_inserts_41 : decode cX3_inserts 41 = .ok (.aload_n 0, 1) := dk_42 (dk_at dksX3_inserts_1 17 rfl rfl)
theorem dX3_inserts_42 : decode cX3_inserts 42 = .ok (.getfield 310, 3) := dk_180 1 54 (dk_at dksX3_inserts_1 18 rfl rfl)
theorem dX3_inserts_45 : decode cX3_inserts 45 = .ok (.invokevirtual 266, 3) := dk_182 1 10 (dk_at dksX3_inserts_1 21 rfl rfl)
theorem dX3_inserts_48 : decode cX3_inserts 48 = .ok (.istore_n 2, 1) := dk_61 (dk_at dksX3_inserts_2 0 rfl rfl)
theorem dX3_inserts_49 : decode cX3_inserts 49 = .ok (.aload_n 0, 1) := dk_42 (dk_at dksX3_inserts_2 1 rfl rfl)
theorem dX3_inserts_50 : decode cX3_inserts 50 = .ok (.aload_n 0, 1) := dk_42 (dk_at dksX3_inserts_2 2 rfl rfl)
theorem dX3_inserts_51 : decode cX3_inserts 51 = .ok (.getfield 310, 3) := dk_180 1 54 (dk_at dksX3_inserts_2 3 rfl rfl)
theorem dX3_inserts_54 : decode cX3_inserts 54 = .ok (.aload_n 0, 1) := dk_42 (dk_at dksX3_inserts_2 6 rfl rfl)
theorem dX3_inserts_55 : decode cX3_inserts 55 = .ok (.getfield 319, 3) := dk_180 1 63 (dk_at dksX3_inserts_2 7 rfl rfl)
theorem dX3_inserts_58 : decode cX3_inserts 58 = .ok (.iconst 2, 1) := dk_5 (dk_at dksX3_inserts_2 10 rfl rfl)
theorem dX3_inserts_59 : decode cX3_inserts 59 = .ok (.iload_n 1, 1) := dk_27 (dk_at dksX3_inserts_2 11 rfl rfl)
theorem dX3_inserts_60 : decode cX3_inserts 60 = .ok (.imul, 1) := dk_104 (dk_at dksX3_inserts_2 12 rfl rfl)
theorem dX3_inserts_61 : decode cX3_inserts 61 = .ok (.invokevirtual 331, 3) := dk_182 1 75 (dk_at dksX3_inserts_2 13 rfl rfl)
theorem dX3_inserts_64 : decode cX3_inserts 64 = .ok (.aload_n 0, 1) := dk_42 (dk_at dksX3_inserts_2 16 rfl rfl)
theorem dX3_inserts_65 : decode cX3_inserts 65 = .ok (.aload_n 0, 1) := dk_42 (dk_at dksX3_inserts_2 17 rfl rfl)
theorem dX3_inserts_66 : decode cX3_inserts 66 = .ok (.getfield 310, 3) := dk_180 1 54 (dk_at dksX3_inserts_2 18 rfl rfl)
theorem dX3_inserts_69 : decode cX3_inserts 69 = .ok (.aload_n 0, 1) := dk_42 (dk_at dksX3_inserts_2 21 rfl rfl)
theorem dX3_inserts_70 : decode cX3_inserts 70 = .ok (.getfield 322, 3) := dk_180 1 66 (dk_at dksX3_inserts_3 0 rfl rfl)
theorem dX3_inserts_73 : decode cX3_inserts 73 = .ok (.iconst 2, 1) := dk_5 (dk_at dksX3_inserts_3 3 rfl rfl)
theorem dX3_inserts_74 : decode cX3_inserts 74 = .ok (.iload_n 1, 1) := dk_27 (dk_at dksX3_inserts_3 4 rfl rfl)
theorem dX3_inserts_75 : decode cX3_inserts 75 = .ok (.imul, 1) := dk_104 (dk_at dksX3_inserts_3 5 rfl rfl)
theorem dX3_inserts_76 : decode cX3_inserts 76 = .ok (.iconst 1, 1) := dk_4 (dk_at dksX3_inserts_3 6 rfl rfl)
theorem dX3_inserts_77 : decode cX3_inserts 77 = .ok (.iadd, 1) := dk_96 (dk_at dksX3_inserts_3 7 rfl rfl)
theorem dX3_inserts_78 : decode cX3_inserts 78 = .ok (.invokevirtual 331, 3) := dk_182 1 75 (dk_at dksX3_inserts_3 8 rfl rfl)
theorem dX3_inserts_81 : decode cX3_inserts 81 = .ok (.aload_n 0, 1) := dk_42 (dk_at dksX3_inserts_3 11 rfl rfl)
theorem dX3_inserts_82 : decode cX3_inserts 82 = .ok (.aload_n 0, 1) := dk_42 (dk_at dksX3_inserts_3 12 rfl rfl)
theorem dX3_inserts_83 : decode cX3_inserts 83 = .ok (.getfield 310, 3) := dk_180 1 54 (dk_at dksX3_inserts_3 13 rfl rfl)
theorem dX3_inserts_86 : decode cX3_inserts 86 = .ok (.iload_n 2, 1) := dk_28 (dk_at dksX3_inserts_3 16 rfl rfl)
theorem dX3_inserts_87 : decode cX3_inserts 87 = .ok (.invokevirtual 272, 3) := dk_182 1 16 (dk_at dksX3_inserts_3 17 rfl rfl)
theorem dX3_inserts_90 : decode cX3_inserts 90 = .ok (.iconst 1, 1) := dk_4 (dk_at dksX3_inserts_3 20 rfl rfl)
theorem dX3_inserts_91 : decode cX3_inserts 91 = .ok (.ireturn, 1) := dk_172 (dk_at dksX3_inserts_3 21 rfl rfl)
abbrev cX3_triesVan : ByteArray := prog_23_method_61_code
def yX3_triesVan : MethodName := ⟨RX3, "triesVan", "(II)V"⟩
def dkwX3_triesVan_5 : List UInt8 := [132, 5, 1, 167, 255, 164, 177]
abbrev dktX3_triesVan_5 : List UInt8 := dkwX3_triesVan_5 ++ []
def dkwX3_triesVan_4 : List UInt8 := [182, 1, 47, 21, 5, 29, 159, 0, 17, 42, 42, 27, 21, 5, 182, 0, 208, 182, 1, 40, 154, 0, 4, 177]
abbrev dktX3_triesVan_4 : List UInt8 := dkwX3_triesVan_4 ++ dktX3_triesVan_5
def dkwX3_triesVan_3 : List UInt8 := [153, 0, 11, 42, 27, 28, 21, 5, 182, 1, 43, 42, 21, 6, 21, 7, 21, 8, 21, 9, 21, 10]
abbrev dktX3_triesVan_3 : List UInt8 := dkwX3_triesVan_3 ++ dktX3_triesVan_4
def dkwX3_triesVan_2 : List UInt8 := [180, 1, 28, 54, 8, 42, 180, 1, 31, 54, 9, 42, 180, 1, 34, 54, 10, 42, 5, 28, 104, 182, 1, 40]
abbrev dktX3_triesVan_2 : List UInt8 := dkwX3_triesVan_2 ++ dktX3_triesVan_3
def dkwX3_triesVan_1 : List UInt8 := [21, 4, 54, 5, 21, 5, 29, 163, 0, 92, 42, 180, 1, 22, 54, 6, 42, 180, 1, 25, 54, 7, 42]
abbrev dktX3_triesVan_1 : List UInt8 := dkwX3_triesVan_1 ++ dktX3_triesVan_2
def dkwX3_triesVan_0 : List UInt8 := [42, 180, 0, 7, 16, 6, 27, 96, 46, 62, 42, 27, 182, 1, 10, 54, 4, 42, 27, 21, 4, 182, 1, 37]
abbrev dktX3_triesVan_0 : List UInt8 := dkwX3_triesVan_0 ++ dktX3_triesVan_1
theorem dksX3_triesVan_0 : cX3_triesVan.data.toList.drop 0 = dktX3_triesVan_0 := by decide +kernel
theorem dksX3_triesVan_1 : cX3_triesVan.data.toList.drop 24 = dktX3_triesVan_1 := dk_seg dksX3_triesVan_0 24 rfl rfl
theorem dksX3_triesVan_2 : cX3_triesVan.data.toList.drop 47 = dktX3_triesVan_2 := dk_seg dksX3_triesVan_1 23 rfl rfl
theorem dksX3_triesVan_3 : cX3_triesVan.data.toList.drop 71 = dktX3_triesVan_3 := dk_seg dksX3_triesVan_2 24 rfl rfl
theorem dksX3_triesVan_4 : cX3_triesVan.data.toList.drop 93 = dktX3_triesVan_4 := dk_seg dksX3_triesVan_3 22 rfl rfl
theorem dksX3_triesVan_5 : cX3_triesVan.data.toList.drop 117 = dktX3_triesVan_5 := dk_seg dksX3_triesVan_4 24 rfl rfl
theorem dX3_triesVan_0 : decode cX3_triesVan 0 = .ok (.aload_n 0, 1) := dk_42 (dk_at dksX3_triesVan_0 0 rfl rfl)
theorem dX3_triesVan_1 : decode cX3_triesVan 1 = .ok (.getfield 7, 3) := dk_180 0 7 (dk_at dksX3_triesVan_0 1 rfl rfl)
theorem dX3_triesVan_4 : decode cX3_triesVan 4 = .ok (.bipush 6, 2) := dk_16 6 (dk_at dksX3_triesVan_0 4 rfl rfl)
theorem dX3_triesVan_6 : decode cX3_triesVan 6 = .ok (.iload_n 1, 1) := dk_27 (dk_at dksX3_triesVan_0 6 rfl rfl)
theorem dX3_triesVan_7 : decode cX3_triesVan 7 = .ok (.iadd, 1) := dk_96 (dk_at dksX3_triesVan_0 7 rfl rfl)
theorem dX3_triesVan_8 : decode cX3_triesVan 8 = .ok (.iaload, 1) := dk_46 (dk_at dksX3_triesVan_0 8 rfl rfl)
theorem dX3_triesVan_9 : decode cX3_triesVan 9 = .ok (.istore_n 3, 1) := dk_62 (dk_at dksX3_triesVan_0 9 rfl rfl)
theorem dX3_triesVan_10 : decode cX3_triesVan 10 = .ok (.aload_n 0, 1) := dk_42 (dk_at dksX3_triesVan_0 10 rfl rfl)
theorem dX3_triesVan_11 : decode cX3_triesVan 11 = .ok (.iload_n 1, 1) := dk_27 (dk_at dksX3_triesVan_0 11 rfl rfl)
theorem dX3_triesVan_12 : decode cX3_triesVan 12 = .ok (.invokevirtual 266, 3) := dk_182 1 10 (dk_at dksX3_triesVan_0 12 rfl rfl)
theorem dX3_triesVan_15 : decode cX3_triesVan 15 = .ok (.istore 4, 2) := dk_54 4 (dk_at dksX3_triesVan_0 15 rfl rfl)
theorem dX3_triesVan_17 : decode cX3_triesVan 17 = .ok (.aload_n 0, 1) := dk_42 (dk_at dksX3_triesVan_0 17 rfl rfl)
theorem dX3_triesVan_18 : decode cX3_triesVan 18 = .ok (.iload_n 1, 1) := dk_27 (dk_at dksX3_triesVan_0 18 rfl rfl)
theorem dX3_triesVan_19 : decode cX3_triesVan 19 = .ok (.iload 4, 2) := dk_21 4 (dk_at dksX3_triesVan_0 19 rfl rfl)
theorem dX3_triesVan_21 : decode cX3_triesVan 21 = .ok (.invokevirtual 293, 3) := dk_182 1 37 (dk_at dksX3_triesVan_0 21 rfl rfl)
theorem dX3_triesVan_24 : decode cX3_triesVan 24 = .ok (.iload 4, 2) := dk_21 4 (dk_at dksX3_triesVan_1 0 rfl rfl)
theorem dX3_triesVan_26 : decode cX3_triesVan 26 = .ok (.istore 5, 2) := dk_54 5 (dk_at dksX3_triesVan_1 2 rfl rfl)
theorem dX3_triesVan_28 : decode cX3_triesVan 28 = .ok (.iload 5, 2) := dk_21 5 (dk_at dksX3_triesVan_1 4 rfl rfl)
theorem dX3_triesVan_30 : decode cX3_triesVan 30 = .ok (.iload_n 3, 1) := dk_29 (dk_at dksX3_triesVan_1 6 rfl rfl)
theorem dX3_triesVan_31 : decode cX3_triesVan 31 = .ok (.if_icmp .gt 92, 3) := dk_163 0 92 (dk_at dksX3_triesVan_1 7 rfl rfl)
theorem dX3_triesVan_34 : decode cX3_triesVan 34 = .ok (.aload_n 0, 1) := dk_42 (dk_at dksX3_triesVan_1 10 rfl rfl)
theorem dX3_triesVan_35 : decode cX3_triesVan 35 = .ok (.getfield 278, 3) := dk_180 1 22 (dk_at dksX3_triesVan_1 11 rfl rfl)
theorem dX3_triesVan_38 : decode cX3_triesVan 38 = .ok (.istore 6, 2) := dk_54 6 (dk_at dksX3_triesVan_1 14 rfl rfl)
theorem dX3_triesVan_40 : decode cX3_triesVan 40 = .ok (.aload_n 0, 1) := dk_42 (dk_at dksX3_triesVan_1 16 rfl rfl)
theorem dX3_triesVan_41 : decode cX3_triesVan 41 = .ok (.getfield 281, 3) := dk_180 1 25 (dk_at dksX3_triesVan_1 17 rfl rfl)
theorem dX3_triesVan_44 : decode cX3_triesVan 44 = .ok (.istore 7, 2) := dk_54 7 (dk_at dksX3_triesVan_1 20 rfl rfl)
theorem dX3_triesVan_46 : decode cX3_triesVan 46 = .ok (.aload_n 0, 1) := dk_42 (dk_at dksX3_triesVan_1 22 rfl rfl)
theorem dX3_triesVan_47 : decode cX3_triesVan 47 = .ok (.getfield 284, 3) := dk_180 1 28 (dk_at dksX3_triesVan_2 0 rfl rfl)
theorem dX3_triesVan_50 : decode cX3_triesVan 50 = .ok (.istore 8, 2) := dk_54 8 (dk_at dksX3_triesVan_2 3 rfl rfl)
theorem dX3_triesVan_52 : decode cX3_triesVan 52 = .ok (.aload_n 0, 1) := dk_42 (dk_at dksX3_triesVan_2 5 rfl rfl)
theorem dX3_triesVan_53 : decode cX3_triesVan 53 = .ok (.getfield 287, 3) := dk_180 1 31 (dk_at dksX3_triesVan_2 6 rfl rfl)
theorem dX3_triesVan_56 : decode cX3_triesVan 56 = .ok (.istore 9, 2) := dk_54 9 (dk_at dksX3_triesVan_2 9 rfl rfl)
theorem dX3_triesVan_58 : decode cX3_triesVan 58 = .ok (.aload_n 0, 1) := dk_42 (dk_at dksX3_triesVan_2 11 rfl rfl)
theorem dX3_triesVan_59 : decode cX3_triesVan 59 = .ok (.getfield 290, 3) := dk_180 1 34 (dk_at dksX3_triesVan_2 12 rfl rfl)
theorem dX3_triesVan_62 : decode cX3_triesVan 62 = .ok (.istore 10, 2) := dk_54 10 (dk_at dksX3_triesVan_2 15 rfl rfl)
theorem dX3_triesVan_64 : decode cX3_triesVan 64 = .ok (.aload_n 0, 1) := dk_42 (dk_at dksX3_triesVan_2 17 rfl rfl)
theorem dX3_triesVan_65 : decode cX3_triesVan 65 = .ok (.iconst 2, 1) := dk_5 (dk_at dksX3_triesVan_2 18 rfl rfl)
theorem dX3_triesVan_66 : decode cX3_triesVan 66 = .ok (.iload_n 2, 1) := dk_28 (dk_at dksX3_triesVan_2 19 rfl rfl)
theorem dX3_triesVan_67 : decode cX3_triesVan 67 = .ok (.imul, 1) := dk_104 (dk_at dksX3_triesVan_2 20 rfl rfl)
theorem dX3_triesVan_68 : decode cX3_triesVan 68 = .ok (.invokevirtual 296, 3) := dk_182 1 40 (dk_at dksX3_triesVan_2 21 rfl rfl)
theorem dX3_triesVan_71 : decode cX3_triesVan 71 = .ok (.ifCond .eq 11, 3) := dk_153 0 11 (dk_at dksX3_triesVan_3 0 rfl rfl)
theorem dX3_triesVan_74 : decode cX3_triesVan 74 = .ok (.aload_n 0, 1) := dk_42 (dk_at dksX3_triesVan_3 3 rfl rfl)
theorem dX3_triesVan_75 : decode cX3_triesVan 75 = .ok (.iload_n 1, 1) := dk_27 (dk_at dksX3_triesVan_3 4 rfl rfl)
theorem dX3_triesVan_76 : decode cX3_triesVan 76 = .ok (.iload_n 2, 1) := dk_28 (dk_at dksX3_triesVan_3 5 rfl rfl)
theorem dX3_triesVan_77 : decode cX3_triesVan 77 = .ok (.iload 5, 2) := dk_21 5 (dk_at dksX3_triesVan_3 6 rfl rfl)
theorem dX3_triesVan_79 : decode cX3_triesVan 79 = .ok (.invokevirtual 299, 3) := dk_182 1 43 (dk_at dksX3_triesVan_3 8 rfl rfl)
theorem dX3_triesVan_82 : decode cX3_triesVan 82 = .ok (.aload_n 0, 1) := dk_42 (dk_at dksX3_triesVan_3 11 rfl rfl)
theorem dX3_triesVan_83 : decode cX3_triesVan 83 = .ok (.iload 6, 2) := dk_21 6 (dk_at dksX3_triesVan_3 12 rfl rfl)
theorem dX3_triesVan_85 : decode cX3_triesVan 85 = .ok (.iload 7, 2) := dk_21 7 (dk_at dksX3_triesVan_3 14 rfl rfl)
theorem dX3_triesVan_87 : decode cX3_triesVan 87 = .ok (.iload 8, 2) := dk_21 8 (dk_at dksX3_triesVan_3 16 rfl rfl)
theorem dX3_triesVan_89 : decode cX3_triesVan 89 = .ok (.iload 9, 2) := dk_21 9 (dk_at dksX3_triesVan_3 18 rfl rfl)
theorem dX3_triesVan_91 : decode cX3_triesVan 91 = .ok (.iload 10, 2) := dk_21 10 (dk_at dksX3_triesVan_3 20 rfl rfl)
theorem dX3_triesVan_93 : decode cX3_triesVan 93 = .ok (.invokevirtual 303, 3) := dk_182 1 47 (dk_at dksX3_triesVan_4 0 rfl rfl)
theorem dX3_triesVan_96 : decode cX3_triesVan 96 = .ok (.iload 5, 2) := dk_21 5 (dk_at dksX3_triesVan_4 3 rfl rfl)
theorem dX3_triesVan_98 : decode cX3_triesVan 98 = .ok (.iload_n 3, 1) := dk_29 (dk_at dksX3_triesVan_4 5 rfl rfl)
theorem dX3_triesVan_99 : decode cX3_triesVan 99 = .ok (.if_icmp .eq 17, 3) := dk_159 0 17 (dk_at dksX3_triesVan_4 6 rfl rfl)
theorem dX3_triesVan_102 : decode cX3_triesVan 102 = .ok (.aload_n 0, 1) := dk_42 (dk_at dksX3_triesVan_4 9 rfl rfl)
theorem dX3_triesVan_103 : decode cX3_triesVan 103 = .ok (.aload_n 0, 1) := dk_42 (dk_at dksX3_triesVan_4 10 rfl rfl)
theorem dX3_triesVan_104 : decode cX3_triesVan 104 = .ok (.iload_n 1, 1) := dk_27 (dk_at dksX3_triesVan_4 11 rfl rfl)
theorem dX3_triesVan_105 : decode cX3_triesVan 105 = .ok (.iload 5, 2) := dk_21 5 (dk_at dksX3_triesVan_4 12 rfl rfl)
theorem dX3_triesVan_107 : decode cX3_triesVan 107 = .ok (.invokevirtual 208, 3) := dk_182 0 208 (dk_at dksX3_triesVan_4 14 rfl rfl)
theorem dX3_triesVan_110 : decode cX3_triesVan 110 = .ok (.invokevirtual 296, 3) := dk_182 1 40 (dk_at dksX3_triesVan_4 17 rfl rfl)
theorem dX3_triesVan_113 : decode cX3_triesVan 113 = .ok (.ifCond .ne 4, 3) := dk_154 0 4 (dk_at dksX3_triesVan_4 20 rfl rfl)
theorem dX3_triesVan_116 : decode cX3_triesVan 116 = .ok (.return_, 1) := dk_177 (dk_at dksX3_triesVan_4 23 rfl rfl)
theorem dX3_triesVan_117 : decode cX3_triesVan 117 = .ok (.iinc 5 1, 3) := dk_132 5 1 (dk_at dksX3_triesVan_5 0 rfl rfl)
theorem dX3_triesVan_120 : decode cX3_triesVan 120 = .ok (.goto (-92), 3) := dk_167 255 164 (dk_at dksX3_triesVan_5 3 rfl rfl)
theorem dX3_triesVan_123 : decode cX3_triesVan 123 = .ok (.return_, 1) := dk_177 (dk_at dksX3_triesVan_5 6 rfl rfl)
abbrev cX3_fixed : ByteArray := prog_23_method_43_code
def yX3_fixed : MethodName := ⟨RX3, "fixed", "(I)I"⟩
def dkwX3_fixed_1 : List UInt8 := [132, 2, 1, 167, 255, 231, 28, 172]
abbrev dktX3_fixed_1 : List UInt8 := dkwX3_fixed_1 ++ []
def dkwX3_fixed_0 : List UInt8 := [3, 61, 28, 42, 180, 0, 7, 16, 6, 27, 96, 46, 162, 0, 18, 42, 27, 28, 182, 0, 236, 153, 0, 9]
abbrev dktX3_fixed_0 : List UInt8 := dkwX3_fixed_0 ++ dktX3_fixed_1
theorem dksX3_fixed_0 : cX3_fixed.data.toList.drop 0 = dktX3_fixed_0 := by decide +kernel
theorem dksX3_fixed_1 : cX3_fixed.data.toList.drop 24 = dktX3_fixed_1 := dk_seg dksX3_fixed_0 24 rfl rfl
theorem dX3_fixed_0 : decode cX3_fixed 0 = .ok (.iconst 0, 1) := dk_3 (dk_at dksX3_fixed_0 0 rfl rfl)
theorem dX3_fixed_1 : decode cX3_fixed 1 = .ok (.istore_n 2, 1) := dk_61 (dk_at dksX3_fixed_0 1 rfl rfl)
theorem dX3_fixed_2 : decode cX3_fixed 2 = .ok (.iload_n 2, 1) := dk_28 (dk_at dksX3_fixed_0 2 rfl rfl)
theorem dX3_fixed_3 : decode cX3_fixed 3 = .ok (.aload_n 0, 1) := dk_42 (dk_at dksX3_fixed_0 3 rfl rfl)
theorem dX3_fixed_4 : decode cX3_fixed 4 = .ok (.getfield 7, 3) := dk_180 0 7 (dk_at dksX3_fixed_0 4 rfl rfl)
theorem dX3_fixed_7 : decode cX3_fixed 7 = .ok (.bipush 6, 2) := dk_16 6 (dk_at dksX3_fixed_0 7 rfl rfl)
theorem dX3_fixed_9 : decode cX3_fixed 9 = .ok (.iload_n 1, 1) := dk_27 (dk_at dksX3_fixed_0 9 rfl rfl)
theorem dX3_fixed_10 : decode cX3_fixed 10 = .ok (.iadd, 1) := dk_96 (dk_at dksX3_fixed_0 10 rfl rfl)
theorem dX3_fixed_11 : decode cX3_fixed 11 = .ok (.iaload, 1) := dk_46 (dk_at dksX3_fixed_0 11 rfl rfl)
theorem dX3_fixed_12 : decode cX3_fixed 12 = .ok (.if_icmp .ge 18, 3) := dk_162 0 18 (dk_at dksX3_fixed_0 12 rfl rfl)
theorem dX3_fixed_15 : decode cX3_fixed 15 = .ok (.aload_n 0, 1) := dk_42 (dk_at dksX3_fixed_0 15 rfl rfl)
theorem dX3_fixed_16 : decode cX3_fixed 16 = .ok (.iload_n 1, 1) := dk_27 (dk_at dksX3_fixed_0 16 rfl rfl)
theorem dX3_fixed_17 : decode cX3_fixed 17 = .ok (.iload_n 2, 1) := dk_28 (dk_at dksX3_fixed_0 17 rfl rfl)
theorem dX3_fixed_18 : decode cX3_fixed 18 = .ok (.invokevirtual 236, 3) := dk_182 0 236 (dk_at dksX3_fixed_0 18 rfl rfl)
theorem dX3_fixed_21 : decode cX3_fixed 21 = .ok (.ifCond .eq 9, 3) := dk_153 0 9 (dk_at dksX3_fixed_0 21 rfl rfl)
theorem dX3_fixed_24 : decode cX3_fixed 24 = .ok (.iinc 2 1, 3) := dk_132 2 1 (dk_at dksX3_fixed_1 0 rfl rfl)
theorem dX3_fixed_27 : decode cX3_fixed 27 = .ok (.goto (-25), 3) := dk_167 255 231 (dk_at dksX3_fixed_1 3 rfl rfl)
theorem dX3_fixed_30 : decode cX3_fixed 30 = .ok (.iload_n 2, 1) := dk_28 (dk_at dksX3_fixed_1 6 rfl rfl)
theorem dX3_fixed_31 : decode cX3_fixed 31 = .ok (.ireturn, 1) := dk_172 (dk_at dksX3_fixed_1 7 rfl rfl)
abbrev cX3_isFixed : ByteArray := prog_23_method_42_code
def yX3_isFixed : MethodName := ⟨RX3, "isFixed", "(II)Z"⟩
def dkwX3_isFixed_2 : List UInt8 := [161, 0, 7, 4, 167, 0, 4, 3, 172]
abbrev dktX3_isFixed_2 : List UInt8 := dkwX3_isFixed_2 ++ []
def dkwX3_isFixed_1 : List UInt8 := [42, 180, 0, 7, 3, 46, 161, 0, 21, 29, 42, 27, 28, 182, 0, 222, 153, 0, 7, 6, 167, 0, 4, 5]
abbrev dktX3_isFixed_1 : List UInt8 := dkwX3_isFixed_1 ++ dktX3_isFixed_2
def dkwX3_isFixed_0 : List UInt8 := [42, 42, 27, 28, 182, 0, 216, 16, 6, 182, 0, 211, 62, 42, 180, 0, 7, 27, 28, 4, 184, 0, 204, 46]
abbrev dktX3_isFixed_0 : List UInt8 := dkwX3_isFixed_0 ++ dktX3_isFixed_1
theorem dksX3_isFixed_0 : cX3_isFixed.data.toList.drop 0 = dktX3_isFixed_0 := by decide +kernel
theorem dksX3_isFixed_1 : cX3_isFixed.data.toList.drop 24 = dktX3_isFixed_1 := dk_seg dksX3_isFixed_0 24 rfl rfl
theorem dksX3_isFixed_2 : cX3_isFixed.data.toList.drop 48 = dktX3_isFixed_2 := dk_seg dksX3_isFixed_1 24 rfl rfl
theorem dX3_isFixed_0 : decode cX3_isFixed 0 = .ok (.aload_n 0, 1) := dk_42 (dk_at dksX3_isFixed_0 0 rfl rfl)
theorem dX3_isFixed_1 : decode cX3_isFixed 1 = .ok (.aload_n 0, 1) := dk_42 (dk_at dksX3_isFixed_0 1 rfl rfl)
theorem dX3_isFixed_2 : decode cX3_isFixed 2 = .ok (.iload_n 1, 1) := dk_27 (dk_at dksX3_isFixed_0 2 rfl rfl)
theorem dX3_isFixed_3 : decode cX3_isFixed 3 = .ok (.iload_n 2, 1) := dk_28 (dk_at dksX3_isFixed_0 3 rfl rfl)
theorem dX3_isFixed_4 : decode cX3_isFixed 4 = .ok (.invokevirtual 216, 3) := dk_182 0 216 (dk_at dksX3_isFixed_0 4 rfl rfl)
theorem dX3_isFixed_7 : decode cX3_isFixed 7 = .ok (.bipush 6, 2) := dk_16 6 (dk_at dksX3_isFixed_0 7 rfl rfl)
theorem dX3_isFixed_9 : decode cX3_isFixed 9 = .ok (.invokevirtual 211, 3) := dk_182 0 211 (dk_at dksX3_isFixed_0 9 rfl rfl)
theorem dX3_isFixed_12 : decode cX3_isFixed 12 = .ok (.istore_n 3, 1) := dk_62 (dk_at dksX3_isFixed_0 12 rfl rfl)
theorem dX3_isFixed_13 : decode cX3_isFixed 13 = .ok (.aload_n 0, 1) := dk_42 (dk_at dksX3_isFixed_0 13 rfl rfl)
theorem dX3_isFixed_14 : decode cX3_isFixed 14 = .ok (.getfield 7, 3) := dk_180 0 7 (dk_at dksX3_isFixed_0 14 rfl rfl)
theorem dX3_isFixed_17 : decode cX3_isFixed 17 = .ok (.iload_n 1, 1) := dk_27 (dk_at dksX3_isFixed_0 17 rfl rfl)
theorem dX3_isFixed_18 : decode cX3_isFixed 18 = .ok (.iload_n 2, 1) := dk_28 (dk_at dksX3_isFixed_0 18 rfl rfl)
theorem dX3_isFixed_19 : decode cX3_isFixed 19 = .ok (.iconst 1, 1) := dk_4 (dk_at dksX3_isFixed_0 19 rfl rfl)
theorem dX3_isFixed_20 : decode cX3_isFixed 20 = .ok (.invokestatic 204, 3) := dk_184 0 204 (dk_at dksX3_isFixed_0 20 rfl rfl)
theorem dX3_isFixed_23 : decode cX3_isFixed 23 = .ok (.iaload, 1) := dk_46 (dk_at dksX3_isFixed_0 23 rfl rfl)
theorem dX3_isFixed_24 : decode cX3_isFixed 24 = .ok (.aload_n 0, 1) := dk_42 (dk_at dksX3_isFixed_1 0 rfl rfl)
theorem dX3_isFixed_25 : decode cX3_isFixed 25 = .ok (.getfield 7, 3) := dk_180 0 7 (dk_at dksX3_isFixed_1 1 rfl rfl)
theorem dX3_isFixed_28 : decode cX3_isFixed 28 = .ok (.iconst 0, 1) := dk_3 (dk_at dksX3_isFixed_1 4 rfl rfl)
theorem dX3_isFixed_29 : decode cX3_isFixed 29 = .ok (.iaload, 1) := dk_46 (dk_at dksX3_isFixed_1 5 rfl rfl)
theorem dX3_isFixed_30 : decode cX3_isFixed 30 = .ok (.if_icmp .lt 21, 3) := dk_161 0 21 (dk_at dksX3_isFixed_1 6 rfl rfl)
theorem dX3_isFixed_33 : decode cX3_isFixed 33 = .ok (.iload_n 3, 1) := dk_29 (dk_at dksX3_isFixed_1 9 rfl rfl)
theorem dX3_isFixed_34 : decode cX3_isFixed 34 = .ok (.aload_n 0, 1) := dk_42 (dk_at dksX3_isFixed_1 10 rfl rfl)
theorem dX3_isFixed_35 : decode cX3_isFixed 35 = .ok (.iload_n 1, 1) := dk_27 (dk_at dksX3_isFixed_1 11 rfl rfl)
theorem dX3_isFixed_36 : decode cX3_isFixed 36 = .ok (.iload_n 2, 1) := dk_28 (dk_at dksX3_isFixed_1 12 rfl rfl)
theorem dX3_isFixed_37 : decode cX3_isFixed 37 = .ok (.invokevirtual 222, 3) := dk_182 0 222 (dk_at dksX3_isFixed_1 13 rfl rfl)
theorem dX3_isFixed_40 : decode cX3_isFixed 40 = .ok (.ifCond .eq 7, 3) := dk_153 0 7 (dk_at dksX3_isFixed_1 16 rfl rfl)
theorem dX3_isFixed_43 : decode cX3_isFixed 43 = .ok (.iconst 3, 1) := dk_6 (dk_at dksX3_isFixed_1 19 rfl rfl)
theorem dX3_isFixed_44 : decode cX3_isFixed 44 = .ok (.goto 4, 3) := dk_167 0 4 (dk_at dksX3_isFixed_1 20 rfl rfl)
theorem dX3_isFixed_47 : decode cX3_isFixed 47 = .ok (.iconst 2, 1) := dk_5 (dk_at dksX3_isFixed_1 23 rfl rfl)
theorem dX3_isFixed_48 : decode cX3_isFixed 48 = .ok (.if_icmp .lt 7, 3) := dk_161 0 7 (dk_at dksX3_isFixed_2 0 rfl rfl)
theorem dX3_isFixed_51 : decode cX3_isFixed 51 = .ok (.iconst 1, 1) := dk_4 (dk_at dksX3_isFixed_2 3 rfl rfl)
theorem dX3_isFixed_52 : decode cX3_isFixed 52 = .ok (.goto 4, 3) := dk_167 0 4 (dk_at dksX3_isFixed_2 4 rfl rfl)
theorem dX3_isFixed_55 : decode cX3_isFixed 55 = .ok (.iconst 0, 1) := dk_3 (dk_at dksX3_isFixed_2 7 rfl rfl)
theorem dX3_isFixed_56 : decode cX3_isFixed 56 = .ok (.ireturn, 1) := dk_172 (dk_at dksX3_isFixed_2 8 rfl rfl)
abbrev cX3_callOf : ByteArray := prog_23_method_34_code
def yX3_callOf : MethodName := ⟨RX3, "callOf", "(II)I"⟩
def dkwX3_callOf_0 : List UInt8 := [42, 27, 28, 182, 0, 208, 5, 108, 172]
abbrev dktX3_callOf_0 : List UInt8 := dkwX3_callOf_0 ++ []
theorem dksX3_callOf_0 : cX3_callOf.data.toList.drop 0 = dktX3_callOf_0 := by decide +kernel
theorem dX3_callOf_0 : decode cX3_callOf 0 = .ok (.aload_n 0, 1) := dk_42 (dk_at dksX3_callOf_0 0 rfl rfl)
theorem dX3_callOf_1 : decode cX3_callOf 1 = .ok (.iload_n 1, 1) := dk_27 (dk_at dksX3_callOf_0 1 rfl rfl)
theorem dX3_callOf_2 : decode cX3_callOf 2 = .ok (.iload_n 2, 1) := dk_28 (dk_at dksX3_callOf_0 2 rfl rfl)
theorem dX3_callOf_3 : decode cX3_callOf 3 = .ok (.invokevirtual 208, 3) := dk_182 0 208 (dk_at dksX3_callOf_0 3 rfl rfl)
theorem dX3_callOf_6 : decode cX3_callOf 6 = .ok (.iconst 2, 1) := dk_5 (dk_at dksX3_callOf_0 6 rfl rfl)
theorem dX3_callOf_7 : decode cX3_callOf 7 = .ok (.idiv, 1) := dk_108 (dk_at dksX3_callOf_0 7 rfl rfl)
theorem dX3_callOf_8 : decode cX3_callOf 8 = .ok (.ireturn, 1) := dk_172 (dk_at dksX3_callOf_0 8 rfl rfl)
abbrev cX3_stop : ByteArray := prog_23_method_33_code
def yX3_stop : MethodName := ⟨RX3, "stop", "(II)I"⟩
def dkwX3_stop_0 : List UInt8 := [42, 180, 0, 7, 27, 28, 3, 184, 0, 204, 46, 172]
abbrev dktX3_stop_0 : List UInt8 := dkwX3_stop_0 ++ []
theorem dksX3_stop_0 : cX3_stop.data.toList.drop 0 = dktX3_stop_0 := by decide +kernel
theorem dX3_stop_0 : decode cX3_stop 0 = .ok (.aload_n 0, 1) := dk_42 (dk_at dksX3_stop_0 0 rfl rfl)
theorem dX3_stop_1 : decode cX3_stop 1 = .ok (.getfield 7, 3) := dk_180 0 7 (dk_at dksX3_stop_0 1 rfl rfl)
theorem dX3_stop_4 : decode cX3_stop 4 = .ok (.iload_n 1, 1) := dk_27 (dk_at dksX3_stop_0 4 rfl rfl)
theorem dX3_stop_5 : decode cX3_stop 5 = .ok (.iload_n 2, 1) := dk_28 (dk_at dksX3_stop_0 5 rfl rfl)
theorem dX3_stop_6 : decode cX3_stop 6 = .ok (.iconst 0, 1) := dk_3 (dk_at dksX3_stop_0 6 rfl rfl)
theorem dX3_stop_7 : decode cX3_stop 7 = .ok (.invokestatic 204, 3) := dk_184 0 204 (dk_at dksX3_stop_0 7 rfl rfl)
theorem dX3_stop_10 : decode cX3_stop 10 = .ok (.iaload, 1) := dk_46 (dk_at dksX3_stop_0 10 rfl rfl)
theorem dX3_stop_11 : decode cX3_stop 11 = .ok (.ireturn, 1) := dk_172 (dk_at dksX3_stop_0 11 rfl rfl)
abbrev cX3_cell : ByteArray := prog_23_method_32_code
def yX3_cell : MethodName := ⟨RX3, "cell", "(III)I"⟩
def dkwX3_cell_0 : List UInt8 := [16, 10, 16, 50, 26, 104, 27, 96, 6, 104, 96, 28, 96, 172]
abbrev dktX3_cell_0 : List UInt8 := dkwX3_cell_0 ++ []
theorem dksX3_cell_0 : cX3_cell.data.toList.drop 0 = dktX3_cell_0 := by decide +kernel
theorem dX3_cell_0 : decode cX3_cell 0 = .ok (.bipush 10, 2) := dk_16 10 (dk_at dksX3_cell_0 0 rfl rfl)
theorem dX3_cell_2 : decode cX3_cell 2 = .ok (.bipush 50, 2) := dk_16 50 (dk_at dksX3_cell_0 2 rfl rfl)
theorem dX3_cell_4 : decode cX3_cell 4 = .ok (.iload_n 0, 1) := dk_26 (dk_at dksX3_cell_0 4 rfl rfl)
theorem dX3_cell_5 : decode cX3_cell 5 = .ok (.imul, 1) := dk_104 (dk_at dksX3_cell_0 5 rfl rfl)
theorem dX3_cell_6 : decode cX3_cell 6 = .ok (.iload_n 1, 1) := dk_27 (dk_at dksX3_cell_0 6 rfl rfl)
theorem dX3_cell_7 : decode cX3_cell 7 = .ok (.iadd, 1) := dk_96 (dk_at dksX3_cell_0 7 rfl rfl)
theorem dX3_cell_8 : decode cX3_cell 8 = .ok (.iconst 3, 1) := dk_6 (dk_at dksX3_cell_0 8 rfl rfl)
theorem dX3_cell_9 : decode cX3_cell 9 = .ok (.imul, 1) := dk_104 (dk_at dksX3_cell_0 9 rfl rfl)
theorem dX3_cell_10 : decode cX3_cell 10 = .ok (.iadd, 1) := dk_96 (dk_at dksX3_cell_0 10 rfl rfl)
theorem dX3_cell_11 : decode cX3_cell 11 = .ok (.iload_n 2, 1) := dk_28 (dk_at dksX3_cell_0 11 rfl rfl)
theorem dX3_cell_12 : decode cX3_cell 12 = .ok (.iadd, 1) := dk_96 (dk_at dksX3_cell_0 12 rfl rfl)
theorem dX3_cell_13 : decode cX3_cell 13 = .ok (.ireturn, 1) := dk_172 (dk_at dksX3_cell_0 13 rfl rfl)
abbrev cX3_call : ByteArray := prog_23_method_29_code
def yX3_call : MethodName := ⟨RX3, "call", "(II)I"⟩
def dkwX3_call_0 : List UInt8 := [42, 180, 0, 7, 17, 2, 98, 16, 9, 27, 104, 96, 28, 96, 46, 172]
abbrev dktX3_call_0 : List UInt8 := dkwX3_call_0 ++ []
theorem dksX3_call_0 : cX3_call.data.toList.drop 0 = dktX3_call_0 := by decide +kernel
theorem dX3_call_0 : decode cX3_call 0 = .ok (.aload_n 0, 1) := dk_42 (dk_at dksX3_call_0 0 rfl rfl)
theorem dX3_call_1 : decode cX3_call 1 = .ok (.getfield 7, 3) := dk_180 0 7 (dk_at dksX3_call_0 1 rfl rfl)
theorem dX3_call_4 : decode cX3_call 4 = .ok (.sipush 610, 3) := dk_17 2 98 (dk_at dksX3_call_0 4 rfl rfl)
theorem dX3_call_7 : decode cX3_call 7 = .ok (.bipush 9, 2) := dk_16 9 (dk_at dksX3_call_0 7 rfl rfl)
theorem dX3_call_9 : decode cX3_call 9 = .ok (.iload_n 1, 1) := dk_27 (dk_at dksX3_call_0 9 rfl rfl)
theorem dX3_call_10 : decode cX3_call 10 = .ok (.imul, 1) := dk_104 (dk_at dksX3_call_0 10 rfl rfl)
theorem dX3_call_11 : decode cX3_call 11 = .ok (.iadd, 1) := dk_96 (dk_at dksX3_call_0 11 rfl rfl)
theorem dX3_call_12 : decode cX3_call 12 = .ok (.iload_n 2, 1) := dk_28 (dk_at dksX3_call_0 12 rfl rfl)
theorem dX3_call_13 : decode cX3_call 13 = .ok (.iadd, 1) := dk_96 (dk_at dksX3_call_0 13 rfl rfl)
theorem dX3_call_14 : decode cX3_call 14 = .ok (.iaload, 1) := dk_46 (dk_at dksX3_call_0 14 rfl rfl)
theorem dX3_call_15 : decode cX3_call 15 = .ok (.ireturn, 1) := dk_172 (dk_at dksX3_call_0 15 rfl rfl)
abbrev cX3_isDrop : ByteArray := prog_23_method_35_code
def yX3_isDrop : MethodName := ⟨RX3, "isDrop", "(II)Z"⟩
def dkwX3_isDrop_0 : List UInt8 := [42, 27, 28, 182, 0, 208, 5, 112, 4, 160, 0, 7, 4, 167, 0, 4, 3, 172]
abbrev dktX3_isDrop_0 : List UInt8 := dkwX3_isDrop_0 ++ []
theorem dksX3_isDrop_0 : cX3_isDrop.data.toList.drop 0 = dktX3_isDrop_0 := by decide +kernel
theorem dX3_isDrop_0 : decode cX3_isDrop 0 = .ok (.aload_n 0, 1) := dk_42 (dk_at dksX3_isDrop_0 0 rfl rfl)
theorem dX3_isDrop_1 : decode cX3_isDrop 1 = .ok (.iload_n 1, 1) := dk_27 (dk_at dksX3_isDrop_0 1 rfl rfl)
theorem dX3_isDrop_2 : decode cX3_isDrop 2 = .ok (.iload_n 2, 1) := dk_28 (dk_at dksX3_isDrop_0 2 rfl rfl)
theorem dX3_isDrop_3 : decode cX3_isDrop 3 = .ok (.invokevirtual 208, 3) := dk_182 0 208 (dk_at dksX3_isDrop_0 3 rfl rfl)
theorem dX3_isDrop_6 : decode cX3_isDrop 6 = .ok (.iconst 2, 1) := dk_5 (dk_at dksX3_isDrop_0 6 rfl rfl)
theorem dX3_isDrop_7 : decode cX3_isDrop 7 = .ok (.irem, 1) := dk_112 (dk_at dksX3_isDrop_0 7 rfl rfl)
theorem dX3_isDrop_8 : decode cX3_isDrop 8 = .ok (.iconst 1, 1) := dk_4 (dk_at dksX3_isDrop_0 8 rfl rfl)
theorem dX3_isDrop_9 : decode cX3_isDrop 9 = .ok (.if_icmp .ne 7, 3) := dk_160 0 7 (dk_at dksX3_isDrop_0 9 rfl rfl)
theorem dX3_isDrop_12 : decode cX3_isDrop 12 = .ok (.iconst 1, 1) := dk_4 (dk_at dksX3_isDrop_0 12 rfl rfl)
theorem dX3_isDrop_13 : decode cX3_isDrop 13 = .ok (.goto 4, 3) := dk_167 0 4 (dk_at dksX3_isDrop_0 13 rfl rfl)
theorem dX3_isDrop_16 : decode cX3_isDrop 16 = .ok (.iconst 0, 1) := dk_3 (dk_at dksX3_isDrop_0 16 rfl rfl)
theorem dX3_isDrop_17 : decode cX3_isDrop 17 = .ok (.ireturn, 1) := dk_172 (dk_at dksX3_isDrop_0 17 rfl rfl)
abbrev cX3_startsWalk : ByteArray := prog_23_method_58_code
def yX3_startsWalk : MethodName := ⟨RX3, "startsWalk", "(II)V"⟩
def dkwX3_startsWalk_6 : List UInt8 := [79, 132, 3, 1, 167, 255, 222, 177]
abbrev dktX3_startsWalk_6 : List UInt8 := dkwX3_startsWalk_6 ++ []
def dkwX3_startsWalk_5 : List UInt8 := [27, 29, 182, 0, 222, 154, 0, 20, 42, 180, 0, 36, 42, 27, 29, 182, 0, 216, 42, 27, 29, 182, 0, 239]
abbrev dktX3_startsWalk_5 : List UInt8 := dkwX3_startsWalk_5 ++ dktX3_startsWalk_6
def dkwX3_startsWalk_4 : List UInt8 := [181, 1, 31, 42, 42, 27, 28, 4, 100, 4, 182, 1, 3, 181, 1, 34, 3, 62, 29, 28, 162, 0, 35, 42]
abbrev dktX3_startsWalk_4 : List UInt8 := dkwX3_startsWalk_4 ++ dktX3_startsWalk_5
def dkwX3_startsWalk_3 : List UInt8 := [42, 42, 27, 28, 4, 100, 182, 0, 229, 181, 1, 28, 42, 42, 27, 28, 4, 100, 3, 182, 1, 3]
abbrev dktX3_startsWalk_3 : List UInt8 := dkwX3_startsWalk_3 ++ dktX3_startsWalk_4
def dkwX3_startsWalk_2 : List UInt8 := [3, 46, 167, 0, 7, 42, 180, 1, 22, 181, 1, 22, 42, 42, 27, 28, 4, 100, 182, 0, 226, 181, 1, 25]
abbrev dktX3_startsWalk_2 : List UInt8 := dkwX3_startsWalk_2 ++ dktX3_startsWalk_3
def dkwX3_startsWalk_1 : List UInt8 := [182, 0, 239, 181, 1, 22, 42, 42, 180, 0, 7, 3, 46, 42, 180, 1, 22, 164, 0, 12, 42, 180, 0, 7]
abbrev dktX3_startsWalk_1 : List UInt8 := dkwX3_startsWalk_1 ++ dktX3_startsWalk_2
def dkwX3_startsWalk_0 : List UInt8 := [42, 27, 181, 1, 19, 42, 28, 154, 0, 12, 42, 27, 7, 182, 0, 192, 167, 0, 11, 42, 27, 28, 4, 100]
abbrev dktX3_startsWalk_0 : List UInt8 := dkwX3_startsWalk_0 ++ dktX3_startsWalk_1
theorem dksX3_startsWalk_0 : cX3_startsWalk.data.toList.drop 0 = dktX3_startsWalk_0 := by decide +kernel
theorem dksX3_startsWalk_1 : cX3_startsWalk.data.toList.drop 24 = dktX3_startsWalk_1 := dk_seg dksX3_startsWalk_0 24 rfl rfl
theorem dksX3_startsWalk_2 : cX3_startsWalk.data.toList.drop 48 = dktX3_startsWalk_2 := dk_seg dksX3_startsWalk_1 24 rfl rfl
theorem dksX3_startsWalk_3 : cX3_startsWalk.data.toList.drop 72 = dktX3_startsWalk_3 := dk_seg dksX3_startsWalk_2 24 rfl rfl
theorem dksX3_startsWalk_4 : cX3_startsWalk.data.toList.drop 94 = dktX3_startsWalk_4 := dk_seg dksX3_startsWalk_3 22 rfl rfl
theorem dksX3_startsWalk_5 : cX3_startsWalk.data.toList.drop 118 = dktX3_startsWalk_5 := dk_seg dksX3_startsWalk_4 24 rfl rfl
theorem dksX3_startsWalk_6 : cX3_startsWalk.data.toList.drop 142 = dktX3_startsWalk_6 := dk_seg dksX3_startsWalk_5 24 rfl rfl
theorem dX3_startsWalk_0 : decode cX3_startsWalk 0 = .ok (.aload_n 0, 1) := dk_42 (dk_at dksX3_startsWalk_0 0 rfl rfl)
theorem dX3_startsWalk_1 : decode cX3_startsWalk 1 = .ok (.iload_n 1, 1) := dk_27 (dk_at dksX3_startsWalk_0 1 rfl rfl)
theorem dX3_startsWalk_2 : decode cX3_startsWalk 2 = .ok (.putfield 275, 3) := dk_181 1 19 (dk_at dksX3_startsWalk_0 2 rfl rfl)
theorem dX3_startsWalk_5 : decode cX3_startsWalk 5 = .ok (.aload_n 0, 1) := dk_42 (dk_at dksX3_startsWalk_0 5 rfl rfl)
theorem dX3_startsWalk_6 : decode cX3_startsWalk 6 = .ok (.iload_n 2, 1) := dk_28 (dk_at dksX3_startsWalk_0 6 rfl rfl)
theorem dX3_startsWalk_7 : decode cX3_startsWalk 7 = .ok (.ifCond .ne 12, 3) := dk_154 0 12 (dk_at dksX3_startsWalk_0 7 rfl rfl)
theorem dX3_startsWalk_10 : decode cX3_startsWalk 10 = .ok (.aload_n 0, 1) := dk_42 (dk_at dksX3_startsWalk_0 10 rfl rfl)
theorem dX3_startsWalk_11 : decode cX3_startsWalk 11 = .ok (.iload_n 1, 1) := dk_27 (dk_at dksX3_startsWalk_0 11 rfl rfl)
theorem dX3_startsWalk_12 : decode cX3_startsWalk 12 = .ok (.iconst 4, 1) := dk_7 (dk_at dksX3_startsWalk_0 12 rfl rfl)
theorem dX3_startsWalk_13 : decode cX3_startsWalk 13 = .ok (.invokevirtual 192, 3) := dk_182 0 192 (dk_at dksX3_startsWalk_0 13 rfl rfl)
theorem dX3_startsWalk_16 : decode cX3_startsWalk 16 = .ok (.goto 11, 3) := dk_167 0 11 (dk_at dksX3_startsWalk_0 16 rfl rfl)
theorem dX3_startsWalk_19 : decode cX3_startsWalk 19 = .ok (.aload_n 0, 1) := dk_42 (dk_at dksX3_startsWalk_0 19 rfl rfl)
theorem dX3_startsWalk_20 : decode cX3_startsWalk 20 = .ok (.iload_n 1, 1) := dk_27 (dk_at dksX3_startsWalk_0 20 rfl rfl)
theorem dX3_startsWalk_21 : decode cX3_startsWalk 21 = .ok (.iload_n 2, 1) := dk_28 (dk_at dksX3_startsWalk_0 21 rfl rfl)
theorem dX3_startsWalk_22 : decode cX3_startsWalk 22 = .ok (.iconst 1, 1) := dk_4 (dk_at dksX3_startsWalk_0 22 rfl rfl)
theorem dX3_startsWalk_23 : decode cX3_startsWalk 23 = .ok (.isub, 1) := dk_100 (dk_at dksX3_startsWalk_0 23 rfl rfl)
theorem dX3_startsWalk_24 : decode cX3_startsWalk 24 = .ok (.invokevirtual 239, 3) := dk_182 0 239 (dk_at dksX3_startsWalk_1 0 rfl rfl)
theorem dX3_startsWalk_27 : decode cX3_startsWalk 27 = .ok (.putfield 278, 3) := dk_181 1 22 (dk_at dksX3_startsWalk_1 3 rfl rfl)
theorem dX3_startsWalk_30 : decode cX3_startsWalk 30 = .ok (.aload_n 0, 1) := dk_42 (dk_at dksX3_startsWalk_1 6 rfl rfl)
theorem dX3_startsWalk_31 : decode cX3_startsWalk 31 = .ok (.aload_n 0, 1) := dk_42 (dk_at dksX3_startsWalk_1 7 rfl rfl)
theorem dX3_startsWalk_32 : decode cX3_startsWalk 32 = .ok (.getfield 7, 3) := dk_180 0 7 (dk_at dksX3_startsWalk_1 8 rfl rfl)
theorem dX3_startsWalk_35 : decode cX3_startsWalk 35 = .ok (.iconst 0, 1) := dk_3 (dk_at dksX3_startsWalk_1 11 rfl rfl)
theorem dX3_startsWalk_36 : decode cX3_startsWalk 36 = .ok (.iaload, 1) := dk_46 (dk_at dksX3_startsWalk_1 12 rfl rfl)
theorem dX3_startsWalk_37 : decode cX3_startsWalk 37 = .ok (.aload_n 0, 1) := dk_42 (dk_at dksX3_startsWalk_1 13 rfl rfl)
theorem dX3_startsWalk_38 : decode cX3_startsWalk 38 = .ok (.getfield 278, 3) := dk_180 1 22 (dk_at dksX3_startsWalk_1 14 rfl rfl)
theorem dX3_startsWalk_41 : decode cX3_startsWalk 41 = .ok (.if_icmp .le 12, 3) := dk_164 0 12 (dk_at dksX3_startsWalk_1 17 rfl rfl)
theorem dX3_startsWalk_44 : decode cX3_startsWalk 44 = .ok (.aload_n 0, 1) := dk_42 (dk_at dksX3_startsWalk_1 20 rfl rfl)
theorem dX3_startsWalk_45 : decode cX3_startsWalk 45 = .ok (.getfield 7, 3) := dk_180 0 7 (dk_at dksX3_startsWalk_1 21 rfl rfl)
theorem dX3_startsWalk_48 : decode cX3_startsWalk 48 = .ok (.iconst 0, 1) := dk_3 (dk_at dksX3_startsWalk_2 0 rfl rfl)
theorem dX3_startsWalk_49 : decode cX3_startsWalk 49 = .ok (.iaload, 1) := dk_46 (dk_at dksX3_startsWalk_2 1 rfl rfl)
theorem dX3_startsWalk_50 : decode cX3_startsWalk 50 = .ok (.goto 7, 3) := dk_167 0 7 (dk_at dksX3_startsWalk_2 2 rfl rfl)
theorem dX3_startsWalk_53 : decode cX3_startsWalk 53 = .ok (.aload_n 0, 1) := dk_42 (dk_at dksX3_startsWalk_2 5 rfl rfl)
theorem dX3_startsWalk_54 : decode cX3_startsWalk 54 = .ok (.getfield 278, 3) := dk_180 1 22 (dk_at dksX3_startsWalk_2 6 rfl rfl)
theorem dX3_startsWalk_57 : decode cX3_startsWalk 57 = .ok (.putfield 278, 3) := dk_181 1 22 (dk_at dksX3_startsWalk_2 9 rfl rfl)
theorem dX3_startsWalk_60 : decode cX3_startsWalk 60 = .ok (.aload_n 0, 1) := dk_42 (dk_at dksX3_startsWalk_2 12 rfl rfl)
theorem dX3_startsWalk_61 : decode cX3_startsWalk 61 = .ok (.aload_n 0, 1) := dk_42 (dk_at dksX3_startsWalk_2 13 rfl rfl)
theorem dX3_startsWalk_62 : decode cX3_startsWalk 62 = .ok (.iload_n 1, 1) := dk_27 (dk_at dksX3_startsWalk_2 14 rfl rfl)
theorem dX3_startsWalk_63 : decode cX3_startsWalk 63 = .ok (.iload_n 2, 1) := dk_28 (dk_at dksX3_startsWalk_2 15 rfl rfl)
theorem dX3_startsWalk_64 : decode cX3_startsWalk 64 = .ok (.iconst 1, 1) := dk_4 (dk_at dksX3_startsWalk_2 16 rfl rfl)
theorem dX3_startsWalk_65 : decode cX3_startsWalk 65 = .ok (.isub, 1) := dk_100 (dk_at dksX3_startsWalk_2 17 rfl rfl)
theorem dX3_startsWalk_66 : decode cX3_startsWalk 66 = .ok (.invokevirtual 226, 3) := dk_182 0 226 (dk_at dksX3_startsWalk_2 18 rfl rfl)
theorem dX3_startsWalk_69 : decode cX3_startsWalk 69 = .ok (.putfield 281, 3) := dk_181 1 25 (dk_at dksX3_startsWalk_2 21 rfl rfl)
theorem dX3_startsWalk_72 : decode cX3_startsWalk 72 = .ok (.aload_n 0, 1) := dk_42 (dk_at dksX3_startsWalk_3 0 rfl rfl)
theorem dX3_startsWalk_73 : decode cX3_startsWalk 73 = .ok (.aload_n 0, 1) := dk_42 (dk_at dksX3_startsWalk_3 1 rfl rfl)
theorem dX3_startsWalk_74 : decode cX3_startsWalk 74 = .ok (.iload_n 1, 1) := dk_27 (dk_at dksX3_startsWalk_3 2 rfl rfl)
theorem dX3_startsWalk_75 : decode cX3_startsWalk 75 = .ok (.iload_n 2, 1) := dk_28 (dk_at dksX3_startsWalk_3 3 rfl rfl)
theorem dX3_startsWalk_76 : decode cX3_startsWalk 76 = .ok (.iconst 1, 1) := dk_4 (dk_at dksX3_startsWalk_3 4 rfl rfl)
theorem dX3_startsWalk_77 : decode cX3_startsWalk 77 = .ok (.isub, 1) := dk_100 (dk_at dksX3_startsWalk_3 5 rfl rfl)
theorem dX3_startsWalk_78 : decode cX3_startsWalk 78 = .ok (.invokevirtual 229, 3) := dk_182 0 229 (dk_at dksX3_startsWalk_3 6 rfl rfl)
theorem dX3_startsWalk_81 : decode cX3_startsWalk 81 = .ok (.putfield 284, 3) := dk_181 1 28 (dk_at dksX3_startsWalk_3 9 rfl rfl)
theorem dX3_startsWalk_84 : decode cX3_startsWalk 84 = .ok (.aload_n 0, 1) := dk_42 (dk_at dksX3_startsWalk_3 12 rfl rfl)
theorem dX3_startsWalk_85 : decode cX3_startsWalk 85 = .ok (.aload_n 0, 1) := dk_42 (dk_at dksX3_startsWalk_3 13 rfl rfl)
theorem dX3_startsWalk_86 : decode cX3_startsWalk 86 = .ok (.iload_n 1, 1) := dk_27 (dk_at dksX3_startsWalk_3 14 rfl rfl)
theorem dX3_startsWalk_87 : decode cX3_startsWalk 87 = .ok (.iload_n 2, 1) := dk_28 (dk_at dksX3_startsWalk_3 15 rfl rfl)
theorem dX3_startsWalk_88 : decode cX3_startsWalk 88 = .ok (.iconst 1, 1) := dk_4 (dk_at dksX3_startsWalk_3 16 rfl rfl)
theorem dX3_startsWalk_89 : decode cX3_startsWalk 89 = .ok (.isub, 1) := dk_100 (dk_at dksX3_startsWalk_3 17 rfl rfl)
theorem dX3_startsWalk_90 : decode cX3_startsWalk 90 = .ok (.iconst 0, 1) := dk_3 (dk_at dksX3_startsWalk_3 18 rfl rfl)
theorem dX3_startsWalk_91 : decode cX3_startsWalk 91 = .ok (.invokevirtual 259, 3) := dk_182 1 3 (dk_at dksX3_startsWalk_3 19 rfl rfl)
theorem dX3_startsWalk_94 : decode cX3_startsWalk 94 = .ok (.putfield 287, 3) := dk_181 1 31 (dk_at dksX3_startsWalk_4 0 rfl rfl)
theorem dX3_startsWalk_97 : decode cX3_startsWalk 97 = .ok (.aload_n 0, 1) := dk_42 (dk_at dksX3_startsWalk_4 3 rfl rfl)
theorem dX3_startsWalk_98 : decode cX3_startsWalk 98 = .ok (.aload_n 0, 1) := dk_42 (dk_at dksX3_startsWalk_4 4 rfl rfl)
theorem dX3_startsWalk_99 : decode cX3_startsWalk 99 = .ok (.iload_n 1, 1) := dk_27 (dk_at dksX3_startsWalk_4 5 rfl rfl)
theorem dX3_startsWalk_100 : decode cX3_startsWalk 100 = .ok (.iload_n 2, 1) := dk_28 (dk_at dksX3_startsWalk_4 6 rfl rfl)
theorem dX3_startsWalk_101 : decode cX3_startsWalk 101 = .ok (.iconst 1, 1) := dk_4 (dk_at dksX3_startsWalk_4 7 rfl rfl)
theorem dX3_startsWalk_102 : decode cX3_startsWalk 102 = .ok (.isub, 1) := dk_100 (dk_at dksX3_startsWalk_4 8 rfl rfl)
theorem dX3_startsWalk_103 : decode cX3_startsWalk 103 = .ok (.iconst 1, 1) := dk_4 (dk_at dksX3_startsWalk_4 9 rfl rfl)
theorem dX3_startsWalk_104 : decode cX3_startsWalk 104 = .ok (.invokevirtual 259, 3) := dk_182 1 3 (dk_at dksX3_startsWalk_4 10 rfl rfl)
theorem dX3_startsWalk_107 : decode cX3_startsWalk 107 = .ok (.putfield 290, 3) := dk_181 1 34 (dk_at dksX3_startsWalk_4 13 rfl rfl)
theorem dX3_startsWalk_110 : decode cX3_startsWalk 110 = .ok (.iconst 0, 1) := dk_3 (dk_at dksX3_startsWalk_4 16 rfl rfl)
theorem dX3_startsWalk_111 : decode cX3_startsWalk 111 = .ok (.istore_n 3, 1) := dk_62 (dk_at dksX3_startsWalk_4 17 rfl rfl)
theorem dX3_startsWalk_112 : decode cX3_startsWalk 112 = .ok (.iload_n 3, 1) := dk_29 (dk_at dksX3_startsWalk_4 18 rfl rfl)
theorem dX3_startsWalk_113 : decode cX3_startsWalk 113 = .ok (.iload_n 2, 1) := dk_28 (dk_at dksX3_startsWalk_4 19 rfl rfl)
theorem dX3_startsWalk_114 : decode cX3_startsWalk 114 = .ok (.if_icmp .ge 35, 3) := dk_162 0 35 (dk_at dksX3_startsWalk_4 20 rfl rfl)
theorem dX3_startsWalk_117 : decode cX3_startsWalk 117 = .ok (.aload_n 0, 1) := dk_42 (dk_at dksX3_startsWalk_4 23 rfl rfl)
theorem dX3_startsWalk_118 : decode cX3_startsWalk 118 = .ok (.iload_n 1, 1) := dk_27 (dk_at dksX3_startsWalk_5 0 rfl rfl)
theorem dX3_startsWalk_119 : decode cX3_startsWalk 119 = .ok (.iload_n 3, 1) := dk_29 (dk_at dksX3_startsWalk_5 1 rfl rfl)
theorem dX3_startsWalk_120 : decode cX3_startsWalk 120 = .ok (.invokevirtual 222, 3) := dk_182 0 222 (dk_at dksX3_startsWalk_5 2 rfl rfl)
theorem dX3_startsWalk_123 : decode cX3_startsWalk 123 = .ok (.ifCond .ne 20, 3) := dk_154 0 20 (dk_at dksX3_startsWalk_5 5 rfl rfl)
theorem dX3_startsWalk_126 : decode cX3_startsWalk 126 = .ok (.aload_n 0, 1) := dk_42 (dk_at dksX3_startsWalk_5 8 rfl rfl)
theorem dX3_startsWalk_127 : decode cX3_startsWalk 127 = .ok (.getfield 36, 3) := dk_180 0 36 (dk_at dksX3_startsWalk_5 9 rfl rfl)
theorem dX3_startsWalk_130 : decode cX3_startsWalk 130 = .ok (.aload_n 0, 1) := dk_42 (dk_at dksX3_startsWalk_5 12 rfl rfl)
theorem dX3_startsWalk_131 : decode cX3_startsWalk 131 = .ok (.iload_n 1, 1) := dk_27 (dk_at dksX3_startsWalk_5 13 rfl rfl)
theorem dX3_startsWalk_132 : decode cX3_startsWalk 132 = .ok (.iload_n 3, 1) := dk_29 (dk_at dksX3_startsWalk_5 14 rfl rfl)
theorem dX3_startsWalk_133 : decode cX3_startsWalk 133 = .ok (.invokevirtual 216, 3) := dk_182 0 216 (dk_at dksX3_startsWalk_5 15 rfl rfl)
theorem dX3_startsWalk_136 : decode cX3_startsWalk 136 = .ok (.aload_n 0, 1) := dk_42 (dk_at dksX3_startsWalk_5 18 rfl rfl)
theorem dX3_startsWalk_137 : decode cX3_startsWalk 137 = .ok (.iload_n 1, 1) := dk_27 (dk_at dksX3_startsWalk_5 19 rfl rfl)
theorem dX3_startsWalk_138 : decode cX3_startsWalk 138 = .ok (.iload_n 3, 1) := dk_29 (dk_at dksX3_startsWalk_5 20 rfl rfl)
theorem dX3_startsWalk_139 : decode cX3_startsWalk 139 = .ok (.invokevirtual 239, 3) := dk_182 0 239 (dk_at dksX3_startsWalk_5 21 rfl rfl)
theorem dX3_startsWalk_142 : decode cX3_startsWalk 142 = .ok (.iastore, 1) := dk_79 (dk_at dksX3_startsWalk_6 0 rfl rfl)
theorem dX3_startsWalk_143 : decode cX3_startsWalk 143 = .ok (.iinc 3 1, 3) := dk_132 3 1 (dk_at dksX3_startsWalk_6 1 rfl rfl)
theorem dX3_startsWalk_146 : decode cX3_startsWalk 146 = .ok (.goto (-34), 3) := dk_167 255 222 (dk_at dksX3_startsWalk_6 4 rfl rfl)
theorem dX3_startsWalk_149 : decode cX3_startsWalk 149 = .ok (.return_, 1) := dk_177 (dk_at dksX3_startsWalk_6 7 rfl rfl)
abbrev cX3_finished : ByteArray := prog_23_method_38_code
def yX3_finished : MethodName := ⟨RX3, "finished", "(II)I"⟩
def dkwX3_finished_0 : List UInt8 := [42, 27, 28, 182, 0, 213, 42, 42, 27, 28, 182, 0, 216, 182, 0, 219, 96, 172]
abbrev dktX3_finished_0 : List UInt8 := dkwX3_finished_0 ++ []
theorem dksX3_finished_0 : cX3_finished.data.toList.drop 0 = dktX3_finished_0 := by decide +kernel
theorem dX3_finished_0 : decode cX3_finished 0 = .ok (.aload_n 0, 1) := dk_42 (dk_at dksX3_finished_0 0 rfl rfl)
theorem dX3_finished_1 : decode cX3_finished 1 = .ok (.iload_n 1, 1) := dk_27 (dk_at dksX3_finished_0 1 rfl rfl)
theorem dX3_finished_2 : decode cX3_finished 2 = .ok (.iload_n 2, 1) := dk_28 (dk_at dksX3_finished_0 2 rfl rfl)
theorem dX3_finished_3 : decode cX3_finished 3 = .ok (.invokevirtual 213, 3) := dk_182 0 213 (dk_at dksX3_finished_0 3 rfl rfl)
theorem dX3_finished_6 : decode cX3_finished 6 = .ok (.aload_n 0, 1) := dk_42 (dk_at dksX3_finished_0 6 rfl rfl)
theorem dX3_finished_7 : decode cX3_finished 7 = .ok (.aload_n 0, 1) := dk_42 (dk_at dksX3_finished_0 7 rfl rfl)
theorem dX3_finished_8 : decode cX3_finished 8 = .ok (.iload_n 1, 1) := dk_27 (dk_at dksX3_finished_0 8 rfl rfl)
theorem dX3_finished_9 : decode cX3_finished 9 = .ok (.iload_n 2, 1) := dk_28 (dk_at dksX3_finished_0 9 rfl rfl)
theorem dX3_finished_10 : decode cX3_finished 10 = .ok (.invokevirtual 216, 3) := dk_182 0 216 (dk_at dksX3_finished_0 10 rfl rfl)
theorem dX3_finished_13 : decode cX3_finished 13 = .ok (.invokevirtual 219, 3) := dk_182 0 219 (dk_at dksX3_finished_0 13 rfl rfl)
theorem dX3_finished_16 : decode cX3_finished 16 = .ok (.iadd, 1) := dk_96 (dk_at dksX3_finished_0 16 rfl rfl)
theorem dX3_finished_17 : decode cX3_finished 17 = .ok (.ireturn, 1) := dk_172 (dk_at dksX3_finished_0 17 rfl rfl)
abbrev cX3_begin : ByteArray := prog_23_method_36_code
def yX3_begin : MethodName := ⟨RX3, "begin", "(II)I"⟩
def dkwX3_begin_0 : List UInt8 := [42, 180, 0, 7, 27, 28, 5, 184, 0, 204, 46, 172]
abbrev dktX3_begin_0 : List UInt8 := dkwX3_begin_0 ++ []
theorem dksX3_begin_0 : cX3_begin.data.toList.drop 0 = dktX3_begin_0 := by decide +kernel
theorem dX3_begin_0 : decode cX3_begin 0 = .ok (.aload_n 0, 1) := dk_42 (dk_at dksX3_begin_0 0 rfl rfl)
theorem dX3_begin_1 : decode cX3_begin 1 = .ok (.getfield 7, 3) := dk_180 0 7 (dk_at dksX3_begin_0 1 rfl rfl)
theorem dX3_begin_4 : decode cX3_begin 4 = .ok (.iload_n 1, 1) := dk_27 (dk_at dksX3_begin_0 4 rfl rfl)
theorem dX3_begin_5 : decode cX3_begin 5 = .ok (.iload_n 2, 1) := dk_28 (dk_at dksX3_begin_0 5 rfl rfl)
theorem dX3_begin_6 : decode cX3_begin 6 = .ok (.iconst 2, 1) := dk_5 (dk_at dksX3_begin_0 6 rfl rfl)
theorem dX3_begin_7 : decode cX3_begin 7 = .ok (.invokestatic 204, 3) := dk_184 0 204 (dk_at dksX3_begin_0 7 rfl rfl)
theorem dX3_begin_10 : decode cX3_begin 10 = .ok (.iaload, 1) := dk_46 (dk_at dksX3_begin_0 10 rfl rfl)
theorem dX3_begin_11 : decode cX3_begin 11 = .ok (.ireturn, 1) := dk_172 (dk_at dksX3_begin_0 11 rfl rfl)
abbrev cX3_service : ByteArray := prog_23_method_37_code
def yX3_service : MethodName := ⟨RX3, "service", "(I)I"⟩
def dkwX3_service_1 : List UInt8 := [172]
abbrev dktX3_service_1 : List UInt8 := dkwX3_service_1 ++ []
def dkwX3_service_0 : List UInt8 := [42, 27, 7, 182, 0, 211, 154, 0, 12, 42, 180, 0, 33, 6, 46, 167, 0, 9, 42, 180, 0, 33, 7, 46]
abbrev dktX3_service_0 : List UInt8 := dkwX3_service_0 ++ dktX3_service_1
theorem dksX3_service_0 : cX3_service.data.toList.drop 0 = dktX3_service_0 := by decide +kernel
theorem dksX3_service_1 : cX3_service.data.toList.drop 24 = dktX3_service_1 := dk_seg dksX3_service_0 24 rfl rfl
theorem dX3_service_0 : decode cX3_service 0 = .ok (.aload_n 0, 1) := dk_42 (dk_at dksX3_service_0 0 rfl rfl)
theorem dX3_service_1 : decode cX3_service 1 = .ok (.iload_n 1, 1) := dk_27 (dk_at dksX3_service_0 1 rfl rfl)
theorem dX3_service_2 : decode cX3_service 2 = .ok (.iconst 4, 1) := dk_7 (dk_at dksX3_service_0 2 rfl rfl)
theorem dX3_service_3 : decode cX3_service 3 = .ok (.invokevirtual 211, 3) := dk_182 0 211 (dk_at dksX3_service_0 3 rfl rfl)
theorem dX3_service_6 : decode cX3_service 6 = .ok (.ifCond .ne 12, 3) := dk_154 0 12 (dk_at dksX3_service_0 6 rfl rfl)
theorem dX3_service_9 : decode cX3_service 9 = .ok (.aload_n 0, 1) := dk_42 (dk_at dksX3_service_0 9 rfl rfl)
theorem dX3_service_10 : decode cX3_service 10 = .ok (.getfield 33, 3) := dk_180 0 33 (dk_at dksX3_service_0 10 rfl rfl)
theorem dX3_service_13 : decode cX3_service 13 = .ok (.iconst 3, 1) := dk_6 (dk_at dksX3_service_0 13 rfl rfl)
theorem dX3_service_14 : decode cX3_service 14 = .ok (.iaload, 1) := dk_46 (dk_at dksX3_service_0 14 rfl rfl)
theorem dX3_service_15 : decode cX3_service 15 = .ok (.goto 9, 3) := dk_167 0 9 (dk_at dksX3_service_0 15 rfl rfl)
theorem dX3_service_18 : decode cX3_service 18 = .ok (.aload_n 0, 1) := dk_42 (dk_at dksX3_service_0 18 rfl rfl)
theorem dX3_service_19 : decode cX3_service 19 = .ok (.getfield 33, 3) := dk_180 0 33 (dk_at dksX3_service_0 19 rfl rfl)
theorem dX3_service_22 : decode cX3_service 22 = .ok (.iconst 4, 1) := dk_7 (dk_at dksX3_service_0 22 rfl rfl)
theorem dX3_service_23 : decode cX3_service 23 = .ok (.iaload, 1) := dk_46 (dk_at dksX3_service_0 23 rfl rfl)
theorem dX3_service_24 : decode cX3_service 24 = .ok (.ireturn, 1) := dk_172 (dk_at dksX3_service_1 0 rfl rfl)
abbrev cX3_xAt : ByteArray := prog_23_method_39_code
def yX3_xAt : MethodName := ⟨RX3, "xAt", "(II)I"⟩
def dkwX3_xAt_2 : List UInt8 := [182, 0, 211, 172]
abbrev dktX3_xAt_2 : List UInt8 := dkwX3_xAt_2 ++ []
def dkwX3_xAt_1 : List UInt8 := [167, 0, 27, 42, 42, 27, 28, 182, 0, 216, 42, 27, 28, 182, 0, 222, 153, 0, 7, 5, 167, 0, 4, 3]
abbrev dktX3_xAt_1 : List UInt8 := dkwX3_xAt_1 ++ dktX3_xAt_2
def dkwX3_xAt_0 : List UInt8 := [28, 155, 0, 16, 28, 42, 180, 0, 7, 16, 6, 27, 96, 46, 161, 0, 12, 42, 27, 3, 182, 0, 192]
abbrev dktX3_xAt_0 : List UInt8 := dkwX3_xAt_0 ++ dktX3_xAt_1
theorem dksX3_xAt_0 : cX3_xAt.data.toList.drop 0 = dktX3_xAt_0 := by decide +kernel
theorem dksX3_xAt_1 : cX3_xAt.data.toList.drop 23 = dktX3_xAt_1 := dk_seg dksX3_xAt_0 23 rfl rfl
theorem dksX3_xAt_2 : cX3_xAt.data.toList.drop 47 = dktX3_xAt_2 := dk_seg dksX3_xAt_1 24 rfl rfl
theorem dX3_xAt_0 : decode cX3_xAt 0 = .ok (.iload_n 2, 1) := dk_28 (dk_at dksX3_xAt_0 0 rfl rfl)
theorem dX3_xAt_1 : decode cX3_xAt 1 = .ok (.ifCond .lt 16, 3) := dk_155 0 16 (dk_at dksX3_xAt_0 1 rfl rfl)
theorem dX3_xAt_4 : decode cX3_xAt 4 = .ok (.iload_n 2, 1) := dk_28 (dk_at dksX3_xAt_0 4 rfl rfl)
theorem dX3_xAt_5 : decode cX3_xAt 5 = .ok (.aload_n 0, 1) := dk_42 (dk_at dksX3_xAt_0 5 rfl rfl)
theorem dX3_xAt_6 : decode cX3_xAt 6 = .ok (.getfield 7, 3) := dk_180 0 7 (dk_at dksX3_xAt_0 6 rfl rfl)
theorem dX3_xAt_9 : decode cX3_xAt 9 = .ok (.bipush 6, 2) := dk_16 6 (dk_at dksX3_xAt_0 9 rfl rfl)
theorem dX3_xAt_11 : decode cX3_xAt 11 = .ok (.iload_n 1, 1) := dk_27 (dk_at dksX3_xAt_0 11 rfl rfl)
theorem dX3_xAt_12 : decode cX3_xAt 12 = .ok (.iadd, 1) := dk_96 (dk_at dksX3_xAt_0 12 rfl rfl)
theorem dX3_xAt_13 : decode cX3_xAt 13 = .ok (.iaload, 1) := dk_46 (dk_at dksX3_xAt_0 13 rfl rfl)
theorem dX3_xAt_14 : decode cX3_xAt 14 = .ok (.if_icmp .lt 12, 3) := dk_161 0 12 (dk_at dksX3_xAt_0 14 rfl rfl)
theorem dX3_xAt_17 : decode cX3_xAt 17 = .ok (.aload_n 0, 1) := dk_42 (dk_at dksX3_xAt_0 17 rfl rfl)
theorem dX3_xAt_18 : decode cX3_xAt 18 = .ok (.iload_n 1, 1) := dk_27 (dk_at dksX3_xAt_0 18 rfl rfl)
theorem dX3_xAt_19 : decode cX3_xAt 19 = .ok (.iconst 0, 1) := dk_3 (dk_at dksX3_xAt_0 19 rfl rfl)
theorem dX3_xAt_20 : decode cX3_xAt 20 = .ok (.invokevirtual 192, 3) := dk_182 0 192 (dk_at dksX3_xAt_0 20 rfl rfl)
theorem dX3_xAt_23 : decode cX3_xAt 23 = .ok (.goto 27, 3) := dk_167 0 27 (dk_at dksX3_xAt_1 0 rfl rfl)
theorem dX3_xAt_26 : decode cX3_xAt 26 = .ok (.aload_n 0, 1) := dk_42 (dk_at dksX3_xAt_1 3 rfl rfl)
theorem dX3_xAt_27 : decode cX3_xAt 27 = .ok (.aload_n 0, 1) := dk_42 (dk_at dksX3_xAt_1 4 rfl rfl)
theorem dX3_xAt_28 : decode cX3_xAt 28 = .ok (.iload_n 1, 1) := dk_27 (dk_at dksX3_xAt_1 5 rfl rfl)
theorem dX3_xAt_29 : decode cX3_xAt 29 = .ok (.iload_n 2, 1) := dk_28 (dk_at dksX3_xAt_1 6 rfl rfl)
theorem dX3_xAt_30 : decode cX3_xAt 30 = .ok (.invokevirtual 216, 3) := dk_182 0 216 (dk_at dksX3_xAt_1 7 rfl rfl)
theorem dX3_xAt_33 : decode cX3_xAt 33 = .ok (.aload_n 0, 1) := dk_42 (dk_at dksX3_xAt_1 10 rfl rfl)
theorem dX3_xAt_34 : decode cX3_xAt 34 = .ok (.iload_n 1, 1) := dk_27 (dk_at dksX3_xAt_1 11 rfl rfl)
theorem dX3_xAt_35 : decode cX3_xAt 35 = .ok (.iload_n 2, 1) := dk_28 (dk_at dksX3_xAt_1 12 rfl rfl)
theorem dX3_xAt_36 : decode cX3_xAt 36 = .ok (.invokevirtual 222, 3) := dk_182 0 222 (dk_at dksX3_xAt_1 13 rfl rfl)
theorem dX3_xAt_39 : decode cX3_xAt 39 = .ok (.ifCond .eq 7, 3) := dk_153 0 7 (dk_at dksX3_xAt_1 16 rfl rfl)
theorem dX3_xAt_42 : decode cX3_xAt 42 = .ok (.iconst 2, 1) := dk_5 (dk_at dksX3_xAt_1 19 rfl rfl)
theorem dX3_xAt_43 : decode cX3_xAt 43 = .ok (.goto 4, 3) := dk_167 0 4 (dk_at dksX3_xAt_1 20 rfl rfl)
theorem dX3_xAt_46 : decode cX3_xAt 46 = .ok (.iconst 0, 1) := dk_3 (dk_at dksX3_xAt_1 23 rfl rfl)
theorem dX3_xAt_47 : decode cX3_xAt 47 = .ok (.invokevirtual 211, 3) := dk_182 0 211 (dk_at dksX3_xAt_2 0 rfl rfl)
theorem dX3_xAt_50 : decode cX3_xAt 50 = .ok (.ireturn, 1) := dk_172 (dk_at dksX3_xAt_2 3 rfl rfl)
abbrev cX3_yAt : ByteArray := prog_23_method_40_code
def yX3_yAt : MethodName := ⟨RX3, "yAt", "(II)I"⟩
def dkwX3_yAt_2 : List UInt8 := [182, 0, 211, 172]
abbrev dktX3_yAt_2 : List UInt8 := dkwX3_yAt_2 ++ []
def dkwX3_yAt_1 : List UInt8 := [167, 0, 27, 42, 42, 27, 28, 182, 0, 216, 42, 27, 28, 182, 0, 222, 153, 0, 7, 6, 167, 0, 4, 4]
abbrev dktX3_yAt_1 : List UInt8 := dkwX3_yAt_1 ++ dktX3_yAt_2
def dkwX3_yAt_0 : List UInt8 := [28, 155, 0, 16, 28, 42, 180, 0, 7, 16, 6, 27, 96, 46, 161, 0, 12, 42, 27, 4, 182, 0, 192]
abbrev dktX3_yAt_0 : List UInt8 := dkwX3_yAt_0 ++ dktX3_yAt_1
theorem dksX3_yAt_0 : cX3_yAt.data.toList.drop 0 = dktX3_yAt_0 := by decide +kernel
theorem dksX3_yAt_1 : cX3_yAt.data.toList.drop 23 = dktX3_yAt_1 := dk_seg dksX3_yAt_0 23 rfl rfl
theorem dksX3_yAt_2 : cX3_yAt.data.toList.drop 47 = dktX3_yAt_2 := dk_seg dksX3_yAt_1 24 rfl rfl
theorem dX3_yAt_0 : decode cX3_yAt 0 = .ok (.iload_n 2, 1) := dk_28 (dk_at dksX3_yAt_0 0 rfl rfl)
theorem dX3_yAt_1 : decode cX3_yAt 1 = .ok (.ifCond .lt 16, 3) := dk_155 0 16 (dk_at dksX3_yAt_0 1 rfl rfl)
theorem dX3_yAt_4 : decode cX3_yAt 4 = .ok (.iload_n 2, 1) := dk_28 (dk_at dksX3_yAt_0 4 rfl rfl)
theorem dX3_yAt_5 : decode cX3_yAt 5 = .ok (.aload_n 0, 1) := dk_42 (dk_at dksX3_yAt_0 5 rfl rfl)
theorem dX3_yAt_6 : decode cX3_yAt 6 = .ok (.getfield 7, 3) := dk_180 0 7 (dk_at dksX3_yAt_0 6 rfl rfl)
theorem dX3_yAt_9 : decode cX3_yAt 9 = .ok (.bipush 6, 2) := dk_16 6 (dk_at dksX3_yAt_0 9 rfl rfl)
theorem dX3_yAt_11 : decode cX3_yAt 11 = .ok (.iload_n 1, 1) := dk_27 (dk_at dksX3_yAt_0 11 rfl rfl)
theorem dX3_yAt_12 : decode cX3_yAt 12 = .ok (.iadd, 1) := dk_96 (dk_at dksX3_yAt_0 12 rfl rfl)
theorem dX3_yAt_13 : decode cX3_yAt 13 = .ok (.iaload, 1) := dk_46 (dk_at dksX3_yAt_0 13 rfl rfl)
theorem dX3_yAt_14 : decode cX3_yAt 14 = .ok (.if_icmp .lt 12, 3) := dk_161 0 12 (dk_at dksX3_yAt_0 14 rfl rfl)
theorem dX3_yAt_17 : decode cX3_yAt 17 = .ok (.aload_n 0, 1) := dk_42 (dk_at dksX3_yAt_0 17 rfl rfl)
theorem dX3_yAt_18 : decode cX3_yAt 18 = .ok (.iload_n 1, 1) := dk_27 (dk_at dksX3_yAt_0 18 rfl rfl)
theorem dX3_yAt_19 : decode cX3_yAt 19 = .ok (.iconst 1, 1) := dk_4 (dk_at dksX3_yAt_0 19 rfl rfl)
theorem dX3_yAt_20 : decode cX3_yAt 20 = .ok (.invokevirtual 192, 3) := dk_182 0 192 (dk_at dksX3_yAt_0 20 rfl rfl)
theorem dX3_yAt_23 : decode cX3_yAt 23 = .ok (.goto 27, 3) := dk_167 0 27 (dk_at dksX3_yAt_1 0 rfl rfl)
theorem dX3_yAt_26 : decode cX3_yAt 26 = .ok (.aload_n 0, 1) := dk_42 (dk_at dksX3_yAt_1 3 rfl rfl)
theorem dX3_yAt_27 : decode cX3_yAt 27 = .ok (.aload_n 0, 1) := dk_42 (dk_at dksX3_yAt_1 4 rfl rfl)
theorem dX3_yAt_28 : decode cX3_yAt 28 = .ok (.iload_n 1, 1) := dk_27 (dk_at dksX3_yAt_1 5 rfl rfl)
theorem dX3_yAt_29 : decode cX3_yAt 29 = .ok (.iload_n 2, 1) := dk_28 (dk_at dksX3_yAt_1 6 rfl rfl)
theorem dX3_yAt_30 : decode cX3_yAt 30 = .ok (.invokevirtual 216, 3) := dk_182 0 216 (dk_at dksX3_yAt_1 7 rfl rfl)
theorem dX3_yAt_33 : decode cX3_yAt 33 = .ok (.aload_n 0, 1) := dk_42 (dk_at dksX3_yAt_1 10 rfl rfl)
theorem dX3_yAt_34 : decode cX3_yAt 34 = .ok (.iload_n 1, 1) := dk_27 (dk_at dksX3_yAt_1 11 rfl rfl)
theorem dX3_yAt_35 : decode cX3_yAt 35 = .ok (.iload_n 2, 1) := dk_28 (dk_at dksX3_yAt_1 12 rfl rfl)
theorem dX3_yAt_36 : decode cX3_yAt 36 = .ok (.invokevirtual 222, 3) := dk_182 0 222 (dk_at dksX3_yAt_1 13 rfl rfl)
theorem dX3_yAt_39 : decode cX3_yAt 39 = .ok (.ifCond .eq 7, 3) := dk_153 0 7 (dk_at dksX3_yAt_1 16 rfl rfl)
theorem dX3_yAt_42 : decode cX3_yAt 42 = .ok (.iconst 3, 1) := dk_6 (dk_at dksX3_yAt_1 19 rfl rfl)
theorem dX3_yAt_43 : decode cX3_yAt 43 = .ok (.goto 4, 3) := dk_167 0 4 (dk_at dksX3_yAt_1 20 rfl rfl)
theorem dX3_yAt_46 : decode cX3_yAt 46 = .ok (.iconst 1, 1) := dk_4 (dk_at dksX3_yAt_1 23 rfl rfl)
theorem dX3_yAt_47 : decode cX3_yAt 47 = .ok (.invokevirtual 211, 3) := dk_182 0 211 (dk_at dksX3_yAt_2 0 rfl rfl)
theorem dX3_yAt_50 : decode cX3_yAt 50 = .ok (.ireturn, 1) := dk_172 (dk_at dksX3_yAt_2 3 rfl rfl)
abbrev cX3_taken : ByteArray := prog_23_method_53_code
def yX3_taken : MethodName := ⟨RX3, "taken", "(IIZ)I"⟩
def dkwX3_taken_4 : List UInt8 := [172]
abbrev dktX3_taken_4 : List UInt8 := dkwX3_taken_4 ++ []
def dkwX3_taken_3 : List UInt8 := [21, 5, 182, 0, 222, 153, 0, 7, 2, 167, 0, 4, 4, 96, 54, 4, 132, 5, 1, 167, 255, 174, 21, 4]
abbrev dktX3_taken_3 : List UInt8 := dkwX3_taken_3 ++ dktX3_taken_4
def dkwX3_taken_2 : List UInt8 := [159, 0, 7, 4, 167, 0, 4, 3, 54, 7, 21, 4, 21, 7, 154, 0, 7, 3, 167, 0, 18, 42, 27]
abbrev dktX3_taken_2 : List UInt8 := dkwX3_taken_2 ++ dktX3_taken_3
def dkwX3_taken_1 : List UInt8 := [54, 6, 29, 153, 0, 16, 21, 6, 158, 0, 7, 4, 167, 0, 18, 3, 167, 0, 14, 21, 6, 4]
abbrev dktX3_taken_1 : List UInt8 := dkwX3_taken_1 ++ dktX3_taken_2
def dkwX3_taken_0 : List UInt8 := [3, 54, 4, 3, 54, 5, 21, 5, 28, 163, 0, 82, 42, 42, 27, 21, 5, 182, 0, 216, 7, 182, 0, 211]
abbrev dktX3_taken_0 : List UInt8 := dkwX3_taken_0 ++ dktX3_taken_1
theorem dksX3_taken_0 : cX3_taken.data.toList.drop 0 = dktX3_taken_0 := by decide +kernel
theorem dksX3_taken_1 : cX3_taken.data.toList.drop 24 = dktX3_taken_1 := dk_seg dksX3_taken_0 24 rfl rfl
theorem dksX3_taken_2 : cX3_taken.data.toList.drop 46 = dktX3_taken_2 := dk_seg dksX3_taken_1 22 rfl rfl
theorem dksX3_taken_3 : cX3_taken.data.toList.drop 69 = dktX3_taken_3 := dk_seg dksX3_taken_2 23 rfl rfl
theorem dksX3_taken_4 : cX3_taken.data.toList.drop 93 = dktX3_taken_4 := dk_seg dksX3_taken_3 24 rfl rfl
theorem dX3_taken_0 : decode cX3_taken 0 = .ok (.iconst 0, 1) := dk_3 (dk_at dksX3_taken_0 0 rfl rfl)
theorem dX3_taken_1 : decode cX3_taken 1 = .ok (.istore 4, 2) := dk_54 4 (dk_at dksX3_taken_0 1 rfl rfl)
theorem dX3_taken_3 : decode cX3_taken 3 = .ok (.iconst 0, 1) := dk_3 (dk_at dksX3_taken_0 3 rfl rfl)
theorem dX3_taken_4 : decode cX3_taken 4 = .ok (.istore 5, 2) := dk_54 5 (dk_at dksX3_taken_0 4 rfl rfl)
theorem dX3_taken_6 : decode cX3_taken 6 = .ok (.iload 5, 2) := dk_21 5 (dk_at dksX3_taken_0 6 rfl rfl)
theorem dX3_taken_8 : decode cX3_taken 8 = .ok (.iload_n 2, 1) := dk_28 (dk_at dksX3_taken_0 8 rfl rfl)
theorem dX3_taken_9 : decode cX3_taken 9 = .ok (.if_icmp .gt 82, 3) := dk_163 0 82 (dk_at dksX3_taken_0 9 rfl rfl)
theorem dX3_taken_12 : decode cX3_taken 12 = .ok (.aload_n 0, 1) := dk_42 (dk_at dksX3_taken_0 12 rfl rfl)
theorem dX3_taken_13 : decode cX3_taken 13 = .ok (.aload_n 0, 1) := dk_42 (dk_at dksX3_taken_0 13 rfl rfl)
theorem dX3_taken_14 : decode cX3_taken 14 = .ok (.iload_n 1, 1) := dk_27 (dk_at dksX3_taken_0 14 rfl rfl)
theorem dX3_taken_15 : decode cX3_taken 15 = .ok (.iload 5, 2) := dk_21 5 (dk_at dksX3_taken_0 15 rfl rfl)
theorem dX3_taken_17 : decode cX3_taken 17 = .ok (.invokevirtual 216, 3) := dk_182 0 216 (dk_at dksX3_taken_0 17 rfl rfl)
theorem dX3_taken_20 : decode cX3_taken 20 = .ok (.iconst 4, 1) := dk_7 (dk_at dksX3_taken_0 20 rfl rfl)
theorem dX3_taken_21 : decode cX3_taken 21 = .ok (.invokevirtual 211, 3) := dk_182 0 211 (dk_at dksX3_taken_0 21 rfl rfl)
theorem dX3_taken_24 : decode cX3_taken 24 = .ok (.istore 6, 2) := dk_54 6 (dk_at dksX3_taken_1 0 rfl rfl)
theorem dX3_taken_26 : decode cX3_taken 26 = .ok (.iload_n 3, 1) := dk_29 (dk_at dksX3_taken_1 2 rfl rfl)
theorem dX3_taken_27 : decode cX3_taken 27 = .ok (.ifCond .eq 16, 3) := dk_153 0 16 (dk_at dksX3_taken_1 3 rfl rfl)
theorem dX3_taken_30 : decode cX3_taken 30 = .ok (.iload 6, 2) := dk_21 6 (dk_at dksX3_taken_1 6 rfl rfl)
theorem dX3_taken_32 : decode cX3_taken 32 = .ok (.ifCond .le 7, 3) := dk_158 0 7 (dk_at dksX3_taken_1 8 rfl rfl)
theorem dX3_taken_35 : decode cX3_taken 35 = .ok (.iconst 1, 1) := dk_4 (dk_at dksX3_taken_1 11 rfl rfl)
theorem dX3_taken_36 : decode cX3_taken 36 = .ok (.goto 18, 3) := dk_167 0 18 (dk_at dksX3_taken_1 12 rfl rfl)
theorem dX3_taken_39 : decode cX3_taken 39 = .ok (.iconst 0, 1) := dk_3 (dk_at dksX3_taken_1 15 rfl rfl)
theorem dX3_taken_40 : decode cX3_taken 40 = .ok (.goto 14, 3) := dk_167 0 14 (dk_at dksX3_taken_1 16 rfl rfl)
theorem dX3_taken_43 : decode cX3_taken 43 = .ok (.iload 6, 2) := dk_21 6 (dk_at dksX3_taken_1 19 rfl rfl)
theorem dX3_taken_45 : decode cX3_taken 45 = .ok (.iconst 1, 1) := dk_4 (dk_at dksX3_taken_1 21 rfl rfl)
theorem dX3_taken_46 : decode cX3_taken 46 = .ok (.if_icmp .eq 7, 3) := dk_159 0 7 (dk_at dksX3_taken_2 0 rfl rfl)
theorem dX3_taken_49 : decode cX3_taken 49 = .ok (.iconst 1, 1) := dk_4 (dk_at dksX3_taken_2 3 rfl rfl)
theorem dX3_taken_50 : decode cX3_taken 50 = .ok (.goto 4, 3) := dk_167 0 4 (dk_at dksX3_taken_2 4 rfl rfl)
theorem dX3_taken_53 : decode cX3_taken 53 = .ok (.iconst 0, 1) := dk_3 (dk_at dksX3_taken_2 7 rfl rfl)
theorem dX3_taken_54 : decode cX3_taken 54 = .ok (.istore 7, 2) := dk_54 7 (dk_at dksX3_taken_2 8 rfl rfl)
theorem dX3_taken_56 : decode cX3_taken 56 = .ok (.iload 4, 2) := dk_21 4 (dk_at dksX3_taken_2 10 rfl rfl)
theorem dX3_taken_58 : decode cX3_taken 58 = .ok (.iload 7, 2) := dk_21 7 (dk_at dksX3_taken_2 12 rfl rfl)
theorem dX3_taken_60 : decode cX3_taken 60 = .ok (.ifCond .ne 7, 3) := dk_154 0 7 (dk_at dksX3_taken_2 14 rfl rfl)
theorem dX3_taken_63 : decode cX3_taken 63 = .ok (.iconst 0, 1) := dk_3 (dk_at dksX3_taken_2 17 rfl rfl)
theorem dX3_taken_64 : decode cX3_taken 64 = .ok (.goto 18, 3) := dk_167 0 18 (dk_at dksX3_taken_2 18 rfl rfl)
theorem dX3_taken_67 : decode cX3_taken 67 = .ok (.aload_n 0, 1) := dk_42 (dk_at dksX3_taken_2 21 rfl rfl)
theorem dX3_taken_68 : decode cX3_taken 68 = .ok (.iload_n 1, 1) := dk_27 (dk_at dksX3_taken_2 22 rfl rfl)
theorem dX3_taken_69 : decode cX3_taken 69 = .ok (.iload 5, 2) := dk_21 5 (dk_at dksX3_taken_3 0 rfl rfl)
theorem dX3_taken_71 : decode cX3_taken 71 = .ok (.invokevirtual 222, 3) := dk_182 0 222 (dk_at dksX3_taken_3 2 rfl rfl)
theorem dX3_taken_74 : decode cX3_taken 74 = .ok (.ifCond .eq 7, 3) := dk_153 0 7 (dk_at dksX3_taken_3 5 rfl rfl)
theorem dX3_taken_77 : decode cX3_taken 77 = .ok (.iconst (-1), 1) := dk_2 (dk_at dksX3_taken_3 8 rfl rfl)
theorem dX3_taken_78 : decode cX3_taken 78 = .ok (.goto 4, 3) := dk_167 0 4 (dk_at dksX3_taken_3 9 rfl rfl)
theorem dX3_taken_81 : decode cX3_taken 81 = .ok (.iconst 1, 1) := dk_4 (dk_at dksX3_taken_3 12 rfl rfl)
theorem dX3_taken_82 : decode cX3_taken 82 = .ok (.iadd, 1) := dk_96 (dk_at dksX3_taken_3 13 rfl rfl)
theorem dX3_taken_83 : decode cX3_taken 83 = .ok (.istore 4, 2) := dk_54 4 (dk_at dksX3_taken_3 14 rfl rfl)
theorem dX3_taken_85 : decode cX3_taken 85 = .ok (.iinc 5 1, 3) := dk_132 5 1 (dk_at dksX3_taken_3 16 rfl rfl)
theorem dX3_taken_88 : decode cX3_taken 88 = .ok (.goto (-82), 3) := dk_167 255 174 (dk_at dksX3_taken_3 19 rfl rfl)
theorem dX3_taken_91 : decode cX3_taken 91 = .ok (.iload 4, 2) := dk_21 4 (dk_at dksX3_taken_3 22 rfl rfl)
theorem dX3_taken_93 : decode cX3_taken 93 = .ok (.ireturn, 1) := dk_172 (dk_at dksX3_taken_4 0 rfl rfl)
abbrev cX3_goesTo : ByteArray := prog_23_method_59_code
def yX3_goesTo : MethodName := ⟨RX3, "goesTo", "(I)Z"⟩
def dkwX3_goesTo_12 : List UInt8 := [180, 0, 36, 28, 46, 167, 0, 7, 42, 180, 1, 22, 79, 4, 172]
abbrev dktX3_goesTo_12 : List UInt8 := dkwX3_goesTo_12 ++ []
def dkwX3_goesTo_11 : List UInt8 := [42, 89, 180, 1, 22, 42, 28, 182, 0, 219, 96, 181, 1, 22, 42, 180, 0, 36, 28, 29, 153, 0, 12, 42]
abbrev dktX3_goesTo_11 : List UInt8 := dkwX3_goesTo_11 ++ dktX3_goesTo_12
def dkwX3_goesTo_10 : List UInt8 := [182, 0, 192, 163, 0, 19, 42, 180, 1, 34, 42, 42, 180, 1, 19, 6, 182, 0, 192, 164, 0, 5, 3, 172]
abbrev dktX3_goesTo_10 : List UInt8 := dkwX3_goesTo_10 ++ dktX3_goesTo_11
def dkwX3_goesTo_9 : List UInt8 := [154, 0, 7, 3, 167, 0, 5, 21, 7, 96, 181, 1, 34, 42, 180, 1, 31, 42, 42, 180, 1, 19, 5]
abbrev dktX3_goesTo_9 : List UInt8 := dkwX3_goesTo_9 ++ dktX3_goesTo_10
def dkwX3_goesTo_8 : List UInt8 := [160, 0, 7, 3, 167, 0, 5, 21, 7, 96, 181, 1, 31, 42, 89, 180, 1, 34, 42, 28, 7, 182, 0, 211]
abbrev dktX3_goesTo_8 : List UInt8 := dkwX3_goesTo_8 ++ dktX3_goesTo_9
def dkwX3_goesTo_7 : List UInt8 := [29, 153, 0, 7, 2, 167, 0, 4, 4, 54, 7, 42, 89, 180, 1, 31, 42, 28, 7, 182, 0, 211, 4]
abbrev dktX3_goesTo_7 : List UInt8 := dkwX3_goesTo_7 ++ dktX3_goesTo_8
def dkwX3_goesTo_6 : List UInt8 := [164, 0, 24, 167, 0, 19, 42, 180, 1, 22, 21, 6, 42, 180, 0, 33, 3, 46, 96, 164, 0, 5, 3, 172]
abbrev dktX3_goesTo_6 : List UInt8 := dkwX3_goesTo_6 ++ dktX3_goesTo_7
def dkwX3_goesTo_5 : List UInt8 := [181, 1, 22, 29, 153, 0, 25, 42, 180, 1, 22, 42, 180, 0, 36, 28, 46, 100, 42, 28, 182, 1, 0]
abbrev dktX3_goesTo_5 : List UInt8 := dkwX3_goesTo_5 ++ dktX3_goesTo_6
def dkwX3_goesTo_4 : List UInt8 := [29, 154, 0, 17, 21, 6, 42, 180, 1, 22, 164, 0, 8, 21, 6, 167, 0, 7, 42, 180, 1, 22]
abbrev dktX3_goesTo_4 : List UInt8 := dkwX3_goesTo_4 ++ dktX3_goesTo_5
def dkwX3_goesTo_3 : List UInt8 := [181, 1, 22, 42, 21, 4, 181, 1, 25, 42, 21, 5, 181, 1, 28, 42, 28, 8, 182, 0, 211, 54, 6, 42]
abbrev dktX3_goesTo_3 : List UInt8 := dkwX3_goesTo_3 ++ dktX3_goesTo_4
def dkwX3_goesTo_2 : List UInt8 := [54, 5, 42, 89, 180, 1, 22, 42, 42, 180, 1, 25, 42, 180, 1, 28, 21, 4, 21, 5, 182, 0, 232, 96]
abbrev dktX3_goesTo_2 : List UInt8 := dkwX3_goesTo_2 ++ dktX3_goesTo_3
def dkwX3_goesTo_1 : List UInt8 := [167, 0, 4, 3, 182, 0, 211, 54, 4, 42, 28, 29, 153, 0, 7, 6, 167, 0, 4, 4, 182, 0, 211]
abbrev dktX3_goesTo_1 : List UInt8 := dkwX3_goesTo_1 ++ dktX3_goesTo_2
def dkwX3_goesTo_0 : List UInt8 := [27, 5, 108, 61, 27, 5, 112, 4, 160, 0, 7, 4, 167, 0, 4, 3, 62, 42, 28, 29, 153, 0, 7, 5]
abbrev dktX3_goesTo_0 : List UInt8 := dkwX3_goesTo_0 ++ dktX3_goesTo_1
theorem dksX3_goesTo_0 : cX3_goesTo.data.toList.drop 0 = dktX3_goesTo_0 := by decide +kernel
theorem dksX3_goesTo_1 : cX3_goesTo.data.toList.drop 24 = dktX3_goesTo_1 := dk_seg dksX3_goesTo_0 24 rfl rfl
theorem dksX3_goesTo_2 : cX3_goesTo.data.toList.drop 47 = dktX3_goesTo_2 := dk_seg dksX3_goesTo_1 23 rfl rfl
theorem dksX3_goesTo_3 : cX3_goesTo.data.toList.drop 71 = dktX3_goesTo_3 := dk_seg dksX3_goesTo_2 24 rfl rfl
theorem dksX3_goesTo_4 : cX3_goesTo.data.toList.drop 95 = dktX3_goesTo_4 := dk_seg dksX3_goesTo_3 24 rfl rfl
theorem dksX3_goesTo_5 : cX3_goesTo.data.toList.drop 117 = dktX3_goesTo_5 := dk_seg dksX3_goesTo_4 22 rfl rfl
theorem dksX3_goesTo_6 : cX3_goesTo.data.toList.drop 140 = dktX3_goesTo_6 := dk_seg dksX3_goesTo_5 23 rfl rfl
theorem dksX3_goesTo_7 : cX3_goesTo.data.toList.drop 164 = dktX3_goesTo_7 := dk_seg dksX3_goesTo_6 24 rfl rfl
theorem dksX3_goesTo_8 : cX3_goesTo.data.toList.drop 187 = dktX3_goesTo_8 := dk_seg dksX3_goesTo_7 23 rfl rfl
theorem dksX3_goesTo_9 : cX3_goesTo.data.toList.drop 211 = dktX3_goesTo_9 := dk_seg dksX3_goesTo_8 24 rfl rfl
theorem dksX3_goesTo_10 : cX3_goesTo.data.toList.drop 234 = dktX3_goesTo_10 := dk_seg dksX3_goesTo_9 23 rfl rfl
theorem dksX3_goesTo_11 : cX3_goesTo.data.toList.drop 258 = dktX3_goesTo_11 := dk_seg dksX3_goesTo_10 24 rfl rfl
theorem dksX3_goesTo_12 : cX3_goesTo.data.toList.drop 282 = dktX3_goesTo_12 := dk_seg dksX3_goesTo_11 24 rfl rfl
theorem dX3_goesTo_0 : decode cX3_goesTo 0 = .ok (.iload_n 1, 1) := dk_27 (dk_at dksX3_goesTo_0 0 rfl rfl)
theorem dX3_goesTo_1 : decode cX3_goesTo 1 = .ok (.iconst 2, 1) := dk_5 (dk_at dksX3_goesTo_0 1 rfl rfl)
theorem dX3_goesTo_2 : decode cX3_goesTo 2 = .ok (.idiv, 1) := dk_108 (dk_at dksX3_goesTo_0 2 rfl rfl)
theorem dX3_goesTo_3 : decode cX3_goesTo 3 = .ok (.istore_n 2, 1) := dk_61 (dk_at dksX3_goesTo_0 3 rfl rfl)
theorem dX3_goesTo_4 : decode cX3_goesTo 4 = .ok (.iload_n 1, 1) := dk_27 (dk_at dksX3_goesTo_0 4 rfl rfl)
theorem dX3_goesTo_5 : decode cX3_goesTo 5 = .ok (.iconst 2, 1) := dk_5 (dk_at dksX3_goesTo_0 5 rfl rfl)
theorem dX3_goesTo_6 : decode cX3_goesTo 6 = .ok (.irem, 1) := dk_112 (dk_at dksX3_goesTo_0 6 rfl rfl)
theorem dX3_goesTo_7 : decode cX3_goesTo 7 = .ok (.iconst 1, 1) := dk_4 (dk_at dksX3_goesTo_0 7 rfl rfl)
theorem dX3_goesTo_8 : decode cX3_goesTo 8 = .ok (.if_icmp .ne 7, 3) := dk_160 0 7 (dk_at dksX3_goesTo_0 8 rfl rfl)
theorem dX3_goesTo_11 : decode cX3_goesTo 11 = .ok (.iconst 1, 1) := dk_4 (dk_at dksX3_goesTo_0 11 rfl rfl)
theorem dX3_goesTo_12 : decode cX3_goesTo 12 = .ok (.goto 4, 3) := dk_167 0 4 (dk_at dksX3_goesTo_0 12 rfl rfl)
theorem dX3_goesTo_15 : decode cX3_goesTo 15 = .ok (.iconst 0, 1) := dk_3 (dk_at dksX3_goesTo_0 15 rfl rfl)
theorem dX3_goesTo_16 : decode cX3_goesTo 16 = .ok (.istore_n 3, 1) := dk_62 (dk_at dksX3_goesTo_0 16 rfl rfl)
theorem dX3_goesTo_17 : decode cX3_goesTo 17 = .ok (.aload_n 0, 1) := dk_42 (dk_at dksX3_goesTo_0 17 rfl rfl)
theorem dX3_goesTo_18 : decode cX3_goesTo 18 = .ok (.iload_n 2, 1) := dk_28 (dk_at dksX3_goesTo_0 18 rfl rfl)
theorem dX3_goesTo_19 : decode cX3_goesTo 19 = .ok (.iload_n 3, 1) := dk_29 (dk_at dksX3_goesTo_0 19 rfl rfl)
theorem dX3_goesTo_20 : decode cX3_goesTo 20 = .ok (.ifCond .eq 7, 3) := dk_153 0 7 (dk_at dksX3_goesTo_0 20 rfl rfl)
theorem dX3_goesTo_23 : decode cX3_goesTo 23 = .ok (.iconst 2, 1) := dk_5 (dk_at dksX3_goesTo_0 23 rfl rfl)
theorem dX3_goesTo_24 : decode cX3_goesTo 24 = .ok (.goto 4, 3) := dk_167 0 4 (dk_at dksX3_goesTo_1 0 rfl rfl)
theorem dX3_goesTo_27 : decode cX3_goesTo 27 = .ok (.iconst 0, 1) := dk_3 (dk_at dksX3_goesTo_1 3 rfl rfl)
theorem dX3_goesTo_28 : decode cX3_goesTo 28 = .ok (.invokevirtual 211, 3) := dk_182 0 211 (dk_at dksX3_goesTo_1 4 rfl rfl)
theorem dX3_goesTo_31 : decode cX3_goesTo 31 = .ok (.istore 4, 2) := dk_54 4 (dk_at dksX3_goesTo_1 7 rfl rfl)
theorem dX3_goesTo_33 : decode cX3_goesTo 33 = .ok (.aload_n 0, 1) := dk_42 (dk_at dksX3_goesTo_1 9 rfl rfl)
theorem dX3_goesTo_34 : decode cX3_goesTo 34 = .ok (.iload_n 2, 1) := dk_28 (dk_at dksX3_goesTo_1 10 rfl rfl)
theorem dX3_goesTo_35 : decode cX3_goesTo 35 = .ok (.iload_n 3, 1) := dk_29 (dk_at dksX3_goesTo_1 11 rfl rfl)
theorem dX3_goesTo_36 : decode cX3_goesTo 36 = .ok (.ifCond .eq 7, 3) := dk_153 0 7 (dk_at dksX3_goesTo_1 12 rfl rfl)
theorem dX3_goesTo_39 : decode cX3_goesTo 39 = .ok (.iconst 3, 1) := dk_6 (dk_at dksX3_goesTo_1 15 rfl rfl)
theorem dX3_goesTo_40 : decode cX3_goesTo 40 = .ok (.goto 4, 3) := dk_167 0 4 (dk_at dksX3_goesTo_1 16 rfl rfl)
theorem dX3_goesTo_43 : decode cX3_goesTo 43 = .ok (.iconst 1, 1) := dk_4 (dk_at dksX3_goesTo_1 19 rfl rfl)
theorem dX3_goesTo_44 : decode cX3_goesTo 44 = .ok (.invokevirtual 211, 3) := dk_182 0 211 (dk_at dksX3_goesTo_1 20 rfl rfl)
theorem dX3_goesTo_47 : decode cX3_goesTo 47 = .ok (.istore 5, 2) := dk_54 5 (dk_at dksX3_goesTo_2 0 rfl rfl)
theorem dX3_goesTo_49 : decode cX3_goesTo 49 = .ok (.aload_n 0, 1) := dk_42 (dk_at dksX3_goesTo_2 2 rfl rfl)
theorem dX3_goesTo_50 : decode cX3_goesTo 50 = .ok (.dup, 1) := dk_89 (dk_at dksX3_goesTo_2 3 rfl rfl)
theorem dX3_goesTo_51 : decode cX3_goesTo 51 = .ok (.getfield 278, 3) := dk_180 1 22 (dk_at dksX3_goesTo_2 4 rfl rfl)
theorem dX3_goesTo_54 : decode cX3_goesTo 54 = .ok (.aload_n 0, 1) := dk_42 (dk_at dksX3_goesTo_2 7 rfl rfl)
theorem dX3_goesTo_55 : decode cX3_goesTo 55 = .ok (.aload_n 0, 1) := dk_42 (dk_at dksX3_goesTo_2 8 rfl rfl)
theorem dX3_goesTo_56 : decode cX3_goesTo 56 = .ok (.getfield 281, 3) := dk_180 1 25 (dk_at dksX3_goesTo_2 9 rfl rfl)
theorem dX3_goesTo_59 : decode cX3_goesTo 59 = .ok (.aload_n 0, 1) := dk_42 (dk_at dksX3_goesTo_2 12 rfl rfl)
theorem dX3_goesTo_60 : decode cX3_goesTo 60 = .ok (.getfield 284, 3) := dk_180 1 28 (dk_at dksX3_goesTo_2 13 rfl rfl)
theorem dX3_goesTo_63 : decode cX3_goesTo 63 = .ok (.iload 4, 2) := dk_21 4 (dk_at dksX3_goesTo_2 16 rfl rfl)
theorem dX3_goesTo_65 : decode cX3_goesTo 65 = .ok (.iload 5, 2) := dk_21 5 (dk_at dksX3_goesTo_2 18 rfl rfl)
theorem dX3_goesTo_67 : decode cX3_goesTo 67 = .ok (.invokevirtual 232, 3) := dk_182 0 232 (dk_at dksX3_goesTo_2 20 rfl rfl)
theorem dX3_goesTo_70 : decode cX3_goesTo 70 = .ok (.iadd, 1) := dk_96 (dk_at dksX3_goesTo_2 23 rfl rfl)
theorem dX3_goesTo_71 : decode cX3_goesTo 71 = .ok (.putfield 278, 3) := dk_181 1 22 (dk_at dksX3_goesTo_3 0 rfl rfl)
theorem dX3_goesTo_74 : decode cX3_goesTo 74 = .ok (.aload_n 0, 1) := dk_42 (dk_at dksX3_goesTo_3 3 rfl rfl)
theorem dX3_goesTo_75 : decode cX3_goesTo 75 = .ok (.iload 4, 2) := dk_21 4 (dk_at dksX3_goesTo_3 4 rfl rfl)
theorem dX3_goesTo_77 : decode cX3_goesTo 77 = .ok (.putfield 281, 3) := dk_181 1 25 (dk_at dksX3_goesTo_3 6 rfl rfl)
theorem dX3_goesTo_80 : decode cX3_goesTo 80 = .ok (.aload_n 0, 1) := dk_42 (dk_at dksX3_goesTo_3 9 rfl rfl)
theorem dX3_goesTo_81 : decode cX3_goesTo 81 = .ok (.iload 5, 2) := dk_21 5 (dk_at dksX3_goesTo_3 10 rfl rfl)
theorem dX3_goesTo_83 : decode cX3_goesTo 83 = .ok (.putfield 284, 3) := dk_181 1 28 (dk_at dksX3_goesTo_3 12 rfl rfl)
theorem dX3_goesTo_86 : decode cX3_goesTo 86 = .ok (.aload_n 0, 1) := dk_42 (dk_at dksX3_goesTo_3 15 rfl rfl)
theorem dX3_goesTo_87 : decode cX3_goesTo 87 = .ok (.iload_n 2, 1) := dk_28 (dk_at dksX3_goesTo_3 16 rfl rfl)
theorem dX3_goesTo_88 : decode cX3_goesTo 88 = .ok (.iconst 5, 1) := dk_8 (dk_at dksX3_goesTo_3 17 rfl rfl)
theorem dX3_goesTo_89 : decode cX3_goesTo 89 = .ok (.invokevirtual 211, 3) := dk_182 0 211 (dk_at dksX3_goesTo_3 18 rfl rfl)
theorem dX3_goesTo_92 : decode cX3_goesTo 92 = .ok (.istore 6, 2) := dk_54 6 (dk_at dksX3_goesTo_3 21 rfl rfl)
theorem dX3_goesTo_94 : decode cX3_goesTo 94 = .ok (.aload_n 0, 1) := dk_42 (dk_at dksX3_goesTo_3 23 rfl rfl)
theorem dX3_goesTo_95 : decode cX3_goesTo 95 = .ok (.iload_n 3, 1) := dk_29 (dk_at dksX3_goesTo_4 0 rfl rfl)
theorem dX3_goesTo_96 : decode cX3_goesTo 96 = .ok (.ifCond .ne 17, 3) := dk_154 0 17 (dk_at dksX3_goesTo_4 1 rfl rfl)
theorem dX3_goesTo_99 : decode cX3_goesTo 99 = .ok (.iload 6, 2) := dk_21 6 (dk_at dksX3_goesTo_4 4 rfl rfl)
theorem dX3_goesTo_101 : decode cX3_goesTo 101 = .ok (.aload_n 0, 1) := dk_42 (dk_at dksX3_goesTo_4 6 rfl rfl)
theorem dX3_goesTo_102 : decode cX3_goesTo 102 = .ok (.getfield 278, 3) := dk_180 1 22 (dk_at dksX3_goesTo_4 7 rfl rfl)
theorem dX3_goesTo_105 : decode cX3_goesTo 105 = .ok (.if_icmp .le 8, 3) := dk_164 0 8 (dk_at dksX3_goesTo_4 10 rfl rfl)
theorem dX3_goesTo_108 : decode cX3_goesTo 108 = .ok (.iload 6, 2) := dk_21 6 (dk_at dksX3_goesTo_4 13 rfl rfl)
theorem dX3_goesTo_110 : decode cX3_goesTo 110 = .ok (.goto 7, 3) := dk_167 0 7 (dk_at dksX3_goesTo_4 15 rfl rfl)
theorem dX3_goesTo_113 : decode cX3_goesTo 113 = .ok (.aload_n 0, 1) := dk_42 (dk_at dksX3_goesTo_4 18 rfl rfl)
theorem dX3_goesTo_114 : decode cX3_goesTo 114 = .ok (.getfield 278, 3) := dk_180 1 22 (dk_at dksX3_goesTo_4 19 rfl rfl)
theorem dX3_goesTo_117 : decode cX3_goesTo 117 = .ok (.putfield 278, 3) := dk_181 1 22 (dk_at dksX3_goesTo_5 0 rfl rfl)
theorem dX3_goesTo_120 : decode cX3_goesTo 120 = .ok (.iload_n 3, 1) := dk_29 (dk_at dksX3_goesTo_5 3 rfl rfl)
theorem dX3_goesTo_121 : decode cX3_goesTo 121 = .ok (.ifCond .eq 25, 3) := dk_153 0 25 (dk_at dksX3_goesTo_5 4 rfl rfl)
theorem dX3_goesTo_124 : decode cX3_goesTo 124 = .ok (.aload_n 0, 1) := dk_42 (dk_at dksX3_goesTo_5 7 rfl rfl)
theorem dX3_goesTo_125 : decode cX3_goesTo 125 = .ok (.getfield 278, 3) := dk_180 1 22 (dk_at dksX3_goesTo_5 8 rfl rfl)
theorem dX3_goesTo_128 : decode cX3_goesTo 128 = .ok (.aload_n 0, 1) := dk_42 (dk_at dksX3_goesTo_5 11 rfl rfl)
theorem dX3_goesTo_129 : decode cX3_goesTo 129 = .ok (.getfield 36, 3) := dk_180 0 36 (dk_at dksX3_goesTo_5 12 rfl rfl)
theorem dX3_goesTo_132 : decode cX3_goesTo 132 = .ok (.iload_n 2, 1) := dk_28 (dk_at dksX3_goesTo_5 15 rfl rfl)
theorem dX3_goesTo_133 : decode cX3_goesTo 133 = .ok (.iaload, 1) := dk_46 (dk_at dksX3_goesTo_5 16 rfl rfl)
theorem dX3_goesTo_134 : decode cX3_goesTo 134 = .ok (.isub, 1) := dk_100 (dk_at dksX3_goesTo_5 17 rfl rfl)
theorem dX3_goesTo_135 : decode cX3_goesTo 135 = .ok (.aload_n 0, 1) := dk_42 (dk_at dksX3_goesTo_5 18 rfl rfl)
theorem dX3_goesTo_136 : decode cX3_goesTo 136 = .ok (.iload_n 2, 1) := dk_28 (dk_at dksX3_goesTo_5 19 rfl rfl)
theorem dX3_goesTo_137 : decode cX3_goesTo 137 = .ok (.invokevirtual 256, 3) := dk_182 1 0 (dk_at dksX3_goesTo_5 20 rfl rfl)
theorem dX3_goesTo_140 : decode cX3_goesTo 140 = .ok (.if_icmp .le 24, 3) := dk_164 0 24 (dk_at dksX3_goesTo_6 0 rfl rfl)
theorem dX3_goesTo_143 : decode cX3_goesTo 143 = .ok (.goto 19, 3) := dk_167 0 19 (dk_at dksX3_goesTo_6 3 rfl rfl)
theorem dX3_goesTo_146 : decode cX3_goesTo 146 = .ok (.aload_n 0, 1) := dk_42 (dk_at dksX3_goesTo_6 6 rfl rfl)
theorem dX3_goesTo_147 : decode cX3_goesTo 147 = .ok (.getfield 278, 3) := dk_180 1 22 (dk_at dksX3_goesTo_6 7 rfl rfl)
theorem dX3_goesTo_150 : decode cX3_goesTo 150 = .ok (.iload 6, 2) := dk_21 6 (dk_at dksX3_goesTo_6 10 rfl rfl)
theorem dX3_goesTo_152 : decode cX3_goesTo 152 = .ok (.aload_n 0, 1) := dk_42 (dk_at dksX3_goesTo_6 12 rfl rfl)
theorem dX3_goesTo_153 : decode cX3_goesTo 153 = .ok (.getfield 33, 3) := dk_180 0 33 (dk_at dksX3_goesTo_6 13 rfl rfl)
theorem dX3_goesTo_156 : decode cX3_goesTo 156 = .ok (.iconst 0, 1) := dk_3 (dk_at dksX3_goesTo_6 16 rfl rfl)
theorem dX3_goesTo_157 : decode cX3_goesTo 157 = .ok (.iaload, 1) := dk_46 (dk_at dksX3_goesTo_6 17 rfl rfl)
theorem dX3_goesTo_158 : decode cX3_goesTo 158 = .ok (.iadd, 1) := dk_96 (dk_at dksX3_goesTo_6 18 rfl rfl)
theorem dX3_goesTo_159 : decode cX3_goesTo 159 = .ok (.if_icmp .le 5, 3) := dk_164 0 5 (dk_at dksX3_goesTo_6 19 rfl rfl)
theorem dX3_goesTo_162 : decode cX3_goesTo 162 = .ok (.iconst 0, 1) := dk_3 (dk_at dksX3_goesTo_6 22 rfl rfl)
theorem dX3_goesTo_163 : decode cX3_goesTo 163 = .ok (.ireturn, 1) := dk_172 (dk_at dksX3_goesTo_6 23 rfl rfl)
theorem dX3_goesTo_164 : decode cX3_goesTo 164 = .ok (.iload_n 3, 1) := dk_29 (dk_at dksX3_goesTo_7 0 rfl rfl)
theorem dX3_goesTo_165 : decode cX3_goesTo 165 = .ok (.ifCond .eq 7, 3) := dk_153 0 7 (dk_at dksX3_goesTo_7 1 rfl rfl)
theorem dX3_goesTo_168 : decode cX3_goesTo 168 = .ok (.iconst (-1), 1) := dk_2 (dk_at dksX3_goesTo_7 4 rfl rfl)
theorem dX3_goesTo_169 : decode cX3_goesTo 169 = .ok (.goto 4, 3) := dk_167 0 4 (dk_at dksX3_goesTo_7 5 rfl rfl)
theorem dX3_goesTo_172 : decode cX3_goesTo 172 = .ok (.iconst 1, 1) := dk_4 (dk_at dksX3_goesTo_7 8 rfl rfl)
theorem dX3_goesTo_173 : decode cX3_goesTo 173 = .ok (.istore 7, 2) := dk_54 7 (dk_at dksX3_goesTo_7 9 rfl rfl)
theorem dX3_goesTo_175 : decode cX3_goesTo 175 = .ok (.aload_n 0, 1) := dk_42 (dk_at dksX3_goesTo_7 11 rfl rfl)
theorem dX3_goesTo_176 : decode cX3_goesTo 176 = .ok (.dup, 1) := dk_89 (dk_at dksX3_goesTo_7 12 rfl rfl)
theorem dX3_goesTo_177 : decode cX3_goesTo 177 = .ok (.getfield 287, 3) := dk_180 1 31 (dk_at dksX3_goesTo_7 13 rfl rfl)
theorem dX3_goesTo_180 : decode cX3_goesTo 180 = .ok (.aload_n 0, 1) := dk_42 (dk_at dksX3_goesTo_7 16 rfl rfl)
theorem dX3_goesTo_181 : decode cX3_goesTo 181 = .ok (.iload_n 2, 1) := dk_28 (dk_at dksX3_goesTo_7 17 rfl rfl)
theorem dX3_goesTo_182 : decode cX3_goesTo 182 = .ok (.iconst 4, 1) := dk_7 (dk_at dksX3_goesTo_7 18 rfl rfl)
theorem dX3_goesTo_183 : decode cX3_goesTo 183 = .ok (.invokevirtual 211, 3) := dk_182 0 211 (dk_at dksX3_goesTo_7 19 rfl rfl)
theorem dX3_goesTo_186 : decode cX3_goesTo 186 = .ok (.iconst 1, 1) := dk_4 (dk_at dksX3_goesTo_7 22 rfl rfl)
theorem dX3_goesTo_187 : decode cX3_goesTo 187 = .ok (.if_icmp .ne 7, 3) := dk_160 0 7 (dk_at dksX3_goesTo_8 0 rfl rfl)
theorem dX3_goesTo_190 : decode cX3_goesTo 190 = .ok (.iconst 0, 1) := dk_3 (dk_at dksX3_goesTo_8 3 rfl rfl)
theorem dX3_goesTo_191 : decode cX3_goesTo 191 = .ok (.goto 5, 3) := dk_167 0 5 (dk_at dksX3_goesTo_8 4 rfl rfl)
theorem dX3_goesTo_194 : decode cX3_goesTo 194 = .ok (.iload 7, 2) := dk_21 7 (dk_at dksX3_goesTo_8 7 rfl rfl)
theorem dX3_goesTo_196 : decode cX3_goesTo 196 = .ok (.iadd, 1) := dk_96 (dk_at dksX3_goesTo_8 9 rfl rfl)
theorem dX3_goesTo_197 : decode cX3_goesTo 197 = .ok (.putfield 287, 3) := dk_181 1 31 (dk_at dksX3_goesTo_8 10 rfl rfl)
theorem dX3_goesTo_200 : decode cX3_goesTo 200 = .ok (.aload_n 0, 1) := dk_42 (dk_at dksX3_goesTo_8 13 rfl rfl)
theorem dX3_goesTo_201 : decode cX3_goesTo 201 = .ok (.dup, 1) := dk_89 (dk_at dksX3_goesTo_8 14 rfl rfl)
theorem dX3_goesTo_202 : decode cX3_goesTo 202 = .ok (.getfield 290, 3) := dk_180 1 34 (dk_at dksX3_goesTo_8 15 rfl rfl)
theorem dX3_goesTo_205 : decode cX3_goesTo 205 = .ok (.aload_n 0, 1) := dk_42 (dk_at dksX3_goesTo_8 18 rfl rfl)
theorem dX3_goesTo_206 : decode cX3_goesTo 206 = .ok (.iload_n 2, 1) := dk_28 (dk_at dksX3_goesTo_8 19 rfl rfl)
theorem dX3_goesTo_207 : decode cX3_goesTo 207 = .ok (.iconst 4, 1) := dk_7 (dk_at dksX3_goesTo_8 20 rfl rfl)
theorem dX3_goesTo_208 : decode cX3_goesTo 208 = .ok (.invokevirtual 211, 3) := dk_182 0 211 (dk_at dksX3_goesTo_8 21 rfl rfl)
theorem dX3_goesTo_211 : decode cX3_goesTo 211 = .ok (.ifCond .ne 7, 3) := dk_154 0 7 (dk_at dksX3_goesTo_9 0 rfl rfl)
theorem dX3_goesTo_214 : decode cX3_goesTo 214 = .ok (.iconst 0, 1) := dk_3 (dk_at dksX3_goesTo_9 3 rfl rfl)
theorem dX3_goesTo_215 : decode cX3_goesTo 215 = .ok (.goto 5, 3) := dk_167 0 5 (dk_at dksX3_goesTo_9 4 rfl rfl)
theorem dX3_goesTo_218 : decode cX3_goesTo 218 = .ok (.iload 7, 2) := dk_21 7 (dk_at dksX3_goesTo_9 7 rfl rfl)
theorem dX3_goesTo_220 : decode cX3_goesTo 220 = .ok (.iadd, 1) := dk_96 (dk_at dksX3_goesTo_9 9 rfl rfl)
theorem dX3_goesTo_221 : decode cX3_goesTo 221 = .ok (.putfield 290, 3) := dk_181 1 34 (dk_at dksX3_goesTo_9 10 rfl rfl)
theorem dX3_goesTo_224 : decode cX3_goesTo 224 = .ok (.aload_n 0, 1) := dk_42 (dk_at dksX3_goesTo_9 13 rfl rfl)
theorem dX3_goesTo_225 : decode cX3_goesTo 225 = .ok (.getfield 287, 3) := dk_180 1 31 (dk_at dksX3_goesTo_9 14 rfl rfl)
theorem dX3_goesTo_228 : decode cX3_goesTo 228 = .ok (.aload_n 0, 1) := dk_42 (dk_at dksX3_goesTo_9 17 rfl rfl)
theorem dX3_goesTo_229 : decode cX3_goesTo 229 = .ok (.aload_n 0, 1) := dk_42 (dk_at dksX3_goesTo_9 18 rfl rfl)
theorem dX3_goesTo_230 : decode cX3_goesTo 230 = .ok (.getfield 275, 3) := dk_180 1 19 (dk_at dksX3_goesTo_9 19 rfl rfl)
theorem dX3_goesTo_233 : decode cX3_goesTo 233 = .ok (.iconst 2, 1) := dk_5 (dk_at dksX3_goesTo_9 22 rfl rfl)
theorem dX3_goesTo_234 : decode cX3_goesTo 234 = .ok (.invokevirtual 192, 3) := dk_182 0 192 (dk_at dksX3_goesTo_10 0 rfl rfl)
theorem dX3_goesTo_237 : decode cX3_goesTo 237 = .ok (.if_icmp .gt 19, 3) := dk_163 0 19 (dk_at dksX3_goesTo_10 3 rfl rfl)
theorem dX3_goesTo_240 : decode cX3_goesTo 240 = .ok (.aload_n 0, 1) := dk_42 (dk_at dksX3_goesTo_10 6 rfl rfl)
theorem dX3_goesTo_241 : decode cX3_goesTo 241 = .ok (.getfield 290, 3) := dk_180 1 34 (dk_at dksX3_goesTo_10 7 rfl rfl)
theorem dX3_goesTo_244 : decode cX3_goesTo 244 = .ok (.aload_n 0, 1) := dk_42 (dk_at dksX3_goesTo_10 10 rfl rfl)
theorem dX3_goesTo_245 : decode cX3_goesTo 245 = .ok (.aload_n 0, 1) := dk_42 (dk_at dksX3_goesTo_10 11 rfl rfl)
theorem dX3_goesTo_246 : decode cX3_goesTo 246 = .ok (.getfield 275, 3) := dk_180 1 19 (dk_at dksX3_goesTo_10 12 rfl rfl)
theorem dX3_goesTo_249 : decode cX3_goesTo 249 = .ok (.iconst 3, 1) := dk_6 (dk_at dksX3_goesTo_10 15 rfl rfl)
theorem dX3_goesTo_250 : decode cX3_goesTo 250 = .ok (.invokevirtual 192, 3) := dk_182 0 192 (dk_at dksX3_goesTo_10 16 rfl rfl)
theorem dX3_goesTo_253 : decode cX3_goesTo 253 = .ok (.if_icmp .le 5, 3) := dk_164 0 5 (dk_at dksX3_goesTo_10 19 rfl rfl)
theorem dX3_goesTo_256 : decode cX3_goesTo 256 = .ok (.iconst 0, 1) := dk_3 (dk_at dksX3_goesTo_10 22 rfl rfl)
theorem dX3_goesTo_257 : decode cX3_goesTo 257 = .ok (.ireturn, 1) := dk_172 (dk_at dksX3_goesTo_10 23 rfl rfl)
theorem dX3_goesTo_258 : decode cX3_goesTo 258 = .ok (.aload_n 0, 1) := dk_42 (dk_at dksX3_goesTo_11 0 rfl rfl)
theorem dX3_goesTo_259 : decode cX3_goesTo 259 = .ok (.dup, 1) := dk_89 (dk_at dksX3_goesTo_11 1 rfl rfl)
theorem dX3_goesTo_260 : decode cX3_goesTo 260 = .ok (.getfield 278, 3) := dk_180 1 22 (dk_at dksX3_goesTo_11 2 rfl rfl)
theorem dX3_goesTo_263 : decode cX3_goesTo 263 = .ok (.aload_n 0, 1) := dk_42 (dk_at dksX3_goesTo_11 5 rfl rfl)
theorem dX3_goesTo_264 : decode cX3_goesTo 264 = .ok (.iload_n 2, 1) := dk_28 (dk_at dksX3_goesTo_11 6 rfl rfl)
theorem dX3_goesTo_265 : decode cX3_goesTo 265 = .ok (.invokevirtual 219, 3) := dk_182 0 219 (dk_at dksX3_goesTo_11 7 rfl rfl)
theorem dX3_goesTo_268 : decode cX3_goesTo 268 = .ok (.iadd, 1) := dk_96 (dk_at dksX3_goesTo_11 10 rfl rfl)
theorem dX3_goesTo_269 : decode cX3_goesTo 269 = .ok (.putfield 278, 3) := dk_181 1 22 (dk_at dksX3_goesTo_11 11 rfl rfl)
theorem dX3_goesTo_272 : decode cX3_goesTo 272 = .ok (.aload_n 0, 1) := dk_42 (dk_at dksX3_goesTo_11 14 rfl rfl)
theorem dX3_goesTo_273 : decode cX3_goesTo 273 = .ok (.getfield 36, 3) := dk_180 0 36 (dk_at dksX3_goesTo_11 15 rfl rfl)
theorem dX3_goesTo_276 : decode cX3_goesTo 276 = .ok (.iload_n 2, 1) := dk_28 (dk_at dksX3_goesTo_11 18 rfl rfl)
theorem dX3_goesTo_277 : decode cX3_goesTo 277 = .ok (.iload_n 3, 1) := dk_29 (dk_at dksX3_goesTo_11 19 rfl rfl)
theorem dX3_goesTo_278 : decode cX3_goesTo 278 = .ok (.ifCond .eq 12, 3) := dk_153 0 12 (dk_at dksX3_goesTo_11 20 rfl rfl)
theorem dX3_goesTo_281 : decode cX3_goesTo 281 = .ok (.aload_n 0, 1) := dk_42 (dk_at dksX3_goesTo_11 23 rfl rfl)
theorem dX3_goesTo_282 : decode cX3_goesTo 282 = .ok (.getfield 36, 3) := dk_180 0 36 (dk_at dksX3_goesTo_12 0 rfl rfl)
theorem dX3_goesTo_285 : decode cX3_goesTo 285 = .ok (.iload_n 2, 1) := dk_28 (dk_at dksX3_goesTo_12 3 rfl rfl)
theorem dX3_goesTo_286 : decode cX3_goesTo 286 = .ok (.iaload, 1) := dk_46 (dk_at dksX3_goesTo_12 4 rfl rfl)
theorem dX3_goesTo_287 : decode cX3_goesTo 287 = .ok (.goto 7, 3) := dk_167 0 7 (dk_at dksX3_goesTo_12 5 rfl rfl)
theorem dX3_goesTo_290 : decode cX3_goesTo 290 = .ok (.aload_n 0, 1) := dk_42 (dk_at dksX3_goesTo_12 8 rfl rfl)
theorem dX3_goesTo_291 : decode cX3_goesTo 291 = .ok (.getfield 278, 3) := dk_180 1 22 (dk_at dksX3_goesTo_12 9 rfl rfl)
theorem dX3_goesTo_294 : decode cX3_goesTo 294 = .ok (.iastore, 1) := dk_79 (dk_at dksX3_goesTo_12 12 rfl rfl)
theorem dX3_goesTo_295 : decode cX3_goesTo 295 = .ok (.iconst 1, 1) := dk_4 (dk_at dksX3_goesTo_12 13 rfl rfl)
theorem dX3_goesTo_296 : decode cX3_goesTo 296 = .ok (.ireturn, 1) := dk_172 (dk_at dksX3_goesTo_12 14 rfl rfl)
abbrev cX3_way : ByteArray := prog_23_method_31_code
def yX3_way : MethodName := ⟨RX3, "way", "(IIII)I"⟩
def dkwX3_way_5 : List UInt8 := [167, 255, 179, 21, 5, 172]
abbrev dktX3_way_5 : List UInt8 := dkwX3_way_5 ++ []
def dkwX3_way_4 : List UInt8 := [167, 0, 17, 42, 180, 0, 33, 16, 10, 5, 21, 6, 104, 96, 4, 96, 46, 96, 54, 5, 132, 6, 1]
abbrev dktX3_way_4 : List UInt8 := dkwX3_way_4 ++ dktX3_way_5
def dkwX3_way_3 : List UInt8 := [162, 0, 7, 4, 167, 0, 4, 3, 29, 21, 7, 162, 0, 7, 4, 167, 0, 4, 3, 160, 0, 7, 3]
abbrev dktX3_way_3 : List UInt8 := dkwX3_way_3 ++ dktX3_way_4
def dkwX3_way_2 : List UInt8 := [162, 0, 71, 42, 180, 0, 33, 16, 10, 5, 21, 6, 104, 96, 46, 54, 7, 21, 5, 27, 21, 7]
abbrev dktX3_way_2 : List UInt8 := dkwX3_way_2 ++ dktX3_way_3
def dkwX3_way_1 : List UInt8 := [167, 0, 7, 28, 21, 4, 100, 96, 54, 5, 3, 54, 6, 21, 6, 42, 180, 0, 33, 16, 7, 46]
abbrev dktX3_way_1 : List UInt8 := dkwX3_way_1 ++ dktX3_way_2
def dkwX3_way_0 : List UInt8 := [27, 29, 162, 0, 9, 29, 27, 100, 167, 0, 6, 27, 29, 100, 28, 21, 4, 162, 0, 10, 21, 4, 28, 100]
abbrev dktX3_way_0 : List UInt8 := dkwX3_way_0 ++ dktX3_way_1
theorem dksX3_way_0 : cX3_way.data.toList.drop 0 = dktX3_way_0 := by decide +kernel
theorem dksX3_way_1 : cX3_way.data.toList.drop 24 = dktX3_way_1 := dk_seg dksX3_way_0 24 rfl rfl
theorem dksX3_way_2 : cX3_way.data.toList.drop 46 = dktX3_way_2 := dk_seg dksX3_way_1 22 rfl rfl
theorem dksX3_way_3 : cX3_way.data.toList.drop 68 = dktX3_way_3 := dk_seg dksX3_way_2 22 rfl rfl
theorem dksX3_way_4 : cX3_way.data.toList.drop 91 = dktX3_way_4 := dk_seg dksX3_way_3 23 rfl rfl
theorem dksX3_way_5 : cX3_way.data.toList.drop 114 = dktX3_way_5 := dk_seg dksX3_way_4 23 rfl rfl
theorem dX3_way_0 : decode cX3_way 0 = .ok (.iload_n 1, 1) := dk_27 (dk_at dksX3_way_0 0 rfl rfl)
theorem dX3_way_1 : decode cX3_way 1 = .ok (.iload_n 3, 1) := dk_29 (dk_at dksX3_way_0 1 rfl rfl)
theorem dX3_way_2 : decode cX3_way 2 = .ok (.if_icmp .ge 9, 3) := dk_162 0 9 (dk_at dksX3_way_0 2 rfl rfl)
theorem dX3_way_5 : decode cX3_way 5 = .ok (.iload_n 3, 1) := dk_29 (dk_at dksX3_way_0 5 rfl rfl)
theorem dX3_way_6 : decode cX3_way 6 = .ok (.iload_n 1, 1) := dk_27 (dk_at dksX3_way_0 6 rfl rfl)
theorem dX3_way_7 : decode cX3_way 7 = .ok (.isub, 1) := dk_100 (dk_at dksX3_way_0 7 rfl rfl)
theorem dX3_way_8 : decode cX3_way 8 = .ok (.goto 6, 3) := dk_167 0 6 (dk_at dksX3_way_0 8 rfl rfl)
theorem dX3_way_11 : decode cX3_way 11 = .ok (.iload_n 1, 1) := dk_27 (dk_at dksX3_way_0 11 rfl rfl)
theorem dX3_way_12 : decode cX3_way 12 = .ok (.iload_n 3, 1) := dk_29 (dk_at dksX3_way_0 12 rfl rfl)
theorem dX3_way_13 : decode cX3_way 13 = .ok (.isub, 1) := dk_100 (dk_at dksX3_way_0 13 rfl rfl)
theorem dX3_way_14 : decode cX3_way 14 = .ok (.iload_n 2, 1) := dk_28 (dk_at dksX3_way_0 14 rfl rfl)
theorem dX3_way_15 : decode cX3_way 15 = .ok (.iload 4, 2) := dk_21 4 (dk_at dksX3_way_0 15 rfl rfl)
theorem dX3_way_17 : decode cX3_way 17 = .ok (.if_icmp .ge 10, 3) := dk_162 0 10 (dk_at dksX3_way_0 17 rfl rfl)
theorem dX3_way_20 : decode cX3_way 20 = .ok (.iload 4, 2) := dk_21 4 (dk_at dksX3_way_0 20 rfl rfl)
theorem dX3_way_22 : decode cX3_way 22 = .ok (.iload_n 2, 1) := dk_28 (dk_at dksX3_way_0 22 rfl rfl)
theorem dX3_way_23 : decode cX3_way 23 = .ok (.isub, 1) := dk_100 (dk_at dksX3_way_0 23 rfl rfl)
theorem dX3_way_24 : decode cX3_way 24 = .ok (.goto 7, 3) := dk_167 0 7 (dk_at dksX3_way_1 0 rfl rfl)
theorem dX3_way_27 : decode cX3_way 27 = .ok (.iload_n 2, 1) := dk_28 (dk_at dksX3_way_1 3 rfl rfl)
theorem dX3_way_28 : decode cX3_way 28 = .ok (.iload 4, 2) := dk_21 4 (dk_at dksX3_way_1 4 rfl rfl)
theorem dX3_way_30 : decode cX3_way 30 = .ok (.isub, 1) := dk_100 (dk_at dksX3_way_1 6 rfl rfl)
theorem dX3_way_31 : decode cX3_way 31 = .ok (.iadd, 1) := dk_96 (dk_at dksX3_way_1 7 rfl rfl)
theorem dX3_way_32 : decode cX3_way 32 = .ok (.istore 5, 2) := dk_54 5 (dk_at dksX3_way_1 8 rfl rfl)
theorem dX3_way_34 : decode cX3_way 34 = .ok (.iconst 0, 1) := dk_3 (dk_at dksX3_way_1 10 rfl rfl)
theorem dX3_way_35 : decode cX3_way 35 = .ok (.istore 6, 2) := dk_54 6 (dk_at dksX3_way_1 11 rfl rfl)
theorem dX3_way_37 : decode cX3_way 37 = .ok (.iload 6, 2) := dk_21 6 (dk_at dksX3_way_1 13 rfl rfl)
theorem dX3_way_39 : decode cX3_way 39 = .ok (.aload_n 0, 1) := dk_42 (dk_at dksX3_way_1 15 rfl rfl)
theorem dX3_way_40 : decode cX3_way 40 = .ok (.getfield 33, 3) := dk_180 0 33 (dk_at dksX3_way_1 16 rfl rfl)
theorem dX3_way_43 : decode cX3_way 43 = .ok (.bipush 7, 2) := dk_16 7 (dk_at dksX3_way_1 19 rfl rfl)
theorem dX3_way_45 : decode cX3_way 45 = .ok (.iaload, 1) := dk_46 (dk_at dksX3_way_1 21 rfl rfl)
theorem dX3_way_46 : decode cX3_way 46 = .ok (.if_icmp .ge 71, 3) := dk_162 0 71 (dk_at dksX3_way_2 0 rfl rfl)
theorem dX3_way_49 : decode cX3_way 49 = .ok (.aload_n 0, 1) := dk_42 (dk_at dksX3_way_2 3 rfl rfl)
theorem dX3_way_50 : decode cX3_way 50 = .ok (.getfield 33, 3) := dk_180 0 33 (dk_at dksX3_way_2 4 rfl rfl)
theorem dX3_way_53 : decode cX3_way 53 = .ok (.bipush 10, 2) := dk_16 10 (dk_at dksX3_way_2 7 rfl rfl)
theorem dX3_way_55 : decode cX3_way 55 = .ok (.iconst 2, 1) := dk_5 (dk_at dksX3_way_2 9 rfl rfl)
theorem dX3_way_56 : decode cX3_way 56 = .ok (.iload 6, 2) := dk_21 6 (dk_at dksX3_way_2 10 rfl rfl)
theorem dX3_way_58 : decode cX3_way 58 = .ok (.imul, 1) := dk_104 (dk_at dksX3_way_2 12 rfl rfl)
theorem dX3_way_59 : decode cX3_way 59 = .ok (.iadd, 1) := dk_96 (dk_at dksX3_way_2 13 rfl rfl)
theorem dX3_way_60 : decode cX3_way 60 = .ok (.iaload, 1) := dk_46 (dk_at dksX3_way_2 14 rfl rfl)
theorem dX3_way_61 : decode cX3_way 61 = .ok (.istore 7, 2) := dk_54 7 (dk_at dksX3_way_2 15 rfl rfl)
theorem dX3_way_63 : decode cX3_way 63 = .ok (.iload 5, 2) := dk_21 5 (dk_at dksX3_way_2 17 rfl rfl)
theorem dX3_way_65 : decode cX3_way 65 = .ok (.iload_n 1, 1) := dk_27 (dk_at dksX3_way_2 19 rfl rfl)
theorem dX3_way_66 : decode cX3_way 66 = .ok (.iload 7, 2) := dk_21 7 (dk_at dksX3_way_2 20 rfl rfl)
theorem dX3_way_68 : decode cX3_way 68 = .ok (.if_icmp .ge 7, 3) := dk_162 0 7 (dk_at dksX3_way_3 0 rfl rfl)
theorem dX3_way_71 : decode cX3_way 71 = .ok (.iconst 1, 1) := dk_4 (dk_at dksX3_way_3 3 rfl rfl)
theorem dX3_way_72 : decode cX3_way 72 = .ok (.goto 4, 3) := dk_167 0 4 (dk_at dksX3_way_3 4 rfl rfl)
theorem dX3_way_75 : decode cX3_way 75 = .ok (.iconst 0, 1) := dk_3 (dk_at dksX3_way_3 7 rfl rfl)
theorem dX3_way_76 : decode cX3_way 76 = .ok (.iload_n 3, 1) := dk_29 (dk_at dksX3_way_3 8 rfl rfl)
theorem dX3_way_77 : decode cX3_way 77 = .ok (.iload 7, 2) := dk_21 7 (dk_at dksX3_way_3 9 rfl rfl)
theorem dX3_way_79 : decode cX3_way 79 = .ok (.if_icmp .ge 7, 3) := dk_162 0 7 (dk_at dksX3_way_3 11 rfl rfl)
theorem dX3_way_82 : decode cX3_way 82 = .ok (.iconst 1, 1) := dk_4 (dk_at dksX3_way_3 14 rfl rfl)
theorem dX3_way_83 : decode cX3_way 83 = .ok (.goto 4, 3) := dk_167 0 4 (dk_at dksX3_way_3 15 rfl rfl)
theorem dX3_way_86 : decode cX3_way 86 = .ok (.iconst 0, 1) := dk_3 (dk_at dksX3_way_3 18 rfl rfl)
theorem dX3_way_87 : decode cX3_way 87 = .ok (.if_icmp .ne 7, 3) := dk_160 0 7 (dk_at dksX3_way_3 19 rfl rfl)
theorem dX3_way_90 : decode cX3_way 90 = .ok (.iconst 0, 1) := dk_3 (dk_at dksX3_way_3 22 rfl rfl)
theorem dX3_way_91 : decode cX3_way 91 = .ok (.goto 17, 3) := dk_167 0 17 (dk_at dksX3_way_4 0 rfl rfl)
theorem dX3_way_94 : decode cX3_way 94 = .ok (.aload_n 0, 1) := dk_42 (dk_at dksX3_way_4 3 rfl rfl)
theorem dX3_way_95 : decode cX3_way 95 = .ok (.getfield 33, 3) := dk_180 0 33 (dk_at dksX3_way_4 4 rfl rfl)
theorem dX3_way_98 : decode cX3_way 98 = .ok (.bipush 10, 2) := dk_16 10 (dk_at dksX3_way_4 7 rfl rfl)
theorem dX3_way_100 : decode cX3_way 100 = .ok (.iconst 2, 1) := dk_5 (dk_at dksX3_way_4 9 rfl rfl)
theorem dX3_way_101 : decode cX3_way 101 = .ok (.iload 6, 2) := dk_21 6 (dk_at dksX3_way_4 10 rfl rfl)
theorem dX3_way_103 : decode cX3_way 103 = .ok (.imul, 1) := dk_104 (dk_at dksX3_way_4 12 rfl rfl)
theorem dX3_way_104 : decode cX3_way 104 = .ok (.iadd, 1) := dk_96 (dk_at dksX3_way_4 13 rfl rfl)
theorem dX3_way_105 : decode cX3_way 105 = .ok (.iconst 1, 1) := dk_4 (dk_at dksX3_way_4 14 rfl rfl)
theorem dX3_way_106 : decode cX3_way 106 = .ok (.iadd, 1) := dk_96 (dk_at dksX3_way_4 15 rfl rfl)
theorem dX3_way_107 : decode cX3_way 107 = .ok (.iaload, 1) := dk_46 (dk_at dksX3_way_4 16 rfl rfl)
theorem dX3_way_108 : decode cX3_way 108 = .ok (.iadd, 1) := dk_96 (dk_at dksX3_way_4 17 rfl rfl)
theorem dX3_way_109 : decode cX3_way 109 = .ok (.istore 5, 2) := dk_54 5 (dk_at dksX3_way_4 18 rfl rfl)
theorem dX3_way_111 : decode cX3_way 111 = .ok (.iinc 6 1, 3) := dk_132 6 1 (dk_at dksX3_way_4 20 rfl rfl)
theorem dX3_way_114 : decode cX3_way 114 = .ok (.goto (-77), 3) := dk_167 255 179 (dk_at dksX3_way_5 0 rfl rfl)
theorem dX3_way_117 : decode cX3_way 117 = .ok (.iload 5, 2) := dk_21 5 (dk_at dksX3_way_5 3 rfl rfl)
theorem dX3_way_119 : decode cX3_way 119 = .ok (.ireturn, 1) := dk_172 (dk_at dksX3_way_5 5 rfl rfl)
abbrev cX3_limit : ByteArray := prog_23_method_49_code
def yX3_limit : MethodName := ⟨RX3, "limit", "(I)I"⟩
def dkwX3_limit_0 : List UInt8 := [42, 180, 0, 33, 4, 46, 42, 27, 182, 0, 248, 42, 180, 0, 33, 5, 46, 104, 16, 100, 108, 96, 172]
abbrev dktX3_limit_0 : List UInt8 := dkwX3_limit_0 ++ []
theorem dksX3_limit_0 : cX3_limit.data.toList.drop 0 = dktX3_limit_0 := by decide +kernel
theorem dX3_limit_0 : decode cX3_limit 0 = .ok (.aload_n 0, 1) := dk_42 (dk_at dksX3_limit_0 0 rfl rfl)
theorem dX3_limit_1 : decode cX3_limit 1 = .ok (.getfield 33, 3) := dk_180 0 33 (dk_at dksX3_limit_0 1 rfl rfl)
theorem dX3_limit_4 : decode cX3_limit 4 = .ok (.iconst 1, 1) := dk_4 (dk_at dksX3_limit_0 4 rfl rfl)
theorem dX3_limit_5 : decode cX3_limit 5 = .ok (.iaload, 1) := dk_46 (dk_at dksX3_limit_0 5 rfl rfl)
theorem dX3_limit_6 : decode cX3_limit 6 = .ok (.aload_n 0, 1) := dk_42 (dk_at dksX3_limit_0 6 rfl rfl)
theorem dX3_limit_7 : decode cX3_limit 7 = .ok (.iload_n 1, 1) := dk_27 (dk_at dksX3_limit_0 7 rfl rfl)
theorem dX3_limit_8 : decode cX3_limit 8 = .ok (.invokevirtual 248, 3) := dk_182 0 248 (dk_at dksX3_limit_0 8 rfl rfl)
theorem dX3_limit_11 : decode cX3_limit 11 = .ok (.aload_n 0, 1) := dk_42 (dk_at dksX3_limit_0 11 rfl rfl)
theorem dX3_limit_12 : decode cX3_limit 12 = .ok (.getfield 33, 3) := dk_180 0 33 (dk_at dksX3_limit_0 12 rfl rfl)
theorem dX3_limit_15 : decode cX3_limit 15 = .ok (.iconst 2, 1) := dk_5 (dk_at dksX3_limit_0 15 rfl rfl)
theorem dX3_limit_16 : decode cX3_limit 16 = .ok (.iaload, 1) := dk_46 (dk_at dksX3_limit_0 16 rfl rfl)
theorem dX3_limit_17 : decode cX3_limit 17 = .ok (.imul, 1) := dk_104 (dk_at dksX3_limit_0 17 rfl rfl)
theorem dX3_limit_18 : decode cX3_limit 18 = .ok (.bipush 100, 2) := dk_16 100 (dk_at dksX3_limit_0 18 rfl rfl)
theorem dX3_limit_20 : decode cX3_limit 20 = .ok (.idiv, 1) := dk_108 (dk_at dksX3_limit_0 20 rfl rfl)
theorem dX3_limit_21 : decode cX3_limit 21 = .ok (.iadd, 1) := dk_96 (dk_at dksX3_limit_0 21 rfl rfl)
theorem dX3_limit_22 : decode cX3_limit 22 = .ok (.ireturn, 1) := dk_172 (dk_at dksX3_limit_0 22 rfl rfl)
abbrev cX3_direct : ByteArray := prog_23_method_48_code
def yX3_direct : MethodName := ⟨RX3, "direct", "(I)I"⟩
def dkwX3_direct_1 : List UInt8 := [182, 0, 211, 182, 0, 232, 172]
abbrev dktX3_direct_1 : List UInt8 := dkwX3_direct_1 ++ []
def dkwX3_direct_0 : List UInt8 := [42, 42, 27, 3, 182, 0, 211, 42, 27, 4, 182, 0, 211, 42, 27, 5, 182, 0, 211, 42, 27, 6]
abbrev dktX3_direct_0 : List UInt8 := dkwX3_direct_0 ++ dktX3_direct_1
theorem dksX3_direct_0 : cX3_direct.data.toList.drop 0 = dktX3_direct_0 := by decide +kernel
theorem dksX3_direct_1 : cX3_direct.data.toList.drop 22 = dktX3_direct_1 := dk_seg dksX3_direct_0 22 rfl rfl
theorem dX3_direct_0 : decode cX3_direct 0 = .ok (.aload_n 0, 1) := dk_42 (dk_at dksX3_direct_0 0 rfl rfl)
theorem dX3_direct_1 : decode cX3_direct 1 = .ok (.aload_n 0, 1) := dk_42 (dk_at dksX3_direct_0 1 rfl rfl)
theorem dX3_direct_2 : decode cX3_direct 2 = .ok (.iload_n 1, 1) := dk_27 (dk_at dksX3_direct_0 2 rfl rfl)
theorem dX3_direct_3 : decode cX3_direct 3 = .ok (.iconst 0, 1) := dk_3 (dk_at dksX3_direct_0 3 rfl rfl)
theorem dX3_direct_4 : decode cX3_direct 4 = .ok (.invokevirtual 211, 3) := dk_182 0 211 (dk_at dksX3_direct_0 4 rfl rfl)
theorem dX3_direct_7 : decode cX3_direct 7 = .ok (.aload_n 0, 1) := dk_42 (dk_at dksX3_direct_0 7 rfl rfl)
theorem dX3_direct_8 : decode cX3_direct 8 = .ok (.iload_n 1, 1) := dk_27 (dk_at dksX3_direct_0 8 rfl rfl)
theorem dX3_direct_9 : decode cX3_direct 9 = .ok (.iconst 1, 1) := dk_4 (dk_at dksX3_direct_0 9 rfl rfl)
theorem dX3_direct_10 : decode cX3_direct 10 = .ok (.invokevirtual 211, 3) := dk_182 0 211 (dk_at dksX3_direct_0 10 rfl rfl)
theorem dX3_direct_13 : decode cX3_direct 13 = .ok (.aload_n 0, 1) := dk_42 (dk_at dksX3_direct_0 13 rfl rfl)
theorem dX3_direct_14 : decode cX3_direct 14 = .ok (.iload_n 1, 1) := dk_27 (dk_at dksX3_direct_0 14 rfl rfl)
theorem dX3_direct_15 : decode cX3_direct 15 = .ok (.iconst 2, 1) := dk_5 (dk_at dksX3_direct_0 15 rfl rfl)
theorem dX3_direct_16 : decode cX3_direct 16 = .ok (.invokevirtual 211, 3) := dk_182 0 211 (dk_at dksX3_direct_0 16 rfl rfl)
theorem dX3_direct_19 : decode cX3_direct 19 = .ok (.aload_n 0, 1) := dk_42 (dk_at dksX3_direct_0 19 rfl rfl)
theorem dX3_direct_20 : decode cX3_direct 20 = .ok (.iload_n 1, 1) := dk_27 (dk_at dksX3_direct_0 20 rfl rfl)
theorem dX3_direct_21 : decode cX3_direct 21 = .ok (.iconst 3, 1) := dk_6 (dk_at dksX3_direct_0 21 rfl rfl)
theorem dX3_direct_22 : decode cX3_direct 22 = .ok (.invokevirtual 211, 3) := dk_182 0 211 (dk_at dksX3_direct_1 0 rfl rfl)
theorem dX3_direct_25 : decode cX3_direct 25 = .ok (.invokevirtual 232, 3) := dk_182 0 232 (dk_at dksX3_direct_1 3 rfl rfl)
theorem dX3_direct_28 : decode cX3_direct 28 = .ok (.ireturn, 1) := dk_172 (dk_at dksX3_direct_1 6 rfl rfl)
abbrev cX3_triesDrops : ByteArray := prog_23_method_62_code
def yX3_triesDrops : MethodName := ⟨RX3, "triesDrops", "(III)V"⟩
def dkwX3_triesDrops_4 : List UInt8 := [42, 27, 21, 5, 182, 0, 208, 182, 1, 40, 154, 0, 4, 177, 132, 5, 1, 167, 255, 161, 177]
abbrev dktX3_triesDrops_4 : List UInt8 := dkwX3_triesDrops_4 ++ []
def dkwX3_triesDrops_3 : List UInt8 := [181, 1, 54, 42, 29, 181, 1, 63, 42, 21, 5, 4, 96, 181, 1, 66, 21, 5, 21, 4, 159, 0, 17, 42]
abbrev dktX3_triesDrops_3 : List UInt8 := dkwX3_triesDrops_3 ++ dktX3_triesDrops_4
def dkwX3_triesDrops_2 : List UInt8 := [162, 0, 38, 42, 27, 28, 21, 5, 182, 1, 60, 153, 0, 27, 42, 21, 6, 181, 1, 57, 42, 27]
abbrev dktX3_triesDrops_2 : List UInt8 := dkwX3_triesDrops_2 ++ dktX3_triesDrops_3
def dkwX3_triesDrops_1 : List UInt8 := [29, 21, 5, 182, 1, 51, 54, 6, 42, 180, 1, 54, 2, 159, 0, 12, 21, 6, 42, 180, 1, 57]
abbrev dktX3_triesDrops_1 : List UInt8 := dkwX3_triesDrops_1 ++ dktX3_triesDrops_2
def dkwX3_triesDrops_0 : List UInt8 := [42, 180, 0, 7, 16, 6, 27, 96, 46, 54, 4, 29, 54, 5, 21, 5, 21, 4, 163, 0, 94, 42, 27, 28]
abbrev dktX3_triesDrops_0 : List UInt8 := dkwX3_triesDrops_0 ++ dktX3_triesDrops_1
theorem dksX3_triesDrops_0 : cX3_triesDrops.data.toList.drop 0 = dktX3_triesDrops_0 := by decide +kernel
theorem dksX3_triesDrops_1 : cX3_triesDrops.data.toList.drop 24 = dktX3_triesDrops_1 := dk_seg dksX3_triesDrops_0 24 rfl rfl
theorem dksX3_triesDrops_2 : cX3_triesDrops.data.toList.drop 46 = dktX3_triesDrops_2 := dk_seg dksX3_triesDrops_1 22 rfl rfl
theorem dksX3_triesDrops_3 : cX3_triesDrops.data.toList.drop 68 = dktX3_triesDrops_3 := dk_seg dksX3_triesDrops_2 22 rfl rfl
theorem dksX3_triesDrops_4 : cX3_triesDrops.data.toList.drop 92 = dktX3_triesDrops_4 := dk_seg dksX3_triesDrops_3 24 rfl rfl
theorem dX3_triesDrops_0 : decode cX3_triesDrops 0 = .ok (.aload_n 0, 1) := dk_42 (dk_at dksX3_triesDrops_0 0 rfl rfl)
theorem dX3_triesDrops_1 : decode cX3_triesDrops 1 = .ok (.getfield 7, 3) := dk_180 0 7 (dk_at dksX3_triesDrops_0 1 rfl rfl)
theorem dX3_triesDrops_4 : decode cX3_triesDrops 4 = .ok (.bipush 6, 2) := dk_16 6 (dk_at dksX3_triesDrops_0 4 rfl rfl)
theorem dX3_triesDrops_6 : decode cX3_triesDrops 6 = .ok (.iload_n 1, 1) := dk_27 (dk_at dksX3_triesDrops_0 6 rfl rfl)
theorem dX3_triesDrops_7 : decode cX3_triesDrops 7 = .ok (.iadd, 1) := dk_96 (dk_at dksX3_triesDrops_0 7 rfl rfl)
theorem dX3_triesDrops_8 : decode cX3_triesDrops 8 = .ok (.iaload, 1) := dk_46 (dk_at dksX3_triesDrops_0 8 rfl rfl)
theorem dX3_triesDrops_9 : decode cX3_triesDrops 9 = .ok (.istore 4, 2) := dk_54 4 (dk_at dksX3_triesDrops_0 9 rfl rfl)
theorem dX3_triesDrops_11 : decode cX3_triesDrops 11 = .ok (.iload_n 3, 1) := dk_29 (dk_at dksX3_triesDrops_0 11 rfl rfl)
theorem dX3_triesDrops_12 : decode cX3_triesDrops 12 = .ok (.istore 5, 2) := dk_54 5 (dk_at dksX3_triesDrops_0 12 rfl rfl)
theorem dX3_triesDrops_14 : decode cX3_triesDrops 14 = .ok (.iload 5, 2) := dk_21 5 (dk_at dksX3_triesDrops_0 14 rfl rfl)
theorem dX3_triesDrops_16 : decode cX3_triesDrops 16 = .ok (.iload 4, 2) := dk_21 4 (dk_at dksX3_triesDrops_0 16 rfl rfl)
theorem dX3_triesDrops_18 : decode cX3_triesDrops 18 = .ok (.if_icmp .gt 94, 3) := dk_163 0 94 (dk_at dksX3_triesDrops_0 18 rfl rfl)
theorem dX3_triesDrops_21 : decode cX3_triesDrops 21 = .ok (.aload_n 0, 1) := dk_42 (dk_at dksX3_triesDrops_0 21 rfl rfl)
theorem dX3_triesDrops_22 : decode cX3_triesDrops 22 = .ok (.iload_n 1, 1) := dk_27 (dk_at dksX3_triesDrops_0 22 rfl rfl)
theorem dX3_triesDrops_23 : decode cX3_triesDrops 23 = .ok (.iload_n 2, 1) := dk_28 (dk_at dksX3_triesDrops_0 23 rfl rfl)
theorem dX3_triesDrops_24 : decode cX3_triesDrops 24 = .ok (.iload_n 3, 1) := dk_29 (dk_at dksX3_triesDrops_1 0 rfl rfl)
theorem dX3_triesDrops_25 : decode cX3_triesDrops 25 = .ok (.iload 5, 2) := dk_21 5 (dk_at dksX3_triesDrops_1 1 rfl rfl)
theorem dX3_triesDrops_27 : decode cX3_triesDrops 27 = .ok (.invokevirtual 307, 3) := dk_182 1 51 (dk_at dksX3_triesDrops_1 3 rfl rfl)
theorem dX3_triesDrops_30 : decode cX3_triesDrops 30 = .ok (.istore 6, 2) := dk_54 6 (dk_at dksX3_triesDrops_1 6 rfl rfl)
theorem dX3_triesDrops_32 : decode cX3_triesDrops 32 = .ok (.aload_n 0, 1) := dk_42 (dk_at dksX3_triesDrops_1 8 rfl rfl)
theorem dX3_triesDrops_33 : decode cX3_triesDrops 33 = .ok (.getfield 310, 3) := dk_180 1 54 (dk_at dksX3_triesDrops_1 9 rfl rfl)
theorem dX3_triesDrops_36 : decode cX3_triesDrops 36 = .ok (.iconst (-1), 1) := dk_2 (dk_at dksX3_triesDrops_1 12 rfl rfl)
theorem dX3_triesDrops_37 : decode cX3_triesDrops 37 = .ok (.if_icmp .eq 12, 3) := dk_159 0 12 (dk_at dksX3_triesDrops_1 13 rfl rfl)
theorem dX3_triesDrops_40 : decode cX3_triesDrops 40 = .ok (.iload 6, 2) := dk_21 6 (dk_at dksX3_triesDrops_1 16 rfl rfl)
theorem dX3_triesDrops_42 : decode cX3_triesDrops 42 = .ok (.aload_n 0, 1) := dk_42 (dk_at dksX3_triesDrops_1 18 rfl rfl)
theorem dX3_triesDrops_43 : decode cX3_triesDrops 43 = .ok (.getfield 313, 3) := dk_180 1 57 (dk_at dksX3_triesDrops_1 19 rfl rfl)
theorem dX3_triesDrops_46 : decode cX3_triesDrops 46 = .ok (.if_icmp .ge 38, 3) := dk_162 0 38 (dk_at dksX3_triesDrops_2 0 rfl rfl)
theorem dX3_triesDrops_49 : decode cX3_triesDrops 49 = .ok (.aload_n 0, 1) := dk_42 (dk_at dksX3_triesDrops_2 3 rfl rfl)
theorem dX3_triesDrops_50 : decode cX3_triesDrops 50 = .ok (.iload_n 1, 1) := dk_27 (dk_at dksX3_triesDrops_2 4 rfl rfl)
theorem dX3_triesDrops_51 : decode cX3_triesDrops 51 = .ok (.iload_n 2, 1) := dk_28 (dk_at dksX3_triesDrops_2 5 rfl rfl)
theorem dX3_triesDrops_52 : decode cX3_triesDrops 52 = .ok (.iload 5, 2) := dk_21 5 (dk_at dksX3_triesDrops_2 6 rfl rfl)
theorem dX3_triesDrops_54 : decode cX3_triesDrops 54 = .ok (.invokevirtual 316, 3) := dk_182 1 60 (dk_at dksX3_triesDrops_2 8 rfl rfl)
theorem dX3_triesDrops_57 : decode cX3_triesDrops 57 = .ok (.ifCond .eq 27, 3) := dk_153 0 27 (dk_at dksX3_triesDrops_2 11 rfl rfl)
theorem dX3_triesDrops_60 : decode cX3_triesDrops 60 = .ok (.aload_n 0, 1) := dk_42 (dk_at dksX3_triesDrops_2 14 rfl rfl)
theorem dX3_triesDrops_61 : decode cX3_triesDrops 61 = .ok (.iload 6, 2) := dk_21 6 (dk_at dksX3_triesDrops_2 15 rfl rfl)
theorem dX3_triesDrops_63 : decode cX3_triesDrops 63 = .ok (.putfield 313, 3) := dk_181 1 57 (dk_at dksX3_triesDrops_2 17 rfl rfl)
theorem dX3_triesDrops_66 : decode cX3_triesDrops 66 = .ok (.aload_n 0, 1) := dk_42 (dk_at dksX3_triesDrops_2 20 rfl rfl)
theorem dX3_triesDrops_67 : decode cX3_triesDrops 67 = .ok (.iload_n 1, 1) := dk_27 (dk_at dksX3_triesDrops_2 21 rfl rfl)
theorem dX3_triesDrops_68 : decode cX3_triesDrops 68 = .ok (.putfield 310, 3) := dk_181 1 54 (dk_at dksX3_triesDrops_3 0 rfl rfl)
theorem dX3_triesDrops_71 : decode cX3_triesDrops 71 = .ok (.aload_n 0, 1) := dk_42 (dk_at dksX3_triesDrops_3 3 rfl rfl)
theorem dX3_triesDrops_72 : decode cX3_triesDrops 72 = .ok (.iload_n 3, 1) := dk_29 (dk_at dksX3_triesDrops_3 4 rfl rfl)
theorem dX3_triesDrops_73 : decode cX3_triesDrops 73 = .ok (.putfield 319, 3) := dk_181 1 63 (dk_at dksX3_triesDrops_3 5 rfl rfl)
theorem dX3_triesDrops_76 : decode cX3_triesDrops 76 = .ok (.aload_n 0, 1) := dk_42 (dk_at dksX3_triesDrops_3 8 rfl rfl)
theorem dX3_triesDrops_77 : decode cX3_triesDrops 77 = .ok (.iload 5, 2) := dk_21 5 (dk_at dksX3_triesDrops_3 9 rfl rfl)
theorem dX3_triesDrops_79 : decode cX3_triesDrops 79 = .ok (.iconst 1, 1) := dk_4 (dk_at dksX3_triesDrops_3 11 rfl rfl)
theorem dX3_triesDrops_80 : decode cX3_triesDrops 80 = .ok (.iadd, 1) := dk_96 (dk_at dksX3_triesDrops_3 12 rfl rfl)
theorem dX3_triesDrops_81 : decode cX3_triesDrops 81 = .ok (.putfield 322, 3) := dk_181 1 66 (dk_at dksX3_triesDrops_3 13 rfl rfl)
theorem dX3_triesDrops_84 : decode cX3_triesDrops 84 = .ok (.iload 5, 2) := dk_21 5 (dk_at dksX3_triesDrops_3 16 rfl rfl)
theorem dX3_triesDrops_86 : decode cX3_triesDrops 86 = .ok (.iload 4, 2) := dk_21 4 (dk_at dksX3_triesDrops_3 18 rfl rfl)
theorem dX3_triesDrops_88 : decode cX3_triesDrops 88 = .ok (.if_icmp .eq 17, 3) := dk_159 0 17 (dk_at dksX3_triesDrops_3 20 rfl rfl)
theorem dX3_triesDrops_91 : decode cX3_triesDrops 91 = .ok (.aload_n 0, 1) := dk_42 (dk_at dksX3_triesDrops_3 23 rfl rfl)
theorem dX3_triesDrops_92 : decode cX3_triesDrops 92 = .ok (.aload_n 0, 1) := dk_42 (dk_at dksX3_triesDrops_4 0 rfl rfl)
theorem dX3_triesDrops_93 : decode cX3_triesDrops 93 = .ok (.iload_n 1, 1) := dk_27 (dk_at dksX3_triesDrops_4 1 rfl rfl)
theorem dX3_triesDrops_94 : decode cX3_triesDrops 94 = .ok (.iload 5, 2) := dk_21 5 (dk_at dksX3_triesDrops_4 2 rfl rfl)
theorem dX3_triesDrops_96 : decode cX3_triesDrops 96 = .ok (.invokevirtual 208, 3) := dk_182 0 208 (dk_at dksX3_triesDrops_4 4 rfl rfl)
theorem dX3_triesDrops_99 : decode cX3_triesDrops 99 = .ok (.invokevirtual 296, 3) := dk_182 1 40 (dk_at dksX3_triesDrops_4 7 rfl rfl)
theorem dX3_triesDrops_102 : decode cX3_triesDrops 102 = .ok (.ifCond .ne 4, 3) := dk_154 0 4 (dk_at dksX3_triesDrops_4 10 rfl rfl)
theorem dX3_triesDrops_105 : decode cX3_triesDrops 105 = .ok (.return_, 1) := dk_177 (dk_at dksX3_triesDrops_4 13 rfl rfl)
theorem dX3_triesDrops_106 : decode cX3_triesDrops 106 = .ok (.iinc 5 1, 3) := dk_132 5 1 (dk_at dksX3_triesDrops_4 14 rfl rfl)
theorem dX3_triesDrops_109 : decode cX3_triesDrops 109 = .ok (.goto (-95), 3) := dk_167 255 161 (dk_at dksX3_triesDrops_4 17 rfl rfl)
theorem dX3_triesDrops_112 : decode cX3_triesDrops 112 = .ok (.return_, 1) := dk_177 (dk_at dksX3_triesDrops_4 20 rfl rfl)
abbrev cX3_moreBy : ByteArray := prog_23_method_64_code
def yX3_moreBy : MethodName := ⟨RX3, "moreBy", "(IIII)I"⟩
def dkwX3_moreBy_5 : List UInt8 := [96, 42, 27, 29, 182, 0, 242, 100, 172]
abbrev dktX3_moreBy_5 : List UInt8 := dkwX3_moreBy_5 ++ []
def dkwX3_moreBy_4 : List UInt8 := [182, 0, 232, 96, 42, 21, 7, 21, 8, 42, 27, 29, 182, 0, 226, 42, 27, 29, 182, 0, 229, 182, 0, 232]
abbrev dktX3_moreBy_4 : List UInt8 := dkwX3_moreBy_4 ++ dktX3_moreBy_5
def dkwX3_moreBy_3 : List UInt8 := [29, 4, 100, 182, 0, 229, 21, 5, 21, 6, 182, 0, 232, 42, 21, 5, 21, 6, 21, 7, 21, 8]
abbrev dktX3_moreBy_3 : List UInt8 := dkwX3_moreBy_3 ++ dktX3_moreBy_4
def dkwX3_moreBy_2 : List UInt8 := [42, 27, 21, 4, 21, 7, 21, 8, 182, 1, 69, 96, 172, 42, 42, 27, 29, 4, 100, 182, 0, 226, 42, 27]
abbrev dktX3_moreBy_2 : List UInt8 := dkwX3_moreBy_2 ++ dktX3_moreBy_3
def dkwX3_moreBy_1 : List UInt8 := [42, 28, 6, 182, 0, 211, 54, 8, 29, 21, 4, 162, 0, 26, 42, 27, 29, 21, 5, 21, 6, 182, 1, 69]
abbrev dktX3_moreBy_1 : List UInt8 := dkwX3_moreBy_1 ++ dktX3_moreBy_2
def dkwX3_moreBy_0 : List UInt8 := [42, 28, 3, 182, 0, 211, 54, 5, 42, 28, 4, 182, 0, 211, 54, 6, 42, 28, 5, 182, 0, 211, 54, 7]
abbrev dktX3_moreBy_0 : List UInt8 := dkwX3_moreBy_0 ++ dktX3_moreBy_1
theorem dksX3_moreBy_0 : cX3_moreBy.data.toList.drop 0 = dktX3_moreBy_0 := by decide +kernel
theorem dksX3_moreBy_1 : cX3_moreBy.data.toList.drop 24 = dktX3_moreBy_1 := dk_seg dksX3_moreBy_0 24 rfl rfl
theorem dksX3_moreBy_2 : cX3_moreBy.data.toList.drop 48 = dktX3_moreBy_2 := dk_seg dksX3_moreBy_1 24 rfl rfl
theorem dksX3_moreBy_3 : cX3_moreBy.data.toList.drop 72 = dktX3_moreBy_3 := dk_seg dksX3_moreBy_2 24 rfl rfl
theorem dksX3_moreBy_4 : cX3_moreBy.data.toList.drop 94 = dktX3_moreBy_4 := dk_seg dksX3_moreBy_3 22 rfl rfl
theorem dksX3_moreBy_5 : cX3_moreBy.data.toList.drop 118 = dktX3_moreBy_5 := dk_seg dksX3_moreBy_4 24 rfl rfl
theorem dX3_moreBy_0 : decode cX3_moreBy 0 = .ok (.aload_n 0, 1) := dk_42 (dk_at dksX3_moreBy_0 0 rfl rfl)
theorem dX3_moreBy_1 : decode cX3_moreBy 1 = .ok (.iload_n 2, 1) := dk_28 (dk_at dksX3_moreBy_0 1 rfl rfl)
theorem dX3_moreBy_2 : decode cX3_moreBy 2 = .ok (.iconst 0, 1) := dk_3 (dk_at dksX3_moreBy_0 2 rfl rfl)
theorem dX3_moreBy_3 : decode cX3_moreBy 3 = .ok (.invokevirtual 211, 3) := dk_182 0 211 (dk_at dksX3_moreBy_0 3 rfl rfl)
theorem dX3_moreBy_6 : decode cX3_moreBy 6 = .ok (.istore 5, 2) := dk_54 5 (dk_at dksX3_moreBy_0 6 rfl rfl)
theorem dX3_moreBy_8 : decode cX3_moreBy 8 = .ok (.aload_n 0, 1) := dk_42 (dk_at dksX3_moreBy_0 8 rfl rfl)
theorem dX3_moreBy_9 : decode cX3_moreBy 9 = .ok (.iload_n 2, 1) := dk_28 (dk_at dksX3_moreBy_0 9 rfl rfl)
theorem dX3_moreBy_10 : decode cX3_moreBy 10 = .ok (.iconst 1, 1) := dk_4 (dk_at dksX3_moreBy_0 10 rfl rfl)
theorem dX3_moreBy_11 : decode cX3_moreBy 11 = .ok (.invokevirtual 211, 3) := dk_182 0 211 (dk_at dksX3_moreBy_0 11 rfl rfl)
theorem dX3_moreBy_14 : decode cX3_moreBy 14 = .ok (.istore 6, 2) := dk_54 6 (dk_at dksX3_moreBy_0 14 rfl rfl)
theorem dX3_moreBy_16 : decode cX3_moreBy 16 = .ok (.aload_n 0, 1) := dk_42 (dk_at dksX3_moreBy_0 16 rfl rfl)
theorem dX3_moreBy_17 : decode cX3_moreBy 17 = .ok (.iload_n 2, 1) := dk_28 (dk_at dksX3_moreBy_0 17 rfl rfl)
theorem dX3_moreBy_18 : decode cX3_moreBy 18 = .ok (.iconst 2, 1) := dk_5 (dk_at dksX3_moreBy_0 18 rfl rfl)
theorem dX3_moreBy_19 : decode cX3_moreBy 19 = .ok (.invokevirtual 211, 3) := dk_182 0 211 (dk_at dksX3_moreBy_0 19 rfl rfl)
theorem dX3_moreBy_22 : decode cX3_moreBy 22 = .ok (.istore 7, 2) := dk_54 7 (dk_at dksX3_moreBy_0 22 rfl rfl)
theorem dX3_moreBy_24 : decode cX3_moreBy 24 = .ok (.aload_n 0, 1) := dk_42 (dk_at dksX3_moreBy_1 0 rfl rfl)
theorem dX3_moreBy_25 : decode cX3_moreBy 25 = .ok (.iload_n 2, 1) := dk_28 (dk_at dksX3_moreBy_1 1 rfl rfl)
theorem dX3_moreBy_26 : decode cX3_moreBy 26 = .ok (.iconst 3, 1) := dk_6 (dk_at dksX3_moreBy_1 2 rfl rfl)
theorem dX3_moreBy_27 : decode cX3_moreBy 27 = .ok (.invokevirtual 211, 3) := dk_182 0 211 (dk_at dksX3_moreBy_1 3 rfl rfl)
theorem dX3_moreBy_30 : decode cX3_moreBy 30 = .ok (.istore 8, 2) := dk_54 8 (dk_at dksX3_moreBy_1 6 rfl rfl)
theorem dX3_moreBy_32 : decode cX3_moreBy 32 = .ok (.iload_n 3, 1) := dk_29 (dk_at dksX3_moreBy_1 8 rfl rfl)
theorem dX3_moreBy_33 : decode cX3_moreBy 33 = .ok (.iload 4, 2) := dk_21 4 (dk_at dksX3_moreBy_1 9 rfl rfl)
theorem dX3_moreBy_35 : decode cX3_moreBy 35 = .ok (.if_icmp .ge 26, 3) := dk_162 0 26 (dk_at dksX3_moreBy_1 11 rfl rfl)
theorem dX3_moreBy_38 : decode cX3_moreBy 38 = .ok (.aload_n 0, 1) := dk_42 (dk_at dksX3_moreBy_1 14 rfl rfl)
theorem dX3_moreBy_39 : decode cX3_moreBy 39 = .ok (.iload_n 1, 1) := dk_27 (dk_at dksX3_moreBy_1 15 rfl rfl)
theorem dX3_moreBy_40 : decode cX3_moreBy 40 = .ok (.iload_n 3, 1) := dk_29 (dk_at dksX3_moreBy_1 16 rfl rfl)
theorem dX3_moreBy_41 : decode cX3_moreBy 41 = .ok (.iload 5, 2) := dk_21 5 (dk_at dksX3_moreBy_1 17 rfl rfl)
theorem dX3_moreBy_43 : decode cX3_moreBy 43 = .ok (.iload 6, 2) := dk_21 6 (dk_at dksX3_moreBy_1 19 rfl rfl)
theorem dX3_moreBy_45 : decode cX3_moreBy 45 = .ok (.invokevirtual 325, 3) := dk_182 1 69 (dk_at dksX3_moreBy_1 21 rfl rfl)
theorem dX3_moreBy_48 : decode cX3_moreBy 48 = .ok (.aload_n 0, 1) := dk_42 (dk_at dksX3_moreBy_2 0 rfl rfl)
theorem dX3_moreBy_49 : decode cX3_moreBy 49 = .ok (.iload_n 1, 1) := dk_27 (dk_at dksX3_moreBy_2 1 rfl rfl)
theorem dX3_moreBy_50 : decode cX3_moreBy 50 = .ok (.iload 4, 2) := dk_21 4 (dk_at dksX3_moreBy_2 2 rfl rfl)
theorem dX3_moreBy_52 : decode cX3_moreBy 52 = .ok (.iload 7, 2) := dk_21 7 (dk_at dksX3_moreBy_2 4 rfl rfl)
theorem dX3_moreBy_54 : decode cX3_moreBy 54 = .ok (.iload 8, 2) := dk_21 8 (dk_at dksX3_moreBy_2 6 rfl rfl)
theorem dX3_moreBy_56 : decode cX3_moreBy 56 = .ok (.invokevirtual 325, 3) := dk_182 1 69 (dk_at dksX3_moreBy_2 8 rfl rfl)
theorem dX3_moreBy_59 : decode cX3_moreBy 59 = .ok (.iadd, 1) := dk_96 (dk_at dksX3_moreBy_2 11 rfl rfl)
theorem dX3_moreBy_60 : decode cX3_moreBy 60 = .ok (.ireturn, 1) := dk_172 (dk_at dksX3_moreBy_2 12 rfl rfl)
theorem dX3_moreBy_61 : decode cX3_moreBy 61 = .ok (.aload_n 0, 1) := dk_42 (dk_at dksX3_moreBy_2 13 rfl rfl)
theorem dX3_moreBy_62 : decode cX3_moreBy 62 = .ok (.aload_n 0, 1) := dk_42 (dk_at dksX3_moreBy_2 14 rfl rfl)
theorem dX3_moreBy_63 : decode cX3_moreBy 63 = .ok (.iload_n 1, 1) := dk_27 (dk_at dksX3_moreBy_2 15 rfl rfl)
theorem dX3_moreBy_64 : decode cX3_moreBy 64 = .ok (.iload_n 3, 1) := dk_29 (dk_at dksX3_moreBy_2 16 rfl rfl)
theorem dX3_moreBy_65 : decode cX3_moreBy 65 = .ok (.iconst 1, 1) := dk_4 (dk_at dksX3_moreBy_2 17 rfl rfl)
theorem dX3_moreBy_66 : decode cX3_moreBy 66 = .ok (.isub, 1) := dk_100 (dk_at dksX3_moreBy_2 18 rfl rfl)
theorem dX3_moreBy_67 : decode cX3_moreBy 67 = .ok (.invokevirtual 226, 3) := dk_182 0 226 (dk_at dksX3_moreBy_2 19 rfl rfl)
theorem dX3_moreBy_70 : decode cX3_moreBy 70 = .ok (.aload_n 0, 1) := dk_42 (dk_at dksX3_moreBy_2 22 rfl rfl)
theorem dX3_moreBy_71 : decode cX3_moreBy 71 = .ok (.iload_n 1, 1) := dk_27 (dk_at dksX3_moreBy_2 23 rfl rfl)
theorem dX3_moreBy_72 : decode cX3_moreBy 72 = .ok (.iload_n 3, 1) := dk_29 (dk_at dksX3_moreBy_3 0 rfl rfl)
theorem dX3_moreBy_73 : decode cX3_moreBy 73 = .ok (.iconst 1, 1) := dk_4 (dk_at dksX3_moreBy_3 1 rfl rfl)
theorem dX3_moreBy_74 : decode cX3_moreBy 74 = .ok (.isub, 1) := dk_100 (dk_at dksX3_moreBy_3 2 rfl rfl)
theorem dX3_moreBy_75 : decode cX3_moreBy 75 = .ok (.invokevirtual 229, 3) := dk_182 0 229 (dk_at dksX3_moreBy_3 3 rfl rfl)
theorem dX3_moreBy_78 : decode cX3_moreBy 78 = .ok (.iload 5, 2) := dk_21 5 (dk_at dksX3_moreBy_3 6 rfl rfl)
theorem dX3_moreBy_80 : decode cX3_moreBy 80 = .ok (.iload 6, 2) := dk_21 6 (dk_at dksX3_moreBy_3 8 rfl rfl)
theorem dX3_moreBy_82 : decode cX3_moreBy 82 = .ok (.invokevirtual 232, 3) := dk_182 0 232 (dk_at dksX3_moreBy_3 10 rfl rfl)
theorem dX3_moreBy_85 : decode cX3_moreBy 85 = .ok (.aload_n 0, 1) := dk_42 (dk_at dksX3_moreBy_3 13 rfl rfl)
theorem dX3_moreBy_86 : decode cX3_moreBy 86 = .ok (.iload 5, 2) := dk_21 5 (dk_at dksX3_moreBy_3 14 rfl rfl)
theorem dX3_moreBy_88 : decode cX3_moreBy 88 = .ok (.iload 6, 2) := dk_21 6 (dk_at dksX3_moreBy_3 16 rfl rfl)
theorem dX3_moreBy_90 : decode cX3_moreBy 90 = .ok (.iload 7, 2) := dk_21 7 (dk_at dksX3_moreBy_3 18 rfl rfl)
theorem dX3_moreBy_92 : decode cX3_moreBy 92 = .ok (.iload 8, 2) := dk_21 8 (dk_at dksX3_moreBy_3 20 rfl rfl)
theorem dX3_moreBy_94 : decode cX3_moreBy 94 = .ok (.invokevirtual 232, 3) := dk_182 0 232 (dk_at dksX3_moreBy_4 0 rfl rfl)
theorem dX3_moreBy_97 : decode cX3_moreBy 97 = .ok (.iadd, 1) := dk_96 (dk_at dksX3_moreBy_4 3 rfl rfl)
theorem dX3_moreBy_98 : decode cX3_moreBy 98 = .ok (.aload_n 0, 1) := dk_42 (dk_at dksX3_moreBy_4 4 rfl rfl)
theorem dX3_moreBy_99 : decode cX3_moreBy 99 = .ok (.iload 7, 2) := dk_21 7 (dk_at dksX3_moreBy_4 5 rfl rfl)
theorem dX3_moreBy_101 : decode cX3_moreBy 101 = .ok (.iload 8, 2) := dk_21 8 (dk_at dksX3_moreBy_4 7 rfl rfl)
theorem dX3_moreBy_103 : decode cX3_moreBy 103 = .ok (.aload_n 0, 1) := dk_42 (dk_at dksX3_moreBy_4 9 rfl rfl)
theorem dX3_moreBy_104 : decode cX3_moreBy 104 = .ok (.iload_n 1, 1) := dk_27 (dk_at dksX3_moreBy_4 10 rfl rfl)
theorem dX3_moreBy_105 : decode cX3_moreBy 105 = .ok (.iload_n 3, 1) := dk_29 (dk_at dksX3_moreBy_4 11 rfl rfl)
theorem dX3_moreBy_106 : decode cX3_moreBy 106 = .ok (.invokevirtual 226, 3) := dk_182 0 226 (dk_at dksX3_moreBy_4 12 rfl rfl)
theorem dX3_moreBy_109 : decode cX3_moreBy 109 = .ok (.aload_n 0, 1) := dk_42 (dk_at dksX3_moreBy_4 15 rfl rfl)
theorem dX3_moreBy_110 : decode cX3_moreBy 110 = .ok (.iload_n 1, 1) := dk_27 (dk_at dksX3_moreBy_4 16 rfl rfl)
theorem dX3_moreBy_111 : decode cX3_moreBy 111 = .ok (.iload_n 3, 1) := dk_29 (dk_at dksX3_moreBy_4 17 rfl rfl)
theorem dX3_moreBy_112 : decode cX3_moreBy 112 = .ok (.invokevirtual 229, 3) := dk_182 0 229 (dk_at dksX3_moreBy_4 18 rfl rfl)
theorem dX3_moreBy_115 : decode cX3_moreBy 115 = .ok (.invokevirtual 232, 3) := dk_182 0 232 (dk_at dksX3_moreBy_4 21 rfl rfl)
theorem dX3_moreBy_118 : decode cX3_moreBy 118 = .ok (.iadd, 1) := dk_96 (dk_at dksX3_moreBy_5 0 rfl rfl)
theorem dX3_moreBy_119 : decode cX3_moreBy 119 = .ok (.aload_n 0, 1) := dk_42 (dk_at dksX3_moreBy_5 1 rfl rfl)
theorem dX3_moreBy_120 : decode cX3_moreBy 120 = .ok (.iload_n 1, 1) := dk_27 (dk_at dksX3_moreBy_5 2 rfl rfl)
theorem dX3_moreBy_121 : decode cX3_moreBy 121 = .ok (.iload_n 3, 1) := dk_29 (dk_at dksX3_moreBy_5 3 rfl rfl)
theorem dX3_moreBy_122 : decode cX3_moreBy 122 = .ok (.invokevirtual 242, 3) := dk_182 0 242 (dk_at dksX3_moreBy_5 4 rfl rfl)
theorem dX3_moreBy_125 : decode cX3_moreBy 125 = .ok (.isub, 1) := dk_100 (dk_at dksX3_moreBy_5 7 rfl rfl)
theorem dX3_moreBy_126 : decode cX3_moreBy 126 = .ok (.ireturn, 1) := dk_172 (dk_at dksX3_moreBy_5 8 rfl rfl)
abbrev cX3_detour : ByteArray := prog_23_method_63_code
def yX3_detour : MethodName := ⟨RX3, "detour", "(IIII)I"⟩
def dkwX3_detour_2 : List UInt8 := [182, 0, 242, 100, 172]
abbrev dktX3_detour_2 : List UInt8 := dkwX3_detour_2 ++ []
def dkwX3_detour_1 : List UInt8 := [29, 21, 4, 42, 27, 28, 182, 0, 226, 42, 27, 28, 182, 0, 229, 182, 0, 232, 96, 42, 27, 28]
abbrev dktX3_detour_1 : List UInt8 := dkwX3_detour_1 ++ dktX3_detour_2
def dkwX3_detour_0 : List UInt8 := [42, 42, 27, 28, 4, 100, 182, 0, 226, 42, 27, 28, 4, 100, 182, 0, 229, 29, 21, 4, 182, 0, 232, 42]
abbrev dktX3_detour_0 : List UInt8 := dkwX3_detour_0 ++ dktX3_detour_1
theorem dksX3_detour_0 : cX3_detour.data.toList.drop 0 = dktX3_detour_0 := by decide +kernel
theorem dksX3_detour_1 : cX3_detour.data.toList.drop 24 = dktX3_detour_1 := dk_seg dksX3_detour_0 24 rfl rfl
theorem dksX3_detour_2 : cX3_detour.data.toList.drop 46 = dktX3_detour_2 := dk_seg dksX3_detour_1 22 rfl rfl
theorem dX3_detour_0 : decode cX3_detour 0 = .ok (.aload_n 0, 1) := dk_42 (dk_at dksX3_detour_0 0 rfl rfl)
theorem dX3_detour_1 : decode cX3_detour 1 = .ok (.aload_n 0, 1) := dk_42 (dk_at dksX3_detour_0 1 rfl rfl)
theorem dX3_detour_2 : decode cX3_detour 2 = .ok (.iload_n 1, 1) := dk_27 (dk_at dksX3_detour_0 2 rfl rfl)
theorem dX3_detour_3 : decode cX3_detour 3 = .ok (.iload_n 2, 1) := dk_28 (dk_at dksX3_detour_0 3 rfl rfl)
theorem dX3_detour_4 : decode cX3_detour 4 = .ok (.iconst 1, 1) := dk_4 (dk_at dksX3_detour_0 4 rfl rfl)
theorem dX3_detour_5 : decode cX3_detour 5 = .ok (.isub, 1) := dk_100 (dk_at dksX3_detour_0 5 rfl rfl)
theorem dX3_detour_6 : decode cX3_detour 6 = .ok (.invokevirtual 226, 3) := dk_182 0 226 (dk_at dksX3_detour_0 6 rfl rfl)
theorem dX3_detour_9 : decode cX3_detour 9 = .ok (.aload_n 0, 1) := dk_42 (dk_at dksX3_detour_0 9 rfl rfl)
theorem dX3_detour_10 : decode cX3_detour 10 = .ok (.iload_n 1, 1) := dk_27 (dk_at dksX3_detour_0 10 rfl rfl)
theorem dX3_detour_11 : decode cX3_detour 11 = .ok (.iload_n 2, 1) := dk_28 (dk_at dksX3_detour_0 11 rfl rfl)
theorem dX3_detour_12 : decode cX3_detour 12 = .ok (.iconst 1, 1) := dk_4 (dk_at dksX3_detour_0 12 rfl rfl)
theorem dX3_detour_13 : decode cX3_detour 13 = .ok (.isub, 1) := dk_100 (dk_at dksX3_detour_0 13 rfl rfl)
theorem dX3_detour_14 : decode cX3_detour 14 = .ok (.invokevirtual 229, 3) := dk_182 0 229 (dk_at dksX3_detour_0 14 rfl rfl)
theorem dX3_detour_17 : decode cX3_detour 17 = .ok (.iload_n 3, 1) := dk_29 (dk_at dksX3_detour_0 17 rfl rfl)
theorem dX3_detour_18 : decode cX3_detour 18 = .ok (.iload 4, 2) := dk_21 4 (dk_at dksX3_detour_0 18 rfl rfl)
theorem dX3_detour_20 : decode cX3_detour 20 = .ok (.invokevirtual 232, 3) := dk_182 0 232 (dk_at dksX3_detour_0 20 rfl rfl)
theorem dX3_detour_23 : decode cX3_detour 23 = .ok (.aload_n 0, 1) := dk_42 (dk_at dksX3_detour_0 23 rfl rfl)
theorem dX3_detour_24 : decode cX3_detour 24 = .ok (.iload_n 3, 1) := dk_29 (dk_at dksX3_detour_1 0 rfl rfl)
theorem dX3_detour_25 : decode cX3_detour 25 = .ok (.iload 4, 2) := dk_21 4 (dk_at dksX3_detour_1 1 rfl rfl)
theorem dX3_detour_27 : decode cX3_detour 27 = .ok (.aload_n 0, 1) := dk_42 (dk_at dksX3_detour_1 3 rfl rfl)
theorem dX3_detour_28 : decode cX3_detour 28 = .ok (.iload_n 1, 1) := dk_27 (dk_at dksX3_detour_1 4 rfl rfl)
theorem dX3_detour_29 : decode cX3_detour 29 = .ok (.iload_n 2, 1) := dk_28 (dk_at dksX3_detour_1 5 rfl rfl)
theorem dX3_detour_30 : decode cX3_detour 30 = .ok (.invokevirtual 226, 3) := dk_182 0 226 (dk_at dksX3_detour_1 6 rfl rfl)
theorem dX3_detour_33 : decode cX3_detour 33 = .ok (.aload_n 0, 1) := dk_42 (dk_at dksX3_detour_1 9 rfl rfl)
theorem dX3_detour_34 : decode cX3_detour 34 = .ok (.iload_n 1, 1) := dk_27 (dk_at dksX3_detour_1 10 rfl rfl)
theorem dX3_detour_35 : decode cX3_detour 35 = .ok (.iload_n 2, 1) := dk_28 (dk_at dksX3_detour_1 11 rfl rfl)
theorem dX3_detour_36 : decode cX3_detour 36 = .ok (.invokevirtual 229, 3) := dk_182 0 229 (dk_at dksX3_detour_1 12 rfl rfl)
theorem dX3_detour_39 : decode cX3_detour 39 = .ok (.invokevirtual 232, 3) := dk_182 0 232 (dk_at dksX3_detour_1 15 rfl rfl)
theorem dX3_detour_42 : decode cX3_detour 42 = .ok (.iadd, 1) := dk_96 (dk_at dksX3_detour_1 18 rfl rfl)
theorem dX3_detour_43 : decode cX3_detour 43 = .ok (.aload_n 0, 1) := dk_42 (dk_at dksX3_detour_1 19 rfl rfl)
theorem dX3_detour_44 : decode cX3_detour 44 = .ok (.iload_n 1, 1) := dk_27 (dk_at dksX3_detour_1 20 rfl rfl)
theorem dX3_detour_45 : decode cX3_detour 45 = .ok (.iload_n 2, 1) := dk_28 (dk_at dksX3_detour_1 21 rfl rfl)
theorem dX3_detour_46 : decode cX3_detour 46 = .ok (.invokevirtual 242, 3) := dk_182 0 242 (dk_at dksX3_detour_2 0 rfl rfl)
theorem dX3_detour_49 : decode cX3_detour 49 = .ok (.isub, 1) := dk_100 (dk_at dksX3_detour_2 3 rfl rfl)
theorem dX3_detour_50 : decode cX3_detour 50 = .ok (.ireturn, 1) := dk_172 (dk_at dksX3_detour_2 4 rfl rfl)
abbrev cX3_wayTo : ByteArray := prog_23_method_41_code
def yX3_wayTo : MethodName := ⟨RX3, "wayTo", "(II)I"⟩
def dkwX3_wayTo_1 : List UInt8 := [27, 28, 182, 0, 229, 182, 0, 232, 172]
abbrev dktX3_wayTo_1 : List UInt8 := dkwX3_wayTo_1 ++ []
def dkwX3_wayTo_0 : List UInt8 := [42, 42, 27, 28, 4, 100, 182, 0, 226, 42, 27, 28, 4, 100, 182, 0, 229, 42, 27, 28, 182, 0, 226, 42]
abbrev dktX3_wayTo_0 : List UInt8 := dkwX3_wayTo_0 ++ dktX3_wayTo_1
theorem dksX3_wayTo_0 : cX3_wayTo.data.toList.drop 0 = dktX3_wayTo_0 := by decide +kernel
theorem dksX3_wayTo_1 : cX3_wayTo.data.toList.drop 24 = dktX3_wayTo_1 := dk_seg dksX3_wayTo_0 24 rfl rfl
theorem dX3_wayTo_0 : decode cX3_wayTo 0 = .ok (.aload_n 0, 1) := dk_42 (dk_at dksX3_wayTo_0 0 rfl rfl)
theorem dX3_wayTo_1 : decode cX3_wayTo 1 = .ok (.aload_n 0, 1) := dk_42 (dk_at dksX3_wayTo_0 1 rfl rfl)
theorem dX3_wayTo_2 : decode cX3_wayTo 2 = .ok (.iload_n 1, 1) := dk_27 (dk_at dksX3_wayTo_0 2 rfl rfl)
theorem dX3_wayTo_3 : decode cX3_wayTo 3 = .ok (.iload_n 2, 1) := dk_28 (dk_at dksX3_wayTo_0 3 rfl rfl)
theorem dX3_wayTo_4 : decode cX3_wayTo 4 = .ok (.iconst 1, 1) := dk_4 (dk_at dksX3_wayTo_0 4 rfl rfl)
theorem dX3_wayTo_5 : decode cX3_wayTo 5 = .ok (.isub, 1) := dk_100 (dk_at dksX3_wayTo_0 5 rfl rfl)
theorem dX3_wayTo_6 : decode cX3_wayTo 6 = .ok (.invokevirtual 226, 3) := dk_182 0 226 (dk_at dksX3_wayTo_0 6 rfl rfl)
theorem dX3_wayTo_9 : decode cX3_wayTo 9 = .ok (.aload_n 0, 1) := dk_42 (dk_at dksX3_wayTo_0 9 rfl rfl)
theorem dX3_wayTo_10 : decode cX3_wayTo 10 = .ok (.iload_n 1, 1) := dk_27 (dk_at dksX3_wayTo_0 10 rfl rfl)
theorem dX3_wayTo_11 : decode cX3_wayTo 11 = .ok (.iload_n 2, 1) := dk_28 (dk_at dksX3_wayTo_0 11 rfl rfl)
theorem dX3_wayTo_12 : decode cX3_wayTo 12 = .ok (.iconst 1, 1) := dk_4 (dk_at dksX3_wayTo_0 12 rfl rfl)
theorem dX3_wayTo_13 : decode cX3_wayTo 13 = .ok (.isub, 1) := dk_100 (dk_at dksX3_wayTo_0 13 rfl rfl)
theorem dX3_wayTo_14 : decode cX3_wayTo 14 = .ok (.invokevirtual 229, 3) := dk_182 0 229 (dk_at dksX3_wayTo_0 14 rfl rfl)
theorem dX3_wayTo_17 : decode cX3_wayTo 17 = .ok (.aload_n 0, 1) := dk_42 (dk_at dksX3_wayTo_0 17 rfl rfl)
theorem dX3_wayTo_18 : decode cX3_wayTo 18 = .ok (.iload_n 1, 1) := dk_27 (dk_at dksX3_wayTo_0 18 rfl rfl)
theorem dX3_wayTo_19 : decode cX3_wayTo 19 = .ok (.iload_n 2, 1) := dk_28 (dk_at dksX3_wayTo_0 19 rfl rfl)
theorem dX3_wayTo_20 : decode cX3_wayTo 20 = .ok (.invokevirtual 226, 3) := dk_182 0 226 (dk_at dksX3_wayTo_0 20 rfl rfl)
theorem dX3_wayTo_23 : decode cX3_wayTo 23 = .ok (.aload_n 0, 1) := dk_42 (dk_at dksX3_wayTo_0 23 rfl rfl)
theorem dX3_wayTo_24 : decode cX3_wayTo 24 = .ok (.iload_n 1, 1) := dk_27 (dk_at dksX3_wayTo_1 0 rfl rfl)
theorem dX3_wayTo_25 : decode cX3_wayTo 25 = .ok (.iload_n 2, 1) := dk_28 (dk_at dksX3_wayTo_1 1 rfl rfl)
theorem dX3_wayTo_26 : decode cX3_wayTo 26 = .ok (.invokevirtual 229, 3) := dk_182 0 229 (dk_at dksX3_wayTo_1 2 rfl rfl)
theorem dX3_wayTo_29 : decode cX3_wayTo 29 = .ok (.invokevirtual 232, 3) := dk_182 0 232 (dk_at dksX3_wayTo_1 5 rfl rfl)
theorem dX3_wayTo_32 : decode cX3_wayTo 32 = .ok (.ireturn, 1) := dk_172 (dk_at dksX3_wayTo_1 8 rfl rfl)
abbrev cX3_comesHome : ByteArray := prog_23_method_65_code
def yX3_comesHome : MethodName := ⟨RX3, "comesHome", "(III)Z"⟩
def dkwX3_comesHome_6 : List UInt8 := [21, 7, 21, 8, 182, 1, 47, 21, 9, 172]
abbrev dktX3_comesHome_6 : List UInt8 := dkwX3_comesHome_6 ++ []
def dkwX3_comesHome_5 : List UInt8 := [180, 0, 7, 5, 27, 96, 46, 163, 0, 7, 4, 167, 0, 4, 3, 54, 9, 42, 21, 4, 21, 5, 21, 6]
abbrev dktX3_comesHome_5 : List UInt8 := dkwX3_comesHome_5 ++ dktX3_comesHome_6
def dkwX3_comesHome_4 : List UInt8 := [180, 1, 25, 42, 180, 1, 28, 42, 27, 3, 182, 0, 192, 42, 27, 4, 182, 0, 192, 182, 0, 232, 96, 42]
abbrev dktX3_comesHome_4 : List UInt8 := dkwX3_comesHome_4 ++ dktX3_comesHome_5
def dkwX3_comesHome_3 : List UInt8 := [182, 1, 40, 54, 9, 132, 10, 1, 167, 255, 221, 21, 9, 153, 0, 47, 42, 180, 1, 22, 42, 42]
abbrev dktX3_comesHome_3 : List UInt8 := dkwX3_comesHome_3 ++ dktX3_comesHome_4
def dkwX3_comesHome_2 : List UInt8 := [180, 0, 7, 16, 6, 27, 96, 46, 162, 0, 27, 21, 9, 153, 0, 22, 42, 42, 27, 21, 10, 182, 0, 208]
abbrev dktX3_comesHome_2 : List UInt8 := dkwX3_comesHome_2 ++ dktX3_comesHome_3
def dkwX3_comesHome_1 : List UInt8 := [42, 180, 1, 34, 54, 8, 42, 5, 28, 104, 4, 96, 182, 1, 40, 54, 9, 29, 54, 10, 21, 10, 42]
abbrev dktX3_comesHome_1 : List UInt8 := dkwX3_comesHome_1 ++ dktX3_comesHome_2
def dkwX3_comesHome_0 : List UInt8 := [42, 180, 1, 22, 54, 4, 42, 180, 1, 25, 54, 5, 42, 180, 1, 28, 54, 6, 42, 180, 1, 31, 54, 7]
abbrev dktX3_comesHome_0 : List UInt8 := dkwX3_comesHome_0 ++ dktX3_comesHome_1
theorem dksX3_comesHome_0 : cX3_comesHome.data.toList.drop 0 = dktX3_comesHome_0 := by decide +kernel
theorem dksX3_comesHome_1 : cX3_comesHome.data.toList.drop 24 = dktX3_comesHome_1 := dk_seg dksX3_comesHome_0 24 rfl rfl
theorem dksX3_comesHome_2 : cX3_comesHome.data.toList.drop 47 = dktX3_comesHome_2 := dk_seg dksX3_comesHome_1 23 rfl rfl
theorem dksX3_comesHome_3 : cX3_comesHome.data.toList.drop 71 = dktX3_comesHome_3 := dk_seg dksX3_comesHome_2 24 rfl rfl
theorem dksX3_comesHome_4 : cX3_comesHome.data.toList.drop 93 = dktX3_comesHome_4 := dk_seg dksX3_comesHome_3 22 rfl rfl
theorem dksX3_comesHome_5 : cX3_comesHome.data.toList.drop 117 = dktX3_comesHome_5 := dk_seg dksX3_comesHome_4 24 rfl rfl
theorem dksX3_comesHome_6 : cX3_comesHome.data.toList.drop 141 = dktX3_comesHome_6 := dk_seg dksX3_comesHome_5 24 rfl rfl
theorem dX3_comesHome_0 : decode cX3_comesHome 0 = .ok (.aload_n 0, 1) := dk_42 (dk_at dksX3_comesHome_0 0 rfl rfl)
theorem dX3_comesHome_1 : decode cX3_comesHome 1 = .ok (.getfield 278, 3) := dk_180 1 22 (dk_at dksX3_comesHome_0 1 rfl rfl)
theorem dX3_comesHome_4 : decode cX3_comesHome 4 = .ok (.istore 4, 2) := dk_54 4 (dk_at dksX3_comesHome_0 4 rfl rfl)
theorem dX3_comesHome_6 : decode cX3_comesHome 6 = .ok (.aload_n 0, 1) := dk_42 (dk_at dksX3_comesHome_0 6 rfl rfl)
theorem dX3_comesHome_7 : decode cX3_comesHome 7 = .ok (.getfield 281, 3) := dk_180 1 25 (dk_at dksX3_comesHome_0 7 rfl rfl)
theorem dX3_comesHome_10 : decode cX3_comesHome 10 = .ok (.istore 5, 2) := dk_54 5 (dk_at dksX3_comesHome_0 10 rfl rfl)
theorem dX3_comesHome_12 : decode cX3_comesHome 12 = .ok (.aload_n 0, 1) := dk_42 (dk_at dksX3_comesHome_0 12 rfl rfl)
theorem dX3_comesHome_13 : decode cX3_comesHome 13 = .ok (.getfield 284, 3) := dk_180 1 28 (dk_at dksX3_comesHome_0 13 rfl rfl)
theorem dX3_comesHome_16 : decode cX3_comesHome 16 = .ok (.istore 6, 2) := dk_54 6 (dk_at dksX3_comesHome_0 16 rfl rfl)
theorem dX3_comesHome_18 : decode cX3_comesHome 18 = .ok (.aload_n 0, 1) := dk_42 (dk_at dksX3_comesHome_0 18 rfl rfl)
theorem dX3_comesHome_19 : decode cX3_comesHome 19 = .ok (.getfield 287, 3) := dk_180 1 31 (dk_at dksX3_comesHome_0 19 rfl rfl)
theorem dX3_comesHome_22 : decode cX3_comesHome 22 = .ok (.istore 7, 2) := dk_54 7 (dk_at dksX3_comesHome_0 22 rfl rfl)
theorem dX3_comesHome_24 : decode cX3_comesHome 24 = .ok (.aload_n 0, 1) := dk_42 (dk_at dksX3_comesHome_1 0 rfl rfl)
theorem dX3_comesHome_25 : decode cX3_comesHome 25 = .ok (.getfield 290, 3) := dk_180 1 34 (dk_at dksX3_comesHome_1 1 rfl rfl)
theorem dX3_comesHome_28 : decode cX3_comesHome 28 = .ok (.istore 8, 2) := dk_54 8 (dk_at dksX3_comesHome_1 4 rfl rfl)
theorem dX3_comesHome_30 : decode cX3_comesHome 30 = .ok (.aload_n 0, 1) := dk_42 (dk_at dksX3_comesHome_1 6 rfl rfl)
theorem dX3_comesHome_31 : decode cX3_comesHome 31 = .ok (.iconst 2, 1) := dk_5 (dk_at dksX3_comesHome_1 7 rfl rfl)
theorem dX3_comesHome_32 : decode cX3_comesHome 32 = .ok (.iload_n 2, 1) := dk_28 (dk_at dksX3_comesHome_1 8 rfl rfl)
theorem dX3_comesHome_33 : decode cX3_comesHome 33 = .ok (.imul, 1) := dk_104 (dk_at dksX3_comesHome_1 9 rfl rfl)
theorem dX3_comesHome_34 : decode cX3_comesHome 34 = .ok (.iconst 1, 1) := dk_4 (dk_at dksX3_comesHome_1 10 rfl rfl)
theorem dX3_comesHome_35 : decode cX3_comesHome 35 = .ok (.iadd, 1) := dk_96 (dk_at dksX3_comesHome_1 11 rfl rfl)
theorem dX3_comesHome_36 : decode cX3_comesHome 36 = .ok (.invokevirtual 296, 3) := dk_182 1 40 (dk_at dksX3_comesHome_1 12 rfl rfl)
theorem dX3_comesHome_39 : decode cX3_comesHome 39 = .ok (.istore 9, 2) := dk_54 9 (dk_at dksX3_comesHome_1 15 rfl rfl)
theorem dX3_comesHome_41 : decode cX3_comesHome 41 = .ok (.iload_n 3, 1) := dk_29 (dk_at dksX3_comesHome_1 17 rfl rfl)
theorem dX3_comesHome_42 : decode cX3_comesHome 42 = .ok (.istore 10, 2) := dk_54 10 (dk_at dksX3_comesHome_1 18 rfl rfl)
theorem dX3_comesHome_44 : decode cX3_comesHome 44 = .ok (.iload 10, 2) := dk_21 10 (dk_at dksX3_comesHome_1 20 rfl rfl)
theorem dX3_comesHome_46 : decode cX3_comesHome 46 = .ok (.aload_n 0, 1) := dk_42 (dk_at dksX3_comesHome_1 22 rfl rfl)
theorem dX3_comesHome_47 : decode cX3_comesHome 47 = .ok (.getfield 7, 3) := dk_180 0 7 (dk_at dksX3_comesHome_2 0 rfl rfl)
theorem dX3_comesHome_50 : decode cX3_comesHome 50 = .ok (.bipush 6, 2) := dk_16 6 (dk_at dksX3_comesHome_2 3 rfl rfl)
theorem dX3_comesHome_52 : decode cX3_comesHome 52 = .ok (.iload_n 1, 1) := dk_27 (dk_at dksX3_comesHome_2 5 rfl rfl)
theorem dX3_comesHome_53 : decode cX3_comesHome 53 = .ok (.iadd, 1) := dk_96 (dk_at dksX3_comesHome_2 6 rfl rfl)
theorem dX3_comesHome_54 : decode cX3_comesHome 54 = .ok (.iaload, 1) := dk_46 (dk_at dksX3_comesHome_2 7 rfl rfl)
theorem dX3_comesHome_55 : decode cX3_comesHome 55 = .ok (.if_icmp .ge 27, 3) := dk_162 0 27 (dk_at dksX3_comesHome_2 8 rfl rfl)
theorem dX3_comesHome_58 : decode cX3_comesHome 58 = .ok (.iload 9, 2) := dk_21 9 (dk_at dksX3_comesHome_2 11 rfl rfl)
theorem dX3_comesHome_60 : decode cX3_comesHome 60 = .ok (.ifCond .eq 22, 3) := dk_153 0 22 (dk_at dksX3_comesHome_2 13 rfl rfl)
theorem dX3_comesHome_63 : decode cX3_comesHome 63 = .ok (.aload_n 0, 1) := dk_42 (dk_at dksX3_comesHome_2 16 rfl rfl)
theorem dX3_comesHome_64 : decode cX3_comesHome 64 = .ok (.aload_n 0, 1) := dk_42 (dk_at dksX3_comesHome_2 17 rfl rfl)
theorem dX3_comesHome_65 : decode cX3_comesHome 65 = .ok (.iload_n 1, 1) := dk_27 (dk_at dksX3_comesHome_2 18 rfl rfl)
theorem dX3_comesHome_66 : decode cX3_comesHome 66 = .ok (.iload 10, 2) := dk_21 10 (dk_at dksX3_comesHome_2 19 rfl rfl)
theorem dX3_comesHome_68 : decode cX3_comesHome 68 = .ok (.invokevirtual 208, 3) := dk_182 0 208 (dk_at dksX3_comesHome_2 21 rfl rfl)
theorem dX3_comesHome_71 : decode cX3_comesHome 71 = .ok (.invokevirtual 296, 3) := dk_182 1 40 (dk_at dksX3_comesHome_3 0 rfl rfl)
theorem dX3_comesHome_74 : decode cX3_comesHome 74 = .ok (.istore 9, 2) := dk_54 9 (dk_at dksX3_comesHome_3 3 rfl rfl)
theorem dX3_comesHome_76 : decode cX3_comesHome 76 = .ok (.iinc 10 1, 3) := dk_132 10 1 (dk_at dksX3_comesHome_3 5 rfl rfl)
theorem dX3_comesHome_79 : decode cX3_comesHome 79 = .ok (.goto (-35), 3) := dk_167 255 221 (dk_at dksX3_comesHome_3 8 rfl rfl)
theorem dX3_comesHome_82 : decode cX3_comesHome 82 = .ok (.iload 9, 2) := dk_21 9 (dk_at dksX3_comesHome_3 11 rfl rfl)
theorem dX3_comesHome_84 : decode cX3_comesHome 84 = .ok (.ifCond .eq 47, 3) := dk_153 0 47 (dk_at dksX3_comesHome_3 13 rfl rfl)
theorem dX3_comesHome_87 : decode cX3_comesHome 87 = .ok (.aload_n 0, 1) := dk_42 (dk_at dksX3_comesHome_3 16 rfl rfl)
theorem dX3_comesHome_88 : decode cX3_comesHome 88 = .ok (.getfield 278, 3) := dk_180 1 22 (dk_at dksX3_comesHome_3 17 rfl rfl)
theorem dX3_comesHome_91 : decode cX3_comesHome 91 = .ok (.aload_n 0, 1) := dk_42 (dk_at dksX3_comesHome_3 20 rfl rfl)
theorem dX3_comesHome_92 : decode cX3_comesHome 92 = .ok (.aload_n 0, 1) := dk_42 (dk_at dksX3_comesHome_3 21 rfl rfl)
theorem dX3_comesHome_93 : decode cX3_comesHome 93 = .ok (.getfield 281, 3) := dk_180 1 25 (dk_at dksX3_comesHome_4 0 rfl rfl)
theorem dX3_comesHome_96 : decode cX3_comesHome 96 = .ok (.aload_n 0, 1) := dk_42 (dk_at dksX3_comesHome_4 3 rfl rfl)
theorem dX3_comesHome_97 : decode cX3_comesHome 97 = .ok (.getfield 284, 3) := dk_180 1 28 (dk_at dksX3_comesHome_4 4 rfl rfl)
theorem dX3_comesHome_100 : decode cX3_comesHome 100 = .ok (.aload_n 0, 1) := dk_42 (dk_at dksX3_comesHome_4 7 rfl rfl)
theorem dX3_comesHome_101 : decode cX3_comesHome 101 = .ok (.iload_n 1, 1) := dk_27 (dk_at dksX3_comesHome_4 8 rfl rfl)
theorem dX3_comesHome_102 : decode cX3_comesHome 102 = .ok (.iconst 0, 1) := dk_3 (dk_at dksX3_comesHome_4 9 rfl rfl)
theorem dX3_comesHome_103 : decode cX3_comesHome 103 = .ok (.invokevirtual 192, 3) := dk_182 0 192 (dk_at dksX3_comesHome_4 10 rfl rfl)
theorem dX3_comesHome_106 : decode cX3_comesHome 106 = .ok (.aload_n 0, 1) := dk_42 (dk_at dksX3_comesHome_4 13 rfl rfl)
theorem dX3_comesHome_107 : decode cX3_comesHome 107 = .ok (.iload_n 1, 1) := dk_27 (dk_at dksX3_comesHome_4 14 rfl rfl)
theorem dX3_comesHome_108 : decode cX3_comesHome 108 = .ok (.iconst 1, 1) := dk_4 (dk_at dksX3_comesHome_4 15 rfl rfl)
theorem dX3_comesHome_109 : decode cX3_comesHome 109 = .ok (.invokevirtual 192, 3) := dk_182 0 192 (dk_at dksX3_comesHome_4 16 rfl rfl)
theorem dX3_comesHome_112 : decode cX3_comesHome 112 = .ok (.invokevirtual 232, 3) := dk_182 0 232 (dk_at dksX3_comesHome_4 19 rfl rfl)
theorem dX3_comesHome_115 : decode cX3_comesHome 115 = .ok (.iadd, 1) := dk_96 (dk_at dksX3_comesHome_4 22 rfl rfl)
theorem dX3_comesHome_116 : decode cX3_comesHome 116 = .ok (.aload_n 0, 1) := dk_42 (dk_at dksX3_comesHome_4 23 rfl rfl)
theorem dX3_comesHome_117 : decode cX3_comesHome 117 = .ok (.getfield 7, 3) := dk_180 0 7 (dk_at dksX3_comesHome_5 0 rfl rfl)
theorem dX3_comesHome_120 : decode cX3_comesHome 120 = .ok (.iconst 2, 1) := dk_5 (dk_at dksX3_comesHome_5 3 rfl rfl)
theorem dX3_comesHome_121 : decode cX3_comesHome 121 = .ok (.iload_n 1, 1) := dk_27 (dk_at dksX3_comesHome_5 4 rfl rfl)
theorem dX3_comesHome_122 : decode cX3_comesHome 122 = .ok (.iadd, 1) := dk_96 (dk_at dksX3_comesHome_5 5 rfl rfl)
theorem dX3_comesHome_123 : decode cX3_comesHome 123 = .ok (.iaload, 1) := dk_46 (dk_at dksX3_comesHome_5 6 rfl rfl)
theorem dX3_comesHome_124 : decode cX3_comesHome 124 = .ok (.if_icmp .gt 7, 3) := dk_163 0 7 (dk_at dksX3_comesHome_5 7 rfl rfl)
theorem dX3_comesHome_127 : decode cX3_comesHome 127 = .ok (.iconst 1, 1) := dk_4 (dk_at dksX3_comesHome_5 10 rfl rfl)
theorem dX3_comesHome_128 : decode cX3_comesHome 128 = .ok (.goto 4, 3) := dk_167 0 4 (dk_at dksX3_comesHome_5 11 rfl rfl)
theorem dX3_comesHome_131 : decode cX3_comesHome 131 = .ok (.iconst 0, 1) := dk_3 (dk_at dksX3_comesHome_5 14 rfl rfl)
theorem dX3_comesHome_132 : decode cX3_comesHome 132 = .ok (.istore 9, 2) := dk_54 9 (dk_at dksX3_comesHome_5 15 rfl rfl)
theorem dX3_comesHome_134 : decode cX3_comesHome 134 = .ok (.aload_n 0, 1) := dk_42 (dk_at dksX3_comesHome_5 17 rfl rfl)
theorem dX3_comesHome_135 : decode cX3_comesHome 135 = .ok (.iload 4, 2) := dk_21 4 (dk_at dksX3_comesHome_5 18 rfl rfl)
theorem dX3_comesHome_137 : decode cX3_comesHome 137 = .ok (.iload 5, 2) := dk_21 5 (dk_at dksX3_comesHome_5 20 rfl rfl)
theorem dX3_comesHome_139 : decode cX3_comesHome 139 = .ok (.iload 6, 2) := dk_21 6 (dk_at dksX3_comesHome_5 22 rfl rfl)
theorem dX3_comesHome_141 : decode cX3_comesHome 141 = .ok (.iload 7, 2) := dk_21 7 (dk_at dksX3_comesHome_6 0 rfl rfl)
theorem dX3_comesHome_143 : decode cX3_comesHome 143 = .ok (.iload 8, 2) := dk_21 8 (dk_at dksX3_comesHome_6 2 rfl rfl)
theorem dX3_comesHome_145 : decode cX3_comesHome 145 = .ok (.invokevirtual 303, 3) := dk_182 1 47 (dk_at dksX3_comesHome_6 4 rfl rfl)
theorem dX3_comesHome_148 : decode cX3_comesHome 148 = .ok (.iload 9, 2) := dk_21 9 (dk_at dksX3_comesHome_6 7 rfl rfl)
theorem dX3_comesHome_150 : decode cX3_comesHome 150 = .ok (.ireturn, 1) := dk_172 (dk_at dksX3_comesHome_6 9 rfl rfl)
abbrev cX3_goesBack : ByteArray := prog_23_method_60_code
def yX3_goesBack : MethodName := ⟨RX3, "goesBack", "(IIIII)V"⟩
def dkwX3_goesBack_1 : List UInt8 := [181, 1, 34, 177]
abbrev dktX3_goesBack_1 : List UInt8 := dkwX3_goesBack_1 ++ []
def dkwX3_goesBack_0 : List UInt8 := [42, 27, 181, 1, 22, 42, 28, 181, 1, 25, 42, 29, 181, 1, 28, 42, 21, 4, 181, 1, 31, 42, 21, 5]
abbrev dktX3_goesBack_0 : List UInt8 := dkwX3_goesBack_0 ++ dktX3_goesBack_1
theorem dksX3_goesBack_0 : cX3_goesBack.data.toList.drop 0 = dktX3_goesBack_0 := by decide +kernel
theorem dksX3_goesBack_1 : cX3_goesBack.data.toList.drop 24 = dktX3_goesBack_1 := dk_seg dksX3_goesBack_0 24 rfl rfl
theorem dX3_goesBack_0 : decode cX3_goesBack 0 = .ok (.aload_n 0, 1) := dk_42 (dk_at dksX3_goesBack_0 0 rfl rfl)
theorem dX3_goesBack_1 : decode cX3_goesBack 1 = .ok (.iload_n 1, 1) := dk_27 (dk_at dksX3_goesBack_0 1 rfl rfl)
theorem dX3_goesBack_2 : decode cX3_goesBack 2 = .ok (.putfield 278, 3) := dk_181 1 22 (dk_at dksX3_goesBack_0 2 rfl rfl)
theorem dX3_goesBack_5 : decode cX3_goesBack 5 = .ok (.aload_n 0, 1) := dk_42 (dk_at dksX3_goesBack_0 5 rfl rfl)
theorem dX3_goesBack_6 : decode cX3_goesBack 6 = .ok (.iload_n 2, 1) := dk_28 (dk_at dksX3_goesBack_0 6 rfl rfl)
theorem dX3_goesBack_7 : decode cX3_goesBack 7 = .ok (.putfield 281, 3) := dk_181 1 25 (dk_at dksX3_goesBack_0 7 rfl rfl)
theorem dX3_goesBack_10 : decode cX3_goesBack 10 = .ok (.aload_n 0, 1) := dk_42 (dk_at dksX3_goesBack_0 10 rfl rfl)
theorem dX3_goesBack_11 : decode cX3_goesBack 11 = .ok (.iload_n 3, 1) := dk_29 (dk_at dksX3_goesBack_0 11 rfl rfl)
theorem dX3_goesBack_12 : decode cX3_goesBack 12 = .ok (.putfield 284, 3) := dk_181 1 28 (dk_at dksX3_goesBack_0 12 rfl rfl)
theorem dX3_goesBack_15 : decode cX3_goesBack 15 = .ok (.aload_n 0, 1) := dk_42 (dk_at dksX3_goesBack_0 15 rfl rfl)
theorem dX3_goesBack_16 : decode cX3_goesBack 16 = .ok (.iload 4, 2) := dk_21 4 (dk_at dksX3_goesBack_0 16 rfl rfl)
theorem dX3_goesBack_18 : decode cX3_goesBack 18 = .ok (.putfield 287, 3) := dk_181 1 31 (dk_at dksX3_goesBack_0 18 rfl rfl)
theorem dX3_goesBack_21 : decode cX3_goesBack 21 = .ok (.aload_n 0, 1) := dk_42 (dk_at dksX3_goesBack_0 21 rfl rfl)
theorem dX3_goesBack_22 : decode cX3_goesBack 22 = .ok (.iload 5, 2) := dk_21 5 (dk_at dksX3_goesBack_0 22 rfl rfl)
theorem dX3_goesBack_24 : decode cX3_goesBack 24 = .ok (.putfield 290, 3) := dk_181 1 34 (dk_at dksX3_goesBack_1 0 rfl rfl)
theorem dX3_goesBack_27 : decode cX3_goesBack 27 = .ok (.return_, 1) := dk_177 (dk_at dksX3_goesBack_1 3 rfl rfl)
abbrev cX3_takesIn : ByteArray := prog_23_method_56_code
def yX3_takesIn : MethodName := ⟨RX3, "takesIn", "(III)V"⟩
def dkwX3_takesIn_3 : List UInt8 := [28, 3, 184, 0, 204, 29, 79, 42, 180, 0, 7, 16, 6, 27, 96, 92, 46, 4, 96, 79, 177]
abbrev dktX3_takesIn_3 : List UInt8 := dkwX3_takesIn_3 ++ []
def dkwX3_takesIn_2 : List UInt8 := [21, 5, 184, 0, 204, 46, 79, 132, 5, 1, 167, 255, 219, 132, 4, 255, 167, 255, 204, 42, 180, 0, 7, 27]
abbrev dktX3_takesIn_2 : List UInt8 := dkwX3_takesIn_2 ++ dktX3_takesIn_3
def dkwX3_takesIn_1 : List UInt8 := [162, 0, 37, 42, 180, 0, 7, 27, 21, 4, 21, 5, 184, 0, 204, 42, 180, 0, 7, 27, 21, 4, 4, 100]
abbrev dktX3_takesIn_1 : List UInt8 := dkwX3_takesIn_1 ++ dktX3_takesIn_2
def dkwX3_takesIn_0 : List UInt8 := [42, 180, 0, 7, 16, 6, 27, 96, 46, 54, 4, 21, 4, 28, 164, 0, 52, 3, 54, 5, 21, 5, 6]
abbrev dktX3_takesIn_0 : List UInt8 := dkwX3_takesIn_0 ++ dktX3_takesIn_1
theorem dksX3_takesIn_0 : cX3_takesIn.data.toList.drop 0 = dktX3_takesIn_0 := by decide +kernel
theorem dksX3_takesIn_1 : cX3_takesIn.data.toList.drop 23 = dktX3_takesIn_1 := dk_seg dksX3_takesIn_0 23 rfl rfl
theorem dksX3_takesIn_2 : cX3_takesIn.data.toList.drop 47 = dktX3_takesIn_2 := dk_seg dksX3_takesIn_1 24 rfl rfl
theorem dksX3_takesIn_3 : cX3_takesIn.data.toList.drop 71 = dktX3_takesIn_3 := dk_seg dksX3_takesIn_2 24 rfl rfl
theorem dX3_takesIn_0 : decode cX3_takesIn 0 = .ok (.aload_n 0, 1) := dk_42 (dk_at dksX3_takesIn_0 0 rfl rfl)
theorem dX3_takesIn_1 : decode cX3_takesIn 1 = .ok (.getfield 7, 3) := dk_180 0 7 (dk_at dksX3_takesIn_0 1 rfl rfl)
theorem dX3_takesIn_4 : decode cX3_takesIn 4 = .ok (.bipush 6, 2) := dk_16 6 (dk_at dksX3_takesIn_0 4 rfl rfl)
theorem dX3_takesIn_6 : decode cX3_takesIn 6 = .ok (.iload_n 1, 1) := dk_27 (dk_at dksX3_takesIn_0 6 rfl rfl)
theorem dX3_takesIn_7 : decode cX3_takesIn 7 = .ok (.iadd, 1) := dk_96 (dk_at dksX3_takesIn_0 7 rfl rfl)
theorem dX3_takesIn_8 : decode cX3_takesIn 8 = .ok (.iaload, 1) := dk_46 (dk_at dksX3_takesIn_0 8 rfl rfl)
theorem dX3_takesIn_9 : decode cX3_takesIn 9 = .ok (.istore 4, 2) := dk_54 4 (dk_at dksX3_takesIn_0 9 rfl rfl)
theorem dX3_takesIn_11 : decode cX3_takesIn 11 = .ok (.iload 4, 2) := dk_21 4 (dk_at dksX3_takesIn_0 11 rfl rfl)
theorem dX3_takesIn_13 : decode cX3_takesIn 13 = .ok (.iload_n 2, 1) := dk_28 (dk_at dksX3_takesIn_0 13 rfl rfl)
theorem dX3_takesIn_14 : decode cX3_takesIn 14 = .ok (.if_icmp .le 52, 3) := dk_164 0 52 (dk_at dksX3_takesIn_0 14 rfl rfl)
theorem dX3_takesIn_17 : decode cX3_takesIn 17 = .ok (.iconst 0, 1) := dk_3 (dk_at dksX3_takesIn_0 17 rfl rfl)
theorem dX3_takesIn_18 : decode cX3_takesIn 18 = .ok (.istore 5, 2) := dk_54 5 (dk_at dksX3_takesIn_0 18 rfl rfl)
theorem dX3_takesIn_20 : decode cX3_takesIn 20 = .ok (.iload 5, 2) := dk_21 5 (dk_at dksX3_takesIn_0 20 rfl rfl)
theorem dX3_takesIn_22 : decode cX3_takesIn 22 = .ok (.iconst 3, 1) := dk_6 (dk_at dksX3_takesIn_0 22 rfl rfl)
theorem dX3_takesIn_23 : decode cX3_takesIn 23 = .ok (.if_icmp .ge 37, 3) := dk_162 0 37 (dk_at dksX3_takesIn_1 0 rfl rfl)
theorem dX3_takesIn_26 : decode cX3_takesIn 26 = .ok (.aload_n 0, 1) := dk_42 (dk_at dksX3_takesIn_1 3 rfl rfl)
theorem dX3_takesIn_27 : decode cX3_takesIn 27 = .ok (.getfield 7, 3) := dk_180 0 7 (dk_at dksX3_takesIn_1 4 rfl rfl)
theorem dX3_takesIn_30 : decode cX3_takesIn 30 = .ok (.iload_n 1, 1) := dk_27 (dk_at dksX3_takesIn_1 7 rfl rfl)
theorem dX3_takesIn_31 : decode cX3_takesIn 31 = .ok (.iload 4, 2) := dk_21 4 (dk_at dksX3_takesIn_1 8 rfl rfl)
theorem dX3_takesIn_33 : decode cX3_takesIn 33 = .ok (.iload 5, 2) := dk_21 5 (dk_at dksX3_takesIn_1 10 rfl rfl)
theorem dX3_takesIn_35 : decode cX3_takesIn 35 = .ok (.invokestatic 204, 3) := dk_184 0 204 (dk_at dksX3_takesIn_1 12 rfl rfl)
theorem dX3_takesIn_38 : decode cX3_takesIn 38 = .ok (.aload_n 0, 1) := dk_42 (dk_at dksX3_takesIn_1 15 rfl rfl)
theorem dX3_takesIn_39 : decode cX3_takesIn 39 = .ok (.getfield 7, 3) := dk_180 0 7 (dk_at dksX3_takesIn_1 16 rfl rfl)
theorem dX3_takesIn_42 : decode cX3_takesIn 42 = .ok (.iload_n 1, 1) := dk_27 (dk_at dksX3_takesIn_1 19 rfl rfl)
theorem dX3_takesIn_43 : decode cX3_takesIn 43 = .ok (.iload 4, 2) := dk_21 4 (dk_at dksX3_takesIn_1 20 rfl rfl)
theorem dX3_takesIn_45 : decode cX3_takesIn 45 = .ok (.iconst 1, 1) := dk_4 (dk_at dksX3_takesIn_1 22 rfl rfl)
theorem dX3_takesIn_46 : decode cX3_takesIn 46 = .ok (.isub, 1) := dk_100 (dk_at dksX3_takesIn_1 23 rfl rfl)
theorem dX3_takesIn_47 : decode cX3_takesIn 47 = .ok (.iload 5, 2) := dk_21 5 (dk_at dksX3_takesIn_2 0 rfl rfl)
theorem dX3_takesIn_49 : decode cX3_takesIn 49 = .ok (.invokestatic 204, 3) := dk_184 0 204 (dk_at dksX3_takesIn_2 2 rfl rfl)
theorem dX3_takesIn_52 : decode cX3_takesIn 52 = .ok (.iaload, 1) := dk_46 (dk_at dksX3_takesIn_2 5 rfl rfl)
theorem dX3_takesIn_53 : decode cX3_takesIn 53 = .ok (.iastore, 1) := dk_79 (dk_at dksX3_takesIn_2 6 rfl rfl)
theorem dX3_takesIn_54 : decode cX3_takesIn 54 = .ok (.iinc 5 1, 3) := dk_132 5 1 (dk_at dksX3_takesIn_2 7 rfl rfl)
theorem dX3_takesIn_57 : decode cX3_takesIn 57 = .ok (.goto (-37), 3) := dk_167 255 219 (dk_at dksX3_takesIn_2 10 rfl rfl)
theorem dX3_takesIn_60 : decode cX3_takesIn 60 = .ok (.iinc 4 (-1), 3) := dk_132 4 255 (dk_at dksX3_takesIn_2 13 rfl rfl)
theorem dX3_takesIn_63 : decode cX3_takesIn 63 = .ok (.goto (-52), 3) := dk_167 255 204 (dk_at dksX3_takesIn_2 16 rfl rfl)
theorem dX3_takesIn_66 : decode cX3_takesIn 66 = .ok (.aload_n 0, 1) := dk_42 (dk_at dksX3_takesIn_2 19 rfl rfl)
theorem dX3_takesIn_67 : decode cX3_takesIn 67 = .ok (.getfield 7, 3) := dk_180 0 7 (dk_at dksX3_takesIn_2 20 rfl rfl)
theorem dX3_takesIn_70 : decode cX3_takesIn 70 = .ok (.iload_n 1, 1) := dk_27 (dk_at dksX3_takesIn_2 23 rfl rfl)
theorem dX3_takesIn_71 : decode cX3_takesIn 71 = .ok (.iload_n 2, 1) := dk_28 (dk_at dksX3_takesIn_3 0 rfl rfl)
theorem dX3_takesIn_72 : decode cX3_takesIn 72 = .ok (.iconst 0, 1) := dk_3 (dk_at dksX3_takesIn_3 1 rfl rfl)
theorem dX3_takesIn_73 : decode cX3_takesIn 73 = .ok (.invokestatic 204, 3) := dk_184 0 204 (dk_at dksX3_takesIn_3 2 rfl rfl)
theorem dX3_takesIn_76 : decode cX3_takesIn 76 = .ok (.iload_n 3, 1) := dk_29 (dk_at dksX3_takesIn_3 5 rfl rfl)
theorem dX3_takesIn_77 : decode cX3_takesIn 77 = .ok (.iastore, 1) := dk_79 (dk_at dksX3_takesIn_3 6 rfl rfl)
theorem dX3_takesIn_78 : decode cX3_takesIn 78 = .ok (.aload_n 0, 1) := dk_42 (dk_at dksX3_takesIn_3 7 rfl rfl)
theorem dX3_takesIn_79 : decode cX3_takesIn 79 = .ok (.getfield 7, 3) := dk_180 0 7 (dk_at dksX3_takesIn_3 8 rfl rfl)
theorem dX3_takesIn_82 : decode cX3_takesIn 82 = .ok (.bipush 6, 2) := dk_16 6 (dk_at dksX3_takesIn_3 11 rfl rfl)
theorem dX3_takesIn_84 : decode cX3_takesIn 84 = .ok (.iload_n 1, 1) := dk_27 (dk_at dksX3_takesIn_3 13 rfl rfl)
theorem dX3_takesIn_85 : decode cX3_takesIn 85 = .ok (.iadd, 1) := dk_96 (dk_at dksX3_takesIn_3 14 rfl rfl)
theorem dX3_takesIn_86 : decode cX3_takesIn 86 = .ok (.dup2, 1) := dk_92 (dk_at dksX3_takesIn_3 15 rfl rfl)
theorem dX3_takesIn_87 : decode cX3_takesIn 87 = .ok (.iaload, 1) := dk_46 (dk_at dksX3_takesIn_3 16 rfl rfl)
theorem dX3_takesIn_88 : decode cX3_takesIn 88 = .ok (.iconst 1, 1) := dk_4 (dk_at dksX3_takesIn_3 17 rfl rfl)
theorem dX3_takesIn_89 : decode cX3_takesIn 89 = .ok (.iadd, 1) := dk_96 (dk_at dksX3_takesIn_3 18 rfl rfl)
theorem dX3_takesIn_90 : decode cX3_takesIn 90 = .ok (.iastore, 1) := dk_79 (dk_at dksX3_takesIn_3 19 rfl rfl)
theorem dX3_takesIn_91 : decode cX3_takesIn 91 = .ok (.return_, 1) := dk_177 (dk_at dksX3_takesIn_3 20 rfl rfl)
abbrev cX3_reckons : ByteArray := prog_23_method_44_code
def yX3_reckons : MethodName := ⟨RX3, "reckons", "(II)V"⟩
def dkwX3_reckons_6 : List UInt8 := [132, 3, 1, 167, 255, 117, 177]
abbrev dktX3_reckons_6 : List UInt8 := dkwX3_reckons_6 ++ []
def dkwX3_reckons_5 : List UInt8 := [29, 182, 0, 222, 154, 0, 15, 21, 5, 21, 4, 164, 0, 8, 21, 5, 167, 0, 5, 21, 4, 79]
abbrev dktX3_reckons_5 : List UInt8 := dkwX3_reckons_5 ++ dktX3_reckons_6
def dkwX3_reckons_4 : List UInt8 := [42, 27, 29, 182, 0, 216, 8, 182, 0, 211, 54, 5, 42, 180, 0, 7, 27, 29, 5, 184, 0, 204, 42, 27]
abbrev dktX3_reckons_4 : List UInt8 := dkwX3_reckons_4 ++ dktX3_reckons_5
def dkwX3_reckons_3 : List UInt8 := [180, 0, 7, 27, 29, 4, 184, 0, 204, 21, 4, 79, 21, 4, 42, 27, 29, 182, 0, 242, 96, 54, 4, 42]
abbrev dktX3_reckons_3 : List UInt8 := dkwX3_reckons_3 ++ dktX3_reckons_4
def dkwX3_reckons_2 : List UInt8 := [180, 0, 7, 3, 46, 21, 4, 164, 0, 12, 42, 180, 0, 7, 3, 46, 167, 0, 5, 21, 4, 54, 4, 42]
abbrev dktX3_reckons_2 : List UInt8 := dkwX3_reckons_2 ++ dktX3_reckons_3
def dkwX3_reckons_1 : List UInt8 := [182, 0, 192, 167, 0, 11, 42, 27, 29, 4, 100, 182, 0, 239, 54, 4, 29, 28, 160, 0, 23, 42]
abbrev dktX3_reckons_1 : List UInt8 := dkwX3_reckons_1 ++ dktX3_reckons_2
def dkwX3_reckons_0 : List UInt8 := [28, 62, 29, 42, 180, 0, 7, 16, 6, 27, 96, 46, 162, 0, 132, 29, 154, 0, 12, 42, 27, 7]
abbrev dktX3_reckons_0 : List UInt8 := dkwX3_reckons_0 ++ dktX3_reckons_1
theorem dksX3_reckons_0 : cX3_reckons.data.toList.drop 0 = dktX3_reckons_0 := by decide +kernel
theorem dksX3_reckons_1 : cX3_reckons.data.toList.drop 22 = dktX3_reckons_1 := dk_seg dksX3_reckons_0 22 rfl rfl
theorem dksX3_reckons_2 : cX3_reckons.data.toList.drop 44 = dktX3_reckons_2 := dk_seg dksX3_reckons_1 22 rfl rfl
theorem dksX3_reckons_3 : cX3_reckons.data.toList.drop 68 = dktX3_reckons_3 := dk_seg dksX3_reckons_2 24 rfl rfl
theorem dksX3_reckons_4 : cX3_reckons.data.toList.drop 92 = dktX3_reckons_4 := dk_seg dksX3_reckons_3 24 rfl rfl
theorem dksX3_reckons_5 : cX3_reckons.data.toList.drop 116 = dktX3_reckons_5 := dk_seg dksX3_reckons_4 24 rfl rfl
theorem dksX3_reckons_6 : cX3_reckons.data.toList.drop 138 = dktX3_reckons_6 := dk_seg dksX3_reckons_5 22 rfl rfl
theorem dX3_reckons_0 : decode cX3_reckons 0 = .ok (.iload_n 2, 1) := dk_28 (dk_at dksX3_reckons_0 0 rfl rfl)
theorem dX3_reckons_1 : decode cX3_reckons 1 = .ok (.istore_n 3, 1) := dk_62 (dk_at dksX3_reckons_0 1 rfl rfl)
theorem dX3_reckons_2 : decode cX3_reckons 2 = .ok (.iload_n 3, 1) := dk_29 (dk_at dksX3_reckons_0 2 rfl rfl)
theorem dX3_reckons_3 : decode cX3_reckons 3 = .ok (.aload_n 0, 1) := dk_42 (dk_at dksX3_reckons_0 3 rfl rfl)
theorem dX3_reckons_4 : decode cX3_reckons 4 = .ok (.getfield 7, 3) := dk_180 0 7 (dk_at dksX3_reckons_0 4 rfl rfl)
theorem dX3_reckons_7 : decode cX3_reckons 7 = .ok (.bipush 6, 2) := dk_16 6 (dk_at dksX3_reckons_0 7 rfl rfl)
theorem dX3_reckons_9 : decode cX3_reckons 9 = .ok (.iload_n 1, 1) := dk_27 (dk_at dksX3_reckons_0 9 rfl rfl)
theorem dX3_reckons_10 : decode cX3_reckons 10 = .ok (.iadd, 1) := dk_96 (dk_at dksX3_reckons_0 10 rfl rfl)
theorem dX3_reckons_11 : decode cX3_reckons 11 = .ok (.iaload, 1) := dk_46 (dk_at dksX3_reckons_0 11 rfl rfl)
theorem dX3_reckons_12 : decode cX3_reckons 12 = .ok (.if_icmp .ge 132, 3) := dk_162 0 132 (dk_at dksX3_reckons_0 12 rfl rfl)
theorem dX3_reckons_15 : decode cX3_reckons 15 = .ok (.iload_n 3, 1) := dk_29 (dk_at dksX3_reckons_0 15 rfl rfl)
theorem dX3_reckons_16 : decode cX3_reckons 16 = .ok (.ifCond .ne 12, 3) := dk_154 0 12 (dk_at dksX3_reckons_0 16 rfl rfl)
theorem dX3_reckons_19 : decode cX3_reckons 19 = .ok (.aload_n 0, 1) := dk_42 (dk_at dksX3_reckons_0 19 rfl rfl)
theorem dX3_reckons_20 : decode cX3_reckons 20 = .ok (.iload_n 1, 1) := dk_27 (dk_at dksX3_reckons_0 20 rfl rfl)
theorem dX3_reckons_21 : decode cX3_reckons 21 = .ok (.iconst 4, 1) := dk_7 (dk_at dksX3_reckons_0 21 rfl rfl)
theorem dX3_reckons_22 : decode cX3_reckons 22 = .ok (.invokevirtual 192, 3) := dk_182 0 192 (dk_at dksX3_reckons_1 0 rfl rfl)
theorem dX3_reckons_25 : decode cX3_reckons 25 = .ok (.goto 11, 3) := dk_167 0 11 (dk_at dksX3_reckons_1 3 rfl rfl)
theorem dX3_reckons_28 : decode cX3_reckons 28 = .ok (.aload_n 0, 1) := dk_42 (dk_at dksX3_reckons_1 6 rfl rfl)
theorem dX3_reckons_29 : decode cX3_reckons 29 = .ok (.iload_n 1, 1) := dk_27 (dk_at dksX3_reckons_1 7 rfl rfl)
theorem dX3_reckons_30 : decode cX3_reckons 30 = .ok (.iload_n 3, 1) := dk_29 (dk_at dksX3_reckons_1 8 rfl rfl)
theorem dX3_reckons_31 : decode cX3_reckons 31 = .ok (.iconst 1, 1) := dk_4 (dk_at dksX3_reckons_1 9 rfl rfl)
theorem dX3_reckons_32 : decode cX3_reckons 32 = .ok (.isub, 1) := dk_100 (dk_at dksX3_reckons_1 10 rfl rfl)
theorem dX3_reckons_33 : decode cX3_reckons 33 = .ok (.invokevirtual 239, 3) := dk_182 0 239 (dk_at dksX3_reckons_1 11 rfl rfl)
theorem dX3_reckons_36 : decode cX3_reckons 36 = .ok (.istore 4, 2) := dk_54 4 (dk_at dksX3_reckons_1 14 rfl rfl)
theorem dX3_reckons_38 : decode cX3_reckons 38 = .ok (.iload_n 3, 1) := dk_29 (dk_at dksX3_reckons_1 16 rfl rfl)
theorem dX3_reckons_39 : decode cX3_reckons 39 = .ok (.iload_n 2, 1) := dk_28 (dk_at dksX3_reckons_1 17 rfl rfl)
theorem dX3_reckons_40 : decode cX3_reckons 40 = .ok (.if_icmp .ne 23, 3) := dk_160 0 23 (dk_at dksX3_reckons_1 18 rfl rfl)
theorem dX3_reckons_43 : decode cX3_reckons 43 = .ok (.aload_n 0, 1) := dk_42 (dk_at dksX3_reckons_1 21 rfl rfl)
theorem dX3_reckons_44 : decode cX3_reckons 44 = .ok (.getfield 7, 3) := dk_180 0 7 (dk_at dksX3_reckons_2 0 rfl rfl)
theorem dX3_reckons_47 : decode cX3_reckons 47 = .ok (.iconst 0, 1) := dk_3 (dk_at dksX3_reckons_2 3 rfl rfl)
theorem dX3_reckons_48 : decode cX3_reckons 48 = .ok (.iaload, 1) := dk_46 (dk_at dksX3_reckons_2 4 rfl rfl)
theorem dX3_reckons_49 : decode cX3_reckons 49 = .ok (.iload 4, 2) := dk_21 4 (dk_at dksX3_reckons_2 5 rfl rfl)
theorem dX3_reckons_51 : decode cX3_reckons 51 = .ok (.if_icmp .le 12, 3) := dk_164 0 12 (dk_at dksX3_reckons_2 7 rfl rfl)
theorem dX3_reckons_54 : decode cX3_reckons 54 = .ok (.aload_n 0, 1) := dk_42 (dk_at dksX3_reckons_2 10 rfl rfl)
theorem dX3_reckons_55 : decode cX3_reckons 55 = .ok (.getfield 7, 3) := dk_180 0 7 (dk_at dksX3_reckons_2 11 rfl rfl)
theorem dX3_reckons_58 : decode cX3_reckons 58 = .ok (.iconst 0, 1) := dk_3 (dk_at dksX3_reckons_2 14 rfl rfl)
theorem dX3_reckons_59 : decode cX3_reckons 59 = .ok (.iaload, 1) := dk_46 (dk_at dksX3_reckons_2 15 rfl rfl)
theorem dX3_reckons_60 : decode cX3_reckons 60 = .ok (.goto 5, 3) := dk_167 0 5 (dk_at dksX3_reckons_2 16 rfl rfl)
theorem dX3_reckons_63 : decode cX3_reckons 63 = .ok (.iload 4, 2) := dk_21 4 (dk_at dksX3_reckons_2 19 rfl rfl)
theorem dX3_reckons_65 : decode cX3_reckons 65 = .ok (.istore 4, 2) := dk_54 4 (dk_at dksX3_reckons_2 21 rfl rfl)
theorem dX3_reckons_67 : decode cX3_reckons 67 = .ok (.aload_n 0, 1) := dk_42 (dk_at dksX3_reckons_2 23 rfl rfl)
theorem dX3_reckons_68 : decode cX3_reckons 68 = .ok (.getfield 7, 3) := dk_180 0 7 (dk_at dksX3_reckons_3 0 rfl rfl)
theorem dX3_reckons_71 : decode cX3_reckons 71 = .ok (.iload_n 1, 1) := dk_27 (dk_at dksX3_reckons_3 3 rfl rfl)
theorem dX3_reckons_72 : decode cX3_reckons 72 = .ok (.iload_n 3, 1) := dk_29 (dk_at dksX3_reckons_3 4 rfl rfl)
theorem dX3_reckons_73 : decode cX3_reckons 73 = .ok (.iconst 1, 1) := dk_4 (dk_at dksX3_reckons_3 5 rfl rfl)
theorem dX3_reckons_74 : decode cX3_reckons 74 = .ok (.invokestatic 204, 3) := dk_184 0 204 (dk_at dksX3_reckons_3 6 rfl rfl)
theorem dX3_reckons_77 : decode cX3_reckons 77 = .ok (.iload 4, 2) := dk_21 4 (dk_at dksX3_reckons_3 9 rfl rfl)
theorem dX3_reckons_79 : decode cX3_reckons 79 = .ok (.iastore, 1) := dk_79 (dk_at dksX3_reckons_3 11 rfl rfl)
theorem dX3_reckons_80 : decode cX3_reckons 80 = .ok (.iload 4, 2) := dk_21 4 (dk_at dksX3_reckons_3 12 rfl rfl)
theorem dX3_reckons_82 : decode cX3_reckons 82 = .ok (.aload_n 0, 1) := dk_42 (dk_at dksX3_reckons_3 14 rfl rfl)
theorem dX3_reckons_83 : decode cX3_reckons 83 = .ok (.iload_n 1, 1) := dk_27 (dk_at dksX3_reckons_3 15 rfl rfl)
theorem dX3_reckons_84 : decode cX3_reckons 84 = .ok (.iload_n 3, 1) := dk_29 (dk_at dksX3_reckons_3 16 rfl rfl)
theorem dX3_reckons_85 : decode cX3_reckons 85 = .ok (.invokevirtual 242, 3) := dk_182 0 242 (dk_at dksX3_reckons_3 17 rfl rfl)
theorem dX3_reckons_88 : decode cX3_reckons 88 = .ok (.iadd, 1) := dk_96 (dk_at dksX3_reckons_3 20 rfl rfl)
theorem dX3_reckons_89 : decode cX3_reckons 89 = .ok (.istore 4, 2) := dk_54 4 (dk_at dksX3_reckons_3 21 rfl rfl)
theorem dX3_reckons_91 : decode cX3_reckons 91 = .ok (.aload_n 0, 1) := dk_42 (dk_at dksX3_reckons_3 23 rfl rfl)
theorem dX3_reckons_92 : decode cX3_reckons 92 = .ok (.aload_n 0, 1) := dk_42 (dk_at dksX3_reckons_4 0 rfl rfl)
theorem dX3_reckons_93 : decode cX3_reckons 93 = .ok (.iload_n 1, 1) := dk_27 (dk_at dksX3_reckons_4 1 rfl rfl)
theorem dX3_reckons_94 : decode cX3_reckons 94 = .ok (.iload_n 3, 1) := dk_29 (dk_at dksX3_reckons_4 2 rfl rfl)
theorem dX3_reckons_95 : decode cX3_reckons 95 = .ok (.invokevirtual 216, 3) := dk_182 0 216 (dk_at dksX3_reckons_4 3 rfl rfl)
theorem dX3_reckons_98 : decode cX3_reckons 98 = .ok (.iconst 5, 1) := dk_8 (dk_at dksX3_reckons_4 6 rfl rfl)
theorem dX3_reckons_99 : decode cX3_reckons 99 = .ok (.invokevirtual 211, 3) := dk_182 0 211 (dk_at dksX3_reckons_4 7 rfl rfl)
theorem dX3_reckons_102 : decode cX3_reckons 102 = .ok (.istore 5, 2) := dk_54 5 (dk_at dksX3_reckons_4 10 rfl rfl)
theorem dX3_reckons_104 : decode cX3_reckons 104 = .ok (.aload_n 0, 1) := dk_42 (dk_at dksX3_reckons_4 12 rfl rfl)
theorem dX3_reckons_105 : decode cX3_reckons 105 = .ok (.getfield 7, 3) := dk_180 0 7 (dk_at dksX3_reckons_4 13 rfl rfl)
theorem dX3_reckons_108 : decode cX3_reckons 108 = .ok (.iload_n 1, 1) := dk_27 (dk_at dksX3_reckons_4 16 rfl rfl)
theorem dX3_reckons_109 : decode cX3_reckons 109 = .ok (.iload_n 3, 1) := dk_29 (dk_at dksX3_reckons_4 17 rfl rfl)
theorem dX3_reckons_110 : decode cX3_reckons 110 = .ok (.iconst 2, 1) := dk_5 (dk_at dksX3_reckons_4 18 rfl rfl)
theorem dX3_reckons_111 : decode cX3_reckons 111 = .ok (.invokestatic 204, 3) := dk_184 0 204 (dk_at dksX3_reckons_4 19 rfl rfl)
theorem dX3_reckons_114 : decode cX3_reckons 114 = .ok (.aload_n 0, 1) := dk_42 (dk_at dksX3_reckons_4 22 rfl rfl)
theorem dX3_reckons_115 : decode cX3_reckons 115 = .ok (.iload_n 1, 1) := dk_27 (dk_at dksX3_reckons_4 23 rfl rfl)
theorem dX3_reckons_116 : decode cX3_reckons 116 = .ok (.iload_n 3, 1) := dk_29 (dk_at dksX3_reckons_5 0 rfl rfl)
theorem dX3_reckons_117 : decode cX3_reckons 117 = .ok (.invokevirtual 222, 3) := dk_182 0 222 (dk_at dksX3_reckons_5 1 rfl rfl)
theorem dX3_reckons_120 : decode cX3_reckons 120 = .ok (.ifCond .ne 15, 3) := dk_154 0 15 (dk_at dksX3_reckons_5 4 rfl rfl)
theorem dX3_reckons_123 : decode cX3_reckons 123 = .ok (.iload 5, 2) := dk_21 5 (dk_at dksX3_reckons_5 7 rfl rfl)
theorem dX3_reckons_125 : decode cX3_reckons 125 = .ok (.iload 4, 2) := dk_21 4 (dk_at dksX3_reckons_5 9 rfl rfl)
theorem dX3_reckons_127 : decode cX3_reckons 127 = .ok (.if_icmp .le 8, 3) := dk_164 0 8 (dk_at dksX3_reckons_5 11 rfl rfl)
theorem dX3_reckons_130 : decode cX3_reckons 130 = .ok (.iload 5, 2) := dk_21 5 (dk_at dksX3_reckons_5 14 rfl rfl)
theorem dX3_reckons_132 : decode cX3_reckons 132 = .ok (.goto 5, 3) := dk_167 0 5 (dk_at dksX3_reckons_5 16 rfl rfl)
theorem dX3_reckons_135 : decode cX3_reckons 135 = .ok (.iload 4, 2) := dk_21 4 (dk_at dksX3_reckons_5 19 rfl rfl)
theorem dX3_reckons_137 : decode cX3_reckons 137 = .ok (.iastore, 1) := dk_79 (dk_at dksX3_reckons_5 21 rfl rfl)
theorem dX3_reckons_138 : decode cX3_reckons 138 = .ok (.iinc 3 1, 3) := dk_132 3 1 (dk_at dksX3_reckons_6 0 rfl rfl)
theorem dX3_reckons_141 : decode cX3_reckons 141 = .ok (.goto (-139), 3) := dk_167 255 117 (dk_at dksX3_reckons_6 3 rfl rfl)
theorem dX3_reckons_144 : decode cX3_reckons 144 = .ok (.return_, 1) := dk_177 (dk_at dksX3_reckons_6 6 rfl rfl)
abbrev cX3_countIn : ByteArray := prog_23_method_71_code
def yX3_countIn : MethodName := ⟨RX3, "countIn", "(I)I"⟩
def dkwX3_countIn_1 : List UInt8 := [160, 0, 7, 4, 167, 0, 4, 3, 96, 61, 132, 3, 1, 167, 255, 224, 28, 172]
abbrev dktX3_countIn_1 : List UInt8 := dkwX3_countIn_1 ++ []
def dkwX3_countIn_0 : List UInt8 := [3, 61, 3, 62, 29, 42, 180, 0, 7, 4, 46, 162, 0, 28, 28, 42, 29, 16, 6, 182, 0, 211, 27]
abbrev dktX3_countIn_0 : List UInt8 := dkwX3_countIn_0 ++ dktX3_countIn_1
theorem dksX3_countIn_0 : cX3_countIn.data.toList.drop 0 = dktX3_countIn_0 := by decide +kernel
theorem dksX3_countIn_1 : cX3_countIn.data.toList.drop 23 = dktX3_countIn_1 := dk_seg dksX3_countIn_0 23 rfl rfl
theorem dX3_countIn_0 : decode cX3_countIn 0 = .ok (.iconst 0, 1) := dk_3 (dk_at dksX3_countIn_0 0 rfl rfl)
theorem dX3_countIn_1 : decode cX3_countIn 1 = .ok (.istore_n 2, 1) := dk_61 (dk_at dksX3_countIn_0 1 rfl rfl)
theorem dX3_countIn_2 : decode cX3_countIn 2 = .ok (.iconst 0, 1) := dk_3 (dk_at dksX3_countIn_0 2 rfl rfl)
theorem dX3_countIn_3 : decode cX3_countIn 3 = .ok (.istore_n 3, 1) := dk_62 (dk_at dksX3_countIn_0 3 rfl rfl)
theorem dX3_countIn_4 : decode cX3_countIn 4 = .ok (.iload_n 3, 1) := dk_29 (dk_at dksX3_countIn_0 4 rfl rfl)
theorem dX3_countIn_5 : decode cX3_countIn 5 = .ok (.aload_n 0, 1) := dk_42 (dk_at dksX3_countIn_0 5 rfl rfl)
theorem dX3_countIn_6 : decode cX3_countIn 6 = .ok (.getfield 7, 3) := dk_180 0 7 (dk_at dksX3_countIn_0 6 rfl rfl)
theorem dX3_countIn_9 : decode cX3_countIn 9 = .ok (.iconst 1, 1) := dk_4 (dk_at dksX3_countIn_0 9 rfl rfl)
theorem dX3_countIn_10 : decode cX3_countIn 10 = .ok (.iaload, 1) := dk_46 (dk_at dksX3_countIn_0 10 rfl rfl)
theorem dX3_countIn_11 : decode cX3_countIn 11 = .ok (.if_icmp .ge 28, 3) := dk_162 0 28 (dk_at dksX3_countIn_0 11 rfl rfl)
theorem dX3_countIn_14 : decode cX3_countIn 14 = .ok (.iload_n 2, 1) := dk_28 (dk_at dksX3_countIn_0 14 rfl rfl)
theorem dX3_countIn_15 : decode cX3_countIn 15 = .ok (.aload_n 0, 1) := dk_42 (dk_at dksX3_countIn_0 15 rfl rfl)
theorem dX3_countIn_16 : decode cX3_countIn 16 = .ok (.iload_n 3, 1) := dk_29 (dk_at dksX3_countIn_0 16 rfl rfl)
theorem dX3_countIn_17 : decode cX3_countIn 17 = .ok (.bipush 6, 2) := dk_16 6 (dk_at dksX3_countIn_0 17 rfl rfl)
theorem dX3_countIn_19 : decode cX3_countIn 19 = .ok (.invokevirtual 211, 3) := dk_182 0 211 (dk_at dksX3_countIn_0 19 rfl rfl)
theorem dX3_countIn_22 : decode cX3_countIn 22 = .ok (.iload_n 1, 1) := dk_27 (dk_at dksX3_countIn_0 22 rfl rfl)
theorem dX3_countIn_23 : decode cX3_countIn 23 = .ok (.if_icmp .ne 7, 3) := dk_160 0 7 (dk_at dksX3_countIn_1 0 rfl rfl)
theorem dX3_countIn_26 : decode cX3_countIn 26 = .ok (.iconst 1, 1) := dk_4 (dk_at dksX3_countIn_1 3 rfl rfl)
theorem dX3_countIn_27 : decode cX3_countIn 27 = .ok (.goto 4, 3) := dk_167 0 4 (dk_at dksX3_countIn_1 4 rfl rfl)
theorem dX3_countIn_30 : decode cX3_countIn 30 = .ok (.iconst 0, 1) := dk_3 (dk_at dksX3_countIn_1 7 rfl rfl)
theorem dX3_countIn_31 : decode cX3_countIn 31 = .ok (.iadd, 1) := dk_96 (dk_at dksX3_countIn_1 8 rfl rfl)
theorem dX3_countIn_32 : decode cX3_countIn 32 = .ok (.istore_n 2, 1) := dk_61 (dk_at dksX3_countIn_1 9 rfl rfl)
theorem dX3_countIn_33 : decode cX3_countIn 33 = .ok (.iinc 3 1, 3) := dk_132 3 1 (dk_at dksX3_countIn_1 10 rfl rfl)
theorem dX3_countIn_36 : decode cX3_countIn 36 = .ok (.goto (-32), 3) := dk_167 255 224 (dk_at dksX3_countIn_1 13 rfl rfl)
theorem dX3_countIn_39 : decode cX3_countIn 39 = .ok (.iload_n 2, 1) := dk_28 (dk_at dksX3_countIn_1 16 rfl rfl)
theorem dX3_countIn_40 : decode cX3_countIn 40 = .ok (.ireturn, 1) := dk_172 (dk_at dksX3_countIn_1 17 rfl rfl)
abbrev cX3_vans : ByteArray := prog_23_method_73_code
def yX3_vans : MethodName := ⟨RX3, "vans", "()I"⟩
def dkwX3_vans_0 : List UInt8 := [42, 42, 180, 0, 33, 16, 8, 46, 182, 1, 93, 172]
abbrev dktX3_vans_0 : List UInt8 := dkwX3_vans_0 ++ []
theorem dksX3_vans_0 : cX3_vans.data.toList.drop 0 = dktX3_vans_0 := by decide +kernel
theorem dX3_vans_0 : decode cX3_vans 0 = .ok (.aload_n 0, 1) := dk_42 (dk_at dksX3_vans_0 0 rfl rfl)
theorem dX3_vans_1 : decode cX3_vans 1 = .ok (.aload_n 0, 1) := dk_42 (dk_at dksX3_vans_0 1 rfl rfl)
theorem dX3_vans_2 : decode cX3_vans 2 = .ok (.getfield 33, 3) := dk_180 0 33 (dk_at dksX3_vans_0 2 rfl rfl)
theorem dX3_vans_5 : decode cX3_vans 5 = .ok (.bipush 8, 2) := dk_16 8 (dk_at dksX3_vans_0 5 rfl rfl)
theorem dX3_vans_7 : decode cX3_vans 7 = .ok (.iaload, 1) := dk_46 (dk_at dksX3_vans_0 7 rfl rfl)
theorem dX3_vans_8 : decode cX3_vans 8 = .ok (.invokevirtual 349, 3) := dk_182 1 93 (dk_at dksX3_vans_0 8 rfl rfl)
theorem dX3_vans_11 : decode cX3_vans 11 = .ok (.ireturn, 1) := dk_172 (dk_at dksX3_vans_0 11 rfl rfl)
abbrev cX3_told : ByteArray := prog_23_method_72_code
def yX3_told : MethodName := ⟨RX3, "told", "(I)I"⟩
def dkwX3_told_0 : List UInt8 := [42, 3, 181, 0, 48, 42, 180, 0, 51, 153, 0, 7, 27, 167, 0, 4, 3, 172]
abbrev dktX3_told_0 : List UInt8 := dkwX3_told_0 ++ []
theorem dksX3_told_0 : cX3_told.data.toList.drop 0 = dktX3_told_0 := by decide +kernel
theorem dX3_told_0 : decode cX3_told 0 = .ok (.aload_n 0, 1) := dk_42 (dk_at dksX3_told_0 0 rfl rfl)
theorem dX3_told_1 : decode cX3_told 1 = .ok (.iconst 0, 1) := dk_3 (dk_at dksX3_told_0 1 rfl rfl)
theorem dX3_told_2 : decode cX3_told 2 = .ok (.putfield 48, 3) := dk_181 0 48 (dk_at dksX3_told_0 2 rfl rfl)
theorem dX3_told_5 : decode cX3_told 5 = .ok (.aload_n 0, 1) := dk_42 (dk_at dksX3_told_0 5 rfl rfl)
theorem dX3_told_6 : decode cX3_told 6 = .ok (.getfield 51, 3) := dk_180 0 51 (dk_at dksX3_told_0 6 rfl rfl)
theorem dX3_told_9 : decode cX3_told 9 = .ok (.ifCond .eq 7, 3) := dk_153 0 7 (dk_at dksX3_told_0 9 rfl rfl)
theorem dX3_told_12 : decode cX3_told 12 = .ok (.iload_n 1, 1) := dk_27 (dk_at dksX3_told_0 12 rfl rfl)
theorem dX3_told_13 : decode cX3_told 13 = .ok (.goto 4, 3) := dk_167 0 4 (dk_at dksX3_told_0 13 rfl rfl)
theorem dX3_told_16 : decode cX3_told 16 = .ok (.iconst 0, 1) := dk_3 (dk_at dksX3_told_0 16 rfl rfl)
theorem dX3_told_17 : decode cX3_told 17 = .ok (.ireturn, 1) := dk_172 (dk_at dksX3_told_0 17 rfl rfl)
abbrev cX3_clock : ByteArray := prog_23_method_74_code
def yX3_clock : MethodName := ⟨RX3, "clock", "()I"⟩
def dkwX3_clock_0 : List UInt8 := [42, 42, 180, 0, 7, 3, 46, 182, 1, 93, 172]
abbrev dktX3_clock_0 : List UInt8 := dkwX3_clock_0 ++ []
theorem dksX3_clock_0 : cX3_clock.data.toList.drop 0 = dktX3_clock_0 := by decide +kernel
theorem dX3_clock_0 : decode cX3_clock 0 = .ok (.aload_n 0, 1) := dk_42 (dk_at dksX3_clock_0 0 rfl rfl)
theorem dX3_clock_1 : decode cX3_clock 1 = .ok (.aload_n 0, 1) := dk_42 (dk_at dksX3_clock_0 1 rfl rfl)
theorem dX3_clock_2 : decode cX3_clock 2 = .ok (.getfield 7, 3) := dk_180 0 7 (dk_at dksX3_clock_0 2 rfl rfl)
theorem dX3_clock_5 : decode cX3_clock 5 = .ok (.iconst 0, 1) := dk_3 (dk_at dksX3_clock_0 5 rfl rfl)
theorem dX3_clock_6 : decode cX3_clock 6 = .ok (.iaload, 1) := dk_46 (dk_at dksX3_clock_0 6 rfl rfl)
theorem dX3_clock_7 : decode cX3_clock 7 = .ok (.invokevirtual 349, 3) := dk_182 1 93 (dk_at dksX3_clock_0 7 rfl rfl)
theorem dX3_clock_10 : decode cX3_clock 10 = .ok (.ireturn, 1) := dk_172 (dk_at dksX3_clock_0 10 rfl rfl)
abbrev cX3_calls : ByteArray := prog_23_method_75_code
def yX3_calls : MethodName := ⟨RX3, "calls", "()I"⟩
def dkwX3_calls_0 : List UInt8 := [42, 42, 180, 0, 7, 4, 46, 182, 1, 93, 172]
abbrev dktX3_calls_0 : List UInt8 := dkwX3_calls_0 ++ []
theorem dksX3_calls_0 : cX3_calls.data.toList.drop 0 = dktX3_calls_0 := by decide +kernel
theorem dX3_calls_0 : decode cX3_calls 0 = .ok (.aload_n 0, 1) := dk_42 (dk_at dksX3_calls_0 0 rfl rfl)
theorem dX3_calls_1 : decode cX3_calls 1 = .ok (.aload_n 0, 1) := dk_42 (dk_at dksX3_calls_0 1 rfl rfl)
theorem dX3_calls_2 : decode cX3_calls 2 = .ok (.getfield 7, 3) := dk_180 0 7 (dk_at dksX3_calls_0 2 rfl rfl)
theorem dX3_calls_5 : decode cX3_calls 5 = .ok (.iconst 1, 1) := dk_4 (dk_at dksX3_calls_0 5 rfl rfl)
theorem dX3_calls_6 : decode cX3_calls 6 = .ok (.iaload, 1) := dk_46 (dk_at dksX3_calls_0 6 rfl rfl)
theorem dX3_calls_7 : decode cX3_calls 7 = .ok (.invokevirtual 349, 3) := dk_182 1 93 (dk_at dksX3_calls_0 7 rfl rfl)
theorem dX3_calls_10 : decode cX3_calls 10 = .ok (.ireturn, 1) := dk_172 (dk_at dksX3_calls_0 10 rfl rfl)
abbrev cX3_undoable : ByteArray := prog_23_method_76_code
def yX3_undoable : MethodName := ⟨RX3, "undoable", "()I"⟩
def dkwX3_undoable_0 : List UInt8 := [42, 42, 180, 0, 198, 182, 1, 93, 172]
abbrev dktX3_undoable_0 : List UInt8 := dkwX3_undoable_0 ++ []
theorem dksX3_undoable_0 : cX3_undoable.data.toList.drop 0 = dktX3_undoable_0 := by decide +kernel
theorem dX3_undoable_0 : decode cX3_undoable 0 = .ok (.aload_n 0, 1) := dk_42 (dk_at dksX3_undoable_0 0 rfl rfl)
theorem dX3_undoable_1 : decode cX3_undoable 1 = .ok (.aload_n 0, 1) := dk_42 (dk_at dksX3_undoable_0 1 rfl rfl)
theorem dX3_undoable_2 : decode cX3_undoable 2 = .ok (.getfield 198, 3) := dk_180 0 198 (dk_at dksX3_undoable_0 2 rfl rfl)
theorem dX3_undoable_5 : decode cX3_undoable 5 = .ok (.invokevirtual 349, 3) := dk_182 1 93 (dk_at dksX3_undoable_0 5 rfl rfl)
theorem dX3_undoable_8 : decode cX3_undoable 8 = .ok (.ireturn, 1) := dk_172 (dk_at dksX3_undoable_0 8 rfl rfl)
abbrev cX3_until : ByteArray := prog_23_method_80_code
def yX3_until : MethodName := ⟨RX3, "until", "(I)I"⟩
def dkwX3_until_0 : List UInt8 := [42, 27, 182, 1, 100, 153, 0, 7, 3, 167, 0, 11, 42, 180, 0, 7, 5, 27, 96, 46, 172]
abbrev dktX3_until_0 : List UInt8 := dkwX3_until_0 ++ []
theorem dksX3_until_0 : cX3_until.data.toList.drop 0 = dktX3_until_0 := by decide +kernel
theorem dX3_until_0 : decode cX3_until 0 = .ok (.aload_n 0, 1) := dk_42 (dk_at dksX3_until_0 0 rfl rfl)
theorem dX3_until_1 : decode cX3_until 1 = .ok (.iload_n 1, 1) := dk_27 (dk_at dksX3_until_0 1 rfl rfl)
theorem dX3_until_2 : decode cX3_until 2 = .ok (.invokevirtual 356, 3) := dk_182 1 100 (dk_at dksX3_until_0 2 rfl rfl)
theorem dX3_until_5 : decode cX3_until 5 = .ok (.ifCond .eq 7, 3) := dk_153 0 7 (dk_at dksX3_until_0 5 rfl rfl)
theorem dX3_until_8 : decode cX3_until 8 = .ok (.iconst 0, 1) := dk_3 (dk_at dksX3_until_0 8 rfl rfl)
theorem dX3_until_9 : decode cX3_until 9 = .ok (.goto 11, 3) := dk_167 0 11 (dk_at dksX3_until_0 9 rfl rfl)
theorem dX3_until_12 : decode cX3_until 12 = .ok (.aload_n 0, 1) := dk_42 (dk_at dksX3_until_0 12 rfl rfl)
theorem dX3_until_13 : decode cX3_until 13 = .ok (.getfield 7, 3) := dk_180 0 7 (dk_at dksX3_until_0 13 rfl rfl)
theorem dX3_until_16 : decode cX3_until 16 = .ok (.iconst 2, 1) := dk_5 (dk_at dksX3_until_0 16 rfl rfl)
theorem dX3_until_17 : decode cX3_until 17 = .ok (.iload_n 1, 1) := dk_27 (dk_at dksX3_until_0 17 rfl rfl)
theorem dX3_until_18 : decode cX3_until 18 = .ok (.iadd, 1) := dk_96 (dk_at dksX3_until_0 18 rfl rfl)
theorem dX3_until_19 : decode cX3_until 19 = .ok (.iaload, 1) := dk_46 (dk_at dksX3_until_0 19 rfl rfl)
theorem dX3_until_20 : decode cX3_until 20 = .ok (.ireturn, 1) := dk_172 (dk_at dksX3_until_0 20 rfl rfl)
abbrev cX3_noVan : ByteArray := prog_23_method_77_code
def yX3_noVan : MethodName := ⟨RX3, "noVan", "(I)Z"⟩
def dkwX3_noVan_1 : List UInt8 := [154, 0, 7, 4, 167, 0, 4, 3, 5, 182, 0, 55, 153, 0, 7, 4, 167, 0, 4, 3, 172]
abbrev dktX3_noVan_1 : List UInt8 := dkwX3_noVan_1 ++ []
def dkwX3_noVan_0 : List UInt8 := [42, 182, 1, 96, 154, 0, 33, 42, 27, 3, 42, 180, 0, 33, 16, 8, 46, 4, 100, 184, 0, 124]
abbrev dktX3_noVan_0 : List UInt8 := dkwX3_noVan_0 ++ dktX3_noVan_1
theorem dksX3_noVan_0 : cX3_noVan.data.toList.drop 0 = dktX3_noVan_0 := by decide +kernel
theorem dksX3_noVan_1 : cX3_noVan.data.toList.drop 22 = dktX3_noVan_1 := dk_seg dksX3_noVan_0 22 rfl rfl
theorem dX3_noVan_0 : decode cX3_noVan 0 = .ok (.aload_n 0, 1) := dk_42 (dk_at dksX3_noVan_0 0 rfl rfl)
theorem dX3_noVan_1 : decode cX3_noVan 1 = .ok (.invokevirtual 352, 3) := dk_182 1 96 (dk_at dksX3_noVan_0 1 rfl rfl)
theorem dX3_noVan_4 : decode cX3_noVan 4 = .ok (.ifCond .ne 33, 3) := dk_154 0 33 (dk_at dksX3_noVan_0 4 rfl rfl)
theorem dX3_noVan_7 : decode cX3_noVan 7 = .ok (.aload_n 0, 1) := dk_42 (dk_at dksX3_noVan_0 7 rfl rfl)
theorem dX3_noVan_8 : decode cX3_noVan 8 = .ok (.iload_n 1, 1) := dk_27 (dk_at dksX3_noVan_0 8 rfl rfl)
theorem dX3_noVan_9 : decode cX3_noVan 9 = .ok (.iconst 0, 1) := dk_3 (dk_at dksX3_noVan_0 9 rfl rfl)
theorem dX3_noVan_10 : decode cX3_noVan 10 = .ok (.aload_n 0, 1) := dk_42 (dk_at dksX3_noVan_0 10 rfl rfl)
theorem dX3_noVan_11 : decode cX3_noVan 11 = .ok (.getfield 33, 3) := dk_180 0 33 (dk_at dksX3_noVan_0 11 rfl rfl)
theorem dX3_noVan_14 : decode cX3_noVan 14 = .ok (.bipush 8, 2) := dk_16 8 (dk_at dksX3_noVan_0 14 rfl rfl)
theorem dX3_noVan_16 : decode cX3_noVan 16 = .ok (.iaload, 1) := dk_46 (dk_at dksX3_noVan_0 16 rfl rfl)
theorem dX3_noVan_17 : decode cX3_noVan 17 = .ok (.iconst 1, 1) := dk_4 (dk_at dksX3_noVan_0 17 rfl rfl)
theorem dX3_noVan_18 : decode cX3_noVan 18 = .ok (.isub, 1) := dk_100 (dk_at dksX3_noVan_0 18 rfl rfl)
theorem dX3_noVan_19 : decode cX3_noVan 19 = .ok (.invokestatic 124, 3) := dk_184 0 124 (dk_at dksX3_noVan_0 19 rfl rfl)
theorem dX3_noVan_22 : decode cX3_noVan 22 = .ok (.ifCond .ne 7, 3) := dk_154 0 7 (dk_at dksX3_noVan_1 0 rfl rfl)
theorem dX3_noVan_25 : decode cX3_noVan 25 = .ok (.iconst 1, 1) := dk_4 (dk_at dksX3_noVan_1 3 rfl rfl)
theorem dX3_noVan_26 : decode cX3_noVan 26 = .ok (.goto 4, 3) := dk_167 0 4 (dk_at dksX3_noVan_1 4 rfl rfl)
theorem dX3_noVan_29 : decode cX3_noVan 29 = .ok (.iconst 0, 1) := dk_3 (dk_at dksX3_noVan_1 7 rfl rfl)
theorem dX3_noVan_30 : decode cX3_noVan 30 = .ok (.iconst 2, 1) := dk_5 (dk_at dksX3_noVan_1 8 rfl rfl)
theorem dX3_noVan_31 : decode cX3_noVan 31 = .ok (.invokevirtual 55, 3) := dk_182 0 55 (dk_at dksX3_noVan_1 9 rfl rfl)
theorem dX3_noVan_34 : decode cX3_noVan 34 = .ok (.ifCond .eq 7, 3) := dk_153 0 7 (dk_at dksX3_noVan_1 12 rfl rfl)
theorem dX3_noVan_37 : decode cX3_noVan 37 = .ok (.iconst 1, 1) := dk_4 (dk_at dksX3_noVan_1 15 rfl rfl)
theorem dX3_noVan_38 : decode cX3_noVan 38 = .ok (.goto 4, 3) := dk_167 0 4 (dk_at dksX3_noVan_1 16 rfl rfl)
theorem dX3_noVan_41 : decode cX3_noVan 41 = .ok (.iconst 0, 1) := dk_3 (dk_at dksX3_noVan_1 19 rfl rfl)
theorem dX3_noVan_42 : decode cX3_noVan 42 = .ok (.ireturn, 1) := dk_172 (dk_at dksX3_noVan_1 20 rfl rfl)
abbrev cX3_noDesk : ByteArray := prog_23_method_5_code
def yX3_noDesk : MethodName := ⟨RX3, "noDesk", "()Z"⟩
def dkwX3_noDesk_0 : List UInt8 := [42, 3, 181, 0, 48, 42, 42, 180, 0, 51, 154, 0, 7, 4, 167, 0, 4, 3, 4, 182, 0, 55, 172]
abbrev dktX3_noDesk_0 : List UInt8 := dkwX3_noDesk_0 ++ []
theorem dksX3_noDesk_0 : cX3_noDesk.data.toList.drop 0 = dktX3_noDesk_0 := by decide +kernel
theorem dX3_noDesk_0 : decode cX3_noDesk 0 = .ok (.aload_n 0, 1) := dk_42 (dk_at dksX3_noDesk_0 0 rfl rfl)
theorem dX3_noDesk_1 : decode cX3_noDesk 1 = .ok (.iconst 0, 1) := dk_3 (dk_at dksX3_noDesk_0 1 rfl rfl)
theorem dX3_noDesk_2 : decode cX3_noDesk 2 = .ok (.putfield 48, 3) := dk_181 0 48 (dk_at dksX3_noDesk_0 2 rfl rfl)
theorem dX3_noDesk_5 : decode cX3_noDesk 5 = .ok (.aload_n 0, 1) := dk_42 (dk_at dksX3_noDesk_0 5 rfl rfl)
theorem dX3_noDesk_6 : decode cX3_noDesk 6 = .ok (.aload_n 0, 1) := dk_42 (dk_at dksX3_noDesk_0 6 rfl rfl)
theorem dX3_noDesk_7 : decode cX3_noDesk 7 = .ok (.getfield 51, 3) := dk_180 0 51 (dk_at dksX3_noDesk_0 7 rfl rfl)
theorem dX3_noDesk_10 : decode cX3_noDesk 10 = .ok (.ifCond .ne 7, 3) := dk_154 0 7 (dk_at dksX3_noDesk_0 10 rfl rfl)
theorem dX3_noDesk_13 : decode cX3_noDesk 13 = .ok (.iconst 1, 1) := dk_4 (dk_at dksX3_noDesk_0 13 rfl rfl)
theorem dX3_noDesk_14 : decode cX3_noDesk 14 = .ok (.goto 4, 3) := dk_167 0 4 (dk_at dksX3_noDesk_0 14 rfl rfl)
theorem dX3_noDesk_17 : decode cX3_noDesk 17 = .ok (.iconst 0, 1) := dk_3 (dk_at dksX3_noDesk_0 17 rfl rfl)
theorem dX3_noDesk_18 : decode cX3_noDesk 18 = .ok (.iconst 1, 1) := dk_4 (dk_at dksX3_noDesk_0 18 rfl rfl)
theorem dX3_noDesk_19 : decode cX3_noDesk 19 = .ok (.invokevirtual 55, 3) := dk_182 0 55 (dk_at dksX3_noDesk_0 19 rfl rfl)
theorem dX3_noDesk_22 : decode cX3_noDesk 22 = .ok (.ireturn, 1) := dk_172 (dk_at dksX3_noDesk_0 22 rfl rfl)
abbrev cX3_minutesBetween : ByteArray := prog_23_method_82_code
def yX3_minutesBetween : MethodName := ⟨RX3, "minutesBetween", "(IIII)I"⟩
def dkwX3_minutesBetween_2 : List UInt8 := [21, 4, 182, 0, 232, 172]
abbrev dktX3_minutesBetween_2 : List UInt8 := dkwX3_minutesBetween_2 ++ []
def dkwX3_minutesBetween_1 : List UInt8 := [153, 0, 7, 4, 167, 0, 4, 3, 5, 182, 0, 55, 153, 0, 7, 3, 167, 0, 12, 42, 27, 28, 29]
abbrev dktX3_minutesBetween_1 : List UInt8 := dkwX3_minutesBetween_1 ++ dktX3_minutesBetween_2
def dkwX3_minutesBetween_0 : List UInt8 := [42, 182, 1, 96, 154, 0, 33, 42, 27, 28, 184, 1, 103, 154, 0, 12, 29, 21, 4, 184, 1, 103]
abbrev dktX3_minutesBetween_0 : List UInt8 := dkwX3_minutesBetween_0 ++ dktX3_minutesBetween_1
theorem dksX3_minutesBetween_0 : cX3_minutesBetween.data.toList.drop 0 = dktX3_minutesBetween_0 := by decide +kernel
theorem dksX3_minutesBetween_1 : cX3_minutesBetween.data.toList.drop 22 = dktX3_minutesBetween_1 := dk_seg dksX3_minutesBetween_0 22 rfl rfl
theorem dksX3_minutesBetween_2 : cX3_minutesBetween.data.toList.drop 45 = dktX3_minutesBetween_2 := dk_seg dksX3_minutesBetween_1 23 rfl rfl
theorem dX3_minutesBetween_0 : decode cX3_minutesBetween 0 = .ok (.aload_n 0, 1) := dk_42 (dk_at dksX3_minutesBetween_0 0 rfl rfl)
theorem dX3_minutesBetween_1 : decode cX3_minutesBetween 1 = .ok (.invokevirtual 352, 3) := dk_182 1 96 (dk_at dksX3_minutesBetween_0 1 rfl rfl)
theorem dX3_minutesBetween_4 : decode cX3_minutesBetween 4 = .ok (.ifCond .ne 33, 3) := dk_154 0 33 (dk_at dksX3_minutesBetween_0 4 rfl rfl)
theorem dX3_minutesBetween_7 : decode cX3_minutesBetween 7 = .ok (.aload_n 0, 1) := dk_42 (dk_at dksX3_minutesBetween_0 7 rfl rfl)
theorem dX3_minutesBetween_8 : decode cX3_minutesBetween 8 = .ok (.iload_n 1, 1) := dk_27 (dk_at dksX3_minutesBetween_0 8 rfl rfl)
theorem dX3_minutesBetween_9 : decode cX3_minutesBetween 9 = .ok (.iload_n 2, 1) := dk_28 (dk_at dksX3_minutesBetween_0 9 rfl rfl)
theorem dX3_minutesBetween_10 : decode cX3_minutesBetween 10 = .ok (.invokestatic 359, 3) := dk_184 1 103 (dk_at dksX3_minutesBetween_0 10 rfl rfl)
theorem dX3_minutesBetween_13 : decode cX3_minutesBetween 13 = .ok (.ifCond .ne 12, 3) := dk_154 0 12 (dk_at dksX3_minutesBetween_0 13 rfl rfl)
theorem dX3_minutesBetween_16 : decode cX3_minutesBetween 16 = .ok (.iload_n 3, 1) := dk_29 (dk_at dksX3_minutesBetween_0 16 rfl rfl)
theorem dX3_minutesBetween_17 : decode cX3_minutesBetween 17 = .ok (.iload 4, 2) := dk_21 4 (dk_at dksX3_minutesBetween_0 17 rfl rfl)
theorem dX3_minutesBetween_19 : decode cX3_minutesBetween 19 = .ok (.invokestatic 359, 3) := dk_184 1 103 (dk_at dksX3_minutesBetween_0 19 rfl rfl)
theorem dX3_minutesBetween_22 : decode cX3_minutesBetween 22 = .ok (.ifCond .eq 7, 3) := dk_153 0 7 (dk_at dksX3_minutesBetween_1 0 rfl rfl)
theorem dX3_minutesBetween_25 : decode cX3_minutesBetween 25 = .ok (.iconst 1, 1) := dk_4 (dk_at dksX3_minutesBetween_1 3 rfl rfl)
theorem dX3_minutesBetween_26 : decode cX3_minutesBetween 26 = .ok (.goto 4, 3) := dk_167 0 4 (dk_at dksX3_minutesBetween_1 4 rfl rfl)
theorem dX3_minutesBetween_29 : decode cX3_minutesBetween 29 = .ok (.iconst 0, 1) := dk_3 (dk_at dksX3_minutesBetween_1 7 rfl rfl)
theorem dX3_minutesBetween_30 : decode cX3_minutesBetween 30 = .ok (.iconst 2, 1) := dk_5 (dk_at dksX3_minutesBetween_1 8 rfl rfl)
theorem dX3_minutesBetween_31 : decode cX3_minutesBetween 31 = .ok (.invokevirtual 55, 3) := dk_182 0 55 (dk_at dksX3_minutesBetween_1 9 rfl rfl)
theorem dX3_minutesBetween_34 : decode cX3_minutesBetween 34 = .ok (.ifCond .eq 7, 3) := dk_153 0 7 (dk_at dksX3_minutesBetween_1 12 rfl rfl)
theorem dX3_minutesBetween_37 : decode cX3_minutesBetween 37 = .ok (.iconst 0, 1) := dk_3 (dk_at dksX3_minutesBetween_1 15 rfl rfl)
theorem dX3_minutesBetween_38 : decode cX3_minutesBetween 38 = .ok (.goto 12, 3) := dk_167 0 12 (dk_at dksX3_minutesBetween_1 16 rfl rfl)
theorem dX3_minutesBetween_41 : decode cX3_minutesBetween 41 = .ok (.aload_n 0, 1) := dk_42 (dk_at dksX3_minutesBetween_1 19 rfl rfl)
theorem dX3_minutesBetween_42 : decode cX3_minutesBetween 42 = .ok (.iload_n 1, 1) := dk_27 (dk_at dksX3_minutesBetween_1 20 rfl rfl)
theorem dX3_minutesBetween_43 : decode cX3_minutesBetween 43 = .ok (.iload_n 2, 1) := dk_28 (dk_at dksX3_minutesBetween_1 21 rfl rfl)
theorem dX3_minutesBetween_44 : decode cX3_minutesBetween 44 = .ok (.iload_n 3, 1) := dk_29 (dk_at dksX3_minutesBetween_1 22 rfl rfl)
theorem dX3_minutesBetween_45 : decode cX3_minutesBetween 45 = .ok (.iload 4, 2) := dk_21 4 (dk_at dksX3_minutesBetween_2 0 rfl rfl)
theorem dX3_minutesBetween_47 : decode cX3_minutesBetween 47 = .ok (.invokevirtual 232, 3) := dk_182 0 232 (dk_at dksX3_minutesBetween_2 2 rfl rfl)
theorem dX3_minutesBetween_50 : decode cX3_minutesBetween 50 = .ok (.ireturn, 1) := dk_172 (dk_at dksX3_minutesBetween_2 5 rfl rfl)
abbrev cX3_isOff : ByteArray := prog_23_method_81_code
def yX3_isOff : MethodName := ⟨RX3, "isOff", "(II)Z"⟩
def dkwX3_isOff_1 : List UInt8 := [3, 172]
abbrev dktX3_isOff_1 : List UInt8 := dkwX3_isOff_1 ++ []
def dkwX3_isOff_0 : List UInt8 := [26, 3, 16, 99, 184, 0, 124, 153, 0, 13, 27, 3, 16, 99, 184, 0, 124, 154, 0, 7, 4, 167, 0, 4]
abbrev dktX3_isOff_0 : List UInt8 := dkwX3_isOff_0 ++ dktX3_isOff_1
theorem dksX3_isOff_0 : cX3_isOff.data.toList.drop 0 = dktX3_isOff_0 := by decide +kernel
theorem dksX3_isOff_1 : cX3_isOff.data.toList.drop 24 = dktX3_isOff_1 := dk_seg dksX3_isOff_0 24 rfl rfl
theorem dX3_isOff_0 : decode cX3_isOff 0 = .ok (.iload_n 0, 1) := dk_26 (dk_at dksX3_isOff_0 0 rfl rfl)
theorem dX3_isOff_1 : decode cX3_isOff 1 = .ok (.iconst 0, 1) := dk_3 (dk_at dksX3_isOff_0 1 rfl rfl)
theorem dX3_isOff_2 : decode cX3_isOff 2 = .ok (.bipush 99, 2) := dk_16 99 (dk_at dksX3_isOff_0 2 rfl rfl)
theorem dX3_isOff_4 : decode cX3_isOff 4 = .ok (.invokestatic 124, 3) := dk_184 0 124 (dk_at dksX3_isOff_0 4 rfl rfl)
theorem dX3_isOff_7 : decode cX3_isOff 7 = .ok (.ifCond .eq 13, 3) := dk_153 0 13 (dk_at dksX3_isOff_0 7 rfl rfl)
theorem dX3_isOff_10 : decode cX3_isOff 10 = .ok (.iload_n 1, 1) := dk_27 (dk_at dksX3_isOff_0 10 rfl rfl)
theorem dX3_isOff_11 : decode cX3_isOff 11 = .ok (.iconst 0, 1) := dk_3 (dk_at dksX3_isOff_0 11 rfl rfl)
theorem dX3_isOff_12 : decode cX3_isOff 12 = .ok (.bipush 99, 2) := dk_16 99 (dk_at dksX3_isOff_0 12 rfl rfl)
theorem dX3_isOff_14 : decode cX3_isOff 14 = .ok (.invokestatic 124, 3) := dk_184 0 124 (dk_at dksX3_isOff_0 14 rfl rfl)
theorem dX3_isOff_17 : decode cX3_isOff 17 = .ok (.ifCond .ne 7, 3) := dk_154 0 7 (dk_at dksX3_isOff_0 17 rfl rfl)
theorem dX3_isOff_20 : decode cX3_isOff 20 = .ok (.iconst 1, 1) := dk_4 (dk_at dksX3_isOff_0 20 rfl rfl)
theorem dX3_isOff_21 : decode cX3_isOff 21 = .ok (.goto 4, 3) := dk_167 0 4 (dk_at dksX3_isOff_0 21 rfl rfl)
theorem dX3_isOff_24 : decode cX3_isOff 24 = .ok (.iconst 0, 1) := dk_3 (dk_at dksX3_isOff_1 0 rfl rfl)
theorem dX3_isOff_25 : decode cX3_isOff 25 = .ok (.ireturn, 1) := dk_172 (dk_at dksX3_isOff_1 1 rfl rfl)
abbrev cX3_stops : ByteArray := prog_23_method_83_code
def yX3_stops : MethodName := ⟨RX3, "stops", "(I)I"⟩
def dkwX3_stops_0 : List UInt8 := [42, 27, 182, 1, 100, 153, 0, 7, 3, 167, 0, 12, 42, 180, 0, 7, 16, 6, 27, 96, 46, 172]
abbrev dktX3_stops_0 : List UInt8 := dkwX3_stops_0 ++ []
theorem dksX3_stops_0 : cX3_stops.data.toList.drop 0 = dktX3_stops_0 := by decide +kernel
theorem dX3_stops_0 : decode cX3_stops 0 = .ok (.aload_n 0, 1) := dk_42 (dk_at dksX3_stops_0 0 rfl rfl)
theorem dX3_stops_1 : decode cX3_stops 1 = .ok (.iload_n 1, 1) := dk_27 (dk_at dksX3_stops_0 1 rfl rfl)
theorem dX3_stops_2 : decode cX3_stops 2 = .ok (.invokevirtual 356, 3) := dk_182 1 100 (dk_at dksX3_stops_0 2 rfl rfl)
theorem dX3_stops_5 : decode cX3_stops 5 = .ok (.ifCond .eq 7, 3) := dk_153 0 7 (dk_at dksX3_stops_0 5 rfl rfl)
theorem dX3_stops_8 : decode cX3_stops 8 = .ok (.iconst 0, 1) := dk_3 (dk_at dksX3_stops_0 8 rfl rfl)
theorem dX3_stops_9 : decode cX3_stops 9 = .ok (.goto 12, 3) := dk_167 0 12 (dk_at dksX3_stops_0 9 rfl rfl)
theorem dX3_stops_12 : decode cX3_stops 12 = .ok (.aload_n 0, 1) := dk_42 (dk_at dksX3_stops_0 12 rfl rfl)
theorem dX3_stops_13 : decode cX3_stops 13 = .ok (.getfield 7, 3) := dk_180 0 7 (dk_at dksX3_stops_0 13 rfl rfl)
theorem dX3_stops_16 : decode cX3_stops 16 = .ok (.bipush 6, 2) := dk_16 6 (dk_at dksX3_stops_0 16 rfl rfl)
theorem dX3_stops_18 : decode cX3_stops 18 = .ok (.iload_n 1, 1) := dk_27 (dk_at dksX3_stops_0 18 rfl rfl)
theorem dX3_stops_19 : decode cX3_stops 19 = .ok (.iadd, 1) := dk_96 (dk_at dksX3_stops_0 19 rfl rfl)
theorem dX3_stops_20 : decode cX3_stops 20 = .ok (.iaload, 1) := dk_46 (dk_at dksX3_stops_0 20 rfl rfl)
theorem dX3_stops_21 : decode cX3_stops 21 = .ok (.ireturn, 1) := dk_172 (dk_at dksX3_stops_0 21 rfl rfl)
abbrev cX3_fixedStops : ByteArray := prog_23_method_84_code
def yX3_fixedStops : MethodName := ⟨RX3, "fixedStops", "(I)I"⟩
def dkwX3_fixedStops_0 : List UInt8 := [42, 27, 182, 1, 100, 153, 0, 7, 3, 167, 0, 8, 42, 27, 182, 1, 10, 172]
abbrev dktX3_fixedStops_0 : List UInt8 := dkwX3_fixedStops_0 ++ []
theorem dksX3_fixedStops_0 : cX3_fixedStops.data.toList.drop 0 = dktX3_fixedStops_0 := by decide +kernel
theorem dX3_fixedStops_0 : decode cX3_fixedStops 0 = .ok (.aload_n 0, 1) := dk_42 (dk_at dksX3_fixedStops_0 0 rfl rfl)
theorem dX3_fixedStops_1 : decode cX3_fixedStops 1 = .ok (.iload_n 1, 1) := dk_27 (dk_at dksX3_fixedStops_0 1 rfl rfl)
theorem dX3_fixedStops_2 : decode cX3_fixedStops 2 = .ok (.invokevirtual 356, 3) := dk_182 1 100 (dk_at dksX3_fixedStops_0 2 rfl rfl)
theorem dX3_fixedStops_5 : decode cX3_fixedStops 5 = .ok (.ifCond .eq 7, 3) := dk_153 0 7 (dk_at dksX3_fixedStops_0 5 rfl rfl)
theorem dX3_fixedStops_8 : decode cX3_fixedStops 8 = .ok (.iconst 0, 1) := dk_3 (dk_at dksX3_fixedStops_0 8 rfl rfl)
theorem dX3_fixedStops_9 : decode cX3_fixedStops 9 = .ok (.goto 8, 3) := dk_167 0 8 (dk_at dksX3_fixedStops_0 9 rfl rfl)
theorem dX3_fixedStops_12 : decode cX3_fixedStops 12 = .ok (.aload_n 0, 1) := dk_42 (dk_at dksX3_fixedStops_0 12 rfl rfl)
theorem dX3_fixedStops_13 : decode cX3_fixedStops 13 = .ok (.iload_n 1, 1) := dk_27 (dk_at dksX3_fixedStops_0 13 rfl rfl)
theorem dX3_fixedStops_14 : decode cX3_fixedStops 14 = .ok (.invokevirtual 266, 3) := dk_182 1 10 (dk_at dksX3_fixedStops_0 14 rfl rfl)
theorem dX3_fixedStops_17 : decode cX3_fixedStops 17 = .ok (.ireturn, 1) := dk_172 (dk_at dksX3_fixedStops_0 17 rfl rfl)
abbrev cX3_callAt : ByteArray := prog_23_method_85_code
def yX3_callAt : MethodName := ⟨RX3, "callAt", "(II)I"⟩
def dkwX3_callAt_0 : List UInt8 := [42, 27, 28, 182, 1, 106, 153, 0, 7, 3, 167, 0, 9, 42, 27, 28, 182, 0, 216, 172]
abbrev dktX3_callAt_0 : List UInt8 := dkwX3_callAt_0 ++ []
theorem dksX3_callAt_0 : cX3_callAt.data.toList.drop 0 = dktX3_callAt_0 := by decide +kernel
theorem dX3_callAt_0 : decode cX3_callAt 0 = .ok (.aload_n 0, 1) := dk_42 (dk_at dksX3_callAt_0 0 rfl rfl)
theorem dX3_callAt_1 : decode cX3_callAt 1 = .ok (.iload_n 1, 1) := dk_27 (dk_at dksX3_callAt_0 1 rfl rfl)
theorem dX3_callAt_2 : decode cX3_callAt 2 = .ok (.iload_n 2, 1) := dk_28 (dk_at dksX3_callAt_0 2 rfl rfl)
theorem dX3_callAt_3 : decode cX3_callAt 3 = .ok (.invokevirtual 362, 3) := dk_182 1 106 (dk_at dksX3_callAt_0 3 rfl rfl)
theorem dX3_callAt_6 : decode cX3_callAt 6 = .ok (.ifCond .eq 7, 3) := dk_153 0 7 (dk_at dksX3_callAt_0 6 rfl rfl)
theorem dX3_callAt_9 : decode cX3_callAt 9 = .ok (.iconst 0, 1) := dk_3 (dk_at dksX3_callAt_0 9 rfl rfl)
theorem dX3_callAt_10 : decode cX3_callAt 10 = .ok (.goto 9, 3) := dk_167 0 9 (dk_at dksX3_callAt_0 10 rfl rfl)
theorem dX3_callAt_13 : decode cX3_callAt 13 = .ok (.aload_n 0, 1) := dk_42 (dk_at dksX3_callAt_0 13 rfl rfl)
theorem dX3_callAt_14 : decode cX3_callAt 14 = .ok (.iload_n 1, 1) := dk_27 (dk_at dksX3_callAt_0 14 rfl rfl)
theorem dX3_callAt_15 : decode cX3_callAt 15 = .ok (.iload_n 2, 1) := dk_28 (dk_at dksX3_callAt_0 15 rfl rfl)
theorem dX3_callAt_16 : decode cX3_callAt 16 = .ok (.invokevirtual 216, 3) := dk_182 0 216 (dk_at dksX3_callAt_0 16 rfl rfl)
theorem dX3_callAt_19 : decode cX3_callAt 19 = .ok (.ireturn, 1) := dk_172 (dk_at dksX3_callAt_0 19 rfl rfl)
abbrev cX3_noStop : ByteArray := prog_23_method_78_code
def yX3_noStop : MethodName := ⟨RX3, "noStop", "(II)Z"⟩
def dkwX3_noStop_1 : List UInt8 := [184, 0, 124, 154, 0, 7, 4, 167, 0, 4, 3, 5, 182, 0, 55, 153, 0, 7, 4, 167, 0, 4, 3, 172]
abbrev dktX3_noStop_1 : List UInt8 := dkwX3_noStop_1 ++ []
def dkwX3_noStop_0 : List UInt8 := [42, 27, 182, 1, 100, 154, 0, 35, 42, 28, 3, 42, 180, 0, 7, 16, 6, 27, 96, 46, 4, 100]
abbrev dktX3_noStop_0 : List UInt8 := dkwX3_noStop_0 ++ dktX3_noStop_1
theorem dksX3_noStop_0 : cX3_noStop.data.toList.drop 0 = dktX3_noStop_0 := by decide +kernel
theorem dksX3_noStop_1 : cX3_noStop.data.toList.drop 22 = dktX3_noStop_1 := dk_seg dksX3_noStop_0 22 rfl rfl
theorem dX3_noStop_0 : decode cX3_noStop 0 = .ok (.aload_n 0, 1) := dk_42 (dk_at dksX3_noStop_0 0 rfl rfl)
theorem dX3_noStop_1 : decode cX3_noStop 1 = .ok (.iload_n 1, 1) := dk_27 (dk_at dksX3_noStop_0 1 rfl rfl)
theorem dX3_noStop_2 : decode cX3_noStop 2 = .ok (.invokevirtual 356, 3) := dk_182 1 100 (dk_at dksX3_noStop_0 2 rfl rfl)
theorem dX3_noStop_5 : decode cX3_noStop 5 = .ok (.ifCond .ne 35, 3) := dk_154 0 35 (dk_at dksX3_noStop_0 5 rfl rfl)
theorem dX3_noStop_8 : decode cX3_noStop 8 = .ok (.aload_n 0, 1) := dk_42 (dk_at dksX3_noStop_0 8 rfl rfl)
theorem dX3_noStop_9 : decode cX3_noStop 9 = .ok (.iload_n 2, 1) := dk_28 (dk_at dksX3_noStop_0 9 rfl rfl)
theorem dX3_noStop_10 : decode cX3_noStop 10 = .ok (.iconst 0, 1) := dk_3 (dk_at dksX3_noStop_0 10 rfl rfl)
theorem dX3_noStop_11 : decode cX3_noStop 11 = .ok (.aload_n 0, 1) := dk_42 (dk_at dksX3_noStop_0 11 rfl rfl)
theorem dX3_noStop_12 : decode cX3_noStop 12 = .ok (.getfield 7, 3) := dk_180 0 7 (dk_at dksX3_noStop_0 12 rfl rfl)
theorem dX3_noStop_15 : decode cX3_noStop 15 = .ok (.bipush 6, 2) := dk_16 6 (dk_at dksX3_noStop_0 15 rfl rfl)
theorem dX3_noStop_17 : decode cX3_noStop 17 = .ok (.iload_n 1, 1) := dk_27 (dk_at dksX3_noStop_0 17 rfl rfl)
theorem dX3_noStop_18 : decode cX3_noStop 18 = .ok (.iadd, 1) := dk_96 (dk_at dksX3_noStop_0 18 rfl rfl)
theorem dX3_noStop_19 : decode cX3_noStop 19 = .ok (.iaload, 1) := dk_46 (dk_at dksX3_noStop_0 19 rfl rfl)
theorem dX3_noStop_20 : decode cX3_noStop 20 = .ok (.iconst 1, 1) := dk_4 (dk_at dksX3_noStop_0 20 rfl rfl)
theorem dX3_noStop_21 : decode cX3_noStop 21 = .ok (.isub, 1) := dk_100 (dk_at dksX3_noStop_0 21 rfl rfl)
theorem dX3_noStop_22 : decode cX3_noStop 22 = .ok (.invokestatic 124, 3) := dk_184 0 124 (dk_at dksX3_noStop_1 0 rfl rfl)
theorem dX3_noStop_25 : decode cX3_noStop 25 = .ok (.ifCond .ne 7, 3) := dk_154 0 7 (dk_at dksX3_noStop_1 3 rfl rfl)
theorem dX3_noStop_28 : decode cX3_noStop 28 = .ok (.iconst 1, 1) := dk_4 (dk_at dksX3_noStop_1 6 rfl rfl)
theorem dX3_noStop_29 : decode cX3_noStop 29 = .ok (.goto 4, 3) := dk_167 0 4 (dk_at dksX3_noStop_1 7 rfl rfl)
theorem dX3_noStop_32 : decode cX3_noStop 32 = .ok (.iconst 0, 1) := dk_3 (dk_at dksX3_noStop_1 10 rfl rfl)
theorem dX3_noStop_33 : decode cX3_noStop 33 = .ok (.iconst 2, 1) := dk_5 (dk_at dksX3_noStop_1 11 rfl rfl)
theorem dX3_noStop_34 : decode cX3_noStop 34 = .ok (.invokevirtual 55, 3) := dk_182 0 55 (dk_at dksX3_noStop_1 12 rfl rfl)
theorem dX3_noStop_37 : decode cX3_noStop 37 = .ok (.ifCond .eq 7, 3) := dk_153 0 7 (dk_at dksX3_noStop_1 15 rfl rfl)
theorem dX3_noStop_40 : decode cX3_noStop 40 = .ok (.iconst 1, 1) := dk_4 (dk_at dksX3_noStop_1 18 rfl rfl)
theorem dX3_noStop_41 : decode cX3_noStop 41 = .ok (.goto 4, 3) := dk_167 0 4 (dk_at dksX3_noStop_1 19 rfl rfl)
theorem dX3_noStop_44 : decode cX3_noStop 44 = .ok (.iconst 0, 1) := dk_3 (dk_at dksX3_noStop_1 22 rfl rfl)
theorem dX3_noStop_45 : decode cX3_noStop 45 = .ok (.ireturn, 1) := dk_172 (dk_at dksX3_noStop_1 23 rfl rfl)
abbrev cX3_isPickup : ByteArray := prog_23_method_86_code
def yX3_isPickup : MethodName := ⟨RX3, "isPickup", "(II)Z"⟩
def dkwX3_isPickup_0 : List UInt8 := [42, 27, 28, 182, 1, 106, 154, 0, 16, 42, 27, 28, 182, 0, 222, 154, 0, 7, 4, 167, 0, 4, 3, 172]
abbrev dktX3_isPickup_0 : List UInt8 := dkwX3_isPickup_0 ++ []
theorem dksX3_isPickup_0 : cX3_isPickup.data.toList.drop 0 = dktX3_isPickup_0 := by decide +kernel
theorem dX3_isPickup_0 : decode cX3_isPickup 0 = .ok (.aload_n 0, 1) := dk_42 (dk_at dksX3_isPickup_0 0 rfl rfl)
theorem dX3_isPickup_1 : decode cX3_isPickup 1 = .ok (.iload_n 1, 1) := dk_27 (dk_at dksX3_isPickup_0 1 rfl rfl)
theorem dX3_isPickup_2 : decode cX3_isPickup 2 = .ok (.iload_n 2, 1) := dk_28 (dk_at dksX3_isPickup_0 2 rfl rfl)
theorem dX3_isPickup_3 : decode cX3_isPickup 3 = .ok (.invokevirtual 362, 3) := dk_182 1 106 (dk_at dksX3_isPickup_0 3 rfl rfl)
theorem dX3_isPickup_6 : decode cX3_isPickup 6 = .ok (.ifCond .ne 16, 3) := dk_154 0 16 (dk_at dksX3_isPickup_0 6 rfl rfl)
theorem dX3_isPickup_9 : decode cX3_isPickup 9 = .ok (.aload_n 0, 1) := dk_42 (dk_at dksX3_isPickup_0 9 rfl rfl)
theorem dX3_isPickup_10 : decode cX3_isPickup 10 = .ok (.iload_n 1, 1) := dk_27 (dk_at dksX3_isPickup_0 10 rfl rfl)
theorem dX3_isPickup_11 : decode cX3_isPickup 11 = .ok (.iload_n 2, 1) := dk_28 (dk_at dksX3_isPickup_0 11 rfl rfl)
theorem dX3_isPickup_12 : decode cX3_isPickup 12 = .ok (.invokevirtual 222, 3) := dk_182 0 222 (dk_at dksX3_isPickup_0 12 rfl rfl)
theorem dX3_isPickup_15 : decode cX3_isPickup 15 = .ok (.ifCond .ne 7, 3) := dk_154 0 7 (dk_at dksX3_isPickup_0 15 rfl rfl)
theorem dX3_isPickup_18 : decode cX3_isPickup 18 = .ok (.iconst 1, 1) := dk_4 (dk_at dksX3_isPickup_0 18 rfl rfl)
theorem dX3_isPickup_19 : decode cX3_isPickup 19 = .ok (.goto 4, 3) := dk_167 0 4 (dk_at dksX3_isPickup_0 19 rfl rfl)
theorem dX3_isPickup_22 : decode cX3_isPickup 22 = .ok (.iconst 0, 1) := dk_3 (dk_at dksX3_isPickup_0 22 rfl rfl)
theorem dX3_isPickup_23 : decode cX3_isPickup 23 = .ok (.ireturn, 1) := dk_172 (dk_at dksX3_isPickup_0 23 rfl rfl)
abbrev cX3_departureOf : ByteArray := prog_23_method_87_code
def yX3_departureOf : MethodName := ⟨RX3, "departureOf", "(II)I"⟩
def dkwX3_departureOf_1 : List UInt8 := [172]
abbrev dktX3_departureOf_1 : List UInt8 := dkwX3_departureOf_1 ++ []
def dkwX3_departureOf_0 : List UInt8 := [42, 27, 28, 182, 1, 106, 153, 0, 7, 3, 167, 0, 14, 42, 180, 0, 7, 27, 28, 4, 184, 0, 204, 46]
abbrev dktX3_departureOf_0 : List UInt8 := dkwX3_departureOf_0 ++ dktX3_departureOf_1
theorem dksX3_departureOf_0 : cX3_departureOf.data.toList.drop 0 = dktX3_departureOf_0 := by decide +kernel
theorem dksX3_departureOf_1 : cX3_departureOf.data.toList.drop 24 = dktX3_departureOf_1 := dk_seg dksX3_departureOf_0 24 rfl rfl
theorem dX3_departureOf_0 : decode cX3_departureOf 0 = .ok (.aload_n 0, 1) := dk_42 (dk_at dksX3_departureOf_0 0 rfl rfl)
theorem dX3_departureOf_1 : decode cX3_departureOf 1 = .ok (.iload_n 1, 1) := dk_27 (dk_at dksX3_departureOf_0 1 rfl rfl)
theorem dX3_departureOf_2 : decode cX3_departureOf 2 = .ok (.iload_n 2, 1) := dk_28 (dk_at dksX3_departureOf_0 2 rfl rfl)
theorem dX3_departureOf_3 : decode cX3_departureOf 3 = .ok (.invokevirtual 362, 3) := dk_182 1 106 (dk_at dksX3_departureOf_0 3 rfl rfl)
theorem dX3_departureOf_6 : decode cX3_departureOf 6 = .ok (.ifCond .eq 7, 3) := dk_153 0 7 (dk_at dksX3_departureOf_0 6 rfl rfl)
theorem dX3_departureOf_9 : decode cX3_departureOf 9 = .ok (.iconst 0, 1) := dk_3 (dk_at dksX3_departureOf_0 9 rfl rfl)
theorem dX3_departureOf_10 : decode cX3_departureOf 10 = .ok (.goto 14, 3) := dk_167 0 14 (dk_at dksX3_departureOf_0 10 rfl rfl)
theorem dX3_departureOf_13 : decode cX3_departureOf 13 = .ok (.aload_n 0, 1) := dk_42 (dk_at dksX3_departureOf_0 13 rfl rfl)
theorem dX3_departureOf_14 : decode cX3_departureOf 14 = .ok (.getfield 7, 3) := dk_180 0 7 (dk_at dksX3_departureOf_0 14 rfl rfl)
theorem dX3_departureOf_17 : decode cX3_departureOf 17 = .ok (.iload_n 1, 1) := dk_27 (dk_at dksX3_departureOf_0 17 rfl rfl)
theorem dX3_departureOf_18 : decode cX3_departureOf 18 = .ok (.iload_n 2, 1) := dk_28 (dk_at dksX3_departureOf_0 18 rfl rfl)
theorem dX3_departureOf_19 : decode cX3_departureOf 19 = .ok (.iconst 1, 1) := dk_4 (dk_at dksX3_departureOf_0 19 rfl rfl)
theorem dX3_departureOf_20 : decode cX3_departureOf 20 = .ok (.invokestatic 204, 3) := dk_184 0 204 (dk_at dksX3_departureOf_0 20 rfl rfl)
theorem dX3_departureOf_23 : decode cX3_departureOf 23 = .ok (.iaload, 1) := dk_46 (dk_at dksX3_departureOf_0 23 rfl rfl)
theorem dX3_departureOf_24 : decode cX3_departureOf 24 = .ok (.ireturn, 1) := dk_172 (dk_at dksX3_departureOf_1 0 rfl rfl)
abbrev cX3_beginOf : ByteArray := prog_23_method_88_code
def yX3_beginOf : MethodName := ⟨RX3, "beginOf", "(II)I"⟩
def dkwX3_beginOf_0 : List UInt8 := [42, 27, 28, 182, 1, 106, 153, 0, 7, 3, 167, 0, 9, 42, 27, 28, 182, 0, 213, 172]
abbrev dktX3_beginOf_0 : List UInt8 := dkwX3_beginOf_0 ++ []
theorem dksX3_beginOf_0 : cX3_beginOf.data.toList.drop 0 = dktX3_beginOf_0 := by decide +kernel
theorem dX3_beginOf_0 : decode cX3_beginOf 0 = .ok (.aload_n 0, 1) := dk_42 (dk_at dksX3_beginOf_0 0 rfl rfl)
theorem dX3_beginOf_1 : decode cX3_beginOf 1 = .ok (.iload_n 1, 1) := dk_27 (dk_at dksX3_beginOf_0 1 rfl rfl)
theorem dX3_beginOf_2 : decode cX3_beginOf 2 = .ok (.iload_n 2, 1) := dk_28 (dk_at dksX3_beginOf_0 2 rfl rfl)
theorem dX3_beginOf_3 : decode cX3_beginOf 3 = .ok (.invokevirtual 362, 3) := dk_182 1 106 (dk_at dksX3_beginOf_0 3 rfl rfl)
theorem dX3_beginOf_6 : decode cX3_beginOf 6 = .ok (.ifCond .eq 7, 3) := dk_153 0 7 (dk_at dksX3_beginOf_0 6 rfl rfl)
theorem dX3_beginOf_9 : decode cX3_beginOf 9 = .ok (.iconst 0, 1) := dk_3 (dk_at dksX3_beginOf_0 9 rfl rfl)
theorem dX3_beginOf_10 : decode cX3_beginOf 10 = .ok (.goto 9, 3) := dk_167 0 9 (dk_at dksX3_beginOf_0 10 rfl rfl)
theorem dX3_beginOf_13 : decode cX3_beginOf 13 = .ok (.aload_n 0, 1) := dk_42 (dk_at dksX3_beginOf_0 13 rfl rfl)
theorem dX3_beginOf_14 : decode cX3_beginOf 14 = .ok (.iload_n 1, 1) := dk_27 (dk_at dksX3_beginOf_0 14 rfl rfl)
theorem dX3_beginOf_15 : decode cX3_beginOf 15 = .ok (.iload_n 2, 1) := dk_28 (dk_at dksX3_beginOf_0 15 rfl rfl)
theorem dX3_beginOf_16 : decode cX3_beginOf 16 = .ok (.invokevirtual 213, 3) := dk_182 0 213 (dk_at dksX3_beginOf_0 16 rfl rfl)
theorem dX3_beginOf_19 : decode cX3_beginOf 19 = .ok (.ireturn, 1) := dk_172 (dk_at dksX3_beginOf_0 19 rfl rfl)
abbrev cX3_freeSeats : ByteArray := prog_23_method_89_code
def yX3_freeSeats : MethodName := ⟨RX3, "freeSeats", "(II)I"⟩
def dkwX3_freeSeats_1 : List UInt8 := [182, 1, 3, 100, 172]
abbrev dktX3_freeSeats_1 : List UInt8 := dkwX3_freeSeats_1 ++ []
def dkwX3_freeSeats_0 : List UInt8 := [42, 27, 28, 182, 1, 106, 153, 0, 7, 3, 167, 0, 17, 42, 27, 5, 182, 0, 192, 42, 27, 28, 3]
abbrev dktX3_freeSeats_0 : List UInt8 := dkwX3_freeSeats_0 ++ dktX3_freeSeats_1
theorem dksX3_freeSeats_0 : cX3_freeSeats.data.toList.drop 0 = dktX3_freeSeats_0 := by decide +kernel
theorem dksX3_freeSeats_1 : cX3_freeSeats.data.toList.drop 23 = dktX3_freeSeats_1 := dk_seg dksX3_freeSeats_0 23 rfl rfl
theorem dX3_freeSeats_0 : decode cX3_freeSeats 0 = .ok (.aload_n 0, 1) := dk_42 (dk_at dksX3_freeSeats_0 0 rfl rfl)
theorem dX3_freeSeats_1 : decode cX3_freeSeats 1 = .ok (.iload_n 1, 1) := dk_27 (dk_at dksX3_freeSeats_0 1 rfl rfl)
theorem dX3_freeSeats_2 : decode cX3_freeSeats 2 = .ok (.iload_n 2, 1) := dk_28 (dk_at dksX3_freeSeats_0 2 rfl rfl)
theorem dX3_freeSeats_3 : decode cX3_freeSeats 3 = .ok (.invokevirtual 362, 3) := dk_182 1 106 (dk_at dksX3_freeSeats_0 3 rfl rfl)
theorem dX3_freeSeats_6 : decode cX3_freeSeats 6 = .ok (.ifCond .eq 7, 3) := dk_153 0 7 (dk_at dksX3_freeSeats_0 6 rfl rfl)
theorem dX3_freeSeats_9 : decode cX3_freeSeats 9 = .ok (.iconst 0, 1) := dk_3 (dk_at dksX3_freeSeats_0 9 rfl rfl)
theorem dX3_freeSeats_10 : decode cX3_freeSeats 10 = .ok (.goto 17, 3) := dk_167 0 17 (dk_at dksX3_freeSeats_0 10 rfl rfl)
theorem dX3_freeSeats_13 : decode cX3_freeSeats 13 = .ok (.aload_n 0, 1) := dk_42 (dk_at dksX3_freeSeats_0 13 rfl rfl)
theorem dX3_freeSeats_14 : decode cX3_freeSeats 14 = .ok (.iload_n 1, 1) := dk_27 (dk_at dksX3_freeSeats_0 14 rfl rfl)
theorem dX3_freeSeats_15 : decode cX3_freeSeats 15 = .ok (.iconst 2, 1) := dk_5 (dk_at dksX3_freeSeats_0 15 rfl rfl)
theorem dX3_freeSeats_16 : decode cX3_freeSeats 16 = .ok (.invokevirtual 192, 3) := dk_182 0 192 (dk_at dksX3_freeSeats_0 16 rfl rfl)
theorem dX3_freeSeats_19 : decode cX3_freeSeats 19 = .ok (.aload_n 0, 1) := dk_42 (dk_at dksX3_freeSeats_0 19 rfl rfl)
theorem dX3_freeSeats_20 : decode cX3_freeSeats 20 = .ok (.iload_n 1, 1) := dk_27 (dk_at dksX3_freeSeats_0 20 rfl rfl)
theorem dX3_freeSeats_21 : decode cX3_freeSeats 21 = .ok (.iload_n 2, 1) := dk_28 (dk_at dksX3_freeSeats_0 21 rfl rfl)
theorem dX3_freeSeats_22 : decode cX3_freeSeats 22 = .ok (.iconst 0, 1) := dk_3 (dk_at dksX3_freeSeats_0 22 rfl rfl)
theorem dX3_freeSeats_23 : decode cX3_freeSeats 23 = .ok (.invokevirtual 259, 3) := dk_182 1 3 (dk_at dksX3_freeSeats_1 0 rfl rfl)
theorem dX3_freeSeats_26 : decode cX3_freeSeats 26 = .ok (.isub, 1) := dk_100 (dk_at dksX3_freeSeats_1 3 rfl rfl)
theorem dX3_freeSeats_27 : decode cX3_freeSeats 27 = .ok (.ireturn, 1) := dk_172 (dk_at dksX3_freeSeats_1 4 rfl rfl)
abbrev cX3_freeWheels : ByteArray := prog_23_method_90_code
def yX3_freeWheels : MethodName := ⟨RX3, "freeWheels", "(II)I"⟩
def dkwX3_freeWheels_1 : List UInt8 := [182, 1, 3, 100, 172]
abbrev dktX3_freeWheels_1 : List UInt8 := dkwX3_freeWheels_1 ++ []
def dkwX3_freeWheels_0 : List UInt8 := [42, 27, 28, 182, 1, 106, 153, 0, 7, 3, 167, 0, 17, 42, 27, 6, 182, 0, 192, 42, 27, 28, 4]
abbrev dktX3_freeWheels_0 : List UInt8 := dkwX3_freeWheels_0 ++ dktX3_freeWheels_1
theorem dksX3_freeWheels_0 : cX3_freeWheels.data.toList.drop 0 = dktX3_freeWheels_0 := by decide +kernel
theorem dksX3_freeWheels_1 : cX3_freeWheels.data.toList.drop 23 = dktX3_freeWheels_1 := dk_seg dksX3_freeWheels_0 23 rfl rfl
theorem dX3_freeWheels_0 : decode cX3_freeWheels 0 = .ok (.aload_n 0, 1) := dk_42 (dk_at dksX3_freeWheels_0 0 rfl rfl)
theorem dX3_freeWheels_1 : decode cX3_freeWheels 1 = .ok (.iload_n 1, 1) := dk_27 (dk_at dksX3_freeWheels_0 1 rfl rfl)
theorem dX3_freeWheels_2 : decode cX3_freeWheels 2 = .ok (.iload_n 2, 1) := dk_28 (dk_at dksX3_freeWheels_0 2 rfl rfl)
theorem dX3_freeWheels_3 : decode cX3_freeWheels 3 = .ok (.invokevirtual 362, 3) := dk_182 1 106 (dk_at dksX3_freeWheels_0 3 rfl rfl)
theorem dX3_freeWheels_6 : decode cX3_freeWheels 6 = .ok (.ifCond .eq 7, 3) := dk_153 0 7 (dk_at dksX3_freeWheels_0 6 rfl rfl)
theorem dX3_freeWheels_9 : decode cX3_freeWheels 9 = .ok (.iconst 0, 1) := dk_3 (dk_at dksX3_freeWheels_0 9 rfl rfl)
theorem dX3_freeWheels_10 : decode cX3_freeWheels 10 = .ok (.goto 17, 3) := dk_167 0 17 (dk_at dksX3_freeWheels_0 10 rfl rfl)
theorem dX3_freeWheels_13 : decode cX3_freeWheels 13 = .ok (.aload_n 0, 1) := dk_42 (dk_at dksX3_freeWheels_0 13 rfl rfl)
theorem dX3_freeWheels_14 : decode cX3_freeWheels 14 = .ok (.iload_n 1, 1) := dk_27 (dk_at dksX3_freeWheels_0 14 rfl rfl)
theorem dX3_freeWheels_15 : decode cX3_freeWheels 15 = .ok (.iconst 3, 1) := dk_6 (dk_at dksX3_freeWheels_0 15 rfl rfl)
theorem dX3_freeWheels_16 : decode cX3_freeWheels 16 = .ok (.invokevirtual 192, 3) := dk_182 0 192 (dk_at dksX3_freeWheels_0 16 rfl rfl)
theorem dX3_freeWheels_19 : decode cX3_freeWheels 19 = .ok (.aload_n 0, 1) := dk_42 (dk_at dksX3_freeWheels_0 19 rfl rfl)
theorem dX3_freeWheels_20 : decode cX3_freeWheels 20 = .ok (.iload_n 1, 1) := dk_27 (dk_at dksX3_freeWheels_0 20 rfl rfl)
theorem dX3_freeWheels_21 : decode cX3_freeWheels 21 = .ok (.iload_n 2, 1) := dk_28 (dk_at dksX3_freeWheels_0 21 rfl rfl)
theorem dX3_freeWheels_22 : decode cX3_freeWheels 22 = .ok (.iconst 1, 1) := dk_4 (dk_at dksX3_freeWheels_0 22 rfl rfl)
theorem dX3_freeWheels_23 : decode cX3_freeWheels 23 = .ok (.invokevirtual 259, 3) := dk_182 1 3 (dk_at dksX3_freeWheels_1 0 rfl rfl)
theorem dX3_freeWheels_26 : decode cX3_freeWheels 26 = .ok (.isub, 1) := dk_100 (dk_at dksX3_freeWheels_1 3 rfl rfl)
theorem dX3_freeWheels_27 : decode cX3_freeWheels 27 = .ok (.ireturn, 1) := dk_172 (dk_at dksX3_freeWheels_1 4 rfl rfl)
abbrev cX3_slack : ByteArray := prog_23_method_92_code
def yX3_slack : MethodName := ⟨RX3, "slack", "(II)I"⟩
def dkwX3_slack_1 : List UInt8 := [4, 96, 182, 1, 109, 153, 0, 9, 132, 3, 1, 167, 255, 234, 29, 172]
abbrev dktX3_slack_1 : List UInt8 := dkwX3_slack_1 ++ []
def dkwX3_slack_0 : List UInt8 := [42, 27, 28, 182, 1, 106, 153, 0, 5, 3, 172, 3, 62, 29, 17, 3, 231, 162, 0, 21, 42, 27, 28, 29]
abbrev dktX3_slack_0 : List UInt8 := dkwX3_slack_0 ++ dktX3_slack_1
theorem dksX3_slack_0 : cX3_slack.data.toList.drop 0 = dktX3_slack_0 := by decide +kernel
theorem dksX3_slack_1 : cX3_slack.data.toList.drop 24 = dktX3_slack_1 := dk_seg dksX3_slack_0 24 rfl rfl
theorem dX3_slack_0 : decode cX3_slack 0 = .ok (.aload_n 0, 1) := dk_42 (dk_at dksX3_slack_0 0 rfl rfl)
theorem dX3_slack_1 : decode cX3_slack 1 = .ok (.iload_n 1, 1) := dk_27 (dk_at dksX3_slack_0 1 rfl rfl)
theorem dX3_slack_2 : decode cX3_slack 2 = .ok (.iload_n 2, 1) := dk_28 (dk_at dksX3_slack_0 2 rfl rfl)
theorem dX3_slack_3 : decode cX3_slack 3 = .ok (.invokevirtual 362, 3) := dk_182 1 106 (dk_at dksX3_slack_0 3 rfl rfl)
theorem dX3_slack_6 : decode cX3_slack 6 = .ok (.ifCond .eq 5, 3) := dk_153 0 5 (dk_at dksX3_slack_0 6 rfl rfl)
theorem dX3_slack_9 : decode cX3_slack 9 = .ok (.iconst 0, 1) := dk_3 (dk_at dksX3_slack_0 9 rfl rfl)
theorem dX3_slack_10 : decode cX3_slack 10 = .ok (.ireturn, 1) := dk_172 (dk_at dksX3_slack_0 10 rfl rfl)
theorem dX3_slack_11 : decode cX3_slack 11 = .ok (.iconst 0, 1) := dk_3 (dk_at dksX3_slack_0 11 rfl rfl)
theorem dX3_slack_12 : decode cX3_slack 12 = .ok (.istore_n 3, 1) := dk_62 (dk_at dksX3_slack_0 12 rfl rfl)
theorem dX3_slack_13 : decode cX3_slack 13 = .ok (.iload_n 3, 1) := dk_29 (dk_at dksX3_slack_0 13 rfl rfl)
theorem dX3_slack_14 : decode cX3_slack 14 = .ok (.sipush 999, 3) := dk_17 3 231 (dk_at dksX3_slack_0 14 rfl rfl)
theorem dX3_slack_17 : decode cX3_slack 17 = .ok (.if_icmp .ge 21, 3) := dk_162 0 21 (dk_at dksX3_slack_0 17 rfl rfl)
theorem dX3_slack_20 : decode cX3_slack 20 = .ok (.aload_n 0, 1) := dk_42 (dk_at dksX3_slack_0 20 rfl rfl)
theorem dX3_slack_21 : decode cX3_slack 21 = .ok (.iload_n 1, 1) := dk_27 (dk_at dksX3_slack_0 21 rfl rfl)
theorem dX3_slack_22 : decode cX3_slack 22 = .ok (.iload_n 2, 1) := dk_28 (dk_at dksX3_slack_0 22 rfl rfl)
theorem dX3_slack_23 : decode cX3_slack 23 = .ok (.iload_n 3, 1) := dk_29 (dk_at dksX3_slack_0 23 rfl rfl)
theorem dX3_slack_24 : decode cX3_slack 24 = .ok (.iconst 1, 1) := dk_4 (dk_at dksX3_slack_1 0 rfl rfl)
theorem dX3_slack_25 : decode cX3_slack 25 = .ok (.iadd, 1) := dk_96 (dk_at dksX3_slack_1 1 rfl rfl)
theorem dX3_slack_26 : decode cX3_slack 26 = .ok (.invokevirtual 365, 3) := dk_182 1 109 (dk_at dksX3_slack_1 2 rfl rfl)
theorem dX3_slack_29 : decode cX3_slack 29 = .ok (.ifCond .eq 9, 3) := dk_153 0 9 (dk_at dksX3_slack_1 5 rfl rfl)
theorem dX3_slack_32 : decode cX3_slack 32 = .ok (.iinc 3 1, 3) := dk_132 3 1 (dk_at dksX3_slack_1 8 rfl rfl)
theorem dX3_slack_35 : decode cX3_slack 35 = .ok (.goto (-22), 3) := dk_167 255 234 (dk_at dksX3_slack_1 11 rfl rfl)
theorem dX3_slack_38 : decode cX3_slack 38 = .ok (.iload_n 3, 1) := dk_29 (dk_at dksX3_slack_1 14 rfl rfl)
theorem dX3_slack_39 : decode cX3_slack 39 = .ok (.ireturn, 1) := dk_172 (dk_at dksX3_slack_1 15 rfl rfl)
abbrev cX3_couldBe : ByteArray := prog_23_method_91_code
def yX3_couldBe : MethodName := ⟨RX3, "couldBe", "(III)Z"⟩
def dkwX3_couldBe_12 : List UInt8 := [21, 4, 182, 0, 242, 96, 42, 180, 0, 7, 5, 27, 96, 46, 163, 0, 7, 4, 167, 0, 4, 3, 172]
abbrev dktX3_couldBe_12 : List UInt8 := dkwX3_couldBe_12 ++ []
def dkwX3_couldBe_11 : List UInt8 := [180, 0, 42, 21, 4, 4, 100, 46, 42, 42, 27, 21, 4, 4, 100, 182, 0, 216, 182, 0, 219, 96, 42, 27]
abbrev dktX3_couldBe_11 : List UInt8 := dkwX3_couldBe_11 ++ dktX3_couldBe_12
def dkwX3_couldBe_10 : List UInt8 := [182, 0, 211, 42, 180, 0, 33, 3, 46, 96, 164, 0, 5, 3, 172, 132, 5, 1, 167, 255, 16, 42]
abbrev dktX3_couldBe_10 : List UInt8 := dkwX3_couldBe_10 ++ dktX3_couldBe_11
def dkwX3_couldBe_9 : List UInt8 := [100, 42, 21, 6, 182, 1, 0, 164, 0, 32, 167, 0, 27, 42, 180, 0, 42, 21, 5, 46, 42, 21, 6, 8]
abbrev dktX3_couldBe_9 : List UInt8 := dkwX3_couldBe_9 ++ dktX3_couldBe_10
def dkwX3_couldBe_8 : List UInt8 := [21, 5, 46, 42, 180, 0, 42, 42, 27, 5, 21, 6, 104, 182, 0, 251, 46, 100, 42, 21, 6, 182, 0, 219]
abbrev dktX3_couldBe_8 : List UInt8 := dkwX3_couldBe_8 ++ dktX3_couldBe_9
def dkwX3_couldBe_7 : List UInt8 := [21, 5, 28, 162, 0, 6, 167, 0, 80, 42, 27, 21, 5, 182, 0, 222, 153, 0, 44, 42, 180, 0, 42]
abbrev dktX3_couldBe_7 : List UInt8 := dkwX3_couldBe_7 ++ dktX3_couldBe_8
def dkwX3_couldBe_6 : List UInt8 := [27, 21, 5, 182, 0, 222, 154, 0, 15, 21, 9, 21, 7, 164, 0, 8, 21, 9, 167, 0, 5, 21, 7, 79]
abbrev dktX3_couldBe_6 : List UInt8 := dkwX3_couldBe_6 ++ dktX3_couldBe_7
def dkwX3_couldBe_5 : List UInt8 := [21, 5, 182, 0, 242, 96, 54, 7, 42, 21, 6, 8, 182, 0, 211, 54, 9, 42, 180, 0, 42, 21, 5, 42]
abbrev dktX3_couldBe_5 : List UInt8 := dkwX3_couldBe_5 ++ dktX3_couldBe_6
def dkwX3_couldBe_4 : List UInt8 := [4, 184, 0, 204, 46, 54, 8, 21, 7, 21, 8, 164, 0, 8, 21, 7, 167, 0, 5, 21, 8, 42, 27]
abbrev dktX3_couldBe_4 : List UInt8 := dkwX3_couldBe_4 ++ dktX3_couldBe_5
def dkwX3_couldBe_3 : List UInt8 := [46, 42, 42, 27, 21, 5, 4, 100, 182, 0, 216, 182, 0, 219, 96, 54, 7, 42, 180, 0, 7, 27, 21, 5]
abbrev dktX3_couldBe_3 : List UInt8 := dkwX3_couldBe_3 ++ dktX3_couldBe_4
def dkwX3_couldBe_2 : List UInt8 := [160, 0, 7, 29, 167, 0, 4, 3, 96, 79, 21, 5, 28, 164, 0, 106, 42, 180, 0, 42, 21, 5, 4, 100]
abbrev dktX3_couldBe_2 : List UInt8 := dkwX3_couldBe_2 ++ dktX3_couldBe_3
def dkwX3_couldBe_1 : List UInt8 := [21, 5, 182, 0, 216, 54, 6, 42, 180, 0, 42, 21, 5, 42, 27, 21, 5, 182, 0, 213, 21, 5, 28]
abbrev dktX3_couldBe_1 : List UInt8 := dkwX3_couldBe_1 ++ dktX3_couldBe_2
def dkwX3_couldBe_0 : List UInt8 := [42, 180, 0, 7, 16, 6, 27, 96, 46, 54, 4, 3, 54, 5, 21, 5, 21, 4, 162, 0, 239, 42, 27]
abbrev dktX3_couldBe_0 : List UInt8 := dkwX3_couldBe_0 ++ dktX3_couldBe_1
theorem dksX3_couldBe_0 : cX3_couldBe.data.toList.drop 0 = dktX3_couldBe_0 := by decide +kernel
theorem dksX3_couldBe_1 : cX3_couldBe.data.toList.drop 23 = dktX3_couldBe_1 := dk_seg dksX3_couldBe_0 23 rfl rfl
theorem dksX3_couldBe_2 : cX3_couldBe.data.toList.drop 46 = dktX3_couldBe_2 := dk_seg dksX3_couldBe_1 23 rfl rfl
theorem dksX3_couldBe_3 : cX3_couldBe.data.toList.drop 70 = dktX3_couldBe_3 := dk_seg dksX3_couldBe_2 24 rfl rfl
theorem dksX3_couldBe_4 : cX3_couldBe.data.toList.drop 94 = dktX3_couldBe_4 := dk_seg dksX3_couldBe_3 24 rfl rfl
theorem dksX3_couldBe_5 : cX3_couldBe.data.toList.drop 117 = dktX3_couldBe_5 := dk_seg dksX3_couldBe_4 23 rfl rfl
theorem dksX3_couldBe_6 : cX3_couldBe.data.toList.drop 141 = dktX3_couldBe_6 := dk_seg dksX3_couldBe_5 24 rfl rfl
theorem dksX3_couldBe_7 : cX3_couldBe.data.toList.drop 165 = dktX3_couldBe_7 := dk_seg dksX3_couldBe_6 24 rfl rfl
theorem dksX3_couldBe_8 : cX3_couldBe.data.toList.drop 188 = dktX3_couldBe_8 := dk_seg dksX3_couldBe_7 23 rfl rfl
theorem dksX3_couldBe_9 : cX3_couldBe.data.toList.drop 212 = dktX3_couldBe_9 := dk_seg dksX3_couldBe_8 24 rfl rfl
theorem dksX3_couldBe_10 : cX3_couldBe.data.toList.drop 236 = dktX3_couldBe_10 := dk_seg dksX3_couldBe_9 24 rfl rfl
theorem dksX3_couldBe_11 : cX3_couldBe.data.toList.drop 258 = dktX3_couldBe_11 := dk_seg dksX3_couldBe_10 22 rfl rfl
theorem dksX3_couldBe_12 : cX3_couldBe.data.toList.drop 282 = dktX3_couldBe_12 := dk_seg dksX3_couldBe_11 24 rfl rfl
theorem dX3_couldBe_0 : decode cX3_couldBe 0 = .ok (.aload_n 0, 1) := dk_42 (dk_at dksX3_couldBe_0 0 rfl rfl)
theorem dX3_couldBe_1 : decode cX3_couldBe 1 = .ok (.getfield 7, 3) := dk_180 0 7 (dk_at dksX3_couldBe_0 1 rfl rfl)
theorem dX3_couldBe_4 : decode cX3_couldBe 4 = .ok (.bipush 6, 2) := dk_16 6 (dk_at dksX3_couldBe_0 4 rfl rfl)
theorem dX3_couldBe_6 : decode cX3_couldBe 6 = .ok (.iload_n 1, 1) := dk_27 (dk_at dksX3_couldBe_0 6 rfl rfl)
theorem dX3_couldBe_7 : decode cX3_couldBe 7 = .ok (.iadd, 1) := dk_96 (dk_at dksX3_couldBe_0 7 rfl rfl)
theorem dX3_couldBe_8 : decode cX3_couldBe 8 = .ok (.iaload, 1) := dk_46 (dk_at dksX3_couldBe_0 8 rfl rfl)
theorem dX3_couldBe_9 : decode cX3_couldBe 9 = .ok (.istore 4, 2) := dk_54 4 (dk_at dksX3_couldBe_0 9 rfl rfl)
theorem dX3_couldBe_11 : decode cX3_couldBe 11 = .ok (.iconst 0, 1) := dk_3 (dk_at dksX3_couldBe_0 11 rfl rfl)
theorem dX3_couldBe_12 : decode cX3_couldBe 12 = .ok (.istore 5, 2) := dk_54 5 (dk_at dksX3_couldBe_0 12 rfl rfl)
theorem dX3_couldBe_14 : decode cX3_couldBe 14 = .ok (.iload 5, 2) := dk_21 5 (dk_at dksX3_couldBe_0 14 rfl rfl)
theorem dX3_couldBe_16 : decode cX3_couldBe 16 = .ok (.iload 4, 2) := dk_21 4 (dk_at dksX3_couldBe_0 16 rfl rfl)
theorem dX3_couldBe_18 : decode cX3_couldBe 18 = .ok (.if_icmp .ge 239, 3) := dk_162 0 239 (dk_at dksX3_couldBe_0 18 rfl rfl)
theorem dX3_couldBe_21 : decode cX3_couldBe 21 = .ok (.aload_n 0, 1) := dk_42 (dk_at dksX3_couldBe_0 21 rfl rfl)
theorem dX3_couldBe_22 : decode cX3_couldBe 22 = .ok (.iload_n 1, 1) := dk_27 (dk_at dksX3_couldBe_0 22 rfl rfl)
theorem dX3_couldBe_23 : decode cX3_couldBe 23 = .ok (.iload 5, 2) := dk_21 5 (dk_at dksX3_couldBe_1 0 rfl rfl)
theorem dX3_couldBe_25 : decode cX3_couldBe 25 = .ok (.invokevirtual 216, 3) := dk_182 0 216 (dk_at dksX3_couldBe_1 2 rfl rfl)
theorem dX3_couldBe_28 : decode cX3_couldBe 28 = .ok (.istore 6, 2) := dk_54 6 (dk_at dksX3_couldBe_1 5 rfl rfl)
theorem dX3_couldBe_30 : decode cX3_couldBe 30 = .ok (.aload_n 0, 1) := dk_42 (dk_at dksX3_couldBe_1 7 rfl rfl)
theorem dX3_couldBe_31 : decode cX3_couldBe 31 = .ok (.getfield 42, 3) := dk_180 0 42 (dk_at dksX3_couldBe_1 8 rfl rfl)
theorem dX3_couldBe_34 : decode cX3_couldBe 34 = .ok (.iload 5, 2) := dk_21 5 (dk_at dksX3_couldBe_1 11 rfl rfl)
theorem dX3_couldBe_36 : decode cX3_couldBe 36 = .ok (.aload_n 0, 1) := dk_42 (dk_at dksX3_couldBe_1 13 rfl rfl)
theorem dX3_couldBe_37 : decode cX3_couldBe 37 = .ok (.iload_n 1, 1) := dk_27 (dk_at dksX3_couldBe_1 14 rfl rfl)
theorem dX3_couldBe_38 : decode cX3_couldBe 38 = .ok (.iload 5, 2) := dk_21 5 (dk_at dksX3_couldBe_1 15 rfl rfl)
theorem dX3_couldBe_40 : decode cX3_couldBe 40 = .ok (.invokevirtual 213, 3) := dk_182 0 213 (dk_at dksX3_couldBe_1 17 rfl rfl)
theorem dX3_couldBe_43 : decode cX3_couldBe 43 = .ok (.iload 5, 2) := dk_21 5 (dk_at dksX3_couldBe_1 20 rfl rfl)
theorem dX3_couldBe_45 : decode cX3_couldBe 45 = .ok (.iload_n 2, 1) := dk_28 (dk_at dksX3_couldBe_1 22 rfl rfl)
theorem dX3_couldBe_46 : decode cX3_couldBe 46 = .ok (.if_icmp .ne 7, 3) := dk_160 0 7 (dk_at dksX3_couldBe_2 0 rfl rfl)
theorem dX3_couldBe_49 : decode cX3_couldBe 49 = .ok (.iload_n 3, 1) := dk_29 (dk_at dksX3_couldBe_2 3 rfl rfl)
theorem dX3_couldBe_50 : decode cX3_couldBe 50 = .ok (.goto 4, 3) := dk_167 0 4 (dk_at dksX3_couldBe_2 4 rfl rfl)
theorem dX3_couldBe_53 : decode cX3_couldBe 53 = .ok (.iconst 0, 1) := dk_3 (dk_at dksX3_couldBe_2 7 rfl rfl)
theorem dX3_couldBe_54 : decode cX3_couldBe 54 = .ok (.iadd, 1) := dk_96 (dk_at dksX3_couldBe_2 8 rfl rfl)
theorem dX3_couldBe_55 : decode cX3_couldBe 55 = .ok (.iastore, 1) := dk_79 (dk_at dksX3_couldBe_2 9 rfl rfl)
theorem dX3_couldBe_56 : decode cX3_couldBe 56 = .ok (.iload 5, 2) := dk_21 5 (dk_at dksX3_couldBe_2 10 rfl rfl)
theorem dX3_couldBe_58 : decode cX3_couldBe 58 = .ok (.iload_n 2, 1) := dk_28 (dk_at dksX3_couldBe_2 12 rfl rfl)
theorem dX3_couldBe_59 : decode cX3_couldBe 59 = .ok (.if_icmp .le 106, 3) := dk_164 0 106 (dk_at dksX3_couldBe_2 13 rfl rfl)
theorem dX3_couldBe_62 : decode cX3_couldBe 62 = .ok (.aload_n 0, 1) := dk_42 (dk_at dksX3_couldBe_2 16 rfl rfl)
theorem dX3_couldBe_63 : decode cX3_couldBe 63 = .ok (.getfield 42, 3) := dk_180 0 42 (dk_at dksX3_couldBe_2 17 rfl rfl)
theorem dX3_couldBe_66 : decode cX3_couldBe 66 = .ok (.iload 5, 2) := dk_21 5 (dk_at dksX3_couldBe_2 20 rfl rfl)
theorem dX3_couldBe_68 : decode cX3_couldBe 68 = .ok (.iconst 1, 1) := dk_4 (dk_at dksX3_couldBe_2 22 rfl rfl)
theorem dX3_couldBe_69 : decode cX3_couldBe 69 = .ok (.isub, 1) := dk_100 (dk_at dksX3_couldBe_2 23 rfl rfl)
theorem dX3_couldBe_70 : decode cX3_couldBe 70 = .ok (.iaload, 1) := dk_46 (dk_at dksX3_couldBe_3 0 rfl rfl)
theorem dX3_couldBe_71 : decode cX3_couldBe 71 = .ok (.aload_n 0, 1) := dk_42 (dk_at dksX3_couldBe_3 1 rfl rfl)
theorem dX3_couldBe_72 : decode cX3_couldBe 72 = .ok (.aload_n 0, 1) := dk_42 (dk_at dksX3_couldBe_3 2 rfl rfl)
theorem dX3_couldBe_73 : decode cX3_couldBe 73 = .ok (.iload_n 1, 1) := dk_27 (dk_at dksX3_couldBe_3 3 rfl rfl)
theorem dX3_couldBe_74 : decode cX3_couldBe 74 = .ok (.iload 5, 2) := dk_21 5 (dk_at dksX3_couldBe_3 4 rfl rfl)
theorem dX3_couldBe_76 : decode cX3_couldBe 76 = .ok (.iconst 1, 1) := dk_4 (dk_at dksX3_couldBe_3 6 rfl rfl)
theorem dX3_couldBe_77 : decode cX3_couldBe 77 = .ok (.isub, 1) := dk_100 (dk_at dksX3_couldBe_3 7 rfl rfl)
theorem dX3_couldBe_78 : decode cX3_couldBe 78 = .ok (.invokevirtual 216, 3) := dk_182 0 216 (dk_at dksX3_couldBe_3 8 rfl rfl)
theorem dX3_couldBe_81 : decode cX3_couldBe 81 = .ok (.invokevirtual 219, 3) := dk_182 0 219 (dk_at dksX3_couldBe_3 11 rfl rfl)
theorem dX3_couldBe_84 : decode cX3_couldBe 84 = .ok (.iadd, 1) := dk_96 (dk_at dksX3_couldBe_3 14 rfl rfl)
theorem dX3_couldBe_85 : decode cX3_couldBe 85 = .ok (.istore 7, 2) := dk_54 7 (dk_at dksX3_couldBe_3 15 rfl rfl)
theorem dX3_couldBe_87 : decode cX3_couldBe 87 = .ok (.aload_n 0, 1) := dk_42 (dk_at dksX3_couldBe_3 17 rfl rfl)
theorem dX3_couldBe_88 : decode cX3_couldBe 88 = .ok (.getfield 7, 3) := dk_180 0 7 (dk_at dksX3_couldBe_3 18 rfl rfl)
theorem dX3_couldBe_91 : decode cX3_couldBe 91 = .ok (.iload_n 1, 1) := dk_27 (dk_at dksX3_couldBe_3 21 rfl rfl)
theorem dX3_couldBe_92 : decode cX3_couldBe 92 = .ok (.iload 5, 2) := dk_21 5 (dk_at dksX3_couldBe_3 22 rfl rfl)
theorem dX3_couldBe_94 : decode cX3_couldBe 94 = .ok (.iconst 1, 1) := dk_4 (dk_at dksX3_couldBe_4 0 rfl rfl)
theorem dX3_couldBe_95 : decode cX3_couldBe 95 = .ok (.invokestatic 204, 3) := dk_184 0 204 (dk_at dksX3_couldBe_4 1 rfl rfl)
theorem dX3_couldBe_98 : decode cX3_couldBe 98 = .ok (.iaload, 1) := dk_46 (dk_at dksX3_couldBe_4 4 rfl rfl)
theorem dX3_couldBe_99 : decode cX3_couldBe 99 = .ok (.istore 8, 2) := dk_54 8 (dk_at dksX3_couldBe_4 5 rfl rfl)
theorem dX3_couldBe_101 : decode cX3_couldBe 101 = .ok (.iload 7, 2) := dk_21 7 (dk_at dksX3_couldBe_4 7 rfl rfl)
theorem dX3_couldBe_103 : decode cX3_couldBe 103 = .ok (.iload 8, 2) := dk_21 8 (dk_at dksX3_couldBe_4 9 rfl rfl)
theorem dX3_couldBe_105 : decode cX3_couldBe 105 = .ok (.if_icmp .le 8, 3) := dk_164 0 8 (dk_at dksX3_couldBe_4 11 rfl rfl)
theorem dX3_couldBe_108 : decode cX3_couldBe 108 = .ok (.iload 7, 2) := dk_21 7 (dk_at dksX3_couldBe_4 14 rfl rfl)
theorem dX3_couldBe_110 : decode cX3_couldBe 110 = .ok (.goto 5, 3) := dk_167 0 5 (dk_at dksX3_couldBe_4 16 rfl rfl)
theorem dX3_couldBe_113 : decode cX3_couldBe 113 = .ok (.iload 8, 2) := dk_21 8 (dk_at dksX3_couldBe_4 19 rfl rfl)
theorem dX3_couldBe_115 : decode cX3_couldBe 115 = .ok (.aload_n 0, 1) := dk_42 (dk_at dksX3_couldBe_4 21 rfl rfl)
theorem dX3_couldBe_116 : decode cX3_couldBe 116 = .ok (.iload_n 1, 1) := dk_27 (dk_at dksX3_couldBe_4 22 rfl rfl)
theorem dX3_couldBe_117 : decode cX3_couldBe 117 = .ok (.iload 5, 2) := dk_21 5 (dk_at dksX3_couldBe_5 0 rfl rfl)
theorem dX3_couldBe_119 : decode cX3_couldBe 119 = .ok (.invokevirtual 242, 3) := dk_182 0 242 (dk_at dksX3_couldBe_5 2 rfl rfl)
theorem dX3_couldBe_122 : decode cX3_couldBe 122 = .ok (.iadd, 1) := dk_96 (dk_at dksX3_couldBe_5 5 rfl rfl)
theorem dX3_couldBe_123 : decode cX3_couldBe 123 = .ok (.istore 7, 2) := dk_54 7 (dk_at dksX3_couldBe_5 6 rfl rfl)
theorem dX3_couldBe_125 : decode cX3_couldBe 125 = .ok (.aload_n 0, 1) := dk_42 (dk_at dksX3_couldBe_5 8 rfl rfl)
theorem dX3_couldBe_126 : decode cX3_couldBe 126 = .ok (.iload 6, 2) := dk_21 6 (dk_at dksX3_couldBe_5 9 rfl rfl)
theorem dX3_couldBe_128 : decode cX3_couldBe 128 = .ok (.iconst 5, 1) := dk_8 (dk_at dksX3_couldBe_5 11 rfl rfl)
theorem dX3_couldBe_129 : decode cX3_couldBe 129 = .ok (.invokevirtual 211, 3) := dk_182 0 211 (dk_at dksX3_couldBe_5 12 rfl rfl)
theorem dX3_couldBe_132 : decode cX3_couldBe 132 = .ok (.istore 9, 2) := dk_54 9 (dk_at dksX3_couldBe_5 15 rfl rfl)
theorem dX3_couldBe_134 : decode cX3_couldBe 134 = .ok (.aload_n 0, 1) := dk_42 (dk_at dksX3_couldBe_5 17 rfl rfl)
theorem dX3_couldBe_135 : decode cX3_couldBe 135 = .ok (.getfield 42, 3) := dk_180 0 42 (dk_at dksX3_couldBe_5 18 rfl rfl)
theorem dX3_couldBe_138 : decode cX3_couldBe 138 = .ok (.iload 5, 2) := dk_21 5 (dk_at dksX3_couldBe_5 21 rfl rfl)
theorem dX3_couldBe_140 : decode cX3_couldBe 140 = .ok (.aload_n 0, 1) := dk_42 (dk_at dksX3_couldBe_5 23 rfl rfl)
theorem dX3_couldBe_141 : decode cX3_couldBe 141 = .ok (.iload_n 1, 1) := dk_27 (dk_at dksX3_couldBe_6 0 rfl rfl)
theorem dX3_couldBe_142 : decode cX3_couldBe 142 = .ok (.iload 5, 2) := dk_21 5 (dk_at dksX3_couldBe_6 1 rfl rfl)
theorem dX3_couldBe_144 : decode cX3_couldBe 144 = .ok (.invokevirtual 222, 3) := dk_182 0 222 (dk_at dksX3_couldBe_6 3 rfl rfl)
theorem dX3_couldBe_147 : decode cX3_couldBe 147 = .ok (.ifCond .ne 15, 3) := dk_154 0 15 (dk_at dksX3_couldBe_6 6 rfl rfl)
theorem dX3_couldBe_150 : decode cX3_couldBe 150 = .ok (.iload 9, 2) := dk_21 9 (dk_at dksX3_couldBe_6 9 rfl rfl)
theorem dX3_couldBe_152 : decode cX3_couldBe 152 = .ok (.iload 7, 2) := dk_21 7 (dk_at dksX3_couldBe_6 11 rfl rfl)
theorem dX3_couldBe_154 : decode cX3_couldBe 154 = .ok (.if_icmp .le 8, 3) := dk_164 0 8 (dk_at dksX3_couldBe_6 13 rfl rfl)
theorem dX3_couldBe_157 : decode cX3_couldBe 157 = .ok (.iload 9, 2) := dk_21 9 (dk_at dksX3_couldBe_6 16 rfl rfl)
theorem dX3_couldBe_159 : decode cX3_couldBe 159 = .ok (.goto 5, 3) := dk_167 0 5 (dk_at dksX3_couldBe_6 18 rfl rfl)
theorem dX3_couldBe_162 : decode cX3_couldBe 162 = .ok (.iload 7, 2) := dk_21 7 (dk_at dksX3_couldBe_6 21 rfl rfl)
theorem dX3_couldBe_164 : decode cX3_couldBe 164 = .ok (.iastore, 1) := dk_79 (dk_at dksX3_couldBe_6 23 rfl rfl)
theorem dX3_couldBe_165 : decode cX3_couldBe 165 = .ok (.iload 5, 2) := dk_21 5 (dk_at dksX3_couldBe_7 0 rfl rfl)
theorem dX3_couldBe_167 : decode cX3_couldBe 167 = .ok (.iload_n 2, 1) := dk_28 (dk_at dksX3_couldBe_7 2 rfl rfl)
theorem dX3_couldBe_168 : decode cX3_couldBe 168 = .ok (.if_icmp .ge 6, 3) := dk_162 0 6 (dk_at dksX3_couldBe_7 3 rfl rfl)
theorem dX3_couldBe_171 : decode cX3_couldBe 171 = .ok (.goto 80, 3) := dk_167 0 80 (dk_at dksX3_couldBe_7 6 rfl rfl)
theorem dX3_couldBe_174 : decode cX3_couldBe 174 = .ok (.aload_n 0, 1) := dk_42 (dk_at dksX3_couldBe_7 9 rfl rfl)
theorem dX3_couldBe_175 : decode cX3_couldBe 175 = .ok (.iload_n 1, 1) := dk_27 (dk_at dksX3_couldBe_7 10 rfl rfl)
theorem dX3_couldBe_176 : decode cX3_couldBe 176 = .ok (.iload 5, 2) := dk_21 5 (dk_at dksX3_couldBe_7 11 rfl rfl)
theorem dX3_couldBe_178 : decode cX3_couldBe 178 = .ok (.invokevirtual 222, 3) := dk_182 0 222 (dk_at dksX3_couldBe_7 13 rfl rfl)
theorem dX3_couldBe_181 : decode cX3_couldBe 181 = .ok (.ifCond .eq 44, 3) := dk_153 0 44 (dk_at dksX3_couldBe_7 16 rfl rfl)
theorem dX3_couldBe_184 : decode cX3_couldBe 184 = .ok (.aload_n 0, 1) := dk_42 (dk_at dksX3_couldBe_7 19 rfl rfl)
theorem dX3_couldBe_185 : decode cX3_couldBe 185 = .ok (.getfield 42, 3) := dk_180 0 42 (dk_at dksX3_couldBe_7 20 rfl rfl)
theorem dX3_couldBe_188 : decode cX3_couldBe 188 = .ok (.iload 5, 2) := dk_21 5 (dk_at dksX3_couldBe_8 0 rfl rfl)
theorem dX3_couldBe_190 : decode cX3_couldBe 190 = .ok (.iaload, 1) := dk_46 (dk_at dksX3_couldBe_8 2 rfl rfl)
theorem dX3_couldBe_191 : decode cX3_couldBe 191 = .ok (.aload_n 0, 1) := dk_42 (dk_at dksX3_couldBe_8 3 rfl rfl)
theorem dX3_couldBe_192 : decode cX3_couldBe 192 = .ok (.getfield 42, 3) := dk_180 0 42 (dk_at dksX3_couldBe_8 4 rfl rfl)
theorem dX3_couldBe_195 : decode cX3_couldBe 195 = .ok (.aload_n 0, 1) := dk_42 (dk_at dksX3_couldBe_8 7 rfl rfl)
theorem dX3_couldBe_196 : decode cX3_couldBe 196 = .ok (.iload_n 1, 1) := dk_27 (dk_at dksX3_couldBe_8 8 rfl rfl)
theorem dX3_couldBe_197 : decode cX3_couldBe 197 = .ok (.iconst 2, 1) := dk_5 (dk_at dksX3_couldBe_8 9 rfl rfl)
theorem dX3_couldBe_198 : decode cX3_couldBe 198 = .ok (.iload 6, 2) := dk_21 6 (dk_at dksX3_couldBe_8 10 rfl rfl)
theorem dX3_couldBe_200 : decode cX3_couldBe 200 = .ok (.imul, 1) := dk_104 (dk_at dksX3_couldBe_8 12 rfl rfl)
theorem dX3_couldBe_201 : decode cX3_couldBe 201 = .ok (.invokevirtual 251, 3) := dk_182 0 251 (dk_at dksX3_couldBe_8 13 rfl rfl)
theorem dX3_couldBe_204 : decode cX3_couldBe 204 = .ok (.iaload, 1) := dk_46 (dk_at dksX3_couldBe_8 16 rfl rfl)
theorem dX3_couldBe_205 : decode cX3_couldBe 205 = .ok (.isub, 1) := dk_100 (dk_at dksX3_couldBe_8 17 rfl rfl)
theorem dX3_couldBe_206 : decode cX3_couldBe 206 = .ok (.aload_n 0, 1) := dk_42 (dk_at dksX3_couldBe_8 18 rfl rfl)
theorem dX3_couldBe_207 : decode cX3_couldBe 207 = .ok (.iload 6, 2) := dk_21 6 (dk_at dksX3_couldBe_8 19 rfl rfl)
theorem dX3_couldBe_209 : decode cX3_couldBe 209 = .ok (.invokevirtual 219, 3) := dk_182 0 219 (dk_at dksX3_couldBe_8 21 rfl rfl)
theorem dX3_couldBe_212 : decode cX3_couldBe 212 = .ok (.isub, 1) := dk_100 (dk_at dksX3_couldBe_9 0 rfl rfl)
theorem dX3_couldBe_213 : decode cX3_couldBe 213 = .ok (.aload_n 0, 1) := dk_42 (dk_at dksX3_couldBe_9 1 rfl rfl)
theorem dX3_couldBe_214 : decode cX3_couldBe 214 = .ok (.iload 6, 2) := dk_21 6 (dk_at dksX3_couldBe_9 2 rfl rfl)
theorem dX3_couldBe_216 : decode cX3_couldBe 216 = .ok (.invokevirtual 256, 3) := dk_182 1 0 (dk_at dksX3_couldBe_9 4 rfl rfl)
theorem dX3_couldBe_219 : decode cX3_couldBe 219 = .ok (.if_icmp .le 32, 3) := dk_164 0 32 (dk_at dksX3_couldBe_9 7 rfl rfl)
theorem dX3_couldBe_222 : decode cX3_couldBe 222 = .ok (.goto 27, 3) := dk_167 0 27 (dk_at dksX3_couldBe_9 10 rfl rfl)
theorem dX3_couldBe_225 : decode cX3_couldBe 225 = .ok (.aload_n 0, 1) := dk_42 (dk_at dksX3_couldBe_9 13 rfl rfl)
theorem dX3_couldBe_226 : decode cX3_couldBe 226 = .ok (.getfield 42, 3) := dk_180 0 42 (dk_at dksX3_couldBe_9 14 rfl rfl)
theorem dX3_couldBe_229 : decode cX3_couldBe 229 = .ok (.iload 5, 2) := dk_21 5 (dk_at dksX3_couldBe_9 17 rfl rfl)
theorem dX3_couldBe_231 : decode cX3_couldBe 231 = .ok (.iaload, 1) := dk_46 (dk_at dksX3_couldBe_9 19 rfl rfl)
theorem dX3_couldBe_232 : decode cX3_couldBe 232 = .ok (.aload_n 0, 1) := dk_42 (dk_at dksX3_couldBe_9 20 rfl rfl)
theorem dX3_couldBe_233 : decode cX3_couldBe 233 = .ok (.iload 6, 2) := dk_21 6 (dk_at dksX3_couldBe_9 21 rfl rfl)
theorem dX3_couldBe_235 : decode cX3_couldBe 235 = .ok (.iconst 5, 1) := dk_8 (dk_at dksX3_couldBe_9 23 rfl rfl)
theorem dX3_couldBe_236 : decode cX3_couldBe 236 = .ok (.invokevirtual 211, 3) := dk_182 0 211 (dk_at dksX3_couldBe_10 0 rfl rfl)
theorem dX3_couldBe_239 : decode cX3_couldBe 239 = .ok (.aload_n 0, 1) := dk_42 (dk_at dksX3_couldBe_10 3 rfl rfl)
theorem dX3_couldBe_240 : decode cX3_couldBe 240 = .ok (.getfield 33, 3) := dk_180 0 33 (dk_at dksX3_couldBe_10 4 rfl rfl)
theorem dX3_couldBe_243 : decode cX3_couldBe 243 = .ok (.iconst 0, 1) := dk_3 (dk_at dksX3_couldBe_10 7 rfl rfl)
theorem dX3_couldBe_244 : decode cX3_couldBe 244 = .ok (.iaload, 1) := dk_46 (dk_at dksX3_couldBe_10 8 rfl rfl)
theorem dX3_couldBe_245 : decode cX3_couldBe 245 = .ok (.iadd, 1) := dk_96 (dk_at dksX3_couldBe_10 9 rfl rfl)
theorem dX3_couldBe_246 : decode cX3_couldBe 246 = .ok (.if_icmp .le 5, 3) := dk_164 0 5 (dk_at dksX3_couldBe_10 10 rfl rfl)
theorem dX3_couldBe_249 : decode cX3_couldBe 249 = .ok (.iconst 0, 1) := dk_3 (dk_at dksX3_couldBe_10 13 rfl rfl)
theorem dX3_couldBe_250 : decode cX3_couldBe 250 = .ok (.ireturn, 1) := dk_172 (dk_at dksX3_couldBe_10 14 rfl rfl)
theorem dX3_couldBe_251 : decode cX3_couldBe 251 = .ok (.iinc 5 1, 3) := dk_132 5 1 (dk_at dksX3_couldBe_10 15 rfl rfl)
theorem dX3_couldBe_254 : decode cX3_couldBe 254 = .ok (.goto (-240), 3) := dk_167 255 16 (dk_at dksX3_couldBe_10 18 rfl rfl)
theorem dX3_couldBe_257 : decode cX3_couldBe 257 = .ok (.aload_n 0, 1) := dk_42 (dk_at dksX3_couldBe_10 21 rfl rfl)
theorem dX3_couldBe_258 : decode cX3_couldBe 258 = .ok (.getfield 42, 3) := dk_180 0 42 (dk_at dksX3_couldBe_11 0 rfl rfl)
theorem dX3_couldBe_261 : decode cX3_couldBe 261 = .ok (.iload 4, 2) := dk_21 4 (dk_at dksX3_couldBe_11 3 rfl rfl)
theorem dX3_couldBe_263 : decode cX3_couldBe 263 = .ok (.iconst 1, 1) := dk_4 (dk_at dksX3_couldBe_11 5 rfl rfl)
theorem dX3_couldBe_264 : decode cX3_couldBe 264 = .ok (.isub, 1) := dk_100 (dk_at dksX3_couldBe_11 6 rfl rfl)
theorem dX3_couldBe_265 : decode cX3_couldBe 265 = .ok (.iaload, 1) := dk_46 (dk_at dksX3_couldBe_11 7 rfl rfl)
theorem dX3_couldBe_266 : decode cX3_couldBe 266 = .ok (.aload_n 0, 1) := dk_42 (dk_at dksX3_couldBe_11 8 rfl rfl)
theorem dX3_couldBe_267 : decode cX3_couldBe 267 = .ok (.aload_n 0, 1) := dk_42 (dk_at dksX3_couldBe_11 9 rfl rfl)
theorem dX3_couldBe_268 : decode cX3_couldBe 268 = .ok (.iload_n 1, 1) := dk_27 (dk_at dksX3_couldBe_11 10 rfl rfl)
theorem dX3_couldBe_269 : decode cX3_couldBe 269 = .ok (.iload 4, 2) := dk_21 4 (dk_at dksX3_couldBe_11 11 rfl rfl)
theorem dX3_couldBe_271 : decode cX3_couldBe 271 = .ok (.iconst 1, 1) := dk_4 (dk_at dksX3_couldBe_11 13 rfl rfl)
theorem dX3_couldBe_272 : decode cX3_couldBe 272 = .ok (.isub, 1) := dk_100 (dk_at dksX3_couldBe_11 14 rfl rfl)
theorem dX3_couldBe_273 : decode cX3_couldBe 273 = .ok (.invokevirtual 216, 3) := dk_182 0 216 (dk_at dksX3_couldBe_11 15 rfl rfl)
theorem dX3_couldBe_276 : decode cX3_couldBe 276 = .ok (.invokevirtual 219, 3) := dk_182 0 219 (dk_at dksX3_couldBe_11 18 rfl rfl)
theorem dX3_couldBe_279 : decode cX3_couldBe 279 = .ok (.iadd, 1) := dk_96 (dk_at dksX3_couldBe_11 21 rfl rfl)
theorem dX3_couldBe_280 : decode cX3_couldBe 280 = .ok (.aload_n 0, 1) := dk_42 (dk_at dksX3_couldBe_11 22 rfl rfl)
theorem dX3_couldBe_281 : decode cX3_couldBe 281 = .ok (.iload_n 1, 1) := dk_27 (dk_at dksX3_couldBe_11 23 rfl rfl)
theorem dX3_couldBe_282 : decode cX3_couldBe 282 = .ok (.iload 4, 2) := dk_21 4 (dk_at dksX3_couldBe_12 0 rfl rfl)
theorem dX3_couldBe_284 : decode cX3_couldBe 284 = .ok (.invokevirtual 242, 3) := dk_182 0 242 (dk_at dksX3_couldBe_12 2 rfl rfl)
theorem dX3_couldBe_287 : decode cX3_couldBe 287 = .ok (.iadd, 1) := dk_96 (dk_at dksX3_couldBe_12 5 rfl rfl)
theorem dX3_couldBe_288 : decode cX3_couldBe 288 = .ok (.aload_n 0, 1) := dk_42 (dk_at dksX3_couldBe_12 6 rfl rfl)
theorem dX3_couldBe_289 : decode cX3_couldBe 289 = .ok (.getfield 7, 3) := dk_180 0 7 (dk_at dksX3_couldBe_12 7 rfl rfl)
theorem dX3_couldBe_292 : decode cX3_couldBe 292 = .ok (.iconst 2, 1) := dk_5 (dk_at dksX3_couldBe_12 10 rfl rfl)
theorem dX3_couldBe_293 : decode cX3_couldBe 293 = .ok (.iload_n 1, 1) := dk_27 (dk_at dksX3_couldBe_12 11 rfl rfl)
theorem dX3_couldBe_294 : decode cX3_couldBe 294 = .ok (.iadd, 1) := dk_96 (dk_at dksX3_couldBe_12 12 rfl rfl)
theorem dX3_couldBe_295 : decode cX3_couldBe 295 = .ok (.iaload, 1) := dk_46 (dk_at dksX3_couldBe_12 13 rfl rfl)
theorem dX3_couldBe_296 : decode cX3_couldBe 296 = .ok (.if_icmp .gt 7, 3) := dk_163 0 7 (dk_at dksX3_couldBe_12 14 rfl rfl)
theorem dX3_couldBe_299 : decode cX3_couldBe 299 = .ok (.iconst 1, 1) := dk_4 (dk_at dksX3_couldBe_12 17 rfl rfl)
theorem dX3_couldBe_300 : decode cX3_couldBe 300 = .ok (.goto 4, 3) := dk_167 0 4 (dk_at dksX3_couldBe_12 18 rfl rfl)
theorem dX3_couldBe_303 : decode cX3_couldBe 303 = .ok (.iconst 0, 1) := dk_3 (dk_at dksX3_couldBe_12 21 rfl rfl)
theorem dX3_couldBe_304 : decode cX3_couldBe 304 = .ok (.ireturn, 1) := dk_172 (dk_at dksX3_couldBe_12 22 rfl rfl)
abbrev cX3_placeOf : ByteArray := prog_23_method_50_code
def yX3_placeOf : MethodName := ⟨RX3, "placeOf", "(II)I"⟩
def dkwX3_placeOf_1 : List UInt8 := [160, 0, 5, 29, 172, 132, 3, 1, 167, 255, 228, 2, 172]
abbrev dktX3_placeOf_1 : List UInt8 := dkwX3_placeOf_1 ++ []
def dkwX3_placeOf_0 : List UInt8 := [3, 62, 29, 42, 180, 0, 7, 16, 6, 27, 96, 46, 162, 0, 21, 42, 27, 29, 182, 0, 208, 28]
abbrev dktX3_placeOf_0 : List UInt8 := dkwX3_placeOf_0 ++ dktX3_placeOf_1
theorem dksX3_placeOf_0 : cX3_placeOf.data.toList.drop 0 = dktX3_placeOf_0 := by decide +kernel
theorem dksX3_placeOf_1 : cX3_placeOf.data.toList.drop 22 = dktX3_placeOf_1 := dk_seg dksX3_placeOf_0 22 rfl rfl
theorem dX3_placeOf_0 : decode cX3_placeOf 0 = .ok (.iconst 0, 1) := dk_3 (dk_at dksX3_placeOf_0 0 rfl rfl)
theorem dX3_placeOf_1 : decode cX3_placeOf 1 = .ok (.istore_n 3, 1) := dk_62 (dk_at dksX3_placeOf_0 1 rfl rfl)
theorem dX3_placeOf_2 : decode cX3_placeOf 2 = .ok (.iload_n 3, 1) := dk_29 (dk_at dksX3_placeOf_0 2 rfl rfl)
theorem dX3_placeOf_3 : decode cX3_placeOf 3 = .ok (.aload_n 0, 1) := dk_42 (dk_at dksX3_placeOf_0 3 rfl rfl)
theorem dX3_placeOf_4 : decode cX3_placeOf 4 = .ok (.getfield 7, 3) := dk_180 0 7 (dk_at dksX3_placeOf_0 4 rfl rfl)
theorem dX3_placeOf_7 : decode cX3_placeOf 7 = .ok (.bipush 6, 2) := dk_16 6 (dk_at dksX3_placeOf_0 7 rfl rfl)
theorem dX3_placeOf_9 : decode cX3_placeOf 9 = .ok (.iload_n 1, 1) := dk_27 (dk_at dksX3_placeOf_0 9 rfl rfl)
theorem dX3_placeOf_10 : decode cX3_placeOf 10 = .ok (.iadd, 1) := dk_96 (dk_at dksX3_placeOf_0 10 rfl rfl)
theorem dX3_placeOf_11 : decode cX3_placeOf 11 = .ok (.iaload, 1) := dk_46 (dk_at dksX3_placeOf_0 11 rfl rfl)
theorem dX3_placeOf_12 : decode cX3_placeOf 12 = .ok (.if_icmp .ge 21, 3) := dk_162 0 21 (dk_at dksX3_placeOf_0 12 rfl rfl)
theorem dX3_placeOf_15 : decode cX3_placeOf 15 = .ok (.aload_n 0, 1) := dk_42 (dk_at dksX3_placeOf_0 15 rfl rfl)
theorem dX3_placeOf_16 : decode cX3_placeOf 16 = .ok (.iload_n 1, 1) := dk_27 (dk_at dksX3_placeOf_0 16 rfl rfl)
theorem dX3_placeOf_17 : decode cX3_placeOf 17 = .ok (.iload_n 3, 1) := dk_29 (dk_at dksX3_placeOf_0 17 rfl rfl)
theorem dX3_placeOf_18 : decode cX3_placeOf 18 = .ok (.invokevirtual 208, 3) := dk_182 0 208 (dk_at dksX3_placeOf_0 18 rfl rfl)
theorem dX3_placeOf_21 : decode cX3_placeOf 21 = .ok (.iload_n 2, 1) := dk_28 (dk_at dksX3_placeOf_0 21 rfl rfl)
theorem dX3_placeOf_22 : decode cX3_placeOf 22 = .ok (.if_icmp .ne 5, 3) := dk_160 0 5 (dk_at dksX3_placeOf_1 0 rfl rfl)
theorem dX3_placeOf_25 : decode cX3_placeOf 25 = .ok (.iload_n 3, 1) := dk_29 (dk_at dksX3_placeOf_1 3 rfl rfl)
theorem dX3_placeOf_26 : decode cX3_placeOf 26 = .ok (.ireturn, 1) := dk_172 (dk_at dksX3_placeOf_1 4 rfl rfl)
theorem dX3_placeOf_27 : decode cX3_placeOf 27 = .ok (.iinc 3 1, 3) := dk_132 3 1 (dk_at dksX3_placeOf_1 5 rfl rfl)
theorem dX3_placeOf_30 : decode cX3_placeOf 30 = .ok (.goto (-28), 3) := dk_167 255 228 (dk_at dksX3_placeOf_1 8 rfl rfl)
theorem dX3_placeOf_33 : decode cX3_placeOf 33 = .ok (.iconst (-1), 1) := dk_2 (dk_at dksX3_placeOf_1 11 rfl rfl)
theorem dX3_placeOf_34 : decode cX3_placeOf 34 = .ok (.ireturn, 1) := dk_172 (dk_at dksX3_placeOf_1 12 rfl rfl)
abbrev cX3_endOf : ByteArray := prog_23_method_93_code
def yX3_endOf : MethodName := ⟨RX3, "endOf", "(I)I"⟩
def dkwX3_endOf_0 : List UInt8 := [42, 27, 182, 1, 100, 153, 0, 7, 3, 167, 0, 8, 42, 27, 182, 1, 7, 172]
abbrev dktX3_endOf_0 : List UInt8 := dkwX3_endOf_0 ++ []
theorem dksX3_endOf_0 : cX3_endOf.data.toList.drop 0 = dktX3_endOf_0 := by decide +kernel
theorem dX3_endOf_0 : decode cX3_endOf 0 = .ok (.aload_n 0, 1) := dk_42 (dk_at dksX3_endOf_0 0 rfl rfl)
theorem dX3_endOf_1 : decode cX3_endOf 1 = .ok (.iload_n 1, 1) := dk_27 (dk_at dksX3_endOf_0 1 rfl rfl)
theorem dX3_endOf_2 : decode cX3_endOf 2 = .ok (.invokevirtual 356, 3) := dk_182 1 100 (dk_at dksX3_endOf_0 2 rfl rfl)
theorem dX3_endOf_5 : decode cX3_endOf 5 = .ok (.ifCond .eq 7, 3) := dk_153 0 7 (dk_at dksX3_endOf_0 5 rfl rfl)
theorem dX3_endOf_8 : decode cX3_endOf 8 = .ok (.iconst 0, 1) := dk_3 (dk_at dksX3_endOf_0 8 rfl rfl)
theorem dX3_endOf_9 : decode cX3_endOf 9 = .ok (.goto 8, 3) := dk_167 0 8 (dk_at dksX3_endOf_0 9 rfl rfl)
theorem dX3_endOf_12 : decode cX3_endOf 12 = .ok (.aload_n 0, 1) := dk_42 (dk_at dksX3_endOf_0 12 rfl rfl)
theorem dX3_endOf_13 : decode cX3_endOf 13 = .ok (.iload_n 1, 1) := dk_27 (dk_at dksX3_endOf_0 13 rfl rfl)
theorem dX3_endOf_14 : decode cX3_endOf 14 = .ok (.invokevirtual 263, 3) := dk_182 1 7 (dk_at dksX3_endOf_0 14 rfl rfl)
theorem dX3_endOf_17 : decode cX3_endOf 17 = .ok (.ireturn, 1) := dk_172 (dk_at dksX3_endOf_0 17 rfl rfl)
abbrev cX3_end : ByteArray := prog_23_method_45_code
def yX3_end : MethodName := ⟨RX3, "end", "(I)I"⟩
def dkwX3_end_1 : List UInt8 := [27, 28, 4, 100, 182, 0, 239, 42, 27, 28, 182, 0, 242, 96, 172]
abbrev dktX3_end_1 : List UInt8 := dkwX3_end_1 ++ []
def dkwX3_end_0 : List UInt8 := [42, 180, 0, 7, 16, 6, 27, 96, 46, 61, 28, 154, 0, 12, 42, 27, 7, 182, 0, 192, 167, 0, 18, 42]
abbrev dktX3_end_0 : List UInt8 := dkwX3_end_0 ++ dktX3_end_1
theorem dksX3_end_0 : cX3_end.data.toList.drop 0 = dktX3_end_0 := by decide +kernel
theorem dksX3_end_1 : cX3_end.data.toList.drop 24 = dktX3_end_1 := dk_seg dksX3_end_0 24 rfl rfl
theorem dX3_end_0 : decode cX3_end 0 = .ok (.aload_n 0, 1) := dk_42 (dk_at dksX3_end_0 0 rfl rfl)
theorem dX3_end_1 : decode cX3_end 1 = .ok (.getfield 7, 3) := dk_180 0 7 (dk_at dksX3_end_0 1 rfl rfl)
theorem dX3_end_4 : decode cX3_end 4 = .ok (.bipush 6, 2) := dk_16 6 (dk_at dksX3_end_0 4 rfl rfl)
theorem dX3_end_6 : decode cX3_end 6 = .ok (.iload_n 1, 1) := dk_27 (dk_at dksX3_end_0 6 rfl rfl)
theorem dX3_end_7 : decode cX3_end 7 = .ok (.iadd, 1) := dk_96 (dk_at dksX3_end_0 7 rfl rfl)
theorem dX3_end_8 : decode cX3_end 8 = .ok (.iaload, 1) := dk_46 (dk_at dksX3_end_0 8 rfl rfl)
theorem dX3_end_9 : decode cX3_end 9 = .ok (.istore_n 2, 1) := dk_61 (dk_at dksX3_end_0 9 rfl rfl)
theorem dX3_end_10 : decode cX3_end 10 = .ok (.iload_n 2, 1) := dk_28 (dk_at dksX3_end_0 10 rfl rfl)
theorem dX3_end_11 : decode cX3_end 11 = .ok (.ifCond .ne 12, 3) := dk_154 0 12 (dk_at dksX3_end_0 11 rfl rfl)
theorem dX3_end_14 : decode cX3_end 14 = .ok (.aload_n 0, 1) := dk_42 (dk_at dksX3_end_0 14 rfl rfl)
theorem dX3_end_15 : decode cX3_end 15 = .ok (.iload_n 1, 1) := dk_27 (dk_at dksX3_end_0 15 rfl rfl)
theorem dX3_end_16 : decode cX3_end 16 = .ok (.iconst 4, 1) := dk_7 (dk_at dksX3_end_0 16 rfl rfl)
theorem dX3_end_17 : decode cX3_end 17 = .ok (.invokevirtual 192, 3) := dk_182 0 192 (dk_at dksX3_end_0 17 rfl rfl)
theorem dX3_end_20 : decode cX3_end 20 = .ok (.goto 18, 3) := dk_167 0 18 (dk_at dksX3_end_0 20 rfl rfl)
theorem dX3_end_23 : decode cX3_end 23 = .ok (.aload_n 0, 1) := dk_42 (dk_at dksX3_end_0 23 rfl rfl)
theorem dX3_end_24 : decode cX3_end 24 = .ok (.iload_n 1, 1) := dk_27 (dk_at dksX3_end_1 0 rfl rfl)
theorem dX3_end_25 : decode cX3_end 25 = .ok (.iload_n 2, 1) := dk_28 (dk_at dksX3_end_1 1 rfl rfl)
theorem dX3_end_26 : decode cX3_end 26 = .ok (.iconst 1, 1) := dk_4 (dk_at dksX3_end_1 2 rfl rfl)
theorem dX3_end_27 : decode cX3_end 27 = .ok (.isub, 1) := dk_100 (dk_at dksX3_end_1 3 rfl rfl)
theorem dX3_end_28 : decode cX3_end 28 = .ok (.invokevirtual 239, 3) := dk_182 0 239 (dk_at dksX3_end_1 4 rfl rfl)
theorem dX3_end_31 : decode cX3_end 31 = .ok (.aload_n 0, 1) := dk_42 (dk_at dksX3_end_1 7 rfl rfl)
theorem dX3_end_32 : decode cX3_end 32 = .ok (.iload_n 1, 1) := dk_27 (dk_at dksX3_end_1 8 rfl rfl)
theorem dX3_end_33 : decode cX3_end 33 = .ok (.iload_n 2, 1) := dk_28 (dk_at dksX3_end_1 9 rfl rfl)
theorem dX3_end_34 : decode cX3_end 34 = .ok (.invokevirtual 242, 3) := dk_182 0 242 (dk_at dksX3_end_1 10 rfl rfl)
theorem dX3_end_37 : decode cX3_end 37 = .ok (.iadd, 1) := dk_96 (dk_at dksX3_end_1 13 rfl rfl)
theorem dX3_end_38 : decode cX3_end 38 = .ok (.ireturn, 1) := dk_172 (dk_at dksX3_end_1 14 rfl rfl)
abbrev cX3_driving : ByteArray := prog_23_method_94_code
def yX3_driving : MethodName := ⟨RX3, "driving", "(I)I"⟩
def dkwX3_driving_0 : List UInt8 := [42, 27, 182, 1, 100, 153, 0, 7, 3, 167, 0, 8, 42, 27, 182, 0, 245, 172]
abbrev dktX3_driving_0 : List UInt8 := dkwX3_driving_0 ++ []
theorem dksX3_driving_0 : cX3_driving.data.toList.drop 0 = dktX3_driving_0 := by decide +kernel
theorem dX3_driving_0 : decode cX3_driving 0 = .ok (.aload_n 0, 1) := dk_42 (dk_at dksX3_driving_0 0 rfl rfl)
theorem dX3_driving_1 : decode cX3_driving 1 = .ok (.iload_n 1, 1) := dk_27 (dk_at dksX3_driving_0 1 rfl rfl)
theorem dX3_driving_2 : decode cX3_driving 2 = .ok (.invokevirtual 356, 3) := dk_182 1 100 (dk_at dksX3_driving_0 2 rfl rfl)
theorem dX3_driving_5 : decode cX3_driving 5 = .ok (.ifCond .eq 7, 3) := dk_153 0 7 (dk_at dksX3_driving_0 5 rfl rfl)
theorem dX3_driving_8 : decode cX3_driving 8 = .ok (.iconst 0, 1) := dk_3 (dk_at dksX3_driving_0 8 rfl rfl)
theorem dX3_driving_9 : decode cX3_driving 9 = .ok (.goto 8, 3) := dk_167 0 8 (dk_at dksX3_driving_0 9 rfl rfl)
theorem dX3_driving_12 : decode cX3_driving 12 = .ok (.aload_n 0, 1) := dk_42 (dk_at dksX3_driving_0 12 rfl rfl)
theorem dX3_driving_13 : decode cX3_driving 13 = .ok (.iload_n 1, 1) := dk_27 (dk_at dksX3_driving_0 13 rfl rfl)
theorem dX3_driving_14 : decode cX3_driving 14 = .ok (.invokevirtual 245, 3) := dk_182 0 245 (dk_at dksX3_driving_0 14 rfl rfl)
theorem dX3_driving_17 : decode cX3_driving 17 = .ok (.ireturn, 1) := dk_172 (dk_at dksX3_driving_0 17 rfl rfl)
abbrev cX3_drives : ByteArray := prog_23_method_46_code
def yX3_drives : MethodName := ⟨RX3, "drives", "(I)I"⟩
def dkwX3_drives_1 : List UInt8 := [96, 46, 158, 0, 18, 28, 42, 27, 29, 182, 0, 242, 96, 61, 132, 3, 1, 167, 255, 219, 28, 172]
abbrev dktX3_drives_1 : List UInt8 := dkwX3_drives_1 ++ []
def dkwX3_drives_0 : List UInt8 := [3, 61, 3, 62, 29, 42, 180, 0, 7, 16, 6, 27, 96, 46, 163, 0, 30, 42, 180, 0, 7, 16, 6, 27]
abbrev dktX3_drives_0 : List UInt8 := dkwX3_drives_0 ++ dktX3_drives_1
theorem dksX3_drives_0 : cX3_drives.data.toList.drop 0 = dktX3_drives_0 := by decide +kernel
theorem dksX3_drives_1 : cX3_drives.data.toList.drop 24 = dktX3_drives_1 := dk_seg dksX3_drives_0 24 rfl rfl
theorem dX3_drives_0 : decode cX3_drives 0 = .ok (.iconst 0, 1) := dk_3 (dk_at dksX3_drives_0 0 rfl rfl)
theorem dX3_drives_1 : decode cX3_drives 1 = .ok (.istore_n 2, 1) := dk_61 (dk_at dksX3_drives_0 1 rfl rfl)
theorem dX3_drives_2 : decode cX3_drives 2 = .ok (.iconst 0, 1) := dk_3 (dk_at dksX3_drives_0 2 rfl rfl)
theorem dX3_drives_3 : decode cX3_drives 3 = .ok (.istore_n 3, 1) := dk_62 (dk_at dksX3_drives_0 3 rfl rfl)
theorem dX3_drives_4 : decode cX3_drives 4 = .ok (.iload_n 3, 1) := dk_29 (dk_at dksX3_drives_0 4 rfl rfl)
theorem dX3_drives_5 : decode cX3_drives 5 = .ok (.aload_n 0, 1) := dk_42 (dk_at dksX3_drives_0 5 rfl rfl)
theorem dX3_drives_6 : decode cX3_drives 6 = .ok (.getfield 7, 3) := dk_180 0 7 (dk_at dksX3_drives_0 6 rfl rfl)
theorem dX3_drives_9 : decode cX3_drives 9 = .ok (.bipush 6, 2) := dk_16 6 (dk_at dksX3_drives_0 9 rfl rfl)
theorem dX3_drives_11 : decode cX3_drives 11 = .ok (.iload_n 1, 1) := dk_27 (dk_at dksX3_drives_0 11 rfl rfl)
theorem dX3_drives_12 : decode cX3_drives 12 = .ok (.iadd, 1) := dk_96 (dk_at dksX3_drives_0 12 rfl rfl)
theorem dX3_drives_13 : decode cX3_drives 13 = .ok (.iaload, 1) := dk_46 (dk_at dksX3_drives_0 13 rfl rfl)
theorem dX3_drives_14 : decode cX3_drives 14 = .ok (.if_icmp .gt 30, 3) := dk_163 0 30 (dk_at dksX3_drives_0 14 rfl rfl)
theorem dX3_drives_17 : decode cX3_drives 17 = .ok (.aload_n 0, 1) := dk_42 (dk_at dksX3_drives_0 17 rfl rfl)
theorem dX3_drives_18 : decode cX3_drives 18 = .ok (.getfield 7, 3) := dk_180 0 7 (dk_at dksX3_drives_0 18 rfl rfl)
theorem dX3_drives_21 : decode cX3_drives 21 = .ok (.bipush 6, 2) := dk_16 6 (dk_at dksX3_drives_0 21 rfl rfl)
theorem dX3_drives_23 : decode cX3_drives 23 = .ok (.iload_n 1, 1) := dk_27 (dk_at dksX3_drives_0 23 rfl rfl)
theorem dX3_drives_24 : decode cX3_drives 24 = .ok (.iadd, 1) := dk_96 (dk_at dksX3_drives_1 0 rfl rfl)
theorem dX3_drives_25 : decode cX3_drives 25 = .ok (.iaload, 1) := dk_46 (dk_at dksX3_drives_1 1 rfl rfl)
theorem dX3_drives_26 : decode cX3_drives 26 = .ok (.ifCond .le 18, 3) := dk_158 0 18 (dk_at dksX3_drives_1 2 rfl rfl)
theorem dX3_drives_29 : decode cX3_drives 29 = .ok (.iload_n 2, 1) := dk_28 (dk_at dksX3_drives_1 5 rfl rfl)
theorem dX3_drives_30 : decode cX3_drives 30 = .ok (.aload_n 0, 1) := dk_42 (dk_at dksX3_drives_1 6 rfl rfl)
theorem dX3_drives_31 : decode cX3_drives 31 = .ok (.iload_n 1, 1) := dk_27 (dk_at dksX3_drives_1 7 rfl rfl)
theorem dX3_drives_32 : decode cX3_drives 32 = .ok (.iload_n 3, 1) := dk_29 (dk_at dksX3_drives_1 8 rfl rfl)
theorem dX3_drives_33 : decode cX3_drives 33 = .ok (.invokevirtual 242, 3) := dk_182 0 242 (dk_at dksX3_drives_1 9 rfl rfl)
theorem dX3_drives_36 : decode cX3_drives 36 = .ok (.iadd, 1) := dk_96 (dk_at dksX3_drives_1 12 rfl rfl)
theorem dX3_drives_37 : decode cX3_drives 37 = .ok (.istore_n 2, 1) := dk_61 (dk_at dksX3_drives_1 13 rfl rfl)
theorem dX3_drives_38 : decode cX3_drives 38 = .ok (.iinc 3 1, 3) := dk_132 3 1 (dk_at dksX3_drives_1 14 rfl rfl)
theorem dX3_drives_41 : decode cX3_drives 41 = .ok (.goto (-37), 3) := dk_167 255 219 (dk_at dksX3_drives_1 17 rfl rfl)
theorem dX3_drives_44 : decode cX3_drives 44 = .ok (.iload_n 2, 1) := dk_28 (dk_at dksX3_drives_1 20 rfl rfl)
theorem dX3_drives_45 : decode cX3_drives 45 = .ok (.ireturn, 1) := dk_172 (dk_at dksX3_drives_1 21 rfl rfl)
abbrev cX3_busiest : ByteArray := prog_23_method_96_code
def yX3_busiest : MethodName := ⟨RX3, "busiest", "(I)I"⟩
def dkwX3_busiest_3 : List UInt8 := [21, 4, 27, 160, 0, 7, 29, 167, 0, 4, 28, 61, 132, 3, 1, 167, 255, 186, 28, 172]
abbrev dktX3_busiest_3 : List UInt8 := dkwX3_busiest_3 ++ []
def dkwX3_busiest_2 : List UInt8 := [21, 5, 29, 182, 1, 112, 153, 0, 7, 4, 167, 0, 4, 3, 96, 54, 4, 132, 5, 1, 167, 255, 221]
abbrev dktX3_busiest_2 : List UInt8 := dkwX3_busiest_2 ++ dktX3_busiest_3
def dkwX3_busiest_1 : List UInt8 := [162, 0, 65, 3, 54, 4, 3, 54, 5, 21, 5, 42, 180, 0, 33, 16, 8, 46, 162, 0, 29, 21, 4, 42]
abbrev dktX3_busiest_1 : List UInt8 := dkwX3_busiest_1 ++ dktX3_busiest_2
def dkwX3_busiest_0 : List UInt8 := [42, 27, 182, 1, 100, 153, 0, 5, 3, 172, 3, 61, 3, 62, 29, 42, 180, 0, 33, 16, 8, 46]
abbrev dktX3_busiest_0 : List UInt8 := dkwX3_busiest_0 ++ dktX3_busiest_1
theorem dksX3_busiest_0 : cX3_busiest.data.toList.drop 0 = dktX3_busiest_0 := by decide +kernel
theorem dksX3_busiest_1 : cX3_busiest.data.toList.drop 22 = dktX3_busiest_1 := dk_seg dksX3_busiest_0 22 rfl rfl
theorem dksX3_busiest_2 : cX3_busiest.data.toList.drop 46 = dktX3_busiest_2 := dk_seg dksX3_busiest_1 24 rfl rfl
theorem dksX3_busiest_3 : cX3_busiest.data.toList.drop 69 = dktX3_busiest_3 := dk_seg dksX3_busiest_2 23 rfl rfl
theorem dX3_busiest_0 : decode cX3_busiest 0 = .ok (.aload_n 0, 1) := dk_42 (dk_at dksX3_busiest_0 0 rfl rfl)
theorem dX3_busiest_1 : decode cX3_busiest 1 = .ok (.iload_n 1, 1) := dk_27 (dk_at dksX3_busiest_0 1 rfl rfl)
theorem dX3_busiest_2 : decode cX3_busiest 2 = .ok (.invokevirtual 356, 3) := dk_182 1 100 (dk_at dksX3_busiest_0 2 rfl rfl)
theorem dX3_busiest_5 : decode cX3_busiest 5 = .ok (.ifCond .eq 5, 3) := dk_153 0 5 (dk_at dksX3_busiest_0 5 rfl rfl)
theorem dX3_busiest_8 : decode cX3_busiest 8 = .ok (.iconst 0, 1) := dk_3 (dk_at dksX3_busiest_0 8 rfl rfl)
theorem dX3_busiest_9 : decode cX3_busiest 9 = .ok (.ireturn, 1) := dk_172 (dk_at dksX3_busiest_0 9 rfl rfl)
theorem dX3_busiest_10 : decode cX3_busiest 10 = .ok (.iconst 0, 1) := dk_3 (dk_at dksX3_busiest_0 10 rfl rfl)
theorem dX3_busiest_11 : decode cX3_busiest 11 = .ok (.istore_n 2, 1) := dk_61 (dk_at dksX3_busiest_0 11 rfl rfl)
theorem dX3_busiest_12 : decode cX3_busiest 12 = .ok (.iconst 0, 1) := dk_3 (dk_at dksX3_busiest_0 12 rfl rfl)
theorem dX3_busiest_13 : decode cX3_busiest 13 = .ok (.istore_n 3, 1) := dk_62 (dk_at dksX3_busiest_0 13 rfl rfl)
theorem dX3_busiest_14 : decode cX3_busiest 14 = .ok (.iload_n 3, 1) := dk_29 (dk_at dksX3_busiest_0 14 rfl rfl)
theorem dX3_busiest_15 : decode cX3_busiest 15 = .ok (.aload_n 0, 1) := dk_42 (dk_at dksX3_busiest_0 15 rfl rfl)
theorem dX3_busiest_16 : decode cX3_busiest 16 = .ok (.getfield 33, 3) := dk_180 0 33 (dk_at dksX3_busiest_0 16 rfl rfl)
theorem dX3_busiest_19 : decode cX3_busiest 19 = .ok (.bipush 8, 2) := dk_16 8 (dk_at dksX3_busiest_0 19 rfl rfl)
theorem dX3_busiest_21 : decode cX3_busiest 21 = .ok (.iaload, 1) := dk_46 (dk_at dksX3_busiest_0 21 rfl rfl)
theorem dX3_busiest_22 : decode cX3_busiest 22 = .ok (.if_icmp .ge 65, 3) := dk_162 0 65 (dk_at dksX3_busiest_1 0 rfl rfl)
theorem dX3_busiest_25 : decode cX3_busiest 25 = .ok (.iconst 0, 1) := dk_3 (dk_at dksX3_busiest_1 3 rfl rfl)
theorem dX3_busiest_26 : decode cX3_busiest 26 = .ok (.istore 4, 2) := dk_54 4 (dk_at dksX3_busiest_1 4 rfl rfl)
theorem dX3_busiest_28 : decode cX3_busiest 28 = .ok (.iconst 0, 1) := dk_3 (dk_at dksX3_busiest_1 6 rfl rfl)
theorem dX3_busiest_29 : decode cX3_busiest 29 = .ok (.istore 5, 2) := dk_54 5 (dk_at dksX3_busiest_1 7 rfl rfl)
theorem dX3_busiest_31 : decode cX3_busiest 31 = .ok (.iload 5, 2) := dk_21 5 (dk_at dksX3_busiest_1 9 rfl rfl)
theorem dX3_busiest_33 : decode cX3_busiest 33 = .ok (.aload_n 0, 1) := dk_42 (dk_at dksX3_busiest_1 11 rfl rfl)
theorem dX3_busiest_34 : decode cX3_busiest 34 = .ok (.getfield 33, 3) := dk_180 0 33 (dk_at dksX3_busiest_1 12 rfl rfl)
theorem dX3_busiest_37 : decode cX3_busiest 37 = .ok (.bipush 8, 2) := dk_16 8 (dk_at dksX3_busiest_1 15 rfl rfl)
theorem dX3_busiest_39 : decode cX3_busiest 39 = .ok (.iaload, 1) := dk_46 (dk_at dksX3_busiest_1 17 rfl rfl)
theorem dX3_busiest_40 : decode cX3_busiest 40 = .ok (.if_icmp .ge 29, 3) := dk_162 0 29 (dk_at dksX3_busiest_1 18 rfl rfl)
theorem dX3_busiest_43 : decode cX3_busiest 43 = .ok (.iload 4, 2) := dk_21 4 (dk_at dksX3_busiest_1 21 rfl rfl)
theorem dX3_busiest_45 : decode cX3_busiest 45 = .ok (.aload_n 0, 1) := dk_42 (dk_at dksX3_busiest_1 23 rfl rfl)
theorem dX3_busiest_46 : decode cX3_busiest 46 = .ok (.iload 5, 2) := dk_21 5 (dk_at dksX3_busiest_2 0 rfl rfl)
theorem dX3_busiest_48 : decode cX3_busiest 48 = .ok (.iload_n 3, 1) := dk_29 (dk_at dksX3_busiest_2 2 rfl rfl)
theorem dX3_busiest_49 : decode cX3_busiest 49 = .ok (.invokevirtual 368, 3) := dk_182 1 112 (dk_at dksX3_busiest_2 3 rfl rfl)
theorem dX3_busiest_52 : decode cX3_busiest 52 = .ok (.ifCond .eq 7, 3) := dk_153 0 7 (dk_at dksX3_busiest_2 6 rfl rfl)
theorem dX3_busiest_55 : decode cX3_busiest 55 = .ok (.iconst 1, 1) := dk_4 (dk_at dksX3_busiest_2 9 rfl rfl)
theorem dX3_busiest_56 : decode cX3_busiest 56 = .ok (.goto 4, 3) := dk_167 0 4 (dk_at dksX3_busiest_2 10 rfl rfl)
theorem dX3_busiest_59 : decode cX3_busiest 59 = .ok (.iconst 0, 1) := dk_3 (dk_at dksX3_busiest_2 13 rfl rfl)
theorem dX3_busiest_60 : decode cX3_busiest 60 = .ok (.iadd, 1) := dk_96 (dk_at dksX3_busiest_2 14 rfl rfl)
theorem dX3_busiest_61 : decode cX3_busiest 61 = .ok (.istore 4, 2) := dk_54 4 (dk_at dksX3_busiest_2 15 rfl rfl)
theorem dX3_busiest_63 : decode cX3_busiest 63 = .ok (.iinc 5 1, 3) := dk_132 5 1 (dk_at dksX3_busiest_2 17 rfl rfl)
theorem dX3_busiest_66 : decode cX3_busiest 66 = .ok (.goto (-35), 3) := dk_167 255 221 (dk_at dksX3_busiest_2 20 rfl rfl)
theorem dX3_busiest_69 : decode cX3_busiest 69 = .ok (.iload 4, 2) := dk_21 4 (dk_at dksX3_busiest_3 0 rfl rfl)
theorem dX3_busiest_71 : decode cX3_busiest 71 = .ok (.iload_n 1, 1) := dk_27 (dk_at dksX3_busiest_3 2 rfl rfl)
theorem dX3_busiest_72 : decode cX3_busiest 72 = .ok (.if_icmp .ne 7, 3) := dk_160 0 7 (dk_at dksX3_busiest_3 3 rfl rfl)
theorem dX3_busiest_75 : decode cX3_busiest 75 = .ok (.iload_n 3, 1) := dk_29 (dk_at dksX3_busiest_3 6 rfl rfl)
theorem dX3_busiest_76 : decode cX3_busiest 76 = .ok (.goto 4, 3) := dk_167 0 4 (dk_at dksX3_busiest_3 7 rfl rfl)
theorem dX3_busiest_79 : decode cX3_busiest 79 = .ok (.iload_n 2, 1) := dk_28 (dk_at dksX3_busiest_3 10 rfl rfl)
theorem dX3_busiest_80 : decode cX3_busiest 80 = .ok (.istore_n 2, 1) := dk_61 (dk_at dksX3_busiest_3 11 rfl rfl)
theorem dX3_busiest_81 : decode cX3_busiest 81 = .ok (.iinc 3 1, 3) := dk_132 3 1 (dk_at dksX3_busiest_3 12 rfl rfl)
theorem dX3_busiest_84 : decode cX3_busiest 84 = .ok (.goto (-70), 3) := dk_167 255 186 (dk_at dksX3_busiest_3 15 rfl rfl)
theorem dX3_busiest_87 : decode cX3_busiest 87 = .ok (.iload_n 2, 1) := dk_28 (dk_at dksX3_busiest_3 18 rfl rfl)
theorem dX3_busiest_88 : decode cX3_busiest 88 = .ok (.ireturn, 1) := dk_172 (dk_at dksX3_busiest_3 19 rfl rfl)
abbrev cX3_isBusier : ByteArray := prog_23_method_95_code
def yX3_isBusier : MethodName := ⟨RX3, "isBusier", "(II)Z"⟩
def dkwX3_isBusier_3 : List UInt8 := [164, 0, 7, 4, 167, 0, 17, 3, 167, 0, 13, 27, 28, 162, 0, 7, 4, 167, 0, 4, 3, 172]
abbrev dktX3_isBusier_3 : List UInt8 := dkwX3_isBusier_3 ++ []
def dkwX3_isBusier_2 : List UInt8 := [28, 96, 46, 159, 0, 32, 42, 180, 0, 7, 16, 6, 27, 96, 46, 42, 180, 0, 7, 16, 6, 28, 96, 46]
abbrev dktX3_isBusier_2 : List UInt8 := dkwX3_isBusier_2 ++ dktX3_isBusier_3
def dkwX3_isBusier_1 : List UInt8 := [164, 0, 7, 4, 167, 0, 4, 3, 172, 42, 180, 0, 7, 16, 6, 27, 96, 46, 42, 180, 0, 7, 16, 6]
abbrev dktX3_isBusier_1 : List UInt8 := dkwX3_isBusier_1 ++ dktX3_isBusier_2
def dkwX3_isBusier_0 : List UInt8 := [42, 27, 182, 0, 245, 42, 28, 182, 0, 245, 159, 0, 22, 42, 27, 182, 0, 245, 42, 28, 182, 0, 245]
abbrev dktX3_isBusier_0 : List UInt8 := dkwX3_isBusier_0 ++ dktX3_isBusier_1
theorem dksX3_isBusier_0 : cX3_isBusier.data.toList.drop 0 = dktX3_isBusier_0 := by decide +kernel
theorem dksX3_isBusier_1 : cX3_isBusier.data.toList.drop 23 = dktX3_isBusier_1 := dk_seg dksX3_isBusier_0 23 rfl rfl
theorem dksX3_isBusier_2 : cX3_isBusier.data.toList.drop 47 = dktX3_isBusier_2 := dk_seg dksX3_isBusier_1 24 rfl rfl
theorem dksX3_isBusier_3 : cX3_isBusier.data.toList.drop 71 = dktX3_isBusier_3 := dk_seg dksX3_isBusier_2 24 rfl rfl
theorem dX3_isBusier_0 : decode cX3_isBusier 0 = .ok (.aload_n 0, 1) := dk_42 (dk_at dksX3_isBusier_0 0 rfl rfl)
theorem dX3_isBusier_1 : decode cX3_isBusier 1 = .ok (.iload_n 1, 1) := dk_27 (dk_at dksX3_isBusier_0 1 rfl rfl)
theorem dX3_isBusier_2 : decode cX3_isBusier 2 = .ok (.invokevirtual 245, 3) := dk_182 0 245 (dk_at dksX3_isBusier_0 2 rfl rfl)
theorem dX3_isBusier_5 : decode cX3_isBusier 5 = .ok (.aload_n 0, 1) := dk_42 (dk_at dksX3_isBusier_0 5 rfl rfl)
theorem dX3_isBusier_6 : decode cX3_isBusier 6 = .ok (.iload_n 2, 1) := dk_28 (dk_at dksX3_isBusier_0 6 rfl rfl)
theorem dX3_isBusier_7 : decode cX3_isBusier 7 = .ok (.invokevirtual 245, 3) := dk_182 0 245 (dk_at dksX3_isBusier_0 7 rfl rfl)
theorem dX3_isBusier_10 : decode cX3_isBusier 10 = .ok (.if_icmp .eq 22, 3) := dk_159 0 22 (dk_at dksX3_isBusier_0 10 rfl rfl)
theorem dX3_isBusier_13 : decode cX3_isBusier 13 = .ok (.aload_n 0, 1) := dk_42 (dk_at dksX3_isBusier_0 13 rfl rfl)
theorem dX3_isBusier_14 : decode cX3_isBusier 14 = .ok (.iload_n 1, 1) := dk_27 (dk_at dksX3_isBusier_0 14 rfl rfl)
theorem dX3_isBusier_15 : decode cX3_isBusier 15 = .ok (.invokevirtual 245, 3) := dk_182 0 245 (dk_at dksX3_isBusier_0 15 rfl rfl)
theorem dX3_isBusier_18 : decode cX3_isBusier 18 = .ok (.aload_n 0, 1) := dk_42 (dk_at dksX3_isBusier_0 18 rfl rfl)
theorem dX3_isBusier_19 : decode cX3_isBusier 19 = .ok (.iload_n 2, 1) := dk_28 (dk_at dksX3_isBusier_0 19 rfl rfl)
theorem dX3_isBusier_20 : decode cX3_isBusier 20 = .ok (.invokevirtual 245, 3) := dk_182 0 245 (dk_at dksX3_isBusier_0 20 rfl rfl)
theorem dX3_isBusier_23 : decode cX3_isBusier 23 = .ok (.if_icmp .le 7, 3) := dk_164 0 7 (dk_at dksX3_isBusier_1 0 rfl rfl)
theorem dX3_isBusier_26 : decode cX3_isBusier 26 = .ok (.iconst 1, 1) := dk_4 (dk_at dksX3_isBusier_1 3 rfl rfl)
theorem dX3_isBusier_27 : decode cX3_isBusier 27 = .ok (.goto 4, 3) := dk_167 0 4 (dk_at dksX3_isBusier_1 4 rfl rfl)
theorem dX3_isBusier_30 : decode cX3_isBusier 30 = .ok (.iconst 0, 1) := dk_3 (dk_at dksX3_isBusier_1 7 rfl rfl)
theorem dX3_isBusier_31 : decode cX3_isBusier 31 = .ok (.ireturn, 1) := dk_172 (dk_at dksX3_isBusier_1 8 rfl rfl)
theorem dX3_isBusier_32 : decode cX3_isBusier 32 = .ok (.aload_n 0, 1) := dk_42 (dk_at dksX3_isBusier_1 9 rfl rfl)
theorem dX3_isBusier_33 : decode cX3_isBusier 33 = .ok (.getfield 7, 3) := dk_180 0 7 (dk_at dksX3_isBusier_1 10 rfl rfl)
theorem dX3_isBusier_36 : decode cX3_isBusier 36 = .ok (.bipush 6, 2) := dk_16 6 (dk_at dksX3_isBusier_1 13 rfl rfl)
theorem dX3_isBusier_38 : decode cX3_isBusier 38 = .ok (.iload_n 1, 1) := dk_27 (dk_at dksX3_isBusier_1 15 rfl rfl)
theorem dX3_isBusier_39 : decode cX3_isBusier 39 = .ok (.iadd, 1) := dk_96 (dk_at dksX3_isBusier_1 16 rfl rfl)
theorem dX3_isBusier_40 : decode cX3_isBusier 40 = .ok (.iaload, 1) := dk_46 (dk_at dksX3_isBusier_1 17 rfl rfl)
theorem dX3_isBusier_41 : decode cX3_isBusier 41 = .ok (.aload_n 0, 1) := dk_42 (dk_at dksX3_isBusier_1 18 rfl rfl)
theorem dX3_isBusier_42 : decode cX3_isBusier 42 = .ok (.getfield 7, 3) := dk_180 0 7 (dk_at dksX3_isBusier_1 19 rfl rfl)
theorem dX3_isBusier_45 : decode cX3_isBusier 45 = .ok (.bipush 6, 2) := dk_16 6 (dk_at dksX3_isBusier_1 22 rfl rfl)
theorem dX3_isBusier_47 : decode cX3_isBusier 47 = .ok (.iload_n 2, 1) := dk_28 (dk_at dksX3_isBusier_2 0 rfl rfl)
theorem dX3_isBusier_48 : decode cX3_isBusier 48 = .ok (.iadd, 1) := dk_96 (dk_at dksX3_isBusier_2 1 rfl rfl)
theorem dX3_isBusier_49 : decode cX3_isBusier 49 = .ok (.iaload, 1) := dk_46 (dk_at dksX3_isBusier_2 2 rfl rfl)
theorem dX3_isBusier_50 : decode cX3_isBusier 50 = .ok (.if_icmp .eq 32, 3) := dk_159 0 32 (dk_at dksX3_isBusier_2 3 rfl rfl)
theorem dX3_isBusier_53 : decode cX3_isBusier 53 = .ok (.aload_n 0, 1) := dk_42 (dk_at dksX3_isBusier_2 6 rfl rfl)
theorem dX3_isBusier_54 : decode cX3_isBusier 54 = .ok (.getfield 7, 3) := dk_180 0 7 (dk_at dksX3_isBusier_2 7 rfl rfl)
theorem dX3_isBusier_57 : decode cX3_isBusier 57 = .ok (.bipush 6, 2) := dk_16 6 (dk_at dksX3_isBusier_2 10 rfl rfl)
theorem dX3_isBusier_59 : decode cX3_isBusier 59 = .ok (.iload_n 1, 1) := dk_27 (dk_at dksX3_isBusier_2 12 rfl rfl)
theorem dX3_isBusier_60 : decode cX3_isBusier 60 = .ok (.iadd, 1) := dk_96 (dk_at dksX3_isBusier_2 13 rfl rfl)
theorem dX3_isBusier_61 : decode cX3_isBusier 61 = .ok (.iaload, 1) := dk_46 (dk_at dksX3_isBusier_2 14 rfl rfl)
theorem dX3_isBusier_62 : decode cX3_isBusier 62 = .ok (.aload_n 0, 1) := dk_42 (dk_at dksX3_isBusier_2 15 rfl rfl)
theorem dX3_isBusier_63 : decode cX3_isBusier 63 = .ok (.getfield 7, 3) := dk_180 0 7 (dk_at dksX3_isBusier_2 16 rfl rfl)
theorem dX3_isBusier_66 : decode cX3_isBusier 66 = .ok (.bipush 6, 2) := dk_16 6 (dk_at dksX3_isBusier_2 19 rfl rfl)
theorem dX3_isBusier_68 : decode cX3_isBusier 68 = .ok (.iload_n 2, 1) := dk_28 (dk_at dksX3_isBusier_2 21 rfl rfl)
theorem dX3_isBusier_69 : decode cX3_isBusier 69 = .ok (.iadd, 1) := dk_96 (dk_at dksX3_isBusier_2 22 rfl rfl)
theorem dX3_isBusier_70 : decode cX3_isBusier 70 = .ok (.iaload, 1) := dk_46 (dk_at dksX3_isBusier_2 23 rfl rfl)
theorem dX3_isBusier_71 : decode cX3_isBusier 71 = .ok (.if_icmp .le 7, 3) := dk_164 0 7 (dk_at dksX3_isBusier_3 0 rfl rfl)
theorem dX3_isBusier_74 : decode cX3_isBusier 74 = .ok (.iconst 1, 1) := dk_4 (dk_at dksX3_isBusier_3 3 rfl rfl)
theorem dX3_isBusier_75 : decode cX3_isBusier 75 = .ok (.goto 17, 3) := dk_167 0 17 (dk_at dksX3_isBusier_3 4 rfl rfl)
theorem dX3_isBusier_78 : decode cX3_isBusier 78 = .ok (.iconst 0, 1) := dk_3 (dk_at dksX3_isBusier_3 7 rfl rfl)
theorem dX3_isBusier_79 : decode cX3_isBusier 79 = .ok (.goto 13, 3) := dk_167 0 13 (dk_at dksX3_isBusier_3 8 rfl rfl)
theorem dX3_isBusier_82 : decode cX3_isBusier 82 = .ok (.iload_n 1, 1) := dk_27 (dk_at dksX3_isBusier_3 11 rfl rfl)
theorem dX3_isBusier_83 : decode cX3_isBusier 83 = .ok (.iload_n 2, 1) := dk_28 (dk_at dksX3_isBusier_3 12 rfl rfl)
theorem dX3_isBusier_84 : decode cX3_isBusier 84 = .ok (.if_icmp .ge 7, 3) := dk_162 0 7 (dk_at dksX3_isBusier_3 13 rfl rfl)
theorem dX3_isBusier_87 : decode cX3_isBusier 87 = .ok (.iconst 1, 1) := dk_4 (dk_at dksX3_isBusier_3 16 rfl rfl)
theorem dX3_isBusier_88 : decode cX3_isBusier 88 = .ok (.goto 4, 3) := dk_167 0 4 (dk_at dksX3_isBusier_3 17 rfl rfl)
theorem dX3_isBusier_91 : decode cX3_isBusier 91 = .ok (.iconst 0, 1) := dk_3 (dk_at dksX3_isBusier_3 20 rfl rfl)
theorem dX3_isBusier_92 : decode cX3_isBusier 92 = .ok (.ireturn, 1) := dk_172 (dk_at dksX3_isBusier_3 21 rfl rfl)
abbrev cX3_stateOf : ByteArray := prog_23_method_97_code
def yX3_stateOf : MethodName := ⟨RX3, "stateOf", "(I)I"⟩
def dkwX3_stateOf_0 : List UInt8 := [42, 27, 182, 1, 115, 153, 0, 7, 3, 167, 0, 10, 42, 27, 16, 6, 182, 0, 211, 172]
abbrev dktX3_stateOf_0 : List UInt8 := dkwX3_stateOf_0 ++ []
theorem dksX3_stateOf_0 : cX3_stateOf.data.toList.drop 0 = dktX3_stateOf_0 := by decide +kernel
theorem dX3_stateOf_0 : decode cX3_stateOf 0 = .ok (.aload_n 0, 1) := dk_42 (dk_at dksX3_stateOf_0 0 rfl rfl)
theorem dX3_stateOf_1 : decode cX3_stateOf 1 = .ok (.iload_n 1, 1) := dk_27 (dk_at dksX3_stateOf_0 1 rfl rfl)
theorem dX3_stateOf_2 : decode cX3_stateOf 2 = .ok (.invokevirtual 371, 3) := dk_182 1 115 (dk_at dksX3_stateOf_0 2 rfl rfl)
theorem dX3_stateOf_5 : decode cX3_stateOf 5 = .ok (.ifCond .eq 7, 3) := dk_153 0 7 (dk_at dksX3_stateOf_0 5 rfl rfl)
theorem dX3_stateOf_8 : decode cX3_stateOf 8 = .ok (.iconst 0, 1) := dk_3 (dk_at dksX3_stateOf_0 8 rfl rfl)
theorem dX3_stateOf_9 : decode cX3_stateOf 9 = .ok (.goto 10, 3) := dk_167 0 10 (dk_at dksX3_stateOf_0 9 rfl rfl)
theorem dX3_stateOf_12 : decode cX3_stateOf 12 = .ok (.aload_n 0, 1) := dk_42 (dk_at dksX3_stateOf_0 12 rfl rfl)
theorem dX3_stateOf_13 : decode cX3_stateOf 13 = .ok (.iload_n 1, 1) := dk_27 (dk_at dksX3_stateOf_0 13 rfl rfl)
theorem dX3_stateOf_14 : decode cX3_stateOf 14 = .ok (.bipush 6, 2) := dk_16 6 (dk_at dksX3_stateOf_0 14 rfl rfl)
theorem dX3_stateOf_16 : decode cX3_stateOf 16 = .ok (.invokevirtual 211, 3) := dk_182 0 211 (dk_at dksX3_stateOf_0 16 rfl rfl)
theorem dX3_stateOf_19 : decode cX3_stateOf 19 = .ok (.ireturn, 1) := dk_172 (dk_at dksX3_stateOf_0 19 rfl rfl)
abbrev cX3_noCall : ByteArray := prog_23_method_79_code
def yX3_noCall : MethodName := ⟨RX3, "noCall", "(I)Z"⟩
def dkwX3_noCall_1 : List UInt8 := [4, 167, 0, 4, 3, 5, 182, 0, 55, 153, 0, 7, 4, 167, 0, 4, 3, 172]
abbrev dktX3_noCall_1 : List UInt8 := dkwX3_noCall_1 ++ []
def dkwX3_noCall_0 : List UInt8 := [42, 182, 1, 96, 154, 0, 32, 42, 27, 3, 42, 180, 0, 7, 4, 46, 4, 100, 184, 0, 124, 154, 0, 7]
abbrev dktX3_noCall_0 : List UInt8 := dkwX3_noCall_0 ++ dktX3_noCall_1
theorem dksX3_noCall_0 : cX3_noCall.data.toList.drop 0 = dktX3_noCall_0 := by decide +kernel
theorem dksX3_noCall_1 : cX3_noCall.data.toList.drop 24 = dktX3_noCall_1 := dk_seg dksX3_noCall_0 24 rfl rfl
theorem dX3_noCall_0 : decode cX3_noCall 0 = .ok (.aload_n 0, 1) := dk_42 (dk_at dksX3_noCall_0 0 rfl rfl)
theorem dX3_noCall_1 : decode cX3_noCall 1 = .ok (.invokevirtual 352, 3) := dk_182 1 96 (dk_at dksX3_noCall_0 1 rfl rfl)
theorem dX3_noCall_4 : decode cX3_noCall 4 = .ok (.ifCond .ne 32, 3) := dk_154 0 32 (dk_at dksX3_noCall_0 4 rfl rfl)
theorem dX3_noCall_7 : decode cX3_noCall 7 = .ok (.aload_n 0, 1) := dk_42 (dk_at dksX3_noCall_0 7 rfl rfl)
theorem dX3_noCall_8 : decode cX3_noCall 8 = .ok (.iload_n 1, 1) := dk_27 (dk_at dksX3_noCall_0 8 rfl rfl)
theorem dX3_noCall_9 : decode cX3_noCall 9 = .ok (.iconst 0, 1) := dk_3 (dk_at dksX3_noCall_0 9 rfl rfl)
theorem dX3_noCall_10 : decode cX3_noCall 10 = .ok (.aload_n 0, 1) := dk_42 (dk_at dksX3_noCall_0 10 rfl rfl)
theorem dX3_noCall_11 : decode cX3_noCall 11 = .ok (.getfield 7, 3) := dk_180 0 7 (dk_at dksX3_noCall_0 11 rfl rfl)
theorem dX3_noCall_14 : decode cX3_noCall 14 = .ok (.iconst 1, 1) := dk_4 (dk_at dksX3_noCall_0 14 rfl rfl)
theorem dX3_noCall_15 : decode cX3_noCall 15 = .ok (.iaload, 1) := dk_46 (dk_at dksX3_noCall_0 15 rfl rfl)
theorem dX3_noCall_16 : decode cX3_noCall 16 = .ok (.iconst 1, 1) := dk_4 (dk_at dksX3_noCall_0 16 rfl rfl)
theorem dX3_noCall_17 : decode cX3_noCall 17 = .ok (.isub, 1) := dk_100 (dk_at dksX3_noCall_0 17 rfl rfl)
theorem dX3_noCall_18 : decode cX3_noCall 18 = .ok (.invokestatic 124, 3) := dk_184 0 124 (dk_at dksX3_noCall_0 18 rfl rfl)
theorem dX3_noCall_21 : decode cX3_noCall 21 = .ok (.ifCond .ne 7, 3) := dk_154 0 7 (dk_at dksX3_noCall_0 21 rfl rfl)
theorem dX3_noCall_24 : decode cX3_noCall 24 = .ok (.iconst 1, 1) := dk_4 (dk_at dksX3_noCall_1 0 rfl rfl)
theorem dX3_noCall_25 : decode cX3_noCall 25 = .ok (.goto 4, 3) := dk_167 0 4 (dk_at dksX3_noCall_1 1 rfl rfl)
theorem dX3_noCall_28 : decode cX3_noCall 28 = .ok (.iconst 0, 1) := dk_3 (dk_at dksX3_noCall_1 4 rfl rfl)
theorem dX3_noCall_29 : decode cX3_noCall 29 = .ok (.iconst 2, 1) := dk_5 (dk_at dksX3_noCall_1 5 rfl rfl)
theorem dX3_noCall_30 : decode cX3_noCall 30 = .ok (.invokevirtual 55, 3) := dk_182 0 55 (dk_at dksX3_noCall_1 6 rfl rfl)
theorem dX3_noCall_33 : decode cX3_noCall 33 = .ok (.ifCond .eq 7, 3) := dk_153 0 7 (dk_at dksX3_noCall_1 9 rfl rfl)
theorem dX3_noCall_36 : decode cX3_noCall 36 = .ok (.iconst 1, 1) := dk_4 (dk_at dksX3_noCall_1 12 rfl rfl)
theorem dX3_noCall_37 : decode cX3_noCall 37 = .ok (.goto 4, 3) := dk_167 0 4 (dk_at dksX3_noCall_1 13 rfl rfl)
theorem dX3_noCall_40 : decode cX3_noCall 40 = .ok (.iconst 0, 1) := dk_3 (dk_at dksX3_noCall_1 16 rfl rfl)
theorem dX3_noCall_41 : decode cX3_noCall 41 = .ok (.ireturn, 1) := dk_172 (dk_at dksX3_noCall_1 17 rfl rfl)
abbrev cX3_vanOf : ByteArray := prog_23_method_98_code
def yX3_vanOf : MethodName := ⟨RX3, "vanOf", "(I)I"⟩
def dkwX3_vanOf_0 : List UInt8 := [42, 27, 182, 1, 115, 153, 0, 7, 3, 167, 0, 8, 42, 27, 182, 1, 118, 172]
abbrev dktX3_vanOf_0 : List UInt8 := dkwX3_vanOf_0 ++ []
theorem dksX3_vanOf_0 : cX3_vanOf.data.toList.drop 0 = dktX3_vanOf_0 := by decide +kernel
theorem dX3_vanOf_0 : decode cX3_vanOf 0 = .ok (.aload_n 0, 1) := dk_42 (dk_at dksX3_vanOf_0 0 rfl rfl)
theorem dX3_vanOf_1 : decode cX3_vanOf 1 = .ok (.iload_n 1, 1) := dk_27 (dk_at dksX3_vanOf_0 1 rfl rfl)
theorem dX3_vanOf_2 : decode cX3_vanOf 2 = .ok (.invokevirtual 371, 3) := dk_182 1 115 (dk_at dksX3_vanOf_0 2 rfl rfl)
theorem dX3_vanOf_5 : decode cX3_vanOf 5 = .ok (.ifCond .eq 7, 3) := dk_153 0 7 (dk_at dksX3_vanOf_0 5 rfl rfl)
theorem dX3_vanOf_8 : decode cX3_vanOf 8 = .ok (.iconst 0, 1) := dk_3 (dk_at dksX3_vanOf_0 8 rfl rfl)
theorem dX3_vanOf_9 : decode cX3_vanOf 9 = .ok (.goto 8, 3) := dk_167 0 8 (dk_at dksX3_vanOf_0 9 rfl rfl)
theorem dX3_vanOf_12 : decode cX3_vanOf 12 = .ok (.aload_n 0, 1) := dk_42 (dk_at dksX3_vanOf_0 12 rfl rfl)
theorem dX3_vanOf_13 : decode cX3_vanOf 13 = .ok (.iload_n 1, 1) := dk_27 (dk_at dksX3_vanOf_0 13 rfl rfl)
theorem dX3_vanOf_14 : decode cX3_vanOf 14 = .ok (.invokevirtual 374, 3) := dk_182 1 118 (dk_at dksX3_vanOf_0 14 rfl rfl)
theorem dX3_vanOf_17 : decode cX3_vanOf 17 = .ok (.ireturn, 1) := dk_172 (dk_at dksX3_vanOf_0 17 rfl rfl)
abbrev cX3_vanWith : ByteArray := prog_23_method_51_code
def yX3_vanWith : MethodName := ⟨RX3, "vanWith", "(I)I"⟩
def dkwX3_vanWith_1 : List UInt8 := [159, 0, 5, 28, 172, 132, 2, 1, 167, 255, 228, 2, 172]
abbrev dktX3_vanWith_1 : List UInt8 := dkwX3_vanWith_1 ++ []
def dkwX3_vanWith_0 : List UInt8 := [3, 61, 28, 42, 180, 0, 33, 16, 8, 46, 162, 0, 23, 42, 28, 5, 27, 104, 182, 0, 251, 2]
abbrev dktX3_vanWith_0 : List UInt8 := dkwX3_vanWith_0 ++ dktX3_vanWith_1
theorem dksX3_vanWith_0 : cX3_vanWith.data.toList.drop 0 = dktX3_vanWith_0 := by decide +kernel
theorem dksX3_vanWith_1 : cX3_vanWith.data.toList.drop 22 = dktX3_vanWith_1 := dk_seg dksX3_vanWith_0 22 rfl rfl
theorem dX3_vanWith_0 : decode cX3_vanWith 0 = .ok (.iconst 0, 1) := dk_3 (dk_at dksX3_vanWith_0 0 rfl rfl)
theorem dX3_vanWith_1 : decode cX3_vanWith 1 = .ok (.istore_n 2, 1) := dk_61 (dk_at dksX3_vanWith_0 1 rfl rfl)
theorem dX3_vanWith_2 : decode cX3_vanWith 2 = .ok (.iload_n 2, 1) := dk_28 (dk_at dksX3_vanWith_0 2 rfl rfl)
theorem dX3_vanWith_3 : decode cX3_vanWith 3 = .ok (.aload_n 0, 1) := dk_42 (dk_at dksX3_vanWith_0 3 rfl rfl)
theorem dX3_vanWith_4 : decode cX3_vanWith 4 = .ok (.getfield 33, 3) := dk_180 0 33 (dk_at dksX3_vanWith_0 4 rfl rfl)
theorem dX3_vanWith_7 : decode cX3_vanWith 7 = .ok (.bipush 8, 2) := dk_16 8 (dk_at dksX3_vanWith_0 7 rfl rfl)
theorem dX3_vanWith_9 : decode cX3_vanWith 9 = .ok (.iaload, 1) := dk_46 (dk_at dksX3_vanWith_0 9 rfl rfl)
theorem dX3_vanWith_10 : decode cX3_vanWith 10 = .ok (.if_icmp .ge 23, 3) := dk_162 0 23 (dk_at dksX3_vanWith_0 10 rfl rfl)
theorem dX3_vanWith_13 : decode cX3_vanWith 13 = .ok (.aload_n 0, 1) := dk_42 (dk_at dksX3_vanWith_0 13 rfl rfl)
theorem dX3_vanWith_14 : decode cX3_vanWith 14 = .ok (.iload_n 2, 1) := dk_28 (dk_at dksX3_vanWith_0 14 rfl rfl)
theorem dX3_vanWith_15 : decode cX3_vanWith 15 = .ok (.iconst 2, 1) := dk_5 (dk_at dksX3_vanWith_0 15 rfl rfl)
theorem dX3_vanWith_16 : decode cX3_vanWith 16 = .ok (.iload_n 1, 1) := dk_27 (dk_at dksX3_vanWith_0 16 rfl rfl)
theorem dX3_vanWith_17 : decode cX3_vanWith 17 = .ok (.imul, 1) := dk_104 (dk_at dksX3_vanWith_0 17 rfl rfl)
theorem dX3_vanWith_18 : decode cX3_vanWith 18 = .ok (.invokevirtual 251, 3) := dk_182 0 251 (dk_at dksX3_vanWith_0 18 rfl rfl)
theorem dX3_vanWith_21 : decode cX3_vanWith 21 = .ok (.iconst (-1), 1) := dk_2 (dk_at dksX3_vanWith_0 21 rfl rfl)
theorem dX3_vanWith_22 : decode cX3_vanWith 22 = .ok (.if_icmp .eq 5, 3) := dk_159 0 5 (dk_at dksX3_vanWith_1 0 rfl rfl)
theorem dX3_vanWith_25 : decode cX3_vanWith 25 = .ok (.iload_n 2, 1) := dk_28 (dk_at dksX3_vanWith_1 3 rfl rfl)
theorem dX3_vanWith_26 : decode cX3_vanWith 26 = .ok (.ireturn, 1) := dk_172 (dk_at dksX3_vanWith_1 4 rfl rfl)
theorem dX3_vanWith_27 : decode cX3_vanWith 27 = .ok (.iinc 2 1, 3) := dk_132 2 1 (dk_at dksX3_vanWith_1 5 rfl rfl)
theorem dX3_vanWith_30 : decode cX3_vanWith 30 = .ok (.goto (-28), 3) := dk_167 255 228 (dk_at dksX3_vanWith_1 8 rfl rfl)
theorem dX3_vanWith_33 : decode cX3_vanWith 33 = .ok (.iconst (-1), 1) := dk_2 (dk_at dksX3_vanWith_1 11 rfl rfl)
theorem dX3_vanWith_34 : decode cX3_vanWith 34 = .ok (.ireturn, 1) := dk_172 (dk_at dksX3_vanWith_1 12 rfl rfl)
abbrev cX3_pickupTime : ByteArray := prog_23_method_100_code
def yX3_pickupTime : MethodName := ⟨RX3, "pickupTime", "(I)I"⟩
def dkwX3_pickupTime_0 : List UInt8 := [42, 27, 182, 1, 115, 153, 0, 7, 3, 167, 0, 9, 42, 27, 3, 182, 1, 121, 172]
abbrev dktX3_pickupTime_0 : List UInt8 := dkwX3_pickupTime_0 ++ []
theorem dksX3_pickupTime_0 : cX3_pickupTime.data.toList.drop 0 = dktX3_pickupTime_0 := by decide +kernel
theorem dX3_pickupTime_0 : decode cX3_pickupTime 0 = .ok (.aload_n 0, 1) := dk_42 (dk_at dksX3_pickupTime_0 0 rfl rfl)
theorem dX3_pickupTime_1 : decode cX3_pickupTime 1 = .ok (.iload_n 1, 1) := dk_27 (dk_at dksX3_pickupTime_0 1 rfl rfl)
theorem dX3_pickupTime_2 : decode cX3_pickupTime 2 = .ok (.invokevirtual 371, 3) := dk_182 1 115 (dk_at dksX3_pickupTime_0 2 rfl rfl)
theorem dX3_pickupTime_5 : decode cX3_pickupTime 5 = .ok (.ifCond .eq 7, 3) := dk_153 0 7 (dk_at dksX3_pickupTime_0 5 rfl rfl)
theorem dX3_pickupTime_8 : decode cX3_pickupTime 8 = .ok (.iconst 0, 1) := dk_3 (dk_at dksX3_pickupTime_0 8 rfl rfl)
theorem dX3_pickupTime_9 : decode cX3_pickupTime 9 = .ok (.goto 9, 3) := dk_167 0 9 (dk_at dksX3_pickupTime_0 9 rfl rfl)
theorem dX3_pickupTime_12 : decode cX3_pickupTime 12 = .ok (.aload_n 0, 1) := dk_42 (dk_at dksX3_pickupTime_0 12 rfl rfl)
theorem dX3_pickupTime_13 : decode cX3_pickupTime 13 = .ok (.iload_n 1, 1) := dk_27 (dk_at dksX3_pickupTime_0 13 rfl rfl)
theorem dX3_pickupTime_14 : decode cX3_pickupTime 14 = .ok (.iconst 0, 1) := dk_3 (dk_at dksX3_pickupTime_0 14 rfl rfl)
theorem dX3_pickupTime_15 : decode cX3_pickupTime 15 = .ok (.invokevirtual 377, 3) := dk_182 1 121 (dk_at dksX3_pickupTime_0 15 rfl rfl)
theorem dX3_pickupTime_18 : decode cX3_pickupTime 18 = .ok (.ireturn, 1) := dk_172 (dk_at dksX3_pickupTime_0 18 rfl rfl)
abbrev cX3_timeOf : ByteArray := prog_23_method_99_code
def yX3_timeOf : MethodName := ⟨RX3, "timeOf", "(II)I"⟩
def dkwX3_timeOf_1 : List UInt8 := [182, 0, 251, 182, 0, 213, 172]
abbrev dktX3_timeOf_1 : List UInt8 := dkwX3_timeOf_1 ++ []
def dkwX3_timeOf_0 : List UInt8 := [42, 27, 182, 1, 118, 62, 29, 2, 160, 0, 7, 2, 167, 0, 18, 42, 29, 42, 29, 5, 27, 104, 28, 96]
abbrev dktX3_timeOf_0 : List UInt8 := dkwX3_timeOf_0 ++ dktX3_timeOf_1
theorem dksX3_timeOf_0 : cX3_timeOf.data.toList.drop 0 = dktX3_timeOf_0 := by decide +kernel
theorem dksX3_timeOf_1 : cX3_timeOf.data.toList.drop 24 = dktX3_timeOf_1 := dk_seg dksX3_timeOf_0 24 rfl rfl
theorem dX3_timeOf_0 : decode cX3_timeOf 0 = .ok (.aload_n 0, 1) := dk_42 (dk_at dksX3_timeOf_0 0 rfl rfl)
theorem dX3_timeOf_1 : decode cX3_timeOf 1 = .ok (.iload_n 1, 1) := dk_27 (dk_at dksX3_timeOf_0 1 rfl rfl)
theorem dX3_timeOf_2 : decode cX3_timeOf 2 = .ok (.invokevirtual 374, 3) := dk_182 1 118 (dk_at dksX3_timeOf_0 2 rfl rfl)
theorem dX3_timeOf_5 : decode cX3_timeOf 5 = .ok (.istore_n 3, 1) := dk_62 (dk_at dksX3_timeOf_0 5 rfl rfl)
theorem dX3_timeOf_6 : decode cX3_timeOf 6 = .ok (.iload_n 3, 1) := dk_29 (dk_at dksX3_timeOf_0 6 rfl rfl)
theorem dX3_timeOf_7 : decode cX3_timeOf 7 = .ok (.iconst (-1), 1) := dk_2 (dk_at dksX3_timeOf_0 7 rfl rfl)
theorem dX3_timeOf_8 : decode cX3_timeOf 8 = .ok (.if_icmp .ne 7, 3) := dk_160 0 7 (dk_at dksX3_timeOf_0 8 rfl rfl)
theorem dX3_timeOf_11 : decode cX3_timeOf 11 = .ok (.iconst (-1), 1) := dk_2 (dk_at dksX3_timeOf_0 11 rfl rfl)
theorem dX3_timeOf_12 : decode cX3_timeOf 12 = .ok (.goto 18, 3) := dk_167 0 18 (dk_at dksX3_timeOf_0 12 rfl rfl)
theorem dX3_timeOf_15 : decode cX3_timeOf 15 = .ok (.aload_n 0, 1) := dk_42 (dk_at dksX3_timeOf_0 15 rfl rfl)
theorem dX3_timeOf_16 : decode cX3_timeOf 16 = .ok (.iload_n 3, 1) := dk_29 (dk_at dksX3_timeOf_0 16 rfl rfl)
theorem dX3_timeOf_17 : decode cX3_timeOf 17 = .ok (.aload_n 0, 1) := dk_42 (dk_at dksX3_timeOf_0 17 rfl rfl)
theorem dX3_timeOf_18 : decode cX3_timeOf 18 = .ok (.iload_n 3, 1) := dk_29 (dk_at dksX3_timeOf_0 18 rfl rfl)
theorem dX3_timeOf_19 : decode cX3_timeOf 19 = .ok (.iconst 2, 1) := dk_5 (dk_at dksX3_timeOf_0 19 rfl rfl)
theorem dX3_timeOf_20 : decode cX3_timeOf 20 = .ok (.iload_n 1, 1) := dk_27 (dk_at dksX3_timeOf_0 20 rfl rfl)
theorem dX3_timeOf_21 : decode cX3_timeOf 21 = .ok (.imul, 1) := dk_104 (dk_at dksX3_timeOf_0 21 rfl rfl)
theorem dX3_timeOf_22 : decode cX3_timeOf 22 = .ok (.iload_n 2, 1) := dk_28 (dk_at dksX3_timeOf_0 22 rfl rfl)
theorem dX3_timeOf_23 : decode cX3_timeOf 23 = .ok (.iadd, 1) := dk_96 (dk_at dksX3_timeOf_0 23 rfl rfl)
theorem dX3_timeOf_24 : decode cX3_timeOf 24 = .ok (.invokevirtual 251, 3) := dk_182 0 251 (dk_at dksX3_timeOf_1 0 rfl rfl)
theorem dX3_timeOf_27 : decode cX3_timeOf 27 = .ok (.invokevirtual 213, 3) := dk_182 0 213 (dk_at dksX3_timeOf_1 3 rfl rfl)
theorem dX3_timeOf_30 : decode cX3_timeOf 30 = .ok (.ireturn, 1) := dk_172 (dk_at dksX3_timeOf_1 6 rfl rfl)
abbrev cX3_dropTime : ByteArray := prog_23_method_101_code
def yX3_dropTime : MethodName := ⟨RX3, "dropTime", "(I)I"⟩
def dkwX3_dropTime_0 : List UInt8 := [42, 27, 182, 1, 115, 153, 0, 7, 3, 167, 0, 9, 42, 27, 4, 182, 1, 121, 172]
abbrev dktX3_dropTime_0 : List UInt8 := dkwX3_dropTime_0 ++ []
theorem dksX3_dropTime_0 : cX3_dropTime.data.toList.drop 0 = dktX3_dropTime_0 := by decide +kernel
theorem dX3_dropTime_0 : decode cX3_dropTime 0 = .ok (.aload_n 0, 1) := dk_42 (dk_at dksX3_dropTime_0 0 rfl rfl)
theorem dX3_dropTime_1 : decode cX3_dropTime 1 = .ok (.iload_n 1, 1) := dk_27 (dk_at dksX3_dropTime_0 1 rfl rfl)
theorem dX3_dropTime_2 : decode cX3_dropTime 2 = .ok (.invokevirtual 371, 3) := dk_182 1 115 (dk_at dksX3_dropTime_0 2 rfl rfl)
theorem dX3_dropTime_5 : decode cX3_dropTime 5 = .ok (.ifCond .eq 7, 3) := dk_153 0 7 (dk_at dksX3_dropTime_0 5 rfl rfl)
theorem dX3_dropTime_8 : decode cX3_dropTime 8 = .ok (.iconst 0, 1) := dk_3 (dk_at dksX3_dropTime_0 8 rfl rfl)
theorem dX3_dropTime_9 : decode cX3_dropTime 9 = .ok (.goto 9, 3) := dk_167 0 9 (dk_at dksX3_dropTime_0 9 rfl rfl)
theorem dX3_dropTime_12 : decode cX3_dropTime 12 = .ok (.aload_n 0, 1) := dk_42 (dk_at dksX3_dropTime_0 12 rfl rfl)
theorem dX3_dropTime_13 : decode cX3_dropTime 13 = .ok (.iload_n 1, 1) := dk_27 (dk_at dksX3_dropTime_0 13 rfl rfl)
theorem dX3_dropTime_14 : decode cX3_dropTime 14 = .ok (.iconst 1, 1) := dk_4 (dk_at dksX3_dropTime_0 14 rfl rfl)
theorem dX3_dropTime_15 : decode cX3_dropTime 15 = .ok (.invokevirtual 377, 3) := dk_182 1 121 (dk_at dksX3_dropTime_0 15 rfl rfl)
theorem dX3_dropTime_18 : decode cX3_dropTime 18 = .ok (.ireturn, 1) := dk_172 (dk_at dksX3_dropTime_0 18 rfl rfl)
abbrev cX3_rideOf : ByteArray := prog_23_method_102_code
def yX3_rideOf : MethodName := ⟨RX3, "rideOf", "(I)I"⟩
def dkwX3_rideOf_1 : List UInt8 := [42, 27, 182, 1, 118, 27, 182, 0, 254, 172]
abbrev dktX3_rideOf_1 : List UInt8 := dkwX3_rideOf_1 ++ []
def dkwX3_rideOf_0 : List UInt8 := [42, 27, 182, 1, 115, 153, 0, 5, 3, 172, 42, 27, 182, 1, 118, 2, 160, 0, 7, 2, 167, 0, 13, 42]
abbrev dktX3_rideOf_0 : List UInt8 := dkwX3_rideOf_0 ++ dktX3_rideOf_1
theorem dksX3_rideOf_0 : cX3_rideOf.data.toList.drop 0 = dktX3_rideOf_0 := by decide +kernel
theorem dksX3_rideOf_1 : cX3_rideOf.data.toList.drop 24 = dktX3_rideOf_1 := dk_seg dksX3_rideOf_0 24 rfl rfl
theorem dX3_rideOf_0 : decode cX3_rideOf 0 = .ok (.aload_n 0, 1) := dk_42 (dk_at dksX3_rideOf_0 0 rfl rfl)
theorem dX3_rideOf_1 : decode cX3_rideOf 1 = .ok (.iload_n 1, 1) := dk_27 (dk_at dksX3_rideOf_0 1 rfl rfl)
theorem dX3_rideOf_2 : decode cX3_rideOf 2 = .ok (.invokevirtual 371, 3) := dk_182 1 115 (dk_at dksX3_rideOf_0 2 rfl rfl)
theorem dX3_rideOf_5 : decode cX3_rideOf 5 = .ok (.ifCond .eq 5, 3) := dk_153 0 5 (dk_at dksX3_rideOf_0 5 rfl rfl)
theorem dX3_rideOf_8 : decode cX3_rideOf 8 = .ok (.iconst 0, 1) := dk_3 (dk_at dksX3_rideOf_0 8 rfl rfl)
theorem dX3_rideOf_9 : decode cX3_rideOf 9 = .ok (.ireturn, 1) := dk_172 (dk_at dksX3_rideOf_0 9 rfl rfl)
theorem dX3_rideOf_10 : decode cX3_rideOf 10 = .ok (.aload_n 0, 1) := dk_42 (dk_at dksX3_rideOf_0 10 rfl rfl)
theorem dX3_rideOf_11 : decode cX3_rideOf 11 = .ok (.iload_n 1, 1) := dk_27 (dk_at dksX3_rideOf_0 11 rfl rfl)
theorem dX3_rideOf_12 : decode cX3_rideOf 12 = .ok (.invokevirtual 374, 3) := dk_182 1 118 (dk_at dksX3_rideOf_0 12 rfl rfl)
theorem dX3_rideOf_15 : decode cX3_rideOf 15 = .ok (.iconst (-1), 1) := dk_2 (dk_at dksX3_rideOf_0 15 rfl rfl)
theorem dX3_rideOf_16 : decode cX3_rideOf 16 = .ok (.if_icmp .ne 7, 3) := dk_160 0 7 (dk_at dksX3_rideOf_0 16 rfl rfl)
theorem dX3_rideOf_19 : decode cX3_rideOf 19 = .ok (.iconst (-1), 1) := dk_2 (dk_at dksX3_rideOf_0 19 rfl rfl)
theorem dX3_rideOf_20 : decode cX3_rideOf 20 = .ok (.goto 13, 3) := dk_167 0 13 (dk_at dksX3_rideOf_0 20 rfl rfl)
theorem dX3_rideOf_23 : decode cX3_rideOf 23 = .ok (.aload_n 0, 1) := dk_42 (dk_at dksX3_rideOf_0 23 rfl rfl)
theorem dX3_rideOf_24 : decode cX3_rideOf 24 = .ok (.aload_n 0, 1) := dk_42 (dk_at dksX3_rideOf_1 0 rfl rfl)
theorem dX3_rideOf_25 : decode cX3_rideOf 25 = .ok (.iload_n 1, 1) := dk_27 (dk_at dksX3_rideOf_1 1 rfl rfl)
theorem dX3_rideOf_26 : decode cX3_rideOf 26 = .ok (.invokevirtual 374, 3) := dk_182 1 118 (dk_at dksX3_rideOf_1 2 rfl rfl)
theorem dX3_rideOf_29 : decode cX3_rideOf 29 = .ok (.iload_n 1, 1) := dk_27 (dk_at dksX3_rideOf_1 5 rfl rfl)
theorem dX3_rideOf_30 : decode cX3_rideOf 30 = .ok (.invokevirtual 254, 3) := dk_182 0 254 (dk_at dksX3_rideOf_1 6 rfl rfl)
theorem dX3_rideOf_33 : decode cX3_rideOf 33 = .ok (.ireturn, 1) := dk_172 (dk_at dksX3_rideOf_1 9 rfl rfl)
abbrev cX3_ride : ByteArray := prog_23_method_52_code
def yX3_ride : MethodName := ⟨RX3, "ride", "(II)I"⟩
def dkwX3_ride_1 : List UInt8 := [182, 0, 251, 182, 0, 239, 100, 172]
abbrev dktX3_ride_1 : List UInt8 := dkwX3_ride_1 ++ []
def dkwX3_ride_0 : List UInt8 := [42, 27, 42, 27, 5, 28, 104, 4, 96, 182, 0, 251, 182, 0, 213, 42, 27, 42, 27, 5, 28, 104]
abbrev dktX3_ride_0 : List UInt8 := dkwX3_ride_0 ++ dktX3_ride_1
theorem dksX3_ride_0 : cX3_ride.data.toList.drop 0 = dktX3_ride_0 := by decide +kernel
theorem dksX3_ride_1 : cX3_ride.data.toList.drop 22 = dktX3_ride_1 := dk_seg dksX3_ride_0 22 rfl rfl
theorem dX3_ride_0 : decode cX3_ride 0 = .ok (.aload_n 0, 1) := dk_42 (dk_at dksX3_ride_0 0 rfl rfl)
theorem dX3_ride_1 : decode cX3_ride 1 = .ok (.iload_n 1, 1) := dk_27 (dk_at dksX3_ride_0 1 rfl rfl)
theorem dX3_ride_2 : decode cX3_ride 2 = .ok (.aload_n 0, 1) := dk_42 (dk_at dksX3_ride_0 2 rfl rfl)
theorem dX3_ride_3 : decode cX3_ride 3 = .ok (.iload_n 1, 1) := dk_27 (dk_at dksX3_ride_0 3 rfl rfl)
theorem dX3_ride_4 : decode cX3_ride 4 = .ok (.iconst 2, 1) := dk_5 (dk_at dksX3_ride_0 4 rfl rfl)
theorem dX3_ride_5 : decode cX3_ride 5 = .ok (.iload_n 2, 1) := dk_28 (dk_at dksX3_ride_0 5 rfl rfl)
theorem dX3_ride_6 : decode cX3_ride 6 = .ok (.imul, 1) := dk_104 (dk_at dksX3_ride_0 6 rfl rfl)
theorem dX3_ride_7 : decode cX3_ride 7 = .ok (.iconst 1, 1) := dk_4 (dk_at dksX3_ride_0 7 rfl rfl)
theorem dX3_ride_8 : decode cX3_ride 8 = .ok (.iadd, 1) := dk_96 (dk_at dksX3_ride_0 8 rfl rfl)
theorem dX3_ride_9 : decode cX3_ride 9 = .ok (.invokevirtual 251, 3) := dk_182 0 251 (dk_at dksX3_ride_0 9 rfl rfl)
theorem dX3_ride_12 : decode cX3_ride 12 = .ok (.invokevirtual 213, 3) := dk_182 0 213 (dk_at dksX3_ride_0 12 rfl rfl)
theorem dX3_ride_15 : decode cX3_ride 15 = .ok (.aload_n 0, 1) := dk_42 (dk_at dksX3_ride_0 15 rfl rfl)
theorem dX3_ride_16 : decode cX3_ride 16 = .ok (.iload_n 1, 1) := dk_27 (dk_at dksX3_ride_0 16 rfl rfl)
theorem dX3_ride_17 : decode cX3_ride 17 = .ok (.aload_n 0, 1) := dk_42 (dk_at dksX3_ride_0 17 rfl rfl)
theorem dX3_ride_18 : decode cX3_ride 18 = .ok (.iload_n 1, 1) := dk_27 (dk_at dksX3_ride_0 18 rfl rfl)
theorem dX3_ride_19 : decode cX3_ride 19 = .ok (.iconst 2, 1) := dk_5 (dk_at dksX3_ride_0 19 rfl rfl)
theorem dX3_ride_20 : decode cX3_ride 20 = .ok (.iload_n 2, 1) := dk_28 (dk_at dksX3_ride_0 20 rfl rfl)
theorem dX3_ride_21 : decode cX3_ride 21 = .ok (.imul, 1) := dk_104 (dk_at dksX3_ride_0 21 rfl rfl)
theorem dX3_ride_22 : decode cX3_ride 22 = .ok (.invokevirtual 251, 3) := dk_182 0 251 (dk_at dksX3_ride_1 0 rfl rfl)
theorem dX3_ride_25 : decode cX3_ride 25 = .ok (.invokevirtual 239, 3) := dk_182 0 239 (dk_at dksX3_ride_1 3 rfl rfl)
theorem dX3_ride_28 : decode cX3_ride 28 = .ok (.isub, 1) := dk_100 (dk_at dksX3_ride_1 6 rfl rfl)
theorem dX3_ride_29 : decode cX3_ride 29 = .ok (.ireturn, 1) := dk_172 (dk_at dksX3_ride_1 7 rfl rfl)
abbrev cX3_rideLimit : ByteArray := prog_23_method_103_code
def yX3_rideLimit : MethodName := ⟨RX3, "rideLimit", "(I)I"⟩
def dkwX3_rideLimit_0 : List UInt8 := [42, 27, 182, 1, 115, 153, 0, 7, 3, 167, 0, 8, 42, 27, 182, 1, 0, 172]
abbrev dktX3_rideLimit_0 : List UInt8 := dkwX3_rideLimit_0 ++ []
theorem dksX3_rideLimit_0 : cX3_rideLimit.data.toList.drop 0 = dktX3_rideLimit_0 := by decide +kernel
theorem dX3_rideLimit_0 : decode cX3_rideLimit 0 = .ok (.aload_n 0, 1) := dk_42 (dk_at dksX3_rideLimit_0 0 rfl rfl)
theorem dX3_rideLimit_1 : decode cX3_rideLimit 1 = .ok (.iload_n 1, 1) := dk_27 (dk_at dksX3_rideLimit_0 1 rfl rfl)
theorem dX3_rideLimit_2 : decode cX3_rideLimit 2 = .ok (.invokevirtual 371, 3) := dk_182 1 115 (dk_at dksX3_rideLimit_0 2 rfl rfl)
theorem dX3_rideLimit_5 : decode cX3_rideLimit 5 = .ok (.ifCond .eq 7, 3) := dk_153 0 7 (dk_at dksX3_rideLimit_0 5 rfl rfl)
theorem dX3_rideLimit_8 : decode cX3_rideLimit 8 = .ok (.iconst 0, 1) := dk_3 (dk_at dksX3_rideLimit_0 8 rfl rfl)
theorem dX3_rideLimit_9 : decode cX3_rideLimit 9 = .ok (.goto 8, 3) := dk_167 0 8 (dk_at dksX3_rideLimit_0 9 rfl rfl)
theorem dX3_rideLimit_12 : decode cX3_rideLimit 12 = .ok (.aload_n 0, 1) := dk_42 (dk_at dksX3_rideLimit_0 12 rfl rfl)
theorem dX3_rideLimit_13 : decode cX3_rideLimit 13 = .ok (.iload_n 1, 1) := dk_27 (dk_at dksX3_rideLimit_0 13 rfl rfl)
theorem dX3_rideLimit_14 : decode cX3_rideLimit 14 = .ok (.invokevirtual 256, 3) := dk_182 1 0 (dk_at dksX3_rideLimit_0 14 rfl rfl)
theorem dX3_rideLimit_17 : decode cX3_rideLimit 17 = .ok (.ireturn, 1) := dk_172 (dk_at dksX3_rideLimit_0 17 rfl rfl)
abbrev cX3_readyOf : ByteArray := prog_23_method_104_code
def yX3_readyOf : MethodName := ⟨RX3, "readyOf", "(I)I"⟩
def dkwX3_readyOf_0 : List UInt8 := [42, 27, 182, 1, 115, 153, 0, 7, 3, 167, 0, 9, 42, 27, 8, 182, 0, 211, 172]
abbrev dktX3_readyOf_0 : List UInt8 := dkwX3_readyOf_0 ++ []
theorem dksX3_readyOf_0 : cX3_readyOf.data.toList.drop 0 = dktX3_readyOf_0 := by decide +kernel
theorem dX3_readyOf_0 : decode cX3_readyOf 0 = .ok (.aload_n 0, 1) := dk_42 (dk_at dksX3_readyOf_0 0 rfl rfl)
theorem dX3_readyOf_1 : decode cX3_readyOf 1 = .ok (.iload_n 1, 1) := dk_27 (dk_at dksX3_readyOf_0 1 rfl rfl)
theorem dX3_readyOf_2 : decode cX3_readyOf 2 = .ok (.invokevirtual 371, 3) := dk_182 1 115 (dk_at dksX3_readyOf_0 2 rfl rfl)
theorem dX3_readyOf_5 : decode cX3_readyOf 5 = .ok (.ifCond .eq 7, 3) := dk_153 0 7 (dk_at dksX3_readyOf_0 5 rfl rfl)
theorem dX3_readyOf_8 : decode cX3_readyOf 8 = .ok (.iconst 0, 1) := dk_3 (dk_at dksX3_readyOf_0 8 rfl rfl)
theorem dX3_readyOf_9 : decode cX3_readyOf 9 = .ok (.goto 9, 3) := dk_167 0 9 (dk_at dksX3_readyOf_0 9 rfl rfl)
theorem dX3_readyOf_12 : decode cX3_readyOf 12 = .ok (.aload_n 0, 1) := dk_42 (dk_at dksX3_readyOf_0 12 rfl rfl)
theorem dX3_readyOf_13 : decode cX3_readyOf 13 = .ok (.iload_n 1, 1) := dk_27 (dk_at dksX3_readyOf_0 13 rfl rfl)
theorem dX3_readyOf_14 : decode cX3_readyOf 14 = .ok (.iconst 5, 1) := dk_8 (dk_at dksX3_readyOf_0 14 rfl rfl)
theorem dX3_readyOf_15 : decode cX3_readyOf 15 = .ok (.invokevirtual 211, 3) := dk_182 0 211 (dk_at dksX3_readyOf_0 15 rfl rfl)
theorem dX3_readyOf_18 : decode cX3_readyOf 18 = .ok (.ireturn, 1) := dk_172 (dk_at dksX3_readyOf_0 18 rfl rfl)
abbrev cX3_promiseOf : ByteArray := prog_23_method_105_code
def yX3_promiseOf : MethodName := ⟨RX3, "promiseOf", "(I)I"⟩
def dkwX3_promiseOf_0 : List UInt8 := [42, 27, 182, 1, 115, 153, 0, 7, 3, 167, 0, 10, 42, 27, 16, 7, 182, 0, 211, 172]
abbrev dktX3_promiseOf_0 : List UInt8 := dkwX3_promiseOf_0 ++ []
theorem dksX3_promiseOf_0 : cX3_promiseOf.data.toList.drop 0 = dktX3_promiseOf_0 := by decide +kernel
theorem dX3_promiseOf_0 : decode cX3_promiseOf 0 = .ok (.aload_n 0, 1) := dk_42 (dk_at dksX3_promiseOf_0 0 rfl rfl)
theorem dX3_promiseOf_1 : decode cX3_promiseOf 1 = .ok (.iload_n 1, 1) := dk_27 (dk_at dksX3_promiseOf_0 1 rfl rfl)
theorem dX3_promiseOf_2 : decode cX3_promiseOf 2 = .ok (.invokevirtual 371, 3) := dk_182 1 115 (dk_at dksX3_promiseOf_0 2 rfl rfl)
theorem dX3_promiseOf_5 : decode cX3_promiseOf 5 = .ok (.ifCond .eq 7, 3) := dk_153 0 7 (dk_at dksX3_promiseOf_0 5 rfl rfl)
theorem dX3_promiseOf_8 : decode cX3_promiseOf 8 = .ok (.iconst 0, 1) := dk_3 (dk_at dksX3_promiseOf_0 8 rfl rfl)
theorem dX3_promiseOf_9 : decode cX3_promiseOf 9 = .ok (.goto 10, 3) := dk_167 0 10 (dk_at dksX3_promiseOf_0 9 rfl rfl)
theorem dX3_promiseOf_12 : decode cX3_promiseOf 12 = .ok (.aload_n 0, 1) := dk_42 (dk_at dksX3_promiseOf_0 12 rfl rfl)
theorem dX3_promiseOf_13 : decode cX3_promiseOf 13 = .ok (.iload_n 1, 1) := dk_27 (dk_at dksX3_promiseOf_0 13 rfl rfl)
theorem dX3_promiseOf_14 : decode cX3_promiseOf 14 = .ok (.bipush 7, 2) := dk_16 7 (dk_at dksX3_promiseOf_0 14 rfl rfl)
theorem dX3_promiseOf_16 : decode cX3_promiseOf 16 = .ok (.invokevirtual 211, 3) := dk_182 0 211 (dk_at dksX3_promiseOf_0 16 rfl rfl)
theorem dX3_promiseOf_19 : decode cX3_promiseOf 19 = .ok (.ireturn, 1) := dk_172 (dk_at dksX3_promiseOf_0 19 rfl rfl)
abbrev cX3_creditOf : ByteArray := prog_23_method_106_code
def yX3_creditOf : MethodName := ⟨RX3, "creditOf", "(I)I"⟩
def dkwX3_creditOf_0 : List UInt8 := [42, 27, 182, 1, 115, 153, 0, 7, 3, 167, 0, 10, 42, 27, 16, 8, 182, 0, 211, 172]
abbrev dktX3_creditOf_0 : List UInt8 := dkwX3_creditOf_0 ++ []
theorem dksX3_creditOf_0 : cX3_creditOf.data.toList.drop 0 = dktX3_creditOf_0 := by decide +kernel
theorem dX3_creditOf_0 : decode cX3_creditOf 0 = .ok (.aload_n 0, 1) := dk_42 (dk_at dksX3_creditOf_0 0 rfl rfl)
theorem dX3_creditOf_1 : decode cX3_creditOf 1 = .ok (.iload_n 1, 1) := dk_27 (dk_at dksX3_creditOf_0 1 rfl rfl)
theorem dX3_creditOf_2 : decode cX3_creditOf 2 = .ok (.invokevirtual 371, 3) := dk_182 1 115 (dk_at dksX3_creditOf_0 2 rfl rfl)
theorem dX3_creditOf_5 : decode cX3_creditOf 5 = .ok (.ifCond .eq 7, 3) := dk_153 0 7 (dk_at dksX3_creditOf_0 5 rfl rfl)
theorem dX3_creditOf_8 : decode cX3_creditOf 8 = .ok (.iconst 0, 1) := dk_3 (dk_at dksX3_creditOf_0 8 rfl rfl)
theorem dX3_creditOf_9 : decode cX3_creditOf 9 = .ok (.goto 10, 3) := dk_167 0 10 (dk_at dksX3_creditOf_0 9 rfl rfl)
theorem dX3_creditOf_12 : decode cX3_creditOf 12 = .ok (.aload_n 0, 1) := dk_42 (dk_at dksX3_creditOf_0 12 rfl rfl)
theorem dX3_creditOf_13 : decode cX3_creditOf 13 = .ok (.iload_n 1, 1) := dk_27 (dk_at dksX3_creditOf_0 13 rfl rfl)
theorem dX3_creditOf_14 : decode cX3_creditOf 14 = .ok (.bipush 8, 2) := dk_16 8 (dk_at dksX3_creditOf_0 14 rfl rfl)
theorem dX3_creditOf_16 : decode cX3_creditOf 16 = .ok (.invokevirtual 211, 3) := dk_182 0 211 (dk_at dksX3_creditOf_0 16 rfl rfl)
theorem dX3_creditOf_19 : decode cX3_creditOf 19 = .ok (.ireturn, 1) := dk_172 (dk_at dksX3_creditOf_0 19 rfl rfl)
abbrev cX3_callsIn : ByteArray := prog_23_method_107_code
def yX3_callsIn : MethodName := ⟨RX3, "callsIn", "(I)I"⟩
def dkwX3_callsIn_1 : List UInt8 := [182, 0, 55, 153, 0, 7, 3, 167, 0, 8, 42, 27, 182, 0, 201, 172]
abbrev dktX3_callsIn_1 : List UInt8 := dkwX3_callsIn_1 ++ []
def dkwX3_callsIn_0 : List UInt8 := [42, 182, 1, 96, 154, 0, 25, 42, 27, 3, 8, 184, 0, 124, 154, 0, 7, 4, 167, 0, 4, 3, 5]
abbrev dktX3_callsIn_0 : List UInt8 := dkwX3_callsIn_0 ++ dktX3_callsIn_1
theorem dksX3_callsIn_0 : cX3_callsIn.data.toList.drop 0 = dktX3_callsIn_0 := by decide +kernel
theorem dksX3_callsIn_1 : cX3_callsIn.data.toList.drop 23 = dktX3_callsIn_1 := dk_seg dksX3_callsIn_0 23 rfl rfl
theorem dX3_callsIn_0 : decode cX3_callsIn 0 = .ok (.aload_n 0, 1) := dk_42 (dk_at dksX3_callsIn_0 0 rfl rfl)
theorem dX3_callsIn_1 : decode cX3_callsIn 1 = .ok (.invokevirtual 352, 3) := dk_182 1 96 (dk_at dksX3_callsIn_0 1 rfl rfl)
theorem dX3_callsIn_4 : decode cX3_callsIn 4 = .ok (.ifCond .ne 25, 3) := dk_154 0 25 (dk_at dksX3_callsIn_0 4 rfl rfl)
theorem dX3_callsIn_7 : decode cX3_callsIn 7 = .ok (.aload_n 0, 1) := dk_42 (dk_at dksX3_callsIn_0 7 rfl rfl)
theorem dX3_callsIn_8 : decode cX3_callsIn 8 = .ok (.iload_n 1, 1) := dk_27 (dk_at dksX3_callsIn_0 8 rfl rfl)
theorem dX3_callsIn_9 : decode cX3_callsIn 9 = .ok (.iconst 0, 1) := dk_3 (dk_at dksX3_callsIn_0 9 rfl rfl)
theorem dX3_callsIn_10 : decode cX3_callsIn 10 = .ok (.iconst 5, 1) := dk_8 (dk_at dksX3_callsIn_0 10 rfl rfl)
theorem dX3_callsIn_11 : decode cX3_callsIn 11 = .ok (.invokestatic 124, 3) := dk_184 0 124 (dk_at dksX3_callsIn_0 11 rfl rfl)
theorem dX3_callsIn_14 : decode cX3_callsIn 14 = .ok (.ifCond .ne 7, 3) := dk_154 0 7 (dk_at dksX3_callsIn_0 14 rfl rfl)
theorem dX3_callsIn_17 : decode cX3_callsIn 17 = .ok (.iconst 1, 1) := dk_4 (dk_at dksX3_callsIn_0 17 rfl rfl)
theorem dX3_callsIn_18 : decode cX3_callsIn 18 = .ok (.goto 4, 3) := dk_167 0 4 (dk_at dksX3_callsIn_0 18 rfl rfl)
theorem dX3_callsIn_21 : decode cX3_callsIn 21 = .ok (.iconst 0, 1) := dk_3 (dk_at dksX3_callsIn_0 21 rfl rfl)
theorem dX3_callsIn_22 : decode cX3_callsIn 22 = .ok (.iconst 2, 1) := dk_5 (dk_at dksX3_callsIn_0 22 rfl rfl)
theorem dX3_callsIn_23 : decode cX3_callsIn 23 = .ok (.invokevirtual 55, 3) := dk_182 0 55 (dk_at dksX3_callsIn_1 0 rfl rfl)
theorem dX3_callsIn_26 : decode cX3_callsIn 26 = .ok (.ifCond .eq 7, 3) := dk_153 0 7 (dk_at dksX3_callsIn_1 3 rfl rfl)
theorem dX3_callsIn_29 : decode cX3_callsIn 29 = .ok (.iconst 0, 1) := dk_3 (dk_at dksX3_callsIn_1 6 rfl rfl)
theorem dX3_callsIn_30 : decode cX3_callsIn 30 = .ok (.goto 8, 3) := dk_167 0 8 (dk_at dksX3_callsIn_1 7 rfl rfl)
theorem dX3_callsIn_33 : decode cX3_callsIn 33 = .ok (.aload_n 0, 1) := dk_42 (dk_at dksX3_callsIn_1 10 rfl rfl)
theorem dX3_callsIn_34 : decode cX3_callsIn 34 = .ok (.iload_n 1, 1) := dk_27 (dk_at dksX3_callsIn_1 11 rfl rfl)
theorem dX3_callsIn_35 : decode cX3_callsIn 35 = .ok (.invokevirtual 201, 3) := dk_182 0 201 (dk_at dksX3_callsIn_1 12 rfl rfl)
theorem dX3_callsIn_38 : decode cX3_callsIn 38 = .ok (.ireturn, 1) := dk_172 (dk_at dksX3_callsIn_1 15 rfl rfl)
abbrev cX3_credits : ByteArray := prog_23_method_108_code
def yX3_credits : MethodName := ⟨RX3, "credits", "()I"⟩
def dkwX3_credits_1 : List UInt8 := [182, 0, 211, 96, 60, 132, 2, 1, 167, 255, 233, 27, 172]
abbrev dktX3_credits_1 : List UInt8 := dkwX3_credits_1 ++ []
def dkwX3_credits_0 : List UInt8 := [42, 3, 181, 0, 48, 3, 60, 3, 61, 28, 42, 180, 0, 7, 4, 46, 162, 0, 19, 27, 42, 28, 16, 8]
abbrev dktX3_credits_0 : List UInt8 := dkwX3_credits_0 ++ dktX3_credits_1
theorem dksX3_credits_0 : cX3_credits.data.toList.drop 0 = dktX3_credits_0 := by decide +kernel
theorem dksX3_credits_1 : cX3_credits.data.toList.drop 24 = dktX3_credits_1 := dk_seg dksX3_credits_0 24 rfl rfl
theorem dX3_credits_0 : decode cX3_credits 0 = .ok (.aload_n 0, 1) := dk_42 (dk_at dksX3_credits_0 0 rfl rfl)
theorem dX3_credits_1 : decode cX3_credits 1 = .ok (.iconst 0, 1) := dk_3 (dk_at dksX3_credits_0 1 rfl rfl)
theorem dX3_credits_2 : decode cX3_credits 2 = .ok (.putfield 48, 3) := dk_181 0 48 (dk_at dksX3_credits_0 2 rfl rfl)
theorem dX3_credits_5 : decode cX3_credits 5 = .ok (.iconst 0, 1) := dk_3 (dk_at dksX3_credits_0 5 rfl rfl)
theorem dX3_credits_6 : decode cX3_credits 6 = .ok (.istore_n 1, 1) := dk_60 (dk_at dksX3_credits_0 6 rfl rfl)
theorem dX3_credits_7 : decode cX3_credits 7 = .ok (.iconst 0, 1) := dk_3 (dk_at dksX3_credits_0 7 rfl rfl)
theorem dX3_credits_8 : decode cX3_credits 8 = .ok (.istore_n 2, 1) := dk_61 (dk_at dksX3_credits_0 8 rfl rfl)
theorem dX3_credits_9 : decode cX3_credits 9 = .ok (.iload_n 2, 1) := dk_28 (dk_at dksX3_credits_0 9 rfl rfl)
theorem dX3_credits_10 : decode cX3_credits 10 = .ok (.aload_n 0, 1) := dk_42 (dk_at dksX3_credits_0 10 rfl rfl)
theorem dX3_credits_11 : decode cX3_credits 11 = .ok (.getfield 7, 3) := dk_180 0 7 (dk_at dksX3_credits_0 11 rfl rfl)
theorem dX3_credits_14 : decode cX3_credits 14 = .ok (.iconst 1, 1) := dk_4 (dk_at dksX3_credits_0 14 rfl rfl)
theorem dX3_credits_15 : decode cX3_credits 15 = .ok (.iaload, 1) := dk_46 (dk_at dksX3_credits_0 15 rfl rfl)
theorem dX3_credits_16 : decode cX3_credits 16 = .ok (.if_icmp .ge 19, 3) := dk_162 0 19 (dk_at dksX3_credits_0 16 rfl rfl)
theorem dX3_credits_19 : decode cX3_credits 19 = .ok (.iload_n 1, 1) := dk_27 (dk_at dksX3_credits_0 19 rfl rfl)
theorem dX3_credits_20 : decode cX3_credits 20 = .ok (.aload_n 0, 1) := dk_42 (dk_at dksX3_credits_0 20 rfl rfl)
theorem dX3_credits_21 : decode cX3_credits 21 = .ok (.iload_n 2, 1) := dk_28 (dk_at dksX3_credits_0 21 rfl rfl)
theorem dX3_credits_22 : decode cX3_credits 22 = .ok (.bipush 8, 2) := dk_16 8 (dk_at dksX3_credits_0 22 rfl rfl)
theorem dX3_credits_24 : decode cX3_credits 24 = .ok (.invokevirtual 211, 3) := dk_182 0 211 (dk_at dksX3_credits_1 0 rfl rfl)
theorem dX3_credits_27 : decode cX3_credits 27 = .ok (.iadd, 1) := dk_96 (dk_at dksX3_credits_1 3 rfl rfl)
theorem dX3_credits_28 : decode cX3_credits 28 = .ok (.istore_n 1, 1) := dk_60 (dk_at dksX3_credits_1 4 rfl rfl)
theorem dX3_credits_29 : decode cX3_credits 29 = .ok (.iinc 2 1, 3) := dk_132 2 1 (dk_at dksX3_credits_1 5 rfl rfl)
theorem dX3_credits_32 : decode cX3_credits 32 = .ok (.goto (-23), 3) := dk_167 255 233 (dk_at dksX3_credits_1 8 rfl rfl)
theorem dX3_credits_35 : decode cX3_credits 35 = .ok (.iload_n 1, 1) := dk_27 (dk_at dksX3_credits_1 11 rfl rfl)
theorem dX3_credits_36 : decode cX3_credits 36 = .ok (.ireturn, 1) := dk_172 (dk_at dksX3_credits_1 12 rfl rfl)
abbrev cX3_drivingAll : ByteArray := prog_23_method_109_code
def yX3_drivingAll : MethodName := ⟨RX3, "drivingAll", "()I"⟩
def dkwX3_drivingAll_0 : List UInt8 := [42, 3, 181, 0, 48, 42, 180, 0, 51, 153, 0, 10, 42, 182, 1, 124, 167, 0, 4, 3, 172]
abbrev dktX3_drivingAll_0 : List UInt8 := dkwX3_drivingAll_0 ++ []
theorem dksX3_drivingAll_0 : cX3_drivingAll.data.toList.drop 0 = dktX3_drivingAll_0 := by decide +kernel
theorem dX3_drivingAll_0 : decode cX3_drivingAll 0 = .ok (.aload_n 0, 1) := dk_42 (dk_at dksX3_drivingAll_0 0 rfl rfl)
theorem dX3_drivingAll_1 : decode cX3_drivingAll 1 = .ok (.iconst 0, 1) := dk_3 (dk_at dksX3_drivingAll_0 1 rfl rfl)
theorem dX3_drivingAll_2 : decode cX3_drivingAll 2 = .ok (.putfield 48, 3) := dk_181 0 48 (dk_at dksX3_drivingAll_0 2 rfl rfl)
theorem dX3_drivingAll_5 : decode cX3_drivingAll 5 = .ok (.aload_n 0, 1) := dk_42 (dk_at dksX3_drivingAll_0 5 rfl rfl)
theorem dX3_drivingAll_6 : decode cX3_drivingAll 6 = .ok (.getfield 51, 3) := dk_180 0 51 (dk_at dksX3_drivingAll_0 6 rfl rfl)
theorem dX3_drivingAll_9 : decode cX3_drivingAll 9 = .ok (.ifCond .eq 10, 3) := dk_153 0 10 (dk_at dksX3_drivingAll_0 9 rfl rfl)
theorem dX3_drivingAll_12 : decode cX3_drivingAll 12 = .ok (.aload_n 0, 1) := dk_42 (dk_at dksX3_drivingAll_0 12 rfl rfl)
theorem dX3_drivingAll_13 : decode cX3_drivingAll 13 = .ok (.invokevirtual 380, 3) := dk_182 1 124 (dk_at dksX3_drivingAll_0 13 rfl rfl)
theorem dX3_drivingAll_16 : decode cX3_drivingAll 16 = .ok (.goto 4, 3) := dk_167 0 4 (dk_at dksX3_drivingAll_0 16 rfl rfl)
theorem dX3_drivingAll_19 : decode cX3_drivingAll 19 = .ok (.iconst 0, 1) := dk_3 (dk_at dksX3_drivingAll_0 19 rfl rfl)
theorem dX3_drivingAll_20 : decode cX3_drivingAll 20 = .ok (.ireturn, 1) := dk_172 (dk_at dksX3_drivingAll_0 20 rfl rfl)
abbrev cX3_drivesAll : ByteArray := prog_23_method_47_code
def yX3_drivesAll : MethodName := ⟨RX3, "drivesAll", "()I"⟩
def dkwX3_drivesAll_1 : List UInt8 := [132, 2, 1, 167, 255, 234, 27, 172]
abbrev dktX3_drivesAll_1 : List UInt8 := dkwX3_drivesAll_1 ++ []
def dkwX3_drivesAll_0 : List UInt8 := [3, 60, 3, 61, 28, 42, 180, 0, 33, 16, 8, 46, 162, 0, 17, 27, 42, 28, 182, 0, 245, 96, 60]
abbrev dktX3_drivesAll_0 : List UInt8 := dkwX3_drivesAll_0 ++ dktX3_drivesAll_1
theorem dksX3_drivesAll_0 : cX3_drivesAll.data.toList.drop 0 = dktX3_drivesAll_0 := by decide +kernel
theorem dksX3_drivesAll_1 : cX3_drivesAll.data.toList.drop 23 = dktX3_drivesAll_1 := dk_seg dksX3_drivesAll_0 23 rfl rfl
theorem dX3_drivesAll_0 : decode cX3_drivesAll 0 = .ok (.iconst 0, 1) := dk_3 (dk_at dksX3_drivesAll_0 0 rfl rfl)
theorem dX3_drivesAll_1 : decode cX3_drivesAll 1 = .ok (.istore_n 1, 1) := dk_60 (dk_at dksX3_drivesAll_0 1 rfl rfl)
theorem dX3_drivesAll_2 : decode cX3_drivesAll 2 = .ok (.iconst 0, 1) := dk_3 (dk_at dksX3_drivesAll_0 2 rfl rfl)
theorem dX3_drivesAll_3 : decode cX3_drivesAll 3 = .ok (.istore_n 2, 1) := dk_61 (dk_at dksX3_drivesAll_0 3 rfl rfl)
theorem dX3_drivesAll_4 : decode cX3_drivesAll 4 = .ok (.iload_n 2, 1) := dk_28 (dk_at dksX3_drivesAll_0 4 rfl rfl)
theorem dX3_drivesAll_5 : decode cX3_drivesAll 5 = .ok (.aload_n 0, 1) := dk_42 (dk_at dksX3_drivesAll_0 5 rfl rfl)
theorem dX3_drivesAll_6 : decode cX3_drivesAll 6 = .ok (.getfield 33, 3) := dk_180 0 33 (dk_at dksX3_drivesAll_0 6 rfl rfl)
theorem dX3_drivesAll_9 : decode cX3_drivesAll 9 = .ok (.bipush 8, 2) := dk_16 8 (dk_at dksX3_drivesAll_0 9 rfl rfl)
theorem dX3_drivesAll_11 : decode cX3_drivesAll 11 = .ok (.iaload, 1) := dk_46 (dk_at dksX3_drivesAll_0 11 rfl rfl)
theorem dX3_drivesAll_12 : decode cX3_drivesAll 12 = .ok (.if_icmp .ge 17, 3) := dk_162 0 17 (dk_at dksX3_drivesAll_0 12 rfl rfl)
theorem dX3_drivesAll_15 : decode cX3_drivesAll 15 = .ok (.iload_n 1, 1) := dk_27 (dk_at dksX3_drivesAll_0 15 rfl rfl)
theorem dX3_drivesAll_16 : decode cX3_drivesAll 16 = .ok (.aload_n 0, 1) := dk_42 (dk_at dksX3_drivesAll_0 16 rfl rfl)
theorem dX3_drivesAll_17 : decode cX3_drivesAll 17 = .ok (.iload_n 2, 1) := dk_28 (dk_at dksX3_drivesAll_0 17 rfl rfl)
theorem dX3_drivesAll_18 : decode cX3_drivesAll 18 = .ok (.invokevirtual 245, 3) := dk_182 0 245 (dk_at dksX3_drivesAll_0 18 rfl rfl)
theorem dX3_drivesAll_21 : decode cX3_drivesAll 21 = .ok (.iadd, 1) := dk_96 (dk_at dksX3_drivesAll_0 21 rfl rfl)
theorem dX3_drivesAll_22 : decode cX3_drivesAll 22 = .ok (.istore_n 1, 1) := dk_60 (dk_at dksX3_drivesAll_0 22 rfl rfl)
theorem dX3_drivesAll_23 : decode cX3_drivesAll 23 = .ok (.iinc 2 1, 3) := dk_132 2 1 (dk_at dksX3_drivesAll_1 0 rfl rfl)
theorem dX3_drivesAll_26 : decode cX3_drivesAll 26 = .ok (.goto (-22), 3) := dk_167 255 234 (dk_at dksX3_drivesAll_1 3 rfl rfl)
theorem dX3_drivesAll_29 : decode cX3_drivesAll 29 = .ok (.iload_n 1, 1) := dk_27 (dk_at dksX3_drivesAll_1 6 rfl rfl)
theorem dX3_drivesAll_30 : decode cX3_drivesAll 30 = .ok (.ireturn, 1) := dk_172 (dk_at dksX3_drivesAll_1 7 rfl rfl)
abbrev cX3_meanDetour : ByteArray := prog_23_method_110_code
def yX3_meanDetour : MethodName := ⟨RX3, "meanDetour", "()F"⟩
def dkwX3_meanDetour_3 : List UInt8 := [132, 3, 1, 167, 255, 198, 28, 154, 0, 7, 11, 167, 0, 7, 35, 28, 134, 110, 174]
abbrev dktX3_meanDetour_3 : List UInt8 := dkwX3_meanDetour_3 ++ []
def dkwX3_meanDetour_2 : List UInt8 := [167, 0, 24, 35, 42, 21, 4, 29, 182, 0, 254, 134, 42, 29, 182, 0, 248, 134, 110, 98, 68, 132, 2, 1]
abbrev dktX3_meanDetour_2 : List UInt8 := dkwX3_meanDetour_2 ++ dktX3_meanDetour_3
def dkwX3_meanDetour_1 : List UInt8 := [162, 0, 54, 42, 29, 182, 1, 118, 54, 4, 21, 4, 2, 159, 0, 35, 42, 29, 182, 0, 248, 154, 0, 6]
abbrev dktX3_meanDetour_1 : List UInt8 := dkwX3_meanDetour_1 ++ dktX3_meanDetour_2
def dkwX3_meanDetour_0 : List UInt8 := [42, 182, 1, 96, 153, 0, 5, 11, 174, 11, 68, 3, 61, 3, 62, 29, 42, 180, 0, 7, 4, 46]
abbrev dktX3_meanDetour_0 : List UInt8 := dkwX3_meanDetour_0 ++ dktX3_meanDetour_1
theorem dksX3_meanDetour_0 : cX3_meanDetour.data.toList.drop 0 = dktX3_meanDetour_0 := by decide +kernel
theorem dksX3_meanDetour_1 : cX3_meanDetour.data.toList.drop 22 = dktX3_meanDetour_1 := dk_seg dksX3_meanDetour_0 22 rfl rfl
theorem dksX3_meanDetour_2 : cX3_meanDetour.data.toList.drop 46 = dktX3_meanDetour_2 := dk_seg dksX3_meanDetour_1 24 rfl rfl
theorem dksX3_meanDetour_3 : cX3_meanDetour.data.toList.drop 70 = dktX3_meanDetour_3 := dk_seg dksX3_meanDetour_2 24 rfl rfl
theorem dX3_meanDetour_0 : decode cX3_meanDetour 0 = .ok (.aload_n 0, 1) := dk_42 (dk_at dksX3_meanDetour_0 0 rfl rfl)
theorem dX3_meanDetour_1 : decode cX3_meanDetour 1 = .ok (.invokevirtual 352, 3) := dk_182 1 96 (dk_at dksX3_meanDetour_0 1 rfl rfl)
theorem dX3_meanDetour_4 : decode cX3_meanDetour 4 = .ok (.ifCond .eq 5, 3) := dk_153 0 5 (dk_at dksX3_meanDetour_0 4 rfl rfl)
theorem dX3_meanDetour_7 : decode cX3_meanDetour 7 = .ok (.fconst 0, 1) := dk_11 (dk_at dksX3_meanDetour_0 7 rfl rfl)
theorem dX3_meanDetour_8 : decode cX3_meanDetour 8 = .ok (.freturn, 1) := dk_174 (dk_at dksX3_meanDetour_0 8 rfl rfl)
theorem dX3_meanDetour_9 : decode cX3_meanDetour 9 = .ok (.fconst 0, 1) := dk_11 (dk_at dksX3_meanDetour_0 9 rfl rfl)
theorem dX3_meanDetour_10 : decode cX3_meanDetour 10 = .ok (.fstore_n 1, 1) := dk_68 (dk_at dksX3_meanDetour_0 10 rfl rfl)
theorem dX3_meanDetour_11 : decode cX3_meanDetour 11 = .ok (.iconst 0, 1) := dk_3 (dk_at dksX3_meanDetour_0 11 rfl rfl)
theorem dX3_meanDetour_12 : decode cX3_meanDetour 12 = .ok (.istore_n 2, 1) := dk_61 (dk_at dksX3_meanDetour_0 12 rfl rfl)
theorem dX3_meanDetour_13 : decode cX3_meanDetour 13 = .ok (.iconst 0, 1) := dk_3 (dk_at dksX3_meanDetour_0 13 rfl rfl)
theorem dX3_meanDetour_14 : decode cX3_meanDetour 14 = .ok (.istore_n 3, 1) := dk_62 (dk_at dksX3_meanDetour_0 14 rfl rfl)
theorem dX3_meanDetour_15 : decode cX3_meanDetour 15 = .ok (.iload_n 3, 1) := dk_29 (dk_at dksX3_meanDetour_0 15 rfl rfl)
theorem dX3_meanDetour_16 : decode cX3_meanDetour 16 = .ok (.aload_n 0, 1) := dk_42 (dk_at dksX3_meanDetour_0 16 rfl rfl)
theorem dX3_meanDetour_17 : decode cX3_meanDetour 17 = .ok (.getfield 7, 3) := dk_180 0 7 (dk_at dksX3_meanDetour_0 17 rfl rfl)
theorem dX3_meanDetour_20 : decode cX3_meanDetour 20 = .ok (.iconst 1, 1) := dk_4 (dk_at dksX3_meanDetour_0 20 rfl rfl)
theorem dX3_meanDetour_21 : decode cX3_meanDetour 21 = .ok (.iaload, 1) := dk_46 (dk_at dksX3_meanDetour_0 21 rfl rfl)
theorem dX3_meanDetour_22 : decode cX3_meanDetour 22 = .ok (.if_icmp .ge 54, 3) := dk_162 0 54 (dk_at dksX3_meanDetour_1 0 rfl rfl)
theorem dX3_meanDetour_25 : decode cX3_meanDetour 25 = .ok (.aload_n 0, 1) := dk_42 (dk_at dksX3_meanDetour_1 3 rfl rfl)
theorem dX3_meanDetour_26 : decode cX3_meanDetour 26 = .ok (.iload_n 3, 1) := dk_29 (dk_at dksX3_meanDetour_1 4 rfl rfl)
theorem dX3_meanDetour_27 : decode cX3_meanDetour 27 = .ok (.invokevirtual 374, 3) := dk_182 1 118 (dk_at dksX3_meanDetour_1 5 rfl rfl)
theorem dX3_meanDetour_30 : decode cX3_meanDetour 30 = .ok (.istore 4, 2) := dk_54 4 (dk_at dksX3_meanDetour_1 8 rfl rfl)
theorem dX3_meanDetour_32 : decode cX3_meanDetour 32 = .ok (.iload 4, 2) := dk_21 4 (dk_at dksX3_meanDetour_1 10 rfl rfl)
theorem dX3_meanDetour_34 : decode cX3_meanDetour 34 = .ok (.iconst (-1), 1) := dk_2 (dk_at dksX3_meanDetour_1 12 rfl rfl)
theorem dX3_meanDetour_35 : decode cX3_meanDetour 35 = .ok (.if_icmp .eq 35, 3) := dk_159 0 35 (dk_at dksX3_meanDetour_1 13 rfl rfl)
theorem dX3_meanDetour_38 : decode cX3_meanDetour 38 = .ok (.aload_n 0, 1) := dk_42 (dk_at dksX3_meanDetour_1 16 rfl rfl)
theorem dX3_meanDetour_39 : decode cX3_meanDetour 39 = .ok (.iload_n 3, 1) := dk_29 (dk_at dksX3_meanDetour_1 17 rfl rfl)
theorem dX3_meanDetour_40 : decode cX3_meanDetour 40 = .ok (.invokevirtual 248, 3) := dk_182 0 248 (dk_at dksX3_meanDetour_1 18 rfl rfl)
theorem dX3_meanDetour_43 : decode cX3_meanDetour 43 = .ok (.ifCond .ne 6, 3) := dk_154 0 6 (dk_at dksX3_meanDetour_1 21 rfl rfl)
theorem dX3_meanDetour_46 : decode cX3_meanDetour 46 = .ok (.goto 24, 3) := dk_167 0 24 (dk_at dksX3_meanDetour_2 0 rfl rfl)
theorem dX3_meanDetour_49 : decode cX3_meanDetour 49 = .ok (.fload_n 1, 1) := dk_35 (dk_at dksX3_meanDetour_2 3 rfl rfl)
theorem dX3_meanDetour_50 : decode cX3_meanDetour 50 = .ok (.aload_n 0, 1) := dk_42 (dk_at dksX3_meanDetour_2 4 rfl rfl)
theorem dX3_meanDetour_51 : decode cX3_meanDetour 51 = .ok (.iload 4, 2) := dk_21 4 (dk_at dksX3_meanDetour_2 5 rfl rfl)
theorem dX3_meanDetour_53 : decode cX3_meanDetour 53 = .ok (.iload_n 3, 1) := dk_29 (dk_at dksX3_meanDetour_2 7 rfl rfl)
theorem dX3_meanDetour_54 : decode cX3_meanDetour 54 = .ok (.invokevirtual 254, 3) := dk_182 0 254 (dk_at dksX3_meanDetour_2 8 rfl rfl)
theorem dX3_meanDetour_57 : decode cX3_meanDetour 57 = .ok (.i2f, 1) := dk_134 (dk_at dksX3_meanDetour_2 11 rfl rfl)
theorem dX3_meanDetour_58 : decode cX3_meanDetour 58 = .ok (.aload_n 0, 1) := dk_42 (dk_at dksX3_meanDetour_2 12 rfl rfl)
theorem dX3_meanDetour_59 : decode cX3_meanDetour 59 = .ok (.iload_n 3, 1) := dk_29 (dk_at dksX3_meanDetour_2 13 rfl rfl)
theorem dX3_meanDetour_60 : decode cX3_meanDetour 60 = .ok (.invokevirtual 248, 3) := dk_182 0 248 (dk_at dksX3_meanDetour_2 14 rfl rfl)
theorem dX3_meanDetour_63 : decode cX3_meanDetour 63 = .ok (.i2f, 1) := dk_134 (dk_at dksX3_meanDetour_2 17 rfl rfl)
theorem dX3_meanDetour_64 : decode cX3_meanDetour 64 = .ok (.fdiv, 1) := dk_110 (dk_at dksX3_meanDetour_2 18 rfl rfl)
theorem dX3_meanDetour_65 : decode cX3_meanDetour 65 = .ok (.fadd, 1) := dk_98 (dk_at dksX3_meanDetour_2 19 rfl rfl)
theorem dX3_meanDetour_66 : decode cX3_meanDetour 66 = .ok (.fstore_n 1, 1) := dk_68 (dk_at dksX3_meanDetour_2 20 rfl rfl)
theorem dX3_meanDetour_67 : decode cX3_meanDetour 67 = .ok (.iinc 2 1, 3) := dk_132 2 1 (dk_at dksX3_meanDetour_2 21 rfl rfl)
theorem dX3_meanDetour_70 : decode cX3_meanDetour 70 = .ok (.iinc 3 1, 3) := dk_132 3 1 (dk_at dksX3_meanDetour_3 0 rfl rfl)
theorem dX3_meanDetour_73 : decode cX3_meanDetour 73 = .ok (.goto (-58), 3) := dk_167 255 198 (dk_at dksX3_meanDetour_3 3 rfl rfl)
theorem dX3_meanDetour_76 : decode cX3_meanDetour 76 = .ok (.iload_n 2, 1) := dk_28 (dk_at dksX3_meanDetour_3 6 rfl rfl)
theorem dX3_meanDetour_77 : decode cX3_meanDetour 77 = .ok (.ifCond .ne 7, 3) := dk_154 0 7 (dk_at dksX3_meanDetour_3 7 rfl rfl)
theorem dX3_meanDetour_80 : decode cX3_meanDetour 80 = .ok (.fconst 0, 1) := dk_11 (dk_at dksX3_meanDetour_3 10 rfl rfl)
theorem dX3_meanDetour_81 : decode cX3_meanDetour 81 = .ok (.goto 7, 3) := dk_167 0 7 (dk_at dksX3_meanDetour_3 11 rfl rfl)
theorem dX3_meanDetour_84 : decode cX3_meanDetour 84 = .ok (.fload_n 1, 1) := dk_35 (dk_at dksX3_meanDetour_3 14 rfl rfl)
theorem dX3_meanDetour_85 : decode cX3_meanDetour 85 = .ok (.iload_n 2, 1) := dk_28 (dk_at dksX3_meanDetour_3 15 rfl rfl)
theorem dX3_meanDetour_86 : decode cX3_meanDetour 86 = .ok (.i2f, 1) := dk_134 (dk_at dksX3_meanDetour_3 16 rfl rfl)
theorem dX3_meanDetour_87 : decode cX3_meanDetour 87 = .ok (.fdiv, 1) := dk_110 (dk_at dksX3_meanDetour_3 17 rfl rfl)
theorem dX3_meanDetour_88 : decode cX3_meanDetour 88 = .ok (.freturn, 1) := dk_174 (dk_at dksX3_meanDetour_3 18 rfl rfl)
abbrev cX3_occupancy : ByteArray := prog_23_method_111_code
def yX3_occupancy : MethodName := ⟨RX3, "occupancy", "(I)F"⟩
def dkwX3_occupancy_4 : List UInt8 := [174]
abbrev dktX3_occupancy_4 : List UInt8 := dkwX3_occupancy_4 ++ []
def dkwX3_occupancy_3 : List UInt8 := [167, 255, 205, 42, 27, 182, 0, 245, 154, 0, 7, 11, 167, 0, 12, 28, 134, 42, 27, 182, 0, 245, 134, 110]
abbrev dktX3_occupancy_3 : List UInt8 := dkwX3_occupancy_3 ++ dktX3_occupancy_4
def dkwX3_occupancy_2 : List UInt8 := [167, 0, 4, 4, 96, 62, 28, 29, 42, 27, 21, 4, 4, 96, 182, 0, 242, 104, 96, 61, 132, 4, 1]
abbrev dktX3_occupancy_2 : List UInt8 := dkwX3_occupancy_2 ++ dktX3_occupancy_3
def dkwX3_occupancy_1 : List UInt8 := [180, 0, 7, 16, 6, 27, 96, 46, 162, 0, 41, 29, 42, 27, 21, 4, 182, 0, 222, 153, 0, 7, 2]
abbrev dktX3_occupancy_1 : List UInt8 := dkwX3_occupancy_1 ++ dktX3_occupancy_2
def dkwX3_occupancy_0 : List UInt8 := [42, 27, 182, 1, 100, 153, 0, 5, 11, 174, 3, 61, 3, 62, 3, 54, 4, 21, 4, 4, 96, 42]
abbrev dktX3_occupancy_0 : List UInt8 := dkwX3_occupancy_0 ++ dktX3_occupancy_1
theorem dksX3_occupancy_0 : cX3_occupancy.data.toList.drop 0 = dktX3_occupancy_0 := by decide +kernel
theorem dksX3_occupancy_1 : cX3_occupancy.data.toList.drop 22 = dktX3_occupancy_1 := dk_seg dksX3_occupancy_0 22 rfl rfl
theorem dksX3_occupancy_2 : cX3_occupancy.data.toList.drop 45 = dktX3_occupancy_2 := dk_seg dksX3_occupancy_1 23 rfl rfl
theorem dksX3_occupancy_3 : cX3_occupancy.data.toList.drop 68 = dktX3_occupancy_3 := dk_seg dksX3_occupancy_2 23 rfl rfl
theorem dksX3_occupancy_4 : cX3_occupancy.data.toList.drop 92 = dktX3_occupancy_4 := dk_seg dksX3_occupancy_3 24 rfl rfl
theorem dX3_occupancy_0 : decode cX3_occupancy 0 = .ok (.aload_n 0, 1) := dk_42 (dk_at dksX3_occupancy_0 0 rfl rfl)
theorem dX3_occupancy_1 : decode cX3_occupancy 1 = .ok (.iload_n 1, 1) := dk_27 (dk_at dksX3_occupancy_0 1 rfl rfl)
theorem dX3_occupancy_2 : decode cX3_occupancy 2 = .ok (.invokevirtual 356, 3) := dk_182 1 100 (dk_at dksX3_occupancy_0 2 rfl rfl)
theorem dX3_occupancy_5 : decode cX3_occupancy 5 = .ok (.ifCond .eq 5, 3) := dk_153 0 5 (dk_at dksX3_occupancy_0 5 rfl rfl)
theorem dX3_occupancy_8 : decode cX3_occupancy 8 = .ok (.fconst 0, 1) := dk_11 (dk_at dksX3_occupancy_0 8 rfl rfl)
theorem dX3_occupancy_9 : decode cX3_occupancy 9 = .ok (.freturn, 1) := dk_174 (dk_at dksX3_occupancy_0 9 rfl rfl)
theorem dX3_occupancy_10 : decode cX3_occupancy 10 = .ok (.iconst 0, 1) := dk_3 (dk_at dksX3_occupancy_0 10 rfl rfl)
theorem dX3_occupancy_11 : decode cX3_occupancy 11 = .ok (.istore_n 2, 1) := dk_61 (dk_at dksX3_occupancy_0 11 rfl rfl)
theorem dX3_occupancy_12 : decode cX3_occupancy 12 = .ok (.iconst 0, 1) := dk_3 (dk_at dksX3_occupancy_0 12 rfl rfl)
theorem dX3_occupancy_13 : decode cX3_occupancy 13 = .ok (.istore_n 3, 1) := dk_62 (dk_at dksX3_occupancy_0 13 rfl rfl)
theorem dX3_occupancy_14 : decode cX3_occupancy 14 = .ok (.iconst 0, 1) := dk_3 (dk_at dksX3_occupancy_0 14 rfl rfl)
theorem dX3_occupancy_15 : decode cX3_occupancy 15 = .ok (.istore 4, 2) := dk_54 4 (dk_at dksX3_occupancy_0 15 rfl rfl)
theorem dX3_occupancy_17 : decode cX3_occupancy 17 = .ok (.iload 4, 2) := dk_21 4 (dk_at dksX3_occupancy_0 17 rfl rfl)
theorem dX3_occupancy_19 : decode cX3_occupancy 19 = .ok (.iconst 1, 1) := dk_4 (dk_at dksX3_occupancy_0 19 rfl rfl)
theorem dX3_occupancy_20 : decode cX3_occupancy 20 = .ok (.iadd, 1) := dk_96 (dk_at dksX3_occupancy_0 20 rfl rfl)
theorem dX3_occupancy_21 : decode cX3_occupancy 21 = .ok (.aload_n 0, 1) := dk_42 (dk_at dksX3_occupancy_0 21 rfl rfl)
theorem dX3_occupancy_22 : decode cX3_occupancy 22 = .ok (.getfield 7, 3) := dk_180 0 7 (dk_at dksX3_occupancy_1 0 rfl rfl)
theorem dX3_occupancy_25 : decode cX3_occupancy 25 = .ok (.bipush 6, 2) := dk_16 6 (dk_at dksX3_occupancy_1 3 rfl rfl)
theorem dX3_occupancy_27 : decode cX3_occupancy 27 = .ok (.iload_n 1, 1) := dk_27 (dk_at dksX3_occupancy_1 5 rfl rfl)
theorem dX3_occupancy_28 : decode cX3_occupancy 28 = .ok (.iadd, 1) := dk_96 (dk_at dksX3_occupancy_1 6 rfl rfl)
theorem dX3_occupancy_29 : decode cX3_occupancy 29 = .ok (.iaload, 1) := dk_46 (dk_at dksX3_occupancy_1 7 rfl rfl)
theorem dX3_occupancy_30 : decode cX3_occupancy 30 = .ok (.if_icmp .ge 41, 3) := dk_162 0 41 (dk_at dksX3_occupancy_1 8 rfl rfl)
theorem dX3_occupancy_33 : decode cX3_occupancy 33 = .ok (.iload_n 3, 1) := dk_29 (dk_at dksX3_occupancy_1 11 rfl rfl)
theorem dX3_occupancy_34 : decode cX3_occupancy 34 = .ok (.aload_n 0, 1) := dk_42 (dk_at dksX3_occupancy_1 12 rfl rfl)
theorem dX3_occupancy_35 : decode cX3_occupancy 35 = .ok (.iload_n 1, 1) := dk_27 (dk_at dksX3_occupancy_1 13 rfl rfl)
theorem dX3_occupancy_36 : decode cX3_occupancy 36 = .ok (.iload 4, 2) := dk_21 4 (dk_at dksX3_occupancy_1 14 rfl rfl)
theorem dX3_occupancy_38 : decode cX3_occupancy 38 = .ok (.invokevirtual 222, 3) := dk_182 0 222 (dk_at dksX3_occupancy_1 16 rfl rfl)
theorem dX3_occupancy_41 : decode cX3_occupancy 41 = .ok (.ifCond .eq 7, 3) := dk_153 0 7 (dk_at dksX3_occupancy_1 19 rfl rfl)
theorem dX3_occupancy_44 : decode cX3_occupancy 44 = .ok (.iconst (-1), 1) := dk_2 (dk_at dksX3_occupancy_1 22 rfl rfl)
theorem dX3_occupancy_45 : decode cX3_occupancy 45 = .ok (.goto 4, 3) := dk_167 0 4 (dk_at dksX3_occupancy_2 0 rfl rfl)
theorem dX3_occupancy_48 : decode cX3_occupancy 48 = .ok (.iconst 1, 1) := dk_4 (dk_at dksX3_occupancy_2 3 rfl rfl)
theorem dX3_occupancy_49 : decode cX3_occupancy 49 = .ok (.iadd, 1) := dk_96 (dk_at dksX3_occupancy_2 4 rfl rfl)
theorem dX3_occupancy_50 : decode cX3_occupancy 50 = .ok (.istore_n 3, 1) := dk_62 (dk_at dksX3_occupancy_2 5 rfl rfl)
theorem dX3_occupancy_51 : decode cX3_occupancy 51 = .ok (.iload_n 2, 1) := dk_28 (dk_at dksX3_occupancy_2 6 rfl rfl)
theorem dX3_occupancy_52 : decode cX3_occupancy 52 = .ok (.iload_n 3, 1) := dk_29 (dk_at dksX3_occupancy_2 7 rfl rfl)
theorem dX3_occupancy_53 : decode cX3_occupancy 53 = .ok (.aload_n 0, 1) := dk_42 (dk_at dksX3_occupancy_2 8 rfl rfl)
theorem dX3_occupancy_54 : decode cX3_occupancy 54 = .ok (.iload_n 1, 1) := dk_27 (dk_at dksX3_occupancy_2 9 rfl rfl)
theorem dX3_occupancy_55 : decode cX3_occupancy 55 = .ok (.iload 4, 2) := dk_21 4 (dk_at dksX3_occupancy_2 10 rfl rfl)
theorem dX3_occupancy_57 : decode cX3_occupancy 57 = .ok (.iconst 1, 1) := dk_4 (dk_at dksX3_occupancy_2 12 rfl rfl)
theorem dX3_occupancy_58 : decode cX3_occupancy 58 = .ok (.iadd, 1) := dk_96 (dk_at dksX3_occupancy_2 13 rfl rfl)
theorem dX3_occupancy_59 : decode cX3_occupancy 59 = .ok (.invokevirtual 242, 3) := dk_182 0 242 (dk_at dksX3_occupancy_2 14 rfl rfl)
theorem dX3_occupancy_62 : decode cX3_occupancy 62 = .ok (.imul, 1) := dk_104 (dk_at dksX3_occupancy_2 17 rfl rfl)
theorem dX3_occupancy_63 : decode cX3_occupancy 63 = .ok (.iadd, 1) := dk_96 (dk_at dksX3_occupancy_2 18 rfl rfl)
theorem dX3_occupancy_64 : decode cX3_occupancy 64 = .ok (.istore_n 2, 1) := dk_61 (dk_at dksX3_occupancy_2 19 rfl rfl)
theorem dX3_occupancy_65 : decode cX3_occupancy 65 = .ok (.iinc 4 1, 3) := dk_132 4 1 (dk_at dksX3_occupancy_2 20 rfl rfl)
theorem dX3_occupancy_68 : decode cX3_occupancy 68 = .ok (.goto (-51), 3) := dk_167 255 205 (dk_at dksX3_occupancy_3 0 rfl rfl)
theorem dX3_occupancy_71 : decode cX3_occupancy 71 = .ok (.aload_n 0, 1) := dk_42 (dk_at dksX3_occupancy_3 3 rfl rfl)
theorem dX3_occupancy_72 : decode cX3_occupancy 72 = .ok (.iload_n 1, 1) := dk_27 (dk_at dksX3_occupancy_3 4 rfl rfl)
theorem dX3_occupancy_73 : decode cX3_occupancy 73 = .ok (.invokevirtual 245, 3) := dk_182 0 245 (dk_at dksX3_occupancy_3 5 rfl rfl)
theorem dX3_occupancy_76 : decode cX3_occupancy 76 = .ok (.ifCond .ne 7, 3) := dk_154 0 7 (dk_at dksX3_occupancy_3 8 rfl rfl)
theorem dX3_occupancy_79 : decode cX3_occupancy 79 = .ok (.fconst 0, 1) := dk_11 (dk_at dksX3_occupancy_3 11 rfl rfl)
theorem dX3_occupancy_80 : decode cX3_occupancy 80 = .ok (.goto 12, 3) := dk_167 0 12 (dk_at dksX3_occupancy_3 12 rfl rfl)
theorem dX3_occupancy_83 : decode cX3_occupancy 83 = .ok (.iload_n 2, 1) := dk_28 (dk_at dksX3_occupancy_3 15 rfl rfl)
theorem dX3_occupancy_84 : decode cX3_occupancy 84 = .ok (.i2f, 1) := dk_134 (dk_at dksX3_occupancy_3 16 rfl rfl)
theorem dX3_occupancy_85 : decode cX3_occupancy 85 = .ok (.aload_n 0, 1) := dk_42 (dk_at dksX3_occupancy_3 17 rfl rfl)
theorem dX3_occupancy_86 : decode cX3_occupancy 86 = .ok (.iload_n 1, 1) := dk_27 (dk_at dksX3_occupancy_3 18 rfl rfl)
theorem dX3_occupancy_87 : decode cX3_occupancy 87 = .ok (.invokevirtual 245, 3) := dk_182 0 245 (dk_at dksX3_occupancy_3 19 rfl rfl)
theorem dX3_occupancy_90 : decode cX3_occupancy 90 = .ok (.i2f, 1) := dk_134 (dk_at dksX3_occupancy_3 22 rfl rfl)
theorem dX3_occupancy_91 : decode cX3_occupancy 91 = .ok (.fdiv, 1) := dk_110 (dk_at dksX3_occupancy_3 23 rfl rfl)
theorem dX3_occupancy_92 : decode cX3_occupancy 92 = .ok (.freturn, 1) := dk_174 (dk_at dksX3_occupancy_4 0 rfl rfl)
abbrev cX3_offer : ByteArray := prog_23_method_113_code
def yX3_offer : MethodName := ⟨RX3, "offer", "(IIIIII)I"⟩
def dkwX3_offer_2 : List UInt8 := [182, 0, 211, 54, 7, 42, 3, 182, 1, 134, 21, 7, 172]
abbrev dktX3_offer_2 : List UInt8 := dkwX3_offer_2 ++ []
def dkwX3_offer_1 : List UInt8 := [27, 28, 29, 21, 4, 21, 5, 21, 6, 182, 0, 194, 42, 42, 180, 0, 7, 4, 46, 4, 100, 16, 7]
abbrev dktX3_offer_1 : List UInt8 := dkwX3_offer_1 ++ dktX3_offer_2
def dkwX3_offer_0 : List UInt8 := [42, 27, 28, 29, 21, 4, 21, 5, 21, 6, 182, 1, 127, 153, 0, 5, 3, 172, 42, 3, 182, 1, 131, 42]
abbrev dktX3_offer_0 : List UInt8 := dkwX3_offer_0 ++ dktX3_offer_1
theorem dksX3_offer_0 : cX3_offer.data.toList.drop 0 = dktX3_offer_0 := by decide +kernel
theorem dksX3_offer_1 : cX3_offer.data.toList.drop 24 = dktX3_offer_1 := dk_seg dksX3_offer_0 24 rfl rfl
theorem dksX3_offer_2 : cX3_offer.data.toList.drop 47 = dktX3_offer_2 := dk_seg dksX3_offer_1 23 rfl rfl
theorem dX3_offer_0 : decode cX3_offer 0 = .ok (.aload_n 0, 1) := dk_42 (dk_at dksX3_offer_0 0 rfl rfl)
theorem dX3_offer_1 : decode cX3_offer 1 = .ok (.iload_n 1, 1) := dk_27 (dk_at dksX3_offer_0 1 rfl rfl)
theorem dX3_offer_2 : decode cX3_offer 2 = .ok (.iload_n 2, 1) := dk_28 (dk_at dksX3_offer_0 2 rfl rfl)
theorem dX3_offer_3 : decode cX3_offer 3 = .ok (.iload_n 3, 1) := dk_29 (dk_at dksX3_offer_0 3 rfl rfl)
theorem dX3_offer_4 : decode cX3_offer 4 = .ok (.iload 4, 2) := dk_21 4 (dk_at dksX3_offer_0 4 rfl rfl)
theorem dX3_offer_6 : decode cX3_offer 6 = .ok (.iload 5, 2) := dk_21 5 (dk_at dksX3_offer_0 6 rfl rfl)
theorem dX3_offer_8 : decode cX3_offer 8 = .ok (.iload 6, 2) := dk_21 6 (dk_at dksX3_offer_0 8 rfl rfl)
theorem dX3_offer_10 : decode cX3_offer 10 = .ok (.invokevirtual 383, 3) := dk_182 1 127 (dk_at dksX3_offer_0 10 rfl rfl)
theorem dX3_offer_13 : decode cX3_offer 13 = .ok (.ifCond .eq 5, 3) := dk_153 0 5 (dk_at dksX3_offer_0 13 rfl rfl)
theorem dX3_offer_16 : decode cX3_offer 16 = .ok (.iconst 0, 1) := dk_3 (dk_at dksX3_offer_0 16 rfl rfl)
theorem dX3_offer_17 : decode cX3_offer 17 = .ok (.ireturn, 1) := dk_172 (dk_at dksX3_offer_0 17 rfl rfl)
theorem dX3_offer_18 : decode cX3_offer 18 = .ok (.aload_n 0, 1) := dk_42 (dk_at dksX3_offer_0 18 rfl rfl)
theorem dX3_offer_19 : decode cX3_offer 19 = .ok (.iconst 0, 1) := dk_3 (dk_at dksX3_offer_0 19 rfl rfl)
theorem dX3_offer_20 : decode cX3_offer 20 = .ok (.invokevirtual 387, 3) := dk_182 1 131 (dk_at dksX3_offer_0 20 rfl rfl)
theorem dX3_offer_23 : decode cX3_offer 23 = .ok (.aload_n 0, 1) := dk_42 (dk_at dksX3_offer_0 23 rfl rfl)
theorem dX3_offer_24 : decode cX3_offer 24 = .ok (.iload_n 1, 1) := dk_27 (dk_at dksX3_offer_1 0 rfl rfl)
theorem dX3_offer_25 : decode cX3_offer 25 = .ok (.iload_n 2, 1) := dk_28 (dk_at dksX3_offer_1 1 rfl rfl)
theorem dX3_offer_26 : decode cX3_offer 26 = .ok (.iload_n 3, 1) := dk_29 (dk_at dksX3_offer_1 2 rfl rfl)
theorem dX3_offer_27 : decode cX3_offer 27 = .ok (.iload 4, 2) := dk_21 4 (dk_at dksX3_offer_1 3 rfl rfl)
theorem dX3_offer_29 : decode cX3_offer 29 = .ok (.iload 5, 2) := dk_21 5 (dk_at dksX3_offer_1 5 rfl rfl)
theorem dX3_offer_31 : decode cX3_offer 31 = .ok (.iload 6, 2) := dk_21 6 (dk_at dksX3_offer_1 7 rfl rfl)
theorem dX3_offer_33 : decode cX3_offer 33 = .ok (.invokevirtual 194, 3) := dk_182 0 194 (dk_at dksX3_offer_1 9 rfl rfl)
theorem dX3_offer_36 : decode cX3_offer 36 = .ok (.aload_n 0, 1) := dk_42 (dk_at dksX3_offer_1 12 rfl rfl)
theorem dX3_offer_37 : decode cX3_offer 37 = .ok (.aload_n 0, 1) := dk_42 (dk_at dksX3_offer_1 13 rfl rfl)
theorem dX3_offer_38 : decode cX3_offer 38 = .ok (.getfield 7, 3) := dk_180 0 7 (dk_at dksX3_offer_1 14 rfl rfl)
theorem dX3_offer_41 : decode cX3_offer 41 = .ok (.iconst 1, 1) := dk_4 (dk_at dksX3_offer_1 17 rfl rfl)
theorem dX3_offer_42 : decode cX3_offer 42 = .ok (.iaload, 1) := dk_46 (dk_at dksX3_offer_1 18 rfl rfl)
theorem dX3_offer_43 : decode cX3_offer 43 = .ok (.iconst 1, 1) := dk_4 (dk_at dksX3_offer_1 19 rfl rfl)
theorem dX3_offer_44 : decode cX3_offer 44 = .ok (.isub, 1) := dk_100 (dk_at dksX3_offer_1 20 rfl rfl)
theorem dX3_offer_45 : decode cX3_offer 45 = .ok (.bipush 7, 2) := dk_16 7 (dk_at dksX3_offer_1 21 rfl rfl)
theorem dX3_offer_47 : decode cX3_offer 47 = .ok (.invokevirtual 211, 3) := dk_182 0 211 (dk_at dksX3_offer_2 0 rfl rfl)
theorem dX3_offer_50 : decode cX3_offer 50 = .ok (.istore 7, 2) := dk_54 7 (dk_at dksX3_offer_2 3 rfl rfl)
theorem dX3_offer_52 : decode cX3_offer 52 = .ok (.aload_n 0, 1) := dk_42 (dk_at dksX3_offer_2 5 rfl rfl)
theorem dX3_offer_53 : decode cX3_offer 53 = .ok (.iconst 0, 1) := dk_3 (dk_at dksX3_offer_2 6 rfl rfl)
theorem dX3_offer_54 : decode cX3_offer 54 = .ok (.invokevirtual 390, 3) := dk_182 1 134 (dk_at dksX3_offer_2 7 rfl rfl)
theorem dX3_offer_57 : decode cX3_offer 57 = .ok (.iload 7, 2) := dk_21 7 (dk_at dksX3_offer_2 10 rfl rfl)
theorem dX3_offer_59 : decode cX3_offer 59 = .ok (.ireturn, 1) := dk_172 (dk_at dksX3_offer_2 12 rfl rfl)
abbrev cX3_noRequest : ByteArray := prog_23_method_112_code
def yX3_noRequest : MethodName := ⟨RX3, "noRequest", "(IIIIII)Z"⟩
def dkwX3_noRequest_2 : List UInt8 := [154, 0, 7, 4, 167, 0, 4, 3, 5, 182, 0, 55, 153, 0, 7, 4, 167, 0, 4, 3, 172]
abbrev dktX3_noRequest_2 : List UInt8 := dkwX3_noRequest_2 ++ []
def dkwX3_noRequest_1 : List UInt8 := [154, 0, 25, 21, 5, 3, 5, 184, 0, 124, 153, 0, 15, 21, 6, 3, 17, 5, 160, 184, 0, 124]
abbrev dktX3_noRequest_1 : List UInt8 := dkwX3_noRequest_1 ++ dktX3_noRequest_2
def dkwX3_noRequest_0 : List UInt8 := [42, 182, 1, 96, 154, 0, 55, 42, 27, 28, 184, 1, 103, 154, 0, 34, 29, 21, 4, 184, 1, 103]
abbrev dktX3_noRequest_0 : List UInt8 := dkwX3_noRequest_0 ++ dktX3_noRequest_1
theorem dksX3_noRequest_0 : cX3_noRequest.data.toList.drop 0 = dktX3_noRequest_0 := by decide +kernel
theorem dksX3_noRequest_1 : cX3_noRequest.data.toList.drop 22 = dktX3_noRequest_1 := dk_seg dksX3_noRequest_0 22 rfl rfl
theorem dksX3_noRequest_2 : cX3_noRequest.data.toList.drop 44 = dktX3_noRequest_2 := dk_seg dksX3_noRequest_1 22 rfl rfl
theorem dX3_noRequest_0 : decode cX3_noRequest 0 = .ok (.aload_n 0, 1) := dk_42 (dk_at dksX3_noRequest_0 0 rfl rfl)
theorem dX3_noRequest_1 : decode cX3_noRequest 1 = .ok (.invokevirtual 352, 3) := dk_182 1 96 (dk_at dksX3_noRequest_0 1 rfl rfl)
theorem dX3_noRequest_4 : decode cX3_noRequest 4 = .ok (.ifCond .ne 55, 3) := dk_154 0 55 (dk_at dksX3_noRequest_0 4 rfl rfl)
theorem dX3_noRequest_7 : decode cX3_noRequest 7 = .ok (.aload_n 0, 1) := dk_42 (dk_at dksX3_noRequest_0 7 rfl rfl)
theorem dX3_noRequest_8 : decode cX3_noRequest 8 = .ok (.iload_n 1, 1) := dk_27 (dk_at dksX3_noRequest_0 8 rfl rfl)
theorem dX3_noRequest_9 : decode cX3_noRequest 9 = .ok (.iload_n 2, 1) := dk_28 (dk_at dksX3_noRequest_0 9 rfl rfl)
theorem dX3_noRequest_10 : decode cX3_noRequest 10 = .ok (.invokestatic 359, 3) := dk_184 1 103 (dk_at dksX3_noRequest_0 10 rfl rfl)
theorem dX3_noRequest_13 : decode cX3_noRequest 13 = .ok (.ifCond .ne 34, 3) := dk_154 0 34 (dk_at dksX3_noRequest_0 13 rfl rfl)
theorem dX3_noRequest_16 : decode cX3_noRequest 16 = .ok (.iload_n 3, 1) := dk_29 (dk_at dksX3_noRequest_0 16 rfl rfl)
theorem dX3_noRequest_17 : decode cX3_noRequest 17 = .ok (.iload 4, 2) := dk_21 4 (dk_at dksX3_noRequest_0 17 rfl rfl)
theorem dX3_noRequest_19 : decode cX3_noRequest 19 = .ok (.invokestatic 359, 3) := dk_184 1 103 (dk_at dksX3_noRequest_0 19 rfl rfl)
theorem dX3_noRequest_22 : decode cX3_noRequest 22 = .ok (.ifCond .ne 25, 3) := dk_154 0 25 (dk_at dksX3_noRequest_1 0 rfl rfl)
theorem dX3_noRequest_25 : decode cX3_noRequest 25 = .ok (.iload 5, 2) := dk_21 5 (dk_at dksX3_noRequest_1 3 rfl rfl)
theorem dX3_noRequest_27 : decode cX3_noRequest 27 = .ok (.iconst 0, 1) := dk_3 (dk_at dksX3_noRequest_1 5 rfl rfl)
theorem dX3_noRequest_28 : decode cX3_noRequest 28 = .ok (.iconst 2, 1) := dk_5 (dk_at dksX3_noRequest_1 6 rfl rfl)
theorem dX3_noRequest_29 : decode cX3_noRequest 29 = .ok (.invokestatic 124, 3) := dk_184 0 124 (dk_at dksX3_noRequest_1 7 rfl rfl)
theorem dX3_noRequest_32 : decode cX3_noRequest 32 = .ok (.ifCond .eq 15, 3) := dk_153 0 15 (dk_at dksX3_noRequest_1 10 rfl rfl)
theorem dX3_noRequest_35 : decode cX3_noRequest 35 = .ok (.iload 6, 2) := dk_21 6 (dk_at dksX3_noRequest_1 13 rfl rfl)
theorem dX3_noRequest_37 : decode cX3_noRequest 37 = .ok (.iconst 0, 1) := dk_3 (dk_at dksX3_noRequest_1 15 rfl rfl)
theorem dX3_noRequest_38 : decode cX3_noRequest 38 = .ok (.sipush 1440, 3) := dk_17 5 160 (dk_at dksX3_noRequest_1 16 rfl rfl)
theorem dX3_noRequest_41 : decode cX3_noRequest 41 = .ok (.invokestatic 124, 3) := dk_184 0 124 (dk_at dksX3_noRequest_1 19 rfl rfl)
theorem dX3_noRequest_44 : decode cX3_noRequest 44 = .ok (.ifCond .ne 7, 3) := dk_154 0 7 (dk_at dksX3_noRequest_2 0 rfl rfl)
theorem dX3_noRequest_47 : decode cX3_noRequest 47 = .ok (.iconst 1, 1) := dk_4 (dk_at dksX3_noRequest_2 3 rfl rfl)
theorem dX3_noRequest_48 : decode cX3_noRequest 48 = .ok (.goto 4, 3) := dk_167 0 4 (dk_at dksX3_noRequest_2 4 rfl rfl)
theorem dX3_noRequest_51 : decode cX3_noRequest 51 = .ok (.iconst 0, 1) := dk_3 (dk_at dksX3_noRequest_2 7 rfl rfl)
theorem dX3_noRequest_52 : decode cX3_noRequest 52 = .ok (.iconst 2, 1) := dk_5 (dk_at dksX3_noRequest_2 8 rfl rfl)
theorem dX3_noRequest_53 : decode cX3_noRequest 53 = .ok (.invokevirtual 55, 3) := dk_182 0 55 (dk_at dksX3_noRequest_2 9 rfl rfl)
theorem dX3_noRequest_56 : decode cX3_noRequest 56 = .ok (.ifCond .eq 7, 3) := dk_153 0 7 (dk_at dksX3_noRequest_2 12 rfl rfl)
theorem dX3_noRequest_59 : decode cX3_noRequest 59 = .ok (.iconst 1, 1) := dk_4 (dk_at dksX3_noRequest_2 15 rfl rfl)
theorem dX3_noRequest_60 : decode cX3_noRequest 60 = .ok (.goto 4, 3) := dk_167 0 4 (dk_at dksX3_noRequest_2 16 rfl rfl)
theorem dX3_noRequest_63 : decode cX3_noRequest 63 = .ok (.iconst 0, 1) := dk_3 (dk_at dksX3_noRequest_2 19 rfl rfl)
theorem dX3_noRequest_64 : decode cX3_noRequest 64 = .ok (.ireturn, 1) := dk_172 (dk_at dksX3_noRequest_2 20 rfl rfl)
abbrev cX3_lays : ByteArray := prog_23_method_128_code
def yX3_lays : MethodName := ⟨RX3, "lays", "(I)V"⟩
def dkwX3_lays_1 : List UInt8 := [28, 46, 79, 132, 2, 1, 167, 255, 228, 177]
abbrev dktX3_lays_1 : List UInt8 := dkwX3_lays_1 ++ []
def dkwX3_lays_0 : List UInt8 := [3, 61, 28, 17, 3, 67, 162, 0, 27, 42, 180, 0, 13, 17, 3, 67, 27, 104, 28, 96, 42, 180, 0, 7]
abbrev dktX3_lays_0 : List UInt8 := dkwX3_lays_0 ++ dktX3_lays_1
theorem dksX3_lays_0 : cX3_lays.data.toList.drop 0 = dktX3_lays_0 := by decide +kernel
theorem dksX3_lays_1 : cX3_lays.data.toList.drop 24 = dktX3_lays_1 := dk_seg dksX3_lays_0 24 rfl rfl
theorem dX3_lays_0 : decode cX3_lays 0 = .ok (.iconst 0, 1) := dk_3 (dk_at dksX3_lays_0 0 rfl rfl)
theorem dX3_lays_1 : decode cX3_lays 1 = .ok (.istore_n 2, 1) := dk_61 (dk_at dksX3_lays_0 1 rfl rfl)
theorem dX3_lays_2 : decode cX3_lays 2 = .ok (.iload_n 2, 1) := dk_28 (dk_at dksX3_lays_0 2 rfl rfl)
theorem dX3_lays_3 : decode cX3_lays 3 = .ok (.sipush 835, 3) := dk_17 3 67 (dk_at dksX3_lays_0 3 rfl rfl)
theorem dX3_lays_6 : decode cX3_lays 6 = .ok (.if_icmp .ge 27, 3) := dk_162 0 27 (dk_at dksX3_lays_0 6 rfl rfl)
theorem dX3_lays_9 : decode cX3_lays 9 = .ok (.aload_n 0, 1) := dk_42 (dk_at dksX3_lays_0 9 rfl rfl)
theorem dX3_lays_10 : decode cX3_lays 10 = .ok (.getfield 13, 3) := dk_180 0 13 (dk_at dksX3_lays_0 10 rfl rfl)
theorem dX3_lays_13 : decode cX3_lays 13 = .ok (.sipush 835, 3) := dk_17 3 67 (dk_at dksX3_lays_0 13 rfl rfl)
theorem dX3_lays_16 : decode cX3_lays 16 = .ok (.iload_n 1, 1) := dk_27 (dk_at dksX3_lays_0 16 rfl rfl)
theorem dX3_lays_17 : decode cX3_lays 17 = .ok (.imul, 1) := dk_104 (dk_at dksX3_lays_0 17 rfl rfl)
theorem dX3_lays_18 : decode cX3_lays 18 = .ok (.iload_n 2, 1) := dk_28 (dk_at dksX3_lays_0 18 rfl rfl)
theorem dX3_lays_19 : decode cX3_lays 19 = .ok (.iadd, 1) := dk_96 (dk_at dksX3_lays_0 19 rfl rfl)
theorem dX3_lays_20 : decode cX3_lays 20 = .ok (.aload_n 0, 1) := dk_42 (dk_at dksX3_lays_0 20 rfl rfl)
theorem dX3_lays_21 : decode cX3_lays 21 = .ok (.getfield 7, 3) := dk_180 0 7 (dk_at dksX3_lays_0 21 rfl rfl)
theorem dX3_lays_24 : decode cX3_lays 24 = .ok (.iload_n 2, 1) := dk_28 (dk_at dksX3_lays_1 0 rfl rfl)
theorem dX3_lays_25 : decode cX3_lays 25 = .ok (.iaload, 1) := dk_46 (dk_at dksX3_lays_1 1 rfl rfl)
theorem dX3_lays_26 : decode cX3_lays 26 = .ok (.iastore, 1) := dk_79 (dk_at dksX3_lays_1 2 rfl rfl)
theorem dX3_lays_27 : decode cX3_lays 27 = .ok (.iinc 2 1, 3) := dk_132 2 1 (dk_at dksX3_lays_1 3 rfl rfl)
theorem dX3_lays_30 : decode cX3_lays 30 = .ok (.goto (-28), 3) := dk_167 255 228 (dk_at dksX3_lays_1 6 rfl rfl)
theorem dX3_lays_33 : decode cX3_lays 33 = .ok (.return_, 1) := dk_177 (dk_at dksX3_lays_1 9 rfl rfl)
abbrev cX3_fetches : ByteArray := prog_23_method_129_code
def yX3_fetches : MethodName := ⟨RX3, "fetches", "(I)V"⟩
def dkwX3_fetches_1 : List UInt8 := [96, 46, 79, 132, 2, 1, 167, 255, 228, 177]
abbrev dktX3_fetches_1 : List UInt8 := dkwX3_fetches_1 ++ []
def dkwX3_fetches_0 : List UInt8 := [3, 61, 28, 17, 3, 67, 162, 0, 27, 42, 180, 0, 7, 28, 42, 180, 0, 13, 17, 3, 67, 27, 104, 28]
abbrev dktX3_fetches_0 : List UInt8 := dkwX3_fetches_0 ++ dktX3_fetches_1
theorem dksX3_fetches_0 : cX3_fetches.data.toList.drop 0 = dktX3_fetches_0 := by decide +kernel
theorem dksX3_fetches_1 : cX3_fetches.data.toList.drop 24 = dktX3_fetches_1 := dk_seg dksX3_fetches_0 24 rfl rfl
theorem dX3_fetches_0 : decode cX3_fetches 0 = .ok (.iconst 0, 1) := dk_3 (dk_at dksX3_fetches_0 0 rfl rfl)
theorem dX3_fetches_1 : decode cX3_fetches 1 = .ok (.istore_n 2, 1) := dk_61 (dk_at dksX3_fetches_0 1 rfl rfl)
theorem dX3_fetches_2 : decode cX3_fetches 2 = .ok (.iload_n 2, 1) := dk_28 (dk_at dksX3_fetches_0 2 rfl rfl)
theorem dX3_fetches_3 : decode cX3_fetches 3 = .ok (.sipush 835, 3) := dk_17 3 67 (dk_at dksX3_fetches_0 3 rfl rfl)
theorem dX3_fetches_6 : decode cX3_fetches 6 = .ok (.if_icmp .ge 27, 3) := dk_162 0 27 (dk_at dksX3_fetches_0 6 rfl rfl)
theorem dX3_fetches_9 : decode cX3_fetches 9 = .ok (.aload_n 0, 1) := dk_42 (dk_at dksX3_fetches_0 9 rfl rfl)
theorem dX3_fetches_10 : decode cX3_fetches 10 = .ok (.getfield 7, 3) := dk_180 0 7 (dk_at dksX3_fetches_0 10 rfl rfl)
theorem dX3_fetches_13 : decode cX3_fetches 13 = .ok (.iload_n 2, 1) := dk_28 (dk_at dksX3_fetches_0 13 rfl rfl)
theorem dX3_fetches_14 : decode cX3_fetches 14 = .ok (.aload_n 0, 1) := dk_42 (dk_at dksX3_fetches_0 14 rfl rfl)
theorem dX3_fetches_15 : decode cX3_fetches 15 = .ok (.getfield 13, 3) := dk_180 0 13 (dk_at dksX3_fetches_0 15 rfl rfl)
theorem dX3_fetches_18 : decode cX3_fetches 18 = .ok (.sipush 835, 3) := dk_17 3 67 (dk_at dksX3_fetches_0 18 rfl rfl)
theorem dX3_fetches_21 : decode cX3_fetches 21 = .ok (.iload_n 1, 1) := dk_27 (dk_at dksX3_fetches_0 21 rfl rfl)
theorem dX3_fetches_22 : decode cX3_fetches 22 = .ok (.imul, 1) := dk_104 (dk_at dksX3_fetches_0 22 rfl rfl)
theorem dX3_fetches_23 : decode cX3_fetches 23 = .ok (.iload_n 2, 1) := dk_28 (dk_at dksX3_fetches_0 23 rfl rfl)
theorem dX3_fetches_24 : decode cX3_fetches 24 = .ok (.iadd, 1) := dk_96 (dk_at dksX3_fetches_1 0 rfl rfl)
theorem dX3_fetches_25 : decode cX3_fetches 25 = .ok (.iaload, 1) := dk_46 (dk_at dksX3_fetches_1 1 rfl rfl)
theorem dX3_fetches_26 : decode cX3_fetches 26 = .ok (.iastore, 1) := dk_79 (dk_at dksX3_fetches_1 2 rfl rfl)
theorem dX3_fetches_27 : decode cX3_fetches 27 = .ok (.iinc 2 1, 3) := dk_132 2 1 (dk_at dksX3_fetches_1 3 rfl rfl)
theorem dX3_fetches_30 : decode cX3_fetches 30 = .ok (.goto (-28), 3) := dk_167 255 228 (dk_at dksX3_fetches_1 6 rfl rfl)
theorem dX3_fetches_33 : decode cX3_fetches 33 = .ok (.return_, 1) := dk_177 (dk_at dksX3_fetches_1 9 rfl rfl)
abbrev cX3_offeredVan : ByteArray := prog_23_method_114_code
def yX3_offeredVan : MethodName := ⟨RX3, "offeredVan", "(IIIIII)I"⟩
def dkwX3_offeredVan_1 : List UInt8 := [27, 28, 29, 21, 4, 21, 5, 21, 6, 182, 0, 194, 42, 3, 182, 1, 134, 42, 180, 1, 54, 172]
abbrev dktX3_offeredVan_1 : List UInt8 := dkwX3_offeredVan_1 ++ []
def dkwX3_offeredVan_0 : List UInt8 := [42, 27, 28, 29, 21, 4, 21, 5, 21, 6, 182, 1, 127, 153, 0, 5, 3, 172, 42, 3, 182, 1, 131, 42]
abbrev dktX3_offeredVan_0 : List UInt8 := dkwX3_offeredVan_0 ++ dktX3_offeredVan_1
theorem dksX3_offeredVan_0 : cX3_offeredVan.data.toList.drop 0 = dktX3_offeredVan_0 := by decide +kernel
theorem dksX3_offeredVan_1 : cX3_offeredVan.data.toList.drop 24 = dktX3_offeredVan_1 := dk_seg dksX3_offeredVan_0 24 rfl rfl
theorem dX3_offeredVan_0 : decode cX3_offeredVan 0 = .ok (.aload_n 0, 1) := dk_42 (dk_at dksX3_offeredVan_0 0 rfl rfl)
theorem dX3_offeredVan_1 : decode cX3_offeredVan 1 = .ok (.iload_n 1, 1) := dk_27 (dk_at dksX3_offeredVan_0 1 rfl rfl)
theorem dX3_offeredVan_2 : decode cX3_offeredVan 2 = .ok (.iload_n 2, 1) := dk_28 (dk_at dksX3_offeredVan_0 2 rfl rfl)
theorem dX3_offeredVan_3 : decode cX3_offeredVan 3 = .ok (.iload_n 3, 1) := dk_29 (dk_at dksX3_offeredVan_0 3 rfl rfl)
theorem dX3_offeredVan_4 : decode cX3_offeredVan 4 = .ok (.iload 4, 2) := dk_21 4 (dk_at dksX3_offeredVan_0 4 rfl rfl)
theorem dX3_offeredVan_6 : decode cX3_offeredVan 6 = .ok (.iload 5, 2) := dk_21 5 (dk_at dksX3_offeredVan_0 6 rfl rfl)
theorem dX3_offeredVan_8 : decode cX3_offeredVan 8 = .ok (.iload 6, 2) := dk_21 6 (dk_at dksX3_offeredVan_0 8 rfl rfl)
theorem dX3_offeredVan_10 : decode cX3_offeredVan 10 = .ok (.invokevirtual 383, 3) := dk_182 1 127 (dk_at dksX3_offeredVan_0 10 rfl rfl)
theorem dX3_offeredVan_13 : decode cX3_offeredVan 13 = .ok (.ifCond .eq 5, 3) := dk_153 0 5 (dk_at dksX3_offeredVan_0 13 rfl rfl)
theorem dX3_offeredVan_16 : decode cX3_offeredVan 16 = .ok (.iconst 0, 1) := dk_3 (dk_at dksX3_offeredVan_0 16 rfl rfl)
theorem dX3_offeredVan_17 : decode cX3_offeredVan 17 = .ok (.ireturn, 1) := dk_172 (dk_at dksX3_offeredVan_0 17 rfl rfl)
theorem dX3_offeredVan_18 : decode cX3_offeredVan 18 = .ok (.aload_n 0, 1) := dk_42 (dk_at dksX3_offeredVan_0 18 rfl rfl)
theorem dX3_offeredVan_19 : decode cX3_offeredVan 19 = .ok (.iconst 0, 1) := dk_3 (dk_at dksX3_offeredVan_0 19 rfl rfl)
theorem dX3_offeredVan_20 : decode cX3_offeredVan 20 = .ok (.invokevirtual 387, 3) := dk_182 1 131 (dk_at dksX3_offeredVan_0 20 rfl rfl)
theorem dX3_offeredVan_23 : decode cX3_offeredVan 23 = .ok (.aload_n 0, 1) := dk_42 (dk_at dksX3_offeredVan_0 23 rfl rfl)
theorem dX3_offeredVan_24 : decode cX3_offeredVan 24 = .ok (.iload_n 1, 1) := dk_27 (dk_at dksX3_offeredVan_1 0 rfl rfl)
theorem dX3_offeredVan_25 : decode cX3_offeredVan 25 = .ok (.iload_n 2, 1) := dk_28 (dk_at dksX3_offeredVan_1 1 rfl rfl)
theorem dX3_offeredVan_26 : decode cX3_offeredVan 26 = .ok (.iload_n 3, 1) := dk_29 (dk_at dksX3_offeredVan_1 2 rfl rfl)
theorem dX3_offeredVan_27 : decode cX3_offeredVan 27 = .ok (.iload 4, 2) := dk_21 4 (dk_at dksX3_offeredVan_1 3 rfl rfl)
theorem dX3_offeredVan_29 : decode cX3_offeredVan 29 = .ok (.iload 5, 2) := dk_21 5 (dk_at dksX3_offeredVan_1 5 rfl rfl)
theorem dX3_offeredVan_31 : decode cX3_offeredVan 31 = .ok (.iload 6, 2) := dk_21 6 (dk_at dksX3_offeredVan_1 7 rfl rfl)
theorem dX3_offeredVan_33 : decode cX3_offeredVan 33 = .ok (.invokevirtual 194, 3) := dk_182 0 194 (dk_at dksX3_offeredVan_1 9 rfl rfl)
theorem dX3_offeredVan_36 : decode cX3_offeredVan 36 = .ok (.aload_n 0, 1) := dk_42 (dk_at dksX3_offeredVan_1 12 rfl rfl)
theorem dX3_offeredVan_37 : decode cX3_offeredVan 37 = .ok (.iconst 0, 1) := dk_3 (dk_at dksX3_offeredVan_1 13 rfl rfl)
theorem dX3_offeredVan_38 : decode cX3_offeredVan 38 = .ok (.invokevirtual 390, 3) := dk_182 1 134 (dk_at dksX3_offeredVan_1 14 rfl rfl)
theorem dX3_offeredVan_41 : decode cX3_offeredVan 41 = .ok (.aload_n 0, 1) := dk_42 (dk_at dksX3_offeredVan_1 17 rfl rfl)
theorem dX3_offeredVan_42 : decode cX3_offeredVan 42 = .ok (.getfield 310, 3) := dk_180 1 54 (dk_at dksX3_offeredVan_1 18 rfl rfl)
theorem dX3_offeredVan_45 : decode cX3_offeredVan 45 = .ok (.ireturn, 1) := dk_172 (dk_at dksX3_offeredVan_1 21 rfl rfl)
abbrev cX3_soonest : ByteArray := prog_23_method_115_code
def yX3_soonest : MethodName := ⟨RX3, "soonest", "(IIIIII)I"⟩
def dkwX3_soonest_3 : List UInt8 := [54, 8, 42, 3, 182, 1, 134, 21, 8, 153, 0, 6, 21, 7, 172, 132, 7, 1, 167, 255, 194, 2, 172]
abbrev dktX3_soonest_3 : List UInt8 := dkwX3_soonest_3 ++ []
def dkwX3_soonest_2 : List UInt8 := [28, 29, 21, 4, 21, 5, 21, 7, 182, 0, 194, 42, 180, 1, 54, 2, 159, 0, 7, 4, 167, 0, 4, 3]
abbrev dktX3_soonest_2 : List UInt8 := dkwX3_soonest_2 ++ dktX3_soonest_3
def dkwX3_soonest_1 : List UInt8 := [21, 6, 54, 7, 21, 7, 21, 6, 16, 60, 96, 163, 0, 58, 21, 7, 17, 5, 160, 163, 0, 50, 42, 27]
abbrev dktX3_soonest_1 : List UInt8 := dkwX3_soonest_1 ++ dktX3_soonest_2
def dkwX3_soonest_0 : List UInt8 := [42, 27, 28, 29, 21, 4, 21, 5, 21, 6, 182, 1, 127, 153, 0, 5, 3, 172, 42, 3, 182, 1, 131]
abbrev dktX3_soonest_0 : List UInt8 := dkwX3_soonest_0 ++ dktX3_soonest_1
theorem dksX3_soonest_0 : cX3_soonest.data.toList.drop 0 = dktX3_soonest_0 := by decide +kernel
theorem dksX3_soonest_1 : cX3_soonest.data.toList.drop 23 = dktX3_soonest_1 := dk_seg dksX3_soonest_0 23 rfl rfl
theorem dksX3_soonest_2 : cX3_soonest.data.toList.drop 47 = dktX3_soonest_2 := dk_seg dksX3_soonest_1 24 rfl rfl
theorem dksX3_soonest_3 : cX3_soonest.data.toList.drop 71 = dktX3_soonest_3 := dk_seg dksX3_soonest_2 24 rfl rfl
theorem dX3_soonest_0 : decode cX3_soonest 0 = .ok (.aload_n 0, 1) := dk_42 (dk_at dksX3_soonest_0 0 rfl rfl)
theorem dX3_soonest_1 : decode cX3_soonest 1 = .ok (.iload_n 1, 1) := dk_27 (dk_at dksX3_soonest_0 1 rfl rfl)
theorem dX3_soonest_2 : decode cX3_soonest 2 = .ok (.iload_n 2, 1) := dk_28 (dk_at dksX3_soonest_0 2 rfl rfl)
theorem dX3_soonest_3 : decode cX3_soonest 3 = .ok (.iload_n 3, 1) := dk_29 (dk_at dksX3_soonest_0 3 rfl rfl)
theorem dX3_soonest_4 : decode cX3_soonest 4 = .ok (.iload 4, 2) := dk_21 4 (dk_at dksX3_soonest_0 4 rfl rfl)
theorem dX3_soonest_6 : decode cX3_soonest 6 = .ok (.iload 5, 2) := dk_21 5 (dk_at dksX3_soonest_0 6 rfl rfl)
theorem dX3_soonest_8 : decode cX3_soonest 8 = .ok (.iload 6, 2) := dk_21 6 (dk_at dksX3_soonest_0 8 rfl rfl)
theorem dX3_soonest_10 : decode cX3_soonest 10 = .ok (.invokevirtual 383, 3) := dk_182 1 127 (dk_at dksX3_soonest_0 10 rfl rfl)
theorem dX3_soonest_13 : decode cX3_soonest 13 = .ok (.ifCond .eq 5, 3) := dk_153 0 5 (dk_at dksX3_soonest_0 13 rfl rfl)
theorem dX3_soonest_16 : decode cX3_soonest 16 = .ok (.iconst 0, 1) := dk_3 (dk_at dksX3_soonest_0 16 rfl rfl)
theorem dX3_soonest_17 : decode cX3_soonest 17 = .ok (.ireturn, 1) := dk_172 (dk_at dksX3_soonest_0 17 rfl rfl)
theorem dX3_soonest_18 : decode cX3_soonest 18 = .ok (.aload_n 0, 1) := dk_42 (dk_at dksX3_soonest_0 18 rfl rfl)
theorem dX3_soonest_19 : decode cX3_soonest 19 = .ok (.iconst 0, 1) := dk_3 (dk_at dksX3_soonest_0 19 rfl rfl)
theorem dX3_soonest_20 : decode cX3_soonest 20 = .ok (.invokevirtual 387, 3) := dk_182 1 131 (dk_at dksX3_soonest_0 20 rfl rfl)
theorem dX3_soonest_23 : decode cX3_soonest 23 = .ok (.iload 6, 2) := dk_21 6 (dk_at dksX3_soonest_1 0 rfl rfl)
theorem dX3_soonest_25 : decode cX3_soonest 25 = .ok (.istore 7, 2) := dk_54 7 (dk_at dksX3_soonest_1 2 rfl rfl)
theorem dX3_soonest_27 : decode cX3_soonest 27 = .ok (.iload 7, 2) := dk_21 7 (dk_at dksX3_soonest_1 4 rfl rfl)
theorem dX3_soonest_29 : decode cX3_soonest 29 = .ok (.iload 6, 2) := dk_21 6 (dk_at dksX3_soonest_1 6 rfl rfl)
theorem dX3_soonest_31 : decode cX3_soonest 31 = .ok (.bipush 60, 2) := dk_16 60 (dk_at dksX3_soonest_1 8 rfl rfl)
theorem dX3_soonest_33 : decode cX3_soonest 33 = .ok (.iadd, 1) := dk_96 (dk_at dksX3_soonest_1 10 rfl rfl)
theorem dX3_soonest_34 : decode cX3_soonest 34 = .ok (.if_icmp .gt 58, 3) := dk_163 0 58 (dk_at dksX3_soonest_1 11 rfl rfl)
theorem dX3_soonest_37 : decode cX3_soonest 37 = .ok (.iload 7, 2) := dk_21 7 (dk_at dksX3_soonest_1 14 rfl rfl)
theorem dX3_soonest_39 : decode cX3_soonest 39 = .ok (.sipush 1440, 3) := dk_17 5 160 (dk_at dksX3_soonest_1 16 rfl rfl)
theorem dX3_soonest_42 : decode cX3_soonest 42 = .ok (.if_icmp .gt 50, 3) := dk_163 0 50 (dk_at dksX3_soonest_1 19 rfl rfl)
theorem dX3_soonest_45 : decode cX3_soonest 45 = .ok (.aload_n 0, 1) := dk_42 (dk_at dksX3_soonest_1 22 rfl rfl)
theorem dX3_soonest_46 : decode cX3_soonest 46 = .ok (.iload_n 1, 1) := dk_27 (dk_at dksX3_soonest_1 23 rfl rfl)
theorem dX3_soonest_47 : decode cX3_soonest 47 = .ok (.iload_n 2, 1) := dk_28 (dk_at dksX3_soonest_2 0 rfl rfl)
theorem dX3_soonest_48 : decode cX3_soonest 48 = .ok (.iload_n 3, 1) := dk_29 (dk_at dksX3_soonest_2 1 rfl rfl)
theorem dX3_soonest_49 : decode cX3_soonest 49 = .ok (.iload 4, 2) := dk_21 4 (dk_at dksX3_soonest_2 2 rfl rfl)
theorem dX3_soonest_51 : decode cX3_soonest 51 = .ok (.iload 5, 2) := dk_21 5 (dk_at dksX3_soonest_2 4 rfl rfl)
theorem dX3_soonest_53 : decode cX3_soonest 53 = .ok (.iload 7, 2) := dk_21 7 (dk_at dksX3_soonest_2 6 rfl rfl)
theorem dX3_soonest_55 : decode cX3_soonest 55 = .ok (.invokevirtual 194, 3) := dk_182 0 194 (dk_at dksX3_soonest_2 8 rfl rfl)
theorem dX3_soonest_58 : decode cX3_soonest 58 = .ok (.aload_n 0, 1) := dk_42 (dk_at dksX3_soonest_2 11 rfl rfl)
theorem dX3_soonest_59 : decode cX3_soonest 59 = .ok (.getfield 310, 3) := dk_180 1 54 (dk_at dksX3_soonest_2 12 rfl rfl)
theorem dX3_soonest_62 : decode cX3_soonest 62 = .ok (.iconst (-1), 1) := dk_2 (dk_at dksX3_soonest_2 15 rfl rfl)
theorem dX3_soonest_63 : decode cX3_soonest 63 = .ok (.if_icmp .eq 7, 3) := dk_159 0 7 (dk_at dksX3_soonest_2 16 rfl rfl)
theorem dX3_soonest_66 : decode cX3_soonest 66 = .ok (.iconst 1, 1) := dk_4 (dk_at dksX3_soonest_2 19 rfl rfl)
theorem dX3_soonest_67 : decode cX3_soonest 67 = .ok (.goto 4, 3) := dk_167 0 4 (dk_at dksX3_soonest_2 20 rfl rfl)
theorem dX3_soonest_70 : decode cX3_soonest 70 = .ok (.iconst 0, 1) := dk_3 (dk_at dksX3_soonest_2 23 rfl rfl)
theorem dX3_soonest_71 : decode cX3_soonest 71 = .ok (.istore 8, 2) := dk_54 8 (dk_at dksX3_soonest_3 0 rfl rfl)
theorem dX3_soonest_73 : decode cX3_soonest 73 = .ok (.aload_n 0, 1) := dk_42 (dk_at dksX3_soonest_3 2 rfl rfl)
theorem dX3_soonest_74 : decode cX3_soonest 74 = .ok (.iconst 0, 1) := dk_3 (dk_at dksX3_soonest_3 3 rfl rfl)
theorem dX3_soonest_75 : decode cX3_soonest 75 = .ok (.invokevirtual 390, 3) := dk_182 1 134 (dk_at dksX3_soonest_3 4 rfl rfl)
theorem dX3_soonest_78 : decode cX3_soonest 78 = .ok (.iload 8, 2) := dk_21 8 (dk_at dksX3_soonest_3 7 rfl rfl)
theorem dX3_soonest_80 : decode cX3_soonest 80 = .ok (.ifCond .eq 6, 3) := dk_153 0 6 (dk_at dksX3_soonest_3 9 rfl rfl)
theorem dX3_soonest_83 : decode cX3_soonest 83 = .ok (.iload 7, 2) := dk_21 7 (dk_at dksX3_soonest_3 12 rfl rfl)
theorem dX3_soonest_85 : decode cX3_soonest 85 = .ok (.ireturn, 1) := dk_172 (dk_at dksX3_soonest_3 14 rfl rfl)
theorem dX3_soonest_86 : decode cX3_soonest 86 = .ok (.iinc 7 1, 3) := dk_132 7 1 (dk_at dksX3_soonest_3 15 rfl rfl)
theorem dX3_soonest_89 : decode cX3_soonest 89 = .ok (.goto (-62), 3) := dk_167 255 194 (dk_at dksX3_soonest_3 18 rfl rfl)
theorem dX3_soonest_92 : decode cX3_soonest 92 = .ok (.iconst (-1), 1) := dk_2 (dk_at dksX3_soonest_3 21 rfl rfl)
theorem dX3_soonest_93 : decode cX3_soonest 93 = .ok (.ireturn, 1) := dk_172 (dk_at dksX3_soonest_3 22 rfl rfl)
abbrev cX3_lateCalls : ByteArray := prog_23_method_117_code
def yX3_lateCalls : MethodName := ⟨RX3, "lateCalls", "()I"⟩
def dkwX3_lateCalls_2 : List UInt8 := [167, 0, 4, 3, 128, 60, 132, 2, 1, 167, 255, 214, 27, 172]
abbrev dktX3_lateCalls_2 : List UInt8 := dkwX3_lateCalls_2 ++ []
def dkwX3_lateCalls_1 : List UInt8 := [42, 28, 16, 6, 182, 0, 211, 4, 160, 0, 17, 42, 28, 182, 1, 137, 158, 0, 9, 4, 28, 120]
abbrev dktX3_lateCalls_1 : List UInt8 := dkwX3_lateCalls_1 ++ dktX3_lateCalls_2
def dkwX3_lateCalls_0 : List UInt8 := [42, 182, 1, 96, 153, 0, 5, 3, 172, 3, 60, 3, 61, 28, 42, 180, 0, 7, 4, 46, 162, 0, 38, 27]
abbrev dktX3_lateCalls_0 : List UInt8 := dkwX3_lateCalls_0 ++ dktX3_lateCalls_1
theorem dksX3_lateCalls_0 : cX3_lateCalls.data.toList.drop 0 = dktX3_lateCalls_0 := by decide +kernel
theorem dksX3_lateCalls_1 : cX3_lateCalls.data.toList.drop 24 = dktX3_lateCalls_1 := dk_seg dksX3_lateCalls_0 24 rfl rfl
theorem dksX3_lateCalls_2 : cX3_lateCalls.data.toList.drop 46 = dktX3_lateCalls_2 := dk_seg dksX3_lateCalls_1 22 rfl rfl
theorem dX3_lateCalls_0 : decode cX3_lateCalls 0 = .ok (.aload_n 0, 1) := dk_42 (dk_at dksX3_lateCalls_0 0 rfl rfl)
theorem dX3_lateCalls_1 : decode cX3_lateCalls 1 = .ok (.invokevirtual 352, 3) := dk_182 1 96 (dk_at dksX3_lateCalls_0 1 rfl rfl)
theorem dX3_lateCalls_4 : decode cX3_lateCalls 4 = .ok (.ifCond .eq 5, 3) := dk_153 0 5 (dk_at dksX3_lateCalls_0 4 rfl rfl)
theorem dX3_lateCalls_7 : decode cX3_lateCalls 7 = .ok (.iconst 0, 1) := dk_3 (dk_at dksX3_lateCalls_0 7 rfl rfl)
theorem dX3_lateCalls_8 : decode cX3_lateCalls 8 = .ok (.ireturn, 1) := dk_172 (dk_at dksX3_lateCalls_0 8 rfl rfl)
theorem dX3_lateCalls_9 : decode cX3_lateCalls 9 = .ok (.iconst 0, 1) := dk_3 (dk_at dksX3_lateCalls_0 9 rfl rfl)
theorem dX3_lateCalls_10 : decode cX3_lateCalls 10 = .ok (.istore_n 1, 1) := dk_60 (dk_at dksX3_lateCalls_0 10 rfl rfl)
theorem dX3_lateCalls_11 : decode cX3_lateCalls 11 = .ok (.iconst 0, 1) := dk_3 (dk_at dksX3_lateCalls_0 11 rfl rfl)
theorem dX3_lateCalls_12 : decode cX3_lateCalls 12 = .ok (.istore_n 2, 1) := dk_61 (dk_at dksX3_lateCalls_0 12 rfl rfl)
theorem dX3_lateCalls_13 : decode cX3_lateCalls 13 = .ok (.iload_n 2, 1) := dk_28 (dk_at dksX3_lateCalls_0 13 rfl rfl)
theorem dX3_lateCalls_14 : decode cX3_lateCalls 14 = .ok (.aload_n 0, 1) := dk_42 (dk_at dksX3_lateCalls_0 14 rfl rfl)
theorem dX3_lateCalls_15 : decode cX3_lateCalls 15 = .ok (.getfield 7, 3) := dk_180 0 7 (dk_at dksX3_lateCalls_0 15 rfl rfl)
theorem dX3_lateCalls_18 : decode cX3_lateCalls 18 = .ok (.iconst 1, 1) := dk_4 (dk_at dksX3_lateCalls_0 18 rfl rfl)
theorem dX3_lateCalls_19 : decode cX3_lateCalls 19 = .ok (.iaload, 1) := dk_46 (dk_at dksX3_lateCalls_0 19 rfl rfl)
theorem dX3_lateCalls_20 : decode cX3_lateCalls 20 = .ok (.if_icmp .ge 38, 3) := dk_162 0 38 (dk_at dksX3_lateCalls_0 20 rfl rfl)
theorem dX3_lateCalls_23 : decode cX3_lateCalls 23 = .ok (.iload_n 1, 1) := dk_27 (dk_at dksX3_lateCalls_0 23 rfl rfl)
theorem dX3_lateCalls_24 : decode cX3_lateCalls 24 = .ok (.aload_n 0, 1) := dk_42 (dk_at dksX3_lateCalls_1 0 rfl rfl)
theorem dX3_lateCalls_25 : decode cX3_lateCalls 25 = .ok (.iload_n 2, 1) := dk_28 (dk_at dksX3_lateCalls_1 1 rfl rfl)
theorem dX3_lateCalls_26 : decode cX3_lateCalls 26 = .ok (.bipush 6, 2) := dk_16 6 (dk_at dksX3_lateCalls_1 2 rfl rfl)
theorem dX3_lateCalls_28 : decode cX3_lateCalls 28 = .ok (.invokevirtual 211, 3) := dk_182 0 211 (dk_at dksX3_lateCalls_1 4 rfl rfl)
theorem dX3_lateCalls_31 : decode cX3_lateCalls 31 = .ok (.iconst 1, 1) := dk_4 (dk_at dksX3_lateCalls_1 7 rfl rfl)
theorem dX3_lateCalls_32 : decode cX3_lateCalls 32 = .ok (.if_icmp .ne 17, 3) := dk_160 0 17 (dk_at dksX3_lateCalls_1 8 rfl rfl)
theorem dX3_lateCalls_35 : decode cX3_lateCalls 35 = .ok (.aload_n 0, 1) := dk_42 (dk_at dksX3_lateCalls_1 11 rfl rfl)
theorem dX3_lateCalls_36 : decode cX3_lateCalls 36 = .ok (.iload_n 2, 1) := dk_28 (dk_at dksX3_lateCalls_1 12 rfl rfl)
theorem dX3_lateCalls_37 : decode cX3_lateCalls 37 = .ok (.invokevirtual 393, 3) := dk_182 1 137 (dk_at dksX3_lateCalls_1 13 rfl rfl)
theorem dX3_lateCalls_40 : decode cX3_lateCalls 40 = .ok (.ifCond .le 9, 3) := dk_158 0 9 (dk_at dksX3_lateCalls_1 16 rfl rfl)
theorem dX3_lateCalls_43 : decode cX3_lateCalls 43 = .ok (.iconst 1, 1) := dk_4 (dk_at dksX3_lateCalls_1 19 rfl rfl)
theorem dX3_lateCalls_44 : decode cX3_lateCalls 44 = .ok (.iload_n 2, 1) := dk_28 (dk_at dksX3_lateCalls_1 20 rfl rfl)
theorem dX3_lateCalls_45 : decode cX3_lateCalls 45 = .ok (.ishl, 1) := dk_120 (dk_at dksX3_lateCalls_1 21 rfl rfl)
theorem dX3_lateCalls_46 : decode cX3_lateCalls 46 = .ok (.goto 4, 3) := dk_167 0 4 (dk_at dksX3_lateCalls_2 0 rfl rfl)
theorem dX3_lateCalls_49 : decode cX3_lateCalls 49 = .ok (.iconst 0, 1) := dk_3 (dk_at dksX3_lateCalls_2 3 rfl rfl)
theorem dX3_lateCalls_50 : decode cX3_lateCalls 50 = .ok (.ior, 1) := dk_128 (dk_at dksX3_lateCalls_2 4 rfl rfl)
theorem dX3_lateCalls_51 : decode cX3_lateCalls 51 = .ok (.istore_n 1, 1) := dk_60 (dk_at dksX3_lateCalls_2 5 rfl rfl)
theorem dX3_lateCalls_52 : decode cX3_lateCalls 52 = .ok (.iinc 2 1, 3) := dk_132 2 1 (dk_at dksX3_lateCalls_2 6 rfl rfl)
theorem dX3_lateCalls_55 : decode cX3_lateCalls 55 = .ok (.goto (-42), 3) := dk_167 255 214 (dk_at dksX3_lateCalls_2 9 rfl rfl)
theorem dX3_lateCalls_58 : decode cX3_lateCalls 58 = .ok (.iload_n 1, 1) := dk_27 (dk_at dksX3_lateCalls_2 12 rfl rfl)
theorem dX3_lateCalls_59 : decode cX3_lateCalls 59 = .ok (.ireturn, 1) := dk_172 (dk_at dksX3_lateCalls_2 13 rfl rfl)
abbrev cX3_lateness : ByteArray := prog_23_method_116_code
def yX3_lateness : MethodName := ⟨RX3, "lateness", "(I)I"⟩
def dkwX3_lateness_1 : List UInt8 := [158, 0, 7, 28, 167, 0, 4, 3, 172]
abbrev dktX3_lateness_1 : List UInt8 := dkwX3_lateness_1 ++ []
def dkwX3_lateness_0 : List UInt8 := [42, 27, 3, 182, 1, 121, 42, 27, 16, 7, 182, 0, 211, 100, 42, 180, 0, 33, 8, 46, 100, 61, 28]
abbrev dktX3_lateness_0 : List UInt8 := dkwX3_lateness_0 ++ dktX3_lateness_1
theorem dksX3_lateness_0 : cX3_lateness.data.toList.drop 0 = dktX3_lateness_0 := by decide +kernel
theorem dksX3_lateness_1 : cX3_lateness.data.toList.drop 23 = dktX3_lateness_1 := dk_seg dksX3_lateness_0 23 rfl rfl
theorem dX3_lateness_0 : decode cX3_lateness 0 = .ok (.aload_n 0, 1) := dk_42 (dk_at dksX3_lateness_0 0 rfl rfl)
theorem dX3_lateness_1 : decode cX3_lateness 1 = .ok (.iload_n 1, 1) := dk_27 (dk_at dksX3_lateness_0 1 rfl rfl)
theorem dX3_lateness_2 : decode cX3_lateness 2 = .ok (.iconst 0, 1) := dk_3 (dk_at dksX3_lateness_0 2 rfl rfl)
theorem dX3_lateness_3 : decode cX3_lateness 3 = .ok (.invokevirtual 377, 3) := dk_182 1 121 (dk_at dksX3_lateness_0 3 rfl rfl)
theorem dX3_lateness_6 : decode cX3_lateness 6 = .ok (.aload_n 0, 1) := dk_42 (dk_at dksX3_lateness_0 6 rfl rfl)
theorem dX3_lateness_7 : decode cX3_lateness 7 = .ok (.iload_n 1, 1) := dk_27 (dk_at dksX3_lateness_0 7 rfl rfl)
theorem dX3_lateness_8 : decode cX3_lateness 8 = .ok (.bipush 7, 2) := dk_16 7 (dk_at dksX3_lateness_0 8 rfl rfl)
theorem dX3_lateness_10 : decode cX3_lateness 10 = .ok (.invokevirtual 211, 3) := dk_182 0 211 (dk_at dksX3_lateness_0 10 rfl rfl)
theorem dX3_lateness_13 : decode cX3_lateness 13 = .ok (.isub, 1) := dk_100 (dk_at dksX3_lateness_0 13 rfl rfl)
theorem dX3_lateness_14 : decode cX3_lateness 14 = .ok (.aload_n 0, 1) := dk_42 (dk_at dksX3_lateness_0 14 rfl rfl)
theorem dX3_lateness_15 : decode cX3_lateness 15 = .ok (.getfield 33, 3) := dk_180 0 33 (dk_at dksX3_lateness_0 15 rfl rfl)
theorem dX3_lateness_18 : decode cX3_lateness 18 = .ok (.iconst 5, 1) := dk_8 (dk_at dksX3_lateness_0 18 rfl rfl)
theorem dX3_lateness_19 : decode cX3_lateness 19 = .ok (.iaload, 1) := dk_46 (dk_at dksX3_lateness_0 19 rfl rfl)
theorem dX3_lateness_20 : decode cX3_lateness 20 = .ok (.isub, 1) := dk_100 (dk_at dksX3_lateness_0 20 rfl rfl)
theorem dX3_lateness_21 : decode cX3_lateness 21 = .ok (.istore_n 2, 1) := dk_61 (dk_at dksX3_lateness_0 21 rfl rfl)
theorem dX3_lateness_22 : decode cX3_lateness 22 = .ok (.iload_n 2, 1) := dk_28 (dk_at dksX3_lateness_0 22 rfl rfl)
theorem dX3_lateness_23 : decode cX3_lateness 23 = .ok (.ifCond .le 7, 3) := dk_158 0 7 (dk_at dksX3_lateness_1 0 rfl rfl)
theorem dX3_lateness_26 : decode cX3_lateness 26 = .ok (.iload_n 2, 1) := dk_28 (dk_at dksX3_lateness_1 3 rfl rfl)
theorem dX3_lateness_27 : decode cX3_lateness 27 = .ok (.goto 4, 3) := dk_167 0 4 (dk_at dksX3_lateness_1 4 rfl rfl)
theorem dX3_lateness_30 : decode cX3_lateness 30 = .ok (.iconst 0, 1) := dk_3 (dk_at dksX3_lateness_1 7 rfl rfl)
theorem dX3_lateness_31 : decode cX3_lateness 31 = .ok (.ireturn, 1) := dk_172 (dk_at dksX3_lateness_1 8 rfl rfl)
abbrev cX3_expectedCredits : ByteArray := prog_23_method_118_code
def yX3_expectedCredits : MethodName := ⟨RX3, "expectedCredits", "()I"⟩
def dkwX3_expectedCredits_2 : List UInt8 := [167, 0, 10, 42, 28, 16, 8, 182, 0, 211, 96, 60, 132, 2, 1, 167, 255, 206, 27, 172]
abbrev dktX3_expectedCredits_2 : List UInt8 := dkwX3_expectedCredits_2 ++ []
def dkwX3_expectedCredits_1 : List UInt8 := [42, 28, 16, 6, 182, 0, 211, 4, 160, 0, 19, 42, 180, 0, 33, 16, 6, 46, 42, 28, 182, 1, 137, 104]
abbrev dktX3_expectedCredits_1 : List UInt8 := dkwX3_expectedCredits_1 ++ dktX3_expectedCredits_2
def dkwX3_expectedCredits_0 : List UInt8 := [42, 182, 1, 96, 153, 0, 5, 3, 172, 3, 60, 3, 61, 28, 42, 180, 0, 7, 4, 46, 162, 0, 46, 27]
abbrev dktX3_expectedCredits_0 : List UInt8 := dkwX3_expectedCredits_0 ++ dktX3_expectedCredits_1
theorem dksX3_expectedCredits_0 : cX3_expectedCredits.data.toList.drop 0 = dktX3_expectedCredits_0 := by decide +kernel
theorem dksX3_expectedCredits_1 : cX3_expectedCredits.data.toList.drop 24 = dktX3_expectedCredits_1 := dk_seg dksX3_expectedCredits_0 24 rfl rfl
theorem dksX3_expectedCredits_2 : cX3_expectedCredits.data.toList.drop 48 = dktX3_expectedCredits_2 := dk_seg dksX3_expectedCredits_1 24 rfl rfl
theorem dX3_expectedCredits_0 : decode cX3_expectedCredits 0 = .ok (.aload_n 0, 1) := dk_42 (dk_at dksX3_expectedCredits_0 0 rfl rfl)
theorem dX3_expectedCredits_1 : decode cX3_expectedCredits 1 = .ok (.invokevirtual 352, 3) := dk_182 1 96 (dk_at dksX3_expectedCredits_0 1 rfl rfl)
theorem dX3_expectedCredits_4 : decode cX3_expectedCredits 4 = .ok (.ifCond .eq 5, 3) := dk_153 0 5 (dk_at dksX3_expectedCredits_0 4 rfl rfl)
theorem dX3_expectedCredits_7 : decode cX3_expectedCredits 7 = .ok (.iconst 0, 1) := dk_3 (dk_at dksX3_expectedCredits_0 7 rfl rfl)
theorem dX3_expectedCredits_8 : decode cX3_expectedCredits 8 = .ok (.ireturn, 1) := dk_172 (dk_at dksX3_expectedCredits_0 8 rfl rfl)
theorem dX3_expectedCredits_9 : decode cX3_expectedCredits 9 = .ok (.iconst 0, 1) := dk_3 (dk_at dksX3_expectedCredits_0 9 rfl rfl)
theorem dX3_expectedCredits_10 : decode cX3_expectedCredits 10 = .ok (.istore_n 1, 1) := dk_60 (dk_at dksX3_expectedCredits_0 10 rfl rfl)
theorem dX3_expectedCredits_11 : decode cX3_expectedCredits 11 = .ok (.iconst 0, 1) := dk_3 (dk_at dksX3_expectedCredits_0 11 rfl rfl)
theorem dX3_expectedCredits_12 : decode cX3_expectedCredits 12 = .ok (.istore_n 2, 1) := dk_61 (dk_at dksX3_expectedCredits_0 12 rfl rfl)
theorem dX3_expectedCredits_13 : decode cX3_expectedCredits 13 = .ok (.iload_n 2, 1) := dk_28 (dk_at dksX3_expectedCredits_0 13 rfl rfl)
theorem dX3_expectedCredits_14 : decode cX3_expectedCredits 14 = .ok (.aload_n 0, 1) := dk_42 (dk_at dksX3_expectedCredits_0 14 rfl rfl)
theorem dX3_expectedCredits_15 : decode cX3_expectedCredits 15 = .ok (.getfield 7, 3) := dk_180 0 7 (dk_at dksX3_expectedCredits_0 15 rfl rfl)
theorem dX3_expectedCredits_18 : decode cX3_expectedCredits 18 = .ok (.iconst 1, 1) := dk_4 (dk_at dksX3_expectedCredits_0 18 rfl rfl)
theorem dX3_expectedCredits_19 : decode cX3_expectedCredits 19 = .ok (.iaload, 1) := dk_46 (dk_at dksX3_expectedCredits_0 19 rfl rfl)
theorem dX3_expectedCredits_20 : decode cX3_expectedCredits 20 = .ok (.if_icmp .ge 46, 3) := dk_162 0 46 (dk_at dksX3_expectedCredits_0 20 rfl rfl)
theorem dX3_expectedCredits_23 : decode cX3_expectedCredits 23 = .ok (.iload_n 1, 1) := dk_27 (dk_at dksX3_expectedCredits_0 23 rfl rfl)
theorem dX3_expectedCredits_24 : decode cX3_expectedCredits 24 = .ok (.aload_n 0, 1) := dk_42 (dk_at dksX3_expectedCredits_1 0 rfl rfl)
theorem dX3_expectedCredits_25 : decode cX3_expectedCredits 25 = .ok (.iload_n 2, 1) := dk_28 (dk_at dksX3_expectedCredits_1 1 rfl rfl)
theorem dX3_expectedCredits_26 : decode cX3_expectedCredits 26 = .ok (.bipush 6, 2) := dk_16 6 (dk_at dksX3_expectedCredits_1 2 rfl rfl)
theorem dX3_expectedCredits_28 : decode cX3_expectedCredits 28 = .ok (.invokevirtual 211, 3) := dk_182 0 211 (dk_at dksX3_expectedCredits_1 4 rfl rfl)
theorem dX3_expectedCredits_31 : decode cX3_expectedCredits 31 = .ok (.iconst 1, 1) := dk_4 (dk_at dksX3_expectedCredits_1 7 rfl rfl)
theorem dX3_expectedCredits_32 : decode cX3_expectedCredits 32 = .ok (.if_icmp .ne 19, 3) := dk_160 0 19 (dk_at dksX3_expectedCredits_1 8 rfl rfl)
theorem dX3_expectedCredits_35 : decode cX3_expectedCredits 35 = .ok (.aload_n 0, 1) := dk_42 (dk_at dksX3_expectedCredits_1 11 rfl rfl)
theorem dX3_expectedCredits_36 : decode cX3_expectedCredits 36 = .ok (.getfield 33, 3) := dk_180 0 33 (dk_at dksX3_expectedCredits_1 12 rfl rfl)
theorem dX3_expectedCredits_39 : decode cX3_expectedCredits 39 = .ok (.bipush 6, 2) := dk_16 6 (dk_at dksX3_expectedCredits_1 15 rfl rfl)
theorem dX3_expectedCredits_41 : decode cX3_expectedCredits 41 = .ok (.iaload, 1) := dk_46 (dk_at dksX3_expectedCredits_1 17 rfl rfl)
theorem dX3_expectedCredits_42 : decode cX3_expectedCredits 42 = .ok (.aload_n 0, 1) := dk_42 (dk_at dksX3_expectedCredits_1 18 rfl rfl)
theorem dX3_expectedCredits_43 : decode cX3_expectedCredits 43 = .ok (.iload_n 2, 1) := dk_28 (dk_at dksX3_expectedCredits_1 19 rfl rfl)
theorem dX3_expectedCredits_44 : decode cX3_expectedCredits 44 = .ok (.invokevirtual 393, 3) := dk_182 1 137 (dk_at dksX3_expectedCredits_1 20 rfl rfl)
theorem dX3_expectedCredits_47 : decode cX3_expectedCredits 47 = .ok (.imul, 1) := dk_104 (dk_at dksX3_expectedCredits_1 23 rfl rfl)
theorem dX3_expectedCredits_48 : decode cX3_expectedCredits 48 = .ok (.goto 10, 3) := dk_167 0 10 (dk_at dksX3_expectedCredits_2 0 rfl rfl)
theorem dX3_expectedCredits_51 : decode cX3_expectedCredits 51 = .ok (.aload_n 0, 1) := dk_42 (dk_at dksX3_expectedCredits_2 3 rfl rfl)
theorem dX3_expectedCredits_52 : decode cX3_expectedCredits 52 = .ok (.iload_n 2, 1) := dk_28 (dk_at dksX3_expectedCredits_2 4 rfl rfl)
theorem dX3_expectedCredits_53 : decode cX3_expectedCredits 53 = .ok (.bipush 8, 2) := dk_16 8 (dk_at dksX3_expectedCredits_2 5 rfl rfl)
theorem dX3_expectedCredits_55 : decode cX3_expectedCredits 55 = .ok (.invokevirtual 211, 3) := dk_182 0 211 (dk_at dksX3_expectedCredits_2 7 rfl rfl)
theorem dX3_expectedCredits_58 : decode cX3_expectedCredits 58 = .ok (.iadd, 1) := dk_96 (dk_at dksX3_expectedCredits_2 10 rfl rfl)
theorem dX3_expectedCredits_59 : decode cX3_expectedCredits 59 = .ok (.istore_n 1, 1) := dk_60 (dk_at dksX3_expectedCredits_2 11 rfl rfl)
theorem dX3_expectedCredits_60 : decode cX3_expectedCredits 60 = .ok (.iinc 2 1, 3) := dk_132 2 1 (dk_at dksX3_expectedCredits_2 12 rfl rfl)
theorem dX3_expectedCredits_63 : decode cX3_expectedCredits 63 = .ok (.goto (-50), 3) := dk_167 255 206 (dk_at dksX3_expectedCredits_2 15 rfl rfl)
theorem dX3_expectedCredits_66 : decode cX3_expectedCredits 66 = .ok (.iload_n 1, 1) := dk_27 (dk_at dksX3_expectedCredits_2 18 rfl rfl)
theorem dX3_expectedCredits_67 : decode cX3_expectedCredits 67 = .ok (.ireturn, 1) := dk_172 (dk_at dksX3_expectedCredits_2 19 rfl rfl)
abbrev cX3_freeVan : ByteArray := prog_23_method_120_code
def yX3_freeVan : MethodName := ⟨RX3, "freeVan", "(II)I"⟩
def dkwX3_freeVan_4 : List UInt8 := [164, 0, 8, 21, 6, 167, 0, 5, 21, 4, 54, 4, 132, 5, 1, 167, 255, 201, 29, 172]
abbrev dktX3_freeVan_4 : List UInt8 := dkwX3_freeVan_4 ++ []
def dkwX3_freeVan_3 : List UInt8 := [182, 1, 140, 54, 6, 21, 6, 21, 4, 164, 0, 8, 21, 5, 167, 0, 4, 29, 62, 21, 6, 21, 4]
abbrev dktX3_freeVan_3 : List UInt8 := dkwX3_freeVan_3 ++ dktX3_freeVan_4
def dkwX3_freeVan_2 : List UInt8 := [54, 4, 3, 54, 5, 21, 5, 42, 180, 0, 33, 16, 8, 46, 162, 0, 49, 42, 21, 5, 27, 28]
abbrev dktX3_freeVan_2 : List UInt8 := dkwX3_freeVan_2 ++ dktX3_freeVan_3
def dkwX3_freeVan_1 : List UInt8 := [184, 0, 124, 154, 0, 7, 4, 167, 0, 4, 3, 5, 182, 0, 55, 153, 0, 5, 3, 172, 2, 62, 3]
abbrev dktX3_freeVan_1 : List UInt8 := dkwX3_freeVan_1 ++ dktX3_freeVan_2
def dkwX3_freeVan_0 : List UInt8 := [42, 182, 1, 96, 154, 0, 36, 42, 27, 3, 17, 5, 160, 184, 0, 124, 153, 0, 12, 28, 3, 5]
abbrev dktX3_freeVan_0 : List UInt8 := dkwX3_freeVan_0 ++ dktX3_freeVan_1
theorem dksX3_freeVan_0 : cX3_freeVan.data.toList.drop 0 = dktX3_freeVan_0 := by decide +kernel
theorem dksX3_freeVan_1 : cX3_freeVan.data.toList.drop 22 = dktX3_freeVan_1 := dk_seg dksX3_freeVan_0 22 rfl rfl
theorem dksX3_freeVan_2 : cX3_freeVan.data.toList.drop 45 = dktX3_freeVan_2 := dk_seg dksX3_freeVan_1 23 rfl rfl
theorem dksX3_freeVan_3 : cX3_freeVan.data.toList.drop 67 = dktX3_freeVan_3 := dk_seg dksX3_freeVan_2 22 rfl rfl
theorem dksX3_freeVan_4 : cX3_freeVan.data.toList.drop 90 = dktX3_freeVan_4 := dk_seg dksX3_freeVan_3 23 rfl rfl
theorem dX3_freeVan_0 : decode cX3_freeVan 0 = .ok (.aload_n 0, 1) := dk_42 (dk_at dksX3_freeVan_0 0 rfl rfl)
theorem dX3_freeVan_1 : decode cX3_freeVan 1 = .ok (.invokevirtual 352, 3) := dk_182 1 96 (dk_at dksX3_freeVan_0 1 rfl rfl)
theorem dX3_freeVan_4 : decode cX3_freeVan 4 = .ok (.ifCond .ne 36, 3) := dk_154 0 36 (dk_at dksX3_freeVan_0 4 rfl rfl)
theorem dX3_freeVan_7 : decode cX3_freeVan 7 = .ok (.aload_n 0, 1) := dk_42 (dk_at dksX3_freeVan_0 7 rfl rfl)
theorem dX3_freeVan_8 : decode cX3_freeVan 8 = .ok (.iload_n 1, 1) := dk_27 (dk_at dksX3_freeVan_0 8 rfl rfl)
theorem dX3_freeVan_9 : decode cX3_freeVan 9 = .ok (.iconst 0, 1) := dk_3 (dk_at dksX3_freeVan_0 9 rfl rfl)
theorem dX3_freeVan_10 : decode cX3_freeVan 10 = .ok (.sipush 1440, 3) := dk_17 5 160 (dk_at dksX3_freeVan_0 10 rfl rfl)
theorem dX3_freeVan_13 : decode cX3_freeVan 13 = .ok (.invokestatic 124, 3) := dk_184 0 124 (dk_at dksX3_freeVan_0 13 rfl rfl)
theorem dX3_freeVan_16 : decode cX3_freeVan 16 = .ok (.ifCond .eq 12, 3) := dk_153 0 12 (dk_at dksX3_freeVan_0 16 rfl rfl)
theorem dX3_freeVan_19 : decode cX3_freeVan 19 = .ok (.iload_n 2, 1) := dk_28 (dk_at dksX3_freeVan_0 19 rfl rfl)
theorem dX3_freeVan_20 : decode cX3_freeVan 20 = .ok (.iconst 0, 1) := dk_3 (dk_at dksX3_freeVan_0 20 rfl rfl)
theorem dX3_freeVan_21 : decode cX3_freeVan 21 = .ok (.iconst 2, 1) := dk_5 (dk_at dksX3_freeVan_0 21 rfl rfl)
theorem dX3_freeVan_22 : decode cX3_freeVan 22 = .ok (.invokestatic 124, 3) := dk_184 0 124 (dk_at dksX3_freeVan_1 0 rfl rfl)
theorem dX3_freeVan_25 : decode cX3_freeVan 25 = .ok (.ifCond .ne 7, 3) := dk_154 0 7 (dk_at dksX3_freeVan_1 3 rfl rfl)
theorem dX3_freeVan_28 : decode cX3_freeVan 28 = .ok (.iconst 1, 1) := dk_4 (dk_at dksX3_freeVan_1 6 rfl rfl)
theorem dX3_freeVan_29 : decode cX3_freeVan 29 = .ok (.goto 4, 3) := dk_167 0 4 (dk_at dksX3_freeVan_1 7 rfl rfl)
theorem dX3_freeVan_32 : decode cX3_freeVan 32 = .ok (.iconst 0, 1) := dk_3 (dk_at dksX3_freeVan_1 10 rfl rfl)
theorem dX3_freeVan_33 : decode cX3_freeVan 33 = .ok (.iconst 2, 1) := dk_5 (dk_at dksX3_freeVan_1 11 rfl rfl)
theorem dX3_freeVan_34 : decode cX3_freeVan 34 = .ok (.invokevirtual 55, 3) := dk_182 0 55 (dk_at dksX3_freeVan_1 12 rfl rfl)
theorem dX3_freeVan_37 : decode cX3_freeVan 37 = .ok (.ifCond .eq 5, 3) := dk_153 0 5 (dk_at dksX3_freeVan_1 15 rfl rfl)
theorem dX3_freeVan_40 : decode cX3_freeVan 40 = .ok (.iconst 0, 1) := dk_3 (dk_at dksX3_freeVan_1 18 rfl rfl)
theorem dX3_freeVan_41 : decode cX3_freeVan 41 = .ok (.ireturn, 1) := dk_172 (dk_at dksX3_freeVan_1 19 rfl rfl)
theorem dX3_freeVan_42 : decode cX3_freeVan 42 = .ok (.iconst (-1), 1) := dk_2 (dk_at dksX3_freeVan_1 20 rfl rfl)
theorem dX3_freeVan_43 : decode cX3_freeVan 43 = .ok (.istore_n 3, 1) := dk_62 (dk_at dksX3_freeVan_1 21 rfl rfl)
theorem dX3_freeVan_44 : decode cX3_freeVan 44 = .ok (.iconst 0, 1) := dk_3 (dk_at dksX3_freeVan_1 22 rfl rfl)
theorem dX3_freeVan_45 : decode cX3_freeVan 45 = .ok (.istore 4, 2) := dk_54 4 (dk_at dksX3_freeVan_2 0 rfl rfl)
theorem dX3_freeVan_47 : decode cX3_freeVan 47 = .ok (.iconst 0, 1) := dk_3 (dk_at dksX3_freeVan_2 2 rfl rfl)
theorem dX3_freeVan_48 : decode cX3_freeVan 48 = .ok (.istore 5, 2) := dk_54 5 (dk_at dksX3_freeVan_2 3 rfl rfl)
theorem dX3_freeVan_50 : decode cX3_freeVan 50 = .ok (.iload 5, 2) := dk_21 5 (dk_at dksX3_freeVan_2 5 rfl rfl)
theorem dX3_freeVan_52 : decode cX3_freeVan 52 = .ok (.aload_n 0, 1) := dk_42 (dk_at dksX3_freeVan_2 7 rfl rfl)
theorem dX3_freeVan_53 : decode cX3_freeVan 53 = .ok (.getfield 33, 3) := dk_180 0 33 (dk_at dksX3_freeVan_2 8 rfl rfl)
theorem dX3_freeVan_56 : decode cX3_freeVan 56 = .ok (.bipush 8, 2) := dk_16 8 (dk_at dksX3_freeVan_2 11 rfl rfl)
theorem dX3_freeVan_58 : decode cX3_freeVan 58 = .ok (.iaload, 1) := dk_46 (dk_at dksX3_freeVan_2 13 rfl rfl)
theorem dX3_freeVan_59 : decode cX3_freeVan 59 = .ok (.if_icmp .ge 49, 3) := dk_162 0 49 (dk_at dksX3_freeVan_2 14 rfl rfl)
theorem dX3_freeVan_62 : decode cX3_freeVan 62 = .ok (.aload_n 0, 1) := dk_42 (dk_at dksX3_freeVan_2 17 rfl rfl)
theorem dX3_freeVan_63 : decode cX3_freeVan 63 = .ok (.iload 5, 2) := dk_21 5 (dk_at dksX3_freeVan_2 18 rfl rfl)
theorem dX3_freeVan_65 : decode cX3_freeVan 65 = .ok (.iload_n 1, 1) := dk_27 (dk_at dksX3_freeVan_2 20 rfl rfl)
theorem dX3_freeVan_66 : decode cX3_freeVan 66 = .ok (.iload_n 2, 1) := dk_28 (dk_at dksX3_freeVan_2 21 rfl rfl)
theorem dX3_freeVan_67 : decode cX3_freeVan 67 = .ok (.invokevirtual 396, 3) := dk_182 1 140 (dk_at dksX3_freeVan_3 0 rfl rfl)
theorem dX3_freeVan_70 : decode cX3_freeVan 70 = .ok (.istore 6, 2) := dk_54 6 (dk_at dksX3_freeVan_3 3 rfl rfl)
theorem dX3_freeVan_72 : decode cX3_freeVan 72 = .ok (.iload 6, 2) := dk_21 6 (dk_at dksX3_freeVan_3 5 rfl rfl)
theorem dX3_freeVan_74 : decode cX3_freeVan 74 = .ok (.iload 4, 2) := dk_21 4 (dk_at dksX3_freeVan_3 7 rfl rfl)
theorem dX3_freeVan_76 : decode cX3_freeVan 76 = .ok (.if_icmp .le 8, 3) := dk_164 0 8 (dk_at dksX3_freeVan_3 9 rfl rfl)
theorem dX3_freeVan_79 : decode cX3_freeVan 79 = .ok (.iload 5, 2) := dk_21 5 (dk_at dksX3_freeVan_3 12 rfl rfl)
theorem dX3_freeVan_81 : decode cX3_freeVan 81 = .ok (.goto 4, 3) := dk_167 0 4 (dk_at dksX3_freeVan_3 14 rfl rfl)
theorem dX3_freeVan_84 : decode cX3_freeVan 84 = .ok (.iload_n 3, 1) := dk_29 (dk_at dksX3_freeVan_3 17 rfl rfl)
theorem dX3_freeVan_85 : decode cX3_freeVan 85 = .ok (.istore_n 3, 1) := dk_62 (dk_at dksX3_freeVan_3 18 rfl rfl)
theorem dX3_freeVan_86 : decode cX3_freeVan 86 = .ok (.iload 6, 2) := dk_21 6 (dk_at dksX3_freeVan_3 19 rfl rfl)
theorem dX3_freeVan_88 : decode cX3_freeVan 88 = .ok (.iload 4, 2) := dk_21 4 (dk_at dksX3_freeVan_3 21 rfl rfl)
theorem dX3_freeVan_90 : decode cX3_freeVan 90 = .ok (.if_icmp .le 8, 3) := dk_164 0 8 (dk_at dksX3_freeVan_4 0 rfl rfl)
theorem dX3_freeVan_93 : decode cX3_freeVan 93 = .ok (.iload 6, 2) := dk_21 6 (dk_at dksX3_freeVan_4 3 rfl rfl)
theorem dX3_freeVan_95 : decode cX3_freeVan 95 = .ok (.goto 5, 3) := dk_167 0 5 (dk_at dksX3_freeVan_4 5 rfl rfl)
theorem dX3_freeVan_98 : decode cX3_freeVan 98 = .ok (.iload 4, 2) := dk_21 4 (dk_at dksX3_freeVan_4 8 rfl rfl)
theorem dX3_freeVan_100 : decode cX3_freeVan 100 = .ok (.istore 4, 2) := dk_54 4 (dk_at dksX3_freeVan_4 10 rfl rfl)
theorem dX3_freeVan_102 : decode cX3_freeVan 102 = .ok (.iinc 5 1, 3) := dk_132 5 1 (dk_at dksX3_freeVan_4 12 rfl rfl)
theorem dX3_freeVan_105 : decode cX3_freeVan 105 = .ok (.goto (-55), 3) := dk_167 255 201 (dk_at dksX3_freeVan_4 15 rfl rfl)
theorem dX3_freeVan_108 : decode cX3_freeVan 108 = .ok (.iload_n 3, 1) := dk_29 (dk_at dksX3_freeVan_4 18 rfl rfl)
theorem dX3_freeVan_109 : decode cX3_freeVan 109 = .ok (.ireturn, 1) := dk_172 (dk_at dksX3_freeVan_4 19 rfl rfl)
abbrev cX3_freeAt : ByteArray := prog_23_method_119_code
def yX3_freeAt : MethodName := ⟨RX3, "freeAt", "(III)I"⟩
def dkwX3_freeAt_4 : List UInt8 := [54, 7, 29, 154, 0, 8, 21, 5, 167, 0, 15, 29, 4, 160, 0, 8, 21, 6, 167, 0, 5, 21, 7, 172]
abbrev dktX3_freeAt_4 : List UInt8 := dkwX3_freeAt_4 ++ []
def dkwX3_freeAt_3 : List UInt8 := [21, 4, 4, 182, 1, 3, 100, 54, 6, 21, 5, 21, 6, 162, 0, 8, 21, 5, 167, 0, 5, 21, 6]
abbrev dktX3_freeAt_3 : List UInt8 := dkwX3_freeAt_3 ++ dktX3_freeAt_4
def dkwX3_freeAt_2 : List UInt8 := [5, 182, 0, 192, 42, 27, 21, 4, 3, 182, 1, 3, 100, 54, 5, 42, 27, 6, 182, 0, 192, 42, 27]
abbrev dktX3_freeAt_2 : List UInt8 := dkwX3_freeAt_2 ++ dktX3_freeAt_3
def dkwX3_freeAt_1 : List UInt8 := [182, 0, 213, 28, 163, 0, 8, 21, 5, 167, 0, 5, 21, 4, 54, 4, 132, 5, 1, 167, 255, 219, 42, 27]
abbrev dktX3_freeAt_1 : List UInt8 := dkwX3_freeAt_1 ++ dktX3_freeAt_2
def dkwX3_freeAt_0 : List UInt8 := [2, 54, 4, 3, 54, 5, 21, 5, 42, 180, 0, 7, 16, 6, 27, 96, 46, 162, 0, 29, 42, 27, 21, 5]
abbrev dktX3_freeAt_0 : List UInt8 := dkwX3_freeAt_0 ++ dktX3_freeAt_1
theorem dksX3_freeAt_0 : cX3_freeAt.data.toList.drop 0 = dktX3_freeAt_0 := by decide +kernel
theorem dksX3_freeAt_1 : cX3_freeAt.data.toList.drop 24 = dktX3_freeAt_1 := dk_seg dksX3_freeAt_0 24 rfl rfl
theorem dksX3_freeAt_2 : cX3_freeAt.data.toList.drop 48 = dktX3_freeAt_2 := dk_seg dksX3_freeAt_1 24 rfl rfl
theorem dksX3_freeAt_3 : cX3_freeAt.data.toList.drop 71 = dktX3_freeAt_3 := dk_seg dksX3_freeAt_2 23 rfl rfl
theorem dksX3_freeAt_4 : cX3_freeAt.data.toList.drop 94 = dktX3_freeAt_4 := dk_seg dksX3_freeAt_3 23 rfl rfl
theorem dX3_freeAt_0 : decode cX3_freeAt 0 = .ok (.iconst (-1), 1) := dk_2 (dk_at dksX3_freeAt_0 0 rfl rfl)
theorem dX3_freeAt_1 : decode cX3_freeAt 1 = .ok (.istore 4, 2) := dk_54 4 (dk_at dksX3_freeAt_0 1 rfl rfl)
theorem dX3_freeAt_3 : decode cX3_freeAt 3 = .ok (.iconst 0, 1) := dk_3 (dk_at dksX3_freeAt_0 3 rfl rfl)
theorem dX3_freeAt_4 : decode cX3_freeAt 4 = .ok (.istore 5, 2) := dk_54 5 (dk_at dksX3_freeAt_0 4 rfl rfl)
theorem dX3_freeAt_6 : decode cX3_freeAt 6 = .ok (.iload 5, 2) := dk_21 5 (dk_at dksX3_freeAt_0 6 rfl rfl)
theorem dX3_freeAt_8 : decode cX3_freeAt 8 = .ok (.aload_n 0, 1) := dk_42 (dk_at dksX3_freeAt_0 8 rfl rfl)
theorem dX3_freeAt_9 : decode cX3_freeAt 9 = .ok (.getfield 7, 3) := dk_180 0 7 (dk_at dksX3_freeAt_0 9 rfl rfl)
theorem dX3_freeAt_12 : decode cX3_freeAt 12 = .ok (.bipush 6, 2) := dk_16 6 (dk_at dksX3_freeAt_0 12 rfl rfl)
theorem dX3_freeAt_14 : decode cX3_freeAt 14 = .ok (.iload_n 1, 1) := dk_27 (dk_at dksX3_freeAt_0 14 rfl rfl)
theorem dX3_freeAt_15 : decode cX3_freeAt 15 = .ok (.iadd, 1) := dk_96 (dk_at dksX3_freeAt_0 15 rfl rfl)
theorem dX3_freeAt_16 : decode cX3_freeAt 16 = .ok (.iaload, 1) := dk_46 (dk_at dksX3_freeAt_0 16 rfl rfl)
theorem dX3_freeAt_17 : decode cX3_freeAt 17 = .ok (.if_icmp .ge 29, 3) := dk_162 0 29 (dk_at dksX3_freeAt_0 17 rfl rfl)
theorem dX3_freeAt_20 : decode cX3_freeAt 20 = .ok (.aload_n 0, 1) := dk_42 (dk_at dksX3_freeAt_0 20 rfl rfl)
theorem dX3_freeAt_21 : decode cX3_freeAt 21 = .ok (.iload_n 1, 1) := dk_27 (dk_at dksX3_freeAt_0 21 rfl rfl)
theorem dX3_freeAt_22 : decode cX3_freeAt 22 = .ok (.iload 5, 2) := dk_21 5 (dk_at dksX3_freeAt_0 22 rfl rfl)
theorem dX3_freeAt_24 : decode cX3_freeAt 24 = .ok (.invokevirtual 213, 3) := dk_182 0 213 (dk_at dksX3_freeAt_1 0 rfl rfl)
theorem dX3_freeAt_27 : decode cX3_freeAt 27 = .ok (.iload_n 2, 1) := dk_28 (dk_at dksX3_freeAt_1 3 rfl rfl)
theorem dX3_freeAt_28 : decode cX3_freeAt 28 = .ok (.if_icmp .gt 8, 3) := dk_163 0 8 (dk_at dksX3_freeAt_1 4 rfl rfl)
theorem dX3_freeAt_31 : decode cX3_freeAt 31 = .ok (.iload 5, 2) := dk_21 5 (dk_at dksX3_freeAt_1 7 rfl rfl)
theorem dX3_freeAt_33 : decode cX3_freeAt 33 = .ok (.goto 5, 3) := dk_167 0 5 (dk_at dksX3_freeAt_1 9 rfl rfl)
theorem dX3_freeAt_36 : decode cX3_freeAt 36 = .ok (.iload 4, 2) := dk_21 4 (dk_at dksX3_freeAt_1 12 rfl rfl)
theorem dX3_freeAt_38 : decode cX3_freeAt 38 = .ok (.istore 4, 2) := dk_54 4 (dk_at dksX3_freeAt_1 14 rfl rfl)
theorem dX3_freeAt_40 : decode cX3_freeAt 40 = .ok (.iinc 5 1, 3) := dk_132 5 1 (dk_at dksX3_freeAt_1 16 rfl rfl)
theorem dX3_freeAt_43 : decode cX3_freeAt 43 = .ok (.goto (-37), 3) := dk_167 255 219 (dk_at dksX3_freeAt_1 19 rfl rfl)
theorem dX3_freeAt_46 : decode cX3_freeAt 46 = .ok (.aload_n 0, 1) := dk_42 (dk_at dksX3_freeAt_1 22 rfl rfl)
theorem dX3_freeAt_47 : decode cX3_freeAt 47 = .ok (.iload_n 1, 1) := dk_27 (dk_at dksX3_freeAt_1 23 rfl rfl)
theorem dX3_freeAt_48 : decode cX3_freeAt 48 = .ok (.iconst 2, 1) := dk_5 (dk_at dksX3_freeAt_2 0 rfl rfl)
theorem dX3_freeAt_49 : decode cX3_freeAt 49 = .ok (.invokevirtual 192, 3) := dk_182 0 192 (dk_at dksX3_freeAt_2 1 rfl rfl)
theorem dX3_freeAt_52 : decode cX3_freeAt 52 = .ok (.aload_n 0, 1) := dk_42 (dk_at dksX3_freeAt_2 4 rfl rfl)
theorem dX3_freeAt_53 : decode cX3_freeAt 53 = .ok (.iload_n 1, 1) := dk_27 (dk_at dksX3_freeAt_2 5 rfl rfl)
theorem dX3_freeAt_54 : decode cX3_freeAt 54 = .ok (.iload 4, 2) := dk_21 4 (dk_at dksX3_freeAt_2 6 rfl rfl)
theorem dX3_freeAt_56 : decode cX3_freeAt 56 = .ok (.iconst 0, 1) := dk_3 (dk_at dksX3_freeAt_2 8 rfl rfl)
theorem dX3_freeAt_57 : decode cX3_freeAt 57 = .ok (.invokevirtual 259, 3) := dk_182 1 3 (dk_at dksX3_freeAt_2 9 rfl rfl)
theorem dX3_freeAt_60 : decode cX3_freeAt 60 = .ok (.isub, 1) := dk_100 (dk_at dksX3_freeAt_2 12 rfl rfl)
theorem dX3_freeAt_61 : decode cX3_freeAt 61 = .ok (.istore 5, 2) := dk_54 5 (dk_at dksX3_freeAt_2 13 rfl rfl)
theorem dX3_freeAt_63 : decode cX3_freeAt 63 = .ok (.aload_n 0, 1) := dk_42 (dk_at dksX3_freeAt_2 15 rfl rfl)
theorem dX3_freeAt_64 : decode cX3_freeAt 64 = .ok (.iload_n 1, 1) := dk_27 (dk_at dksX3_freeAt_2 16 rfl rfl)
theorem dX3_freeAt_65 : decode cX3_freeAt 65 = .ok (.iconst 3, 1) := dk_6 (dk_at dksX3_freeAt_2 17 rfl rfl)
theorem dX3_freeAt_66 : decode cX3_freeAt 66 = .ok (.invokevirtual 192, 3) := dk_182 0 192 (dk_at dksX3_freeAt_2 18 rfl rfl)
theorem dX3_freeAt_69 : decode cX3_freeAt 69 = .ok (.aload_n 0, 1) := dk_42 (dk_at dksX3_freeAt_2 21 rfl rfl)
theorem dX3_freeAt_70 : decode cX3_freeAt 70 = .ok (.iload_n 1, 1) := dk_27 (dk_at dksX3_freeAt_2 22 rfl rfl)
theorem dX3_freeAt_71 : decode cX3_freeAt 71 = .ok (.iload 4, 2) := dk_21 4 (dk_at dksX3_freeAt_3 0 rfl rfl)
theorem dX3_freeAt_73 : decode cX3_freeAt 73 = .ok (.iconst 1, 1) := dk_4 (dk_at dksX3_freeAt_3 2 rfl rfl)
theorem dX3_freeAt_74 : decode cX3_freeAt 74 = .ok (.invokevirtual 259, 3) := dk_182 1 3 (dk_at dksX3_freeAt_3 3 rfl rfl)
theorem dX3_freeAt_77 : decode cX3_freeAt 77 = .ok (.isub, 1) := dk_100 (dk_at dksX3_freeAt_3 6 rfl rfl)
theorem dX3_freeAt_78 : decode cX3_freeAt 78 = .ok (.istore 6, 2) := dk_54 6 (dk_at dksX3_freeAt_3 7 rfl rfl)
theorem dX3_freeAt_80 : decode cX3_freeAt 80 = .ok (.iload 5, 2) := dk_21 5 (dk_at dksX3_freeAt_3 9 rfl rfl)
theorem dX3_freeAt_82 : decode cX3_freeAt 82 = .ok (.iload 6, 2) := dk_21 6 (dk_at dksX3_freeAt_3 11 rfl rfl)
theorem dX3_freeAt_84 : decode cX3_freeAt 84 = .ok (.if_icmp .ge 8, 3) := dk_162 0 8 (dk_at dksX3_freeAt_3 13 rfl rfl)
theorem dX3_freeAt_87 : decode cX3_freeAt 87 = .ok (.iload 5, 2) := dk_21 5 (dk_at dksX3_freeAt_3 16 rfl rfl)
theorem dX3_freeAt_89 : decode cX3_freeAt 89 = .ok (.goto 5, 3) := dk_167 0 5 (dk_at dksX3_freeAt_3 18 rfl rfl)
theorem dX3_freeAt_92 : decode cX3_freeAt 92 = .ok (.iload 6, 2) := dk_21 6 (dk_at dksX3_freeAt_3 21 rfl rfl)
theorem dX3_freeAt_94 : decode cX3_freeAt 94 = .ok (.istore 7, 2) := dk_54 7 (dk_at dksX3_freeAt_4 0 rfl rfl)
theorem dX3_freeAt_96 : decode cX3_freeAt 96 = .ok (.iload_n 3, 1) := dk_29 (dk_at dksX3_freeAt_4 2 rfl rfl)
theorem dX3_freeAt_97 : decode cX3_freeAt 97 = .ok (.ifCond .ne 8, 3) := dk_154 0 8 (dk_at dksX3_freeAt_4 3 rfl rfl)
theorem dX3_freeAt_100 : decode cX3_freeAt 100 = .ok (.iload 5, 2) := dk_21 5 (dk_at dksX3_freeAt_4 6 rfl rfl)
theorem dX3_freeAt_102 : decode cX3_freeAt 102 = .ok (.goto 15, 3) := dk_167 0 15 (dk_at dksX3_freeAt_4 8 rfl rfl)
theorem dX3_freeAt_105 : decode cX3_freeAt 105 = .ok (.iload_n 3, 1) := dk_29 (dk_at dksX3_freeAt_4 11 rfl rfl)
theorem dX3_freeAt_106 : decode cX3_freeAt 106 = .ok (.iconst 1, 1) := dk_4 (dk_at dksX3_freeAt_4 12 rfl rfl)
theorem dX3_freeAt_107 : decode cX3_freeAt 107 = .ok (.if_icmp .ne 8, 3) := dk_160 0 8 (dk_at dksX3_freeAt_4 13 rfl rfl)
theorem dX3_freeAt_110 : decode cX3_freeAt 110 = .ok (.iload 6, 2) := dk_21 6 (dk_at dksX3_freeAt_4 16 rfl rfl)
theorem dX3_freeAt_112 : decode cX3_freeAt 112 = .ok (.goto 5, 3) := dk_167 0 5 (dk_at dksX3_freeAt_4 18 rfl rfl)
theorem dX3_freeAt_115 : decode cX3_freeAt 115 = .ok (.iload 7, 2) := dk_21 7 (dk_at dksX3_freeAt_4 21 rfl rfl)
theorem dX3_freeAt_117 : decode cX3_freeAt 117 = .ok (.ireturn, 1) := dk_172 (dk_at dksX3_freeAt_4 23 rfl rfl)
abbrev cX3_manifest : ByteArray := prog_23_method_123_code
def yX3_manifest : MethodName := ⟨RX3, "manifest", "(I)I"⟩
def dkwX3_manifest_4 : List UInt8 := [42, 16, 42, 182, 1, 146, 132, 2, 1, 167, 255, 169, 42, 180, 1, 143, 172]
abbrev dktX3_manifest_4 : List UInt8 := dkwX3_manifest_4 ++ []
def dkwX3_manifest_3 : List UInt8 := [16, 64, 182, 1, 146, 42, 42, 27, 28, 182, 0, 213, 182, 1, 149, 42, 27, 28, 182, 0, 236, 153, 0, 9]
abbrev dktX3_manifest_3 : List UInt8 := dkwX3_manifest_3 ++ dktX3_manifest_4
def dkwX3_manifest_2 : List UInt8 := [153, 0, 8, 16, 68, 167, 0, 5, 16, 80, 182, 1, 146, 42, 42, 27, 28, 182, 0, 216, 182, 1, 149, 42]
abbrev dktX3_manifest_2 : List UInt8 := dkwX3_manifest_2 ++ dktX3_manifest_3
def dkwX3_manifest_1 : List UInt8 := [27, 96, 46, 162, 0, 80, 28, 158, 0, 9, 42, 16, 59, 182, 1, 146, 42, 42, 27, 28, 182, 0, 222]
abbrev dktX3_manifest_1 : List UInt8 := dkwX3_manifest_1 ++ dktX3_manifest_2
def dkwX3_manifest_0 : List UInt8 := [42, 27, 182, 1, 100, 153, 0, 5, 3, 172, 42, 3, 181, 1, 143, 3, 61, 28, 42, 180, 0, 7, 16, 6]
abbrev dktX3_manifest_0 : List UInt8 := dkwX3_manifest_0 ++ dktX3_manifest_1
theorem dksX3_manifest_0 : cX3_manifest.data.toList.drop 0 = dktX3_manifest_0 := by decide +kernel
theorem dksX3_manifest_1 : cX3_manifest.data.toList.drop 24 = dktX3_manifest_1 := dk_seg dksX3_manifest_0 24 rfl rfl
theorem dksX3_manifest_2 : cX3_manifest.data.toList.drop 47 = dktX3_manifest_2 := dk_seg dksX3_manifest_1 23 rfl rfl
theorem dksX3_manifest_3 : cX3_manifest.data.toList.drop 71 = dktX3_manifest_3 := dk_seg dksX3_manifest_2 24 rfl rfl
theorem dksX3_manifest_4 : cX3_manifest.data.toList.drop 95 = dktX3_manifest_4 := dk_seg dksX3_manifest_3 24 rfl rfl
theorem dX3_manifest_0 : decode cX3_manifest 0 = .ok (.aload_n 0, 1) := dk_42 (dk_at dksX3_manifest_0 0 rfl rfl)
theorem dX3_manifest_1 : decode cX3_manifest 1 = .ok (.iload_n 1, 1) := dk_27 (dk_at dksX3_manifest_0 1 rfl rfl)
theorem dX3_manifest_2 : decode cX3_manifest 2 = .ok (.invokevirtual 356, 3) := dk_182 1 100 (dk_at dksX3_manifest_0 2 rfl rfl)
theorem dX3_manifest_5 : decode cX3_manifest 5 = .ok (.ifCond .eq 5, 3) := dk_153 0 5 (dk_at dksX3_manifest_0 5 rfl rfl)
theorem dX3_manifest_8 : decode cX3_manifest 8 = .ok (.iconst 0, 1) := dk_3 (dk_at dksX3_manifest_0 8 rfl rfl)
theorem dX3_manifest_9 : decode cX3_manifest 9 = .ok (.ireturn, 1) := dk_172 (dk_at dksX3_manifest_0 9 rfl rfl)
theorem dX3_manifest_10 : decode cX3_manifest 10 = .ok (.aload_n 0, 1) := dk_42 (dk_at dksX3_manifest_0 10 rfl rfl)
theorem dX3_manifest_11 : decode cX3_manifest 11 = .ok (.iconst 0, 1) := dk_3 (dk_at dksX3_manifest_0 11 rfl rfl)
theorem dX3_manifest_12 : decode cX3_manifest 12 = .ok (.putfield 399, 3) := dk_181 1 143 (dk_at dksX3_manifest_0 12 rfl rfl)
theorem dX3_manifest_15 : decode cX3_manifest 15 = .ok (.iconst 0, 1) := dk_3 (dk_at dksX3_manifest_0 15 rfl rfl)
theorem dX3_manifest_16 : decode cX3_manifest 16 = .ok (.istore_n 2, 1) := dk_61 (dk_at dksX3_manifest_0 16 rfl rfl)
theorem dX3_manifest_17 : decode cX3_manifest 17 = .ok (.iload_n 2, 1) := dk_28 (dk_at dksX3_manifest_0 17 rfl rfl)
theorem dX3_manifest_18 : decode cX3_manifest 18 = .ok (.aload_n 0, 1) := dk_42 (dk_at dksX3_manifest_0 18 rfl rfl)
theorem dX3_manifest_19 : decode cX3_manifest 19 = .ok (.getfield 7, 3) := dk_180 0 7 (dk_at dksX3_manifest_0 19 rfl rfl)
theorem dX3_manifest_22 : decode cX3_manifest 22 = .ok (.bipush 6, 2) := dk_16 6 (dk_at dksX3_manifest_0 22 rfl rfl)
theorem dX3_manifest_24 : decode cX3_manifest 24 = .ok (.iload_n 1, 1) := dk_27 (dk_at dksX3_manifest_1 0 rfl rfl)
theorem dX3_manifest_25 : decode cX3_manifest 25 = .ok (.iadd, 1) := dk_96 (dk_at dksX3_manifest_1 1 rfl rfl)
theorem dX3_manifest_26 : decode cX3_manifest 26 = .ok (.iaload, 1) := dk_46 (dk_at dksX3_manifest_1 2 rfl rfl)
theorem dX3_manifest_27 : decode cX3_manifest 27 = .ok (.if_icmp .ge 80, 3) := dk_162 0 80 (dk_at dksX3_manifest_1 3 rfl rfl)
theorem dX3_manifest_30 : decode cX3_manifest 30 = .ok (.iload_n 2, 1) := dk_28 (dk_at dksX3_manifest_1 6 rfl rfl)
theorem dX3_manifest_31 : decode cX3_manifest 31 = .ok (.ifCond .le 9, 3) := dk_158 0 9 (dk_at dksX3_manifest_1 7 rfl rfl)
theorem dX3_manifest_34 : decode cX3_manifest 34 = .ok (.aload_n 0, 1) := dk_42 (dk_at dksX3_manifest_1 10 rfl rfl)
theorem dX3_manifest_35 : decode cX3_manifest 35 = .ok (.bipush 59, 2) := dk_16 59 (dk_at dksX3_manifest_1 11 rfl rfl)
theorem dX3_manifest_37 : decode cX3_manifest 37 = .ok (.invokevirtual 402, 3) := dk_182 1 146 (dk_at dksX3_manifest_1 13 rfl rfl)
theorem dX3_manifest_40 : decode cX3_manifest 40 = .ok (.aload_n 0, 1) := dk_42 (dk_at dksX3_manifest_1 16 rfl rfl)
theorem dX3_manifest_41 : decode cX3_manifest 41 = .ok (.aload_n 0, 1) := dk_42 (dk_at dksX3_manifest_1 17 rfl rfl)
theorem dX3_manifest_42 : decode cX3_manifest 42 = .ok (.iload_n 1, 1) := dk_27 (dk_at dksX3_manifest_1 18 rfl rfl)
theorem dX3_manifest_43 : decode cX3_manifest 43 = .ok (.iload_n 2, 1) := dk_28 (dk_at dksX3_manifest_1 19 rfl rfl)
theorem dX3_manifest_44 : decode cX3_manifest 44 = .ok (.invokevirtual 222, 3) := dk_182 0 222 (dk_at dksX3_manifest_1 20 rfl rfl)
theorem dX3_manifest_47 : decode cX3_manifest 47 = .ok (.ifCond .eq 8, 3) := dk_153 0 8 (dk_at dksX3_manifest_2 0 rfl rfl)
theorem dX3_manifest_50 : decode cX3_manifest 50 = .ok (.bipush 68, 2) := dk_16 68 (dk_at dksX3_manifest_2 3 rfl rfl)
theorem dX3_manifest_52 : decode cX3_manifest 52 = .ok (.goto 5, 3) := dk_167 0 5 (dk_at dksX3_manifest_2 5 rfl rfl)
theorem dX3_manifest_55 : decode cX3_manifest 55 = .ok (.bipush 80, 2) := dk_16 80 (dk_at dksX3_manifest_2 8 rfl rfl)
theorem dX3_manifest_57 : decode cX3_manifest 57 = .ok (.invokevirtual 402, 3) := dk_182 1 146 (dk_at dksX3_manifest_2 10 rfl rfl)
theorem dX3_manifest_60 : decode cX3_manifest 60 = .ok (.aload_n 0, 1) := dk_42 (dk_at dksX3_manifest_2 13 rfl rfl)
theorem dX3_manifest_61 : decode cX3_manifest 61 = .ok (.aload_n 0, 1) := dk_42 (dk_at dksX3_manifest_2 14 rfl rfl)
theorem dX3_manifest_62 : decode cX3_manifest 62 = .ok (.iload_n 1, 1) := dk_27 (dk_at dksX3_manifest_2 15 rfl rfl)
theorem dX3_manifest_63 : decode cX3_manifest 63 = .ok (.iload_n 2, 1) := dk_28 (dk_at dksX3_manifest_2 16 rfl rfl)
theorem dX3_manifest_64 : decode cX3_manifest 64 = .ok (.invokevirtual 216, 3) := dk_182 0 216 (dk_at dksX3_manifest_2 17 rfl rfl)
theorem dX3_manifest_67 : decode cX3_manifest 67 = .ok (.invokevirtual 405, 3) := dk_182 1 149 (dk_at dksX3_manifest_2 20 rfl rfl)
theorem dX3_manifest_70 : decode cX3_manifest 70 = .ok (.aload_n 0, 1) := dk_42 (dk_at dksX3_manifest_2 23 rfl rfl)
theorem dX3_manifest_71 : decode cX3_manifest 71 = .ok (.bipush 64, 2) := dk_16 64 (dk_at dksX3_manifest_3 0 rfl rfl)
theorem dX3_manifest_73 : decode cX3_manifest 73 = .ok (.invokevirtual 402, 3) := dk_182 1 146 (dk_at dksX3_manifest_3 2 rfl rfl)
theorem dX3_manifest_76 : decode cX3_manifest 76 = .ok (.aload_n 0, 1) := dk_42 (dk_at dksX3_manifest_3 5 rfl rfl)
theorem dX3_manifest_77 : decode cX3_manifest 77 = .ok (.aload_n 0, 1) := dk_42 (dk_at dksX3_manifest_3 6 rfl rfl)
theorem dX3_manifest_78 : decode cX3_manifest 78 = .ok (.iload_n 1, 1) := dk_27 (dk_at dksX3_manifest_3 7 rfl rfl)
theorem dX3_manifest_79 : decode cX3_manifest 79 = .ok (.iload_n 2, 1) := dk_28 (dk_at dksX3_manifest_3 8 rfl rfl)
theorem dX3_manifest_80 : decode cX3_manifest 80 = .ok (.invokevirtual 213, 3) := dk_182 0 213 (dk_at dksX3_manifest_3 9 rfl rfl)
theorem dX3_manifest_83 : decode cX3_manifest 83 = .ok (.invokevirtual 405, 3) := dk_182 1 149 (dk_at dksX3_manifest_3 12 rfl rfl)
theorem dX3_manifest_86 : decode cX3_manifest 86 = .ok (.aload_n 0, 1) := dk_42 (dk_at dksX3_manifest_3 15 rfl rfl)
theorem dX3_manifest_87 : decode cX3_manifest 87 = .ok (.iload_n 1, 1) := dk_27 (dk_at dksX3_manifest_3 16 rfl rfl)
theorem dX3_manifest_88 : decode cX3_manifest 88 = .ok (.iload_n 2, 1) := dk_28 (dk_at dksX3_manifest_3 17 rfl rfl)
theorem dX3_manifest_89 : decode cX3_manifest 89 = .ok (.invokevirtual 236, 3) := dk_182 0 236 (dk_at dksX3_manifest_3 18 rfl rfl)
theorem dX3_manifest_92 : decode cX3_manifest 92 = .ok (.ifCond .eq 9, 3) := dk_153 0 9 (dk_at dksX3_manifest_3 21 rfl rfl)
theorem dX3_manifest_95 : decode cX3_manifest 95 = .ok (.aload_n 0, 1) := dk_42 (dk_at dksX3_manifest_4 0 rfl rfl)
theorem dX3_manifest_96 : decode cX3_manifest 96 = .ok (.bipush 42, 2) := dk_16 42 (dk_at dksX3_manifest_4 1 rfl rfl)
theorem dX3_manifest_98 : decode cX3_manifest 98 = .ok (.invokevirtual 402, 3) := dk_182 1 146 (dk_at dksX3_manifest_4 3 rfl rfl)
theorem dX3_manifest_101 : decode cX3_manifest 101 = .ok (.iinc 2 1, 3) := dk_132 2 1 (dk_at dksX3_manifest_4 6 rfl rfl)
theorem dX3_manifest_104 : decode cX3_manifest 104 = .ok (.goto (-87), 3) := dk_167 255 169 (dk_at dksX3_manifest_4 9 rfl rfl)
theorem dX3_manifest_107 : decode cX3_manifest 107 = .ok (.aload_n 0, 1) := dk_42 (dk_at dksX3_manifest_4 12 rfl rfl)
theorem dX3_manifest_108 : decode cX3_manifest 108 = .ok (.getfield 399, 3) := dk_180 1 143 (dk_at dksX3_manifest_4 13 rfl rfl)
theorem dX3_manifest_111 : decode cX3_manifest 111 = .ok (.ireturn, 1) := dk_172 (dk_at dksX3_manifest_4 16 rfl rfl)
abbrev cX3_writes : ByteArray := prog_23_method_121_code
def yX3_writes : MethodName := ⟨RX3, "writes", "(I)V"⟩
def dkwX3_writes_0 : List UInt8 := [42, 180, 0, 45, 42, 180, 1, 143, 27, 79, 42, 89, 180, 1, 143, 4, 96, 181, 1, 143, 177]
abbrev dktX3_writes_0 : List UInt8 := dkwX3_writes_0 ++ []
theorem dksX3_writes_0 : cX3_writes.data.toList.drop 0 = dktX3_writes_0 := by decide +kernel
theorem dX3_writes_0 : decode cX3_writes 0 = .ok (.aload_n 0, 1) := dk_42 (dk_at dksX3_writes_0 0 rfl rfl)
theorem dX3_writes_1 : decode cX3_writes 1 = .ok (.getfield 45, 3) := dk_180 0 45 (dk_at dksX3_writes_0 1 rfl rfl)
theorem dX3_writes_4 : decode cX3_writes 4 = .ok (.aload_n 0, 1) := dk_42 (dk_at dksX3_writes_0 4 rfl rfl)
theorem dX3_writes_5 : decode cX3_writes 5 = .ok (.getfield 399, 3) := dk_180 1 143 (dk_at dksX3_writes_0 5 rfl rfl)
theorem dX3_writes_8 : decode cX3_writes 8 = .ok (.iload_n 1, 1) := dk_27 (dk_at dksX3_writes_0 8 rfl rfl)
theorem dX3_writes_9 : decode cX3_writes 9 = .ok (.iastore, 1) := dk_79 (dk_at dksX3_writes_0 9 rfl rfl)
theorem dX3_writes_10 : decode cX3_writes 10 = .ok (.aload_n 0, 1) := dk_42 (dk_at dksX3_writes_0 10 rfl rfl)
theorem dX3_writes_11 : decode cX3_writes 11 = .ok (.dup, 1) := dk_89 (dk_at dksX3_writes_0 11 rfl rfl)
theorem dX3_writes_12 : decode cX3_writes 12 = .ok (.getfield 399, 3) := dk_180 1 143 (dk_at dksX3_writes_0 12 rfl rfl)
theorem dX3_writes_15 : decode cX3_writes 15 = .ok (.iconst 1, 1) := dk_4 (dk_at dksX3_writes_0 15 rfl rfl)
theorem dX3_writes_16 : decode cX3_writes 16 = .ok (.iadd, 1) := dk_96 (dk_at dksX3_writes_0 16 rfl rfl)
theorem dX3_writes_17 : decode cX3_writes 17 = .ok (.putfield 399, 3) := dk_181 1 143 (dk_at dksX3_writes_0 17 rfl rfl)
theorem dX3_writes_20 : decode cX3_writes 20 = .ok (.return_, 1) := dk_177 (dk_at dksX3_writes_0 20 rfl rfl)
abbrev cX3_writesNumber : ByteArray := prog_23_method_122_code
def yX3_writesNumber : MethodName := ⟨RX3, "writesNumber", "(I)V"⟩
def dkwX3_writesNumber_1 : List UInt8 := [16, 48, 27, 28, 108, 16, 10, 112, 96, 182, 1, 146, 28, 16, 10, 108, 61, 167, 255, 234, 177]
abbrev dktX3_writesNumber_1 : List UInt8 := dkwX3_writesNumber_1 ++ []
def dkwX3_writesNumber_0 : List UInt8 := [4, 61, 27, 28, 108, 16, 9, 164, 0, 11, 28, 16, 10, 104, 61, 167, 255, 243, 28, 158, 0, 24, 42]
abbrev dktX3_writesNumber_0 : List UInt8 := dkwX3_writesNumber_0 ++ dktX3_writesNumber_1
theorem dksX3_writesNumber_0 : cX3_writesNumber.data.toList.drop 0 = dktX3_writesNumber_0 := by decide +kernel
theorem dksX3_writesNumber_1 : cX3_writesNumber.data.toList.drop 23 = dktX3_writesNumber_1 := dk_seg dksX3_writesNumber_0 23 rfl rfl
theorem dX3_writesNumber_0 : decode cX3_writesNumber 0 = .ok (.iconst 1, 1) := dk_4 (dk_at dksX3_writesNumber_0 0 rfl rfl)
theorem dX3_writesNumber_1 : decode cX3_writesNumber 1 = .ok (.istore_n 2, 1) := dk_61 (dk_at dksX3_writesNumber_0 1 rfl rfl)
theorem dX3_writesNumber_2 : decode cX3_writesNumber 2 = .ok (.iload_n 1, 1) := dk_27 (dk_at dksX3_writesNumber_0 2 rfl rfl)
theorem dX3_writesNumber_3 : decode cX3_writesNumber 3 = .ok (.iload_n 2, 1) := dk_28 (dk_at dksX3_writesNumber_0 3 rfl rfl)
theorem dX3_writesNumber_4 : decode cX3_writesNumber 4 = .ok (.idiv, 1) := dk_108 (dk_at dksX3_writesNumber_0 4 rfl rfl)
theorem dX3_writesNumber_5 : decode cX3_writesNumber 5 = .ok (.bipush 9, 2) := dk_16 9 (dk_at dksX3_writesNumber_0 5 rfl rfl)
theorem dX3_writesNumber_7 : decode cX3_writesNumber 7 = .ok (.if_icmp .le 11, 3) := dk_164 0 11 (dk_at dksX3_writesNumber_0 7 rfl rfl)
theorem dX3_writesNumber_10 : decode cX3_writesNumber 10 = .ok (.iload_n 2, 1) := dk_28 (dk_at dksX3_writesNumber_0 10 rfl rfl)
theorem dX3_writesNumber_11 : decode cX3_writesNumber 11 = .ok (.bipush 10, 2) := dk_16 10 (dk_at dksX3_writesNumber_0 11 rfl rfl)
theorem dX3_writesNumber_13 : decode cX3_writesNumber 13 = .ok (.imul, 1) := dk_104 (dk_at dksX3_writesNumber_0 13 rfl rfl)
theorem dX3_writesNumber_14 : decode cX3_writesNumber 14 = .ok (.istore_n 2, 1) := dk_61 (dk_at dksX3_writesNumber_0 14 rfl rfl)
theorem dX3_writesNumber_15 : decode cX3_writesNumber 15 = .ok (.goto (-13), 3) := dk_167 255 243 (dk_at dksX3_writesNumber_0 15 rfl rfl)
theorem dX3_writesNumber_18 : decode cX3_writesNumber 18 = .ok (.iload_n 2, 1) := dk_28 (dk_at dksX3_writesNumber_0 18 rfl rfl)
theorem dX3_writesNumber_19 : decode cX3_writesNumber 19 = .ok (.ifCond .le 24, 3) := dk_158 0 24 (dk_at dksX3_writesNumber_0 19 rfl rfl)
theorem dX3_writesNumber_22 : decode cX3_writesNumber 22 = .ok (.aload_n 0, 1) := dk_42 (dk_at dksX3_writesNumber_0 22 rfl rfl)
theorem dX3_writesNumber_23 : decode cX3_writesNumber 23 = .ok (.bipush 48, 2) := dk_16 48 (dk_at dksX3_writesNumber_1 0 rfl rfl)
theorem dX3_writesNumber_25 : decode cX3_writesNumber 25 = .ok (.iload_n 1, 1) := dk_27 (dk_at dksX3_writesNumber_1 2 rfl rfl)
theorem dX3_writesNumber_26 : decode cX3_writesNumber 26 = .ok (.iload_n 2, 1) := dk_28 (dk_at dksX3_writesNumber_1 3 rfl rfl)
theorem dX3_writesNumber_27 : decode cX3_writesNumber 27 = .ok (.idiv, 1) := dk_108 (dk_at dksX3_writesNumber_1 4 rfl rfl)
theorem dX3_writesNumber_28 : decode cX3_writesNumber 28 = .ok (.bipush 10, 2) := dk_16 10 (dk_at dksX3_writesNumber_1 5 rfl rfl)
theorem dX3_writesNumber_30 : decode cX3_writesNumber 30 = .ok (.irem, 1) := dk_112 (dk_at dksX3_writesNumber_1 7 rfl rfl)
theorem dX3_writesNumber_31 : decode cX3_writesNumber 31 = .ok (.iadd, 1) := dk_96 (dk_at dksX3_writesNumber_1 8 rfl rfl)
theorem dX3_writesNumber_32 : decode cX3_writesNumber 32 = .ok (.invokevirtual 402, 3) := dk_182 1 146 (dk_at dksX3_writesNumber_1 9 rfl rfl)
theorem dX3_writesNumber_35 : decode cX3_writesNumber 35 = .ok (.iload_n 2, 1) := dk_28 (dk_at dksX3_writesNumber_1 12 rfl rfl)
theorem dX3_writesNumber_36 : decode cX3_writesNumber 36 = .ok (.bipush 10, 2) := dk_16 10 (dk_at dksX3_writesNumber_1 13 rfl rfl)
theorem dX3_writesNumber_38 : decode cX3_writesNumber 38 = .ok (.idiv, 1) := dk_108 (dk_at dksX3_writesNumber_1 15 rfl rfl)
theorem dX3_writesNumber_39 : decode cX3_writesNumber 39 = .ok (.istore_n 2, 1) := dk_61 (dk_at dksX3_writesNumber_1 16 rfl rfl)
theorem dX3_writesNumber_40 : decode cX3_writesNumber 40 = .ok (.goto (-22), 3) := dk_167 255 234 (dk_at dksX3_writesNumber_1 17 rfl rfl)
theorem dX3_writesNumber_43 : decode cX3_writesNumber 43 = .ok (.return_, 1) := dk_177 (dk_at dksX3_writesNumber_1 20 rfl rfl)
abbrev cX3_manifestByte : ByteArray := prog_23_method_124_code
def yX3_manifestByte : MethodName := ⟨RX3, "manifestByte", "(I)I"⟩
def dkwX3_manifestByte_1 : List UInt8 := [3, 4, 182, 0, 55, 153, 0, 7, 3, 167, 0, 9, 42, 180, 0, 45, 27, 46, 172]
abbrev dktX3_manifestByte_1 : List UInt8 := dkwX3_manifestByte_1 ++ []
def dkwX3_manifestByte_0 : List UInt8 := [42, 3, 181, 0, 48, 42, 27, 3, 42, 180, 1, 143, 4, 100, 184, 0, 124, 154, 0, 7, 4, 167, 0, 4]
abbrev dktX3_manifestByte_0 : List UInt8 := dkwX3_manifestByte_0 ++ dktX3_manifestByte_1
theorem dksX3_manifestByte_0 : cX3_manifestByte.data.toList.drop 0 = dktX3_manifestByte_0 := by decide +kernel
theorem dksX3_manifestByte_1 : cX3_manifestByte.data.toList.drop 24 = dktX3_manifestByte_1 := dk_seg dksX3_manifestByte_0 24 rfl rfl
theorem dX3_manifestByte_0 : decode cX3_manifestByte 0 = .ok (.aload_n 0, 1) := dk_42 (dk_at dksX3_manifestByte_0 0 rfl rfl)
theorem dX3_manifestByte_1 : decode cX3_manifestByte 1 = .ok (.iconst 0, 1) := dk_3 (dk_at dksX3_manifestByte_0 1 rfl rfl)
theorem dX3_manifestByte_2 : decode cX3_manifestByte 2 = .ok (.putfield 48, 3) := dk_181 0 48 (dk_at dksX3_manifestByte_0 2 rfl rfl)
theorem dX3_manifestByte_5 : decode cX3_manifestByte 5 = .ok (.aload_n 0, 1) := dk_42 (dk_at dksX3_manifestByte_0 5 rfl rfl)
theorem dX3_manifestByte_6 : decode cX3_manifestByte 6 = .ok (.iload_n 1, 1) := dk_27 (dk_at dksX3_manifestByte_0 6 rfl rfl)
theorem dX3_manifestByte_7 : decode cX3_manifestByte 7 = .ok (.iconst 0, 1) := dk_3 (dk_at dksX3_manifestByte_0 7 rfl rfl)
theorem dX3_manifestByte_8 : decode cX3_manifestByte 8 = .ok (.aload_n 0, 1) := dk_42 (dk_at dksX3_manifestByte_0 8 rfl rfl)
theorem dX3_manifestByte_9 : decode cX3_manifestByte 9 = .ok (.getfield 399, 3) := dk_180 1 143 (dk_at dksX3_manifestByte_0 9 rfl rfl)
theorem dX3_manifestByte_12 : decode cX3_manifestByte 12 = .ok (.iconst 1, 1) := dk_4 (dk_at dksX3_manifestByte_0 12 rfl rfl)
theorem dX3_manifestByte_13 : decode cX3_manifestByte 13 = .ok (.isub, 1) := dk_100 (dk_at dksX3_manifestByte_0 13 rfl rfl)
theorem dX3_manifestByte_14 : decode cX3_manifestByte 14 = .ok (.invokestatic 124, 3) := dk_184 0 124 (dk_at dksX3_manifestByte_0 14 rfl rfl)
theorem dX3_manifestByte_17 : decode cX3_manifestByte 17 = .ok (.ifCond .ne 7, 3) := dk_154 0 7 (dk_at dksX3_manifestByte_0 17 rfl rfl)
theorem dX3_manifestByte_20 : decode cX3_manifestByte 20 = .ok (.iconst 1, 1) := dk_4 (dk_at dksX3_manifestByte_0 20 rfl rfl)
theorem dX3_manifestByte_21 : decode cX3_manifestByte 21 = .ok (.goto 4, 3) := dk_167 0 4 (dk_at dksX3_manifestByte_0 21 rfl rfl)
theorem dX3_manifestByte_24 : decode cX3_manifestByte 24 = .ok (.iconst 0, 1) := dk_3 (dk_at dksX3_manifestByte_1 0 rfl rfl)
theorem dX3_manifestByte_25 : decode cX3_manifestByte 25 = .ok (.iconst 1, 1) := dk_4 (dk_at dksX3_manifestByte_1 1 rfl rfl)
theorem dX3_manifestByte_26 : decode cX3_manifestByte 26 = .ok (.invokevirtual 55, 3) := dk_182 0 55 (dk_at dksX3_manifestByte_1 2 rfl rfl)
theorem dX3_manifestByte_29 : decode cX3_manifestByte 29 = .ok (.ifCond .eq 7, 3) := dk_153 0 7 (dk_at dksX3_manifestByte_1 5 rfl rfl)
theorem dX3_manifestByte_32 : decode cX3_manifestByte 32 = .ok (.iconst 0, 1) := dk_3 (dk_at dksX3_manifestByte_1 8 rfl rfl)
theorem dX3_manifestByte_33 : decode cX3_manifestByte 33 = .ok (.goto 9, 3) := dk_167 0 9 (dk_at dksX3_manifestByte_1 9 rfl rfl)
theorem dX3_manifestByte_36 : decode cX3_manifestByte 36 = .ok (.aload_n 0, 1) := dk_42 (dk_at dksX3_manifestByte_1 12 rfl rfl)
theorem dX3_manifestByte_37 : decode cX3_manifestByte 37 = .ok (.getfield 45, 3) := dk_180 0 45 (dk_at dksX3_manifestByte_1 13 rfl rfl)
theorem dX3_manifestByte_40 : decode cX3_manifestByte 40 = .ok (.iload_n 1, 1) := dk_27 (dk_at dksX3_manifestByte_1 16 rfl rfl)
theorem dX3_manifestByte_41 : decode cX3_manifestByte 41 = .ok (.iaload, 1) := dk_46 (dk_at dksX3_manifestByte_1 17 rfl rfl)
theorem dX3_manifestByte_42 : decode cX3_manifestByte 42 = .ok (.ireturn, 1) := dk_172 (dk_at dksX3_manifestByte_1 18 rfl rfl)
abbrev cX3_savings : ByteArray := prog_23_method_127_code
def yX3_savings : MethodName := ⟨RX3, "savings", "(I)I"⟩
def dkwX3_savings_2 : List UInt8 := [182, 1, 134, 29, 172]
abbrev dktX3_savings_2 : List UInt8 := dkwX3_savings_2 ++ []
def dkwX3_savings_1 : List UInt8 := [3, 182, 1, 131, 42, 182, 1, 124, 61, 42, 27, 182, 1, 158, 28, 42, 182, 1, 124, 100, 62, 42, 3]
abbrev dktX3_savings_1 : List UInt8 := dkwX3_savings_1 ++ dktX3_savings_2
def dkwX3_savings_0 : List UInt8 := [42, 27, 182, 1, 115, 154, 0, 16, 42, 42, 27, 182, 1, 155, 6, 182, 0, 55, 153, 0, 5, 3, 172, 42]
abbrev dktX3_savings_0 : List UInt8 := dkwX3_savings_0 ++ dktX3_savings_1
theorem dksX3_savings_0 : cX3_savings.data.toList.drop 0 = dktX3_savings_0 := by decide +kernel
theorem dksX3_savings_1 : cX3_savings.data.toList.drop 24 = dktX3_savings_1 := dk_seg dksX3_savings_0 24 rfl rfl
theorem dksX3_savings_2 : cX3_savings.data.toList.drop 47 = dktX3_savings_2 := dk_seg dksX3_savings_1 23 rfl rfl
theorem dX3_savings_0 : decode cX3_savings 0 = .ok (.aload_n 0, 1) := dk_42 (dk_at dksX3_savings_0 0 rfl rfl)
theorem dX3_savings_1 : decode cX3_savings 1 = .ok (.iload_n 1, 1) := dk_27 (dk_at dksX3_savings_0 1 rfl rfl)
theorem dX3_savings_2 : decode cX3_savings 2 = .ok (.invokevirtual 371, 3) := dk_182 1 115 (dk_at dksX3_savings_0 2 rfl rfl)
theorem dX3_savings_5 : decode cX3_savings 5 = .ok (.ifCond .ne 16, 3) := dk_154 0 16 (dk_at dksX3_savings_0 5 rfl rfl)
theorem dX3_savings_8 : decode cX3_savings 8 = .ok (.aload_n 0, 1) := dk_42 (dk_at dksX3_savings_0 8 rfl rfl)
theorem dX3_savings_9 : decode cX3_savings 9 = .ok (.aload_n 0, 1) := dk_42 (dk_at dksX3_savings_0 9 rfl rfl)
theorem dX3_savings_10 : decode cX3_savings 10 = .ok (.iload_n 1, 1) := dk_27 (dk_at dksX3_savings_0 10 rfl rfl)
theorem dX3_savings_11 : decode cX3_savings 11 = .ok (.invokevirtual 411, 3) := dk_182 1 155 (dk_at dksX3_savings_0 11 rfl rfl)
theorem dX3_savings_14 : decode cX3_savings 14 = .ok (.iconst 3, 1) := dk_6 (dk_at dksX3_savings_0 14 rfl rfl)
theorem dX3_savings_15 : decode cX3_savings 15 = .ok (.invokevirtual 55, 3) := dk_182 0 55 (dk_at dksX3_savings_0 15 rfl rfl)
theorem dX3_savings_18 : decode cX3_savings 18 = .ok (.ifCond .eq 5, 3) := dk_153 0 5 (dk_at dksX3_savings_0 18 rfl rfl)
theorem dX3_savings_21 : decode cX3_savings 21 = .ok (.iconst 0, 1) := dk_3 (dk_at dksX3_savings_0 21 rfl rfl)
theorem dX3_savings_22 : decode cX3_savings 22 = .ok (.ireturn, 1) := dk_172 (dk_at dksX3_savings_0 22 rfl rfl)
theorem dX3_savings_23 : decode cX3_savings 23 = .ok (.aload_n 0, 1) := dk_42 (dk_at dksX3_savings_0 23 rfl rfl)
theorem dX3_savings_24 : decode cX3_savings 24 = .ok (.iconst 0, 1) := dk_3 (dk_at dksX3_savings_1 0 rfl rfl)
theorem dX3_savings_25 : decode cX3_savings 25 = .ok (.invokevirtual 387, 3) := dk_182 1 131 (dk_at dksX3_savings_1 1 rfl rfl)
theorem dX3_savings_28 : decode cX3_savings 28 = .ok (.aload_n 0, 1) := dk_42 (dk_at dksX3_savings_1 4 rfl rfl)
theorem dX3_savings_29 : decode cX3_savings 29 = .ok (.invokevirtual 380, 3) := dk_182 1 124 (dk_at dksX3_savings_1 5 rfl rfl)
theorem dX3_savings_32 : decode cX3_savings 32 = .ok (.istore_n 2, 1) := dk_61 (dk_at dksX3_savings_1 8 rfl rfl)
theorem dX3_savings_33 : decode cX3_savings 33 = .ok (.aload_n 0, 1) := dk_42 (dk_at dksX3_savings_1 9 rfl rfl)
theorem dX3_savings_34 : decode cX3_savings 34 = .ok (.iload_n 1, 1) := dk_27 (dk_at dksX3_savings_1 10 rfl rfl)
theorem dX3_savings_35 : decode cX3_savings 35 = .ok (.invokevirtual 414, 3) := dk_182 1 158 (dk_at dksX3_savings_1 11 rfl rfl)
theorem dX3_savings_38 : decode cX3_savings 38 = .ok (.iload_n 2, 1) := dk_28 (dk_at dksX3_savings_1 14 rfl rfl)
theorem dX3_savings_39 : decode cX3_savings 39 = .ok (.aload_n 0, 1) := dk_42 (dk_at dksX3_savings_1 15 rfl rfl)
theorem dX3_savings_40 : decode cX3_savings 40 = .ok (.invokevirtual 380, 3) := dk_182 1 124 (dk_at dksX3_savings_1 16 rfl rfl)
theorem dX3_savings_43 : decode cX3_savings 43 = .ok (.isub, 1) := dk_100 (dk_at dksX3_savings_1 19 rfl rfl)
theorem dX3_savings_44 : decode cX3_savings 44 = .ok (.istore_n 3, 1) := dk_62 (dk_at dksX3_savings_1 20 rfl rfl)
theorem dX3_savings_45 : decode cX3_savings 45 = .ok (.aload_n 0, 1) := dk_42 (dk_at dksX3_savings_1 21 rfl rfl)
theorem dX3_savings_46 : decode cX3_savings 46 = .ok (.iconst 0, 1) := dk_3 (dk_at dksX3_savings_1 22 rfl rfl)
theorem dX3_savings_47 : decode cX3_savings 47 = .ok (.invokevirtual 390, 3) := dk_182 1 134 (dk_at dksX3_savings_2 0 rfl rfl)
theorem dX3_savings_50 : decode cX3_savings 50 = .ok (.iload_n 3, 1) := dk_29 (dk_at dksX3_savings_2 3 rfl rfl)
theorem dX3_savings_51 : decode cX3_savings 51 = .ok (.ireturn, 1) := dk_172 (dk_at dksX3_savings_2 4 rfl rfl)
abbrev cX3_isStuck : ByteArray := prog_23_method_125_code
def yX3_isStuck : MethodName := ⟨RX3, "isStuck", "(I)Z"⟩
def dkwX3_isStuck_1 : List UInt8 := [4, 167, 0, 4, 3, 172]
abbrev dktX3_isStuck_1 : List UInt8 := dkwX3_isStuck_1 ++ []
def dkwX3_isStuck_0 : List UInt8 := [42, 27, 16, 6, 182, 0, 211, 4, 160, 0, 16, 42, 42, 27, 182, 1, 118, 27, 182, 1, 84, 154, 0, 7]
abbrev dktX3_isStuck_0 : List UInt8 := dkwX3_isStuck_0 ++ dktX3_isStuck_1
theorem dksX3_isStuck_0 : cX3_isStuck.data.toList.drop 0 = dktX3_isStuck_0 := by decide +kernel
theorem dksX3_isStuck_1 : cX3_isStuck.data.toList.drop 24 = dktX3_isStuck_1 := dk_seg dksX3_isStuck_0 24 rfl rfl
theorem dX3_isStuck_0 : decode cX3_isStuck 0 = .ok (.aload_n 0, 1) := dk_42 (dk_at dksX3_isStuck_0 0 rfl rfl)
theorem dX3_isStuck_1 : decode cX3_isStuck 1 = .ok (.iload_n 1, 1) := dk_27 (dk_at dksX3_isStuck_0 1 rfl rfl)
theorem dX3_isStuck_2 : decode cX3_isStuck 2 = .ok (.bipush 6, 2) := dk_16 6 (dk_at dksX3_isStuck_0 2 rfl rfl)
theorem dX3_isStuck_4 : decode cX3_isStuck 4 = .ok (.invokevirtual 211, 3) := dk_182 0 211 (dk_at dksX3_isStuck_0 4 rfl rfl)
theorem dX3_isStuck_7 : decode cX3_isStuck 7 = .ok (.iconst 1, 1) := dk_4 (dk_at dksX3_isStuck_0 7 rfl rfl)
theorem dX3_isStuck_8 : decode cX3_isStuck 8 = .ok (.if_icmp .ne 16, 3) := dk_160 0 16 (dk_at dksX3_isStuck_0 8 rfl rfl)
theorem dX3_isStuck_11 : decode cX3_isStuck 11 = .ok (.aload_n 0, 1) := dk_42 (dk_at dksX3_isStuck_0 11 rfl rfl)
theorem dX3_isStuck_12 : decode cX3_isStuck 12 = .ok (.aload_n 0, 1) := dk_42 (dk_at dksX3_isStuck_0 12 rfl rfl)
theorem dX3_isStuck_13 : decode cX3_isStuck 13 = .ok (.iload_n 1, 1) := dk_27 (dk_at dksX3_isStuck_0 13 rfl rfl)
theorem dX3_isStuck_14 : decode cX3_isStuck 14 = .ok (.invokevirtual 374, 3) := dk_182 1 118 (dk_at dksX3_isStuck_0 14 rfl rfl)
theorem dX3_isStuck_17 : decode cX3_isStuck 17 = .ok (.iload_n 1, 1) := dk_27 (dk_at dksX3_isStuck_0 17 rfl rfl)
theorem dX3_isStuck_18 : decode cX3_isStuck 18 = .ok (.invokevirtual 340, 3) := dk_182 1 84 (dk_at dksX3_isStuck_0 18 rfl rfl)
theorem dX3_isStuck_21 : decode cX3_isStuck 21 = .ok (.ifCond .ne 7, 3) := dk_154 0 7 (dk_at dksX3_isStuck_0 21 rfl rfl)
theorem dX3_isStuck_24 : decode cX3_isStuck 24 = .ok (.iconst 1, 1) := dk_4 (dk_at dksX3_isStuck_1 0 rfl rfl)
theorem dX3_isStuck_25 : decode cX3_isStuck 25 = .ok (.goto 4, 3) := dk_167 0 4 (dk_at dksX3_isStuck_1 1 rfl rfl)
theorem dX3_isStuck_28 : decode cX3_isStuck 28 = .ok (.iconst 0, 1) := dk_3 (dk_at dksX3_isStuck_1 4 rfl rfl)
theorem dX3_isStuck_29 : decode cX3_isStuck 29 = .ok (.ireturn, 1) := dk_172 (dk_at dksX3_isStuck_1 5 rfl rfl)
abbrev cX3_isOpen : ByteArray := prog_23_method_68_code
def yX3_isOpen : MethodName := ⟨RX3, "isOpen", "(II)Z"⟩
def dkwX3_isOpen_1 : List UInt8 := [167, 0, 4, 3, 172]
abbrev dktX3_isOpen_1 : List UInt8 := dkwX3_isOpen_1 ++ []
def dkwX3_isOpen_0 : List UInt8 := [42, 27, 5, 28, 104, 182, 0, 251, 62, 29, 2, 159, 0, 16, 42, 27, 29, 182, 0, 236, 154, 0, 7, 4]
abbrev dktX3_isOpen_0 : List UInt8 := dkwX3_isOpen_0 ++ dktX3_isOpen_1
theorem dksX3_isOpen_0 : cX3_isOpen.data.toList.drop 0 = dktX3_isOpen_0 := by decide +kernel
theorem dksX3_isOpen_1 : cX3_isOpen.data.toList.drop 24 = dktX3_isOpen_1 := dk_seg dksX3_isOpen_0 24 rfl rfl
theorem dX3_isOpen_0 : decode cX3_isOpen 0 = .ok (.aload_n 0, 1) := dk_42 (dk_at dksX3_isOpen_0 0 rfl rfl)
theorem dX3_isOpen_1 : decode cX3_isOpen 1 = .ok (.iload_n 1, 1) := dk_27 (dk_at dksX3_isOpen_0 1 rfl rfl)
theorem dX3_isOpen_2 : decode cX3_isOpen 2 = .ok (.iconst 2, 1) := dk_5 (dk_at dksX3_isOpen_0 2 rfl rfl)
theorem dX3_isOpen_3 : decode cX3_isOpen 3 = .ok (.iload_n 2, 1) := dk_28 (dk_at dksX3_isOpen_0 3 rfl rfl)
theorem dX3_isOpen_4 : decode cX3_isOpen 4 = .ok (.imul, 1) := dk_104 (dk_at dksX3_isOpen_0 4 rfl rfl)
theorem dX3_isOpen_5 : decode cX3_isOpen 5 = .ok (.invokevirtual 251, 3) := dk_182 0 251 (dk_at dksX3_isOpen_0 5 rfl rfl)
theorem dX3_isOpen_8 : decode cX3_isOpen 8 = .ok (.istore_n 3, 1) := dk_62 (dk_at dksX3_isOpen_0 8 rfl rfl)
theorem dX3_isOpen_9 : decode cX3_isOpen 9 = .ok (.iload_n 3, 1) := dk_29 (dk_at dksX3_isOpen_0 9 rfl rfl)
theorem dX3_isOpen_10 : decode cX3_isOpen 10 = .ok (.iconst (-1), 1) := dk_2 (dk_at dksX3_isOpen_0 10 rfl rfl)
theorem dX3_isOpen_11 : decode cX3_isOpen 11 = .ok (.if_icmp .eq 16, 3) := dk_159 0 16 (dk_at dksX3_isOpen_0 11 rfl rfl)
theorem dX3_isOpen_14 : decode cX3_isOpen 14 = .ok (.aload_n 0, 1) := dk_42 (dk_at dksX3_isOpen_0 14 rfl rfl)
theorem dX3_isOpen_15 : decode cX3_isOpen 15 = .ok (.iload_n 1, 1) := dk_27 (dk_at dksX3_isOpen_0 15 rfl rfl)
theorem dX3_isOpen_16 : decode cX3_isOpen 16 = .ok (.iload_n 3, 1) := dk_29 (dk_at dksX3_isOpen_0 16 rfl rfl)
theorem dX3_isOpen_17 : decode cX3_isOpen 17 = .ok (.invokevirtual 236, 3) := dk_182 0 236 (dk_at dksX3_isOpen_0 17 rfl rfl)
theorem dX3_isOpen_20 : decode cX3_isOpen 20 = .ok (.ifCond .ne 7, 3) := dk_154 0 7 (dk_at dksX3_isOpen_0 20 rfl rfl)
theorem dX3_isOpen_23 : decode cX3_isOpen 23 = .ok (.iconst 1, 1) := dk_4 (dk_at dksX3_isOpen_0 23 rfl rfl)
theorem dX3_isOpen_24 : decode cX3_isOpen 24 = .ok (.goto 4, 3) := dk_167 0 4 (dk_at dksX3_isOpen_1 0 rfl rfl)
theorem dX3_isOpen_27 : decode cX3_isOpen 27 = .ok (.iconst 0, 1) := dk_3 (dk_at dksX3_isOpen_1 3 rfl rfl)
theorem dX3_isOpen_28 : decode cX3_isOpen 28 = .ok (.ireturn, 1) := dk_172 (dk_at dksX3_isOpen_1 4 rfl rfl)
abbrev cX3_cancels : ByteArray := prog_23_method_126_code
def yX3_cancels : MethodName := ⟨RX3, "cancels", "(I)V"⟩
def dkwX3_cancels_1 : List UInt8 := [182, 1, 10, 182, 1, 13, 154, 0, 8, 42, 28, 182, 1, 152, 177]
abbrev dktX3_cancels_1 : List UInt8 := dkwX3_cancels_1 ++ []
def dkwX3_cancels_0 : List UInt8 := [42, 27, 182, 1, 118, 61, 42, 28, 27, 182, 1, 87, 42, 27, 16, 6, 7, 182, 1, 78, 42, 28, 42, 28]
abbrev dktX3_cancels_0 : List UInt8 := dkwX3_cancels_0 ++ dktX3_cancels_1
theorem dksX3_cancels_0 : cX3_cancels.data.toList.drop 0 = dktX3_cancels_0 := by decide +kernel
theorem dksX3_cancels_1 : cX3_cancels.data.toList.drop 24 = dktX3_cancels_1 := dk_seg dksX3_cancels_0 24 rfl rfl
theorem dX3_cancels_0 : decode cX3_cancels 0 = .ok (.aload_n 0, 1) := dk_42 (dk_at dksX3_cancels_0 0 rfl rfl)
theorem dX3_cancels_1 : decode cX3_cancels 1 = .ok (.iload_n 1, 1) := dk_27 (dk_at dksX3_cancels_0 1 rfl rfl)
theorem dX3_cancels_2 : decode cX3_cancels 2 = .ok (.invokevirtual 374, 3) := dk_182 1 118 (dk_at dksX3_cancels_0 2 rfl rfl)
theorem dX3_cancels_5 : decode cX3_cancels 5 = .ok (.istore_n 2, 1) := dk_61 (dk_at dksX3_cancels_0 5 rfl rfl)
theorem dX3_cancels_6 : decode cX3_cancels 6 = .ok (.aload_n 0, 1) := dk_42 (dk_at dksX3_cancels_0 6 rfl rfl)
theorem dX3_cancels_7 : decode cX3_cancels 7 = .ok (.iload_n 2, 1) := dk_28 (dk_at dksX3_cancels_0 7 rfl rfl)
theorem dX3_cancels_8 : decode cX3_cancels 8 = .ok (.iload_n 1, 1) := dk_27 (dk_at dksX3_cancels_0 8 rfl rfl)
theorem dX3_cancels_9 : decode cX3_cancels 9 = .ok (.invokevirtual 343, 3) := dk_182 1 87 (dk_at dksX3_cancels_0 9 rfl rfl)
theorem dX3_cancels_12 : decode cX3_cancels 12 = .ok (.aload_n 0, 1) := dk_42 (dk_at dksX3_cancels_0 12 rfl rfl)
theorem dX3_cancels_13 : decode cX3_cancels 13 = .ok (.iload_n 1, 1) := dk_27 (dk_at dksX3_cancels_0 13 rfl rfl)
theorem dX3_cancels_14 : decode cX3_cancels 14 = .ok (.bipush 6, 2) := dk_16 6 (dk_at dksX3_cancels_0 14 rfl rfl)
theorem dX3_cancels_16 : decode cX3_cancels 16 = .ok (.iconst 4, 1) := dk_7 (dk_at dksX3_cancels_0 16 rfl rfl)
theorem dX3_cancels_17 : decode cX3_cancels 17 = .ok (.invokevirtual 334, 3) := dk_182 1 78 (dk_at dksX3_cancels_0 17 rfl rfl)
theorem dX3_cancels_20 : decode cX3_cancels 20 = .ok (.aload_n 0, 1) := dk_42 (dk_at dksX3_cancels_0 20 rfl rfl)
theorem dX3_cancels_21 : decode cX3_cancels 21 = .ok (.iload_n 2, 1) := dk_28 (dk_at dksX3_cancels_0 21 rfl rfl)
theorem dX3_cancels_22 : decode cX3_cancels 22 = .ok (.aload_n 0, 1) := dk_42 (dk_at dksX3_cancels_0 22 rfl rfl)
theorem dX3_cancels_23 : decode cX3_cancels 23 = .ok (.iload_n 2, 1) := dk_28 (dk_at dksX3_cancels_0 23 rfl rfl)
theorem dX3_cancels_24 : decode cX3_cancels 24 = .ok (.invokevirtual 266, 3) := dk_182 1 10 (dk_at dksX3_cancels_1 0 rfl rfl)
theorem dX3_cancels_27 : decode cX3_cancels 27 = .ok (.invokevirtual 269, 3) := dk_182 1 13 (dk_at dksX3_cancels_1 3 rfl rfl)
theorem dX3_cancels_30 : decode cX3_cancels 30 = .ok (.ifCond .ne 8, 3) := dk_154 0 8 (dk_at dksX3_cancels_1 6 rfl rfl)
theorem dX3_cancels_33 : decode cX3_cancels 33 = .ok (.aload_n 0, 1) := dk_42 (dk_at dksX3_cancels_1 9 rfl rfl)
theorem dX3_cancels_34 : decode cX3_cancels 34 = .ok (.iload_n 2, 1) := dk_28 (dk_at dksX3_cancels_1 10 rfl rfl)
theorem dX3_cancels_35 : decode cX3_cancels 35 = .ok (.invokevirtual 408, 3) := dk_182 1 152 (dk_at dksX3_cancels_1 11 rfl rfl)
theorem dX3_cancels_38 : decode cX3_cancels 38 = .ok (.return_, 1) := dk_177 (dk_at dksX3_cancels_1 14 rfl rfl)
abbrev cX3_takesOut : ByteArray := prog_23_method_57_code
def yX3_takesOut : MethodName := ⟨RX3, "takesOut", "(II)V"⟩
def dkwX3_takesOut_5 : List UInt8 := [96, 21, 4, 79, 42, 27, 29, 182, 1, 16, 177]
abbrev dktX3_takesOut_5 : List UInt8 := dkwX3_takesOut_5 ++ []
def dkwX3_takesOut_4 : List UInt8 := [153, 0, 7, 3, 167, 0, 4, 4, 96, 54, 4, 132, 5, 1, 167, 255, 160, 42, 180, 0, 7, 16, 6, 27]
abbrev dktX3_takesOut_4 : List UInt8 := dkwX3_takesOut_4 ++ dktX3_takesOut_5
def dkwX3_takesOut_3 : List UInt8 := [180, 0, 7, 27, 21, 5, 21, 7, 184, 0, 204, 46, 79, 132, 7, 1, 167, 255, 216, 21, 4, 21, 6]
abbrev dktX3_takesOut_3 : List UInt8 := dkwX3_takesOut_3 ++ dktX3_takesOut_4
def dkwX3_takesOut_2 : List UInt8 := [21, 7, 6, 162, 0, 40, 21, 6, 154, 0, 35, 42, 180, 0, 7, 27, 21, 4, 21, 7, 184, 0, 204, 42]
abbrev dktX3_takesOut_2 : List UInt8 := dkwX3_takesOut_2 ++ dktX3_takesOut_3
def dkwX3_takesOut_1 : List UInt8 := [162, 0, 88, 42, 27, 21, 5, 182, 0, 216, 28, 160, 0, 7, 4, 167, 0, 4, 3, 54, 6, 3, 54, 7]
abbrev dktX3_takesOut_1 : List UInt8 := dkwX3_takesOut_1 ++ dktX3_takesOut_2
def dkwX3_takesOut_0 : List UInt8 := [42, 27, 182, 1, 10, 62, 3, 54, 4, 3, 54, 5, 21, 5, 42, 180, 0, 7, 16, 6, 27, 96, 46]
abbrev dktX3_takesOut_0 : List UInt8 := dkwX3_takesOut_0 ++ dktX3_takesOut_1
theorem dksX3_takesOut_0 : cX3_takesOut.data.toList.drop 0 = dktX3_takesOut_0 := by decide +kernel
theorem dksX3_takesOut_1 : cX3_takesOut.data.toList.drop 23 = dktX3_takesOut_1 := dk_seg dksX3_takesOut_0 23 rfl rfl
theorem dksX3_takesOut_2 : cX3_takesOut.data.toList.drop 47 = dktX3_takesOut_2 := dk_seg dksX3_takesOut_1 24 rfl rfl
theorem dksX3_takesOut_3 : cX3_takesOut.data.toList.drop 71 = dktX3_takesOut_3 := dk_seg dksX3_takesOut_2 24 rfl rfl
theorem dksX3_takesOut_4 : cX3_takesOut.data.toList.drop 94 = dktX3_takesOut_4 := dk_seg dksX3_takesOut_3 23 rfl rfl
theorem dksX3_takesOut_5 : cX3_takesOut.data.toList.drop 118 = dktX3_takesOut_5 := dk_seg dksX3_takesOut_4 24 rfl rfl
theorem dX3_takesOut_0 : decode cX3_takesOut 0 = .ok (.aload_n 0, 1) := dk_42 (dk_at dksX3_takesOut_0 0 rfl rfl)
theorem dX3_takesOut_1 : decode cX3_takesOut 1 = .ok (.iload_n 1, 1) := dk_27 (dk_at dksX3_takesOut_0 1 rfl rfl)
theorem dX3_takesOut_2 : decode cX3_takesOut 2 = .ok (.invokevirtual 266, 3) := dk_182 1 10 (dk_at dksX3_takesOut_0 2 rfl rfl)
theorem dX3_takesOut_5 : decode cX3_takesOut 5 = .ok (.istore_n 3, 1) := dk_62 (dk_at dksX3_takesOut_0 5 rfl rfl)
theorem dX3_takesOut_6 : decode cX3_takesOut 6 = .ok (.iconst 0, 1) := dk_3 (dk_at dksX3_takesOut_0 6 rfl rfl)
theorem dX3_takesOut_7 : decode cX3_takesOut 7 = .ok (.istore 4, 2) := dk_54 4 (dk_at dksX3_takesOut_0 7 rfl rfl)
theorem dX3_takesOut_9 : decode cX3_takesOut 9 = .ok (.iconst 0, 1) := dk_3 (dk_at dksX3_takesOut_0 9 rfl rfl)
theorem dX3_takesOut_10 : decode cX3_takesOut 10 = .ok (.istore 5, 2) := dk_54 5 (dk_at dksX3_takesOut_0 10 rfl rfl)
theorem dX3_takesOut_12 : decode cX3_takesOut 12 = .ok (.iload 5, 2) := dk_21 5 (dk_at dksX3_takesOut_0 12 rfl rfl)
theorem dX3_takesOut_14 : decode cX3_takesOut 14 = .ok (.aload_n 0, 1) := dk_42 (dk_at dksX3_takesOut_0 14 rfl rfl)
theorem dX3_takesOut_15 : decode cX3_takesOut 15 = .ok (.getfield 7, 3) := dk_180 0 7 (dk_at dksX3_takesOut_0 15 rfl rfl)
theorem dX3_takesOut_18 : decode cX3_takesOut 18 = .ok (.bipush 6, 2) := dk_16 6 (dk_at dksX3_takesOut_0 18 rfl rfl)
theorem dX3_takesOut_20 : decode cX3_takesOut 20 = .ok (.iload_n 1, 1) := dk_27 (dk_at dksX3_takesOut_0 20 rfl rfl)
theorem dX3_takesOut_21 : decode cX3_takesOut 21 = .ok (.iadd, 1) := dk_96 (dk_at dksX3_takesOut_0 21 rfl rfl)
theorem dX3_takesOut_22 : decode cX3_takesOut 22 = .ok (.iaload, 1) := dk_46 (dk_at dksX3_takesOut_0 22 rfl rfl)
theorem dX3_takesOut_23 : decode cX3_takesOut 23 = .ok (.if_icmp .ge 88, 3) := dk_162 0 88 (dk_at dksX3_takesOut_1 0 rfl rfl)
theorem dX3_takesOut_26 : decode cX3_takesOut 26 = .ok (.aload_n 0, 1) := dk_42 (dk_at dksX3_takesOut_1 3 rfl rfl)
theorem dX3_takesOut_27 : decode cX3_takesOut 27 = .ok (.iload_n 1, 1) := dk_27 (dk_at dksX3_takesOut_1 4 rfl rfl)
theorem dX3_takesOut_28 : decode cX3_takesOut 28 = .ok (.iload 5, 2) := dk_21 5 (dk_at dksX3_takesOut_1 5 rfl rfl)
theorem dX3_takesOut_30 : decode cX3_takesOut 30 = .ok (.invokevirtual 216, 3) := dk_182 0 216 (dk_at dksX3_takesOut_1 7 rfl rfl)
theorem dX3_takesOut_33 : decode cX3_takesOut 33 = .ok (.iload_n 2, 1) := dk_28 (dk_at dksX3_takesOut_1 10 rfl rfl)
theorem dX3_takesOut_34 : decode cX3_takesOut 34 = .ok (.if_icmp .ne 7, 3) := dk_160 0 7 (dk_at dksX3_takesOut_1 11 rfl rfl)
theorem dX3_takesOut_37 : decode cX3_takesOut 37 = .ok (.iconst 1, 1) := dk_4 (dk_at dksX3_takesOut_1 14 rfl rfl)
theorem dX3_takesOut_38 : decode cX3_takesOut 38 = .ok (.goto 4, 3) := dk_167 0 4 (dk_at dksX3_takesOut_1 15 rfl rfl)
theorem dX3_takesOut_41 : decode cX3_takesOut 41 = .ok (.iconst 0, 1) := dk_3 (dk_at dksX3_takesOut_1 18 rfl rfl)
theorem dX3_takesOut_42 : decode cX3_takesOut 42 = .ok (.istore 6, 2) := dk_54 6 (dk_at dksX3_takesOut_1 19 rfl rfl)
theorem dX3_takesOut_44 : decode cX3_takesOut 44 = .ok (.iconst 0, 1) := dk_3 (dk_at dksX3_takesOut_1 21 rfl rfl)
theorem dX3_takesOut_45 : decode cX3_takesOut 45 = .ok (.istore 7, 2) := dk_54 7 (dk_at dksX3_takesOut_1 22 rfl rfl)
theorem dX3_takesOut_47 : decode cX3_takesOut 47 = .ok (.iload 7, 2) := dk_21 7 (dk_at dksX3_takesOut_2 0 rfl rfl)
theorem dX3_takesOut_49 : decode cX3_takesOut 49 = .ok (.iconst 3, 1) := dk_6 (dk_at dksX3_takesOut_2 2 rfl rfl)
theorem dX3_takesOut_50 : decode cX3_takesOut 50 = .ok (.if_icmp .ge 40, 3) := dk_162 0 40 (dk_at dksX3_takesOut_2 3 rfl rfl)
theorem dX3_takesOut_53 : decode cX3_takesOut 53 = .ok (.iload 6, 2) := dk_21 6 (dk_at dksX3_takesOut_2 6 rfl rfl)
theorem dX3_takesOut_55 : decode cX3_takesOut 55 = .ok (.ifCond .ne 35, 3) := dk_154 0 35 (dk_at dksX3_takesOut_2 8 rfl rfl)
theorem dX3_takesOut_58 : decode cX3_takesOut 58 = .ok (.aload_n 0, 1) := dk_42 (dk_at dksX3_takesOut_2 11 rfl rfl)
theorem dX3_takesOut_59 : decode cX3_takesOut 59 = .ok (.getfield 7, 3) := dk_180 0 7 (dk_at dksX3_takesOut_2 12 rfl rfl)
theorem dX3_takesOut_62 : decode cX3_takesOut 62 = .ok (.iload_n 1, 1) := dk_27 (dk_at dksX3_takesOut_2 15 rfl rfl)
theorem dX3_takesOut_63 : decode cX3_takesOut 63 = .ok (.iload 4, 2) := dk_21 4 (dk_at dksX3_takesOut_2 16 rfl rfl)
theorem dX3_takesOut_65 : decode cX3_takesOut 65 = .ok (.iload 7, 2) := dk_21 7 (dk_at dksX3_takesOut_2 18 rfl rfl)
theorem dX3_takesOut_67 : decode cX3_takesOut 67 = .ok (.invokestatic 204, 3) := dk_184 0 204 (dk_at dksX3_takesOut_2 20 rfl rfl)
theorem dX3_takesOut_70 : decode cX3_takesOut 70 = .ok (.aload_n 0, 1) := dk_42 (dk_at dksX3_takesOut_2 23 rfl rfl)
theorem dX3_takesOut_71 : decode cX3_takesOut 71 = .ok (.getfield 7, 3) := dk_180 0 7 (dk_at dksX3_takesOut_3 0 rfl rfl)
theorem dX3_takesOut_74 : decode cX3_takesOut 74 = .ok (.iload_n 1, 1) := dk_27 (dk_at dksX3_takesOut_3 3 rfl rfl)
theorem dX3_takesOut_75 : decode cX3_takesOut 75 = .ok (.iload 5, 2) := dk_21 5 (dk_at dksX3_takesOut_3 4 rfl rfl)
theorem dX3_takesOut_77 : decode cX3_takesOut 77 = .ok (.iload 7, 2) := dk_21 7 (dk_at dksX3_takesOut_3 6 rfl rfl)
theorem dX3_takesOut_79 : decode cX3_takesOut 79 = .ok (.invokestatic 204, 3) := dk_184 0 204 (dk_at dksX3_takesOut_3 8 rfl rfl)
theorem dX3_takesOut_82 : decode cX3_takesOut 82 = .ok (.iaload, 1) := dk_46 (dk_at dksX3_takesOut_3 11 rfl rfl)
theorem dX3_takesOut_83 : decode cX3_takesOut 83 = .ok (.iastore, 1) := dk_79 (dk_at dksX3_takesOut_3 12 rfl rfl)
theorem dX3_takesOut_84 : decode cX3_takesOut 84 = .ok (.iinc 7 1, 3) := dk_132 7 1 (dk_at dksX3_takesOut_3 13 rfl rfl)
theorem dX3_takesOut_87 : decode cX3_takesOut 87 = .ok (.goto (-40), 3) := dk_167 255 216 (dk_at dksX3_takesOut_3 16 rfl rfl)
theorem dX3_takesOut_90 : decode cX3_takesOut 90 = .ok (.iload 4, 2) := dk_21 4 (dk_at dksX3_takesOut_3 19 rfl rfl)
theorem dX3_takesOut_92 : decode cX3_takesOut 92 = .ok (.iload 6, 2) := dk_21 6 (dk_at dksX3_takesOut_3 21 rfl rfl)
theorem dX3_takesOut_94 : decode cX3_takesOut 94 = .ok (.ifCond .eq 7, 3) := dk_153 0 7 (dk_at dksX3_takesOut_4 0 rfl rfl)
theorem dX3_takesOut_97 : decode cX3_takesOut 97 = .ok (.iconst 0, 1) := dk_3 (dk_at dksX3_takesOut_4 3 rfl rfl)
theorem dX3_takesOut_98 : decode cX3_takesOut 98 = .ok (.goto 4, 3) := dk_167 0 4 (dk_at dksX3_takesOut_4 4 rfl rfl)
theorem dX3_takesOut_101 : decode cX3_takesOut 101 = .ok (.iconst 1, 1) := dk_4 (dk_at dksX3_takesOut_4 7 rfl rfl)
theorem dX3_takesOut_102 : decode cX3_takesOut 102 = .ok (.iadd, 1) := dk_96 (dk_at dksX3_takesOut_4 8 rfl rfl)
theorem dX3_takesOut_103 : decode cX3_takesOut 103 = .ok (.istore 4, 2) := dk_54 4 (dk_at dksX3_takesOut_4 9 rfl rfl)
theorem dX3_takesOut_105 : decode cX3_takesOut 105 = .ok (.iinc 5 1, 3) := dk_132 5 1 (dk_at dksX3_takesOut_4 11 rfl rfl)
theorem dX3_takesOut_108 : decode cX3_takesOut 108 = .ok (.goto (-96), 3) := dk_167 255 160 (dk_at dksX3_takesOut_4 14 rfl rfl)
theorem dX3_takesOut_111 : decode cX3_takesOut 111 = .ok (.aload_n 0, 1) := dk_42 (dk_at dksX3_takesOut_4 17 rfl rfl)
theorem dX3_takesOut_112 : decode cX3_takesOut 112 = .ok (.getfield 7, 3) := dk_180 0 7 (dk_at dksX3_takesOut_4 18 rfl rfl)
theorem dX3_takesOut_115 : decode cX3_takesOut 115 = .ok (.bipush 6, 2) := dk_16 6 (dk_at dksX3_takesOut_4 21 rfl rfl)
theorem dX3_takesOut_117 : decode cX3_takesOut 117 = .ok (.iload_n 1, 1) := dk_27 (dk_at dksX3_takesOut_4 23 rfl rfl)
theorem dX3_takesOut_118 : decode cX3_takesOut 118 = .ok (.iadd, 1) := dk_96 (dk_at dksX3_takesOut_5 0 rfl rfl)
theorem dX3_takesOut_119 : decode cX3_takesOut 119 = .ok (.iload 4, 2) := dk_21 4 (dk_at dksX3_takesOut_5 1 rfl rfl)
theorem dX3_takesOut_121 : decode cX3_takesOut 121 = .ok (.iastore, 1) := dk_79 (dk_at dksX3_takesOut_5 3 rfl rfl)
theorem dX3_takesOut_122 : decode cX3_takesOut 122 = .ok (.aload_n 0, 1) := dk_42 (dk_at dksX3_takesOut_5 4 rfl rfl)
theorem dX3_takesOut_123 : decode cX3_takesOut 123 = .ok (.iload_n 1, 1) := dk_27 (dk_at dksX3_takesOut_5 5 rfl rfl)
theorem dX3_takesOut_124 : decode cX3_takesOut 124 = .ok (.iload_n 3, 1) := dk_29 (dk_at dksX3_takesOut_5 6 rfl rfl)
theorem dX3_takesOut_125 : decode cX3_takesOut 125 = .ok (.invokevirtual 272, 3) := dk_182 1 16 (dk_at dksX3_takesOut_5 7 rfl rfl)
theorem dX3_takesOut_128 : decode cX3_takesOut 128 = .ok (.return_, 1) := dk_177 (dk_at dksX3_takesOut_5 10 rfl rfl)
abbrev cX3_isPossible : ByteArray := prog_23_method_54_code
def yX3_isPossible : MethodName := ⟨RX3, "isPossible", "(II)Z"⟩
def dkwX3_isPossible_6 : List UInt8 := [163, 0, 7, 4, 167, 0, 4, 3, 172]
abbrev dktX3_isPossible_6 : List UInt8 := dkwX3_isPossible_6 ++ []
def dkwX3_isPossible_5 : List UInt8 := [180, 0, 7, 16, 6, 27, 96, 46, 153, 0, 19, 42, 27, 182, 1, 7, 42, 180, 0, 7, 5, 27, 96, 46]
abbrev dktX3_isPossible_5 : List UInt8 := dkwX3_isPossible_5 ++ dktX3_isPossible_6
def dkwX3_isPossible_4 : List UInt8 := [4, 182, 1, 3, 42, 27, 6, 182, 0, 192, 164, 0, 5, 3, 172, 132, 3, 1, 167, 255, 145, 42]
abbrev dktX3_isPossible_4 : List UInt8 := dkwX3_isPossible_4 ++ dktX3_isPossible_5
def dkwX3_isPossible_3 : List UInt8 := [164, 0, 5, 3, 172, 42, 27, 29, 3, 182, 1, 3, 42, 27, 5, 182, 0, 192, 163, 0, 19, 42, 27, 29]
abbrev dktX3_isPossible_3 : List UInt8 := dkwX3_isPossible_3 ++ dktX3_isPossible_4
def dkwX3_isPossible_2 : List UInt8 := [167, 0, 26, 42, 27, 29, 182, 0, 213, 42, 21, 4, 8, 182, 0, 211, 42, 180, 0, 33, 3, 46, 96]
abbrev dktX3_isPossible_2 : List UInt8 := dkwX3_isPossible_2 ++ dktX3_isPossible_3
def dkwX3_isPossible_1 : List UInt8 := [27, 29, 182, 0, 222, 153, 0, 22, 42, 27, 21, 4, 182, 0, 254, 42, 21, 4, 182, 1, 0, 164, 0, 31]
abbrev dktX3_isPossible_1 : List UInt8 := dkwX3_isPossible_1 ++ dktX3_isPossible_2
def dkwX3_isPossible_0 : List UInt8 := [28, 62, 29, 42, 180, 0, 7, 16, 6, 27, 96, 46, 162, 0, 104, 42, 27, 29, 182, 0, 216, 54, 4, 42]
abbrev dktX3_isPossible_0 : List UInt8 := dkwX3_isPossible_0 ++ dktX3_isPossible_1
theorem dksX3_isPossible_0 : cX3_isPossible.data.toList.drop 0 = dktX3_isPossible_0 := by decide +kernel
theorem dksX3_isPossible_1 : cX3_isPossible.data.toList.drop 24 = dktX3_isPossible_1 := dk_seg dksX3_isPossible_0 24 rfl rfl
theorem dksX3_isPossible_2 : cX3_isPossible.data.toList.drop 48 = dktX3_isPossible_2 := dk_seg dksX3_isPossible_1 24 rfl rfl
theorem dksX3_isPossible_3 : cX3_isPossible.data.toList.drop 71 = dktX3_isPossible_3 := dk_seg dksX3_isPossible_2 23 rfl rfl
theorem dksX3_isPossible_4 : cX3_isPossible.data.toList.drop 95 = dktX3_isPossible_4 := dk_seg dksX3_isPossible_3 24 rfl rfl
theorem dksX3_isPossible_5 : cX3_isPossible.data.toList.drop 117 = dktX3_isPossible_5 := dk_seg dksX3_isPossible_4 22 rfl rfl
theorem dksX3_isPossible_6 : cX3_isPossible.data.toList.drop 141 = dktX3_isPossible_6 := dk_seg dksX3_isPossible_5 24 rfl rfl
theorem dX3_isPossible_0 : decode cX3_isPossible 0 = .ok (.iload_n 2, 1) := dk_28 (dk_at dksX3_isPossible_0 0 rfl rfl)
theorem dX3_isPossible_1 : decode cX3_isPossible 1 = .ok (.istore_n 3, 1) := dk_62 (dk_at dksX3_isPossible_0 1 rfl rfl)
theorem dX3_isPossible_2 : decode cX3_isPossible 2 = .ok (.iload_n 3, 1) := dk_29 (dk_at dksX3_isPossible_0 2 rfl rfl)
theorem dX3_isPossible_3 : decode cX3_isPossible 3 = .ok (.aload_n 0, 1) := dk_42 (dk_at dksX3_isPossible_0 3 rfl rfl)
theorem dX3_isPossible_4 : decode cX3_isPossible 4 = .ok (.getfield 7, 3) := dk_180 0 7 (dk_at dksX3_isPossible_0 4 rfl rfl)
theorem dX3_isPossible_7 : decode cX3_isPossible 7 = .ok (.bipush 6, 2) := dk_16 6 (dk_at dksX3_isPossible_0 7 rfl rfl)
theorem dX3_isPossible_9 : decode cX3_isPossible 9 = .ok (.iload_n 1, 1) := dk_27 (dk_at dksX3_isPossible_0 9 rfl rfl)
theorem dX3_isPossible_10 : decode cX3_isPossible 10 = .ok (.iadd, 1) := dk_96 (dk_at dksX3_isPossible_0 10 rfl rfl)
theorem dX3_isPossible_11 : decode cX3_isPossible 11 = .ok (.iaload, 1) := dk_46 (dk_at dksX3_isPossible_0 11 rfl rfl)
theorem dX3_isPossible_12 : decode cX3_isPossible 12 = .ok (.if_icmp .ge 104, 3) := dk_162 0 104 (dk_at dksX3_isPossible_0 12 rfl rfl)
theorem dX3_isPossible_15 : decode cX3_isPossible 15 = .ok (.aload_n 0, 1) := dk_42 (dk_at dksX3_isPossible_0 15 rfl rfl)
theorem dX3_isPossible_16 : decode cX3_isPossible 16 = .ok (.iload_n 1, 1) := dk_27 (dk_at dksX3_isPossible_0 16 rfl rfl)
theorem dX3_isPossible_17 : decode cX3_isPossible 17 = .ok (.iload_n 3, 1) := dk_29 (dk_at dksX3_isPossible_0 17 rfl rfl)
theorem dX3_isPossible_18 : decode cX3_isPossible 18 = .ok (.invokevirtual 216, 3) := dk_182 0 216 (dk_at dksX3_isPossible_0 18 rfl rfl)
theorem dX3_isPossible_21 : decode cX3_isPossible 21 = .ok (.istore 4, 2) := dk_54 4 (dk_at dksX3_isPossible_0 21 rfl rfl)
theorem dX3_isPossible_23 : decode cX3_isPossible 23 = .ok (.aload_n 0, 1) := dk_42 (dk_at dksX3_isPossible_0 23 rfl rfl)
theorem dX3_isPossible_24 : decode cX3_isPossible 24 = .ok (.iload_n 1, 1) := dk_27 (dk_at dksX3_isPossible_1 0 rfl rfl)
theorem dX3_isPossible_25 : decode cX3_isPossible 25 = .ok (.iload_n 3, 1) := dk_29 (dk_at dksX3_isPossible_1 1 rfl rfl)
theorem dX3_isPossible_26 : decode cX3_isPossible 26 = .ok (.invokevirtual 222, 3) := dk_182 0 222 (dk_at dksX3_isPossible_1 2 rfl rfl)
theorem dX3_isPossible_29 : decode cX3_isPossible 29 = .ok (.ifCond .eq 22, 3) := dk_153 0 22 (dk_at dksX3_isPossible_1 5 rfl rfl)
theorem dX3_isPossible_32 : decode cX3_isPossible 32 = .ok (.aload_n 0, 1) := dk_42 (dk_at dksX3_isPossible_1 8 rfl rfl)
theorem dX3_isPossible_33 : decode cX3_isPossible 33 = .ok (.iload_n 1, 1) := dk_27 (dk_at dksX3_isPossible_1 9 rfl rfl)
theorem dX3_isPossible_34 : decode cX3_isPossible 34 = .ok (.iload 4, 2) := dk_21 4 (dk_at dksX3_isPossible_1 10 rfl rfl)
theorem dX3_isPossible_36 : decode cX3_isPossible 36 = .ok (.invokevirtual 254, 3) := dk_182 0 254 (dk_at dksX3_isPossible_1 12 rfl rfl)
theorem dX3_isPossible_39 : decode cX3_isPossible 39 = .ok (.aload_n 0, 1) := dk_42 (dk_at dksX3_isPossible_1 15 rfl rfl)
theorem dX3_isPossible_40 : decode cX3_isPossible 40 = .ok (.iload 4, 2) := dk_21 4 (dk_at dksX3_isPossible_1 16 rfl rfl)
theorem dX3_isPossible_42 : decode cX3_isPossible 42 = .ok (.invokevirtual 256, 3) := dk_182 1 0 (dk_at dksX3_isPossible_1 18 rfl rfl)
theorem dX3_isPossible_45 : decode cX3_isPossible 45 = .ok (.if_icmp .le 31, 3) := dk_164 0 31 (dk_at dksX3_isPossible_1 21 rfl rfl)
theorem dX3_isPossible_48 : decode cX3_isPossible 48 = .ok (.goto 26, 3) := dk_167 0 26 (dk_at dksX3_isPossible_2 0 rfl rfl)
theorem dX3_isPossible_51 : decode cX3_isPossible 51 = .ok (.aload_n 0, 1) := dk_42 (dk_at dksX3_isPossible_2 3 rfl rfl)
theorem dX3_isPossible_52 : decode cX3_isPossible 52 = .ok (.iload_n 1, 1) := dk_27 (dk_at dksX3_isPossible_2 4 rfl rfl)
theorem dX3_isPossible_53 : decode cX3_isPossible 53 = .ok (.iload_n 3, 1) := dk_29 (dk_at dksX3_isPossible_2 5 rfl rfl)
theorem dX3_isPossible_54 : decode cX3_isPossible 54 = .ok (.invokevirtual 213, 3) := dk_182 0 213 (dk_at dksX3_isPossible_2 6 rfl rfl)
theorem dX3_isPossible_57 : decode cX3_isPossible 57 = .ok (.aload_n 0, 1) := dk_42 (dk_at dksX3_isPossible_2 9 rfl rfl)
theorem dX3_isPossible_58 : decode cX3_isPossible 58 = .ok (.iload 4, 2) := dk_21 4 (dk_at dksX3_isPossible_2 10 rfl rfl)
theorem dX3_isPossible_60 : decode cX3_isPossible 60 = .ok (.iconst 5, 1) := dk_8 (dk_at dksX3_isPossible_2 12 rfl rfl)
theorem dX3_isPossible_61 : decode cX3_isPossible 61 = .ok (.invokevirtual 211, 3) := dk_182 0 211 (dk_at dksX3_isPossible_2 13 rfl rfl)
theorem dX3_isPossible_64 : decode cX3_isPossible 64 = .ok (.aload_n 0, 1) := dk_42 (dk_at dksX3_isPossible_2 16 rfl rfl)
theorem dX3_isPossible_65 : decode cX3_isPossible 65 = .ok (.getfield 33, 3) := dk_180 0 33 (dk_at dksX3_isPossible_2 17 rfl rfl)
theorem dX3_isPossible_68 : decode cX3_isPossible 68 = .ok (.iconst 0, 1) := dk_3 (dk_at dksX3_isPossible_2 20 rfl rfl)
theorem dX3_isPossible_69 : decode cX3_isPossible 69 = .ok (.iaload, 1) := dk_46 (dk_at dksX3_isPossible_2 21 rfl rfl)
theorem dX3_isPossible_70 : decode cX3_isPossible 70 = .ok (.iadd, 1) := dk_96 (dk_at dksX3_isPossible_2 22 rfl rfl)
theorem dX3_isPossible_71 : decode cX3_isPossible 71 = .ok (.if_icmp .le 5, 3) := dk_164 0 5 (dk_at dksX3_isPossible_3 0 rfl rfl)
theorem dX3_isPossible_74 : decode cX3_isPossible 74 = .ok (.iconst 0, 1) := dk_3 (dk_at dksX3_isPossible_3 3 rfl rfl)
theorem dX3_isPossible_75 : decode cX3_isPossible 75 = .ok (.ireturn, 1) := dk_172 (dk_at dksX3_isPossible_3 4 rfl rfl)
theorem dX3_isPossible_76 : decode cX3_isPossible 76 = .ok (.aload_n 0, 1) := dk_42 (dk_at dksX3_isPossible_3 5 rfl rfl)
theorem dX3_isPossible_77 : decode cX3_isPossible 77 = .ok (.iload_n 1, 1) := dk_27 (dk_at dksX3_isPossible_3 6 rfl rfl)
theorem dX3_isPossible_78 : decode cX3_isPossible 78 = .ok (.iload_n 3, 1) := dk_29 (dk_at dksX3_isPossible_3 7 rfl rfl)
theorem dX3_isPossible_79 : decode cX3_isPossible 79 = .ok (.iconst 0, 1) := dk_3 (dk_at dksX3_isPossible_3 8 rfl rfl)
theorem dX3_isPossible_80 : decode cX3_isPossible 80 = .ok (.invokevirtual 259, 3) := dk_182 1 3 (dk_at dksX3_isPossible_3 9 rfl rfl)
theorem dX3_isPossible_83 : decode cX3_isPossible 83 = .ok (.aload_n 0, 1) := dk_42 (dk_at dksX3_isPossible_3 12 rfl rfl)
theorem dX3_isPossible_84 : decode cX3_isPossible 84 = .ok (.iload_n 1, 1) := dk_27 (dk_at dksX3_isPossible_3 13 rfl rfl)
theorem dX3_isPossible_85 : decode cX3_isPossible 85 = .ok (.iconst 2, 1) := dk_5 (dk_at dksX3_isPossible_3 14 rfl rfl)
theorem dX3_isPossible_86 : decode cX3_isPossible 86 = .ok (.invokevirtual 192, 3) := dk_182 0 192 (dk_at dksX3_isPossible_3 15 rfl rfl)
theorem dX3_isPossible_89 : decode cX3_isPossible 89 = .ok (.if_icmp .gt 19, 3) := dk_163 0 19 (dk_at dksX3_isPossible_3 18 rfl rfl)
theorem dX3_isPossible_92 : decode cX3_isPossible 92 = .ok (.aload_n 0, 1) := dk_42 (dk_at dksX3_isPossible_3 21 rfl rfl)
theorem dX3_isPossible_93 : decode cX3_isPossible 93 = .ok (.iload_n 1, 1) := dk_27 (dk_at dksX3_isPossible_3 22 rfl rfl)
theorem dX3_isPossible_94 : decode cX3_isPossible 94 = .ok (.iload_n 3, 1) := dk_29 (dk_at dksX3_isPossible_3 23 rfl rfl)
theorem dX3_isPossible_95 : decode cX3_isPossible 95 = .ok (.iconst 1, 1) := dk_4 (dk_at dksX3_isPossible_4 0 rfl rfl)
theorem dX3_isPossible_96 : decode cX3_isPossible 96 = .ok (.invokevirtual 259, 3) := dk_182 1 3 (dk_at dksX3_isPossible_4 1 rfl rfl)
theorem dX3_isPossible_99 : decode cX3_isPossible 99 = .ok (.aload_n 0, 1) := dk_42 (dk_at dksX3_isPossible_4 4 rfl rfl)
theorem dX3_isPossible_100 : decode cX3_isPossible 100 = .ok (.iload_n 1, 1) := dk_27 (dk_at dksX3_isPossible_4 5 rfl rfl)
theorem dX3_isPossible_101 : decode cX3_isPossible 101 = .ok (.iconst 3, 1) := dk_6 (dk_at dksX3_isPossible_4 6 rfl rfl)
theorem dX3_isPossible_102 : decode cX3_isPossible 102 = .ok (.invokevirtual 192, 3) := dk_182 0 192 (dk_at dksX3_isPossible_4 7 rfl rfl)
theorem dX3_isPossible_105 : decode cX3_isPossible 105 = .ok (.if_icmp .le 5, 3) := dk_164 0 5 (dk_at dksX3_isPossible_4 10 rfl rfl)
theorem dX3_isPossible_108 : decode cX3_isPossible 108 = .ok (.iconst 0, 1) := dk_3 (dk_at dksX3_isPossible_4 13 rfl rfl)
theorem dX3_isPossible_109 : decode cX3_isPossible 109 = .ok (.ireturn, 1) := dk_172 (dk_at dksX3_isPossible_4 14 rfl rfl)
theorem dX3_isPossible_110 : decode cX3_isPossible 110 = .ok (.iinc 3 1, 3) := dk_132 3 1 (dk_at dksX3_isPossible_4 15 rfl rfl)
theorem dX3_isPossible_113 : decode cX3_isPossible 113 = .ok (.goto (-111), 3) := dk_167 255 145 (dk_at dksX3_isPossible_4 18 rfl rfl)
theorem dX3_isPossible_116 : decode cX3_isPossible 116 = .ok (.aload_n 0, 1) := dk_42 (dk_at dksX3_isPossible_4 21 rfl rfl)
theorem dX3_isPossible_117 : decode cX3_isPossible 117 = .ok (.getfield 7, 3) := dk_180 0 7 (dk_at dksX3_isPossible_5 0 rfl rfl)
theorem dX3_isPossible_120 : decode cX3_isPossible 120 = .ok (.bipush 6, 2) := dk_16 6 (dk_at dksX3_isPossible_5 3 rfl rfl)
theorem dX3_isPossible_122 : decode cX3_isPossible 122 = .ok (.iload_n 1, 1) := dk_27 (dk_at dksX3_isPossible_5 5 rfl rfl)
theorem dX3_isPossible_123 : decode cX3_isPossible 123 = .ok (.iadd, 1) := dk_96 (dk_at dksX3_isPossible_5 6 rfl rfl)
theorem dX3_isPossible_124 : decode cX3_isPossible 124 = .ok (.iaload, 1) := dk_46 (dk_at dksX3_isPossible_5 7 rfl rfl)
theorem dX3_isPossible_125 : decode cX3_isPossible 125 = .ok (.ifCond .eq 19, 3) := dk_153 0 19 (dk_at dksX3_isPossible_5 8 rfl rfl)
theorem dX3_isPossible_128 : decode cX3_isPossible 128 = .ok (.aload_n 0, 1) := dk_42 (dk_at dksX3_isPossible_5 11 rfl rfl)
theorem dX3_isPossible_129 : decode cX3_isPossible 129 = .ok (.iload_n 1, 1) := dk_27 (dk_at dksX3_isPossible_5 12 rfl rfl)
theorem dX3_isPossible_130 : decode cX3_isPossible 130 = .ok (.invokevirtual 263, 3) := dk_182 1 7 (dk_at dksX3_isPossible_5 13 rfl rfl)
theorem dX3_isPossible_133 : decode cX3_isPossible 133 = .ok (.aload_n 0, 1) := dk_42 (dk_at dksX3_isPossible_5 16 rfl rfl)
theorem dX3_isPossible_134 : decode cX3_isPossible 134 = .ok (.getfield 7, 3) := dk_180 0 7 (dk_at dksX3_isPossible_5 17 rfl rfl)
theorem dX3_isPossible_137 : decode cX3_isPossible 137 = .ok (.iconst 2, 1) := dk_5 (dk_at dksX3_isPossible_5 20 rfl rfl)
theorem dX3_isPossible_138 : decode cX3_isPossible 138 = .ok (.iload_n 1, 1) := dk_27 (dk_at dksX3_isPossible_5 21 rfl rfl)
theorem dX3_isPossible_139 : decode cX3_isPossible 139 = .ok (.iadd, 1) := dk_96 (dk_at dksX3_isPossible_5 22 rfl rfl)
theorem dX3_isPossible_140 : decode cX3_isPossible 140 = .ok (.iaload, 1) := dk_46 (dk_at dksX3_isPossible_5 23 rfl rfl)
theorem dX3_isPossible_141 : decode cX3_isPossible 141 = .ok (.if_icmp .gt 7, 3) := dk_163 0 7 (dk_at dksX3_isPossible_6 0 rfl rfl)
theorem dX3_isPossible_144 : decode cX3_isPossible 144 = .ok (.iconst 1, 1) := dk_4 (dk_at dksX3_isPossible_6 3 rfl rfl)
theorem dX3_isPossible_145 : decode cX3_isPossible 145 = .ok (.goto 4, 3) := dk_167 0 4 (dk_at dksX3_isPossible_6 4 rfl rfl)
theorem dX3_isPossible_148 : decode cX3_isPossible 148 = .ok (.iconst 0, 1) := dk_3 (dk_at dksX3_isPossible_6 7 rfl rfl)
theorem dX3_isPossible_149 : decode cX3_isPossible 149 = .ok (.ireturn, 1) := dk_172 (dk_at dksX3_isPossible_6 8 rfl rfl)
abbrev cX3_repairs : ByteArray := prog_23_method_70_code
def yX3_repairs : MethodName := ⟨RX3, "repairs", "(I)V"⟩
def dkwX3_repairs_2 : List UInt8 := [16, 60, 42, 180, 0, 33, 16, 6, 46, 104, 182, 1, 78, 132, 2, 1, 167, 255, 201, 177]
abbrev dktX3_repairs_2 : List UInt8 := dkwX3_repairs_2 ++ []
def dkwX3_repairs_1 : List UInt8 := [153, 0, 36, 42, 28, 182, 1, 81, 154, 0, 28, 42, 28, 16, 6, 8, 182, 1, 78, 42, 28, 16, 8]
abbrev dktX3_repairs_1 : List UInt8 := dkwX3_repairs_1 ++ dktX3_repairs_2
def dkwX3_repairs_0 : List UInt8 := [42, 27, 182, 1, 90, 3, 61, 28, 42, 180, 0, 7, 4, 46, 162, 0, 51, 42, 180, 0, 39, 28, 51]
abbrev dktX3_repairs_0 : List UInt8 := dkwX3_repairs_0 ++ dktX3_repairs_1
theorem dksX3_repairs_0 : cX3_repairs.data.toList.drop 0 = dktX3_repairs_0 := by decide +kernel
theorem dksX3_repairs_1 : cX3_repairs.data.toList.drop 23 = dktX3_repairs_1 := dk_seg dksX3_repairs_0 23 rfl rfl
theorem dksX3_repairs_2 : cX3_repairs.data.toList.drop 46 = dktX3_repairs_2 := dk_seg dksX3_repairs_1 23 rfl rfl
theorem dX3_repairs_0 : decode cX3_repairs 0 = .ok (.aload_n 0, 1) := dk_42 (dk_at dksX3_repairs_0 0 rfl rfl)
theorem dX3_repairs_1 : decode cX3_repairs 1 = .ok (.iload_n 1, 1) := dk_27 (dk_at dksX3_repairs_0 1 rfl rfl)
theorem dX3_repairs_2 : decode cX3_repairs 2 = .ok (.invokevirtual 346, 3) := dk_182 1 90 (dk_at dksX3_repairs_0 2 rfl rfl)
theorem dX3_repairs_5 : decode cX3_repairs 5 = .ok (.iconst 0, 1) := dk_3 (dk_at dksX3_repairs_0 5 rfl rfl)
theorem dX3_repairs_6 : decode cX3_repairs 6 = .ok (.istore_n 2, 1) := dk_61 (dk_at dksX3_repairs_0 6 rfl rfl)
theorem dX3_repairs_7 : decode cX3_repairs 7 = .ok (.iload_n 2, 1) := dk_28 (dk_at dksX3_repairs_0 7 rfl rfl)
theorem dX3_repairs_8 : decode cX3_repairs 8 = .ok (.aload_n 0, 1) := dk_42 (dk_at dksX3_repairs_0 8 rfl rfl)
theorem dX3_repairs_9 : decode cX3_repairs 9 = .ok (.getfield 7, 3) := dk_180 0 7 (dk_at dksX3_repairs_0 9 rfl rfl)
theorem dX3_repairs_12 : decode cX3_repairs 12 = .ok (.iconst 1, 1) := dk_4 (dk_at dksX3_repairs_0 12 rfl rfl)
theorem dX3_repairs_13 : decode cX3_repairs 13 = .ok (.iaload, 1) := dk_46 (dk_at dksX3_repairs_0 13 rfl rfl)
theorem dX3_repairs_14 : decode cX3_repairs 14 = .ok (.if_icmp .ge 51, 3) := dk_162 0 51 (dk_at dksX3_repairs_0 14 rfl rfl)
theorem dX3_repairs_17 : decode cX3_repairs 17 = .ok (.aload_n 0, 1) := dk_42 (dk_at dksX3_repairs_0 17 rfl rfl)
theorem dX3_repairs_18 : decode cX3_repairs 18 = .ok (.getfield 39, 3) := dk_180 0 39 (dk_at dksX3_repairs_0 18 rfl rfl)
theorem dX3_repairs_21 : decode cX3_repairs 21 = .ok (.iload_n 2, 1) := dk_28 (dk_at dksX3_repairs_0 21 rfl rfl)
theorem dX3_repairs_22 : decode cX3_repairs 22 = .ok (.baload, 1) := dk_51 (dk_at dksX3_repairs_0 22 rfl rfl)
theorem dX3_repairs_23 : decode cX3_repairs 23 = .ok (.ifCond .eq 36, 3) := dk_153 0 36 (dk_at dksX3_repairs_1 0 rfl rfl)
theorem dX3_repairs_26 : decode cX3_repairs 26 = .ok (.aload_n 0, 1) := dk_42 (dk_at dksX3_repairs_1 3 rfl rfl)
theorem dX3_repairs_27 : decode cX3_repairs 27 = .ok (.iload_n 2, 1) := dk_28 (dk_at dksX3_repairs_1 4 rfl rfl)
theorem dX3_repairs_28 : decode cX3_repairs 28 = .ok (.invokevirtual 337, 3) := dk_182 1 81 (dk_at dksX3_repairs_1 5 rfl rfl)
theorem dX3_repairs_31 : decode cX3_repairs 31 = .ok (.ifCond .ne 28, 3) := dk_154 0 28 (dk_at dksX3_repairs_1 8 rfl rfl)
theorem dX3_repairs_34 : decode cX3_repairs 34 = .ok (.aload_n 0, 1) := dk_42 (dk_at dksX3_repairs_1 11 rfl rfl)
theorem dX3_repairs_35 : decode cX3_repairs 35 = .ok (.iload_n 2, 1) := dk_28 (dk_at dksX3_repairs_1 12 rfl rfl)
theorem dX3_repairs_36 : decode cX3_repairs 36 = .ok (.bipush 6, 2) := dk_16 6 (dk_at dksX3_repairs_1 13 rfl rfl)
theorem dX3_repairs_38 : decode cX3_repairs 38 = .ok (.iconst 5, 1) := dk_8 (dk_at dksX3_repairs_1 15 rfl rfl)
theorem dX3_repairs_39 : decode cX3_repairs 39 = .ok (.invokevirtual 334, 3) := dk_182 1 78 (dk_at dksX3_repairs_1 16 rfl rfl)
theorem dX3_repairs_42 : decode cX3_repairs 42 = .ok (.aload_n 0, 1) := dk_42 (dk_at dksX3_repairs_1 19 rfl rfl)
theorem dX3_repairs_43 : decode cX3_repairs 43 = .ok (.iload_n 2, 1) := dk_28 (dk_at dksX3_repairs_1 20 rfl rfl)
theorem dX3_repairs_44 : decode cX3_repairs 44 = .ok (.bipush 8, 2) := dk_16 8 (dk_at dksX3_repairs_1 21 rfl rfl)
theorem dX3_repairs_46 : decode cX3_repairs 46 = .ok (.bipush 60, 2) := dk_16 60 (dk_at dksX3_repairs_2 0 rfl rfl)
theorem dX3_repairs_48 : decode cX3_repairs 48 = .ok (.aload_n 0, 1) := dk_42 (dk_at dksX3_repairs_2 2 rfl rfl)
theorem dX3_repairs_49 : decode cX3_repairs 49 = .ok (.getfield 33, 3) := dk_180 0 33 (dk_at dksX3_repairs_2 3 rfl rfl)
theorem dX3_repairs_52 : decode cX3_repairs 52 = .ok (.bipush 6, 2) := dk_16 6 (dk_at dksX3_repairs_2 6 rfl rfl)
theorem dX3_repairs_54 : decode cX3_repairs 54 = .ok (.iaload, 1) := dk_46 (dk_at dksX3_repairs_2 8 rfl rfl)
theorem dX3_repairs_55 : decode cX3_repairs 55 = .ok (.imul, 1) := dk_104 (dk_at dksX3_repairs_2 9 rfl rfl)
theorem dX3_repairs_56 : decode cX3_repairs 56 = .ok (.invokevirtual 334, 3) := dk_182 1 78 (dk_at dksX3_repairs_2 10 rfl rfl)
theorem dX3_repairs_59 : decode cX3_repairs 59 = .ok (.iinc 2 1, 3) := dk_132 2 1 (dk_at dksX3_repairs_2 13 rfl rfl)
theorem dX3_repairs_62 : decode cX3_repairs 62 = .ok (.goto (-55), 3) := dk_167 255 201 (dk_at dksX3_repairs_2 16 rfl rfl)
theorem dX3_repairs_65 : decode cX3_repairs 65 = .ok (.return_, 1) := dk_177 (dk_at dksX3_repairs_2 19 rfl rfl)
abbrev cX3_empties : ByteArray := prog_23_method_69_code
def yX3_empties : MethodName := ⟨RX3, "empties", "(I)V"⟩
def dkwX3_empties_2 : List UInt8 := [153, 0, 9, 42, 27, 28, 182, 1, 87, 132, 2, 1, 167, 255, 228, 177]
abbrev dktX3_empties_2 : List UInt8 := dkwX3_empties_2 ++ []
def dkwX3_empties_1 : List UInt8 := [132, 2, 1, 167, 255, 231, 3, 61, 28, 42, 180, 0, 7, 4, 46, 162, 0, 24, 42, 180, 0, 39, 28, 51]
abbrev dktX3_empties_1 : List UInt8 := dkwX3_empties_1 ++ dktX3_empties_2
def dkwX3_empties_0 : List UInt8 := [3, 61, 28, 42, 180, 0, 7, 4, 46, 162, 0, 21, 42, 180, 0, 39, 28, 42, 27, 28, 182, 1, 84, 84]
abbrev dktX3_empties_0 : List UInt8 := dkwX3_empties_0 ++ dktX3_empties_1
theorem dksX3_empties_0 : cX3_empties.data.toList.drop 0 = dktX3_empties_0 := by decide +kernel
theorem dksX3_empties_1 : cX3_empties.data.toList.drop 24 = dktX3_empties_1 := dk_seg dksX3_empties_0 24 rfl rfl
theorem dksX3_empties_2 : cX3_empties.data.toList.drop 48 = dktX3_empties_2 := dk_seg dksX3_empties_1 24 rfl rfl
theorem dX3_empties_0 : decode cX3_empties 0 = .ok (.iconst 0, 1) := dk_3 (dk_at dksX3_empties_0 0 rfl rfl)
theorem dX3_empties_1 : decode cX3_empties 1 = .ok (.istore_n 2, 1) := dk_61 (dk_at dksX3_empties_0 1 rfl rfl)
theorem dX3_empties_2 : decode cX3_empties 2 = .ok (.iload_n 2, 1) := dk_28 (dk_at dksX3_empties_0 2 rfl rfl)
theorem dX3_empties_3 : decode cX3_empties 3 = .ok (.aload_n 0, 1) := dk_42 (dk_at dksX3_empties_0 3 rfl rfl)
theorem dX3_empties_4 : decode cX3_empties 4 = .ok (.getfield 7, 3) := dk_180 0 7 (dk_at dksX3_empties_0 4 rfl rfl)
theorem dX3_empties_7 : decode cX3_empties 7 = .ok (.iconst 1, 1) := dk_4 (dk_at dksX3_empties_0 7 rfl rfl)
theorem dX3_empties_8 : decode cX3_empties 8 = .ok (.iaload, 1) := dk_46 (dk_at dksX3_empties_0 8 rfl rfl)
theorem dX3_empties_9 : decode cX3_empties 9 = .ok (.if_icmp .ge 21, 3) := dk_162 0 21 (dk_at dksX3_empties_0 9 rfl rfl)
theorem dX3_empties_12 : decode cX3_empties 12 = .ok (.aload_n 0, 1) := dk_42 (dk_at dksX3_empties_0 12 rfl rfl)
theorem dX3_empties_13 : decode cX3_empties 13 = .ok (.getfield 39, 3) := dk_180 0 39 (dk_at dksX3_empties_0 13 rfl rfl)
theorem dX3_empties_16 : decode cX3_empties 16 = .ok (.iload_n 2, 1) := dk_28 (dk_at dksX3_empties_0 16 rfl rfl)
theorem dX3_empties_17 : decode cX3_empties 17 = .ok (.aload_n 0, 1) := dk_42 (dk_at dksX3_empties_0 17 rfl rfl)
theorem dX3_empties_18 : decode cX3_empties 18 = .ok (.iload_n 1, 1) := dk_27 (dk_at dksX3_empties_0 18 rfl rfl)
theorem dX3_empties_19 : decode cX3_empties 19 = .ok (.iload_n 2, 1) := dk_28 (dk_at dksX3_empties_0 19 rfl rfl)
theorem dX3_empties_20 : decode cX3_empties 20 = .ok (.invokevirtual 340, 3) := dk_182 1 84 (dk_at dksX3_empties_0 20 rfl rfl)
theorem dX3_empties_23 : decode cX3_empties 23 = .ok (.bastore, 1) := dk_84 (dk_at dksX3_empties_0 23 rfl rfl)
theorem dX3_empties_24 : decode cX3_empties 24 = .ok (.iinc 2 1, 3) := dk_132 2 1 (dk_at dksX3_empties_1 0 rfl rfl)
theorem dX3_empties_27 : decode cX3_empties 27 = .ok (.goto (-25), 3) := dk_167 255 231 (dk_at dksX3_empties_1 3 rfl rfl)
theorem dX3_empties_30 : decode cX3_empties 30 = .ok (.iconst 0, 1) := dk_3 (dk_at dksX3_empties_1 6 rfl rfl)
theorem dX3_empties_31 : decode cX3_empties 31 = .ok (.istore_n 2, 1) := dk_61 (dk_at dksX3_empties_1 7 rfl rfl)
theorem dX3_empties_32 : decode cX3_empties 32 = .ok (.iload_n 2, 1) := dk_28 (dk_at dksX3_empties_1 8 rfl rfl)
theorem dX3_empties_33 : decode cX3_empties 33 = .ok (.aload_n 0, 1) := dk_42 (dk_at dksX3_empties_1 9 rfl rfl)
theorem dX3_empties_34 : decode cX3_empties 34 = .ok (.getfield 7, 3) := dk_180 0 7 (dk_at dksX3_empties_1 10 rfl rfl)
theorem dX3_empties_37 : decode cX3_empties 37 = .ok (.iconst 1, 1) := dk_4 (dk_at dksX3_empties_1 13 rfl rfl)
theorem dX3_empties_38 : decode cX3_empties 38 = .ok (.iaload, 1) := dk_46 (dk_at dksX3_empties_1 14 rfl rfl)
theorem dX3_empties_39 : decode cX3_empties 39 = .ok (.if_icmp .ge 24, 3) := dk_162 0 24 (dk_at dksX3_empties_1 15 rfl rfl)
theorem dX3_empties_42 : decode cX3_empties 42 = .ok (.aload_n 0, 1) := dk_42 (dk_at dksX3_empties_1 18 rfl rfl)
theorem dX3_empties_43 : decode cX3_empties 43 = .ok (.getfield 39, 3) := dk_180 0 39 (dk_at dksX3_empties_1 19 rfl rfl)
theorem dX3_empties_46 : decode cX3_empties 46 = .ok (.iload_n 2, 1) := dk_28 (dk_at dksX3_empties_1 22 rfl rfl)
theorem dX3_empties_47 : decode cX3_empties 47 = .ok (.baload, 1) := dk_51 (dk_at dksX3_empties_1 23 rfl rfl)
theorem dX3_empties_48 : decode cX3_empties 48 = .ok (.ifCond .eq 9, 3) := dk_153 0 9 (dk_at dksX3_empties_2 0 rfl rfl)
theorem dX3_empties_51 : decode cX3_empties 51 = .ok (.aload_n 0, 1) := dk_42 (dk_at dksX3_empties_2 3 rfl rfl)
theorem dX3_empties_52 : decode cX3_empties 52 = .ok (.iload_n 1, 1) := dk_27 (dk_at dksX3_empties_2 4 rfl rfl)
theorem dX3_empties_53 : decode cX3_empties 53 = .ok (.iload_n 2, 1) := dk_28 (dk_at dksX3_empties_2 5 rfl rfl)
theorem dX3_empties_54 : decode cX3_empties 54 = .ok (.invokevirtual 343, 3) := dk_182 1 87 (dk_at dksX3_empties_2 6 rfl rfl)
theorem dX3_empties_57 : decode cX3_empties 57 = .ok (.iinc 2 1, 3) := dk_132 2 1 (dk_at dksX3_empties_2 9 rfl rfl)
theorem dX3_empties_60 : decode cX3_empties 60 = .ok (.goto (-28), 3) := dk_167 255 228 (dk_at dksX3_empties_2 12 rfl rfl)
theorem dX3_empties_63 : decode cX3_empties 63 = .ok (.return_, 1) := dk_177 (dk_at dksX3_empties_2 15 rfl rfl)
abbrev cX3_request : ByteArray := prog_23_method_132_code
def yX3_request : MethodName := ⟨RX3, "request", "(IIIIII)I"⟩
def dkwX3_request_2 : List UInt8 := [27, 28, 29, 21, 4, 21, 5, 21, 6, 182, 0, 194, 42, 180, 0, 7, 4, 46, 4, 100, 172]
abbrev dktX3_request_2 : List UInt8 := dkwX3_request_2 ++ []
def dkwX3_request_1 : List UInt8 := [16, 24, 160, 0, 7, 4, 167, 0, 4, 3, 4, 182, 0, 55, 153, 0, 5, 3, 172, 42, 182, 1, 164, 42]
abbrev dktX3_request_1 : List UInt8 := dkwX3_request_1 ++ dktX3_request_2
def dkwX3_request_0 : List UInt8 := [42, 27, 28, 29, 21, 4, 21, 5, 21, 6, 182, 1, 127, 154, 0, 27, 42, 42, 180, 0, 7, 4, 46]
abbrev dktX3_request_0 : List UInt8 := dkwX3_request_0 ++ dktX3_request_1
theorem dksX3_request_0 : cX3_request.data.toList.drop 0 = dktX3_request_0 := by decide +kernel
theorem dksX3_request_1 : cX3_request.data.toList.drop 23 = dktX3_request_1 := dk_seg dksX3_request_0 23 rfl rfl
theorem dksX3_request_2 : cX3_request.data.toList.drop 47 = dktX3_request_2 := dk_seg dksX3_request_1 24 rfl rfl
theorem dX3_request_0 : decode cX3_request 0 = .ok (.aload_n 0, 1) := dk_42 (dk_at dksX3_request_0 0 rfl rfl)
theorem dX3_request_1 : decode cX3_request 1 = .ok (.iload_n 1, 1) := dk_27 (dk_at dksX3_request_0 1 rfl rfl)
theorem dX3_request_2 : decode cX3_request 2 = .ok (.iload_n 2, 1) := dk_28 (dk_at dksX3_request_0 2 rfl rfl)
theorem dX3_request_3 : decode cX3_request 3 = .ok (.iload_n 3, 1) := dk_29 (dk_at dksX3_request_0 3 rfl rfl)
theorem dX3_request_4 : decode cX3_request 4 = .ok (.iload 4, 2) := dk_21 4 (dk_at dksX3_request_0 4 rfl rfl)
theorem dX3_request_6 : decode cX3_request 6 = .ok (.iload 5, 2) := dk_21 5 (dk_at dksX3_request_0 6 rfl rfl)
theorem dX3_request_8 : decode cX3_request 8 = .ok (.iload 6, 2) := dk_21 6 (dk_at dksX3_request_0 8 rfl rfl)
theorem dX3_request_10 : decode cX3_request 10 = .ok (.invokevirtual 383, 3) := dk_182 1 127 (dk_at dksX3_request_0 10 rfl rfl)
theorem dX3_request_13 : decode cX3_request 13 = .ok (.ifCond .ne 27, 3) := dk_154 0 27 (dk_at dksX3_request_0 13 rfl rfl)
theorem dX3_request_16 : decode cX3_request 16 = .ok (.aload_n 0, 1) := dk_42 (dk_at dksX3_request_0 16 rfl rfl)
theorem dX3_request_17 : decode cX3_request 17 = .ok (.aload_n 0, 1) := dk_42 (dk_at dksX3_request_0 17 rfl rfl)
theorem dX3_request_18 : decode cX3_request 18 = .ok (.getfield 7, 3) := dk_180 0 7 (dk_at dksX3_request_0 18 rfl rfl)
theorem dX3_request_21 : decode cX3_request 21 = .ok (.iconst 1, 1) := dk_4 (dk_at dksX3_request_0 21 rfl rfl)
theorem dX3_request_22 : decode cX3_request 22 = .ok (.iaload, 1) := dk_46 (dk_at dksX3_request_0 22 rfl rfl)
theorem dX3_request_23 : decode cX3_request 23 = .ok (.bipush 24, 2) := dk_16 24 (dk_at dksX3_request_1 0 rfl rfl)
theorem dX3_request_25 : decode cX3_request 25 = .ok (.if_icmp .ne 7, 3) := dk_160 0 7 (dk_at dksX3_request_1 2 rfl rfl)
theorem dX3_request_28 : decode cX3_request 28 = .ok (.iconst 1, 1) := dk_4 (dk_at dksX3_request_1 5 rfl rfl)
theorem dX3_request_29 : decode cX3_request 29 = .ok (.goto 4, 3) := dk_167 0 4 (dk_at dksX3_request_1 6 rfl rfl)
theorem dX3_request_32 : decode cX3_request 32 = .ok (.iconst 0, 1) := dk_3 (dk_at dksX3_request_1 9 rfl rfl)
theorem dX3_request_33 : decode cX3_request 33 = .ok (.iconst 1, 1) := dk_4 (dk_at dksX3_request_1 10 rfl rfl)
theorem dX3_request_34 : decode cX3_request 34 = .ok (.invokevirtual 55, 3) := dk_182 0 55 (dk_at dksX3_request_1 11 rfl rfl)
theorem dX3_request_37 : decode cX3_request 37 = .ok (.ifCond .eq 5, 3) := dk_153 0 5 (dk_at dksX3_request_1 14 rfl rfl)
theorem dX3_request_40 : decode cX3_request 40 = .ok (.iconst 0, 1) := dk_3 (dk_at dksX3_request_1 17 rfl rfl)
theorem dX3_request_41 : decode cX3_request 41 = .ok (.ireturn, 1) := dk_172 (dk_at dksX3_request_1 18 rfl rfl)
theorem dX3_request_42 : decode cX3_request 42 = .ok (.aload_n 0, 1) := dk_42 (dk_at dksX3_request_1 19 rfl rfl)
theorem dX3_request_43 : decode cX3_request 43 = .ok (.invokevirtual 420, 3) := dk_182 1 164 (dk_at dksX3_request_1 20 rfl rfl)
theorem dX3_request_46 : decode cX3_request 46 = .ok (.aload_n 0, 1) := dk_42 (dk_at dksX3_request_1 23 rfl rfl)
theorem dX3_request_47 : decode cX3_request 47 = .ok (.iload_n 1, 1) := dk_27 (dk_at dksX3_request_2 0 rfl rfl)
theorem dX3_request_48 : decode cX3_request 48 = .ok (.iload_n 2, 1) := dk_28 (dk_at dksX3_request_2 1 rfl rfl)
theorem dX3_request_49 : decode cX3_request 49 = .ok (.iload_n 3, 1) := dk_29 (dk_at dksX3_request_2 2 rfl rfl)
theorem dX3_request_50 : decode cX3_request 50 = .ok (.iload 4, 2) := dk_21 4 (dk_at dksX3_request_2 3 rfl rfl)
theorem dX3_request_52 : decode cX3_request 52 = .ok (.iload 5, 2) := dk_21 5 (dk_at dksX3_request_2 5 rfl rfl)
theorem dX3_request_54 : decode cX3_request 54 = .ok (.iload 6, 2) := dk_21 6 (dk_at dksX3_request_2 7 rfl rfl)
theorem dX3_request_56 : decode cX3_request 56 = .ok (.invokevirtual 194, 3) := dk_182 0 194 (dk_at dksX3_request_2 9 rfl rfl)
theorem dX3_request_59 : decode cX3_request 59 = .ok (.aload_n 0, 1) := dk_42 (dk_at dksX3_request_2 12 rfl rfl)
theorem dX3_request_60 : decode cX3_request 60 = .ok (.getfield 7, 3) := dk_180 0 7 (dk_at dksX3_request_2 13 rfl rfl)
theorem dX3_request_63 : decode cX3_request 63 = .ok (.iconst 1, 1) := dk_4 (dk_at dksX3_request_2 16 rfl rfl)
theorem dX3_request_64 : decode cX3_request 64 = .ok (.iaload, 1) := dk_46 (dk_at dksX3_request_2 17 rfl rfl)
theorem dX3_request_65 : decode cX3_request 65 = .ok (.iconst 1, 1) := dk_4 (dk_at dksX3_request_2 18 rfl rfl)
theorem dX3_request_66 : decode cX3_request 66 = .ok (.isub, 1) := dk_100 (dk_at dksX3_request_2 19 rfl rfl)
theorem dX3_request_67 : decode cX3_request 67 = .ok (.ireturn, 1) := dk_172 (dk_at dksX3_request_2 20 rfl rfl)
abbrev cX3_keeps : ByteArray := prog_23_method_131_code
def yX3_keeps : MethodName := ⟨RX3, "keeps", "()V"⟩
def dkwX3_keeps_0 : List UInt8 := [42, 3, 182, 1, 131, 42, 182, 1, 161, 177]
abbrev dktX3_keeps_0 : List UInt8 := dkwX3_keeps_0 ++ []
theorem dksX3_keeps_0 : cX3_keeps.data.toList.drop 0 = dktX3_keeps_0 := by decide +kernel
theorem dX3_keeps_0 : decode cX3_keeps 0 = .ok (.aload_n 0, 1) := dk_42 (dk_at dksX3_keeps_0 0 rfl rfl)
theorem dX3_keeps_1 : decode cX3_keeps 1 = .ok (.iconst 0, 1) := dk_3 (dk_at dksX3_keeps_0 1 rfl rfl)
theorem dX3_keeps_2 : decode cX3_keeps 2 = .ok (.invokevirtual 387, 3) := dk_182 1 131 (dk_at dksX3_keeps_0 2 rfl rfl)
theorem dX3_keeps_5 : decode cX3_keeps 5 = .ok (.aload_n 0, 1) := dk_42 (dk_at dksX3_keeps_0 5 rfl rfl)
theorem dX3_keeps_6 : decode cX3_keeps 6 = .ok (.invokevirtual 417, 3) := dk_182 1 161 (dk_at dksX3_keeps_0 6 rfl rfl)
theorem dX3_keeps_9 : decode cX3_keeps 9 = .ok (.return_, 1) := dk_177 (dk_at dksX3_keeps_0 9 rfl rfl)
abbrev cX3_keepsTrial : ByteArray := prog_23_method_130_code
def yX3_keepsTrial : MethodName := ⟨RX3, "keepsTrial", "()V"⟩
def dkwX3_keepsTrial_4 : List UInt8 := [180, 0, 198, 4, 96, 181, 0, 198, 177]
abbrev dktX3_keepsTrial_4 : List UInt8 := dkwX3_keepsTrial_4 ++ []
def dkwX3_keepsTrial_3 : List UInt8 := [180, 0, 198, 96, 104, 27, 96, 42, 180, 0, 13, 3, 27, 96, 46, 79, 132, 1, 1, 167, 255, 221, 42, 89]
abbrev dktX3_keepsTrial_3 : List UInt8 := dkwX3_keepsTrial_3 ++ dktX3_keepsTrial_4
def dkwX3_keepsTrial_2 : List UInt8 := [100, 181, 0, 198, 3, 60, 27, 17, 3, 67, 162, 0, 34, 42, 180, 0, 13, 17, 3, 67, 4, 42]
abbrev dktX3_keepsTrial_2 : List UInt8 := dkwX3_keepsTrial_2 ++ dktX3_keepsTrial_3
def dkwX3_keepsTrial_1 : List UInt8 := [27, 42, 180, 0, 13, 27, 17, 3, 67, 96, 46, 79, 132, 1, 1, 167, 255, 230, 42, 89, 180, 0, 198, 4]
abbrev dktX3_keepsTrial_1 : List UInt8 := dkwX3_keepsTrial_1 ++ dktX3_keepsTrial_2
def dkwX3_keepsTrial_0 : List UInt8 := [42, 180, 0, 198, 16, 6, 160, 0, 46, 17, 3, 67, 60, 27, 17, 19, 146, 162, 0, 25, 42, 180, 0, 13]
abbrev dktX3_keepsTrial_0 : List UInt8 := dkwX3_keepsTrial_0 ++ dktX3_keepsTrial_1
theorem dksX3_keepsTrial_0 : cX3_keepsTrial.data.toList.drop 0 = dktX3_keepsTrial_0 := by decide +kernel
theorem dksX3_keepsTrial_1 : cX3_keepsTrial.data.toList.drop 24 = dktX3_keepsTrial_1 := dk_seg dksX3_keepsTrial_0 24 rfl rfl
theorem dksX3_keepsTrial_2 : cX3_keepsTrial.data.toList.drop 48 = dktX3_keepsTrial_2 := dk_seg dksX3_keepsTrial_1 24 rfl rfl
theorem dksX3_keepsTrial_3 : cX3_keepsTrial.data.toList.drop 70 = dktX3_keepsTrial_3 := dk_seg dksX3_keepsTrial_2 22 rfl rfl
theorem dksX3_keepsTrial_4 : cX3_keepsTrial.data.toList.drop 94 = dktX3_keepsTrial_4 := dk_seg dksX3_keepsTrial_3 24 rfl rfl
theorem dX3_keepsTrial_0 : decode cX3_keepsTrial 0 = .ok (.aload_n 0, 1) := dk_42 (dk_at dksX3_keepsTrial_0 0 rfl rfl)
theorem dX3_keepsTrial_1 : decode cX3_keepsTrial 1 = .ok (.getfield 198, 3) := dk_180 0 198 (dk_at dksX3_keepsTrial_0 1 rfl rfl)
theorem dX3_keepsTrial_4 : decode cX3_keepsTrial 4 = .ok (.bipush 6, 2) := dk_16 6 (dk_at dksX3_keepsTrial_0 4 rfl rfl)
theorem dX3_keepsTrial_6 : decode cX3_keepsTrial 6 = .ok (.if_icmp .ne 46, 3) := dk_160 0 46 (dk_at dksX3_keepsTrial_0 6 rfl rfl)
theorem dX3_keepsTrial_9 : decode cX3_keepsTrial 9 = .ok (.sipush 835, 3) := dk_17 3 67 (dk_at dksX3_keepsTrial_0 9 rfl rfl)
theorem dX3_keepsTrial_12 : decode cX3_keepsTrial 12 = .ok (.istore_n 1, 1) := dk_60 (dk_at dksX3_keepsTrial_0 12 rfl rfl)
theorem dX3_keepsTrial_13 : decode cX3_keepsTrial 13 = .ok (.iload_n 1, 1) := dk_27 (dk_at dksX3_keepsTrial_0 13 rfl rfl)
theorem dX3_keepsTrial_14 : decode cX3_keepsTrial 14 = .ok (.sipush 5010, 3) := dk_17 19 146 (dk_at dksX3_keepsTrial_0 14 rfl rfl)
theorem dX3_keepsTrial_17 : decode cX3_keepsTrial 17 = .ok (.if_icmp .ge 25, 3) := dk_162 0 25 (dk_at dksX3_keepsTrial_0 17 rfl rfl)
theorem dX3_keepsTrial_20 : decode cX3_keepsTrial 20 = .ok (.aload_n 0, 1) := dk_42 (dk_at dksX3_keepsTrial_0 20 rfl rfl)
theorem dX3_keepsTrial_21 : decode cX3_keepsTrial 21 = .ok (.getfield 13, 3) := dk_180 0 13 (dk_at dksX3_keepsTrial_0 21 rfl rfl)
theorem dX3_keepsTrial_24 : decode cX3_keepsTrial 24 = .ok (.iload_n 1, 1) := dk_27 (dk_at dksX3_keepsTrial_1 0 rfl rfl)
theorem dX3_keepsTrial_25 : decode cX3_keepsTrial 25 = .ok (.aload_n 0, 1) := dk_42 (dk_at dksX3_keepsTrial_1 1 rfl rfl)
theorem dX3_keepsTrial_26 : decode cX3_keepsTrial 26 = .ok (.getfield 13, 3) := dk_180 0 13 (dk_at dksX3_keepsTrial_1 2 rfl rfl)
theorem dX3_keepsTrial_29 : decode cX3_keepsTrial 29 = .ok (.iload_n 1, 1) := dk_27 (dk_at dksX3_keepsTrial_1 5 rfl rfl)
theorem dX3_keepsTrial_30 : decode cX3_keepsTrial 30 = .ok (.sipush 835, 3) := dk_17 3 67 (dk_at dksX3_keepsTrial_1 6 rfl rfl)
theorem dX3_keepsTrial_33 : decode cX3_keepsTrial 33 = .ok (.iadd, 1) := dk_96 (dk_at dksX3_keepsTrial_1 9 rfl rfl)
theorem dX3_keepsTrial_34 : decode cX3_keepsTrial 34 = .ok (.iaload, 1) := dk_46 (dk_at dksX3_keepsTrial_1 10 rfl rfl)
theorem dX3_keepsTrial_35 : decode cX3_keepsTrial 35 = .ok (.iastore, 1) := dk_79 (dk_at dksX3_keepsTrial_1 11 rfl rfl)
theorem dX3_keepsTrial_36 : decode cX3_keepsTrial 36 = .ok (.iinc 1 1, 3) := dk_132 1 1 (dk_at dksX3_keepsTrial_1 12 rfl rfl)
theorem dX3_keepsTrial_39 : decode cX3_keepsTrial 39 = .ok (.goto (-26), 3) := dk_167 255 230 (dk_at dksX3_keepsTrial_1 15 rfl rfl)
theorem dX3_keepsTrial_42 : decode cX3_keepsTrial 42 = .ok (.aload_n 0, 1) := dk_42 (dk_at dksX3_keepsTrial_1 18 rfl rfl)
theorem dX3_keepsTrial_43 : decode cX3_keepsTrial 43 = .ok (.dup, 1) := dk_89 (dk_at dksX3_keepsTrial_1 19 rfl rfl)
theorem dX3_keepsTrial_44 : decode cX3_keepsTrial 44 = .ok (.getfield 198, 3) := dk_180 0 198 (dk_at dksX3_keepsTrial_1 20 rfl rfl)
theorem dX3_keepsTrial_47 : decode cX3_keepsTrial 47 = .ok (.iconst 1, 1) := dk_4 (dk_at dksX3_keepsTrial_1 23 rfl rfl)
theorem dX3_keepsTrial_48 : decode cX3_keepsTrial 48 = .ok (.isub, 1) := dk_100 (dk_at dksX3_keepsTrial_2 0 rfl rfl)
theorem dX3_keepsTrial_49 : decode cX3_keepsTrial 49 = .ok (.putfield 198, 3) := dk_181 0 198 (dk_at dksX3_keepsTrial_2 1 rfl rfl)
theorem dX3_keepsTrial_52 : decode cX3_keepsTrial 52 = .ok (.iconst 0, 1) := dk_3 (dk_at dksX3_keepsTrial_2 4 rfl rfl)
theorem dX3_keepsTrial_53 : decode cX3_keepsTrial 53 = .ok (.istore_n 1, 1) := dk_60 (dk_at dksX3_keepsTrial_2 5 rfl rfl)
theorem dX3_keepsTrial_54 : decode cX3_keepsTrial 54 = .ok (.iload_n 1, 1) := dk_27 (dk_at dksX3_keepsTrial_2 6 rfl rfl)
theorem dX3_keepsTrial_55 : decode cX3_keepsTrial 55 = .ok (.sipush 835, 3) := dk_17 3 67 (dk_at dksX3_keepsTrial_2 7 rfl rfl)
theorem dX3_keepsTrial_58 : decode cX3_keepsTrial 58 = .ok (.if_icmp .ge 34, 3) := dk_162 0 34 (dk_at dksX3_keepsTrial_2 10 rfl rfl)
theorem dX3_keepsTrial_61 : decode cX3_keepsTrial 61 = .ok (.aload_n 0, 1) := dk_42 (dk_at dksX3_keepsTrial_2 13 rfl rfl)
theorem dX3_keepsTrial_62 : decode cX3_keepsTrial 62 = .ok (.getfield 13, 3) := dk_180 0 13 (dk_at dksX3_keepsTrial_2 14 rfl rfl)
theorem dX3_keepsTrial_65 : decode cX3_keepsTrial 65 = .ok (.sipush 835, 3) := dk_17 3 67 (dk_at dksX3_keepsTrial_2 17 rfl rfl)
theorem dX3_keepsTrial_68 : decode cX3_keepsTrial 68 = .ok (.iconst 1, 1) := dk_4 (dk_at dksX3_keepsTrial_2 20 rfl rfl)
theorem dX3_keepsTrial_69 : decode cX3_keepsTrial 69 = .ok (.aload_n 0, 1) := dk_42 (dk_at dksX3_keepsTrial_2 21 rfl rfl)
theorem dX3_keepsTrial_70 : decode cX3_keepsTrial 70 = .ok (.getfield 198, 3) := dk_180 0 198 (dk_at dksX3_keepsTrial_3 0 rfl rfl)
theorem dX3_keepsTrial_73 : decode cX3_keepsTrial 73 = .ok (.iadd, 1) := dk_96 (dk_at dksX3_keepsTrial_3 3 rfl rfl)
theorem dX3_keepsTrial_74 : decode cX3_keepsTrial 74 = .ok (.imul, 1) := dk_104 (dk_at dksX3_keepsTrial_3 4 rfl rfl)
theorem dX3_keepsTrial_75 : decode cX3_keepsTrial 75 = .ok (.iload_n 1, 1) := dk_27 (dk_at dksX3_keepsTrial_3 5 rfl rfl)
theorem dX3_keepsTrial_76 : decode cX3_keepsTrial 76 = .ok (.iadd, 1) := dk_96 (dk_at dksX3_keepsTrial_3 6 rfl rfl)
theorem dX3_keepsTrial_77 : decode cX3_keepsTrial 77 = .ok (.aload_n 0, 1) := dk_42 (dk_at dksX3_keepsTrial_3 7 rfl rfl)
theorem dX3_keepsTrial_78 : decode cX3_keepsTrial 78 = .ok (.getfield 13, 3) := dk_180 0 13 (dk_at dksX3_keepsTrial_3 8 rfl rfl)
theorem dX3_keepsTrial_81 : decode cX3_keepsTrial 81 = .ok (.iconst 0, 1) := dk_3 (dk_at dksX3_keepsTrial_3 11 rfl rfl)
theorem dX3_keepsTrial_82 : decode cX3_keepsTrial 82 = .ok (.iload_n 1, 1) := dk_27 (dk_at dksX3_keepsTrial_3 12 rfl rfl)
theorem dX3_keepsTrial_83 : decode cX3_keepsTrial 83 = .ok (.iadd, 1) := dk_96 (dk_at dksX3_keepsTrial_3 13 rfl rfl)
theorem dX3_keepsTrial_84 : decode cX3_keepsTrial 84 = .ok (.iaload, 1) := dk_46 (dk_at dksX3_keepsTrial_3 14 rfl rfl)
theorem dX3_keepsTrial_85 : decode cX3_keepsTrial 85 = .ok (.iastore, 1) := dk_79 (dk_at dksX3_keepsTrial_3 15 rfl rfl)
theorem dX3_keepsTrial_86 : decode cX3_keepsTrial 86 = .ok (.iinc 1 1, 3) := dk_132 1 1 (dk_at dksX3_keepsTrial_3 16 rfl rfl)
theorem dX3_keepsTrial_89 : decode cX3_keepsTrial 89 = .ok (.goto (-35), 3) := dk_167 255 221 (dk_at dksX3_keepsTrial_3 19 rfl rfl)
theorem dX3_keepsTrial_92 : decode cX3_keepsTrial 92 = .ok (.aload_n 0, 1) := dk_42 (dk_at dksX3_keepsTrial_3 22 rfl rfl)
theorem dX3_keepsTrial_93 : decode cX3_keepsTrial 93 = .ok (.dup, 1) := dk_89 (dk_at dksX3_keepsTrial_3 23 rfl rfl)
theorem dX3_keepsTrial_94 : decode cX3_keepsTrial 94 = .ok (.getfield 198, 3) := dk_180 0 198 (dk_at dksX3_keepsTrial_4 0 rfl rfl)
theorem dX3_keepsTrial_97 : decode cX3_keepsTrial 97 = .ok (.iconst 1, 1) := dk_4 (dk_at dksX3_keepsTrial_4 3 rfl rfl)
theorem dX3_keepsTrial_98 : decode cX3_keepsTrial 98 = .ok (.iadd, 1) := dk_96 (dk_at dksX3_keepsTrial_4 4 rfl rfl)
theorem dX3_keepsTrial_99 : decode cX3_keepsTrial 99 = .ok (.putfield 198, 3) := dk_181 0 198 (dk_at dksX3_keepsTrial_4 5 rfl rfl)
theorem dX3_keepsTrial_102 : decode cX3_keepsTrial 102 = .ok (.return_, 1) := dk_177 (dk_at dksX3_keepsTrial_4 8 rfl rfl)
abbrev cX3_cancel : ByteArray := prog_23_method_133_code
def yX3_cancel : MethodName := ⟨RX3, "cancel", "(I)I"⟩
def dkwX3_cancel_1 : List UInt8 := [182, 1, 164, 42, 8, 182, 0, 201, 61, 42, 27, 182, 1, 158, 42, 8, 182, 0, 201, 28, 100, 172]
abbrev dktX3_cancel_1 : List UInt8 := dkwX3_cancel_1 ++ []
def dkwX3_cancel_0 : List UInt8 := [42, 27, 182, 1, 115, 154, 0, 16, 42, 42, 27, 182, 1, 155, 6, 182, 0, 55, 153, 0, 5, 3, 172, 42]
abbrev dktX3_cancel_0 : List UInt8 := dkwX3_cancel_0 ++ dktX3_cancel_1
theorem dksX3_cancel_0 : cX3_cancel.data.toList.drop 0 = dktX3_cancel_0 := by decide +kernel
theorem dksX3_cancel_1 : cX3_cancel.data.toList.drop 24 = dktX3_cancel_1 := dk_seg dksX3_cancel_0 24 rfl rfl
theorem dX3_cancel_0 : decode cX3_cancel 0 = .ok (.aload_n 0, 1) := dk_42 (dk_at dksX3_cancel_0 0 rfl rfl)
theorem dX3_cancel_1 : decode cX3_cancel 1 = .ok (.iload_n 1, 1) := dk_27 (dk_at dksX3_cancel_0 1 rfl rfl)
theorem dX3_cancel_2 : decode cX3_cancel 2 = .ok (.invokevirtual 371, 3) := dk_182 1 115 (dk_at dksX3_cancel_0 2 rfl rfl)
theorem dX3_cancel_5 : decode cX3_cancel 5 = .ok (.ifCond .ne 16, 3) := dk_154 0 16 (dk_at dksX3_cancel_0 5 rfl rfl)
theorem dX3_cancel_8 : decode cX3_cancel 8 = .ok (.aload_n 0, 1) := dk_42 (dk_at dksX3_cancel_0 8 rfl rfl)
theorem dX3_cancel_9 : decode cX3_cancel 9 = .ok (.aload_n 0, 1) := dk_42 (dk_at dksX3_cancel_0 9 rfl rfl)
theorem dX3_cancel_10 : decode cX3_cancel 10 = .ok (.iload_n 1, 1) := dk_27 (dk_at dksX3_cancel_0 10 rfl rfl)
theorem dX3_cancel_11 : decode cX3_cancel 11 = .ok (.invokevirtual 411, 3) := dk_182 1 155 (dk_at dksX3_cancel_0 11 rfl rfl)
theorem dX3_cancel_14 : decode cX3_cancel 14 = .ok (.iconst 3, 1) := dk_6 (dk_at dksX3_cancel_0 14 rfl rfl)
theorem dX3_cancel_15 : decode cX3_cancel 15 = .ok (.invokevirtual 55, 3) := dk_182 0 55 (dk_at dksX3_cancel_0 15 rfl rfl)
theorem dX3_cancel_18 : decode cX3_cancel 18 = .ok (.ifCond .eq 5, 3) := dk_153 0 5 (dk_at dksX3_cancel_0 18 rfl rfl)
theorem dX3_cancel_21 : decode cX3_cancel 21 = .ok (.iconst 0, 1) := dk_3 (dk_at dksX3_cancel_0 21 rfl rfl)
theorem dX3_cancel_22 : decode cX3_cancel 22 = .ok (.ireturn, 1) := dk_172 (dk_at dksX3_cancel_0 22 rfl rfl)
theorem dX3_cancel_23 : decode cX3_cancel 23 = .ok (.aload_n 0, 1) := dk_42 (dk_at dksX3_cancel_0 23 rfl rfl)
theorem dX3_cancel_24 : decode cX3_cancel 24 = .ok (.invokevirtual 420, 3) := dk_182 1 164 (dk_at dksX3_cancel_1 0 rfl rfl)
theorem dX3_cancel_27 : decode cX3_cancel 27 = .ok (.aload_n 0, 1) := dk_42 (dk_at dksX3_cancel_1 3 rfl rfl)
theorem dX3_cancel_28 : decode cX3_cancel 28 = .ok (.iconst 5, 1) := dk_8 (dk_at dksX3_cancel_1 4 rfl rfl)
theorem dX3_cancel_29 : decode cX3_cancel 29 = .ok (.invokevirtual 201, 3) := dk_182 0 201 (dk_at dksX3_cancel_1 5 rfl rfl)
theorem dX3_cancel_32 : decode cX3_cancel 32 = .ok (.istore_n 2, 1) := dk_61 (dk_at dksX3_cancel_1 8 rfl rfl)
theorem dX3_cancel_33 : decode cX3_cancel 33 = .ok (.aload_n 0, 1) := dk_42 (dk_at dksX3_cancel_1 9 rfl rfl)
theorem dX3_cancel_34 : decode cX3_cancel 34 = .ok (.iload_n 1, 1) := dk_27 (dk_at dksX3_cancel_1 10 rfl rfl)
theorem dX3_cancel_35 : decode cX3_cancel 35 = .ok (.invokevirtual 414, 3) := dk_182 1 158 (dk_at dksX3_cancel_1 11 rfl rfl)
theorem dX3_cancel_38 : decode cX3_cancel 38 = .ok (.aload_n 0, 1) := dk_42 (dk_at dksX3_cancel_1 14 rfl rfl)
theorem dX3_cancel_39 : decode cX3_cancel 39 = .ok (.iconst 5, 1) := dk_8 (dk_at dksX3_cancel_1 15 rfl rfl)
theorem dX3_cancel_40 : decode cX3_cancel 40 = .ok (.invokevirtual 201, 3) := dk_182 0 201 (dk_at dksX3_cancel_1 16 rfl rfl)
theorem dX3_cancel_43 : decode cX3_cancel 43 = .ok (.iload_n 2, 1) := dk_28 (dk_at dksX3_cancel_1 19 rfl rfl)
theorem dX3_cancel_44 : decode cX3_cancel 44 = .ok (.isub, 1) := dk_100 (dk_at dksX3_cancel_1 20 rfl rfl)
theorem dX3_cancel_45 : decode cX3_cancel 45 = .ok (.ireturn, 1) := dk_172 (dk_at dksX3_cancel_1 21 rfl rfl)
abbrev cX3_postpone : ByteArray := prog_23_method_134_code
def yX3_postpone : MethodName := ⟨RX3, "postpone", "(II)I"⟩
def dkwX3_postpone_5 : List UInt8 := [16, 7, 29, 182, 1, 78, 42, 182, 1, 161, 29, 172]
abbrev dktX3_postpone_5 : List UInt8 := dkwX3_postpone_5 ++ []
def dkwX3_postpone_4 : List UInt8 := [153, 0, 7, 3, 167, 0, 4, 2, 172, 42, 42, 180, 1, 54, 42, 180, 1, 63, 182, 0, 213, 62, 42, 27]
abbrev dktX3_postpone_4 : List UInt8 := dkwX3_postpone_4 ++ dktX3_postpone_5
def dkwX3_postpone_3 : List UInt8 := [182, 1, 81, 153, 0, 10, 42, 182, 1, 167, 154, 0, 23, 42, 3, 182, 1, 134, 42, 4, 6, 182, 0, 55]
abbrev dktX3_postpone_3 : List UInt8 := dkwX3_postpone_3 ++ dktX3_postpone_4
def dkwX3_postpone_2 : List UInt8 := [182, 1, 131, 42, 42, 27, 182, 1, 118, 27, 182, 1, 87, 42, 27, 8, 28, 182, 1, 78, 42, 27]
abbrev dktX3_postpone_2 : List UInt8 := dkwX3_postpone_2 ++ dktX3_postpone_3
def dkwX3_postpone_1 : List UInt8 := [184, 0, 124, 154, 0, 7, 4, 167, 0, 4, 3, 6, 182, 0, 55, 153, 0, 5, 3, 172, 42, 3]
abbrev dktX3_postpone_1 : List UInt8 := dkwX3_postpone_1 ++ dktX3_postpone_2
def dkwX3_postpone_0 : List UInt8 := [42, 27, 182, 1, 115, 154, 0, 35, 42, 42, 27, 182, 1, 155, 154, 0, 14, 28, 3, 17, 5, 160]
abbrev dktX3_postpone_0 : List UInt8 := dkwX3_postpone_0 ++ dktX3_postpone_1
theorem dksX3_postpone_0 : cX3_postpone.data.toList.drop 0 = dktX3_postpone_0 := by decide +kernel
theorem dksX3_postpone_1 : cX3_postpone.data.toList.drop 22 = dktX3_postpone_1 := dk_seg dksX3_postpone_0 22 rfl rfl
theorem dksX3_postpone_2 : cX3_postpone.data.toList.drop 44 = dktX3_postpone_2 := dk_seg dksX3_postpone_1 22 rfl rfl
theorem dksX3_postpone_3 : cX3_postpone.data.toList.drop 66 = dktX3_postpone_3 := dk_seg dksX3_postpone_2 22 rfl rfl
theorem dksX3_postpone_4 : cX3_postpone.data.toList.drop 90 = dktX3_postpone_4 := dk_seg dksX3_postpone_3 24 rfl rfl
theorem dksX3_postpone_5 : cX3_postpone.data.toList.drop 114 = dktX3_postpone_5 := dk_seg dksX3_postpone_4 24 rfl rfl
theorem dX3_postpone_0 : decode cX3_postpone 0 = .ok (.aload_n 0, 1) := dk_42 (dk_at dksX3_postpone_0 0 rfl rfl)
theorem dX3_postpone_1 : decode cX3_postpone 1 = .ok (.iload_n 1, 1) := dk_27 (dk_at dksX3_postpone_0 1 rfl rfl)
theorem dX3_postpone_2 : decode cX3_postpone 2 = .ok (.invokevirtual 371, 3) := dk_182 1 115 (dk_at dksX3_postpone_0 2 rfl rfl)
theorem dX3_postpone_5 : decode cX3_postpone 5 = .ok (.ifCond .ne 35, 3) := dk_154 0 35 (dk_at dksX3_postpone_0 5 rfl rfl)
theorem dX3_postpone_8 : decode cX3_postpone 8 = .ok (.aload_n 0, 1) := dk_42 (dk_at dksX3_postpone_0 8 rfl rfl)
theorem dX3_postpone_9 : decode cX3_postpone 9 = .ok (.aload_n 0, 1) := dk_42 (dk_at dksX3_postpone_0 9 rfl rfl)
theorem dX3_postpone_10 : decode cX3_postpone 10 = .ok (.iload_n 1, 1) := dk_27 (dk_at dksX3_postpone_0 10 rfl rfl)
theorem dX3_postpone_11 : decode cX3_postpone 11 = .ok (.invokevirtual 411, 3) := dk_182 1 155 (dk_at dksX3_postpone_0 11 rfl rfl)
theorem dX3_postpone_14 : decode cX3_postpone 14 = .ok (.ifCond .ne 14, 3) := dk_154 0 14 (dk_at dksX3_postpone_0 14 rfl rfl)
theorem dX3_postpone_17 : decode cX3_postpone 17 = .ok (.iload_n 2, 1) := dk_28 (dk_at dksX3_postpone_0 17 rfl rfl)
theorem dX3_postpone_18 : decode cX3_postpone 18 = .ok (.iconst 0, 1) := dk_3 (dk_at dksX3_postpone_0 18 rfl rfl)
theorem dX3_postpone_19 : decode cX3_postpone 19 = .ok (.sipush 1440, 3) := dk_17 5 160 (dk_at dksX3_postpone_0 19 rfl rfl)
theorem dX3_postpone_22 : decode cX3_postpone 22 = .ok (.invokestatic 124, 3) := dk_184 0 124 (dk_at dksX3_postpone_1 0 rfl rfl)
theorem dX3_postpone_25 : decode cX3_postpone 25 = .ok (.ifCond .ne 7, 3) := dk_154 0 7 (dk_at dksX3_postpone_1 3 rfl rfl)
theorem dX3_postpone_28 : decode cX3_postpone 28 = .ok (.iconst 1, 1) := dk_4 (dk_at dksX3_postpone_1 6 rfl rfl)
theorem dX3_postpone_29 : decode cX3_postpone 29 = .ok (.goto 4, 3) := dk_167 0 4 (dk_at dksX3_postpone_1 7 rfl rfl)
theorem dX3_postpone_32 : decode cX3_postpone 32 = .ok (.iconst 0, 1) := dk_3 (dk_at dksX3_postpone_1 10 rfl rfl)
theorem dX3_postpone_33 : decode cX3_postpone 33 = .ok (.iconst 3, 1) := dk_6 (dk_at dksX3_postpone_1 11 rfl rfl)
theorem dX3_postpone_34 : decode cX3_postpone 34 = .ok (.invokevirtual 55, 3) := dk_182 0 55 (dk_at dksX3_postpone_1 12 rfl rfl)
theorem dX3_postpone_37 : decode cX3_postpone 37 = .ok (.ifCond .eq 5, 3) := dk_153 0 5 (dk_at dksX3_postpone_1 15 rfl rfl)
theorem dX3_postpone_40 : decode cX3_postpone 40 = .ok (.iconst 0, 1) := dk_3 (dk_at dksX3_postpone_1 18 rfl rfl)
theorem dX3_postpone_41 : decode cX3_postpone 41 = .ok (.ireturn, 1) := dk_172 (dk_at dksX3_postpone_1 19 rfl rfl)
theorem dX3_postpone_42 : decode cX3_postpone 42 = .ok (.aload_n 0, 1) := dk_42 (dk_at dksX3_postpone_1 20 rfl rfl)
theorem dX3_postpone_43 : decode cX3_postpone 43 = .ok (.iconst 0, 1) := dk_3 (dk_at dksX3_postpone_1 21 rfl rfl)
theorem dX3_postpone_44 : decode cX3_postpone 44 = .ok (.invokevirtual 387, 3) := dk_182 1 131 (dk_at dksX3_postpone_2 0 rfl rfl)
theorem dX3_postpone_47 : decode cX3_postpone 47 = .ok (.aload_n 0, 1) := dk_42 (dk_at dksX3_postpone_2 3 rfl rfl)
theorem dX3_postpone_48 : decode cX3_postpone 48 = .ok (.aload_n 0, 1) := dk_42 (dk_at dksX3_postpone_2 4 rfl rfl)
theorem dX3_postpone_49 : decode cX3_postpone 49 = .ok (.iload_n 1, 1) := dk_27 (dk_at dksX3_postpone_2 5 rfl rfl)
theorem dX3_postpone_50 : decode cX3_postpone 50 = .ok (.invokevirtual 374, 3) := dk_182 1 118 (dk_at dksX3_postpone_2 6 rfl rfl)
theorem dX3_postpone_53 : decode cX3_postpone 53 = .ok (.iload_n 1, 1) := dk_27 (dk_at dksX3_postpone_2 9 rfl rfl)
theorem dX3_postpone_54 : decode cX3_postpone 54 = .ok (.invokevirtual 343, 3) := dk_182 1 87 (dk_at dksX3_postpone_2 10 rfl rfl)
theorem dX3_postpone_57 : decode cX3_postpone 57 = .ok (.aload_n 0, 1) := dk_42 (dk_at dksX3_postpone_2 13 rfl rfl)
theorem dX3_postpone_58 : decode cX3_postpone 58 = .ok (.iload_n 1, 1) := dk_27 (dk_at dksX3_postpone_2 14 rfl rfl)
theorem dX3_postpone_59 : decode cX3_postpone 59 = .ok (.iconst 5, 1) := dk_8 (dk_at dksX3_postpone_2 15 rfl rfl)
theorem dX3_postpone_60 : decode cX3_postpone 60 = .ok (.iload_n 2, 1) := dk_28 (dk_at dksX3_postpone_2 16 rfl rfl)
theorem dX3_postpone_61 : decode cX3_postpone 61 = .ok (.invokevirtual 334, 3) := dk_182 1 78 (dk_at dksX3_postpone_2 17 rfl rfl)
theorem dX3_postpone_64 : decode cX3_postpone 64 = .ok (.aload_n 0, 1) := dk_42 (dk_at dksX3_postpone_2 20 rfl rfl)
theorem dX3_postpone_65 : decode cX3_postpone 65 = .ok (.iload_n 1, 1) := dk_27 (dk_at dksX3_postpone_2 21 rfl rfl)
theorem dX3_postpone_66 : decode cX3_postpone 66 = .ok (.invokevirtual 337, 3) := dk_182 1 81 (dk_at dksX3_postpone_3 0 rfl rfl)
theorem dX3_postpone_69 : decode cX3_postpone 69 = .ok (.ifCond .eq 10, 3) := dk_153 0 10 (dk_at dksX3_postpone_3 3 rfl rfl)
theorem dX3_postpone_72 : decode cX3_postpone 72 = .ok (.aload_n 0, 1) := dk_42 (dk_at dksX3_postpone_3 6 rfl rfl)
theorem dX3_postpone_73 : decode cX3_postpone 73 = .ok (.invokevirtual 423, 3) := dk_182 1 167 (dk_at dksX3_postpone_3 7 rfl rfl)
theorem dX3_postpone_76 : decode cX3_postpone 76 = .ok (.ifCond .ne 23, 3) := dk_154 0 23 (dk_at dksX3_postpone_3 10 rfl rfl)
theorem dX3_postpone_79 : decode cX3_postpone 79 = .ok (.aload_n 0, 1) := dk_42 (dk_at dksX3_postpone_3 13 rfl rfl)
theorem dX3_postpone_80 : decode cX3_postpone 80 = .ok (.iconst 0, 1) := dk_3 (dk_at dksX3_postpone_3 14 rfl rfl)
theorem dX3_postpone_81 : decode cX3_postpone 81 = .ok (.invokevirtual 390, 3) := dk_182 1 134 (dk_at dksX3_postpone_3 15 rfl rfl)
theorem dX3_postpone_84 : decode cX3_postpone 84 = .ok (.aload_n 0, 1) := dk_42 (dk_at dksX3_postpone_3 18 rfl rfl)
theorem dX3_postpone_85 : decode cX3_postpone 85 = .ok (.iconst 1, 1) := dk_4 (dk_at dksX3_postpone_3 19 rfl rfl)
theorem dX3_postpone_86 : decode cX3_postpone 86 = .ok (.iconst 3, 1) := dk_6 (dk_at dksX3_postpone_3 20 rfl rfl)
theorem dX3_postpone_87 : decode cX3_postpone 87 = .ok (.invokevirtual 55, 3) := dk_182 0 55 (dk_at dksX3_postpone_3 21 rfl rfl)
theorem dX3_postpone_90 : decode cX3_postpone 90 = .ok (.ifCond .eq 7, 3) := dk_153 0 7 (dk_at dksX3_postpone_4 0 rfl rfl)
theorem dX3_postpone_93 : decode cX3_postpone 93 = .ok (.iconst 0, 1) := dk_3 (dk_at dksX3_postpone_4 3 rfl rfl)
theorem dX3_postpone_94 : decode cX3_postpone 94 = .ok (.goto 4, 3) := dk_167 0 4 (dk_at dksX3_postpone_4 4 rfl rfl)
theorem dX3_postpone_97 : decode cX3_postpone 97 = .ok (.iconst (-1), 1) := dk_2 (dk_at dksX3_postpone_4 7 rfl rfl)
theorem dX3_postpone_98 : decode cX3_postpone 98 = .ok (.ireturn, 1) := dk_172 (dk_at dksX3_postpone_4 8 rfl rfl)
theorem dX3_postpone_99 : decode cX3_postpone 99 = .ok (.aload_n 0, 1) := dk_42 (dk_at dksX3_postpone_4 9 rfl rfl)
theorem dX3_postpone_100 : decode cX3_postpone 100 = .ok (.aload_n 0, 1) := dk_42 (dk_at dksX3_postpone_4 10 rfl rfl)
theorem dX3_postpone_101 : decode cX3_postpone 101 = .ok (.getfield 310, 3) := dk_180 1 54 (dk_at dksX3_postpone_4 11 rfl rfl)
theorem dX3_postpone_104 : decode cX3_postpone 104 = .ok (.aload_n 0, 1) := dk_42 (dk_at dksX3_postpone_4 14 rfl rfl)
theorem dX3_postpone_105 : decode cX3_postpone 105 = .ok (.getfield 319, 3) := dk_180 1 63 (dk_at dksX3_postpone_4 15 rfl rfl)
theorem dX3_postpone_108 : decode cX3_postpone 108 = .ok (.invokevirtual 213, 3) := dk_182 0 213 (dk_at dksX3_postpone_4 18 rfl rfl)
theorem dX3_postpone_111 : decode cX3_postpone 111 = .ok (.istore_n 3, 1) := dk_62 (dk_at dksX3_postpone_4 21 rfl rfl)
theorem dX3_postpone_112 : decode cX3_postpone 112 = .ok (.aload_n 0, 1) := dk_42 (dk_at dksX3_postpone_4 22 rfl rfl)
theorem dX3_postpone_113 : decode cX3_postpone 113 = .ok (.iload_n 1, 1) := dk_27 (dk_at dksX3_postpone_4 23 rfl rfl)
theorem dX3_postpone_114 : decode cX3_postpone 114 = .ok (.bipush 7, 2) := dk_16 7 (dk_at dksX3_postpone_5 0 rfl rfl)
theorem dX3_postpone_116 : decode cX3_postpone 116 = .ok (.iload_n 3, 1) := dk_29 (dk_at dksX3_postpone_5 2 rfl rfl)
theorem dX3_postpone_117 : decode cX3_postpone 117 = .ok (.invokevirtual 334, 3) := dk_182 1 78 (dk_at dksX3_postpone_5 3 rfl rfl)
theorem dX3_postpone_120 : decode cX3_postpone 120 = .ok (.aload_n 0, 1) := dk_42 (dk_at dksX3_postpone_5 6 rfl rfl)
theorem dX3_postpone_121 : decode cX3_postpone 121 = .ok (.invokevirtual 417, 3) := dk_182 1 161 (dk_at dksX3_postpone_5 7 rfl rfl)
theorem dX3_postpone_124 : decode cX3_postpone 124 = .ok (.iload_n 3, 1) := dk_29 (dk_at dksX3_postpone_5 10 rfl rfl)
theorem dX3_postpone_125 : decode cX3_postpone 125 = .ok (.ireturn, 1) := dk_172 (dk_at dksX3_postpone_5 11 rfl rfl)
abbrev cX3_areAllPossible : ByteArray := prog_23_method_55_code
def yX3_areAllPossible : MethodName := ⟨RX3, "areAllPossible", "()Z"⟩
def dkwX3_areAllPossible_1 : List UInt8 := [154, 0, 5, 3, 172, 132, 1, 1, 167, 255, 227, 4, 172]
abbrev dktX3_areAllPossible_1 : List UInt8 := dkwX3_areAllPossible_1 ++ []
def dkwX3_areAllPossible_0 : List UInt8 := [3, 60, 27, 42, 180, 0, 33, 16, 8, 46, 162, 0, 24, 42, 27, 42, 27, 182, 1, 10, 182, 1, 13]
abbrev dktX3_areAllPossible_0 : List UInt8 := dkwX3_areAllPossible_0 ++ dktX3_areAllPossible_1
theorem dksX3_areAllPossible_0 : cX3_areAllPossible.data.toList.drop 0 = dktX3_areAllPossible_0 := by decide +kernel
theorem dksX3_areAllPossible_1 : cX3_areAllPossible.data.toList.drop 23 = dktX3_areAllPossible_1 := dk_seg dksX3_areAllPossible_0 23 rfl rfl
theorem dX3_areAllPossible_0 : decode cX3_areAllPossible 0 = .ok (.iconst 0, 1) := dk_3 (dk_at dksX3_areAllPossible_0 0 rfl rfl)
theorem dX3_areAllPossible_1 : decode cX3_areAllPossible 1 = .ok (.istore_n 1, 1) := dk_60 (dk_at dksX3_areAllPossible_0 1 rfl rfl)
theorem dX3_areAllPossible_2 : decode cX3_areAllPossible 2 = .ok (.iload_n 1, 1) := dk_27 (dk_at dksX3_areAllPossible_0 2 rfl rfl)
theorem dX3_areAllPossible_3 : decode cX3_areAllPossible 3 = .ok (.aload_n 0, 1) := dk_42 (dk_at dksX3_areAllPossible_0 3 rfl rfl)
theorem dX3_areAllPossible_4 : decode cX3_areAllPossible 4 = .ok (.getfield 33, 3) := dk_180 0 33 (dk_at dksX3_areAllPossible_0 4 rfl rfl)
theorem dX3_areAllPossible_7 : decode cX3_areAllPossible 7 = .ok (.bipush 8, 2) := dk_16 8 (dk_at dksX3_areAllPossible_0 7 rfl rfl)
theorem dX3_areAllPossible_9 : decode cX3_areAllPossible 9 = .ok (.iaload, 1) := dk_46 (dk_at dksX3_areAllPossible_0 9 rfl rfl)
theorem dX3_areAllPossible_10 : decode cX3_areAllPossible 10 = .ok (.if_icmp .ge 24, 3) := dk_162 0 24 (dk_at dksX3_areAllPossible_0 10 rfl rfl)
theorem dX3_areAllPossible_13 : decode cX3_areAllPossible 13 = .ok (.aload_n 0, 1) := dk_42 (dk_at dksX3_areAllPossible_0 13 rfl rfl)
theorem dX3_areAllPossible_14 : decode cX3_areAllPossible 14 = .ok (.iload_n 1, 1) := dk_27 (dk_at dksX3_areAllPossible_0 14 rfl rfl)
theorem dX3_areAllPossible_15 : decode cX3_areAllPossible 15 = .ok (.aload_n 0, 1) := dk_42 (dk_at dksX3_areAllPossible_0 15 rfl rfl)
theorem dX3_areAllPossible_16 : decode cX3_areAllPossible 16 = .ok (.iload_n 1, 1) := dk_27 (dk_at dksX3_areAllPossible_0 16 rfl rfl)
theorem dX3_areAllPossible_17 : decode cX3_areAllPossible 17 = .ok (.invokevirtual 266, 3) := dk_182 1 10 (dk_at dksX3_areAllPossible_0 17 rfl rfl)
theorem dX3_areAllPossible_20 : decode cX3_areAllPossible 20 = .ok (.invokevirtual 269, 3) := dk_182 1 13 (dk_at dksX3_areAllPossible_0 20 rfl rfl)
theorem dX3_areAllPossible_23 : decode cX3_areAllPossible 23 = .ok (.ifCond .ne 5, 3) := dk_154 0 5 (dk_at dksX3_areAllPossible_1 0 rfl rfl)
theorem dX3_areAllPossible_26 : decode cX3_areAllPossible 26 = .ok (.iconst 0, 1) := dk_3 (dk_at dksX3_areAllPossible_1 3 rfl rfl)
theorem dX3_areAllPossible_27 : decode cX3_areAllPossible 27 = .ok (.ireturn, 1) := dk_172 (dk_at dksX3_areAllPossible_1 4 rfl rfl)
theorem dX3_areAllPossible_28 : decode cX3_areAllPossible 28 = .ok (.iinc 1 1, 3) := dk_132 1 1 (dk_at dksX3_areAllPossible_1 5 rfl rfl)
theorem dX3_areAllPossible_31 : decode cX3_areAllPossible 31 = .ok (.goto (-29), 3) := dk_167 255 227 (dk_at dksX3_areAllPossible_1 8 rfl rfl)
theorem dX3_areAllPossible_34 : decode cX3_areAllPossible 34 = .ok (.iconst 1, 1) := dk_4 (dk_at dksX3_areAllPossible_1 11 rfl rfl)
theorem dX3_areAllPossible_35 : decode cX3_areAllPossible 35 = .ok (.ireturn, 1) := dk_172 (dk_at dksX3_areAllPossible_1 12 rfl rfl)
abbrev cX3_setUntil : ByteArray := prog_23_method_135_code
def yX3_setUntil : MethodName := ⟨RX3, "setUntil", "(II)I"⟩
def dkwX3_setUntil_5 : List UInt8 := [182, 1, 10, 182, 1, 13, 154, 0, 8, 42, 27, 182, 1, 152, 42, 8, 182, 0, 201, 21, 4, 100, 172]
abbrev dktX3_setUntil_5 : List UInt8 := dkwX3_setUntil_5 ++ []
def dkwX3_setUntil_4 : List UInt8 := [42, 182, 1, 161, 42, 8, 182, 0, 201, 54, 4, 42, 180, 0, 7, 5, 27, 96, 28, 79, 42, 27, 42, 27]
abbrev dktX3_setUntil_4 : List UInt8 := dkwX3_setUntil_4 ++ dktX3_setUntil_5
def dkwX3_setUntil_3 : List UInt8 := [42, 3, 182, 1, 134, 42, 29, 154, 0, 7, 4, 167, 0, 4, 3, 6, 182, 0, 55, 153, 0, 5, 3, 172]
abbrev dktX3_setUntil_3 : List UInt8 := dkwX3_setUntil_3 ++ dktX3_setUntil_4
def dkwX3_setUntil_2 : List UInt8 := [180, 0, 7, 5, 27, 96, 28, 79, 42, 27, 182, 1, 90, 42, 27, 42, 27, 182, 1, 10, 182, 1, 13, 62]
abbrev dktX3_setUntil_2 : List UInt8 := dkwX3_setUntil_2 ++ dktX3_setUntil_3
def dkwX3_setUntil_1 : List UInt8 := [154, 0, 7, 4, 167, 0, 4, 3, 6, 182, 0, 55, 153, 0, 5, 3, 172, 42, 3, 182, 1, 131, 42]
abbrev dktX3_setUntil_1 : List UInt8 := dkwX3_setUntil_1 ++ dktX3_setUntil_2
def dkwX3_setUntil_0 : List UInt8 := [42, 27, 182, 1, 100, 154, 0, 32, 42, 28, 42, 27, 7, 182, 0, 192, 17, 5, 160, 184, 0, 124]
abbrev dktX3_setUntil_0 : List UInt8 := dkwX3_setUntil_0 ++ dktX3_setUntil_1
theorem dksX3_setUntil_0 : cX3_setUntil.data.toList.drop 0 = dktX3_setUntil_0 := by decide +kernel
theorem dksX3_setUntil_1 : cX3_setUntil.data.toList.drop 22 = dktX3_setUntil_1 := dk_seg dksX3_setUntil_0 22 rfl rfl
theorem dksX3_setUntil_2 : cX3_setUntil.data.toList.drop 45 = dktX3_setUntil_2 := dk_seg dksX3_setUntil_1 23 rfl rfl
theorem dksX3_setUntil_3 : cX3_setUntil.data.toList.drop 69 = dktX3_setUntil_3 := dk_seg dksX3_setUntil_2 24 rfl rfl
theorem dksX3_setUntil_4 : cX3_setUntil.data.toList.drop 93 = dktX3_setUntil_4 := dk_seg dksX3_setUntil_3 24 rfl rfl
theorem dksX3_setUntil_5 : cX3_setUntil.data.toList.drop 117 = dktX3_setUntil_5 := dk_seg dksX3_setUntil_4 24 rfl rfl
theorem dX3_setUntil_0 : decode cX3_setUntil 0 = .ok (.aload_n 0, 1) := dk_42 (dk_at dksX3_setUntil_0 0 rfl rfl)
theorem dX3_setUntil_1 : decode cX3_setUntil 1 = .ok (.iload_n 1, 1) := dk_27 (dk_at dksX3_setUntil_0 1 rfl rfl)
theorem dX3_setUntil_2 : decode cX3_setUntil 2 = .ok (.invokevirtual 356, 3) := dk_182 1 100 (dk_at dksX3_setUntil_0 2 rfl rfl)
theorem dX3_setUntil_5 : decode cX3_setUntil 5 = .ok (.ifCond .ne 32, 3) := dk_154 0 32 (dk_at dksX3_setUntil_0 5 rfl rfl)
theorem dX3_setUntil_8 : decode cX3_setUntil 8 = .ok (.aload_n 0, 1) := dk_42 (dk_at dksX3_setUntil_0 8 rfl rfl)
theorem dX3_setUntil_9 : decode cX3_setUntil 9 = .ok (.iload_n 2, 1) := dk_28 (dk_at dksX3_setUntil_0 9 rfl rfl)
theorem dX3_setUntil_10 : decode cX3_setUntil 10 = .ok (.aload_n 0, 1) := dk_42 (dk_at dksX3_setUntil_0 10 rfl rfl)
theorem dX3_setUntil_11 : decode cX3_setUntil 11 = .ok (.iload_n 1, 1) := dk_27 (dk_at dksX3_setUntil_0 11 rfl rfl)
theorem dX3_setUntil_12 : decode cX3_setUntil 12 = .ok (.iconst 4, 1) := dk_7 (dk_at dksX3_setUntil_0 12 rfl rfl)
theorem dX3_setUntil_13 : decode cX3_setUntil 13 = .ok (.invokevirtual 192, 3) := dk_182 0 192 (dk_at dksX3_setUntil_0 13 rfl rfl)
theorem dX3_setUntil_16 : decode cX3_setUntil 16 = .ok (.sipush 1440, 3) := dk_17 5 160 (dk_at dksX3_setUntil_0 16 rfl rfl)
theorem dX3_setUntil_19 : decode cX3_setUntil 19 = .ok (.invokestatic 124, 3) := dk_184 0 124 (dk_at dksX3_setUntil_0 19 rfl rfl)
theorem dX3_setUntil_22 : decode cX3_setUntil 22 = .ok (.ifCond .ne 7, 3) := dk_154 0 7 (dk_at dksX3_setUntil_1 0 rfl rfl)
theorem dX3_setUntil_25 : decode cX3_setUntil 25 = .ok (.iconst 1, 1) := dk_4 (dk_at dksX3_setUntil_1 3 rfl rfl)
theorem dX3_setUntil_26 : decode cX3_setUntil 26 = .ok (.goto 4, 3) := dk_167 0 4 (dk_at dksX3_setUntil_1 4 rfl rfl)
theorem dX3_setUntil_29 : decode cX3_setUntil 29 = .ok (.iconst 0, 1) := dk_3 (dk_at dksX3_setUntil_1 7 rfl rfl)
theorem dX3_setUntil_30 : decode cX3_setUntil 30 = .ok (.iconst 3, 1) := dk_6 (dk_at dksX3_setUntil_1 8 rfl rfl)
theorem dX3_setUntil_31 : decode cX3_setUntil 31 = .ok (.invokevirtual 55, 3) := dk_182 0 55 (dk_at dksX3_setUntil_1 9 rfl rfl)
theorem dX3_setUntil_34 : decode cX3_setUntil 34 = .ok (.ifCond .eq 5, 3) := dk_153 0 5 (dk_at dksX3_setUntil_1 12 rfl rfl)
theorem dX3_setUntil_37 : decode cX3_setUntil 37 = .ok (.iconst 0, 1) := dk_3 (dk_at dksX3_setUntil_1 15 rfl rfl)
theorem dX3_setUntil_38 : decode cX3_setUntil 38 = .ok (.ireturn, 1) := dk_172 (dk_at dksX3_setUntil_1 16 rfl rfl)
theorem dX3_setUntil_39 : decode cX3_setUntil 39 = .ok (.aload_n 0, 1) := dk_42 (dk_at dksX3_setUntil_1 17 rfl rfl)
theorem dX3_setUntil_40 : decode cX3_setUntil 40 = .ok (.iconst 0, 1) := dk_3 (dk_at dksX3_setUntil_1 18 rfl rfl)
theorem dX3_setUntil_41 : decode cX3_setUntil 41 = .ok (.invokevirtual 387, 3) := dk_182 1 131 (dk_at dksX3_setUntil_1 19 rfl rfl)
theorem dX3_setUntil_44 : decode cX3_setUntil 44 = .ok (.aload_n 0, 1) := dk_42 (dk_at dksX3_setUntil_1 22 rfl rfl)
theorem dX3_setUntil_45 : decode cX3_setUntil 45 = .ok (.getfield 7, 3) := dk_180 0 7 (dk_at dksX3_setUntil_2 0 rfl rfl)
theorem dX3_setUntil_48 : decode cX3_setUntil 48 = .ok (.iconst 2, 1) := dk_5 (dk_at dksX3_setUntil_2 3 rfl rfl)
theorem dX3_setUntil_49 : decode cX3_setUntil 49 = .ok (.iload_n 1, 1) := dk_27 (dk_at dksX3_setUntil_2 4 rfl rfl)
theorem dX3_setUntil_50 : decode cX3_setUntil 50 = .ok (.iadd, 1) := dk_96 (dk_at dksX3_setUntil_2 5 rfl rfl)
theorem dX3_setUntil_51 : decode cX3_setUntil 51 = .ok (.iload_n 2, 1) := dk_28 (dk_at dksX3_setUntil_2 6 rfl rfl)
theorem dX3_setUntil_52 : decode cX3_setUntil 52 = .ok (.iastore, 1) := dk_79 (dk_at dksX3_setUntil_2 7 rfl rfl)
theorem dX3_setUntil_53 : decode cX3_setUntil 53 = .ok (.aload_n 0, 1) := dk_42 (dk_at dksX3_setUntil_2 8 rfl rfl)
theorem dX3_setUntil_54 : decode cX3_setUntil 54 = .ok (.iload_n 1, 1) := dk_27 (dk_at dksX3_setUntil_2 9 rfl rfl)
theorem dX3_setUntil_55 : decode cX3_setUntil 55 = .ok (.invokevirtual 346, 3) := dk_182 1 90 (dk_at dksX3_setUntil_2 10 rfl rfl)
theorem dX3_setUntil_58 : decode cX3_setUntil 58 = .ok (.aload_n 0, 1) := dk_42 (dk_at dksX3_setUntil_2 13 rfl rfl)
theorem dX3_setUntil_59 : decode cX3_setUntil 59 = .ok (.iload_n 1, 1) := dk_27 (dk_at dksX3_setUntil_2 14 rfl rfl)
theorem dX3_setUntil_60 : decode cX3_setUntil 60 = .ok (.aload_n 0, 1) := dk_42 (dk_at dksX3_setUntil_2 15 rfl rfl)
theorem dX3_setUntil_61 : decode cX3_setUntil 61 = .ok (.iload_n 1, 1) := dk_27 (dk_at dksX3_setUntil_2 16 rfl rfl)
theorem dX3_setUntil_62 : decode cX3_setUntil 62 = .ok (.invokevirtual 266, 3) := dk_182 1 10 (dk_at dksX3_setUntil_2 17 rfl rfl)
theorem dX3_setUntil_65 : decode cX3_setUntil 65 = .ok (.invokevirtual 269, 3) := dk_182 1 13 (dk_at dksX3_setUntil_2 20 rfl rfl)
theorem dX3_setUntil_68 : decode cX3_setUntil 68 = .ok (.istore_n 3, 1) := dk_62 (dk_at dksX3_setUntil_2 23 rfl rfl)
theorem dX3_setUntil_69 : decode cX3_setUntil 69 = .ok (.aload_n 0, 1) := dk_42 (dk_at dksX3_setUntil_3 0 rfl rfl)
theorem dX3_setUntil_70 : decode cX3_setUntil 70 = .ok (.iconst 0, 1) := dk_3 (dk_at dksX3_setUntil_3 1 rfl rfl)
theorem dX3_setUntil_71 : decode cX3_setUntil 71 = .ok (.invokevirtual 390, 3) := dk_182 1 134 (dk_at dksX3_setUntil_3 2 rfl rfl)
theorem dX3_setUntil_74 : decode cX3_setUntil 74 = .ok (.aload_n 0, 1) := dk_42 (dk_at dksX3_setUntil_3 5 rfl rfl)
theorem dX3_setUntil_75 : decode cX3_setUntil 75 = .ok (.iload_n 3, 1) := dk_29 (dk_at dksX3_setUntil_3 6 rfl rfl)
theorem dX3_setUntil_76 : decode cX3_setUntil 76 = .ok (.ifCond .ne 7, 3) := dk_154 0 7 (dk_at dksX3_setUntil_3 7 rfl rfl)
theorem dX3_setUntil_79 : decode cX3_setUntil 79 = .ok (.iconst 1, 1) := dk_4 (dk_at dksX3_setUntil_3 10 rfl rfl)
theorem dX3_setUntil_80 : decode cX3_setUntil 80 = .ok (.goto 4, 3) := dk_167 0 4 (dk_at dksX3_setUntil_3 11 rfl rfl)
theorem dX3_setUntil_83 : decode cX3_setUntil 83 = .ok (.iconst 0, 1) := dk_3 (dk_at dksX3_setUntil_3 14 rfl rfl)
theorem dX3_setUntil_84 : decode cX3_setUntil 84 = .ok (.iconst 3, 1) := dk_6 (dk_at dksX3_setUntil_3 15 rfl rfl)
theorem dX3_setUntil_85 : decode cX3_setUntil 85 = .ok (.invokevirtual 55, 3) := dk_182 0 55 (dk_at dksX3_setUntil_3 16 rfl rfl)
theorem dX3_setUntil_88 : decode cX3_setUntil 88 = .ok (.ifCond .eq 5, 3) := dk_153 0 5 (dk_at dksX3_setUntil_3 19 rfl rfl)
theorem dX3_setUntil_91 : decode cX3_setUntil 91 = .ok (.iconst 0, 1) := dk_3 (dk_at dksX3_setUntil_3 22 rfl rfl)
theorem dX3_setUntil_92 : decode cX3_setUntil 92 = .ok (.ireturn, 1) := dk_172 (dk_at dksX3_setUntil_3 23 rfl rfl)
theorem dX3_setUntil_93 : decode cX3_setUntil 93 = .ok (.aload_n 0, 1) := dk_42 (dk_at dksX3_setUntil_4 0 rfl rfl)
theorem dX3_setUntil_94 : decode cX3_setUntil 94 = .ok (.invokevirtual 417, 3) := dk_182 1 161 (dk_at dksX3_setUntil_4 1 rfl rfl)
theorem dX3_setUntil_97 : decode cX3_setUntil 97 = .ok (.aload_n 0, 1) := dk_42 (dk_at dksX3_setUntil_4 4 rfl rfl)
theorem dX3_setUntil_98 : decode cX3_setUntil 98 = .ok (.iconst 5, 1) := dk_8 (dk_at dksX3_setUntil_4 5 rfl rfl)
theorem dX3_setUntil_99 : decode cX3_setUntil 99 = .ok (.invokevirtual 201, 3) := dk_182 0 201 (dk_at dksX3_setUntil_4 6 rfl rfl)
theorem dX3_setUntil_102 : decode cX3_setUntil 102 = .ok (.istore 4, 2) := dk_54 4 (dk_at dksX3_setUntil_4 9 rfl rfl)
theorem dX3_setUntil_104 : decode cX3_setUntil 104 = .ok (.aload_n 0, 1) := dk_42 (dk_at dksX3_setUntil_4 11 rfl rfl)
theorem dX3_setUntil_105 : decode cX3_setUntil 105 = .ok (.getfield 7, 3) := dk_180 0 7 (dk_at dksX3_setUntil_4 12 rfl rfl)
theorem dX3_setUntil_108 : decode cX3_setUntil 108 = .ok (.iconst 2, 1) := dk_5 (dk_at dksX3_setUntil_4 15 rfl rfl)
theorem dX3_setUntil_109 : decode cX3_setUntil 109 = .ok (.iload_n 1, 1) := dk_27 (dk_at dksX3_setUntil_4 16 rfl rfl)
theorem dX3_setUntil_110 : decode cX3_setUntil 110 = .ok (.iadd, 1) := dk_96 (dk_at dksX3_setUntil_4 17 rfl rfl)
theorem dX3_setUntil_111 : decode cX3_setUntil 111 = .ok (.iload_n 2, 1) := dk_28 (dk_at dksX3_setUntil_4 18 rfl rfl)
theorem dX3_setUntil_112 : decode cX3_setUntil 112 = .ok (.iastore, 1) := dk_79 (dk_at dksX3_setUntil_4 19 rfl rfl)
theorem dX3_setUntil_113 : decode cX3_setUntil 113 = .ok (.aload_n 0, 1) := dk_42 (dk_at dksX3_setUntil_4 20 rfl rfl)
theorem dX3_setUntil_114 : decode cX3_setUntil 114 = .ok (.iload_n 1, 1) := dk_27 (dk_at dksX3_setUntil_4 21 rfl rfl)
theorem dX3_setUntil_115 : decode cX3_setUntil 115 = .ok (.aload_n 0, 1) := dk_42 (dk_at dksX3_setUntil_4 22 rfl rfl)
theorem dX3_setUntil_116 : decode cX3_setUntil 116 = .ok (.iload_n 1, 1) := dk_27 (dk_at dksX3_setUntil_4 23 rfl rfl)
theorem dX3_setUntil_117 : decode cX3_setUntil 117 = .ok (.invokevirtual 266, 3) := dk_182 1 10 (dk_at dksX3_setUntil_5 0 rfl rfl)
theorem dX3_setUntil_120 : decode cX3_setUntil 120 = .ok (.invokevirtual 269, 3) := dk_182 1 13 (dk_at dksX3_setUntil_5 3 rfl rfl)
theorem dX3_setUntil_123 : decode cX3_setUntil 123 = .ok (.ifCond .ne 8, 3) := dk_154 0 8 (dk_at dksX3_setUntil_5 6 rfl rfl)
theorem dX3_setUntil_126 : decode cX3_setUntil 126 = .ok (.aload_n 0, 1) := dk_42 (dk_at dksX3_setUntil_5 9 rfl rfl)
theorem dX3_setUntil_127 : decode cX3_setUntil 127 = .ok (.iload_n 1, 1) := dk_27 (dk_at dksX3_setUntil_5 10 rfl rfl)
theorem dX3_setUntil_128 : decode cX3_setUntil 128 = .ok (.invokevirtual 408, 3) := dk_182 1 152 (dk_at dksX3_setUntil_5 11 rfl rfl)
theorem dX3_setUntil_131 : decode cX3_setUntil 131 = .ok (.aload_n 0, 1) := dk_42 (dk_at dksX3_setUntil_5 14 rfl rfl)
theorem dX3_setUntil_132 : decode cX3_setUntil 132 = .ok (.iconst 5, 1) := dk_8 (dk_at dksX3_setUntil_5 15 rfl rfl)
theorem dX3_setUntil_133 : decode cX3_setUntil 133 = .ok (.invokevirtual 201, 3) := dk_182 0 201 (dk_at dksX3_setUntil_5 16 rfl rfl)
theorem dX3_setUntil_136 : decode cX3_setUntil 136 = .ok (.iload 4, 2) := dk_21 4 (dk_at dksX3_setUntil_5 19 rfl rfl)
theorem dX3_setUntil_138 : decode cX3_setUntil 138 = .ok (.isub, 1) := dk_100 (dk_at dksX3_setUntil_5 21 rfl rfl)
theorem dX3_setUntil_139 : decode cX3_setUntil 139 = .ok (.ireturn, 1) := dk_172 (dk_at dksX3_setUntil_5 22 rfl rfl)
abbrev cX3_improve : ByteArray := prog_23_method_136_code
def yX3_improve : MethodName := ⟨RX3, "improve", "()I"⟩
def dkwX3_improve_4 : List UInt8 := [167, 255, 184, 27, 42, 182, 1, 124, 100, 172]
abbrev dktX3_improve_4 : List UInt8 := dkwX3_improve_4 ++ []
def dkwX3_improve_3 : List UInt8 := [182, 1, 124, 29, 162, 0, 10, 42, 182, 1, 167, 154, 0, 8, 42, 3, 182, 1, 134, 132, 2, 1]
abbrev dktX3_improve_3 : List UInt8 := dkwX3_improve_3 ++ dktX3_improve_4
def dkwX3_improve_2 : List UInt8 := [42, 3, 182, 1, 131, 42, 42, 28, 182, 1, 118, 28, 182, 1, 87, 42, 28, 182, 1, 81, 153, 0, 18, 42]
abbrev dktX3_improve_2 : List UInt8 := dkwX3_improve_2 ++ dktX3_improve_3
def dkwX3_improve_1 : List UInt8 := [180, 0, 7, 4, 46, 162, 0, 68, 42, 28, 182, 1, 155, 153, 0, 6, 167, 0, 51, 42, 182, 1, 124, 62]
abbrev dktX3_improve_1 : List UInt8 := dkwX3_improve_1 ++ dktX3_improve_2
def dkwX3_improve_0 : List UInt8 := [42, 182, 1, 96, 153, 0, 5, 3, 172, 42, 182, 1, 164, 42, 182, 1, 124, 60, 3, 61, 28, 42]
abbrev dktX3_improve_0 : List UInt8 := dkwX3_improve_0 ++ dktX3_improve_1
theorem dksX3_improve_0 : cX3_improve.data.toList.drop 0 = dktX3_improve_0 := by decide +kernel
theorem dksX3_improve_1 : cX3_improve.data.toList.drop 22 = dktX3_improve_1 := dk_seg dksX3_improve_0 22 rfl rfl
theorem dksX3_improve_2 : cX3_improve.data.toList.drop 46 = dktX3_improve_2 := dk_seg dksX3_improve_1 24 rfl rfl
theorem dksX3_improve_3 : cX3_improve.data.toList.drop 70 = dktX3_improve_3 := dk_seg dksX3_improve_2 24 rfl rfl
theorem dksX3_improve_4 : cX3_improve.data.toList.drop 92 = dktX3_improve_4 := dk_seg dksX3_improve_3 22 rfl rfl
theorem dX3_improve_0 : decode cX3_improve 0 = .ok (.aload_n 0, 1) := dk_42 (dk_at dksX3_improve_0 0 rfl rfl)
theorem dX3_improve_1 : decode cX3_improve 1 = .ok (.invokevirtual 352, 3) := dk_182 1 96 (dk_at dksX3_improve_0 1 rfl rfl)
theorem dX3_improve_4 : decode cX3_improve 4 = .ok (.ifCond .eq 5, 3) := dk_153 0 5 (dk_at dksX3_improve_0 4 rfl rfl)
theorem dX3_improve_7 : decode cX3_improve 7 = .ok (.iconst 0, 1) := dk_3 (dk_at dksX3_improve_0 7 rfl rfl)
theorem dX3_improve_8 : decode cX3_improve 8 = .ok (.ireturn, 1) := dk_172 (dk_at dksX3_improve_0 8 rfl rfl)
theorem dX3_improve_9 : decode cX3_improve 9 = .ok (.aload_n 0, 1) := dk_42 (dk_at dksX3_improve_0 9 rfl rfl)
theorem dX3_improve_10 : decode cX3_improve 10 = .ok (.invokevirtual 420, 3) := dk_182 1 164 (dk_at dksX3_improve_0 10 rfl rfl)
theorem dX3_improve_13 : decode cX3_improve 13 = .ok (.aload_n 0, 1) := dk_42 (dk_at dksX3_improve_0 13 rfl rfl)
theorem dX3_improve_14 : decode cX3_improve 14 = .ok (.invokevirtual 380, 3) := dk_182 1 124 (dk_at dksX3_improve_0 14 rfl rfl)
theorem dX3_improve_17 : decode cX3_improve 17 = .ok (.istore_n 1, 1) := dk_60 (dk_at dksX3_improve_0 17 rfl rfl)
theorem dX3_improve_18 : decode cX3_improve 18 = .ok (.iconst 0, 1) := dk_3 (dk_at dksX3_improve_0 18 rfl rfl)
theorem dX3_improve_19 : decode cX3_improve 19 = .ok (.istore_n 2, 1) := dk_61 (dk_at dksX3_improve_0 19 rfl rfl)
theorem dX3_improve_20 : decode cX3_improve 20 = .ok (.iload_n 2, 1) := dk_28 (dk_at dksX3_improve_0 20 rfl rfl)
theorem dX3_improve_21 : decode cX3_improve 21 = .ok (.aload_n 0, 1) := dk_42 (dk_at dksX3_improve_0 21 rfl rfl)
theorem dX3_improve_22 : decode cX3_improve 22 = .ok (.getfield 7, 3) := dk_180 0 7 (dk_at dksX3_improve_1 0 rfl rfl)
theorem dX3_improve_25 : decode cX3_improve 25 = .ok (.iconst 1, 1) := dk_4 (dk_at dksX3_improve_1 3 rfl rfl)
theorem dX3_improve_26 : decode cX3_improve 26 = .ok (.iaload, 1) := dk_46 (dk_at dksX3_improve_1 4 rfl rfl)
theorem dX3_improve_27 : decode cX3_improve 27 = .ok (.if_icmp .ge 68, 3) := dk_162 0 68 (dk_at dksX3_improve_1 5 rfl rfl)
theorem dX3_improve_30 : decode cX3_improve 30 = .ok (.aload_n 0, 1) := dk_42 (dk_at dksX3_improve_1 8 rfl rfl)
theorem dX3_improve_31 : decode cX3_improve 31 = .ok (.iload_n 2, 1) := dk_28 (dk_at dksX3_improve_1 9 rfl rfl)
theorem dX3_improve_32 : decode cX3_improve 32 = .ok (.invokevirtual 411, 3) := dk_182 1 155 (dk_at dksX3_improve_1 10 rfl rfl)
theorem dX3_improve_35 : decode cX3_improve 35 = .ok (.ifCond .eq 6, 3) := dk_153 0 6 (dk_at dksX3_improve_1 13 rfl rfl)
theorem dX3_improve_38 : decode cX3_improve 38 = .ok (.goto 51, 3) := dk_167 0 51 (dk_at dksX3_improve_1 16 rfl rfl)
theorem dX3_improve_41 : decode cX3_improve 41 = .ok (.aload_n 0, 1) := dk_42 (dk_at dksX3_improve_1 19 rfl rfl)
theorem dX3_improve_42 : decode cX3_improve 42 = .ok (.invokevirtual 380, 3) := dk_182 1 124 (dk_at dksX3_improve_1 20 rfl rfl)
theorem dX3_improve_45 : decode cX3_improve 45 = .ok (.istore_n 3, 1) := dk_62 (dk_at dksX3_improve_1 23 rfl rfl)
theorem dX3_improve_46 : decode cX3_improve 46 = .ok (.aload_n 0, 1) := dk_42 (dk_at dksX3_improve_2 0 rfl rfl)
theorem dX3_improve_47 : decode cX3_improve 47 = .ok (.iconst 0, 1) := dk_3 (dk_at dksX3_improve_2 1 rfl rfl)
theorem dX3_improve_48 : decode cX3_improve 48 = .ok (.invokevirtual 387, 3) := dk_182 1 131 (dk_at dksX3_improve_2 2 rfl rfl)
theorem dX3_improve_51 : decode cX3_improve 51 = .ok (.aload_n 0, 1) := dk_42 (dk_at dksX3_improve_2 5 rfl rfl)
theorem dX3_improve_52 : decode cX3_improve 52 = .ok (.aload_n 0, 1) := dk_42 (dk_at dksX3_improve_2 6 rfl rfl)
theorem dX3_improve_53 : decode cX3_improve 53 = .ok (.iload_n 2, 1) := dk_28 (dk_at dksX3_improve_2 7 rfl rfl)
theorem dX3_improve_54 : decode cX3_improve 54 = .ok (.invokevirtual 374, 3) := dk_182 1 118 (dk_at dksX3_improve_2 8 rfl rfl)
theorem dX3_improve_57 : decode cX3_improve 57 = .ok (.iload_n 2, 1) := dk_28 (dk_at dksX3_improve_2 11 rfl rfl)
theorem dX3_improve_58 : decode cX3_improve 58 = .ok (.invokevirtual 343, 3) := dk_182 1 87 (dk_at dksX3_improve_2 12 rfl rfl)
theorem dX3_improve_61 : decode cX3_improve 61 = .ok (.aload_n 0, 1) := dk_42 (dk_at dksX3_improve_2 15 rfl rfl)
theorem dX3_improve_62 : decode cX3_improve 62 = .ok (.iload_n 2, 1) := dk_28 (dk_at dksX3_improve_2 16 rfl rfl)
theorem dX3_improve_63 : decode cX3_improve 63 = .ok (.invokevirtual 337, 3) := dk_182 1 81 (dk_at dksX3_improve_2 17 rfl rfl)
theorem dX3_improve_66 : decode cX3_improve 66 = .ok (.ifCond .eq 18, 3) := dk_153 0 18 (dk_at dksX3_improve_2 20 rfl rfl)
theorem dX3_improve_69 : decode cX3_improve 69 = .ok (.aload_n 0, 1) := dk_42 (dk_at dksX3_improve_2 23 rfl rfl)
theorem dX3_improve_70 : decode cX3_improve 70 = .ok (.invokevirtual 380, 3) := dk_182 1 124 (dk_at dksX3_improve_3 0 rfl rfl)
theorem dX3_improve_73 : decode cX3_improve 73 = .ok (.iload_n 3, 1) := dk_29 (dk_at dksX3_improve_3 3 rfl rfl)
theorem dX3_improve_74 : decode cX3_improve 74 = .ok (.if_icmp .ge 10, 3) := dk_162 0 10 (dk_at dksX3_improve_3 4 rfl rfl)
theorem dX3_improve_77 : decode cX3_improve 77 = .ok (.aload_n 0, 1) := dk_42 (dk_at dksX3_improve_3 7 rfl rfl)
theorem dX3_improve_78 : decode cX3_improve 78 = .ok (.invokevirtual 423, 3) := dk_182 1 167 (dk_at dksX3_improve_3 8 rfl rfl)
theorem dX3_improve_81 : decode cX3_improve 81 = .ok (.ifCond .ne 8, 3) := dk_154 0 8 (dk_at dksX3_improve_3 11 rfl rfl)
theorem dX3_improve_84 : decode cX3_improve 84 = .ok (.aload_n 0, 1) := dk_42 (dk_at dksX3_improve_3 14 rfl rfl)
theorem dX3_improve_85 : decode cX3_improve 85 = .ok (.iconst 0, 1) := dk_3 (dk_at dksX3_improve_3 15 rfl rfl)
theorem dX3_improve_86 : decode cX3_improve 86 = .ok (.invokevirtual 390, 3) := dk_182 1 134 (dk_at dksX3_improve_3 16 rfl rfl)
theorem dX3_improve_89 : decode cX3_improve 89 = .ok (.iinc 2 1, 3) := dk_132 2 1 (dk_at dksX3_improve_3 19 rfl rfl)
theorem dX3_improve_92 : decode cX3_improve 92 = .ok (.goto (-72), 3) := dk_167 255 184 (dk_at dksX3_improve_4 0 rfl rfl)
theorem dX3_improve_95 : decode cX3_improve 95 = .ok (.iload_n 1, 1) := dk_27 (dk_at dksX3_improve_4 3 rfl rfl)
theorem dX3_improve_96 : decode cX3_improve 96 = .ok (.aload_n 0, 1) := dk_42 (dk_at dksX3_improve_4 4 rfl rfl)
theorem dX3_improve_97 : decode cX3_improve 97 = .ok (.invokevirtual 380, 3) := dk_182 1 124 (dk_at dksX3_improve_4 5 rfl rfl)
theorem dX3_improve_100 : decode cX3_improve 100 = .ok (.isub, 1) := dk_100 (dk_at dksX3_improve_4 8 rfl rfl)
theorem dX3_improve_101 : decode cX3_improve 101 = .ok (.ireturn, 1) := dk_172 (dk_at dksX3_improve_4 9 rfl rfl)
abbrev cX3_advance : ByteArray := prog_23_method_138_code
def yX3_advance : MethodName := ⟨RX3, "advance", "(I)I"⟩
def dkwX3_advance_4 : List UInt8 := [182, 1, 170, 96, 61, 132, 4, 1, 167, 255, 229, 132, 3, 1, 167, 255, 209, 28, 172]
abbrev dktX3_advance_4 : List UInt8 := dkwX3_advance_4 ++ []
def dkwX3_advance_3 : List UInt8 := [3, 54, 4, 21, 4, 42, 180, 0, 7, 16, 6, 29, 96, 46, 162, 0, 19, 28, 42, 29, 21, 4]
abbrev dktX3_advance_3 : List UInt8 := dkwX3_advance_3 ++ dktX3_advance_4
def dkwX3_advance_2 : List UInt8 := [180, 0, 7, 3, 92, 46, 27, 96, 79, 3, 61, 3, 62, 29, 42, 180, 0, 33, 16, 8, 46, 162, 0, 42]
abbrev dktX3_advance_2 : List UInt8 := dkwX3_advance_2 ++ dktX3_advance_3
def dkwX3_advance_1 : List UInt8 := [154, 0, 7, 4, 167, 0, 4, 3, 5, 182, 0, 55, 153, 0, 5, 3, 172, 42, 182, 1, 164, 42]
abbrev dktX3_advance_1 : List UInt8 := dkwX3_advance_1 ++ dktX3_advance_2
def dkwX3_advance_0 : List UInt8 := [42, 182, 1, 96, 154, 0, 34, 42, 27, 4, 17, 5, 160, 42, 180, 0, 7, 3, 46, 100, 184, 0, 124]
abbrev dktX3_advance_0 : List UInt8 := dkwX3_advance_0 ++ dktX3_advance_1
theorem dksX3_advance_0 : cX3_advance.data.toList.drop 0 = dktX3_advance_0 := by decide +kernel
theorem dksX3_advance_1 : cX3_advance.data.toList.drop 23 = dktX3_advance_1 := dk_seg dksX3_advance_0 23 rfl rfl
theorem dksX3_advance_2 : cX3_advance.data.toList.drop 45 = dktX3_advance_2 := dk_seg dksX3_advance_1 22 rfl rfl
theorem dksX3_advance_3 : cX3_advance.data.toList.drop 69 = dktX3_advance_3 := dk_seg dksX3_advance_2 24 rfl rfl
theorem dksX3_advance_4 : cX3_advance.data.toList.drop 91 = dktX3_advance_4 := dk_seg dksX3_advance_3 22 rfl rfl
theorem dX3_advance_0 : decode cX3_advance 0 = .ok (.aload_n 0, 1) := dk_42 (dk_at dksX3_advance_0 0 rfl rfl)
theorem dX3_advance_1 : decode cX3_advance 1 = .ok (.invokevirtual 352, 3) := dk_182 1 96 (dk_at dksX3_advance_0 1 rfl rfl)
theorem dX3_advance_4 : decode cX3_advance 4 = .ok (.ifCond .ne 34, 3) := dk_154 0 34 (dk_at dksX3_advance_0 4 rfl rfl)
theorem dX3_advance_7 : decode cX3_advance 7 = .ok (.aload_n 0, 1) := dk_42 (dk_at dksX3_advance_0 7 rfl rfl)
theorem dX3_advance_8 : decode cX3_advance 8 = .ok (.iload_n 1, 1) := dk_27 (dk_at dksX3_advance_0 8 rfl rfl)
theorem dX3_advance_9 : decode cX3_advance 9 = .ok (.iconst 1, 1) := dk_4 (dk_at dksX3_advance_0 9 rfl rfl)
theorem dX3_advance_10 : decode cX3_advance 10 = .ok (.sipush 1440, 3) := dk_17 5 160 (dk_at dksX3_advance_0 10 rfl rfl)
theorem dX3_advance_13 : decode cX3_advance 13 = .ok (.aload_n 0, 1) := dk_42 (dk_at dksX3_advance_0 13 rfl rfl)
theorem dX3_advance_14 : decode cX3_advance 14 = .ok (.getfield 7, 3) := dk_180 0 7 (dk_at dksX3_advance_0 14 rfl rfl)
theorem dX3_advance_17 : decode cX3_advance 17 = .ok (.iconst 0, 1) := dk_3 (dk_at dksX3_advance_0 17 rfl rfl)
theorem dX3_advance_18 : decode cX3_advance 18 = .ok (.iaload, 1) := dk_46 (dk_at dksX3_advance_0 18 rfl rfl)
theorem dX3_advance_19 : decode cX3_advance 19 = .ok (.isub, 1) := dk_100 (dk_at dksX3_advance_0 19 rfl rfl)
theorem dX3_advance_20 : decode cX3_advance 20 = .ok (.invokestatic 124, 3) := dk_184 0 124 (dk_at dksX3_advance_0 20 rfl rfl)
theorem dX3_advance_23 : decode cX3_advance 23 = .ok (.ifCond .ne 7, 3) := dk_154 0 7 (dk_at dksX3_advance_1 0 rfl rfl)
theorem dX3_advance_26 : decode cX3_advance 26 = .ok (.iconst 1, 1) := dk_4 (dk_at dksX3_advance_1 3 rfl rfl)
theorem dX3_advance_27 : decode cX3_advance 27 = .ok (.goto 4, 3) := dk_167 0 4 (dk_at dksX3_advance_1 4 rfl rfl)
theorem dX3_advance_30 : decode cX3_advance 30 = .ok (.iconst 0, 1) := dk_3 (dk_at dksX3_advance_1 7 rfl rfl)
theorem dX3_advance_31 : decode cX3_advance 31 = .ok (.iconst 2, 1) := dk_5 (dk_at dksX3_advance_1 8 rfl rfl)
theorem dX3_advance_32 : decode cX3_advance 32 = .ok (.invokevirtual 55, 3) := dk_182 0 55 (dk_at dksX3_advance_1 9 rfl rfl)
theorem dX3_advance_35 : decode cX3_advance 35 = .ok (.ifCond .eq 5, 3) := dk_153 0 5 (dk_at dksX3_advance_1 12 rfl rfl)
theorem dX3_advance_38 : decode cX3_advance 38 = .ok (.iconst 0, 1) := dk_3 (dk_at dksX3_advance_1 15 rfl rfl)
theorem dX3_advance_39 : decode cX3_advance 39 = .ok (.ireturn, 1) := dk_172 (dk_at dksX3_advance_1 16 rfl rfl)
theorem dX3_advance_40 : decode cX3_advance 40 = .ok (.aload_n 0, 1) := dk_42 (dk_at dksX3_advance_1 17 rfl rfl)
theorem dX3_advance_41 : decode cX3_advance 41 = .ok (.invokevirtual 420, 3) := dk_182 1 164 (dk_at dksX3_advance_1 18 rfl rfl)
theorem dX3_advance_44 : decode cX3_advance 44 = .ok (.aload_n 0, 1) := dk_42 (dk_at dksX3_advance_1 21 rfl rfl)
theorem dX3_advance_45 : decode cX3_advance 45 = .ok (.getfield 7, 3) := dk_180 0 7 (dk_at dksX3_advance_2 0 rfl rfl)
theorem dX3_advance_48 : decode cX3_advance 48 = .ok (.iconst 0, 1) := dk_3 (dk_at dksX3_advance_2 3 rfl rfl)
theorem dX3_advance_49 : decode cX3_advance 49 = .ok (.dup2, 1) := dk_92 (dk_at dksX3_advance_2 4 rfl rfl)
theorem dX3_advance_50 : decode cX3_advance 50 = .ok (.iaload, 1) := dk_46 (dk_at dksX3_advance_2 5 rfl rfl)
theorem dX3_advance_51 : decode cX3_advance 51 = .ok (.iload_n 1, 1) := dk_27 (dk_at dksX3_advance_2 6 rfl rfl)
theorem dX3_advance_52 : decode cX3_advance 52 = .ok (.iadd, 1) := dk_96 (dk_at dksX3_advance_2 7 rfl rfl)
theorem dX3_advance_53 : decode cX3_advance 53 = .ok (.iastore, 1) := dk_79 (dk_at dksX3_advance_2 8 rfl rfl)
theorem dX3_advance_54 : decode cX3_advance 54 = .ok (.iconst 0, 1) := dk_3 (dk_at dksX3_advance_2 9 rfl rfl)
theorem dX3_advance_55 : decode cX3_advance 55 = .ok (.istore_n 2, 1) := dk_61 (dk_at dksX3_advance_2 10 rfl rfl)
theorem dX3_advance_56 : decode cX3_advance 56 = .ok (.iconst 0, 1) := dk_3 (dk_at dksX3_advance_2 11 rfl rfl)
theorem dX3_advance_57 : decode cX3_advance 57 = .ok (.istore_n 3, 1) := dk_62 (dk_at dksX3_advance_2 12 rfl rfl)
theorem dX3_advance_58 : decode cX3_advance 58 = .ok (.iload_n 3, 1) := dk_29 (dk_at dksX3_advance_2 13 rfl rfl)
theorem dX3_advance_59 : decode cX3_advance 59 = .ok (.aload_n 0, 1) := dk_42 (dk_at dksX3_advance_2 14 rfl rfl)
theorem dX3_advance_60 : decode cX3_advance 60 = .ok (.getfield 33, 3) := dk_180 0 33 (dk_at dksX3_advance_2 15 rfl rfl)
theorem dX3_advance_63 : decode cX3_advance 63 = .ok (.bipush 8, 2) := dk_16 8 (dk_at dksX3_advance_2 18 rfl rfl)
theorem dX3_advance_65 : decode cX3_advance 65 = .ok (.iaload, 1) := dk_46 (dk_at dksX3_advance_2 20 rfl rfl)
theorem dX3_advance_66 : decode cX3_advance 66 = .ok (.if_icmp .ge 42, 3) := dk_162 0 42 (dk_at dksX3_advance_2 21 rfl rfl)
theorem dX3_advance_69 : decode cX3_advance 69 = .ok (.iconst 0, 1) := dk_3 (dk_at dksX3_advance_3 0 rfl rfl)
theorem dX3_advance_70 : decode cX3_advance 70 = .ok (.istore 4, 2) := dk_54 4 (dk_at dksX3_advance_3 1 rfl rfl)
theorem dX3_advance_72 : decode cX3_advance 72 = .ok (.iload 4, 2) := dk_21 4 (dk_at dksX3_advance_3 3 rfl rfl)
theorem dX3_advance_74 : decode cX3_advance 74 = .ok (.aload_n 0, 1) := dk_42 (dk_at dksX3_advance_3 5 rfl rfl)
theorem dX3_advance_75 : decode cX3_advance 75 = .ok (.getfield 7, 3) := dk_180 0 7 (dk_at dksX3_advance_3 6 rfl rfl)
theorem dX3_advance_78 : decode cX3_advance 78 = .ok (.bipush 6, 2) := dk_16 6 (dk_at dksX3_advance_3 9 rfl rfl)
theorem dX3_advance_80 : decode cX3_advance 80 = .ok (.iload_n 3, 1) := dk_29 (dk_at dksX3_advance_3 11 rfl rfl)
theorem dX3_advance_81 : decode cX3_advance 81 = .ok (.iadd, 1) := dk_96 (dk_at dksX3_advance_3 12 rfl rfl)
theorem dX3_advance_82 : decode cX3_advance 82 = .ok (.iaload, 1) := dk_46 (dk_at dksX3_advance_3 13 rfl rfl)
theorem dX3_advance_83 : decode cX3_advance 83 = .ok (.if_icmp .ge 19, 3) := dk_162 0 19 (dk_at dksX3_advance_3 14 rfl rfl)
theorem dX3_advance_86 : decode cX3_advance 86 = .ok (.iload_n 2, 1) := dk_28 (dk_at dksX3_advance_3 17 rfl rfl)
theorem dX3_advance_87 : decode cX3_advance 87 = .ok (.aload_n 0, 1) := dk_42 (dk_at dksX3_advance_3 18 rfl rfl)
theorem dX3_advance_88 : decode cX3_advance 88 = .ok (.iload_n 3, 1) := dk_29 (dk_at dksX3_advance_3 19 rfl rfl)
theorem dX3_advance_89 : decode cX3_advance 89 = .ok (.iload 4, 2) := dk_21 4 (dk_at dksX3_advance_3 20 rfl rfl)
theorem dX3_advance_91 : decode cX3_advance 91 = .ok (.invokevirtual 426, 3) := dk_182 1 170 (dk_at dksX3_advance_4 0 rfl rfl)
theorem dX3_advance_94 : decode cX3_advance 94 = .ok (.iadd, 1) := dk_96 (dk_at dksX3_advance_4 3 rfl rfl)
theorem dX3_advance_95 : decode cX3_advance 95 = .ok (.istore_n 2, 1) := dk_61 (dk_at dksX3_advance_4 4 rfl rfl)
theorem dX3_advance_96 : decode cX3_advance 96 = .ok (.iinc 4 1, 3) := dk_132 4 1 (dk_at dksX3_advance_4 5 rfl rfl)
theorem dX3_advance_99 : decode cX3_advance 99 = .ok (.goto (-27), 3) := dk_167 255 229 (dk_at dksX3_advance_4 8 rfl rfl)
theorem dX3_advance_102 : decode cX3_advance 102 = .ok (.iinc 3 1, 3) := dk_132 3 1 (dk_at dksX3_advance_4 11 rfl rfl)
theorem dX3_advance_105 : decode cX3_advance 105 = .ok (.goto (-47), 3) := dk_167 255 209 (dk_at dksX3_advance_4 14 rfl rfl)
theorem dX3_advance_108 : decode cX3_advance 108 = .ok (.iload_n 2, 1) := dk_28 (dk_at dksX3_advance_4 17 rfl rfl)
theorem dX3_advance_109 : decode cX3_advance 109 = .ok (.ireturn, 1) := dk_172 (dk_at dksX3_advance_4 18 rfl rfl)
abbrev cX3_executes : ByteArray := prog_23_method_137_code
def yX3_executes : MethodName := ⟨RX3, "executes", "(II)I"⟩
def dkwX3_executes_4 : List UInt8 := [158, 0, 20, 42, 29, 16, 8, 42, 180, 0, 33, 16, 6, 46, 21, 5, 104, 182, 1, 78, 4, 172]
abbrev dktX3_executes_4 : List UInt8 := dkwX3_executes_4 ++ []
def dkwX3_executes_3 : List UInt8 := [16, 7, 182, 0, 211, 100, 42, 180, 0, 33, 8, 46, 100, 54, 5, 21, 4, 4, 160, 0, 25, 21, 5]
abbrev dktX3_executes_3 : List UInt8 := dkwX3_executes_3 ++ dktX3_executes_4
def dkwX3_executes_2 : List UInt8 := [159, 0, 5, 3, 172, 42, 29, 16, 6, 21, 4, 4, 96, 182, 1, 78, 42, 27, 28, 182, 0, 213, 42, 29]
abbrev dktX3_executes_2 : List UInt8 := dkwX3_executes_2 ++ dktX3_executes_3
def dkwX3_executes_1 : List UInt8 := [180, 0, 7, 3, 46, 163, 0, 22, 21, 4, 42, 27, 28, 182, 0, 222, 153, 0, 7, 5, 167, 0, 4, 4]
abbrev dktX3_executes_1 : List UInt8 := dkwX3_executes_1 ++ dktX3_executes_2
def dkwX3_executes_0 : List UInt8 := [42, 27, 28, 182, 0, 216, 62, 42, 29, 16, 6, 182, 0, 211, 54, 4, 42, 27, 28, 182, 0, 213, 42]
abbrev dktX3_executes_0 : List UInt8 := dkwX3_executes_0 ++ dktX3_executes_1
theorem dksX3_executes_0 : cX3_executes.data.toList.drop 0 = dktX3_executes_0 := by decide +kernel
theorem dksX3_executes_1 : cX3_executes.data.toList.drop 23 = dktX3_executes_1 := dk_seg dksX3_executes_0 23 rfl rfl
theorem dksX3_executes_2 : cX3_executes.data.toList.drop 47 = dktX3_executes_2 := dk_seg dksX3_executes_1 24 rfl rfl
theorem dksX3_executes_3 : cX3_executes.data.toList.drop 71 = dktX3_executes_3 := dk_seg dksX3_executes_2 24 rfl rfl
theorem dksX3_executes_4 : cX3_executes.data.toList.drop 94 = dktX3_executes_4 := dk_seg dksX3_executes_3 23 rfl rfl
theorem dX3_executes_0 : decode cX3_executes 0 = .ok (.aload_n 0, 1) := dk_42 (dk_at dksX3_executes_0 0 rfl rfl)
theorem dX3_executes_1 : decode cX3_executes 1 = .ok (.iload_n 1, 1) := dk_27 (dk_at dksX3_executes_0 1 rfl rfl)
theorem dX3_executes_2 : decode cX3_executes 2 = .ok (.iload_n 2, 1) := dk_28 (dk_at dksX3_executes_0 2 rfl rfl)
theorem dX3_executes_3 : decode cX3_executes 3 = .ok (.invokevirtual 216, 3) := dk_182 0 216 (dk_at dksX3_executes_0 3 rfl rfl)
theorem dX3_executes_6 : decode cX3_executes 6 = .ok (.istore_n 3, 1) := dk_62 (dk_at dksX3_executes_0 6 rfl rfl)
theorem dX3_executes_7 : decode cX3_executes 7 = .ok (.aload_n 0, 1) := dk_42 (dk_at dksX3_executes_0 7 rfl rfl)
theorem dX3_executes_8 : decode cX3_executes 8 = .ok (.iload_n 3, 1) := dk_29 (dk_at dksX3_executes_0 8 rfl rfl)
theorem dX3_executes_9 : decode cX3_executes 9 = .ok (.bipush 6, 2) := dk_16 6 (dk_at dksX3_executes_0 9 rfl rfl)
theorem dX3_executes_11 : decode cX3_executes 11 = .ok (.invokevirtual 211, 3) := dk_182 0 211 (dk_at dksX3_executes_0 11 rfl rfl)
theorem dX3_executes_14 : decode cX3_executes 14 = .ok (.istore 4, 2) := dk_54 4 (dk_at dksX3_executes_0 14 rfl rfl)
theorem dX3_executes_16 : decode cX3_executes 16 = .ok (.aload_n 0, 1) := dk_42 (dk_at dksX3_executes_0 16 rfl rfl)
theorem dX3_executes_17 : decode cX3_executes 17 = .ok (.iload_n 1, 1) := dk_27 (dk_at dksX3_executes_0 17 rfl rfl)
theorem dX3_executes_18 : decode cX3_executes 18 = .ok (.iload_n 2, 1) := dk_28 (dk_at dksX3_executes_0 18 rfl rfl)
theorem dX3_executes_19 : decode cX3_executes 19 = .ok (.invokevirtual 213, 3) := dk_182 0 213 (dk_at dksX3_executes_0 19 rfl rfl)
theorem dX3_executes_22 : decode cX3_executes 22 = .ok (.aload_n 0, 1) := dk_42 (dk_at dksX3_executes_0 22 rfl rfl)
theorem dX3_executes_23 : decode cX3_executes 23 = .ok (.getfield 7, 3) := dk_180 0 7 (dk_at dksX3_executes_1 0 rfl rfl)
theorem dX3_executes_26 : decode cX3_executes 26 = .ok (.iconst 0, 1) := dk_3 (dk_at dksX3_executes_1 3 rfl rfl)
theorem dX3_executes_27 : decode cX3_executes 27 = .ok (.iaload, 1) := dk_46 (dk_at dksX3_executes_1 4 rfl rfl)
theorem dX3_executes_28 : decode cX3_executes 28 = .ok (.if_icmp .gt 22, 3) := dk_163 0 22 (dk_at dksX3_executes_1 5 rfl rfl)
theorem dX3_executes_31 : decode cX3_executes 31 = .ok (.iload 4, 2) := dk_21 4 (dk_at dksX3_executes_1 8 rfl rfl)
theorem dX3_executes_33 : decode cX3_executes 33 = .ok (.aload_n 0, 1) := dk_42 (dk_at dksX3_executes_1 10 rfl rfl)
theorem dX3_executes_34 : decode cX3_executes 34 = .ok (.iload_n 1, 1) := dk_27 (dk_at dksX3_executes_1 11 rfl rfl)
theorem dX3_executes_35 : decode cX3_executes 35 = .ok (.iload_n 2, 1) := dk_28 (dk_at dksX3_executes_1 12 rfl rfl)
theorem dX3_executes_36 : decode cX3_executes 36 = .ok (.invokevirtual 222, 3) := dk_182 0 222 (dk_at dksX3_executes_1 13 rfl rfl)
theorem dX3_executes_39 : decode cX3_executes 39 = .ok (.ifCond .eq 7, 3) := dk_153 0 7 (dk_at dksX3_executes_1 16 rfl rfl)
theorem dX3_executes_42 : decode cX3_executes 42 = .ok (.iconst 2, 1) := dk_5 (dk_at dksX3_executes_1 19 rfl rfl)
theorem dX3_executes_43 : decode cX3_executes 43 = .ok (.goto 4, 3) := dk_167 0 4 (dk_at dksX3_executes_1 20 rfl rfl)
theorem dX3_executes_46 : decode cX3_executes 46 = .ok (.iconst 1, 1) := dk_4 (dk_at dksX3_executes_1 23 rfl rfl)
theorem dX3_executes_47 : decode cX3_executes 47 = .ok (.if_icmp .eq 5, 3) := dk_159 0 5 (dk_at dksX3_executes_2 0 rfl rfl)
theorem dX3_executes_50 : decode cX3_executes 50 = .ok (.iconst 0, 1) := dk_3 (dk_at dksX3_executes_2 3 rfl rfl)
theorem dX3_executes_51 : decode cX3_executes 51 = .ok (.ireturn, 1) := dk_172 (dk_at dksX3_executes_2 4 rfl rfl)
theorem dX3_executes_52 : decode cX3_executes 52 = .ok (.aload_n 0, 1) := dk_42 (dk_at dksX3_executes_2 5 rfl rfl)
theorem dX3_executes_53 : decode cX3_executes 53 = .ok (.iload_n 3, 1) := dk_29 (dk_at dksX3_executes_2 6 rfl rfl)
theorem dX3_executes_54 : decode cX3_executes 54 = .ok (.bipush 6, 2) := dk_16 6 (dk_at dksX3_executes_2 7 rfl rfl)
theorem dX3_executes_56 : decode cX3_executes 56 = .ok (.iload 4, 2) := dk_21 4 (dk_at dksX3_executes_2 9 rfl rfl)
theorem dX3_executes_58 : decode cX3_executes 58 = .ok (.iconst 1, 1) := dk_4 (dk_at dksX3_executes_2 11 rfl rfl)
theorem dX3_executes_59 : decode cX3_executes 59 = .ok (.iadd, 1) := dk_96 (dk_at dksX3_executes_2 12 rfl rfl)
theorem dX3_executes_60 : decode cX3_executes 60 = .ok (.invokevirtual 334, 3) := dk_182 1 78 (dk_at dksX3_executes_2 13 rfl rfl)
theorem dX3_executes_63 : decode cX3_executes 63 = .ok (.aload_n 0, 1) := dk_42 (dk_at dksX3_executes_2 16 rfl rfl)
theorem dX3_executes_64 : decode cX3_executes 64 = .ok (.iload_n 1, 1) := dk_27 (dk_at dksX3_executes_2 17 rfl rfl)
theorem dX3_executes_65 : decode cX3_executes 65 = .ok (.iload_n 2, 1) := dk_28 (dk_at dksX3_executes_2 18 rfl rfl)
theorem dX3_executes_66 : decode cX3_executes 66 = .ok (.invokevirtual 213, 3) := dk_182 0 213 (dk_at dksX3_executes_2 19 rfl rfl)
theorem dX3_executes_69 : decode cX3_executes 69 = .ok (.aload_n 0, 1) := dk_42 (dk_at dksX3_executes_2 22 rfl rfl)
theorem dX3_executes_70 : decode cX3_executes 70 = .ok (.iload_n 3, 1) := dk_29 (dk_at dksX3_executes_2 23 rfl rfl)
theorem dX3_executes_71 : decode cX3_executes 71 = .ok (.bipush 7, 2) := dk_16 7 (dk_at dksX3_executes_3 0 rfl rfl)
theorem dX3_executes_73 : decode cX3_executes 73 = .ok (.invokevirtual 211, 3) := dk_182 0 211 (dk_at dksX3_executes_3 2 rfl rfl)
theorem dX3_executes_76 : decode cX3_executes 76 = .ok (.isub, 1) := dk_100 (dk_at dksX3_executes_3 5 rfl rfl)
theorem dX3_executes_77 : decode cX3_executes 77 = .ok (.aload_n 0, 1) := dk_42 (dk_at dksX3_executes_3 6 rfl rfl)
theorem dX3_executes_78 : decode cX3_executes 78 = .ok (.getfield 33, 3) := dk_180 0 33 (dk_at dksX3_executes_3 7 rfl rfl)
theorem dX3_executes_81 : decode cX3_executes 81 = .ok (.iconst 5, 1) := dk_8 (dk_at dksX3_executes_3 10 rfl rfl)
theorem dX3_executes_82 : decode cX3_executes 82 = .ok (.iaload, 1) := dk_46 (dk_at dksX3_executes_3 11 rfl rfl)
theorem dX3_executes_83 : decode cX3_executes 83 = .ok (.isub, 1) := dk_100 (dk_at dksX3_executes_3 12 rfl rfl)
theorem dX3_executes_84 : decode cX3_executes 84 = .ok (.istore 5, 2) := dk_54 5 (dk_at dksX3_executes_3 13 rfl rfl)
theorem dX3_executes_86 : decode cX3_executes 86 = .ok (.iload 4, 2) := dk_21 4 (dk_at dksX3_executes_3 15 rfl rfl)
theorem dX3_executes_88 : decode cX3_executes 88 = .ok (.iconst 1, 1) := dk_4 (dk_at dksX3_executes_3 17 rfl rfl)
theorem dX3_executes_89 : decode cX3_executes 89 = .ok (.if_icmp .ne 25, 3) := dk_160 0 25 (dk_at dksX3_executes_3 18 rfl rfl)
theorem dX3_executes_92 : decode cX3_executes 92 = .ok (.iload 5, 2) := dk_21 5 (dk_at dksX3_executes_3 21 rfl rfl)
theorem dX3_executes_94 : decode cX3_executes 94 = .ok (.ifCond .le 20, 3) := dk_158 0 20 (dk_at dksX3_executes_4 0 rfl rfl)
theorem dX3_executes_97 : decode cX3_executes 97 = .ok (.aload_n 0, 1) := dk_42 (dk_at dksX3_executes_4 3 rfl rfl)
theorem dX3_executes_98 : decode cX3_executes 98 = .ok (.iload_n 3, 1) := dk_29 (dk_at dksX3_executes_4 4 rfl rfl)
theorem dX3_executes_99 : decode cX3_executes 99 = .ok (.bipush 8, 2) := dk_16 8 (dk_at dksX3_executes_4 5 rfl rfl)
theorem dX3_executes_101 : decode cX3_executes 101 = .ok (.aload_n 0, 1) := dk_42 (dk_at dksX3_executes_4 7 rfl rfl)
theorem dX3_executes_102 : decode cX3_executes 102 = .ok (.getfield 33, 3) := dk_180 0 33 (dk_at dksX3_executes_4 8 rfl rfl)
theorem dX3_executes_105 : decode cX3_executes 105 = .ok (.bipush 6, 2) := dk_16 6 (dk_at dksX3_executes_4 11 rfl rfl)
theorem dX3_executes_107 : decode cX3_executes 107 = .ok (.iaload, 1) := dk_46 (dk_at dksX3_executes_4 13 rfl rfl)
theorem dX3_executes_108 : decode cX3_executes 108 = .ok (.iload 5, 2) := dk_21 5 (dk_at dksX3_executes_4 14 rfl rfl)
theorem dX3_executes_110 : decode cX3_executes 110 = .ok (.imul, 1) := dk_104 (dk_at dksX3_executes_4 16 rfl rfl)
theorem dX3_executes_111 : decode cX3_executes 111 = .ok (.invokevirtual 334, 3) := dk_182 1 78 (dk_at dksX3_executes_4 17 rfl rfl)
theorem dX3_executes_114 : decode cX3_executes 114 = .ok (.iconst 1, 1) := dk_4 (dk_at dksX3_executes_4 20 rfl rfl)
theorem dX3_executes_115 : decode cX3_executes 115 = .ok (.ireturn, 1) := dk_172 (dk_at dksX3_executes_4 21 rfl rfl)
abbrev cX3_undo : ByteArray := prog_23_method_139_code
def yX3_undo : MethodName := ⟨RX3, "undo", "()I"⟩
def dkwX3_undo_2 : List UInt8 := [182, 1, 134, 42, 180, 0, 198, 172]
abbrev dktX3_undo_2 : List UInt8 := dkwX3_undo_2 ++ []
def dkwX3_undo_1 : List UInt8 := [153, 0, 5, 3, 172, 42, 89, 180, 0, 198, 4, 100, 181, 0, 198, 42, 4, 42, 180, 0, 198, 96]
abbrev dktX3_undo_1 : List UInt8 := dkwX3_undo_1 ++ dktX3_undo_2
def dkwX3_undo_0 : List UInt8 := [42, 3, 181, 0, 48, 42, 42, 180, 0, 198, 154, 0, 7, 4, 167, 0, 4, 3, 4, 182, 0, 55]
abbrev dktX3_undo_0 : List UInt8 := dkwX3_undo_0 ++ dktX3_undo_1
theorem dksX3_undo_0 : cX3_undo.data.toList.drop 0 = dktX3_undo_0 := by decide +kernel
theorem dksX3_undo_1 : cX3_undo.data.toList.drop 22 = dktX3_undo_1 := dk_seg dksX3_undo_0 22 rfl rfl
theorem dksX3_undo_2 : cX3_undo.data.toList.drop 44 = dktX3_undo_2 := dk_seg dksX3_undo_1 22 rfl rfl
theorem dX3_undo_0 : decode cX3_undo 0 = .ok (.aload_n 0, 1) := dk_42 (dk_at dksX3_undo_0 0 rfl rfl)
theorem dX3_undo_1 : decode cX3_undo 1 = .ok (.iconst 0, 1) := dk_3 (dk_at dksX3_undo_0 1 rfl rfl)
theorem dX3_undo_2 : decode cX3_undo 2 = .ok (.putfield 48, 3) := dk_181 0 48 (dk_at dksX3_undo_0 2 rfl rfl)
theorem dX3_undo_5 : decode cX3_undo 5 = .ok (.aload_n 0, 1) := dk_42 (dk_at dksX3_undo_0 5 rfl rfl)
theorem dX3_undo_6 : decode cX3_undo 6 = .ok (.aload_n 0, 1) := dk_42 (dk_at dksX3_undo_0 6 rfl rfl)
theorem dX3_undo_7 : decode cX3_undo 7 = .ok (.getfield 198, 3) := dk_180 0 198 (dk_at dksX3_undo_0 7 rfl rfl)
theorem dX3_undo_10 : decode cX3_undo 10 = .ok (.ifCond .ne 7, 3) := dk_154 0 7 (dk_at dksX3_undo_0 10 rfl rfl)
theorem dX3_undo_13 : decode cX3_undo 13 = .ok (.iconst 1, 1) := dk_4 (dk_at dksX3_undo_0 13 rfl rfl)
theorem dX3_undo_14 : decode cX3_undo 14 = .ok (.goto 4, 3) := dk_167 0 4 (dk_at dksX3_undo_0 14 rfl rfl)
theorem dX3_undo_17 : decode cX3_undo 17 = .ok (.iconst 0, 1) := dk_3 (dk_at dksX3_undo_0 17 rfl rfl)
theorem dX3_undo_18 : decode cX3_undo 18 = .ok (.iconst 1, 1) := dk_4 (dk_at dksX3_undo_0 18 rfl rfl)
theorem dX3_undo_19 : decode cX3_undo 19 = .ok (.invokevirtual 55, 3) := dk_182 0 55 (dk_at dksX3_undo_0 19 rfl rfl)
theorem dX3_undo_22 : decode cX3_undo 22 = .ok (.ifCond .eq 5, 3) := dk_153 0 5 (dk_at dksX3_undo_1 0 rfl rfl)
theorem dX3_undo_25 : decode cX3_undo 25 = .ok (.iconst 0, 1) := dk_3 (dk_at dksX3_undo_1 3 rfl rfl)
theorem dX3_undo_26 : decode cX3_undo 26 = .ok (.ireturn, 1) := dk_172 (dk_at dksX3_undo_1 4 rfl rfl)
theorem dX3_undo_27 : decode cX3_undo 27 = .ok (.aload_n 0, 1) := dk_42 (dk_at dksX3_undo_1 5 rfl rfl)
theorem dX3_undo_28 : decode cX3_undo 28 = .ok (.dup, 1) := dk_89 (dk_at dksX3_undo_1 6 rfl rfl)
theorem dX3_undo_29 : decode cX3_undo 29 = .ok (.getfield 198, 3) := dk_180 0 198 (dk_at dksX3_undo_1 7 rfl rfl)
theorem dX3_undo_32 : decode cX3_undo 32 = .ok (.iconst 1, 1) := dk_4 (dk_at dksX3_undo_1 10 rfl rfl)
theorem dX3_undo_33 : decode cX3_undo 33 = .ok (.isub, 1) := dk_100 (dk_at dksX3_undo_1 11 rfl rfl)
theorem dX3_undo_34 : decode cX3_undo 34 = .ok (.putfield 198, 3) := dk_181 0 198 (dk_at dksX3_undo_1 12 rfl rfl)
theorem dX3_undo_37 : decode cX3_undo 37 = .ok (.aload_n 0, 1) := dk_42 (dk_at dksX3_undo_1 15 rfl rfl)
theorem dX3_undo_38 : decode cX3_undo 38 = .ok (.iconst 1, 1) := dk_4 (dk_at dksX3_undo_1 16 rfl rfl)
theorem dX3_undo_39 : decode cX3_undo 39 = .ok (.aload_n 0, 1) := dk_42 (dk_at dksX3_undo_1 17 rfl rfl)
theorem dX3_undo_40 : decode cX3_undo 40 = .ok (.getfield 198, 3) := dk_180 0 198 (dk_at dksX3_undo_1 18 rfl rfl)
theorem dX3_undo_43 : decode cX3_undo 43 = .ok (.iadd, 1) := dk_96 (dk_at dksX3_undo_1 21 rfl rfl)
theorem dX3_undo_44 : decode cX3_undo 44 = .ok (.invokevirtual 390, 3) := dk_182 1 134 (dk_at dksX3_undo_2 0 rfl rfl)
theorem dX3_undo_47 : decode cX3_undo 47 = .ok (.aload_n 0, 1) := dk_42 (dk_at dksX3_undo_2 3 rfl rfl)
theorem dX3_undo_48 : decode cX3_undo 48 = .ok (.getfield 198, 3) := dk_180 0 198 (dk_at dksX3_undo_2 4 rfl rfl)
theorem dX3_undo_51 : decode cX3_undo 51 = .ok (.ireturn, 1) := dk_172 (dk_at dksX3_undo_2 7 rfl rfl)
abbrev cX3_save : ByteArray := prog_23_method_140_code
def yX3_save : MethodName := ⟨RX3, "save", "(I)I"⟩
def dkwX3_save_2 : List UInt8 := [180, 0, 7, 3, 46, 172]
abbrev dktX3_save_2 : List UInt8 := dkwX3_save_2 ++ []
def dkwX3_save_1 : List UInt8 := [182, 0, 55, 153, 0, 5, 3, 172, 42, 16, 7, 27, 96, 182, 1, 131, 42, 180, 0, 16, 27, 4, 84, 42]
abbrev dktX3_save_1 : List UInt8 := dkwX3_save_1 ++ dktX3_save_2
def dkwX3_save_0 : List UInt8 := [42, 182, 1, 96, 154, 0, 25, 42, 27, 3, 4, 184, 0, 124, 154, 0, 7, 4, 167, 0, 4, 3, 5]
abbrev dktX3_save_0 : List UInt8 := dkwX3_save_0 ++ dktX3_save_1
theorem dksX3_save_0 : cX3_save.data.toList.drop 0 = dktX3_save_0 := by decide +kernel
theorem dksX3_save_1 : cX3_save.data.toList.drop 23 = dktX3_save_1 := dk_seg dksX3_save_0 23 rfl rfl
theorem dksX3_save_2 : cX3_save.data.toList.drop 47 = dktX3_save_2 := dk_seg dksX3_save_1 24 rfl rfl
theorem dX3_save_0 : decode cX3_save 0 = .ok (.aload_n 0, 1) := dk_42 (dk_at dksX3_save_0 0 rfl rfl)
theorem dX3_save_1 : decode cX3_save 1 = .ok (.invokevirtual 352, 3) := dk_182 1 96 (dk_at dksX3_save_0 1 rfl rfl)
theorem dX3_save_4 : decode cX3_save 4 = .ok (.ifCond .ne 25, 3) := dk_154 0 25 (dk_at dksX3_save_0 4 rfl rfl)
theorem dX3_save_7 : decode cX3_save 7 = .ok (.aload_n 0, 1) := dk_42 (dk_at dksX3_save_0 7 rfl rfl)
theorem dX3_save_8 : decode cX3_save 8 = .ok (.iload_n 1, 1) := dk_27 (dk_at dksX3_save_0 8 rfl rfl)
theorem dX3_save_9 : decode cX3_save 9 = .ok (.iconst 0, 1) := dk_3 (dk_at dksX3_save_0 9 rfl rfl)
theorem dX3_save_10 : decode cX3_save 10 = .ok (.iconst 1, 1) := dk_4 (dk_at dksX3_save_0 10 rfl rfl)
theorem dX3_save_11 : decode cX3_save 11 = .ok (.invokestatic 124, 3) := dk_184 0 124 (dk_at dksX3_save_0 11 rfl rfl)
theorem dX3_save_14 : decode cX3_save 14 = .ok (.ifCond .ne 7, 3) := dk_154 0 7 (dk_at dksX3_save_0 14 rfl rfl)
theorem dX3_save_17 : decode cX3_save 17 = .ok (.iconst 1, 1) := dk_4 (dk_at dksX3_save_0 17 rfl rfl)
theorem dX3_save_18 : decode cX3_save 18 = .ok (.goto 4, 3) := dk_167 0 4 (dk_at dksX3_save_0 18 rfl rfl)
theorem dX3_save_21 : decode cX3_save 21 = .ok (.iconst 0, 1) := dk_3 (dk_at dksX3_save_0 21 rfl rfl)
theorem dX3_save_22 : decode cX3_save 22 = .ok (.iconst 2, 1) := dk_5 (dk_at dksX3_save_0 22 rfl rfl)
theorem dX3_save_23 : decode cX3_save 23 = .ok (.invokevirtual 55, 3) := dk_182 0 55 (dk_at dksX3_save_1 0 rfl rfl)
theorem dX3_save_26 : decode cX3_save 26 = .ok (.ifCond .eq 5, 3) := dk_153 0 5 (dk_at dksX3_save_1 3 rfl rfl)
theorem dX3_save_29 : decode cX3_save 29 = .ok (.iconst 0, 1) := dk_3 (dk_at dksX3_save_1 6 rfl rfl)
theorem dX3_save_30 : decode cX3_save 30 = .ok (.ireturn, 1) := dk_172 (dk_at dksX3_save_1 7 rfl rfl)
theorem dX3_save_31 : decode cX3_save 31 = .ok (.aload_n 0, 1) := dk_42 (dk_at dksX3_save_1 8 rfl rfl)
theorem dX3_save_32 : decode cX3_save 32 = .ok (.bipush 7, 2) := dk_16 7 (dk_at dksX3_save_1 9 rfl rfl)
theorem dX3_save_34 : decode cX3_save 34 = .ok (.iload_n 1, 1) := dk_27 (dk_at dksX3_save_1 11 rfl rfl)
theorem dX3_save_35 : decode cX3_save 35 = .ok (.iadd, 1) := dk_96 (dk_at dksX3_save_1 12 rfl rfl)
theorem dX3_save_36 : decode cX3_save 36 = .ok (.invokevirtual 387, 3) := dk_182 1 131 (dk_at dksX3_save_1 13 rfl rfl)
theorem dX3_save_39 : decode cX3_save 39 = .ok (.aload_n 0, 1) := dk_42 (dk_at dksX3_save_1 16 rfl rfl)
theorem dX3_save_40 : decode cX3_save 40 = .ok (.getfield 16, 3) := dk_180 0 16 (dk_at dksX3_save_1 17 rfl rfl)
theorem dX3_save_43 : decode cX3_save 43 = .ok (.iload_n 1, 1) := dk_27 (dk_at dksX3_save_1 20 rfl rfl)
theorem dX3_save_44 : decode cX3_save 44 = .ok (.iconst 1, 1) := dk_4 (dk_at dksX3_save_1 21 rfl rfl)
theorem dX3_save_45 : decode cX3_save 45 = .ok (.bastore, 1) := dk_84 (dk_at dksX3_save_1 22 rfl rfl)
theorem dX3_save_46 : decode cX3_save 46 = .ok (.aload_n 0, 1) := dk_42 (dk_at dksX3_save_1 23 rfl rfl)
theorem dX3_save_47 : decode cX3_save 47 = .ok (.getfield 7, 3) := dk_180 0 7 (dk_at dksX3_save_2 0 rfl rfl)
theorem dX3_save_50 : decode cX3_save 50 = .ok (.iconst 0, 1) := dk_3 (dk_at dksX3_save_2 3 rfl rfl)
theorem dX3_save_51 : decode cX3_save 51 = .ok (.iaload, 1) := dk_46 (dk_at dksX3_save_2 4 rfl rfl)
theorem dX3_save_52 : decode cX3_save 52 = .ok (.ireturn, 1) := dk_172 (dk_at dksX3_save_2 5 rfl rfl)
abbrev cX3_restore : ByteArray := prog_23_method_141_code
def yX3_restore : MethodName := ⟨RX3, "restore", "(I)I"⟩
def dkwX3_restore_3 : List UInt8 := [172]
abbrev dktX3_restore_3 : List UInt8 := dkwX3_restore_3 ++ []
def dkwX3_restore_2 : List UInt8 := [153, 0, 5, 3, 172, 42, 16, 7, 27, 96, 182, 1, 134, 42, 3, 181, 0, 198, 42, 180, 0, 7, 3, 46]
abbrev dktX3_restore_2 : List UInt8 := dkwX3_restore_2 ++ dktX3_restore_3
def dkwX3_restore_1 : List UInt8 := [154, 0, 25, 42, 42, 180, 0, 16, 27, 51, 154, 0, 7, 4, 167, 0, 4, 3, 5, 182, 0, 55]
abbrev dktX3_restore_1 : List UInt8 := dkwX3_restore_1 ++ dktX3_restore_2
def dkwX3_restore_0 : List UInt8 := [42, 3, 181, 0, 48, 42, 27, 3, 4, 184, 0, 124, 154, 0, 7, 4, 167, 0, 4, 3, 4, 182, 0, 55]
abbrev dktX3_restore_0 : List UInt8 := dkwX3_restore_0 ++ dktX3_restore_1
theorem dksX3_restore_0 : cX3_restore.data.toList.drop 0 = dktX3_restore_0 := by decide +kernel
theorem dksX3_restore_1 : cX3_restore.data.toList.drop 24 = dktX3_restore_1 := dk_seg dksX3_restore_0 24 rfl rfl
theorem dksX3_restore_2 : cX3_restore.data.toList.drop 46 = dktX3_restore_2 := dk_seg dksX3_restore_1 22 rfl rfl
theorem dksX3_restore_3 : cX3_restore.data.toList.drop 70 = dktX3_restore_3 := dk_seg dksX3_restore_2 24 rfl rfl
theorem dX3_restore_0 : decode cX3_restore 0 = .ok (.aload_n 0, 1) := dk_42 (dk_at dksX3_restore_0 0 rfl rfl)
theorem dX3_restore_1 : decode cX3_restore 1 = .ok (.iconst 0, 1) := dk_3 (dk_at dksX3_restore_0 1 rfl rfl)
theorem dX3_restore_2 : decode cX3_restore 2 = .ok (.putfield 48, 3) := dk_181 0 48 (dk_at dksX3_restore_0 2 rfl rfl)
theorem dX3_restore_5 : decode cX3_restore 5 = .ok (.aload_n 0, 1) := dk_42 (dk_at dksX3_restore_0 5 rfl rfl)
theorem dX3_restore_6 : decode cX3_restore 6 = .ok (.iload_n 1, 1) := dk_27 (dk_at dksX3_restore_0 6 rfl rfl)
theorem dX3_restore_7 : decode cX3_restore 7 = .ok (.iconst 0, 1) := dk_3 (dk_at dksX3_restore_0 7 rfl rfl)
theorem dX3_restore_8 : decode cX3_restore 8 = .ok (.iconst 1, 1) := dk_4 (dk_at dksX3_restore_0 8 rfl rfl)
theorem dX3_restore_9 : decode cX3_restore 9 = .ok (.invokestatic 124, 3) := dk_184 0 124 (dk_at dksX3_restore_0 9 rfl rfl)
theorem dX3_restore_12 : decode cX3_restore 12 = .ok (.ifCond .ne 7, 3) := dk_154 0 7 (dk_at dksX3_restore_0 12 rfl rfl)
theorem dX3_restore_15 : decode cX3_restore 15 = .ok (.iconst 1, 1) := dk_4 (dk_at dksX3_restore_0 15 rfl rfl)
theorem dX3_restore_16 : decode cX3_restore 16 = .ok (.goto 4, 3) := dk_167 0 4 (dk_at dksX3_restore_0 16 rfl rfl)
theorem dX3_restore_19 : decode cX3_restore 19 = .ok (.iconst 0, 1) := dk_3 (dk_at dksX3_restore_0 19 rfl rfl)
theorem dX3_restore_20 : decode cX3_restore 20 = .ok (.iconst 1, 1) := dk_4 (dk_at dksX3_restore_0 20 rfl rfl)
theorem dX3_restore_21 : decode cX3_restore 21 = .ok (.invokevirtual 55, 3) := dk_182 0 55 (dk_at dksX3_restore_0 21 rfl rfl)
theorem dX3_restore_24 : decode cX3_restore 24 = .ok (.ifCond .ne 25, 3) := dk_154 0 25 (dk_at dksX3_restore_1 0 rfl rfl)
theorem dX3_restore_27 : decode cX3_restore 27 = .ok (.aload_n 0, 1) := dk_42 (dk_at dksX3_restore_1 3 rfl rfl)
theorem dX3_restore_28 : decode cX3_restore 28 = .ok (.aload_n 0, 1) := dk_42 (dk_at dksX3_restore_1 4 rfl rfl)
theorem dX3_restore_29 : decode cX3_restore 29 = .ok (.getfield 16, 3) := dk_180 0 16 (dk_at dksX3_restore_1 5 rfl rfl)
theorem dX3_restore_32 : decode cX3_restore 32 = .ok (.iload_n 1, 1) := dk_27 (dk_at dksX3_restore_1 8 rfl rfl)
theorem dX3_restore_33 : decode cX3_restore 33 = .ok (.baload, 1) := dk_51 (dk_at dksX3_restore_1 9 rfl rfl)
theorem dX3_restore_34 : decode cX3_restore 34 = .ok (.ifCond .ne 7, 3) := dk_154 0 7 (dk_at dksX3_restore_1 10 rfl rfl)
theorem dX3_restore_37 : decode cX3_restore 37 = .ok (.iconst 1, 1) := dk_4 (dk_at dksX3_restore_1 13 rfl rfl)
theorem dX3_restore_38 : decode cX3_restore 38 = .ok (.goto 4, 3) := dk_167 0 4 (dk_at dksX3_restore_1 14 rfl rfl)
theorem dX3_restore_41 : decode cX3_restore 41 = .ok (.iconst 0, 1) := dk_3 (dk_at dksX3_restore_1 17 rfl rfl)
theorem dX3_restore_42 : decode cX3_restore 42 = .ok (.iconst 2, 1) := dk_5 (dk_at dksX3_restore_1 18 rfl rfl)
theorem dX3_restore_43 : decode cX3_restore 43 = .ok (.invokevirtual 55, 3) := dk_182 0 55 (dk_at dksX3_restore_1 19 rfl rfl)
theorem dX3_restore_46 : decode cX3_restore 46 = .ok (.ifCond .eq 5, 3) := dk_153 0 5 (dk_at dksX3_restore_2 0 rfl rfl)
theorem dX3_restore_49 : decode cX3_restore 49 = .ok (.iconst 0, 1) := dk_3 (dk_at dksX3_restore_2 3 rfl rfl)
theorem dX3_restore_50 : decode cX3_restore 50 = .ok (.ireturn, 1) := dk_172 (dk_at dksX3_restore_2 4 rfl rfl)
theorem dX3_restore_51 : decode cX3_restore 51 = .ok (.aload_n 0, 1) := dk_42 (dk_at dksX3_restore_2 5 rfl rfl)
theorem dX3_restore_52 : decode cX3_restore 52 = .ok (.bipush 7, 2) := dk_16 7 (dk_at dksX3_restore_2 6 rfl rfl)
theorem dX3_restore_54 : decode cX3_restore 54 = .ok (.iload_n 1, 1) := dk_27 (dk_at dksX3_restore_2 8 rfl rfl)
theorem dX3_restore_55 : decode cX3_restore 55 = .ok (.iadd, 1) := dk_96 (dk_at dksX3_restore_2 9 rfl rfl)
theorem dX3_restore_56 : decode cX3_restore 56 = .ok (.invokevirtual 390, 3) := dk_182 1 134 (dk_at dksX3_restore_2 10 rfl rfl)
theorem dX3_restore_59 : decode cX3_restore 59 = .ok (.aload_n 0, 1) := dk_42 (dk_at dksX3_restore_2 13 rfl rfl)
theorem dX3_restore_60 : decode cX3_restore 60 = .ok (.iconst 0, 1) := dk_3 (dk_at dksX3_restore_2 14 rfl rfl)
theorem dX3_restore_61 : decode cX3_restore 61 = .ok (.putfield 198, 3) := dk_181 0 198 (dk_at dksX3_restore_2 15 rfl rfl)
theorem dX3_restore_64 : decode cX3_restore 64 = .ok (.aload_n 0, 1) := dk_42 (dk_at dksX3_restore_2 18 rfl rfl)
theorem dX3_restore_65 : decode cX3_restore 65 = .ok (.getfield 7, 3) := dk_180 0 7 (dk_at dksX3_restore_2 19 rfl rfl)
theorem dX3_restore_68 : decode cX3_restore 68 = .ok (.iconst 0, 1) := dk_3 (dk_at dksX3_restore_2 22 rfl rfl)
theorem dX3_restore_69 : decode cX3_restore 69 = .ok (.iaload, 1) := dk_46 (dk_at dksX3_restore_2 23 rfl rfl)
theorem dX3_restore_70 : decode cX3_restore 70 = .ok (.ireturn, 1) := dk_172 (dk_at dksX3_restore_3 0 rfl rfl)
theorem q151 : (Jvm.Cond.initialized "RideDeskModel") ∈ lw_all := lw_g (lw_at lw_m1 5 rfl) rfl
theorem q1198 : (Jvm.Cond.selects "RideDeskModel" ({ cls := "java/lang/Object", name := "getClass", desc := "()Ljava/lang/Class;" } : Jvm.MethodName) ({ cls := "java/lang/Object", name := "getClass", desc := "()Ljava/lang/Class;" } : Jvm.MethodName)) ∈ lw_all := lw_g (lw_at lw_m5 92 rfl) rfl
theorem q2169 : (Jvm.Cond.instantiable "RideDeskModel" (36 : Nat)) ∈ lw_all := lw_g (lw_at lw_m9 103 rfl) rfl
theorem q2171 : (Jvm.Cond.instanceMethod ({ cls := "RideDeskModel", name := "<init>", desc := "()V" } : Jvm.MethodName)) ∈ lw_all := lw_g (lw_at lw_m9 105 rfl) rfl
theorem q2172 : (Jvm.Cond.code ({ cls := "RideDeskModel", name := "<init>", desc := "()V" } : Jvm.MethodName) prog_23_method_1_code (1 : Nat) (Option.none : Option Jvm.ClassFile.FieldType)) ∈ lw_all := lw_g (lw_at lw_m9 106 rfl) rfl
theorem q2173 : (Jvm.Cond.methodLink "RideDeskModel" (1 : Nat) ({ cls := "java/lang/Object", name := "<init>", desc := "()V" } : Jvm.MethodName)) ∈ lw_all := lw_g (lw_at lw_m9 107 rfl) rfl
theorem q2174 : (Jvm.Cond.fieldLink "RideDeskModel" (48 : Nat) "RideDeskModel" "thrown" "I") ∈ lw_all := lw_g (lw_at lw_m9 108 rfl) rfl
theorem q2175 : (Jvm.Cond.fieldLink "RideDeskModel" (51 : Nat) "RideDeskModel" "hasDesk" "Z") ∈ lw_all := lw_g (lw_at lw_m9 109 rfl) rfl
theorem q2176 : (Jvm.Cond.fieldLink "RideDeskModel" (7 : Nat) "RideDeskModel" "s" "[I") ∈ lw_all := lw_g (lw_at lw_m9 110 rfl) rfl
theorem q2177 : (Jvm.Cond.fieldLink "RideDeskModel" (13 : Nat) "RideDeskModel" "stores" "[I") ∈ lw_all := lw_g (lw_at lw_m9 111 rfl) rfl
theorem q2178 : (Jvm.Cond.fieldLink "RideDeskModel" (198 : Nat) "RideDeskModel" "changes" "I") ∈ lw_all := lw_g (lw_at lw_m9 112 rfl) rfl
theorem q2179 : (Jvm.Cond.fieldLink "RideDeskModel" (16 : Nat) "RideDeskModel" "isKept" "[Z") ∈ lw_all := lw_g (lw_at lw_m9 113 rfl) rfl
theorem q2180 : (Jvm.Cond.fieldLink "RideDeskModel" (20 : Nat) "RideDeskModel" "buffer" "[I") ∈ lw_all := lw_g (lw_at lw_m9 114 rfl) rfl
theorem q2181 : (Jvm.Cond.fieldLink "RideDeskModel" (59 : Nat) "RideDeskModel" "buffered" "I") ∈ lw_all := lw_g (lw_at lw_m9 115 rfl) rfl
theorem q2182 : (Jvm.Cond.fieldLink "RideDeskModel" (62 : Nat) "RideDeskModel" "parseError" "I") ∈ lw_all := lw_g (lw_at lw_m9 116 rfl) rfl
theorem q2183 : (Jvm.Cond.fieldLink "RideDeskModel" (23 : Nat) "RideDeskModel" "errorPosition" "I") ∈ lw_all := lw_g (lw_at lw_m9 117 rfl) rfl
theorem q2184 : (Jvm.Cond.fieldLink "RideDeskModel" (65 : Nat) "RideDeskModel" "size" "I") ∈ lw_all := lw_g (lw_at lw_m9 118 rfl) rfl
theorem q2185 : (Jvm.Cond.fieldLink "RideDeskModel" (68 : Nat) "RideDeskModel" "next" "I") ∈ lw_all := lw_g (lw_at lw_m9 119 rfl) rfl
theorem q2186 : (Jvm.Cond.fieldLink "RideDeskModel" (75 : Nat) "RideDeskModel" "from" "I") ∈ lw_all := lw_g (lw_at lw_m9 120 rfl) rfl
theorem q2187 : (Jvm.Cond.fieldLink "RideDeskModel" (78 : Nat) "RideDeskModel" "sort" "I") ∈ lw_all := lw_g (lw_at lw_m9 121 rfl) rfl
theorem q2188 : (Jvm.Cond.fieldLink "RideDeskModel" (27 : Nat) "RideDeskModel" "word" "[I") ∈ lw_all := lw_g (lw_at lw_m9 122 rfl) rfl
theorem q2189 : (Jvm.Cond.fieldLink "RideDeskModel" (85 : Nat) "RideDeskModel" "wordLong" "I") ∈ lw_all := lw_g (lw_at lw_m9 123 rfl) rfl
theorem q2190 : (Jvm.Cond.fieldLink "RideDeskModel" (91 : Nat) "RideDeskModel" "number" "I") ∈ lw_all := lw_g (lw_at lw_m9 124 rfl) rfl
theorem q2191 : (Jvm.Cond.fieldLink "RideDeskModel" (94 : Nat) "RideDeskModel" "wrong" "I") ∈ lw_all := lw_g (lw_at lw_m9 125 rfl) rfl
theorem q2192 : (Jvm.Cond.fieldLink "RideDeskModel" (97 : Nat) "RideDeskModel" "wrongAt" "I") ∈ lw_all := lw_g (lw_at lw_m9 126 rfl) rfl
theorem q2193 : (Jvm.Cond.fieldLink "RideDeskModel" (30 : Nat) "RideDeskModel" "read" "[I") ∈ lw_all := lw_g (lw_at lw_m9 127 rfl) rfl
theorem q2194 : (Jvm.Cond.fieldLink "RideDeskModel" (33 : Nat) "RideDeskModel" "p" "[I") ∈ lw_all := lw_g (lw_at lw_m9 128 rfl) rfl
theorem q2195 : (Jvm.Cond.fieldLink "RideDeskModel" (313 : Nat) "RideDeskModel" "bestMore" "I") ∈ lw_all := lw_g (lw_at lw_m9 129 rfl) rfl
theorem q2196 : (Jvm.Cond.fieldLink "RideDeskModel" (310 : Nat) "RideDeskModel" "bestVan" "I") ∈ lw_all := lw_g (lw_at lw_m9 130 rfl) rfl
theorem q2197 : (Jvm.Cond.fieldLink "RideDeskModel" (319 : Nat) "RideDeskModel" "bestUp" "I") ∈ lw_all := lw_g (lw_at lw_m9 131 rfl) rfl
theorem q2198 : (Jvm.Cond.fieldLink "RideDeskModel" (322 : Nat) "RideDeskModel" "bestDown" "I") ∈ lw_all := lw_g (lw_at lw_m9 132 rfl) rfl
theorem q2199 : (Jvm.Cond.fieldLink "RideDeskModel" (275 : Nat) "RideDeskModel" "triedVan" "I") ∈ lw_all := lw_g (lw_at lw_m9 133 rfl) rfl
theorem q2200 : (Jvm.Cond.fieldLink "RideDeskModel" (278 : Nat) "RideDeskModel" "tryTime" "I") ∈ lw_all := lw_g (lw_at lw_m9 134 rfl) rfl
theorem q2201 : (Jvm.Cond.fieldLink "RideDeskModel" (281 : Nat) "RideDeskModel" "tryX" "I") ∈ lw_all := lw_g (lw_at lw_m9 135 rfl) rfl
theorem q2202 : (Jvm.Cond.fieldLink "RideDeskModel" (284 : Nat) "RideDeskModel" "tryY" "I") ∈ lw_all := lw_g (lw_at lw_m9 136 rfl) rfl
theorem q2203 : (Jvm.Cond.fieldLink "RideDeskModel" (287 : Nat) "RideDeskModel" "trySeats" "I") ∈ lw_all := lw_g (lw_at lw_m9 137 rfl) rfl
theorem q2204 : (Jvm.Cond.fieldLink "RideDeskModel" (290 : Nat) "RideDeskModel" "tryWheels" "I") ∈ lw_all := lw_g (lw_at lw_m9 138 rfl) rfl
theorem q2205 : (Jvm.Cond.fieldLink "RideDeskModel" (36 : Nat) "RideDeskModel" "picked" "[I") ∈ lw_all := lw_g (lw_at lw_m9 139 rfl) rfl
theorem q2206 : (Jvm.Cond.fieldLink "RideDeskModel" (39 : Nat) "RideDeskModel" "isOut" "[Z") ∈ lw_all := lw_g (lw_at lw_m9 140 rfl) rfl
theorem q2207 : (Jvm.Cond.fieldLink "RideDeskModel" (42 : Nat) "RideDeskModel" "shifted" "[I") ∈ lw_all := lw_g (lw_at lw_m9 141 rfl) rfl
theorem q2208 : (Jvm.Cond.fieldLink "RideDeskModel" (45 : Nat) "RideDeskModel" "text" "[I") ∈ lw_all := lw_g (lw_at lw_m9 142 rfl) rfl
theorem q2209 : (Jvm.Cond.fieldLink "RideDeskModel" (399 : Nat) "RideDeskModel" "textLong" "I") ∈ lw_all := lw_g (lw_at lw_m9 143 rfl) rfl
theorem q2210 : (Jvm.Cond.lays "RideDeskModel" "RideDeskModel" "thrown" "I") ∈ lw_all := lw_g (lw_at lw_m9 144 rfl) rfl
theorem q2211 : (Jvm.Cond.soleField "RideDeskModel" "thrown") ∈ lw_all := lw_g (lw_at lw_m9 145 rfl) rfl
theorem q2212 : (Jvm.Cond.lays "RideDeskModel" "RideDeskModel" "hasDesk" "Z") ∈ lw_all := lw_g (lw_at lw_m9 146 rfl) rfl
theorem q2213 : (Jvm.Cond.soleField "RideDeskModel" "hasDesk") ∈ lw_all := lw_g (lw_at lw_m9 147 rfl) rfl
theorem q2214 : (Jvm.Cond.laysFinal "RideDeskModel" "RideDeskModel" "s" "[I") ∈ lw_all := lw_g (lw_at lw_m9 148 rfl) rfl
theorem q2215 : (Jvm.Cond.soleField "RideDeskModel" "s") ∈ lw_all := lw_g (lw_at lw_m9 149 rfl) rfl
theorem q2216 : (Jvm.Cond.laysFinal "RideDeskModel" "RideDeskModel" "stores" "[I") ∈ lw_all := lw_g (lw_at lw_m9 150 rfl) rfl
theorem q2217 : (Jvm.Cond.soleField "RideDeskModel" "stores") ∈ lw_all := lw_g (lw_at lw_m9 151 rfl) rfl
theorem q2218 : (Jvm.Cond.lays "RideDeskModel" "RideDeskModel" "changes" "I") ∈ lw_all := lw_g (lw_at lw_m9 152 rfl) rfl
theorem q2219 : (Jvm.Cond.soleField "RideDeskModel" "changes") ∈ lw_all := lw_g (lw_at lw_m9 153 rfl) rfl
theorem q2220 : (Jvm.Cond.laysFinal "RideDeskModel" "RideDeskModel" "isKept" "[Z") ∈ lw_all := lw_g (lw_at lw_m9 154 rfl) rfl
theorem q2221 : (Jvm.Cond.soleField "RideDeskModel" "isKept") ∈ lw_all := lw_g (lw_at lw_m9 155 rfl) rfl
theorem q2222 : (Jvm.Cond.laysFinal "RideDeskModel" "RideDeskModel" "buffer" "[I") ∈ lw_all := lw_g (lw_at lw_m9 156 rfl) rfl
theorem q2223 : (Jvm.Cond.soleField "RideDeskModel" "buffer") ∈ lw_all := lw_g (lw_at lw_m9 157 rfl) rfl
theorem q2224 : (Jvm.Cond.lays "RideDeskModel" "RideDeskModel" "buffered" "I") ∈ lw_all := lw_g (lw_at lw_m9 158 rfl) rfl
theorem q2225 : (Jvm.Cond.soleField "RideDeskModel" "buffered") ∈ lw_all := lw_g (lw_at lw_m9 159 rfl) rfl
theorem q2226 : (Jvm.Cond.lays "RideDeskModel" "RideDeskModel" "parseError" "I") ∈ lw_all := lw_g (lw_at lw_m9 160 rfl) rfl
theorem q2227 : (Jvm.Cond.soleField "RideDeskModel" "parseError") ∈ lw_all := lw_g (lw_at lw_m9 161 rfl) rfl
theorem q2228 : (Jvm.Cond.lays "RideDeskModel" "RideDeskModel" "errorPosition" "I") ∈ lw_all := lw_g (lw_at lw_m9 162 rfl) rfl
theorem q2229 : (Jvm.Cond.soleField "RideDeskModel" "errorPosition") ∈ lw_all := lw_g (lw_at lw_m9 163 rfl) rfl
theorem q2230 : (Jvm.Cond.lays "RideDeskModel" "RideDeskModel" "size" "I") ∈ lw_all := lw_g (lw_at lw_m9 164 rfl) rfl
theorem q2231 : (Jvm.Cond.soleField "RideDeskModel" "size") ∈ lw_all := lw_g (lw_at lw_m9 165 rfl) rfl
theorem q2232 : (Jvm.Cond.lays "RideDeskModel" "RideDeskModel" "next" "I") ∈ lw_all := lw_g (lw_at lw_m9 166 rfl) rfl
theorem q2233 : (Jvm.Cond.soleField "RideDeskModel" "next") ∈ lw_all := lw_g (lw_at lw_m9 167 rfl) rfl
theorem q2234 : (Jvm.Cond.lays "RideDeskModel" "RideDeskModel" "from" "I") ∈ lw_all := lw_g (lw_at lw_m9 168 rfl) rfl
theorem q2235 : (Jvm.Cond.soleField "RideDeskModel" "from") ∈ lw_all := lw_g (lw_at lw_m9 169 rfl) rfl
theorem q2236 : (Jvm.Cond.lays "RideDeskModel" "RideDeskModel" "sort" "I") ∈ lw_all := lw_g (lw_at lw_m9 170 rfl) rfl
theorem q2237 : (Jvm.Cond.soleField "RideDeskModel" "sort") ∈ lw_all := lw_g (lw_at lw_m9 171 rfl) rfl
theorem q2238 : (Jvm.Cond.laysFinal "RideDeskModel" "RideDeskModel" "word" "[I") ∈ lw_all := lw_g (lw_at lw_m9 172 rfl) rfl
theorem q2239 : (Jvm.Cond.soleField "RideDeskModel" "word") ∈ lw_all := lw_g (lw_at lw_m9 173 rfl) rfl
theorem q2240 : (Jvm.Cond.lays "RideDeskModel" "RideDeskModel" "wordLong" "I") ∈ lw_all := lw_g (lw_at lw_m9 174 rfl) rfl
theorem q2241 : (Jvm.Cond.soleField "RideDeskModel" "wordLong") ∈ lw_all := lw_g (lw_at lw_m9 175 rfl) rfl
theorem q2242 : (Jvm.Cond.lays "RideDeskModel" "RideDeskModel" "number" "I") ∈ lw_all := lw_g (lw_at lw_m9 176 rfl) rfl
theorem q2243 : (Jvm.Cond.soleField "RideDeskModel" "number") ∈ lw_all := lw_g (lw_at lw_m9 177 rfl) rfl
theorem q2244 : (Jvm.Cond.lays "RideDeskModel" "RideDeskModel" "wrong" "I") ∈ lw_all := lw_g (lw_at lw_m9 178 rfl) rfl
theorem q2245 : (Jvm.Cond.soleField "RideDeskModel" "wrong") ∈ lw_all := lw_g (lw_at lw_m9 179 rfl) rfl
theorem q2246 : (Jvm.Cond.lays "RideDeskModel" "RideDeskModel" "wrongAt" "I") ∈ lw_all := lw_g (lw_at lw_m9 180 rfl) rfl
theorem q2247 : (Jvm.Cond.soleField "RideDeskModel" "wrongAt") ∈ lw_all := lw_g (lw_at lw_m9 181 rfl) rfl
theorem q2248 : (Jvm.Cond.laysFinal "RideDeskModel" "RideDeskModel" "read" "[I") ∈ lw_all := lw_g (lw_at lw_m9 182 rfl) rfl
theorem q2249 : (Jvm.Cond.soleField "RideDeskModel" "read") ∈ lw_all := lw_g (lw_at lw_m9 183 rfl) rfl
theorem q2250 : (Jvm.Cond.laysFinal "RideDeskModel" "RideDeskModel" "p" "[I") ∈ lw_all := lw_g (lw_at lw_m9 184 rfl) rfl
theorem q2251 : (Jvm.Cond.soleField "RideDeskModel" "p") ∈ lw_all := lw_g (lw_at lw_m9 185 rfl) rfl
theorem q2252 : (Jvm.Cond.lays "RideDeskModel" "RideDeskModel" "bestMore" "I") ∈ lw_all := lw_g (lw_at lw_m9 186 rfl) rfl
theorem q2253 : (Jvm.Cond.soleField "RideDeskModel" "bestMore") ∈ lw_all := lw_g (lw_at lw_m9 187 rfl) rfl
theorem q2254 : (Jvm.Cond.lays "RideDeskModel" "RideDeskModel" "bestVan" "I") ∈ lw_all := lw_g (lw_at lw_m9 188 rfl) rfl
theorem q2255 : (Jvm.Cond.soleField "RideDeskModel" "bestVan") ∈ lw_all := lw_g (lw_at lw_m9 189 rfl) rfl
theorem q2256 : (Jvm.Cond.lays "RideDeskModel" "RideDeskModel" "bestUp" "I") ∈ lw_all := lw_g (lw_at lw_m9 190 rfl) rfl
theorem q2257 : (Jvm.Cond.soleField "RideDeskModel" "bestUp") ∈ lw_all := lw_g (lw_at lw_m9 191 rfl) rfl
theorem q2258 : (Jvm.Cond.lays "RideDeskModel" "RideDeskModel" "bestDown" "I") ∈ lw_all := lw_g (lw_at lw_m9 192 rfl) rfl
theorem q2259 : (Jvm.Cond.soleField "RideDeskModel" "bestDown") ∈ lw_all := lw_g (lw_at lw_m9 193 rfl) rfl
theorem q2260 : (Jvm.Cond.lays "RideDeskModel" "RideDeskModel" "triedVan" "I") ∈ lw_all := lw_g (lw_at lw_m9 194 rfl) rfl
theorem q2261 : (Jvm.Cond.soleField "RideDeskModel" "triedVan") ∈ lw_all := lw_g (lw_at lw_m9 195 rfl) rfl
theorem q2262 : (Jvm.Cond.lays "RideDeskModel" "RideDeskModel" "tryTime" "I") ∈ lw_all := lw_g (lw_at lw_m9 196 rfl) rfl
theorem q2263 : (Jvm.Cond.soleField "RideDeskModel" "tryTime") ∈ lw_all := lw_g (lw_at lw_m9 197 rfl) rfl
theorem q2264 : (Jvm.Cond.lays "RideDeskModel" "RideDeskModel" "tryX" "I") ∈ lw_all := lw_g (lw_at lw_m9 198 rfl) rfl
theorem q2265 : (Jvm.Cond.soleField "RideDeskModel" "tryX") ∈ lw_all := lw_g (lw_at lw_m9 199 rfl) rfl
theorem q2266 : (Jvm.Cond.lays "RideDeskModel" "RideDeskModel" "tryY" "I") ∈ lw_all := lw_g (lw_at lw_m9 200 rfl) rfl
theorem q2267 : (Jvm.Cond.soleField "RideDeskModel" "tryY") ∈ lw_all := lw_g (lw_at lw_m9 201 rfl) rfl
theorem q2268 : (Jvm.Cond.lays "RideDeskModel" "RideDeskModel" "trySeats" "I") ∈ lw_all := lw_g (lw_at lw_m9 202 rfl) rfl
theorem q2269 : (Jvm.Cond.soleField "RideDeskModel" "trySeats") ∈ lw_all := lw_g (lw_at lw_m9 203 rfl) rfl
theorem q2270 : (Jvm.Cond.lays "RideDeskModel" "RideDeskModel" "tryWheels" "I") ∈ lw_all := lw_g (lw_at lw_m9 204 rfl) rfl
theorem q2271 : (Jvm.Cond.soleField "RideDeskModel" "tryWheels") ∈ lw_all := lw_g (lw_at lw_m9 205 rfl) rfl
theorem q2272 : (Jvm.Cond.laysFinal "RideDeskModel" "RideDeskModel" "picked" "[I") ∈ lw_all := lw_g (lw_at lw_m9 206 rfl) rfl
theorem q2273 : (Jvm.Cond.soleField "RideDeskModel" "picked") ∈ lw_all := lw_g (lw_at lw_m9 207 rfl) rfl
theorem q2274 : (Jvm.Cond.laysFinal "RideDeskModel" "RideDeskModel" "isOut" "[Z") ∈ lw_all := lw_g (lw_at lw_m9 208 rfl) rfl
theorem q2275 : (Jvm.Cond.soleField "RideDeskModel" "isOut") ∈ lw_all := lw_g (lw_at lw_m9 209 rfl) rfl
theorem q2276 : (Jvm.Cond.laysFinal "RideDeskModel" "RideDeskModel" "shifted" "[I") ∈ lw_all := lw_g (lw_at lw_m9 210 rfl) rfl
theorem q2277 : (Jvm.Cond.soleField "RideDeskModel" "shifted") ∈ lw_all := lw_g (lw_at lw_m9 211 rfl) rfl
theorem q2278 : (Jvm.Cond.laysFinal "RideDeskModel" "RideDeskModel" "text" "[I") ∈ lw_all := lw_g (lw_at lw_m9 212 rfl) rfl
theorem q2279 : (Jvm.Cond.soleField "RideDeskModel" "text") ∈ lw_all := lw_g (lw_at lw_m9 213 rfl) rfl
theorem q2280 : (Jvm.Cond.lays "RideDeskModel" "RideDeskModel" "textLong" "I") ∈ lw_all := lw_g (lw_at lw_m9 214 rfl) rfl
theorem q2281 : (Jvm.Cond.soleField "RideDeskModel" "textLong") ∈ lw_all := lw_g (lw_at lw_m9 215 rfl) rfl
theorem q2282 : (Jvm.Cond.superclass "RideDeskModel" "java/lang/Object") ∈ lw_all := lw_g (lw_at lw_m9 216 rfl) rfl
theorem q2285 : (Jvm.Cond.instanceMethod ({ cls := "RideDeskModel", name := "thrown", desc := "()I" } : Jvm.MethodName)) ∈ lw_all := lw_g (lw_at lw_m9 219 rfl) rfl
theorem q2286 : (Jvm.Cond.selects "RideDeskModel" ({ cls := "RideDeskModel", name := "thrown", desc := "()I" } : Jvm.MethodName) ({ cls := "RideDeskModel", name := "thrown", desc := "()I" } : Jvm.MethodName)) ∈ lw_all := lw_g (lw_at lw_m9 220 rfl) rfl
theorem q2287 : (Jvm.Cond.code ({ cls := "RideDeskModel", name := "thrown", desc := "()I" } : Jvm.MethodName) prog_23_method_2_code (1 : Nat) (Option.some Jvm.ClassFile.FieldType.int)) ∈ lw_all := lw_g (lw_at lw_m9 221 rfl) rfl
theorem q2289 : (Jvm.Cond.instanceMethod ({ cls := "RideDeskModel", name := "append", desc := "(IIIII)I" } : Jvm.MethodName)) ∈ lw_all := lw_g (lw_at lw_m9 223 rfl) rfl
theorem q2290 : (Jvm.Cond.selects "RideDeskModel" ({ cls := "RideDeskModel", name := "append", desc := "(IIIII)I" } : Jvm.MethodName) ({ cls := "RideDeskModel", name := "append", desc := "(IIIII)I" } : Jvm.MethodName)) ∈ lw_all := lw_g (lw_at lw_m9 224 rfl) rfl
theorem q2291 : (Jvm.Cond.code ({ cls := "RideDeskModel", name := "append", desc := "(IIIII)I" } : Jvm.MethodName) prog_23_method_6_code (8 : Nat) (Option.some Jvm.ClassFile.FieldType.int)) ∈ lw_all := lw_g (lw_at lw_m9 225 rfl) rfl
theorem q2293 : (Jvm.Cond.instanceMethod ({ cls := "RideDeskModel", name := "buffered", desc := "()I" } : Jvm.MethodName)) ∈ lw_all := lw_g (lw_at lw_m9 227 rfl) rfl
theorem q2294 : (Jvm.Cond.selects "RideDeskModel" ({ cls := "RideDeskModel", name := "buffered", desc := "()I" } : Jvm.MethodName) ({ cls := "RideDeskModel", name := "buffered", desc := "()I" } : Jvm.MethodName)) ∈ lw_all := lw_g (lw_at lw_m9 228 rfl) rfl
theorem q2295 : (Jvm.Cond.code ({ cls := "RideDeskModel", name := "buffered", desc := "()I" } : Jvm.MethodName) prog_23_method_7_code (1 : Nat) (Option.some Jvm.ClassFile.FieldType.int)) ∈ lw_all := lw_g (lw_at lw_m9 229 rfl) rfl
theorem q2297 : (Jvm.Cond.instanceMethod ({ cls := "RideDeskModel", name := "parseError", desc := "()I" } : Jvm.MethodName)) ∈ lw_all := lw_g (lw_at lw_m9 231 rfl) rfl
theorem q2298 : (Jvm.Cond.selects "RideDeskModel" ({ cls := "RideDeskModel", name := "parseError", desc := "()I" } : Jvm.MethodName) ({ cls := "RideDeskModel", name := "parseError", desc := "()I" } : Jvm.MethodName)) ∈ lw_all := lw_g (lw_at lw_m9 232 rfl) rfl
theorem q2299 : (Jvm.Cond.code ({ cls := "RideDeskModel", name := "parseError", desc := "()I" } : Jvm.MethodName) prog_23_method_8_code (1 : Nat) (Option.some Jvm.ClassFile.FieldType.int)) ∈ lw_all := lw_g (lw_at lw_m9 233 rfl) rfl
theorem q2301 : (Jvm.Cond.instanceMethod ({ cls := "RideDeskModel", name := "errorPosition", desc := "()I" } : Jvm.MethodName)) ∈ lw_all := lw_g (lw_at lw_m9 235 rfl) rfl
theorem q2302 : (Jvm.Cond.selects "RideDeskModel" ({ cls := "RideDeskModel", name := "errorPosition", desc := "()I" } : Jvm.MethodName) ({ cls := "RideDeskModel", name := "errorPosition", desc := "()I" } : Jvm.MethodName)) ∈ lw_all := lw_g (lw_at lw_m9 236 rfl) rfl
theorem q2303 : (Jvm.Cond.code ({ cls := "RideDeskModel", name := "errorPosition", desc := "()I" } : Jvm.MethodName) prog_23_method_9_code (1 : Nat) (Option.some Jvm.ClassFile.FieldType.int)) ∈ lw_all := lw_g (lw_at lw_m9 237 rfl) rfl
theorem q2305 : (Jvm.Cond.instanceMethod ({ cls := "RideDeskModel", name := "load", desc := "(I)I" } : Jvm.MethodName)) ∈ lw_all := lw_g (lw_at lw_m9 239 rfl) rfl
theorem q2306 : (Jvm.Cond.selects "RideDeskModel" ({ cls := "RideDeskModel", name := "load", desc := "(I)I" } : Jvm.MethodName) ({ cls := "RideDeskModel", name := "load", desc := "(I)I" } : Jvm.MethodName)) ∈ lw_all := lw_g (lw_at lw_m10 0 rfl) rfl
theorem q2307 : (Jvm.Cond.code ({ cls := "RideDeskModel", name := "load", desc := "(I)I" } : Jvm.MethodName) prog_23_method_27_code (4 : Nat) (Option.some Jvm.ClassFile.FieldType.int)) ∈ lw_all := lw_g (lw_at lw_m10 1 rfl) rfl
theorem q2308 : (Jvm.Cond.methodLink "RideDeskModel" (124 : Nat) ({ cls := "RideDeskModel", name := "in", desc := "(III)Z" } : Jvm.MethodName)) ∈ lw_all := lw_g (lw_at lw_m10 2 rfl) rfl
theorem q2309 : (Jvm.Cond.static ({ cls := "RideDeskModel", name := "in", desc := "(III)Z" } : Jvm.MethodName)) ∈ lw_all := lw_g (lw_at lw_m10 3 rfl) rfl
theorem q2310 : (Jvm.Cond.code ({ cls := "RideDeskModel", name := "in", desc := "(III)Z" } : Jvm.MethodName) prog_23_method_3_code (3 : Nat) (Option.some Jvm.ClassFile.FieldType.boolean)) ∈ lw_all := lw_g (lw_at lw_m10 4 rfl) rfl
theorem q2311 : (Jvm.Cond.methodLink "RideDeskModel" (55 : Nat) ({ cls := "RideDeskModel", name := "refuse", desc := "(ZI)Z" } : Jvm.MethodName)) ∈ lw_all := lw_g (lw_at lw_m10 5 rfl) rfl
theorem q2312 : (Jvm.Cond.privateMethod ({ cls := "RideDeskModel", name := "refuse", desc := "(ZI)Z" } : Jvm.MethodName)) ∈ lw_tbl := lw_at lw_m10 6 rfl
theorem q2313 : (Jvm.Cond.instanceMethod ({ cls := "RideDeskModel", name := "refuse", desc := "(ZI)Z" } : Jvm.MethodName)) ∈ lw_all := lw_g (lw_at lw_m10 7 rfl) rfl
theorem q2314 : (Jvm.Cond.code ({ cls := "RideDeskModel", name := "refuse", desc := "(ZI)Z" } : Jvm.MethodName) prog_23_method_4_code (3 : Nat) (Option.some Jvm.ClassFile.FieldType.boolean)) ∈ lw_all := lw_g (lw_at lw_m10 8 rfl) rfl
theorem q2315 : (Jvm.Cond.methodLink "RideDeskModel" (189 : Nat) ({ cls := "RideDeskModel", name := "reads", desc := "(I)V" } : Jvm.MethodName)) ∈ lw_all := lw_g (lw_at lw_m10 9 rfl) rfl
theorem q2316 : (Jvm.Cond.privateMethod ({ cls := "RideDeskModel", name := "reads", desc := "(I)V" } : Jvm.MethodName)) ∈ lw_tbl := lw_at lw_m10 10 rfl
theorem q2317 : (Jvm.Cond.instanceMethod ({ cls := "RideDeskModel", name := "reads", desc := "(I)V" } : Jvm.MethodName)) ∈ lw_all := lw_g (lw_at lw_m10 11 rfl) rfl
theorem q2318 : (Jvm.Cond.code ({ cls := "RideDeskModel", name := "reads", desc := "(I)V" } : Jvm.MethodName) prog_23_method_26_code (3 : Nat) (Option.none : Option Jvm.ClassFile.FieldType)) ∈ lw_all := lw_g (lw_at lw_m10 12 rfl) rfl
theorem q2319 : (Jvm.Cond.methodLink "RideDeskModel" (100 : Nat) ({ cls := "RideDeskModel", name := "token", desc := "()V" } : Jvm.MethodName)) ∈ lw_all := lw_g (lw_at lw_m10 13 rfl) rfl
theorem q2320 : (Jvm.Cond.privateMethod ({ cls := "RideDeskModel", name := "token", desc := "()V" } : Jvm.MethodName)) ∈ lw_tbl := lw_at lw_m10 14 rfl
theorem q2321 : (Jvm.Cond.instanceMethod ({ cls := "RideDeskModel", name := "token", desc := "()V" } : Jvm.MethodName)) ∈ lw_all := lw_g (lw_at lw_m10 15 rfl) rfl
theorem q2322 : (Jvm.Cond.code ({ cls := "RideDeskModel", name := "token", desc := "()V" } : Jvm.MethodName) prog_23_method_13_code (3 : Nat) (Option.none : Option Jvm.ClassFile.FieldType)) ∈ lw_all := lw_g (lw_at lw_m10 16 rfl) rfl
theorem q2323 : (Jvm.Cond.methodLink "RideDeskModel" (71 : Nat) ({ cls := "RideDeskModel", name := "seen", desc := "(I)I" } : Jvm.MethodName)) ∈ lw_all := lw_g (lw_at lw_m10 17 rfl) rfl
theorem q2324 : (Jvm.Cond.privateMethod ({ cls := "RideDeskModel", name := "seen", desc := "(I)I" } : Jvm.MethodName)) ∈ lw_tbl := lw_at lw_m10 18 rfl
theorem q2325 : (Jvm.Cond.instanceMethod ({ cls := "RideDeskModel", name := "seen", desc := "(I)I" } : Jvm.MethodName)) ∈ lw_all := lw_g (lw_at lw_m10 19 rfl) rfl
theorem q2326 : (Jvm.Cond.code ({ cls := "RideDeskModel", name := "seen", desc := "(I)I" } : Jvm.MethodName) prog_23_method_10_code (2 : Nat) (Option.some Jvm.ClassFile.FieldType.int)) ∈ lw_all := lw_g (lw_at lw_m10 20 rfl) rfl
theorem q2327 : (Jvm.Cond.methodLink "RideDeskModel" (81 : Nat) ({ cls := "RideDeskModel", name := "isLetter", desc := "(I)Z" } : Jvm.MethodName)) ∈ lw_all := lw_g (lw_at lw_m10 21 rfl) rfl
theorem q2328 : (Jvm.Cond.static ({ cls := "RideDeskModel", name := "isLetter", desc := "(I)Z" } : Jvm.MethodName)) ∈ lw_all := lw_g (lw_at lw_m10 22 rfl) rfl
theorem q2329 : (Jvm.Cond.code ({ cls := "RideDeskModel", name := "isLetter", desc := "(I)Z" } : Jvm.MethodName) prog_23_method_11_code (1 : Nat) (Option.some Jvm.ClassFile.FieldType.boolean)) ∈ lw_all := lw_g (lw_at lw_m10 23 rfl) rfl
theorem q2330 : (Jvm.Cond.methodLink "RideDeskModel" (88 : Nat) ({ cls := "RideDeskModel", name := "isDigit", desc := "(I)Z" } : Jvm.MethodName)) ∈ lw_all := lw_g (lw_at lw_m10 24 rfl) rfl
theorem q2331 : (Jvm.Cond.static ({ cls := "RideDeskModel", name := "isDigit", desc := "(I)Z" } : Jvm.MethodName)) ∈ lw_all := lw_g (lw_at lw_m10 25 rfl) rfl
theorem q2332 : (Jvm.Cond.code ({ cls := "RideDeskModel", name := "isDigit", desc := "(I)Z" } : Jvm.MethodName) prog_23_method_12_code (1 : Nat) (Option.some Jvm.ClassFile.FieldType.boolean)) ∈ lw_all := lw_g (lw_at lw_m10 26 rfl) rfl
theorem q2333 : (Jvm.Cond.methodLink "RideDeskModel" (171 : Nat) ({ cls := "RideDeskModel", name := "rules", desc := "()V" } : Jvm.MethodName)) ∈ lw_all := lw_g (lw_at lw_m10 27 rfl) rfl
theorem q2334 : (Jvm.Cond.privateMethod ({ cls := "RideDeskModel", name := "rules", desc := "()V" } : Jvm.MethodName)) ∈ lw_tbl := lw_at lw_m10 28 rfl
theorem q2335 : (Jvm.Cond.instanceMethod ({ cls := "RideDeskModel", name := "rules", desc := "()V" } : Jvm.MethodName)) ∈ lw_all := lw_g (lw_at lw_m10 29 rfl) rfl
theorem q2336 : (Jvm.Cond.code ({ cls := "RideDeskModel", name := "rules", desc := "()V" } : Jvm.MethodName) prog_23_method_21_code (1 : Nat) (Option.none : Option Jvm.ClassFile.FieldType)) ∈ lw_all := lw_g (lw_at lw_m10 30 rfl) rfl
theorem q2337 : (Jvm.Cond.stringRef "RideDeskModel" (139 : Nat) "desk") ∈ lw_tbl := lw_at lw_m10 31 rfl
theorem q2338 : (Jvm.Cond.methodLink "RideDeskModel" (132 : Nat) ({ cls := "RideDeskModel", name := "must", desc := "(Ljava/lang/String;)V" } : Jvm.MethodName)) ∈ lw_all := lw_g (lw_at lw_m10 32 rfl) rfl
theorem q2339 : (Jvm.Cond.privateMethod ({ cls := "RideDeskModel", name := "must", desc := "(Ljava/lang/String;)V" } : Jvm.MethodName)) ∈ lw_tbl := lw_at lw_m10 33 rfl
theorem q2340 : (Jvm.Cond.instanceMethod ({ cls := "RideDeskModel", name := "must", desc := "(Ljava/lang/String;)V" } : Jvm.MethodName)) ∈ lw_all := lw_g (lw_at lw_m10 34 rfl) rfl
theorem q2341 : (Jvm.Cond.code ({ cls := "RideDeskModel", name := "must", desc := "(Ljava/lang/String;)V" } : Jvm.MethodName) prog_23_method_17_code (2 : Nat) (Option.none : Option Jvm.ClassFile.FieldType)) ∈ lw_all := lw_g (lw_at lw_m10 35 rfl) rfl
theorem q2342 : (Jvm.Cond.methodLink "RideDeskModel" (113 : Nat) ({ cls := "RideDeskModel", name := "isWord", desc := "(Ljava/lang/String;)Z" } : Jvm.MethodName)) ∈ lw_all := lw_g (lw_at lw_m10 36 rfl) rfl
theorem q2343 : (Jvm.Cond.privateMethod ({ cls := "RideDeskModel", name := "isWord", desc := "(Ljava/lang/String;)Z" } : Jvm.MethodName)) ∈ lw_tbl := lw_at lw_m10 37 rfl
theorem q2344 : (Jvm.Cond.instanceMethod ({ cls := "RideDeskModel", name := "isWord", desc := "(Ljava/lang/String;)Z" } : Jvm.MethodName)) ∈ lw_all := lw_g (lw_at lw_m10 38 rfl) rfl
theorem q2345 : (Jvm.Cond.code ({ cls := "RideDeskModel", name := "isWord", desc := "(Ljava/lang/String;)Z" } : Jvm.MethodName) prog_23_method_16_code (3 : Nat) (Option.some Jvm.ClassFile.FieldType.boolean)) ∈ lw_all := lw_g (lw_at lw_m10 39 rfl) rfl
theorem q2346 : (Jvm.Cond.methodLink "RideDeskModel" (103 : Nat) ({ cls := "java/lang/String", name := "length", desc := "()I" } : Jvm.MethodName)) ∈ lw_all := lw_g (lw_at lw_m10 40 rfl) rfl
theorem q2347 : (Jvm.Cond.methodLink "RideDeskModel" (109 : Nat) ({ cls := "java/lang/String", name := "charAt", desc := "(I)C" } : Jvm.MethodName)) ∈ lw_all := lw_g (lw_at lw_m10 41 rfl) rfl
theorem q2358 : (Jvm.Cond.methodLink "RideDeskModel" (117 : Nat) ({ cls := "RideDeskModel", name := "fails", desc := "(I)V" } : Jvm.MethodName)) ∈ lw_all := lw_g (lw_at lw_m10 52 rfl) rfl
theorem q2359 : (Jvm.Cond.privateMethod ({ cls := "RideDeskModel", name := "fails", desc := "(I)V" } : Jvm.MethodName)) ∈ lw_tbl := lw_at lw_m10 53 rfl
theorem q2360 : (Jvm.Cond.instanceMethod ({ cls := "RideDeskModel", name := "fails", desc := "(I)V" } : Jvm.MethodName)) ∈ lw_all := lw_g (lw_at lw_m10 54 rfl) rfl
theorem q2361 : (Jvm.Cond.code ({ cls := "RideDeskModel", name := "fails", desc := "(I)V" } : Jvm.MethodName) prog_23_method_14_code (2 : Nat) (Option.none : Option Jvm.ClassFile.FieldType)) ∈ lw_all := lw_g (lw_at lw_m10 55 rfl) rfl
theorem q2362 : (Jvm.Cond.methodLink "RideDeskModel" (121 : Nat) ({ cls := "RideDeskModel", name := "goesOn", desc := "()V" } : Jvm.MethodName)) ∈ lw_all := lw_g (lw_at lw_m10 56 rfl) rfl
theorem q2363 : (Jvm.Cond.privateMethod ({ cls := "RideDeskModel", name := "goesOn", desc := "()V" } : Jvm.MethodName)) ∈ lw_tbl := lw_at lw_m10 57 rfl
theorem q2364 : (Jvm.Cond.instanceMethod ({ cls := "RideDeskModel", name := "goesOn", desc := "()V" } : Jvm.MethodName)) ∈ lw_all := lw_g (lw_at lw_m10 58 rfl) rfl
theorem q2365 : (Jvm.Cond.code ({ cls := "RideDeskModel", name := "goesOn", desc := "()V" } : Jvm.MethodName) prog_23_method_15_code (1 : Nat) (Option.none : Option Jvm.ClassFile.FieldType)) ∈ lw_all := lw_g (lw_at lw_m10 59 rfl) rfl
theorem q2366 : (Jvm.Cond.stringRef "RideDeskModel" (141 : Nat) "window") ∈ lw_tbl := lw_at lw_m10 60 rfl
theorem q2367 : (Jvm.Cond.methodLink "RideDeskModel" (143 : Nat) ({ cls := "RideDeskModel", name := "takes", desc := "(Ljava/lang/String;II)I" } : Jvm.MethodName)) ∈ lw_all := lw_g (lw_at lw_m10 61 rfl) rfl
theorem q2368 : (Jvm.Cond.privateMethod ({ cls := "RideDeskModel", name := "takes", desc := "(Ljava/lang/String;II)I" } : Jvm.MethodName)) ∈ lw_tbl := lw_at lw_m10 62 rfl
theorem q2369 : (Jvm.Cond.instanceMethod ({ cls := "RideDeskModel", name := "takes", desc := "(Ljava/lang/String;II)I" } : Jvm.MethodName)) ∈ lw_all := lw_g (lw_at lw_m10 63 rfl) rfl
theorem q2370 : (Jvm.Cond.code ({ cls := "RideDeskModel", name := "takes", desc := "(Ljava/lang/String;II)I" } : Jvm.MethodName) prog_23_method_20_code (4 : Nat) (Option.some Jvm.ClassFile.FieldType.int)) ∈ lw_all := lw_g (lw_at lw_m10 64 rfl) rfl
theorem q2371 : (Jvm.Cond.methodLink "RideDeskModel" (136 : Nat) ({ cls := "RideDeskModel", name := "takes", desc := "(II)I" } : Jvm.MethodName)) ∈ lw_all := lw_g (lw_at lw_m10 65 rfl) rfl
theorem q2372 : (Jvm.Cond.privateMethod ({ cls := "RideDeskModel", name := "takes", desc := "(II)I" } : Jvm.MethodName)) ∈ lw_tbl := lw_at lw_m10 66 rfl
theorem q2373 : (Jvm.Cond.instanceMethod ({ cls := "RideDeskModel", name := "takes", desc := "(II)I" } : Jvm.MethodName)) ∈ lw_all := lw_g (lw_at lw_m10 67 rfl) rfl
theorem q2374 : (Jvm.Cond.code ({ cls := "RideDeskModel", name := "takes", desc := "(II)I" } : Jvm.MethodName) prog_23_method_19_code (4 : Nat) (Option.some Jvm.ClassFile.FieldType.int)) ∈ lw_all := lw_g (lw_at lw_m10 68 rfl) rfl
theorem q2375 : (Jvm.Cond.methodLink "RideDeskModel" (128 : Nat) ({ cls := "RideDeskModel", name := "numberHere", desc := "(II)I" } : Jvm.MethodName)) ∈ lw_all := lw_g (lw_at lw_m10 69 rfl) rfl
theorem q2376 : (Jvm.Cond.privateMethod ({ cls := "RideDeskModel", name := "numberHere", desc := "(II)I" } : Jvm.MethodName)) ∈ lw_tbl := lw_at lw_m10 70 rfl
theorem q2377 : (Jvm.Cond.instanceMethod ({ cls := "RideDeskModel", name := "numberHere", desc := "(II)I" } : Jvm.MethodName)) ∈ lw_all := lw_g (lw_at lw_m10 71 rfl) rfl
theorem q2378 : (Jvm.Cond.code ({ cls := "RideDeskModel", name := "numberHere", desc := "(II)I" } : Jvm.MethodName) prog_23_method_18_code (3 : Nat) (Option.some Jvm.ClassFile.FieldType.int)) ∈ lw_all := lw_g (lw_at lw_m10 72 rfl) rfl
theorem q2379 : (Jvm.Cond.stringRef "RideDeskModel" (146 : Nat) "ride") ∈ lw_tbl := lw_at lw_m10 73 rfl
theorem q2380 : (Jvm.Cond.stringRef "RideDeskModel" (148 : Nat) "board") ∈ lw_tbl := lw_at lw_m10 74 rfl
theorem q2381 : (Jvm.Cond.stringRef "RideDeskModel" (150 : Nat) "grace") ∈ lw_tbl := lw_at lw_m10 75 rfl
theorem q2382 : (Jvm.Cond.stringRef "RideDeskModel" (152 : Nat) "rate") ∈ lw_tbl := lw_at lw_m10 76 rfl
theorem q2383 : (Jvm.Cond.stringRef "RideDeskModel" (174 : Nat) "river") ∈ lw_tbl := lw_at lw_m10 77 rfl
theorem q2384 : (Jvm.Cond.methodLink "RideDeskModel" (176 : Nat) ({ cls := "RideDeskModel", name := "riverLine", desc := "()V" } : Jvm.MethodName)) ∈ lw_all := lw_g (lw_at lw_m10 78 rfl) rfl
theorem q2385 : (Jvm.Cond.privateMethod ({ cls := "RideDeskModel", name := "riverLine", desc := "()V" } : Jvm.MethodName)) ∈ lw_tbl := lw_at lw_m10 79 rfl
theorem q2386 : (Jvm.Cond.instanceMethod ({ cls := "RideDeskModel", name := "riverLine", desc := "()V" } : Jvm.MethodName)) ∈ lw_all := lw_g (lw_at lw_m10 80 rfl) rfl
theorem q2387 : (Jvm.Cond.code ({ cls := "RideDeskModel", name := "riverLine", desc := "()V" } : Jvm.MethodName) prog_23_method_22_code (4 : Nat) (Option.none : Option Jvm.ClassFile.FieldType)) ∈ lw_all := lw_g (lw_at lw_m10 81 rfl) rfl
theorem q2388 : (Jvm.Cond.methodLink "RideDeskModel" (154 : Nat) ({ cls := "RideDeskModel", name := "begins", desc := "(II)V" } : Jvm.MethodName)) ∈ lw_all := lw_g (lw_at lw_m10 82 rfl) rfl
theorem q2389 : (Jvm.Cond.privateMethod ({ cls := "RideDeskModel", name := "begins", desc := "(II)V" } : Jvm.MethodName)) ∈ lw_tbl := lw_at lw_m10 83 rfl
theorem q2390 : (Jvm.Cond.instanceMethod ({ cls := "RideDeskModel", name := "begins", desc := "(II)V" } : Jvm.MethodName)) ∈ lw_all := lw_g (lw_at lw_m10 84 rfl) rfl
theorem q2391 : (Jvm.Cond.code ({ cls := "RideDeskModel", name := "begins", desc := "(II)V" } : Jvm.MethodName) prog_23_method_23_code (3 : Nat) (Option.none : Option Jvm.ClassFile.FieldType)) ∈ lw_all := lw_g (lw_at lw_m10 85 rfl) rfl
theorem q2392 : (Jvm.Cond.stringRef "RideDeskModel" (179 : Nat) "van") ∈ lw_tbl := lw_at lw_m10 86 rfl
theorem q2393 : (Jvm.Cond.methodLink "RideDeskModel" (181 : Nat) ({ cls := "RideDeskModel", name := "vanLine", desc := "()V" } : Jvm.MethodName)) ∈ lw_all := lw_g (lw_at lw_m10 87 rfl) rfl
theorem q2394 : (Jvm.Cond.privateMethod ({ cls := "RideDeskModel", name := "vanLine", desc := "()V" } : Jvm.MethodName)) ∈ lw_tbl := lw_at lw_m10 88 rfl
theorem q2395 : (Jvm.Cond.instanceMethod ({ cls := "RideDeskModel", name := "vanLine", desc := "()V" } : Jvm.MethodName)) ∈ lw_all := lw_g (lw_at lw_m10 89 rfl) rfl
theorem q2396 : (Jvm.Cond.code ({ cls := "RideDeskModel", name := "vanLine", desc := "()V" } : Jvm.MethodName) prog_23_method_24_code (8 : Nat) (Option.none : Option Jvm.ClassFile.FieldType)) ∈ lw_all := lw_g (lw_at lw_m10 90 rfl) rfl
theorem q2397 : (Jvm.Cond.stringRef "RideDeskModel" (158 : Nat) "seats") ∈ lw_tbl := lw_at lw_m10 91 rfl
theorem q2398 : (Jvm.Cond.stringRef "RideDeskModel" (160 : Nat) "wheels") ∈ lw_tbl := lw_at lw_m10 92 rfl
theorem q2399 : (Jvm.Cond.stringRef "RideDeskModel" (162 : Nat) "from") ∈ lw_tbl := lw_at lw_m10 93 rfl
theorem q2400 : (Jvm.Cond.stringRef "RideDeskModel" (163 : Nat) "until") ∈ lw_tbl := lw_at lw_m10 94 rfl
theorem q2401 : (Jvm.Cond.stringRef "RideDeskModel" (184 : Nat) "call") ∈ lw_tbl := lw_at lw_m10 95 rfl
theorem q2402 : (Jvm.Cond.methodLink "RideDeskModel" (186 : Nat) ({ cls := "RideDeskModel", name := "callLine", desc := "()V" } : Jvm.MethodName)) ∈ lw_all := lw_g (lw_at lw_m10 96 rfl) rfl
theorem q2403 : (Jvm.Cond.privateMethod ({ cls := "RideDeskModel", name := "callLine", desc := "()V" } : Jvm.MethodName)) ∈ lw_tbl := lw_at lw_m10 97 rfl
theorem q2404 : (Jvm.Cond.instanceMethod ({ cls := "RideDeskModel", name := "callLine", desc := "()V" } : Jvm.MethodName)) ∈ lw_all := lw_g (lw_at lw_m10 98 rfl) rfl
theorem q2405 : (Jvm.Cond.code ({ cls := "RideDeskModel", name := "callLine", desc := "()V" } : Jvm.MethodName) prog_23_method_25_code (4 : Nat) (Option.none : Option Jvm.ClassFile.FieldType)) ∈ lw_all := lw_g (lw_at lw_m10 99 rfl) rfl
theorem q2406 : (Jvm.Cond.stringRef "RideDeskModel" (165 : Nat) "walk") ∈ lw_tbl := lw_at lw_m10 100 rfl
theorem q2407 : (Jvm.Cond.stringRef "RideDeskModel" (167 : Nat) "chair") ∈ lw_tbl := lw_at lw_m10 101 rfl
theorem q2408 : (Jvm.Cond.stringRef "RideDeskModel" (169 : Nat) "aide") ∈ lw_tbl := lw_at lw_m10 102 rfl
theorem q2409 : (Jvm.Cond.methodLink "RideDeskModel" (192 : Nat) ({ cls := "RideDeskModel", name := "van", desc := "(II)I" } : Jvm.MethodName)) ∈ lw_all := lw_g (lw_at lw_m10 103 rfl) rfl
theorem q2410 : (Jvm.Cond.privateMethod ({ cls := "RideDeskModel", name := "van", desc := "(II)I" } : Jvm.MethodName)) ∈ lw_tbl := lw_at lw_m10 104 rfl
theorem q2411 : (Jvm.Cond.instanceMethod ({ cls := "RideDeskModel", name := "van", desc := "(II)I" } : Jvm.MethodName)) ∈ lw_all := lw_g (lw_at lw_m10 105 rfl) rfl
theorem q2412 : (Jvm.Cond.code ({ cls := "RideDeskModel", name := "van", desc := "(II)I" } : Jvm.MethodName) prog_23_method_28_code (3 : Nat) (Option.some Jvm.ClassFile.FieldType.int)) ∈ lw_all := lw_g (lw_at lw_m10 106 rfl) rfl
theorem q2413 : (Jvm.Cond.methodLink "RideDeskModel" (194 : Nat) ({ cls := "RideDeskModel", name := "comes", desc := "(IIIIII)V" } : Jvm.MethodName)) ∈ lw_all := lw_g (lw_at lw_m10 107 rfl) rfl
theorem q2414 : (Jvm.Cond.privateMethod ({ cls := "RideDeskModel", name := "comes", desc := "(IIIIII)V" } : Jvm.MethodName)) ∈ lw_tbl := lw_at lw_m10 108 rfl
theorem q2415 : (Jvm.Cond.instanceMethod ({ cls := "RideDeskModel", name := "comes", desc := "(IIIIII)V" } : Jvm.MethodName)) ∈ lw_all := lw_g (lw_at lw_m10 109 rfl) rfl
theorem q2416 : (Jvm.Cond.code ({ cls := "RideDeskModel", name := "comes", desc := "(IIIIII)V" } : Jvm.MethodName) prog_23_method_67_code (8 : Nat) (Option.none : Option Jvm.ClassFile.FieldType)) ∈ lw_all := lw_g (lw_at lw_m10 110 rfl) rfl
theorem q2417 : (Jvm.Cond.methodLink "RideDeskModel" (334 : Nat) ({ cls := "RideDeskModel", name := "lets", desc := "(III)V" } : Jvm.MethodName)) ∈ lw_all := lw_g (lw_at lw_m10 111 rfl) rfl
theorem q2418 : (Jvm.Cond.privateMethod ({ cls := "RideDeskModel", name := "lets", desc := "(III)V" } : Jvm.MethodName)) ∈ lw_tbl := lw_at lw_m10 112 rfl
theorem q2419 : (Jvm.Cond.instanceMethod ({ cls := "RideDeskModel", name := "lets", desc := "(III)V" } : Jvm.MethodName)) ∈ lw_all := lw_g (lw_at lw_m10 113 rfl) rfl
theorem q2420 : (Jvm.Cond.code ({ cls := "RideDeskModel", name := "lets", desc := "(III)V" } : Jvm.MethodName) prog_23_method_30_code (4 : Nat) (Option.none : Option Jvm.ClassFile.FieldType)) ∈ lw_all := lw_g (lw_at lw_m10 114 rfl) rfl
theorem q2421 : (Jvm.Cond.methodLink "RideDeskModel" (337 : Nat) ({ cls := "RideDeskModel", name := "inserts", desc := "(I)Z" } : Jvm.MethodName)) ∈ lw_all := lw_g (lw_at lw_m10 115 rfl) rfl
theorem q2422 : (Jvm.Cond.privateMethod ({ cls := "RideDeskModel", name := "inserts", desc := "(I)Z" } : Jvm.MethodName)) ∈ lw_tbl := lw_at lw_m10 116 rfl
theorem q2423 : (Jvm.Cond.instanceMethod ({ cls := "RideDeskModel", name := "inserts", desc := "(I)Z" } : Jvm.MethodName)) ∈ lw_all := lw_g (lw_at lw_m10 117 rfl) rfl
theorem q2424 : (Jvm.Cond.code ({ cls := "RideDeskModel", name := "inserts", desc := "(I)Z" } : Jvm.MethodName) prog_23_method_66_code (3 : Nat) (Option.some Jvm.ClassFile.FieldType.boolean)) ∈ lw_all := lw_g (lw_at lw_m10 118 rfl) rfl
theorem q2425 : (Jvm.Cond.methodLink "RideDeskModel" (328 : Nat) ({ cls := "RideDeskModel", name := "triesVan", desc := "(II)V" } : Jvm.MethodName)) ∈ lw_all := lw_g (lw_at lw_m10 119 rfl) rfl
theorem q2426 : (Jvm.Cond.privateMethod ({ cls := "RideDeskModel", name := "triesVan", desc := "(II)V" } : Jvm.MethodName)) ∈ lw_tbl := lw_at lw_m10 120 rfl
theorem q2427 : (Jvm.Cond.instanceMethod ({ cls := "RideDeskModel", name := "triesVan", desc := "(II)V" } : Jvm.MethodName)) ∈ lw_all := lw_g (lw_at lw_m10 121 rfl) rfl
theorem q2428 : (Jvm.Cond.code ({ cls := "RideDeskModel", name := "triesVan", desc := "(II)V" } : Jvm.MethodName) prog_23_method_61_code (11 : Nat) (Option.none : Option Jvm.ClassFile.FieldType)) ∈ lw_all := lw_g (lw_at lw_m10 122 rfl) rfl
theorem q2429 : (Jvm.Cond.methodLink "RideDeskModel" (266 : Nat) ({ cls := "RideDeskModel", name := "fixed", desc := "(I)I" } : Jvm.MethodName)) ∈ lw_all := lw_g (lw_at lw_m10 123 rfl) rfl
theorem q2430 : (Jvm.Cond.privateMethod ({ cls := "RideDeskModel", name := "fixed", desc := "(I)I" } : Jvm.MethodName)) ∈ lw_tbl := lw_at lw_m10 124 rfl
theorem q2431 : (Jvm.Cond.instanceMethod ({ cls := "RideDeskModel", name := "fixed", desc := "(I)I" } : Jvm.MethodName)) ∈ lw_all := lw_g (lw_at lw_m10 125 rfl) rfl
theorem q2432 : (Jvm.Cond.code ({ cls := "RideDeskModel", name := "fixed", desc := "(I)I" } : Jvm.MethodName) prog_23_method_43_code (3 : Nat) (Option.some Jvm.ClassFile.FieldType.int)) ∈ lw_all := lw_g (lw_at lw_m10 126 rfl) rfl
theorem q2433 : (Jvm.Cond.methodLink "RideDeskModel" (236 : Nat) ({ cls := "RideDeskModel", name := "isFixed", desc := "(II)Z" } : Jvm.MethodName)) ∈ lw_all := lw_g (lw_at lw_m10 127 rfl) rfl
theorem q2434 : (Jvm.Cond.privateMethod ({ cls := "RideDeskModel", name := "isFixed", desc := "(II)Z" } : Jvm.MethodName)) ∈ lw_tbl := lw_at lw_m10 128 rfl
theorem q2435 : (Jvm.Cond.instanceMethod ({ cls := "RideDeskModel", name := "isFixed", desc := "(II)Z" } : Jvm.MethodName)) ∈ lw_all := lw_g (lw_at lw_m10 129 rfl) rfl
theorem q2436 : (Jvm.Cond.code ({ cls := "RideDeskModel", name := "isFixed", desc := "(II)Z" } : Jvm.MethodName) prog_23_method_42_code (4 : Nat) (Option.some Jvm.ClassFile.FieldType.boolean)) ∈ lw_all := lw_g (lw_at lw_m10 130 rfl) rfl
theorem q2437 : (Jvm.Cond.methodLink "RideDeskModel" (216 : Nat) ({ cls := "RideDeskModel", name := "callOf", desc := "(II)I" } : Jvm.MethodName)) ∈ lw_all := lw_g (lw_at lw_m10 131 rfl) rfl
theorem q2438 : (Jvm.Cond.privateMethod ({ cls := "RideDeskModel", name := "callOf", desc := "(II)I" } : Jvm.MethodName)) ∈ lw_tbl := lw_at lw_m10 132 rfl
theorem q2439 : (Jvm.Cond.instanceMethod ({ cls := "RideDeskModel", name := "callOf", desc := "(II)I" } : Jvm.MethodName)) ∈ lw_all := lw_g (lw_at lw_m10 133 rfl) rfl
theorem q2440 : (Jvm.Cond.code ({ cls := "RideDeskModel", name := "callOf", desc := "(II)I" } : Jvm.MethodName) prog_23_method_34_code (3 : Nat) (Option.some Jvm.ClassFile.FieldType.int)) ∈ lw_all := lw_g (lw_at lw_m10 134 rfl) rfl
theorem q2441 : (Jvm.Cond.methodLink "RideDeskModel" (208 : Nat) ({ cls := "RideDeskModel", name := "stop", desc := "(II)I" } : Jvm.MethodName)) ∈ lw_all := lw_g (lw_at lw_m10 135 rfl) rfl
theorem q2442 : (Jvm.Cond.privateMethod ({ cls := "RideDeskModel", name := "stop", desc := "(II)I" } : Jvm.MethodName)) ∈ lw_tbl := lw_at lw_m10 136 rfl
theorem q2443 : (Jvm.Cond.instanceMethod ({ cls := "RideDeskModel", name := "stop", desc := "(II)I" } : Jvm.MethodName)) ∈ lw_all := lw_g (lw_at lw_m10 137 rfl) rfl
theorem q2444 : (Jvm.Cond.code ({ cls := "RideDeskModel", name := "stop", desc := "(II)I" } : Jvm.MethodName) prog_23_method_33_code (3 : Nat) (Option.some Jvm.ClassFile.FieldType.int)) ∈ lw_all := lw_g (lw_at lw_m10 138 rfl) rfl
theorem q2445 : (Jvm.Cond.methodLink "RideDeskModel" (204 : Nat) ({ cls := "RideDeskModel", name := "cell", desc := "(III)I" } : Jvm.MethodName)) ∈ lw_all := lw_g (lw_at lw_m10 139 rfl) rfl
theorem q2446 : (Jvm.Cond.static ({ cls := "RideDeskModel", name := "cell", desc := "(III)I" } : Jvm.MethodName)) ∈ lw_all := lw_g (lw_at lw_m10 140 rfl) rfl
theorem q2447 : (Jvm.Cond.code ({ cls := "RideDeskModel", name := "cell", desc := "(III)I" } : Jvm.MethodName) prog_23_method_32_code (3 : Nat) (Option.some Jvm.ClassFile.FieldType.int)) ∈ lw_all := lw_g (lw_at lw_m10 141 rfl) rfl
theorem q2448 : (Jvm.Cond.methodLink "RideDeskModel" (211 : Nat) ({ cls := "RideDeskModel", name := "call", desc := "(II)I" } : Jvm.MethodName)) ∈ lw_all := lw_g (lw_at lw_m10 142 rfl) rfl
theorem q2449 : (Jvm.Cond.privateMethod ({ cls := "RideDeskModel", name := "call", desc := "(II)I" } : Jvm.MethodName)) ∈ lw_tbl := lw_at lw_m10 143 rfl
theorem q2450 : (Jvm.Cond.instanceMethod ({ cls := "RideDeskModel", name := "call", desc := "(II)I" } : Jvm.MethodName)) ∈ lw_all := lw_g (lw_at lw_m10 144 rfl) rfl
theorem q2451 : (Jvm.Cond.code ({ cls := "RideDeskModel", name := "call", desc := "(II)I" } : Jvm.MethodName) prog_23_method_29_code (3 : Nat) (Option.some Jvm.ClassFile.FieldType.int)) ∈ lw_all := lw_g (lw_at lw_m10 145 rfl) rfl
theorem q2452 : (Jvm.Cond.methodLink "RideDeskModel" (222 : Nat) ({ cls := "RideDeskModel", name := "isDrop", desc := "(II)Z" } : Jvm.MethodName)) ∈ lw_all := lw_g (lw_at lw_m10 146 rfl) rfl
theorem q2453 : (Jvm.Cond.privateMethod ({ cls := "RideDeskModel", name := "isDrop", desc := "(II)Z" } : Jvm.MethodName)) ∈ lw_tbl := lw_at lw_m10 147 rfl
theorem q2454 : (Jvm.Cond.instanceMethod ({ cls := "RideDeskModel", name := "isDrop", desc := "(II)Z" } : Jvm.MethodName)) ∈ lw_all := lw_g (lw_at lw_m10 148 rfl) rfl
theorem q2455 : (Jvm.Cond.code ({ cls := "RideDeskModel", name := "isDrop", desc := "(II)Z" } : Jvm.MethodName) prog_23_method_35_code (3 : Nat) (Option.some Jvm.ClassFile.FieldType.boolean)) ∈ lw_all := lw_g (lw_at lw_m10 149 rfl) rfl
theorem q2456 : (Jvm.Cond.methodLink "RideDeskModel" (293 : Nat) ({ cls := "RideDeskModel", name := "startsWalk", desc := "(II)V" } : Jvm.MethodName)) ∈ lw_all := lw_g (lw_at lw_m10 150 rfl) rfl
theorem q2457 : (Jvm.Cond.privateMethod ({ cls := "RideDeskModel", name := "startsWalk", desc := "(II)V" } : Jvm.MethodName)) ∈ lw_tbl := lw_at lw_m10 151 rfl
theorem q2458 : (Jvm.Cond.instanceMethod ({ cls := "RideDeskModel", name := "startsWalk", desc := "(II)V" } : Jvm.MethodName)) ∈ lw_all := lw_g (lw_at lw_m10 152 rfl) rfl
theorem q2459 : (Jvm.Cond.code ({ cls := "RideDeskModel", name := "startsWalk", desc := "(II)V" } : Jvm.MethodName) prog_23_method_58_code (4 : Nat) (Option.none : Option Jvm.ClassFile.FieldType)) ∈ lw_all := lw_g (lw_at lw_m10 153 rfl) rfl
theorem q2460 : (Jvm.Cond.methodLink "RideDeskModel" (239 : Nat) ({ cls := "RideDeskModel", name := "finished", desc := "(II)I" } : Jvm.MethodName)) ∈ lw_all := lw_g (lw_at lw_m10 154 rfl) rfl
theorem q2461 : (Jvm.Cond.privateMethod ({ cls := "RideDeskModel", name := "finished", desc := "(II)I" } : Jvm.MethodName)) ∈ lw_tbl := lw_at lw_m10 155 rfl
theorem q2462 : (Jvm.Cond.instanceMethod ({ cls := "RideDeskModel", name := "finished", desc := "(II)I" } : Jvm.MethodName)) ∈ lw_all := lw_g (lw_at lw_m10 156 rfl) rfl
theorem q2463 : (Jvm.Cond.code ({ cls := "RideDeskModel", name := "finished", desc := "(II)I" } : Jvm.MethodName) prog_23_method_38_code (3 : Nat) (Option.some Jvm.ClassFile.FieldType.int)) ∈ lw_all := lw_g (lw_at lw_m10 157 rfl) rfl
theorem q2464 : (Jvm.Cond.methodLink "RideDeskModel" (213 : Nat) ({ cls := "RideDeskModel", name := "begin", desc := "(II)I" } : Jvm.MethodName)) ∈ lw_all := lw_g (lw_at lw_m10 158 rfl) rfl
theorem q2465 : (Jvm.Cond.privateMethod ({ cls := "RideDeskModel", name := "begin", desc := "(II)I" } : Jvm.MethodName)) ∈ lw_tbl := lw_at lw_m10 159 rfl
theorem q2466 : (Jvm.Cond.instanceMethod ({ cls := "RideDeskModel", name := "begin", desc := "(II)I" } : Jvm.MethodName)) ∈ lw_all := lw_g (lw_at lw_m10 160 rfl) rfl
theorem q2467 : (Jvm.Cond.code ({ cls := "RideDeskModel", name := "begin", desc := "(II)I" } : Jvm.MethodName) prog_23_method_36_code (3 : Nat) (Option.some Jvm.ClassFile.FieldType.int)) ∈ lw_all := lw_g (lw_at lw_m10 161 rfl) rfl
theorem q2468 : (Jvm.Cond.methodLink "RideDeskModel" (219 : Nat) ({ cls := "RideDeskModel", name := "service", desc := "(I)I" } : Jvm.MethodName)) ∈ lw_all := lw_g (lw_at lw_m10 162 rfl) rfl
theorem q2469 : (Jvm.Cond.privateMethod ({ cls := "RideDeskModel", name := "service", desc := "(I)I" } : Jvm.MethodName)) ∈ lw_tbl := lw_at lw_m10 163 rfl
theorem q2470 : (Jvm.Cond.instanceMethod ({ cls := "RideDeskModel", name := "service", desc := "(I)I" } : Jvm.MethodName)) ∈ lw_all := lw_g (lw_at lw_m10 164 rfl) rfl
theorem q2471 : (Jvm.Cond.code ({ cls := "RideDeskModel", name := "service", desc := "(I)I" } : Jvm.MethodName) prog_23_method_37_code (2 : Nat) (Option.some Jvm.ClassFile.FieldType.int)) ∈ lw_all := lw_g (lw_at lw_m10 165 rfl) rfl
theorem q2472 : (Jvm.Cond.methodLink "RideDeskModel" (226 : Nat) ({ cls := "RideDeskModel", name := "xAt", desc := "(II)I" } : Jvm.MethodName)) ∈ lw_all := lw_g (lw_at lw_m10 166 rfl) rfl
theorem q2473 : (Jvm.Cond.privateMethod ({ cls := "RideDeskModel", name := "xAt", desc := "(II)I" } : Jvm.MethodName)) ∈ lw_tbl := lw_at lw_m10 167 rfl
theorem q2474 : (Jvm.Cond.instanceMethod ({ cls := "RideDeskModel", name := "xAt", desc := "(II)I" } : Jvm.MethodName)) ∈ lw_all := lw_g (lw_at lw_m10 168 rfl) rfl
theorem q2475 : (Jvm.Cond.code ({ cls := "RideDeskModel", name := "xAt", desc := "(II)I" } : Jvm.MethodName) prog_23_method_39_code (3 : Nat) (Option.some Jvm.ClassFile.FieldType.int)) ∈ lw_all := lw_g (lw_at lw_m10 169 rfl) rfl
theorem q2476 : (Jvm.Cond.methodLink "RideDeskModel" (229 : Nat) ({ cls := "RideDeskModel", name := "yAt", desc := "(II)I" } : Jvm.MethodName)) ∈ lw_all := lw_g (lw_at lw_m10 170 rfl) rfl
theorem q2477 : (Jvm.Cond.privateMethod ({ cls := "RideDeskModel", name := "yAt", desc := "(II)I" } : Jvm.MethodName)) ∈ lw_tbl := lw_at lw_m10 171 rfl
theorem q2478 : (Jvm.Cond.instanceMethod ({ cls := "RideDeskModel", name := "yAt", desc := "(II)I" } : Jvm.MethodName)) ∈ lw_all := lw_g (lw_at lw_m10 172 rfl) rfl
theorem q2479 : (Jvm.Cond.code ({ cls := "RideDeskModel", name := "yAt", desc := "(II)I" } : Jvm.MethodName) prog_23_method_40_code (3 : Nat) (Option.some Jvm.ClassFile.FieldType.int)) ∈ lw_all := lw_g (lw_at lw_m10 173 rfl) rfl
theorem q2480 : (Jvm.Cond.methodLink "RideDeskModel" (259 : Nat) ({ cls := "RideDeskModel", name := "taken", desc := "(IIZ)I" } : Jvm.MethodName)) ∈ lw_all := lw_g (lw_at lw_m10 174 rfl) rfl
theorem q2481 : (Jvm.Cond.privateMethod ({ cls := "RideDeskModel", name := "taken", desc := "(IIZ)I" } : Jvm.MethodName)) ∈ lw_tbl := lw_at lw_m10 175 rfl
theorem q2482 : (Jvm.Cond.instanceMethod ({ cls := "RideDeskModel", name := "taken", desc := "(IIZ)I" } : Jvm.MethodName)) ∈ lw_all := lw_g (lw_at lw_m10 176 rfl) rfl
theorem q2483 : (Jvm.Cond.code ({ cls := "RideDeskModel", name := "taken", desc := "(IIZ)I" } : Jvm.MethodName) prog_23_method_53_code (8 : Nat) (Option.some Jvm.ClassFile.FieldType.int)) ∈ lw_all := lw_g (lw_at lw_m10 177 rfl) rfl
theorem q2484 : (Jvm.Cond.methodLink "RideDeskModel" (296 : Nat) ({ cls := "RideDeskModel", name := "goesTo", desc := "(I)Z" } : Jvm.MethodName)) ∈ lw_all := lw_g (lw_at lw_m10 178 rfl) rfl
theorem q2485 : (Jvm.Cond.privateMethod ({ cls := "RideDeskModel", name := "goesTo", desc := "(I)Z" } : Jvm.MethodName)) ∈ lw_tbl := lw_at lw_m10 179 rfl
theorem q2486 : (Jvm.Cond.instanceMethod ({ cls := "RideDeskModel", name := "goesTo", desc := "(I)Z" } : Jvm.MethodName)) ∈ lw_all := lw_g (lw_at lw_m10 180 rfl) rfl
theorem q2487 : (Jvm.Cond.code ({ cls := "RideDeskModel", name := "goesTo", desc := "(I)Z" } : Jvm.MethodName) prog_23_method_59_code (8 : Nat) (Option.some Jvm.ClassFile.FieldType.boolean)) ∈ lw_all := lw_g (lw_at lw_m10 181 rfl) rfl
theorem q2488 : (Jvm.Cond.methodLink "RideDeskModel" (232 : Nat) ({ cls := "RideDeskModel", name := "way", desc := "(IIII)I" } : Jvm.MethodName)) ∈ lw_all := lw_g (lw_at lw_m10 182 rfl) rfl
theorem q2489 : (Jvm.Cond.privateMethod ({ cls := "RideDeskModel", name := "way", desc := "(IIII)I" } : Jvm.MethodName)) ∈ lw_tbl := lw_at lw_m10 183 rfl
theorem q2490 : (Jvm.Cond.instanceMethod ({ cls := "RideDeskModel", name := "way", desc := "(IIII)I" } : Jvm.MethodName)) ∈ lw_all := lw_g (lw_at lw_m10 184 rfl) rfl
theorem q2491 : (Jvm.Cond.code ({ cls := "RideDeskModel", name := "way", desc := "(IIII)I" } : Jvm.MethodName) prog_23_method_31_code (8 : Nat) (Option.some Jvm.ClassFile.FieldType.int)) ∈ lw_all := lw_g (lw_at lw_m10 185 rfl) rfl
theorem q2492 : (Jvm.Cond.methodLink "RideDeskModel" (256 : Nat) ({ cls := "RideDeskModel", name := "limit", desc := "(I)I" } : Jvm.MethodName)) ∈ lw_all := lw_g (lw_at lw_m10 186 rfl) rfl
theorem q2493 : (Jvm.Cond.privateMethod ({ cls := "RideDeskModel", name := "limit", desc := "(I)I" } : Jvm.MethodName)) ∈ lw_tbl := lw_at lw_m10 187 rfl
theorem q2494 : (Jvm.Cond.instanceMethod ({ cls := "RideDeskModel", name := "limit", desc := "(I)I" } : Jvm.MethodName)) ∈ lw_all := lw_g (lw_at lw_m10 188 rfl) rfl
theorem q2495 : (Jvm.Cond.code ({ cls := "RideDeskModel", name := "limit", desc := "(I)I" } : Jvm.MethodName) prog_23_method_49_code (2 : Nat) (Option.some Jvm.ClassFile.FieldType.int)) ∈ lw_all := lw_g (lw_at lw_m10 189 rfl) rfl
theorem q2496 : (Jvm.Cond.methodLink "RideDeskModel" (248 : Nat) ({ cls := "RideDeskModel", name := "direct", desc := "(I)I" } : Jvm.MethodName)) ∈ lw_all := lw_g (lw_at lw_m10 190 rfl) rfl
theorem q2497 : (Jvm.Cond.privateMethod ({ cls := "RideDeskModel", name := "direct", desc := "(I)I" } : Jvm.MethodName)) ∈ lw_tbl := lw_at lw_m10 191 rfl
theorem q2498 : (Jvm.Cond.instanceMethod ({ cls := "RideDeskModel", name := "direct", desc := "(I)I" } : Jvm.MethodName)) ∈ lw_all := lw_g (lw_at lw_m10 192 rfl) rfl
theorem q2499 : (Jvm.Cond.code ({ cls := "RideDeskModel", name := "direct", desc := "(I)I" } : Jvm.MethodName) prog_23_method_48_code (2 : Nat) (Option.some Jvm.ClassFile.FieldType.int)) ∈ lw_all := lw_g (lw_at lw_m10 193 rfl) rfl
theorem q2500 : (Jvm.Cond.methodLink "RideDeskModel" (299 : Nat) ({ cls := "RideDeskModel", name := "triesDrops", desc := "(III)V" } : Jvm.MethodName)) ∈ lw_all := lw_g (lw_at lw_m10 194 rfl) rfl
theorem q2501 : (Jvm.Cond.privateMethod ({ cls := "RideDeskModel", name := "triesDrops", desc := "(III)V" } : Jvm.MethodName)) ∈ lw_tbl := lw_at lw_m10 195 rfl
theorem q2502 : (Jvm.Cond.instanceMethod ({ cls := "RideDeskModel", name := "triesDrops", desc := "(III)V" } : Jvm.MethodName)) ∈ lw_all := lw_g (lw_at lw_m10 196 rfl) rfl
theorem q2503 : (Jvm.Cond.code ({ cls := "RideDeskModel", name := "triesDrops", desc := "(III)V" } : Jvm.MethodName) prog_23_method_62_code (7 : Nat) (Option.none : Option Jvm.ClassFile.FieldType)) ∈ lw_all := lw_g (lw_at lw_m10 197 rfl) rfl
theorem q2504 : (Jvm.Cond.methodLink "RideDeskModel" (307 : Nat) ({ cls := "RideDeskModel", name := "moreBy", desc := "(IIII)I" } : Jvm.MethodName)) ∈ lw_all := lw_g (lw_at lw_m10 198 rfl) rfl
theorem q2505 : (Jvm.Cond.privateMethod ({ cls := "RideDeskModel", name := "moreBy", desc := "(IIII)I" } : Jvm.MethodName)) ∈ lw_tbl := lw_at lw_m10 199 rfl
theorem q2506 : (Jvm.Cond.instanceMethod ({ cls := "RideDeskModel", name := "moreBy", desc := "(IIII)I" } : Jvm.MethodName)) ∈ lw_all := lw_g (lw_at lw_m10 200 rfl) rfl
theorem q2507 : (Jvm.Cond.code ({ cls := "RideDeskModel", name := "moreBy", desc := "(IIII)I" } : Jvm.MethodName) prog_23_method_64_code (9 : Nat) (Option.some Jvm.ClassFile.FieldType.int)) ∈ lw_all := lw_g (lw_at lw_m10 201 rfl) rfl
theorem q2508 : (Jvm.Cond.methodLink "RideDeskModel" (325 : Nat) ({ cls := "RideDeskModel", name := "detour", desc := "(IIII)I" } : Jvm.MethodName)) ∈ lw_all := lw_g (lw_at lw_m10 202 rfl) rfl
theorem q2509 : (Jvm.Cond.privateMethod ({ cls := "RideDeskModel", name := "detour", desc := "(IIII)I" } : Jvm.MethodName)) ∈ lw_tbl := lw_at lw_m10 203 rfl
theorem q2510 : (Jvm.Cond.instanceMethod ({ cls := "RideDeskModel", name := "detour", desc := "(IIII)I" } : Jvm.MethodName)) ∈ lw_all := lw_g (lw_at lw_m10 204 rfl) rfl
theorem q2511 : (Jvm.Cond.code ({ cls := "RideDeskModel", name := "detour", desc := "(IIII)I" } : Jvm.MethodName) prog_23_method_63_code (5 : Nat) (Option.some Jvm.ClassFile.FieldType.int)) ∈ lw_all := lw_g (lw_at lw_m10 205 rfl) rfl
theorem q2512 : (Jvm.Cond.methodLink "RideDeskModel" (242 : Nat) ({ cls := "RideDeskModel", name := "wayTo", desc := "(II)I" } : Jvm.MethodName)) ∈ lw_all := lw_g (lw_at lw_m10 206 rfl) rfl
theorem q2513 : (Jvm.Cond.privateMethod ({ cls := "RideDeskModel", name := "wayTo", desc := "(II)I" } : Jvm.MethodName)) ∈ lw_tbl := lw_at lw_m10 207 rfl
theorem q2514 : (Jvm.Cond.instanceMethod ({ cls := "RideDeskModel", name := "wayTo", desc := "(II)I" } : Jvm.MethodName)) ∈ lw_all := lw_g (lw_at lw_m10 208 rfl) rfl
theorem q2515 : (Jvm.Cond.code ({ cls := "RideDeskModel", name := "wayTo", desc := "(II)I" } : Jvm.MethodName) prog_23_method_41_code (3 : Nat) (Option.some Jvm.ClassFile.FieldType.int)) ∈ lw_all := lw_g (lw_at lw_m10 209 rfl) rfl
theorem q2516 : (Jvm.Cond.methodLink "RideDeskModel" (316 : Nat) ({ cls := "RideDeskModel", name := "comesHome", desc := "(III)Z" } : Jvm.MethodName)) ∈ lw_all := lw_g (lw_at lw_m10 210 rfl) rfl
theorem q2517 : (Jvm.Cond.privateMethod ({ cls := "RideDeskModel", name := "comesHome", desc := "(III)Z" } : Jvm.MethodName)) ∈ lw_tbl := lw_at lw_m10 211 rfl
theorem q2518 : (Jvm.Cond.instanceMethod ({ cls := "RideDeskModel", name := "comesHome", desc := "(III)Z" } : Jvm.MethodName)) ∈ lw_all := lw_g (lw_at lw_m10 212 rfl) rfl
theorem q2519 : (Jvm.Cond.code ({ cls := "RideDeskModel", name := "comesHome", desc := "(III)Z" } : Jvm.MethodName) prog_23_method_65_code (11 : Nat) (Option.some Jvm.ClassFile.FieldType.boolean)) ∈ lw_all := lw_g (lw_at lw_m10 213 rfl) rfl
theorem q2520 : (Jvm.Cond.methodLink "RideDeskModel" (303 : Nat) ({ cls := "RideDeskModel", name := "goesBack", desc := "(IIIII)V" } : Jvm.MethodName)) ∈ lw_all := lw_g (lw_at lw_m10 214 rfl) rfl
theorem q2521 : (Jvm.Cond.privateMethod ({ cls := "RideDeskModel", name := "goesBack", desc := "(IIIII)V" } : Jvm.MethodName)) ∈ lw_tbl := lw_at lw_m10 215 rfl
theorem q2522 : (Jvm.Cond.instanceMethod ({ cls := "RideDeskModel", name := "goesBack", desc := "(IIIII)V" } : Jvm.MethodName)) ∈ lw_all := lw_g (lw_at lw_m10 216 rfl) rfl
theorem q2523 : (Jvm.Cond.code ({ cls := "RideDeskModel", name := "goesBack", desc := "(IIIII)V" } : Jvm.MethodName) prog_23_method_60_code (6 : Nat) (Option.none : Option Jvm.ClassFile.FieldType)) ∈ lw_all := lw_g (lw_at lw_m10 217 rfl) rfl
theorem q2524 : (Jvm.Cond.methodLink "RideDeskModel" (331 : Nat) ({ cls := "RideDeskModel", name := "takesIn", desc := "(III)V" } : Jvm.MethodName)) ∈ lw_all := lw_g (lw_at lw_m10 218 rfl) rfl
theorem q2525 : (Jvm.Cond.privateMethod ({ cls := "RideDeskModel", name := "takesIn", desc := "(III)V" } : Jvm.MethodName)) ∈ lw_tbl := lw_at lw_m10 219 rfl
theorem q2526 : (Jvm.Cond.instanceMethod ({ cls := "RideDeskModel", name := "takesIn", desc := "(III)V" } : Jvm.MethodName)) ∈ lw_all := lw_g (lw_at lw_m10 220 rfl) rfl
theorem q2527 : (Jvm.Cond.code ({ cls := "RideDeskModel", name := "takesIn", desc := "(III)V" } : Jvm.MethodName) prog_23_method_56_code (6 : Nat) (Option.none : Option Jvm.ClassFile.FieldType)) ∈ lw_all := lw_g (lw_at lw_m10 221 rfl) rfl
theorem q2528 : (Jvm.Cond.methodLink "RideDeskModel" (272 : Nat) ({ cls := "RideDeskModel", name := "reckons", desc := "(II)V" } : Jvm.MethodName)) ∈ lw_all := lw_g (lw_at lw_m10 222 rfl) rfl
theorem q2529 : (Jvm.Cond.privateMethod ({ cls := "RideDeskModel", name := "reckons", desc := "(II)V" } : Jvm.MethodName)) ∈ lw_tbl := lw_at lw_m10 223 rfl
theorem q2530 : (Jvm.Cond.instanceMethod ({ cls := "RideDeskModel", name := "reckons", desc := "(II)V" } : Jvm.MethodName)) ∈ lw_all := lw_g (lw_at lw_m10 224 rfl) rfl
theorem q2531 : (Jvm.Cond.code ({ cls := "RideDeskModel", name := "reckons", desc := "(II)V" } : Jvm.MethodName) prog_23_method_44_code (6 : Nat) (Option.none : Option Jvm.ClassFile.FieldType)) ∈ lw_all := lw_g (lw_at lw_m10 225 rfl) rfl
theorem q2532 : (Jvm.Cond.methodLink "RideDeskModel" (201 : Nat) ({ cls := "RideDeskModel", name := "countIn", desc := "(I)I" } : Jvm.MethodName)) ∈ lw_all := lw_g (lw_at lw_m10 226 rfl) rfl
theorem q2533 : (Jvm.Cond.privateMethod ({ cls := "RideDeskModel", name := "countIn", desc := "(I)I" } : Jvm.MethodName)) ∈ lw_tbl := lw_at lw_m10 227 rfl
theorem q2534 : (Jvm.Cond.instanceMethod ({ cls := "RideDeskModel", name := "countIn", desc := "(I)I" } : Jvm.MethodName)) ∈ lw_all := lw_g (lw_at lw_m10 228 rfl) rfl
theorem q2535 : (Jvm.Cond.code ({ cls := "RideDeskModel", name := "countIn", desc := "(I)I" } : Jvm.MethodName) prog_23_method_71_code (4 : Nat) (Option.some Jvm.ClassFile.FieldType.int)) ∈ lw_all := lw_g (lw_at lw_m10 229 rfl) rfl
theorem q2537 : (Jvm.Cond.instanceMethod ({ cls := "RideDeskModel", name := "vans", desc := "()I" } : Jvm.MethodName)) ∈ lw_all := lw_g (lw_at lw_m10 231 rfl) rfl
theorem q2538 : (Jvm.Cond.selects "RideDeskModel" ({ cls := "RideDeskModel", name := "vans", desc := "()I" } : Jvm.MethodName) ({ cls := "RideDeskModel", name := "vans", desc := "()I" } : Jvm.MethodName)) ∈ lw_all := lw_g (lw_at lw_m10 232 rfl) rfl
theorem q2539 : (Jvm.Cond.code ({ cls := "RideDeskModel", name := "vans", desc := "()I" } : Jvm.MethodName) prog_23_method_73_code (1 : Nat) (Option.some Jvm.ClassFile.FieldType.int)) ∈ lw_all := lw_g (lw_at lw_m10 233 rfl) rfl
theorem q2540 : (Jvm.Cond.methodLink "RideDeskModel" (349 : Nat) ({ cls := "RideDeskModel", name := "told", desc := "(I)I" } : Jvm.MethodName)) ∈ lw_all := lw_g (lw_at lw_m10 234 rfl) rfl
theorem q2541 : (Jvm.Cond.privateMethod ({ cls := "RideDeskModel", name := "told", desc := "(I)I" } : Jvm.MethodName)) ∈ lw_tbl := lw_at lw_m10 235 rfl
theorem q2542 : (Jvm.Cond.instanceMethod ({ cls := "RideDeskModel", name := "told", desc := "(I)I" } : Jvm.MethodName)) ∈ lw_all := lw_g (lw_at lw_m10 236 rfl) rfl
theorem q2543 : (Jvm.Cond.code ({ cls := "RideDeskModel", name := "told", desc := "(I)I" } : Jvm.MethodName) prog_23_method_72_code (2 : Nat) (Option.some Jvm.ClassFile.FieldType.int)) ∈ lw_all := lw_g (lw_at lw_m10 237 rfl) rfl
theorem q2545 : (Jvm.Cond.instanceMethod ({ cls := "RideDeskModel", name := "clock", desc := "()I" } : Jvm.MethodName)) ∈ lw_all := lw_g (lw_at lw_m10 239 rfl) rfl
theorem q2546 : (Jvm.Cond.selects "RideDeskModel" ({ cls := "RideDeskModel", name := "clock", desc := "()I" } : Jvm.MethodName) ({ cls := "RideDeskModel", name := "clock", desc := "()I" } : Jvm.MethodName)) ∈ lw_all := lw_g (lw_at lw_m11 0 rfl) rfl
theorem q2547 : (Jvm.Cond.code ({ cls := "RideDeskModel", name := "clock", desc := "()I" } : Jvm.MethodName) prog_23_method_74_code (1 : Nat) (Option.some Jvm.ClassFile.FieldType.int)) ∈ lw_all := lw_g (lw_at lw_m11 1 rfl) rfl
theorem q2549 : (Jvm.Cond.instanceMethod ({ cls := "RideDeskModel", name := "calls", desc := "()I" } : Jvm.MethodName)) ∈ lw_all := lw_g (lw_at lw_m11 3 rfl) rfl
theorem q2550 : (Jvm.Cond.selects "RideDeskModel" ({ cls := "RideDeskModel", name := "calls", desc := "()I" } : Jvm.MethodName) ({ cls := "RideDeskModel", name := "calls", desc := "()I" } : Jvm.MethodName)) ∈ lw_all := lw_g (lw_at lw_m11 4 rfl) rfl
theorem q2551 : (Jvm.Cond.code ({ cls := "RideDeskModel", name := "calls", desc := "()I" } : Jvm.MethodName) prog_23_method_75_code (1 : Nat) (Option.some Jvm.ClassFile.FieldType.int)) ∈ lw_all := lw_g (lw_at lw_m11 5 rfl) rfl
theorem q2553 : (Jvm.Cond.instanceMethod ({ cls := "RideDeskModel", name := "undoable", desc := "()I" } : Jvm.MethodName)) ∈ lw_all := lw_g (lw_at lw_m11 7 rfl) rfl
theorem q2554 : (Jvm.Cond.selects "RideDeskModel" ({ cls := "RideDeskModel", name := "undoable", desc := "()I" } : Jvm.MethodName) ({ cls := "RideDeskModel", name := "undoable", desc := "()I" } : Jvm.MethodName)) ∈ lw_all := lw_g (lw_at lw_m11 8 rfl) rfl
theorem q2555 : (Jvm.Cond.code ({ cls := "RideDeskModel", name := "undoable", desc := "()I" } : Jvm.MethodName) prog_23_method_76_code (1 : Nat) (Option.some Jvm.ClassFile.FieldType.int)) ∈ lw_all := lw_g (lw_at lw_m11 9 rfl) rfl
theorem q2557 : (Jvm.Cond.instanceMethod ({ cls := "RideDeskModel", name := "until", desc := "(I)I" } : Jvm.MethodName)) ∈ lw_all := lw_g (lw_at lw_m11 11 rfl) rfl
theorem q2558 : (Jvm.Cond.selects "RideDeskModel" ({ cls := "RideDeskModel", name := "until", desc := "(I)I" } : Jvm.MethodName) ({ cls := "RideDeskModel", name := "until", desc := "(I)I" } : Jvm.MethodName)) ∈ lw_all := lw_g (lw_at lw_m11 12 rfl) rfl
theorem q2559 : (Jvm.Cond.code ({ cls := "RideDeskModel", name := "until", desc := "(I)I" } : Jvm.MethodName) prog_23_method_80_code (2 : Nat) (Option.some Jvm.ClassFile.FieldType.int)) ∈ lw_all := lw_g (lw_at lw_m11 13 rfl) rfl
theorem q2560 : (Jvm.Cond.methodLink "RideDeskModel" (356 : Nat) ({ cls := "RideDeskModel", name := "noVan", desc := "(I)Z" } : Jvm.MethodName)) ∈ lw_all := lw_g (lw_at lw_m11 14 rfl) rfl
theorem q2561 : (Jvm.Cond.privateMethod ({ cls := "RideDeskModel", name := "noVan", desc := "(I)Z" } : Jvm.MethodName)) ∈ lw_tbl := lw_at lw_m11 15 rfl
theorem q2562 : (Jvm.Cond.instanceMethod ({ cls := "RideDeskModel", name := "noVan", desc := "(I)Z" } : Jvm.MethodName)) ∈ lw_all := lw_g (lw_at lw_m11 16 rfl) rfl
theorem q2563 : (Jvm.Cond.code ({ cls := "RideDeskModel", name := "noVan", desc := "(I)Z" } : Jvm.MethodName) prog_23_method_77_code (2 : Nat) (Option.some Jvm.ClassFile.FieldType.boolean)) ∈ lw_all := lw_g (lw_at lw_m11 17 rfl) rfl
theorem q2564 : (Jvm.Cond.methodLink "RideDeskModel" (352 : Nat) ({ cls := "RideDeskModel", name := "noDesk", desc := "()Z" } : Jvm.MethodName)) ∈ lw_all := lw_g (lw_at lw_m11 18 rfl) rfl
theorem q2565 : (Jvm.Cond.privateMethod ({ cls := "RideDeskModel", name := "noDesk", desc := "()Z" } : Jvm.MethodName)) ∈ lw_tbl := lw_at lw_m11 19 rfl
theorem q2566 : (Jvm.Cond.instanceMethod ({ cls := "RideDeskModel", name := "noDesk", desc := "()Z" } : Jvm.MethodName)) ∈ lw_all := lw_g (lw_at lw_m11 20 rfl) rfl
theorem q2567 : (Jvm.Cond.code ({ cls := "RideDeskModel", name := "noDesk", desc := "()Z" } : Jvm.MethodName) prog_23_method_5_code (1 : Nat) (Option.some Jvm.ClassFile.FieldType.boolean)) ∈ lw_all := lw_g (lw_at lw_m11 21 rfl) rfl
theorem q2569 : (Jvm.Cond.instanceMethod ({ cls := "RideDeskModel", name := "minutesBetween", desc := "(IIII)I" } : Jvm.MethodName)) ∈ lw_all := lw_g (lw_at lw_m11 23 rfl) rfl
theorem q2570 : (Jvm.Cond.selects "RideDeskModel" ({ cls := "RideDeskModel", name := "minutesBetween", desc := "(IIII)I" } : Jvm.MethodName) ({ cls := "RideDeskModel", name := "minutesBetween", desc := "(IIII)I" } : Jvm.MethodName)) ∈ lw_all := lw_g (lw_at lw_m11 24 rfl) rfl
theorem q2571 : (Jvm.Cond.code ({ cls := "RideDeskModel", name := "minutesBetween", desc := "(IIII)I" } : Jvm.MethodName) prog_23_method_82_code (5 : Nat) (Option.some Jvm.ClassFile.FieldType.int)) ∈ lw_all := lw_g (lw_at lw_m11 25 rfl) rfl
theorem q2572 : (Jvm.Cond.methodLink "RideDeskModel" (359 : Nat) ({ cls := "RideDeskModel", name := "isOff", desc := "(II)Z" } : Jvm.MethodName)) ∈ lw_all := lw_g (lw_at lw_m11 26 rfl) rfl
theorem q2573 : (Jvm.Cond.static ({ cls := "RideDeskModel", name := "isOff", desc := "(II)Z" } : Jvm.MethodName)) ∈ lw_all := lw_g (lw_at lw_m11 27 rfl) rfl
theorem q2574 : (Jvm.Cond.code ({ cls := "RideDeskModel", name := "isOff", desc := "(II)Z" } : Jvm.MethodName) prog_23_method_81_code (2 : Nat) (Option.some Jvm.ClassFile.FieldType.boolean)) ∈ lw_all := lw_g (lw_at lw_m11 28 rfl) rfl
theorem q2576 : (Jvm.Cond.instanceMethod ({ cls := "RideDeskModel", name := "stops", desc := "(I)I" } : Jvm.MethodName)) ∈ lw_all := lw_g (lw_at lw_m11 30 rfl) rfl
theorem q2577 : (Jvm.Cond.selects "RideDeskModel" ({ cls := "RideDeskModel", name := "stops", desc := "(I)I" } : Jvm.MethodName) ({ cls := "RideDeskModel", name := "stops", desc := "(I)I" } : Jvm.MethodName)) ∈ lw_all := lw_g (lw_at lw_m11 31 rfl) rfl
theorem q2578 : (Jvm.Cond.code ({ cls := "RideDeskModel", name := "stops", desc := "(I)I" } : Jvm.MethodName) prog_23_method_83_code (2 : Nat) (Option.some Jvm.ClassFile.FieldType.int)) ∈ lw_all := lw_g (lw_at lw_m11 32 rfl) rfl
theorem q2580 : (Jvm.Cond.instanceMethod ({ cls := "RideDeskModel", name := "fixedStops", desc := "(I)I" } : Jvm.MethodName)) ∈ lw_all := lw_g (lw_at lw_m11 34 rfl) rfl
theorem q2581 : (Jvm.Cond.selects "RideDeskModel" ({ cls := "RideDeskModel", name := "fixedStops", desc := "(I)I" } : Jvm.MethodName) ({ cls := "RideDeskModel", name := "fixedStops", desc := "(I)I" } : Jvm.MethodName)) ∈ lw_all := lw_g (lw_at lw_m11 35 rfl) rfl
theorem q2582 : (Jvm.Cond.code ({ cls := "RideDeskModel", name := "fixedStops", desc := "(I)I" } : Jvm.MethodName) prog_23_method_84_code (2 : Nat) (Option.some Jvm.ClassFile.FieldType.int)) ∈ lw_all := lw_g (lw_at lw_m11 36 rfl) rfl
theorem q2584 : (Jvm.Cond.instanceMethod ({ cls := "RideDeskModel", name := "callAt", desc := "(II)I" } : Jvm.MethodName)) ∈ lw_all := lw_g (lw_at lw_m11 38 rfl) rfl
theorem q2585 : (Jvm.Cond.selects "RideDeskModel" ({ cls := "RideDeskModel", name := "callAt", desc := "(II)I" } : Jvm.MethodName) ({ cls := "RideDeskModel", name := "callAt", desc := "(II)I" } : Jvm.MethodName)) ∈ lw_all := lw_g (lw_at lw_m11 39 rfl) rfl
theorem q2586 : (Jvm.Cond.code ({ cls := "RideDeskModel", name := "callAt", desc := "(II)I" } : Jvm.MethodName) prog_23_method_85_code (3 : Nat) (Option.some Jvm.ClassFile.FieldType.int)) ∈ lw_all := lw_g (lw_at lw_m11 40 rfl) rfl
theorem q2587 : (Jvm.Cond.methodLink "RideDeskModel" (362 : Nat) ({ cls := "RideDeskModel", name := "noStop", desc := "(II)Z" } : Jvm.MethodName)) ∈ lw_all := lw_g (lw_at lw_m11 41 rfl) rfl
theorem q2588 : (Jvm.Cond.privateMethod ({ cls := "RideDeskModel", name := "noStop", desc := "(II)Z" } : Jvm.MethodName)) ∈ lw_tbl := lw_at lw_m11 42 rfl
theorem q2589 : (Jvm.Cond.instanceMethod ({ cls := "RideDeskModel", name := "noStop", desc := "(II)Z" } : Jvm.MethodName)) ∈ lw_all := lw_g (lw_at lw_m11 43 rfl) rfl
theorem q2590 : (Jvm.Cond.code ({ cls := "RideDeskModel", name := "noStop", desc := "(II)Z" } : Jvm.MethodName) prog_23_method_78_code (3 : Nat) (Option.some Jvm.ClassFile.FieldType.boolean)) ∈ lw_all := lw_g (lw_at lw_m11 44 rfl) rfl
theorem q2592 : (Jvm.Cond.instanceMethod ({ cls := "RideDeskModel", name := "isPickup", desc := "(II)Z" } : Jvm.MethodName)) ∈ lw_all := lw_g (lw_at lw_m11 46 rfl) rfl
theorem q2593 : (Jvm.Cond.selects "RideDeskModel" ({ cls := "RideDeskModel", name := "isPickup", desc := "(II)Z" } : Jvm.MethodName) ({ cls := "RideDeskModel", name := "isPickup", desc := "(II)Z" } : Jvm.MethodName)) ∈ lw_all := lw_g (lw_at lw_m11 47 rfl) rfl
theorem q2594 : (Jvm.Cond.code ({ cls := "RideDeskModel", name := "isPickup", desc := "(II)Z" } : Jvm.MethodName) prog_23_method_86_code (3 : Nat) (Option.some Jvm.ClassFile.FieldType.boolean)) ∈ lw_all := lw_g (lw_at lw_m11 48 rfl) rfl
theorem q2596 : (Jvm.Cond.instanceMethod ({ cls := "RideDeskModel", name := "departureOf", desc := "(II)I" } : Jvm.MethodName)) ∈ lw_all := lw_g (lw_at lw_m11 50 rfl) rfl
theorem q2597 : (Jvm.Cond.selects "RideDeskModel" ({ cls := "RideDeskModel", name := "departureOf", desc := "(II)I" } : Jvm.MethodName) ({ cls := "RideDeskModel", name := "departureOf", desc := "(II)I" } : Jvm.MethodName)) ∈ lw_all := lw_g (lw_at lw_m11 51 rfl) rfl
theorem q2598 : (Jvm.Cond.code ({ cls := "RideDeskModel", name := "departureOf", desc := "(II)I" } : Jvm.MethodName) prog_23_method_87_code (3 : Nat) (Option.some Jvm.ClassFile.FieldType.int)) ∈ lw_all := lw_g (lw_at lw_m11 52 rfl) rfl
theorem q2600 : (Jvm.Cond.instanceMethod ({ cls := "RideDeskModel", name := "beginOf", desc := "(II)I" } : Jvm.MethodName)) ∈ lw_all := lw_g (lw_at lw_m11 54 rfl) rfl
theorem q2601 : (Jvm.Cond.selects "RideDeskModel" ({ cls := "RideDeskModel", name := "beginOf", desc := "(II)I" } : Jvm.MethodName) ({ cls := "RideDeskModel", name := "beginOf", desc := "(II)I" } : Jvm.MethodName)) ∈ lw_all := lw_g (lw_at lw_m11 55 rfl) rfl
theorem q2602 : (Jvm.Cond.code ({ cls := "RideDeskModel", name := "beginOf", desc := "(II)I" } : Jvm.MethodName) prog_23_method_88_code (3 : Nat) (Option.some Jvm.ClassFile.FieldType.int)) ∈ lw_all := lw_g (lw_at lw_m11 56 rfl) rfl
theorem q2604 : (Jvm.Cond.instanceMethod ({ cls := "RideDeskModel", name := "freeSeats", desc := "(II)I" } : Jvm.MethodName)) ∈ lw_all := lw_g (lw_at lw_m11 58 rfl) rfl
theorem q2605 : (Jvm.Cond.selects "RideDeskModel" ({ cls := "RideDeskModel", name := "freeSeats", desc := "(II)I" } : Jvm.MethodName) ({ cls := "RideDeskModel", name := "freeSeats", desc := "(II)I" } : Jvm.MethodName)) ∈ lw_all := lw_g (lw_at lw_m11 59 rfl) rfl
theorem q2606 : (Jvm.Cond.code ({ cls := "RideDeskModel", name := "freeSeats", desc := "(II)I" } : Jvm.MethodName) prog_23_method_89_code (3 : Nat) (Option.some Jvm.ClassFile.FieldType.int)) ∈ lw_all := lw_g (lw_at lw_m11 60 rfl) rfl
theorem q2608 : (Jvm.Cond.instanceMethod ({ cls := "RideDeskModel", name := "freeWheels", desc := "(II)I" } : Jvm.MethodName)) ∈ lw_all := lw_g (lw_at lw_m11 62 rfl) rfl
theorem q2609 : (Jvm.Cond.selects "RideDeskModel" ({ cls := "RideDeskModel", name := "freeWheels", desc := "(II)I" } : Jvm.MethodName) ({ cls := "RideDeskModel", name := "freeWheels", desc := "(II)I" } : Jvm.MethodName)) ∈ lw_all := lw_g (lw_at lw_m11 63 rfl) rfl
theorem q2610 : (Jvm.Cond.code ({ cls := "RideDeskModel", name := "freeWheels", desc := "(II)I" } : Jvm.MethodName) prog_23_method_90_code (3 : Nat) (Option.some Jvm.ClassFile.FieldType.int)) ∈ lw_all := lw_g (lw_at lw_m11 64 rfl) rfl
theorem q2612 : (Jvm.Cond.instanceMethod ({ cls := "RideDeskModel", name := "slack", desc := "(II)I" } : Jvm.MethodName)) ∈ lw_all := lw_g (lw_at lw_m11 66 rfl) rfl
theorem q2613 : (Jvm.Cond.selects "RideDeskModel" ({ cls := "RideDeskModel", name := "slack", desc := "(II)I" } : Jvm.MethodName) ({ cls := "RideDeskModel", name := "slack", desc := "(II)I" } : Jvm.MethodName)) ∈ lw_all := lw_g (lw_at lw_m11 67 rfl) rfl
theorem q2614 : (Jvm.Cond.code ({ cls := "RideDeskModel", name := "slack", desc := "(II)I" } : Jvm.MethodName) prog_23_method_92_code (4 : Nat) (Option.some Jvm.ClassFile.FieldType.int)) ∈ lw_all := lw_g (lw_at lw_m11 68 rfl) rfl
theorem q2615 : (Jvm.Cond.methodLink "RideDeskModel" (365 : Nat) ({ cls := "RideDeskModel", name := "couldBe", desc := "(III)Z" } : Jvm.MethodName)) ∈ lw_all := lw_g (lw_at lw_m11 69 rfl) rfl
theorem q2616 : (Jvm.Cond.privateMethod ({ cls := "RideDeskModel", name := "couldBe", desc := "(III)Z" } : Jvm.MethodName)) ∈ lw_tbl := lw_at lw_m11 70 rfl
theorem q2617 : (Jvm.Cond.instanceMethod ({ cls := "RideDeskModel", name := "couldBe", desc := "(III)Z" } : Jvm.MethodName)) ∈ lw_all := lw_g (lw_at lw_m11 71 rfl) rfl
theorem q2618 : (Jvm.Cond.code ({ cls := "RideDeskModel", name := "couldBe", desc := "(III)Z" } : Jvm.MethodName) prog_23_method_91_code (10 : Nat) (Option.some Jvm.ClassFile.FieldType.boolean)) ∈ lw_all := lw_g (lw_at lw_m11 72 rfl) rfl
theorem q2619 : (Jvm.Cond.methodLink "RideDeskModel" (251 : Nat) ({ cls := "RideDeskModel", name := "placeOf", desc := "(II)I" } : Jvm.MethodName)) ∈ lw_all := lw_g (lw_at lw_m11 73 rfl) rfl
theorem q2620 : (Jvm.Cond.privateMethod ({ cls := "RideDeskModel", name := "placeOf", desc := "(II)I" } : Jvm.MethodName)) ∈ lw_tbl := lw_at lw_m11 74 rfl
theorem q2621 : (Jvm.Cond.instanceMethod ({ cls := "RideDeskModel", name := "placeOf", desc := "(II)I" } : Jvm.MethodName)) ∈ lw_all := lw_g (lw_at lw_m11 75 rfl) rfl
theorem q2622 : (Jvm.Cond.code ({ cls := "RideDeskModel", name := "placeOf", desc := "(II)I" } : Jvm.MethodName) prog_23_method_50_code (4 : Nat) (Option.some Jvm.ClassFile.FieldType.int)) ∈ lw_all := lw_g (lw_at lw_m11 76 rfl) rfl
theorem q2624 : (Jvm.Cond.instanceMethod ({ cls := "RideDeskModel", name := "endOf", desc := "(I)I" } : Jvm.MethodName)) ∈ lw_all := lw_g (lw_at lw_m11 78 rfl) rfl
theorem q2625 : (Jvm.Cond.selects "RideDeskModel" ({ cls := "RideDeskModel", name := "endOf", desc := "(I)I" } : Jvm.MethodName) ({ cls := "RideDeskModel", name := "endOf", desc := "(I)I" } : Jvm.MethodName)) ∈ lw_all := lw_g (lw_at lw_m11 79 rfl) rfl
theorem q2626 : (Jvm.Cond.code ({ cls := "RideDeskModel", name := "endOf", desc := "(I)I" } : Jvm.MethodName) prog_23_method_93_code (2 : Nat) (Option.some Jvm.ClassFile.FieldType.int)) ∈ lw_all := lw_g (lw_at lw_m11 80 rfl) rfl
theorem q2627 : (Jvm.Cond.methodLink "RideDeskModel" (263 : Nat) ({ cls := "RideDeskModel", name := "end", desc := "(I)I" } : Jvm.MethodName)) ∈ lw_all := lw_g (lw_at lw_m11 81 rfl) rfl
theorem q2628 : (Jvm.Cond.privateMethod ({ cls := "RideDeskModel", name := "end", desc := "(I)I" } : Jvm.MethodName)) ∈ lw_tbl := lw_at lw_m11 82 rfl
theorem q2629 : (Jvm.Cond.instanceMethod ({ cls := "RideDeskModel", name := "end", desc := "(I)I" } : Jvm.MethodName)) ∈ lw_all := lw_g (lw_at lw_m11 83 rfl) rfl
theorem q2630 : (Jvm.Cond.code ({ cls := "RideDeskModel", name := "end", desc := "(I)I" } : Jvm.MethodName) prog_23_method_45_code (3 : Nat) (Option.some Jvm.ClassFile.FieldType.int)) ∈ lw_all := lw_g (lw_at lw_m11 84 rfl) rfl
theorem q2632 : (Jvm.Cond.instanceMethod ({ cls := "RideDeskModel", name := "driving", desc := "(I)I" } : Jvm.MethodName)) ∈ lw_all := lw_g (lw_at lw_m11 86 rfl) rfl
theorem q2633 : (Jvm.Cond.selects "RideDeskModel" ({ cls := "RideDeskModel", name := "driving", desc := "(I)I" } : Jvm.MethodName) ({ cls := "RideDeskModel", name := "driving", desc := "(I)I" } : Jvm.MethodName)) ∈ lw_all := lw_g (lw_at lw_m11 87 rfl) rfl
theorem q2634 : (Jvm.Cond.code ({ cls := "RideDeskModel", name := "driving", desc := "(I)I" } : Jvm.MethodName) prog_23_method_94_code (2 : Nat) (Option.some Jvm.ClassFile.FieldType.int)) ∈ lw_all := lw_g (lw_at lw_m11 88 rfl) rfl
theorem q2635 : (Jvm.Cond.methodLink "RideDeskModel" (245 : Nat) ({ cls := "RideDeskModel", name := "drives", desc := "(I)I" } : Jvm.MethodName)) ∈ lw_all := lw_g (lw_at lw_m11 89 rfl) rfl
theorem q2636 : (Jvm.Cond.privateMethod ({ cls := "RideDeskModel", name := "drives", desc := "(I)I" } : Jvm.MethodName)) ∈ lw_tbl := lw_at lw_m11 90 rfl
theorem q2637 : (Jvm.Cond.instanceMethod ({ cls := "RideDeskModel", name := "drives", desc := "(I)I" } : Jvm.MethodName)) ∈ lw_all := lw_g (lw_at lw_m11 91 rfl) rfl
theorem q2638 : (Jvm.Cond.code ({ cls := "RideDeskModel", name := "drives", desc := "(I)I" } : Jvm.MethodName) prog_23_method_46_code (4 : Nat) (Option.some Jvm.ClassFile.FieldType.int)) ∈ lw_all := lw_g (lw_at lw_m11 92 rfl) rfl
theorem q2640 : (Jvm.Cond.instanceMethod ({ cls := "RideDeskModel", name := "busiest", desc := "(I)I" } : Jvm.MethodName)) ∈ lw_all := lw_g (lw_at lw_m11 94 rfl) rfl
theorem q2641 : (Jvm.Cond.selects "RideDeskModel" ({ cls := "RideDeskModel", name := "busiest", desc := "(I)I" } : Jvm.MethodName) ({ cls := "RideDeskModel", name := "busiest", desc := "(I)I" } : Jvm.MethodName)) ∈ lw_all := lw_g (lw_at lw_m11 95 rfl) rfl
theorem q2642 : (Jvm.Cond.code ({ cls := "RideDeskModel", name := "busiest", desc := "(I)I" } : Jvm.MethodName) prog_23_method_96_code (6 : Nat) (Option.some Jvm.ClassFile.FieldType.int)) ∈ lw_all := lw_g (lw_at lw_m11 96 rfl) rfl
theorem q2643 : (Jvm.Cond.methodLink "RideDeskModel" (368 : Nat) ({ cls := "RideDeskModel", name := "isBusier", desc := "(II)Z" } : Jvm.MethodName)) ∈ lw_all := lw_g (lw_at lw_m11 97 rfl) rfl
theorem q2644 : (Jvm.Cond.privateMethod ({ cls := "RideDeskModel", name := "isBusier", desc := "(II)Z" } : Jvm.MethodName)) ∈ lw_tbl := lw_at lw_m11 98 rfl
theorem q2645 : (Jvm.Cond.instanceMethod ({ cls := "RideDeskModel", name := "isBusier", desc := "(II)Z" } : Jvm.MethodName)) ∈ lw_all := lw_g (lw_at lw_m11 99 rfl) rfl
theorem q2646 : (Jvm.Cond.code ({ cls := "RideDeskModel", name := "isBusier", desc := "(II)Z" } : Jvm.MethodName) prog_23_method_95_code (3 : Nat) (Option.some Jvm.ClassFile.FieldType.boolean)) ∈ lw_all := lw_g (lw_at lw_m11 100 rfl) rfl
theorem q2648 : (Jvm.Cond.instanceMethod ({ cls := "RideDeskModel", name := "stateOf", desc := "(I)I" } : Jvm.MethodName)) ∈ lw_all := lw_g (lw_at lw_m11 102 rfl) rfl
theorem q2649 : (Jvm.Cond.selects "RideDeskModel" ({ cls := "RideDeskModel", name := "stateOf", desc := "(I)I" } : Jvm.MethodName) ({ cls := "RideDeskModel", name := "stateOf", desc := "(I)I" } : Jvm.MethodName)) ∈ lw_all := lw_g (lw_at lw_m11 103 rfl) rfl
theorem q2650 : (Jvm.Cond.code ({ cls := "RideDeskModel", name := "stateOf", desc := "(I)I" } : Jvm.MethodName) prog_23_method_97_code (2 : Nat) (Option.some Jvm.ClassFile.FieldType.int)) ∈ lw_all := lw_g (lw_at lw_m11 104 rfl) rfl
theorem q2651 : (Jvm.Cond.methodLink "RideDeskModel" (371 : Nat) ({ cls := "RideDeskModel", name := "noCall", desc := "(I)Z" } : Jvm.MethodName)) ∈ lw_all := lw_g (lw_at lw_m11 105 rfl) rfl
theorem q2652 : (Jvm.Cond.privateMethod ({ cls := "RideDeskModel", name := "noCall", desc := "(I)Z" } : Jvm.MethodName)) ∈ lw_tbl := lw_at lw_m11 106 rfl
theorem q2653 : (Jvm.Cond.instanceMethod ({ cls := "RideDeskModel", name := "noCall", desc := "(I)Z" } : Jvm.MethodName)) ∈ lw_all := lw_g (lw_at lw_m11 107 rfl) rfl
theorem q2654 : (Jvm.Cond.code ({ cls := "RideDeskModel", name := "noCall", desc := "(I)Z" } : Jvm.MethodName) prog_23_method_79_code (2 : Nat) (Option.some Jvm.ClassFile.FieldType.boolean)) ∈ lw_all := lw_g (lw_at lw_m11 108 rfl) rfl
theorem q2656 : (Jvm.Cond.instanceMethod ({ cls := "RideDeskModel", name := "vanOf", desc := "(I)I" } : Jvm.MethodName)) ∈ lw_all := lw_g (lw_at lw_m11 110 rfl) rfl
theorem q2657 : (Jvm.Cond.selects "RideDeskModel" ({ cls := "RideDeskModel", name := "vanOf", desc := "(I)I" } : Jvm.MethodName) ({ cls := "RideDeskModel", name := "vanOf", desc := "(I)I" } : Jvm.MethodName)) ∈ lw_all := lw_g (lw_at lw_m11 111 rfl) rfl
theorem q2658 : (Jvm.Cond.code ({ cls := "RideDeskModel", name := "vanOf", desc := "(I)I" } : Jvm.MethodName) prog_23_method_98_code (2 : Nat) (Option.some Jvm.ClassFile.FieldType.int)) ∈ lw_all := lw_g (lw_at lw_m11 112 rfl) rfl
theorem q2659 : (Jvm.Cond.methodLink "RideDeskModel" (374 : Nat) ({ cls := "RideDeskModel", name := "vanWith", desc := "(I)I" } : Jvm.MethodName)) ∈ lw_all := lw_g (lw_at lw_m11 113 rfl) rfl
theorem q2660 : (Jvm.Cond.privateMethod ({ cls := "RideDeskModel", name := "vanWith", desc := "(I)I" } : Jvm.MethodName)) ∈ lw_tbl := lw_at lw_m11 114 rfl
theorem q2661 : (Jvm.Cond.instanceMethod ({ cls := "RideDeskModel", name := "vanWith", desc := "(I)I" } : Jvm.MethodName)) ∈ lw_all := lw_g (lw_at lw_m11 115 rfl) rfl
theorem q2662 : (Jvm.Cond.code ({ cls := "RideDeskModel", name := "vanWith", desc := "(I)I" } : Jvm.MethodName) prog_23_method_51_code (3 : Nat) (Option.some Jvm.ClassFile.FieldType.int)) ∈ lw_all := lw_g (lw_at lw_m11 116 rfl) rfl
theorem q2664 : (Jvm.Cond.instanceMethod ({ cls := "RideDeskModel", name := "pickupTime", desc := "(I)I" } : Jvm.MethodName)) ∈ lw_all := lw_g (lw_at lw_m11 118 rfl) rfl
theorem q2665 : (Jvm.Cond.selects "RideDeskModel" ({ cls := "RideDeskModel", name := "pickupTime", desc := "(I)I" } : Jvm.MethodName) ({ cls := "RideDeskModel", name := "pickupTime", desc := "(I)I" } : Jvm.MethodName)) ∈ lw_all := lw_g (lw_at lw_m11 119 rfl) rfl
theorem q2666 : (Jvm.Cond.code ({ cls := "RideDeskModel", name := "pickupTime", desc := "(I)I" } : Jvm.MethodName) prog_23_method_100_code (2 : Nat) (Option.some Jvm.ClassFile.FieldType.int)) ∈ lw_all := lw_g (lw_at lw_m11 120 rfl) rfl
theorem q2667 : (Jvm.Cond.methodLink "RideDeskModel" (377 : Nat) ({ cls := "RideDeskModel", name := "timeOf", desc := "(II)I" } : Jvm.MethodName)) ∈ lw_all := lw_g (lw_at lw_m11 121 rfl) rfl
theorem q2668 : (Jvm.Cond.privateMethod ({ cls := "RideDeskModel", name := "timeOf", desc := "(II)I" } : Jvm.MethodName)) ∈ lw_tbl := lw_at lw_m11 122 rfl
theorem q2669 : (Jvm.Cond.instanceMethod ({ cls := "RideDeskModel", name := "timeOf", desc := "(II)I" } : Jvm.MethodName)) ∈ lw_all := lw_g (lw_at lw_m11 123 rfl) rfl
theorem q2670 : (Jvm.Cond.code ({ cls := "RideDeskModel", name := "timeOf", desc := "(II)I" } : Jvm.MethodName) prog_23_method_99_code (4 : Nat) (Option.some Jvm.ClassFile.FieldType.int)) ∈ lw_all := lw_g (lw_at lw_m11 124 rfl) rfl
theorem q2672 : (Jvm.Cond.instanceMethod ({ cls := "RideDeskModel", name := "dropTime", desc := "(I)I" } : Jvm.MethodName)) ∈ lw_all := lw_g (lw_at lw_m11 126 rfl) rfl
theorem q2673 : (Jvm.Cond.selects "RideDeskModel" ({ cls := "RideDeskModel", name := "dropTime", desc := "(I)I" } : Jvm.MethodName) ({ cls := "RideDeskModel", name := "dropTime", desc := "(I)I" } : Jvm.MethodName)) ∈ lw_all := lw_g (lw_at lw_m11 127 rfl) rfl
theorem q2674 : (Jvm.Cond.code ({ cls := "RideDeskModel", name := "dropTime", desc := "(I)I" } : Jvm.MethodName) prog_23_method_101_code (2 : Nat) (Option.some Jvm.ClassFile.FieldType.int)) ∈ lw_all := lw_g (lw_at lw_m11 128 rfl) rfl
theorem q2676 : (Jvm.Cond.instanceMethod ({ cls := "RideDeskModel", name := "rideOf", desc := "(I)I" } : Jvm.MethodName)) ∈ lw_all := lw_g (lw_at lw_m11 130 rfl) rfl
theorem q2677 : (Jvm.Cond.selects "RideDeskModel" ({ cls := "RideDeskModel", name := "rideOf", desc := "(I)I" } : Jvm.MethodName) ({ cls := "RideDeskModel", name := "rideOf", desc := "(I)I" } : Jvm.MethodName)) ∈ lw_all := lw_g (lw_at lw_m11 131 rfl) rfl
theorem q2678 : (Jvm.Cond.code ({ cls := "RideDeskModel", name := "rideOf", desc := "(I)I" } : Jvm.MethodName) prog_23_method_102_code (2 : Nat) (Option.some Jvm.ClassFile.FieldType.int)) ∈ lw_all := lw_g (lw_at lw_m11 132 rfl) rfl
theorem q2679 : (Jvm.Cond.methodLink "RideDeskModel" (254 : Nat) ({ cls := "RideDeskModel", name := "ride", desc := "(II)I" } : Jvm.MethodName)) ∈ lw_all := lw_g (lw_at lw_m11 133 rfl) rfl
theorem q2680 : (Jvm.Cond.privateMethod ({ cls := "RideDeskModel", name := "ride", desc := "(II)I" } : Jvm.MethodName)) ∈ lw_tbl := lw_at lw_m11 134 rfl
theorem q2681 : (Jvm.Cond.instanceMethod ({ cls := "RideDeskModel", name := "ride", desc := "(II)I" } : Jvm.MethodName)) ∈ lw_all := lw_g (lw_at lw_m11 135 rfl) rfl
theorem q2682 : (Jvm.Cond.code ({ cls := "RideDeskModel", name := "ride", desc := "(II)I" } : Jvm.MethodName) prog_23_method_52_code (3 : Nat) (Option.some Jvm.ClassFile.FieldType.int)) ∈ lw_all := lw_g (lw_at lw_m11 136 rfl) rfl
theorem q2684 : (Jvm.Cond.instanceMethod ({ cls := "RideDeskModel", name := "rideLimit", desc := "(I)I" } : Jvm.MethodName)) ∈ lw_all := lw_g (lw_at lw_m11 138 rfl) rfl
theorem q2685 : (Jvm.Cond.selects "RideDeskModel" ({ cls := "RideDeskModel", name := "rideLimit", desc := "(I)I" } : Jvm.MethodName) ({ cls := "RideDeskModel", name := "rideLimit", desc := "(I)I" } : Jvm.MethodName)) ∈ lw_all := lw_g (lw_at lw_m11 139 rfl) rfl
theorem q2686 : (Jvm.Cond.code ({ cls := "RideDeskModel", name := "rideLimit", desc := "(I)I" } : Jvm.MethodName) prog_23_method_103_code (2 : Nat) (Option.some Jvm.ClassFile.FieldType.int)) ∈ lw_all := lw_g (lw_at lw_m11 140 rfl) rfl
theorem q2688 : (Jvm.Cond.instanceMethod ({ cls := "RideDeskModel", name := "readyOf", desc := "(I)I" } : Jvm.MethodName)) ∈ lw_all := lw_g (lw_at lw_m11 142 rfl) rfl
theorem q2689 : (Jvm.Cond.selects "RideDeskModel" ({ cls := "RideDeskModel", name := "readyOf", desc := "(I)I" } : Jvm.MethodName) ({ cls := "RideDeskModel", name := "readyOf", desc := "(I)I" } : Jvm.MethodName)) ∈ lw_all := lw_g (lw_at lw_m11 143 rfl) rfl
theorem q2690 : (Jvm.Cond.code ({ cls := "RideDeskModel", name := "readyOf", desc := "(I)I" } : Jvm.MethodName) prog_23_method_104_code (2 : Nat) (Option.some Jvm.ClassFile.FieldType.int)) ∈ lw_all := lw_g (lw_at lw_m11 144 rfl) rfl
theorem q2692 : (Jvm.Cond.instanceMethod ({ cls := "RideDeskModel", name := "promiseOf", desc := "(I)I" } : Jvm.MethodName)) ∈ lw_all := lw_g (lw_at lw_m11 146 rfl) rfl
theorem q2693 : (Jvm.Cond.selects "RideDeskModel" ({ cls := "RideDeskModel", name := "promiseOf", desc := "(I)I" } : Jvm.MethodName) ({ cls := "RideDeskModel", name := "promiseOf", desc := "(I)I" } : Jvm.MethodName)) ∈ lw_all := lw_g (lw_at lw_m11 147 rfl) rfl
theorem q2694 : (Jvm.Cond.code ({ cls := "RideDeskModel", name := "promiseOf", desc := "(I)I" } : Jvm.MethodName) prog_23_method_105_code (2 : Nat) (Option.some Jvm.ClassFile.FieldType.int)) ∈ lw_all := lw_g (lw_at lw_m11 148 rfl) rfl
theorem q2696 : (Jvm.Cond.instanceMethod ({ cls := "RideDeskModel", name := "creditOf", desc := "(I)I" } : Jvm.MethodName)) ∈ lw_all := lw_g (lw_at lw_m11 150 rfl) rfl
theorem q2697 : (Jvm.Cond.selects "RideDeskModel" ({ cls := "RideDeskModel", name := "creditOf", desc := "(I)I" } : Jvm.MethodName) ({ cls := "RideDeskModel", name := "creditOf", desc := "(I)I" } : Jvm.MethodName)) ∈ lw_all := lw_g (lw_at lw_m11 151 rfl) rfl
theorem q2698 : (Jvm.Cond.code ({ cls := "RideDeskModel", name := "creditOf", desc := "(I)I" } : Jvm.MethodName) prog_23_method_106_code (2 : Nat) (Option.some Jvm.ClassFile.FieldType.int)) ∈ lw_all := lw_g (lw_at lw_m11 152 rfl) rfl
theorem q2700 : (Jvm.Cond.instanceMethod ({ cls := "RideDeskModel", name := "callsIn", desc := "(I)I" } : Jvm.MethodName)) ∈ lw_all := lw_g (lw_at lw_m11 154 rfl) rfl
theorem q2701 : (Jvm.Cond.selects "RideDeskModel" ({ cls := "RideDeskModel", name := "callsIn", desc := "(I)I" } : Jvm.MethodName) ({ cls := "RideDeskModel", name := "callsIn", desc := "(I)I" } : Jvm.MethodName)) ∈ lw_all := lw_g (lw_at lw_m11 155 rfl) rfl
theorem q2702 : (Jvm.Cond.code ({ cls := "RideDeskModel", name := "callsIn", desc := "(I)I" } : Jvm.MethodName) prog_23_method_107_code (2 : Nat) (Option.some Jvm.ClassFile.FieldType.int)) ∈ lw_all := lw_g (lw_at lw_m11 156 rfl) rfl
theorem q2704 : (Jvm.Cond.instanceMethod ({ cls := "RideDeskModel", name := "credits", desc := "()I" } : Jvm.MethodName)) ∈ lw_all := lw_g (lw_at lw_m11 158 rfl) rfl
theorem q2705 : (Jvm.Cond.selects "RideDeskModel" ({ cls := "RideDeskModel", name := "credits", desc := "()I" } : Jvm.MethodName) ({ cls := "RideDeskModel", name := "credits", desc := "()I" } : Jvm.MethodName)) ∈ lw_all := lw_g (lw_at lw_m11 159 rfl) rfl
theorem q2706 : (Jvm.Cond.code ({ cls := "RideDeskModel", name := "credits", desc := "()I" } : Jvm.MethodName) prog_23_method_108_code (3 : Nat) (Option.some Jvm.ClassFile.FieldType.int)) ∈ lw_all := lw_g (lw_at lw_m11 160 rfl) rfl
theorem q2708 : (Jvm.Cond.instanceMethod ({ cls := "RideDeskModel", name := "drivingAll", desc := "()I" } : Jvm.MethodName)) ∈ lw_all := lw_g (lw_at lw_m11 162 rfl) rfl
theorem q2709 : (Jvm.Cond.selects "RideDeskModel" ({ cls := "RideDeskModel", name := "drivingAll", desc := "()I" } : Jvm.MethodName) ({ cls := "RideDeskModel", name := "drivingAll", desc := "()I" } : Jvm.MethodName)) ∈ lw_all := lw_g (lw_at lw_m11 163 rfl) rfl
theorem q2710 : (Jvm.Cond.code ({ cls := "RideDeskModel", name := "drivingAll", desc := "()I" } : Jvm.MethodName) prog_23_method_109_code (1 : Nat) (Option.some Jvm.ClassFile.FieldType.int)) ∈ lw_all := lw_g (lw_at lw_m11 164 rfl) rfl
theorem q2711 : (Jvm.Cond.methodLink "RideDeskModel" (380 : Nat) ({ cls := "RideDeskModel", name := "drivesAll", desc := "()I" } : Jvm.MethodName)) ∈ lw_all := lw_g (lw_at lw_m11 165 rfl) rfl
theorem q2712 : (Jvm.Cond.privateMethod ({ cls := "RideDeskModel", name := "drivesAll", desc := "()I" } : Jvm.MethodName)) ∈ lw_tbl := lw_at lw_m11 166 rfl
theorem q2713 : (Jvm.Cond.instanceMethod ({ cls := "RideDeskModel", name := "drivesAll", desc := "()I" } : Jvm.MethodName)) ∈ lw_all := lw_g (lw_at lw_m11 167 rfl) rfl
theorem q2714 : (Jvm.Cond.code ({ cls := "RideDeskModel", name := "drivesAll", desc := "()I" } : Jvm.MethodName) prog_23_method_47_code (3 : Nat) (Option.some Jvm.ClassFile.FieldType.int)) ∈ lw_all := lw_g (lw_at lw_m11 168 rfl) rfl
theorem q2716 : (Jvm.Cond.instanceMethod ({ cls := "RideDeskModel", name := "meanDetour", desc := "()F" } : Jvm.MethodName)) ∈ lw_all := lw_g (lw_at lw_m11 170 rfl) rfl
theorem q2717 : (Jvm.Cond.selects "RideDeskModel" ({ cls := "RideDeskModel", name := "meanDetour", desc := "()F" } : Jvm.MethodName) ({ cls := "RideDeskModel", name := "meanDetour", desc := "()F" } : Jvm.MethodName)) ∈ lw_all := lw_g (lw_at lw_m11 171 rfl) rfl
theorem q2718 : (Jvm.Cond.code ({ cls := "RideDeskModel", name := "meanDetour", desc := "()F" } : Jvm.MethodName) prog_23_method_110_code (5 : Nat) (Option.some Jvm.ClassFile.FieldType.float)) ∈ lw_all := lw_g (lw_at lw_m11 172 rfl) rfl
theorem q2720 : (Jvm.Cond.instanceMethod ({ cls := "RideDeskModel", name := "occupancy", desc := "(I)F" } : Jvm.MethodName)) ∈ lw_all := lw_g (lw_at lw_m11 174 rfl) rfl
theorem q2721 : (Jvm.Cond.selects "RideDeskModel" ({ cls := "RideDeskModel", name := "occupancy", desc := "(I)F" } : Jvm.MethodName) ({ cls := "RideDeskModel", name := "occupancy", desc := "(I)F" } : Jvm.MethodName)) ∈ lw_all := lw_g (lw_at lw_m11 175 rfl) rfl
theorem q2722 : (Jvm.Cond.code ({ cls := "RideDeskModel", name := "occupancy", desc := "(I)F" } : Jvm.MethodName) prog_23_method_111_code (5 : Nat) (Option.some Jvm.ClassFile.FieldType.float)) ∈ lw_all := lw_g (lw_at lw_m11 176 rfl) rfl
theorem q2724 : (Jvm.Cond.instanceMethod ({ cls := "RideDeskModel", name := "offer", desc := "(IIIIII)I" } : Jvm.MethodName)) ∈ lw_all := lw_g (lw_at lw_m11 178 rfl) rfl
theorem q2725 : (Jvm.Cond.selects "RideDeskModel" ({ cls := "RideDeskModel", name := "offer", desc := "(IIIIII)I" } : Jvm.MethodName) ({ cls := "RideDeskModel", name := "offer", desc := "(IIIIII)I" } : Jvm.MethodName)) ∈ lw_all := lw_g (lw_at lw_m11 179 rfl) rfl
theorem q2726 : (Jvm.Cond.code ({ cls := "RideDeskModel", name := "offer", desc := "(IIIIII)I" } : Jvm.MethodName) prog_23_method_113_code (8 : Nat) (Option.some Jvm.ClassFile.FieldType.int)) ∈ lw_all := lw_g (lw_at lw_m11 180 rfl) rfl
theorem q2727 : (Jvm.Cond.methodLink "RideDeskModel" (383 : Nat) ({ cls := "RideDeskModel", name := "noRequest", desc := "(IIIIII)Z" } : Jvm.MethodName)) ∈ lw_all := lw_g (lw_at lw_m11 181 rfl) rfl
theorem q2728 : (Jvm.Cond.privateMethod ({ cls := "RideDeskModel", name := "noRequest", desc := "(IIIIII)Z" } : Jvm.MethodName)) ∈ lw_tbl := lw_at lw_m11 182 rfl
theorem q2729 : (Jvm.Cond.instanceMethod ({ cls := "RideDeskModel", name := "noRequest", desc := "(IIIIII)Z" } : Jvm.MethodName)) ∈ lw_all := lw_g (lw_at lw_m11 183 rfl) rfl
theorem q2730 : (Jvm.Cond.code ({ cls := "RideDeskModel", name := "noRequest", desc := "(IIIIII)Z" } : Jvm.MethodName) prog_23_method_112_code (7 : Nat) (Option.some Jvm.ClassFile.FieldType.boolean)) ∈ lw_all := lw_g (lw_at lw_m11 184 rfl) rfl
theorem q2731 : (Jvm.Cond.methodLink "RideDeskModel" (387 : Nat) ({ cls := "RideDeskModel", name := "lays", desc := "(I)V" } : Jvm.MethodName)) ∈ lw_all := lw_g (lw_at lw_m11 185 rfl) rfl
theorem q2732 : (Jvm.Cond.privateMethod ({ cls := "RideDeskModel", name := "lays", desc := "(I)V" } : Jvm.MethodName)) ∈ lw_tbl := lw_at lw_m11 186 rfl
theorem q2733 : (Jvm.Cond.instanceMethod ({ cls := "RideDeskModel", name := "lays", desc := "(I)V" } : Jvm.MethodName)) ∈ lw_all := lw_g (lw_at lw_m11 187 rfl) rfl
theorem q2734 : (Jvm.Cond.code ({ cls := "RideDeskModel", name := "lays", desc := "(I)V" } : Jvm.MethodName) prog_23_method_128_code (3 : Nat) (Option.none : Option Jvm.ClassFile.FieldType)) ∈ lw_all := lw_g (lw_at lw_m11 188 rfl) rfl
theorem q2735 : (Jvm.Cond.methodLink "RideDeskModel" (390 : Nat) ({ cls := "RideDeskModel", name := "fetches", desc := "(I)V" } : Jvm.MethodName)) ∈ lw_all := lw_g (lw_at lw_m11 189 rfl) rfl
theorem q2736 : (Jvm.Cond.privateMethod ({ cls := "RideDeskModel", name := "fetches", desc := "(I)V" } : Jvm.MethodName)) ∈ lw_tbl := lw_at lw_m11 190 rfl
theorem q2737 : (Jvm.Cond.instanceMethod ({ cls := "RideDeskModel", name := "fetches", desc := "(I)V" } : Jvm.MethodName)) ∈ lw_all := lw_g (lw_at lw_m11 191 rfl) rfl
theorem q2738 : (Jvm.Cond.code ({ cls := "RideDeskModel", name := "fetches", desc := "(I)V" } : Jvm.MethodName) prog_23_method_129_code (3 : Nat) (Option.none : Option Jvm.ClassFile.FieldType)) ∈ lw_all := lw_g (lw_at lw_m11 192 rfl) rfl
theorem q2740 : (Jvm.Cond.instanceMethod ({ cls := "RideDeskModel", name := "offeredVan", desc := "(IIIIII)I" } : Jvm.MethodName)) ∈ lw_all := lw_g (lw_at lw_m11 194 rfl) rfl
theorem q2741 : (Jvm.Cond.selects "RideDeskModel" ({ cls := "RideDeskModel", name := "offeredVan", desc := "(IIIIII)I" } : Jvm.MethodName) ({ cls := "RideDeskModel", name := "offeredVan", desc := "(IIIIII)I" } : Jvm.MethodName)) ∈ lw_all := lw_g (lw_at lw_m11 195 rfl) rfl
theorem q2742 : (Jvm.Cond.code ({ cls := "RideDeskModel", name := "offeredVan", desc := "(IIIIII)I" } : Jvm.MethodName) prog_23_method_114_code (7 : Nat) (Option.some Jvm.ClassFile.FieldType.int)) ∈ lw_all := lw_g (lw_at lw_m11 196 rfl) rfl
theorem q2744 : (Jvm.Cond.instanceMethod ({ cls := "RideDeskModel", name := "soonest", desc := "(IIIIII)I" } : Jvm.MethodName)) ∈ lw_all := lw_g (lw_at lw_m11 198 rfl) rfl
theorem q2745 : (Jvm.Cond.selects "RideDeskModel" ({ cls := "RideDeskModel", name := "soonest", desc := "(IIIIII)I" } : Jvm.MethodName) ({ cls := "RideDeskModel", name := "soonest", desc := "(IIIIII)I" } : Jvm.MethodName)) ∈ lw_all := lw_g (lw_at lw_m11 199 rfl) rfl
theorem q2746 : (Jvm.Cond.code ({ cls := "RideDeskModel", name := "soonest", desc := "(IIIIII)I" } : Jvm.MethodName) prog_23_method_115_code (9 : Nat) (Option.some Jvm.ClassFile.FieldType.int)) ∈ lw_all := lw_g (lw_at lw_m11 200 rfl) rfl
theorem q2748 : (Jvm.Cond.instanceMethod ({ cls := "RideDeskModel", name := "lateCalls", desc := "()I" } : Jvm.MethodName)) ∈ lw_all := lw_g (lw_at lw_m11 202 rfl) rfl
theorem q2749 : (Jvm.Cond.selects "RideDeskModel" ({ cls := "RideDeskModel", name := "lateCalls", desc := "()I" } : Jvm.MethodName) ({ cls := "RideDeskModel", name := "lateCalls", desc := "()I" } : Jvm.MethodName)) ∈ lw_all := lw_g (lw_at lw_m11 203 rfl) rfl
theorem q2750 : (Jvm.Cond.code ({ cls := "RideDeskModel", name := "lateCalls", desc := "()I" } : Jvm.MethodName) prog_23_method_117_code (3 : Nat) (Option.some Jvm.ClassFile.FieldType.int)) ∈ lw_all := lw_g (lw_at lw_m11 204 rfl) rfl
theorem q2751 : (Jvm.Cond.methodLink "RideDeskModel" (393 : Nat) ({ cls := "RideDeskModel", name := "lateness", desc := "(I)I" } : Jvm.MethodName)) ∈ lw_all := lw_g (lw_at lw_m11 205 rfl) rfl
theorem q2752 : (Jvm.Cond.privateMethod ({ cls := "RideDeskModel", name := "lateness", desc := "(I)I" } : Jvm.MethodName)) ∈ lw_tbl := lw_at lw_m11 206 rfl
theorem q2753 : (Jvm.Cond.instanceMethod ({ cls := "RideDeskModel", name := "lateness", desc := "(I)I" } : Jvm.MethodName)) ∈ lw_all := lw_g (lw_at lw_m11 207 rfl) rfl
theorem q2754 : (Jvm.Cond.code ({ cls := "RideDeskModel", name := "lateness", desc := "(I)I" } : Jvm.MethodName) prog_23_method_116_code (3 : Nat) (Option.some Jvm.ClassFile.FieldType.int)) ∈ lw_all := lw_g (lw_at lw_m11 208 rfl) rfl
theorem q2756 : (Jvm.Cond.instanceMethod ({ cls := "RideDeskModel", name := "expectedCredits", desc := "()I" } : Jvm.MethodName)) ∈ lw_all := lw_g (lw_at lw_m11 210 rfl) rfl
theorem q2757 : (Jvm.Cond.selects "RideDeskModel" ({ cls := "RideDeskModel", name := "expectedCredits", desc := "()I" } : Jvm.MethodName) ({ cls := "RideDeskModel", name := "expectedCredits", desc := "()I" } : Jvm.MethodName)) ∈ lw_all := lw_g (lw_at lw_m11 211 rfl) rfl
theorem q2758 : (Jvm.Cond.code ({ cls := "RideDeskModel", name := "expectedCredits", desc := "()I" } : Jvm.MethodName) prog_23_method_118_code (3 : Nat) (Option.some Jvm.ClassFile.FieldType.int)) ∈ lw_all := lw_g (lw_at lw_m11 212 rfl) rfl
theorem q2760 : (Jvm.Cond.instanceMethod ({ cls := "RideDeskModel", name := "freeVan", desc := "(II)I" } : Jvm.MethodName)) ∈ lw_all := lw_g (lw_at lw_m11 214 rfl) rfl
theorem q2761 : (Jvm.Cond.selects "RideDeskModel" ({ cls := "RideDeskModel", name := "freeVan", desc := "(II)I" } : Jvm.MethodName) ({ cls := "RideDeskModel", name := "freeVan", desc := "(II)I" } : Jvm.MethodName)) ∈ lw_all := lw_g (lw_at lw_m11 215 rfl) rfl
theorem q2762 : (Jvm.Cond.code ({ cls := "RideDeskModel", name := "freeVan", desc := "(II)I" } : Jvm.MethodName) prog_23_method_120_code (7 : Nat) (Option.some Jvm.ClassFile.FieldType.int)) ∈ lw_all := lw_g (lw_at lw_m11 216 rfl) rfl
theorem q2763 : (Jvm.Cond.methodLink "RideDeskModel" (396 : Nat) ({ cls := "RideDeskModel", name := "freeAt", desc := "(III)I" } : Jvm.MethodName)) ∈ lw_all := lw_g (lw_at lw_m11 217 rfl) rfl
theorem q2764 : (Jvm.Cond.privateMethod ({ cls := "RideDeskModel", name := "freeAt", desc := "(III)I" } : Jvm.MethodName)) ∈ lw_tbl := lw_at lw_m11 218 rfl
theorem q2765 : (Jvm.Cond.instanceMethod ({ cls := "RideDeskModel", name := "freeAt", desc := "(III)I" } : Jvm.MethodName)) ∈ lw_all := lw_g (lw_at lw_m11 219 rfl) rfl
theorem q2766 : (Jvm.Cond.code ({ cls := "RideDeskModel", name := "freeAt", desc := "(III)I" } : Jvm.MethodName) prog_23_method_119_code (8 : Nat) (Option.some Jvm.ClassFile.FieldType.int)) ∈ lw_all := lw_g (lw_at lw_m11 220 rfl) rfl
theorem q2768 : (Jvm.Cond.instanceMethod ({ cls := "RideDeskModel", name := "manifest", desc := "(I)I" } : Jvm.MethodName)) ∈ lw_all := lw_g (lw_at lw_m11 222 rfl) rfl
theorem q2769 : (Jvm.Cond.selects "RideDeskModel" ({ cls := "RideDeskModel", name := "manifest", desc := "(I)I" } : Jvm.MethodName) ({ cls := "RideDeskModel", name := "manifest", desc := "(I)I" } : Jvm.MethodName)) ∈ lw_all := lw_g (lw_at lw_m11 223 rfl) rfl
theorem q2770 : (Jvm.Cond.code ({ cls := "RideDeskModel", name := "manifest", desc := "(I)I" } : Jvm.MethodName) prog_23_method_123_code (3 : Nat) (Option.some Jvm.ClassFile.FieldType.int)) ∈ lw_all := lw_g (lw_at lw_m11 224 rfl) rfl
theorem q2771 : (Jvm.Cond.methodLink "RideDeskModel" (402 : Nat) ({ cls := "RideDeskModel", name := "writes", desc := "(I)V" } : Jvm.MethodName)) ∈ lw_all := lw_g (lw_at lw_m11 225 rfl) rfl
theorem q2772 : (Jvm.Cond.privateMethod ({ cls := "RideDeskModel", name := "writes", desc := "(I)V" } : Jvm.MethodName)) ∈ lw_tbl := lw_at lw_m11 226 rfl
theorem q2773 : (Jvm.Cond.instanceMethod ({ cls := "RideDeskModel", name := "writes", desc := "(I)V" } : Jvm.MethodName)) ∈ lw_all := lw_g (lw_at lw_m11 227 rfl) rfl
theorem q2774 : (Jvm.Cond.code ({ cls := "RideDeskModel", name := "writes", desc := "(I)V" } : Jvm.MethodName) prog_23_method_121_code (2 : Nat) (Option.none : Option Jvm.ClassFile.FieldType)) ∈ lw_all := lw_g (lw_at lw_m11 228 rfl) rfl
theorem q2775 : (Jvm.Cond.methodLink "RideDeskModel" (405 : Nat) ({ cls := "RideDeskModel", name := "writesNumber", desc := "(I)V" } : Jvm.MethodName)) ∈ lw_all := lw_g (lw_at lw_m11 229 rfl) rfl
theorem q2776 : (Jvm.Cond.privateMethod ({ cls := "RideDeskModel", name := "writesNumber", desc := "(I)V" } : Jvm.MethodName)) ∈ lw_tbl := lw_at lw_m11 230 rfl
theorem q2777 : (Jvm.Cond.instanceMethod ({ cls := "RideDeskModel", name := "writesNumber", desc := "(I)V" } : Jvm.MethodName)) ∈ lw_all := lw_g (lw_at lw_m11 231 rfl) rfl
theorem q2778 : (Jvm.Cond.code ({ cls := "RideDeskModel", name := "writesNumber", desc := "(I)V" } : Jvm.MethodName) prog_23_method_122_code (3 : Nat) (Option.none : Option Jvm.ClassFile.FieldType)) ∈ lw_all := lw_g (lw_at lw_m11 232 rfl) rfl
theorem q2780 : (Jvm.Cond.instanceMethod ({ cls := "RideDeskModel", name := "manifestByte", desc := "(I)I" } : Jvm.MethodName)) ∈ lw_all := lw_g (lw_at lw_m11 234 rfl) rfl
theorem q2781 : (Jvm.Cond.selects "RideDeskModel" ({ cls := "RideDeskModel", name := "manifestByte", desc := "(I)I" } : Jvm.MethodName) ({ cls := "RideDeskModel", name := "manifestByte", desc := "(I)I" } : Jvm.MethodName)) ∈ lw_all := lw_g (lw_at lw_m11 235 rfl) rfl
theorem q2782 : (Jvm.Cond.code ({ cls := "RideDeskModel", name := "manifestByte", desc := "(I)I" } : Jvm.MethodName) prog_23_method_124_code (2 : Nat) (Option.some Jvm.ClassFile.FieldType.int)) ∈ lw_all := lw_g (lw_at lw_m11 236 rfl) rfl
theorem q2784 : (Jvm.Cond.instanceMethod ({ cls := "RideDeskModel", name := "savings", desc := "(I)I" } : Jvm.MethodName)) ∈ lw_all := lw_g (lw_at lw_m11 238 rfl) rfl
theorem q2785 : (Jvm.Cond.selects "RideDeskModel" ({ cls := "RideDeskModel", name := "savings", desc := "(I)I" } : Jvm.MethodName) ({ cls := "RideDeskModel", name := "savings", desc := "(I)I" } : Jvm.MethodName)) ∈ lw_all := lw_g (lw_at lw_m11 239 rfl) rfl
theorem q2786 : (Jvm.Cond.code ({ cls := "RideDeskModel", name := "savings", desc := "(I)I" } : Jvm.MethodName) prog_23_method_127_code (4 : Nat) (Option.some Jvm.ClassFile.FieldType.int)) ∈ lw_all := lw_g (lw_at lw_m12 0 rfl) rfl
theorem q2787 : (Jvm.Cond.methodLink "RideDeskModel" (411 : Nat) ({ cls := "RideDeskModel", name := "isStuck", desc := "(I)Z" } : Jvm.MethodName)) ∈ lw_all := lw_g (lw_at lw_m12 1 rfl) rfl
theorem q2788 : (Jvm.Cond.privateMethod ({ cls := "RideDeskModel", name := "isStuck", desc := "(I)Z" } : Jvm.MethodName)) ∈ lw_tbl := lw_at lw_m12 2 rfl
theorem q2789 : (Jvm.Cond.instanceMethod ({ cls := "RideDeskModel", name := "isStuck", desc := "(I)Z" } : Jvm.MethodName)) ∈ lw_all := lw_g (lw_at lw_m12 3 rfl) rfl
theorem q2790 : (Jvm.Cond.code ({ cls := "RideDeskModel", name := "isStuck", desc := "(I)Z" } : Jvm.MethodName) prog_23_method_125_code (2 : Nat) (Option.some Jvm.ClassFile.FieldType.boolean)) ∈ lw_all := lw_g (lw_at lw_m12 4 rfl) rfl
theorem q2791 : (Jvm.Cond.methodLink "RideDeskModel" (340 : Nat) ({ cls := "RideDeskModel", name := "isOpen", desc := "(II)Z" } : Jvm.MethodName)) ∈ lw_all := lw_g (lw_at lw_m12 5 rfl) rfl
theorem q2792 : (Jvm.Cond.privateMethod ({ cls := "RideDeskModel", name := "isOpen", desc := "(II)Z" } : Jvm.MethodName)) ∈ lw_tbl := lw_at lw_m12 6 rfl
theorem q2793 : (Jvm.Cond.instanceMethod ({ cls := "RideDeskModel", name := "isOpen", desc := "(II)Z" } : Jvm.MethodName)) ∈ lw_all := lw_g (lw_at lw_m12 7 rfl) rfl
theorem q2794 : (Jvm.Cond.code ({ cls := "RideDeskModel", name := "isOpen", desc := "(II)Z" } : Jvm.MethodName) prog_23_method_68_code (4 : Nat) (Option.some Jvm.ClassFile.FieldType.boolean)) ∈ lw_all := lw_g (lw_at lw_m12 8 rfl) rfl
theorem q2795 : (Jvm.Cond.methodLink "RideDeskModel" (414 : Nat) ({ cls := "RideDeskModel", name := "cancels", desc := "(I)V" } : Jvm.MethodName)) ∈ lw_all := lw_g (lw_at lw_m12 9 rfl) rfl
theorem q2796 : (Jvm.Cond.privateMethod ({ cls := "RideDeskModel", name := "cancels", desc := "(I)V" } : Jvm.MethodName)) ∈ lw_tbl := lw_at lw_m12 10 rfl
theorem q2797 : (Jvm.Cond.instanceMethod ({ cls := "RideDeskModel", name := "cancels", desc := "(I)V" } : Jvm.MethodName)) ∈ lw_all := lw_g (lw_at lw_m12 11 rfl) rfl
theorem q2798 : (Jvm.Cond.code ({ cls := "RideDeskModel", name := "cancels", desc := "(I)V" } : Jvm.MethodName) prog_23_method_126_code (3 : Nat) (Option.none : Option Jvm.ClassFile.FieldType)) ∈ lw_all := lw_g (lw_at lw_m12 12 rfl) rfl
theorem q2799 : (Jvm.Cond.methodLink "RideDeskModel" (343 : Nat) ({ cls := "RideDeskModel", name := "takesOut", desc := "(II)V" } : Jvm.MethodName)) ∈ lw_all := lw_g (lw_at lw_m12 13 rfl) rfl
theorem q2800 : (Jvm.Cond.privateMethod ({ cls := "RideDeskModel", name := "takesOut", desc := "(II)V" } : Jvm.MethodName)) ∈ lw_tbl := lw_at lw_m12 14 rfl
theorem q2801 : (Jvm.Cond.instanceMethod ({ cls := "RideDeskModel", name := "takesOut", desc := "(II)V" } : Jvm.MethodName)) ∈ lw_all := lw_g (lw_at lw_m12 15 rfl) rfl
theorem q2802 : (Jvm.Cond.code ({ cls := "RideDeskModel", name := "takesOut", desc := "(II)V" } : Jvm.MethodName) prog_23_method_57_code (8 : Nat) (Option.none : Option Jvm.ClassFile.FieldType)) ∈ lw_all := lw_g (lw_at lw_m12 16 rfl) rfl
theorem q2803 : (Jvm.Cond.methodLink "RideDeskModel" (269 : Nat) ({ cls := "RideDeskModel", name := "isPossible", desc := "(II)Z" } : Jvm.MethodName)) ∈ lw_all := lw_g (lw_at lw_m12 17 rfl) rfl
theorem q2804 : (Jvm.Cond.privateMethod ({ cls := "RideDeskModel", name := "isPossible", desc := "(II)Z" } : Jvm.MethodName)) ∈ lw_tbl := lw_at lw_m12 18 rfl
theorem q2805 : (Jvm.Cond.instanceMethod ({ cls := "RideDeskModel", name := "isPossible", desc := "(II)Z" } : Jvm.MethodName)) ∈ lw_all := lw_g (lw_at lw_m12 19 rfl) rfl
theorem q2806 : (Jvm.Cond.code ({ cls := "RideDeskModel", name := "isPossible", desc := "(II)Z" } : Jvm.MethodName) prog_23_method_54_code (5 : Nat) (Option.some Jvm.ClassFile.FieldType.boolean)) ∈ lw_all := lw_g (lw_at lw_m12 20 rfl) rfl
theorem q2807 : (Jvm.Cond.methodLink "RideDeskModel" (408 : Nat) ({ cls := "RideDeskModel", name := "repairs", desc := "(I)V" } : Jvm.MethodName)) ∈ lw_all := lw_g (lw_at lw_m12 21 rfl) rfl
theorem q2808 : (Jvm.Cond.privateMethod ({ cls := "RideDeskModel", name := "repairs", desc := "(I)V" } : Jvm.MethodName)) ∈ lw_tbl := lw_at lw_m12 22 rfl
theorem q2809 : (Jvm.Cond.instanceMethod ({ cls := "RideDeskModel", name := "repairs", desc := "(I)V" } : Jvm.MethodName)) ∈ lw_all := lw_g (lw_at lw_m12 23 rfl) rfl
theorem q2810 : (Jvm.Cond.code ({ cls := "RideDeskModel", name := "repairs", desc := "(I)V" } : Jvm.MethodName) prog_23_method_70_code (3 : Nat) (Option.none : Option Jvm.ClassFile.FieldType)) ∈ lw_all := lw_g (lw_at lw_m12 24 rfl) rfl
theorem q2811 : (Jvm.Cond.methodLink "RideDeskModel" (346 : Nat) ({ cls := "RideDeskModel", name := "empties", desc := "(I)V" } : Jvm.MethodName)) ∈ lw_all := lw_g (lw_at lw_m12 25 rfl) rfl
theorem q2812 : (Jvm.Cond.privateMethod ({ cls := "RideDeskModel", name := "empties", desc := "(I)V" } : Jvm.MethodName)) ∈ lw_tbl := lw_at lw_m12 26 rfl
theorem q2813 : (Jvm.Cond.instanceMethod ({ cls := "RideDeskModel", name := "empties", desc := "(I)V" } : Jvm.MethodName)) ∈ lw_all := lw_g (lw_at lw_m12 27 rfl) rfl
theorem q2814 : (Jvm.Cond.code ({ cls := "RideDeskModel", name := "empties", desc := "(I)V" } : Jvm.MethodName) prog_23_method_69_code (3 : Nat) (Option.none : Option Jvm.ClassFile.FieldType)) ∈ lw_all := lw_g (lw_at lw_m12 28 rfl) rfl
theorem q2816 : (Jvm.Cond.instanceMethod ({ cls := "RideDeskModel", name := "request", desc := "(IIIIII)I" } : Jvm.MethodName)) ∈ lw_all := lw_g (lw_at lw_m12 30 rfl) rfl
theorem q2817 : (Jvm.Cond.selects "RideDeskModel" ({ cls := "RideDeskModel", name := "request", desc := "(IIIIII)I" } : Jvm.MethodName) ({ cls := "RideDeskModel", name := "request", desc := "(IIIIII)I" } : Jvm.MethodName)) ∈ lw_all := lw_g (lw_at lw_m12 31 rfl) rfl
theorem q2818 : (Jvm.Cond.code ({ cls := "RideDeskModel", name := "request", desc := "(IIIIII)I" } : Jvm.MethodName) prog_23_method_132_code (7 : Nat) (Option.some Jvm.ClassFile.FieldType.int)) ∈ lw_all := lw_g (lw_at lw_m12 32 rfl) rfl
theorem q2819 : (Jvm.Cond.methodLink "RideDeskModel" (420 : Nat) ({ cls := "RideDeskModel", name := "keeps", desc := "()V" } : Jvm.MethodName)) ∈ lw_all := lw_g (lw_at lw_m12 33 rfl) rfl
theorem q2820 : (Jvm.Cond.privateMethod ({ cls := "RideDeskModel", name := "keeps", desc := "()V" } : Jvm.MethodName)) ∈ lw_tbl := lw_at lw_m12 34 rfl
theorem q2821 : (Jvm.Cond.instanceMethod ({ cls := "RideDeskModel", name := "keeps", desc := "()V" } : Jvm.MethodName)) ∈ lw_all := lw_g (lw_at lw_m12 35 rfl) rfl
theorem q2822 : (Jvm.Cond.code ({ cls := "RideDeskModel", name := "keeps", desc := "()V" } : Jvm.MethodName) prog_23_method_131_code (1 : Nat) (Option.none : Option Jvm.ClassFile.FieldType)) ∈ lw_all := lw_g (lw_at lw_m12 36 rfl) rfl
theorem q2823 : (Jvm.Cond.methodLink "RideDeskModel" (417 : Nat) ({ cls := "RideDeskModel", name := "keepsTrial", desc := "()V" } : Jvm.MethodName)) ∈ lw_all := lw_g (lw_at lw_m12 37 rfl) rfl
theorem q2824 : (Jvm.Cond.privateMethod ({ cls := "RideDeskModel", name := "keepsTrial", desc := "()V" } : Jvm.MethodName)) ∈ lw_tbl := lw_at lw_m12 38 rfl
theorem q2825 : (Jvm.Cond.instanceMethod ({ cls := "RideDeskModel", name := "keepsTrial", desc := "()V" } : Jvm.MethodName)) ∈ lw_all := lw_g (lw_at lw_m12 39 rfl) rfl
theorem q2826 : (Jvm.Cond.code ({ cls := "RideDeskModel", name := "keepsTrial", desc := "()V" } : Jvm.MethodName) prog_23_method_130_code (2 : Nat) (Option.none : Option Jvm.ClassFile.FieldType)) ∈ lw_all := lw_g (lw_at lw_m12 40 rfl) rfl
theorem q2828 : (Jvm.Cond.instanceMethod ({ cls := "RideDeskModel", name := "cancel", desc := "(I)I" } : Jvm.MethodName)) ∈ lw_all := lw_g (lw_at lw_m12 42 rfl) rfl
theorem q2829 : (Jvm.Cond.selects "RideDeskModel" ({ cls := "RideDeskModel", name := "cancel", desc := "(I)I" } : Jvm.MethodName) ({ cls := "RideDeskModel", name := "cancel", desc := "(I)I" } : Jvm.MethodName)) ∈ lw_all := lw_g (lw_at lw_m12 43 rfl) rfl
theorem q2830 : (Jvm.Cond.code ({ cls := "RideDeskModel", name := "cancel", desc := "(I)I" } : Jvm.MethodName) prog_23_method_133_code (3 : Nat) (Option.some Jvm.ClassFile.FieldType.int)) ∈ lw_all := lw_g (lw_at lw_m12 44 rfl) rfl
theorem q2832 : (Jvm.Cond.instanceMethod ({ cls := "RideDeskModel", name := "postpone", desc := "(II)I" } : Jvm.MethodName)) ∈ lw_all := lw_g (lw_at lw_m12 46 rfl) rfl
theorem q2833 : (Jvm.Cond.selects "RideDeskModel" ({ cls := "RideDeskModel", name := "postpone", desc := "(II)I" } : Jvm.MethodName) ({ cls := "RideDeskModel", name := "postpone", desc := "(II)I" } : Jvm.MethodName)) ∈ lw_all := lw_g (lw_at lw_m12 47 rfl) rfl
theorem q2834 : (Jvm.Cond.code ({ cls := "RideDeskModel", name := "postpone", desc := "(II)I" } : Jvm.MethodName) prog_23_method_134_code (4 : Nat) (Option.some Jvm.ClassFile.FieldType.int)) ∈ lw_all := lw_g (lw_at lw_m12 48 rfl) rfl
theorem q2835 : (Jvm.Cond.methodLink "RideDeskModel" (423 : Nat) ({ cls := "RideDeskModel", name := "areAllPossible", desc := "()Z" } : Jvm.MethodName)) ∈ lw_all := lw_g (lw_at lw_m12 49 rfl) rfl
theorem q2836 : (Jvm.Cond.privateMethod ({ cls := "RideDeskModel", name := "areAllPossible", desc := "()Z" } : Jvm.MethodName)) ∈ lw_tbl := lw_at lw_m12 50 rfl
theorem q2837 : (Jvm.Cond.instanceMethod ({ cls := "RideDeskModel", name := "areAllPossible", desc := "()Z" } : Jvm.MethodName)) ∈ lw_all := lw_g (lw_at lw_m12 51 rfl) rfl
theorem q2838 : (Jvm.Cond.code ({ cls := "RideDeskModel", name := "areAllPossible", desc := "()Z" } : Jvm.MethodName) prog_23_method_55_code (2 : Nat) (Option.some Jvm.ClassFile.FieldType.boolean)) ∈ lw_all := lw_g (lw_at lw_m12 52 rfl) rfl
theorem q2840 : (Jvm.Cond.instanceMethod ({ cls := "RideDeskModel", name := "setUntil", desc := "(II)I" } : Jvm.MethodName)) ∈ lw_all := lw_g (lw_at lw_m12 54 rfl) rfl
theorem q2841 : (Jvm.Cond.selects "RideDeskModel" ({ cls := "RideDeskModel", name := "setUntil", desc := "(II)I" } : Jvm.MethodName) ({ cls := "RideDeskModel", name := "setUntil", desc := "(II)I" } : Jvm.MethodName)) ∈ lw_all := lw_g (lw_at lw_m12 55 rfl) rfl
theorem q2842 : (Jvm.Cond.code ({ cls := "RideDeskModel", name := "setUntil", desc := "(II)I" } : Jvm.MethodName) prog_23_method_135_code (5 : Nat) (Option.some Jvm.ClassFile.FieldType.int)) ∈ lw_all := lw_g (lw_at lw_m12 56 rfl) rfl
theorem q2844 : (Jvm.Cond.instanceMethod ({ cls := "RideDeskModel", name := "improve", desc := "()I" } : Jvm.MethodName)) ∈ lw_all := lw_g (lw_at lw_m12 58 rfl) rfl
theorem q2845 : (Jvm.Cond.selects "RideDeskModel" ({ cls := "RideDeskModel", name := "improve", desc := "()I" } : Jvm.MethodName) ({ cls := "RideDeskModel", name := "improve", desc := "()I" } : Jvm.MethodName)) ∈ lw_all := lw_g (lw_at lw_m12 59 rfl) rfl
theorem q2846 : (Jvm.Cond.code ({ cls := "RideDeskModel", name := "improve", desc := "()I" } : Jvm.MethodName) prog_23_method_136_code (4 : Nat) (Option.some Jvm.ClassFile.FieldType.int)) ∈ lw_all := lw_g (lw_at lw_m12 60 rfl) rfl
theorem q2848 : (Jvm.Cond.instanceMethod ({ cls := "RideDeskModel", name := "advance", desc := "(I)I" } : Jvm.MethodName)) ∈ lw_all := lw_g (lw_at lw_m12 62 rfl) rfl
theorem q2849 : (Jvm.Cond.selects "RideDeskModel" ({ cls := "RideDeskModel", name := "advance", desc := "(I)I" } : Jvm.MethodName) ({ cls := "RideDeskModel", name := "advance", desc := "(I)I" } : Jvm.MethodName)) ∈ lw_all := lw_g (lw_at lw_m12 63 rfl) rfl
theorem q2850 : (Jvm.Cond.code ({ cls := "RideDeskModel", name := "advance", desc := "(I)I" } : Jvm.MethodName) prog_23_method_138_code (5 : Nat) (Option.some Jvm.ClassFile.FieldType.int)) ∈ lw_all := lw_g (lw_at lw_m12 64 rfl) rfl
theorem q2851 : (Jvm.Cond.methodLink "RideDeskModel" (426 : Nat) ({ cls := "RideDeskModel", name := "executes", desc := "(II)I" } : Jvm.MethodName)) ∈ lw_all := lw_g (lw_at lw_m12 65 rfl) rfl
theorem q2852 : (Jvm.Cond.privateMethod ({ cls := "RideDeskModel", name := "executes", desc := "(II)I" } : Jvm.MethodName)) ∈ lw_tbl := lw_at lw_m12 66 rfl
theorem q2853 : (Jvm.Cond.instanceMethod ({ cls := "RideDeskModel", name := "executes", desc := "(II)I" } : Jvm.MethodName)) ∈ lw_all := lw_g (lw_at lw_m12 67 rfl) rfl
theorem q2854 : (Jvm.Cond.code ({ cls := "RideDeskModel", name := "executes", desc := "(II)I" } : Jvm.MethodName) prog_23_method_137_code (6 : Nat) (Option.some Jvm.ClassFile.FieldType.int)) ∈ lw_all := lw_g (lw_at lw_m12 68 rfl) rfl
theorem q2856 : (Jvm.Cond.instanceMethod ({ cls := "RideDeskModel", name := "undo", desc := "()I" } : Jvm.MethodName)) ∈ lw_all := lw_g (lw_at lw_m12 70 rfl) rfl
theorem q2857 : (Jvm.Cond.selects "RideDeskModel" ({ cls := "RideDeskModel", name := "undo", desc := "()I" } : Jvm.MethodName) ({ cls := "RideDeskModel", name := "undo", desc := "()I" } : Jvm.MethodName)) ∈ lw_all := lw_g (lw_at lw_m12 71 rfl) rfl
theorem q2858 : (Jvm.Cond.code ({ cls := "RideDeskModel", name := "undo", desc := "()I" } : Jvm.MethodName) prog_23_method_139_code (1 : Nat) (Option.some Jvm.ClassFile.FieldType.int)) ∈ lw_all := lw_g (lw_at lw_m12 72 rfl) rfl
theorem q2860 : (Jvm.Cond.instanceMethod ({ cls := "RideDeskModel", name := "save", desc := "(I)I" } : Jvm.MethodName)) ∈ lw_all := lw_g (lw_at lw_m12 74 rfl) rfl
theorem q2861 : (Jvm.Cond.selects "RideDeskModel" ({ cls := "RideDeskModel", name := "save", desc := "(I)I" } : Jvm.MethodName) ({ cls := "RideDeskModel", name := "save", desc := "(I)I" } : Jvm.MethodName)) ∈ lw_all := lw_g (lw_at lw_m12 75 rfl) rfl
theorem q2862 : (Jvm.Cond.code ({ cls := "RideDeskModel", name := "save", desc := "(I)I" } : Jvm.MethodName) prog_23_method_140_code (2 : Nat) (Option.some Jvm.ClassFile.FieldType.int)) ∈ lw_all := lw_g (lw_at lw_m12 76 rfl) rfl
theorem q2864 : (Jvm.Cond.instanceMethod ({ cls := "RideDeskModel", name := "restore", desc := "(I)I" } : Jvm.MethodName)) ∈ lw_all := lw_g (lw_at lw_m12 78 rfl) rfl
theorem q2865 : (Jvm.Cond.selects "RideDeskModel" ({ cls := "RideDeskModel", name := "restore", desc := "(I)I" } : Jvm.MethodName) ({ cls := "RideDeskModel", name := "restore", desc := "(I)I" } : Jvm.MethodName)) ∈ lw_all := lw_g (lw_at lw_m12 79 rfl) rfl
theorem q2866 : (Jvm.Cond.code ({ cls := "RideDeskModel", name := "restore", desc := "(I)I" } : Jvm.MethodName) prog_23_method_141_code (2 : Nat) (Option.some Jvm.ClassFile.FieldType.int)) ∈ lw_all := lw_g (lw_at lw_m12 80 rfl) rfl
theorem q2893 : (Jvm.Cond.castable "RideDeskModel" "java/lang/Object") ∈ lw_tbl := lw_at lw_m12 107 rfl
theorem in_X3 : ∀ w ∈ wsX30, w ∈ lw_all := lw_in wsX30 [2210, 2212, 2214, 2216, 2218, 2220, 2222, 2224, 2226, 2228, 2230, 2232, 2234, 2236, 2238, 2240, 2242, 2244, 2246, 2248, 2250, 2252, 2254, 2256, 2258, 2260, 2262, 2264, 2266, 2268, 2270, 2272, 2274, 2276, 2278, 2280] (by decide +kernel) (by decide +kernel)

