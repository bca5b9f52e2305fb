/-! ===== statics, casts, natives ===== -/
section VN
variable {l : Launch} {g : GG} {M : MD} {fr : Nat} {pc : Nat} {L : List (Option Value)} {st : List Value} {h : AH} {Q : Res → AH → Prop}
theorem V.gets {idx i : Nat} {v : Value} (hd : decode M.2.1 pc = .ok (.getstatic idx, 3)) (hO : SO M.1.cls idx i) (hv : gS g i = v) (k : V l g M fr (pc + 3) L (v :: st) h Q) : V l g M fr pc L st h Q := by
  intro hl p e s m args below meth c C H locs hR hS ls hL
  have k9 := k hl p e s m args below meth c C H locs hR hS ls hL
  obtain ⟨CC, n, d, ref, o1, o2, o3⟩ := hO
  have hts := C.2.2.2.2.2.2.1
  have hF := C.2.2.2.2.2.2.2.1
  have hZ := hF.2.2.2.2.2.2.2.2.1 _ o1
  subst hv
  have hsame : ∀ x, s.fieldFound? CC n d = some x → s.fieldFound? ref n d = some x := by
    intro x hx
    rcases o3 with rfl | o3
    · exact hx
    · exact u_same (hts _ o3) _ hx
  rcases o2 with o2 | ⟨host, o2⟩
  · exact va_gets C.1 C.2.1 hZ hS C.2.2.2.2.2.1 (hts _ o2) hsame hd k9
  · exact va_getsN C.1 C.2.1 hZ hS C.2.2.2.2.2.1 (va_Nw.use rfl (hF.2.2.1 _ o2)) hsame hd k9
theorem V.castN {idx : Nat} (hd : decode M.2.1 pc = .ok (.checkcast idx, 3)) (k : V l g M fr (pc + 3) L (.null :: st) h Q) : V l g M fr pc L (.null :: st) h Q := fun hl p e s m args below meth c C H locs hR hS ls hL => lv_castN C.1 C.2.1 hd (k hl p e s m args below meth c C H locs hR hS ls hL)
theorem V.instN {idx : Nat} (hd : decode M.2.1 pc = .ok (.instanceof idx, 3)) (k : V l g M fr (pc + 3) L (.int 0 :: st) h Q) : V l g M fr pc L (.null :: st) h Q := fun hl p e s m args below meth c C H locs hR hS ls hL => lv_instN C.1 C.2.1 hd (k hl p e s m args below meth c C H locs hR hS ls hL)
theorem V.cast {idx a ci : Nat} {w : Bool} {nm : String} (hd : decode M.2.1 pc = .ok (.checkcast idx, 3)) (hk : kd h a = some (w, .inl ci)) (hcl : Cond.classLink M.1.cls idx nm ∈ lw_all) (hE : AS ci nm) (k : V l g M fr (pc + 3) L (.ref a :: st) h Q) : V l g M fr pc L (.ref a :: st) h Q := by
  intro hl p e s m args below meth c C H locs hR hS ls hL
  have k9 := k hl p e s m args below meth c C H locs hR hS ls hL
  have hts := C.2.2.2.2.2.2.1
  have hF := C.2.2.2.2.2.2.2.1
  obtain ⟨r, f1, hrec⟩ := cellR hF hR hS hk
  obtain ⟨r', e1, e2⟩ := hE
  cases e1.symm.trans f1
  rcases e2 with ⟨rfl, e3⟩ | e2
  · exact va_castS C.1 C.2.1 C.2.2.2.2.2.1 (hts _ hcl) (hF.1 ci r e3 e1).2 hrec hd k9
  · exact va_castY C.1 C.2.1 C.2.2.2.2.2.1 (hts _ hcl) (hF.2.2.2.2.1 _ e2) hrec hd k9
theorem V.instY {idx a ci : Nat} {w : Bool} {nm : String} (hd : decode M.2.1 pc = .ok (.instanceof idx, 3)) (hk : kd h a = some (w, .inl ci)) (hcl : Cond.classLink M.1.cls idx nm ∈ lw_all) (hE : AS ci nm) (k : V l g M fr (pc + 3) L (.int 1 :: st) h Q) : V l g M fr pc L (.ref a :: st) h Q := by
  intro hl p e s m args below meth c C H locs hR hS ls hL
  have k9 := k hl p e s m args below meth c C H locs hR hS ls hL
  have hts := C.2.2.2.2.2.2.1
  have hF := C.2.2.2.2.2.2.2.1
  obtain ⟨r, f1, hrec⟩ := cellR hF hR hS hk
  obtain ⟨r', e1, e2⟩ := hE
  cases e1.symm.trans f1
  rcases e2 with ⟨rfl, e3⟩ | e2
  · exact va_instS C.1 C.2.1 C.2.2.2.2.2.1 (hts _ hcl) (hF.1 ci r e3 e1).2 hrec hd k9
  · exact va_instY C.1 C.2.1 C.2.2.2.2.2.1 (hts _ hcl) (hF.2.2.2.2.1 _ e2) hrec hd k9
theorem V.instNo {idx a ci : Nat} {w : Bool} {nm : String} (hd : decode M.2.1 pc = .ok (.instanceof idx, 3)) (hk : kd h a = some (w, .inl ci)) (hcl : Cond.classLink M.1.cls idx nm ∈ lw_all) (hE : ∃ r : vw_C, CL[ci]? = some r ∧ (r.1, nm) ∈ XWN) (k : V l g M fr (pc + 3) L (.int 0 :: st) h Q) : V l g M fr pc L (.ref a :: st) h Q := by
  intro hl p e s m args below meth c C H locs hR hS ls hL
  have k9 := k hl p e s m args below meth c C H locs hR hS ls hL
  have hts := C.2.2.2.2.2.2.1
  have hF := C.2.2.2.2.2.2.2.1
  obtain ⟨r, f1, hrec⟩ := cellR hF hR hS hk
  obtain ⟨r', e1, e2⟩ := hE
  cases e1.symm.trans f1
  exact va_instNo C.1 C.2.1 C.2.2.2.2.2.1 (hts _ hcl) (hF.2.2.2.2.2.2.2.1 _ e2) hrec hd k9
/-- a cast of an array to its own class -/
theorem V.castA {idx a t n : Nat} {nm : String} {E : String} (hd : decode M.2.1 pc = .ok (.checkcast idx, 3)) (hk : kd h a = some (true, .inr (t, n))) (ht : ATY[t]? = some (.object E)) (hcl : Cond.classLink M.1.cls idx nm ∈ lw_all) (hnm : nm = "[" ++ (FieldType.object E).toString) (k : V l g M fr (pc + 3) L (.ref a :: st) h Q) : V l g M fr pc L (.ref a :: st) h Q := by
  intro hl p e s m args below meth c C H locs hR hS ls hL
  have k9 := k hl p e s m args below meth c C H locs hR hS ls hL
  have hts := C.2.2.2.2.2.2.1
  have hF := C.2.2.2.2.2.2.2.1
  obtain ⟨f1, f2, f3⟩ := hR.1.2.1 a t n hk
  obtain ⟨kA, comp, r1, r2, r3, r4⟩ := (hF.2.1 t _ ht).2
  exact va_castE C.1 C.2.1 C.2.2.2.2.2.1 (hts _ hcl) ⟨_, f3, rfl, by rw [hnm]; exact r4⟩ hd k9
theorem V.mmax {idx : Nat} {x y : Int32} (hd : decode M.2.1 pc = .ok (.invokestatic idx, 3)) (h1 : Cond.methodLink M.1.cls idx Lib.Math.max.name ∈ lw_all) (h2 : Cond.static Lib.Math.max.name ∈ lw_all) (h3 : Cond.initialized "java/lang/Math" ∈ lw_all) (h4 : Cond.code Lib.Math.max.name Lib.Math.max.code 2 (some .int) ∈ lw_all) (hfr : 1 ≤ fr) (hst : stW st ≤ 8) (k : V l g M fr (pc + 3) L (.int (if x < y then y else x) :: st) h Q) : V l g M fr pc L (.int y :: .int x :: st) h Q := fun hl p e s m args below meth c C H locs hR hS ls hL => xlow (b := gB g) C.2.2.2.2.2.2.2.2.2.2 (fun lo1 lo2 => va_mmax C.1 C.2.1 (C.2.2.1.trans hL.1.symm) C.2.2.2.2.2.1 (C.2.2.2.2.2.2.1 _ h1) (C.2.2.2.2.2.2.1 _ h2) (C.2.2.2.2.2.2.1 _ h3) (C.2.2.2.2.2.2.1 _ h4) hfr (by show stW st + 13 ≤ 64 * fr; omega) (by show _ ≤ gL g - s.heap.size; have := hR.2.1; have := hR.2.2.2.1; omega) (by show _ ≤ gM g - SUM (gB g) s.heap; have := hR.2.2.1; have := hR.2.2.2.2; omega) hd (k hl p e s m args below meth c C H locs hR hS ls hL))
theorem V.mmin {idx : Nat} {x y : Int32} (hd : decode M.2.1 pc = .ok (.invokestatic idx, 3)) (h1 : Cond.methodLink M.1.cls idx Lib.Math.min.name ∈ lw_all) (h2 : Cond.static Lib.Math.min.name ∈ lw_all) (h3 : Cond.initialized "java/lang/Math" ∈ lw_all) (h4 : Cond.code Lib.Math.min.name Lib.Math.min.code 2 (some .int) ∈ lw_all) (hfr : 1 ≤ fr) (hst : stW st ≤ 8) (k : V l g M fr (pc + 3) L (.int (if y < x then y else x) :: st) h Q) : V l g M fr pc L (.int y :: .int x :: st) h Q := fun hl p e s m args below meth c C H locs hR hS ls hL => xlow (b := gB g) C.2.2.2.2.2.2.2.2.2.2 (fun lo1 lo2 => va_mmin C.1 C.2.1 (C.2.2.1.trans hL.1.symm) C.2.2.2.2.2.1 (C.2.2.2.2.2.2.1 _ h1) (C.2.2.2.2.2.2.1 _ h2) (C.2.2.2.2.2.2.1 _ h3) (C.2.2.2.2.2.2.1 _ h4) hfr (by show stW st + 13 ≤ 64 * fr; omega) (by show _ ≤ gL g - s.heap.size; have := hR.2.1; have := hR.2.2.2.1; omega) (by show _ ≤ gM g - SUM (gB g) s.heap; have := hR.2.2.1; have := hR.2.2.2.2; omega) hd (k hl p e s m args below meth c C H locs hR hS ls hL))
theorem V.mabs {idx : Nat} {x : Int32} (hd : decode M.2.1 pc = .ok (.invokestatic idx, 3)) (h1 : Cond.methodLink M.1.cls idx Lib.Math.abs.name ∈ lw_all) (h2 : Cond.static Lib.Math.abs.name ∈ lw_all) (h3 : Cond.initialized "java/lang/Math" ∈ lw_all) (h4 : Cond.code Lib.Math.abs.name Lib.Math.abs.code 1 (some .int) ∈ lw_all) (hfr : 1 ≤ fr) (hst : stW st ≤ 8) (k : V l g M fr (pc + 3) L (.int (if 0 ≤ x then x else 0 - x) :: st) h Q) : V l g M fr pc L (.int x :: st) h Q := fun hl p e s m args below meth c C H locs hR hS ls hL => xlow (b := gB g) C.2.2.2.2.2.2.2.2.2.2 (fun lo1 lo2 => va_mabs C.1 C.2.1 (C.2.2.1.trans hL.1.symm) C.2.2.2.2.2.1 (C.2.2.2.2.2.2.1 _ h1) (C.2.2.2.2.2.2.1 _ h2) (C.2.2.2.2.2.2.1 _ h3) (C.2.2.2.2.2.2.1 _ h4) hfr (by show stW st + 13 ≤ 64 * fr; omega) (by show _ ≤ gL g - s.heap.size; have := hR.2.1; have := hR.2.2.2.1; omega) (by show _ ≤ gM g - SUM (gB g) s.heap; have := hR.2.2.1; have := hR.2.2.2.2; omega) hd (k hl p e s m args below meth c C H locs hR hS ls hL))
/-! arraycopy -/
def cpA (h : AH) (a0 a sp dp n : Nat) : AH := (h.1, h.2.1, (fun b i => if b = a ∧ dp ≤ i ∧ i < dp + n then av h a0 (sp + (i - dp)) else av h b i), h.2.2.2)
/-- what may be copied: whole numbers of one kind, or references to objects that fit -/
def cpOK (h : AH) (t0 t1 : Nat) (a0 sp n : Nat) : Prop := (t0 = t1 ∧ (t0 = 0 ∨ t0 = 1) ∧ ∀ i, i < n → ∃ x : Int32, av h a0 (sp + i) = .int x ∧ (t0 = 1 → fits .byte (.int x) = true)) ∨ (∃ E0 E1 : String, ATY[t0]? = some (.object E0) ∧ ATY[t1]? = some (.object E1) ∧ ∀ i, i < n → av h a0 (sp + i) = .null ∨ ∃ (y ci : Nat) (w : Bool), av h a0 (sp + i) = .ref y ∧ kd h y = some (w, .inl ci) ∧ AS ci E1)
theorem RelC.copy {g : GG} {h : AH} {H H1 : Heap} {a0 a t n sp dp m : Nat} (hR : RelC g h H) (hk : kd h a = some (true, .inr (t, n))) (e1 : H1[a]? = some (arrV (gA g t) n (va_cpy (av h a0) (av h a) sp dp m))) (e3 : ∀ q, q ≠ a → H1[q]? = H[q]?) : RelC g (cpA h a0 a sp dp m) H1 := by
  refine ⟨fun b cj hb => ?_, fun b t2 n2 hb => ?_, fun b x hb => ?_⟩
  · have hba : b ≠ a := fun e => by
      have hb' : kd h b = some (true, .inl cj) := hb
      rw [e, hk] at hb'
      cases hb'
    obtain ⟨f1, f2, r2, f3, f4⟩ := hR.1 b cj hb
    exact ⟨f1, f2, r2, f3, f4.kept (e3 b hba)⟩
  · obtain ⟨f1, f2, f3⟩ := hR.2.1 b t2 n2 hb
    refine ⟨f1, f2, ?_⟩
    by_cases hba : b = a
    · subst hba
      have hb' : kd h b = some (true, .inr (t2, n2)) := hb
      rw [hk] at hb'
      cases hb'
      rw [e1]
      congr 2
      funext j
      simp [va_cpy, cpA, av]
    · rw [e3 b hba, f3]
      congr 2
      funext j
      simp [cpA, av, hba]
  · obtain ⟨f1, f2, f3, f4⟩ := hR.2.2 b x hb
    refine ⟨f1, f2, f3, fun j => ?_⟩
    have hba : b ≠ a := fun e => by
      have hb' : kd h b = some (false, x) := hb
      rw [e, hk] at hb'
      cases hb'
    rw [← f4 j]
    simp [cpA, av, hba]
theorem V.acopy {idx a0 a t0 t1 n0 n1 : Nat} {w : Bool} {sp dp n : Int32} (hd : decode M.2.1 pc = .ok (.invokestatic idx, 3)) (l1 : Cond.methodLink M.1.cls idx arraycopyName ∈ lw_all) (l2 : Cond.native arraycopyName ∈ lw_all) (l3 : Cond.static arraycopyName ∈ lw_all) (l4 : Cond.initialized "java/lang/System" ∈ lw_all) (hk0 : kd h a0 = some (w, .inr (t0, n0))) (hk1 : kd h a = some (true, .inr (t1, n1))) (h1 : ¬ sp < 0) (h2 : ¬ dp < 0) (h3 : ¬ n < 0) (h4 : sp.toNatClampNeg + n.toNatClampNeg ≤ n0) (h5 : dp.toNatClampNeg + n.toNatClampNeg ≤ n1) (hok : cpOK h t0 t1 a0 sp.toNatClampNeg n.toNatClampNeg) (hfr : 1 ≤ fr) (hst : stW st ≤ 8) (k : V l g M fr (pc + 3) L st (cpA h a0 a sp.toNatClampNeg dp.toNatClampNeg n.toNatClampNeg) Q) : V l g M fr pc L (.int n :: .int dp :: .ref a :: .int sp :: .ref a0 :: st) h Q := by
  intro hl p e s m args below meth c C H locs hR hS ls hL
  have hts := C.2.2.2.2.2.2.1
  have hF := C.2.2.2.2.2.2.2.1
  have hbase := C.2.2.2.2.2.2.2.2.2.2
  refine xlow (b := gB g) hbase (fun lo1 lo2 => ?_)
  have nn : ∀ z : Int32, ¬ z < 0 → z.toInt = (z.toNatClampNeg : Int) := by
    intro z hz
    have hz0 : (0 : Int) ≤ z.toInt := by
      have := Int32.not_lt.mp hz
      simpa using Int32.le_iff_toInt_le.mp this
    show z.toInt = ((z.toInt.toNat : Nat) : Int)
    omega
  obtain ⟨f1, f2, f3⟩ := hR.1.2.1 a t1 n1 hk1
  obtain ⟨ty0, ty1, y0, y1, yk, yv⟩ : ∃ ty0 ty1 : FieldType, ATY[t0]? = some ty0 ∧ ATY[t1]? = some ty1 ∧ (((refKind ty0 != refKind ty1) || (!refKind ty0 && ty0 != ty1)) = false) ∧ ∀ (T : State), T.heap = H → s.WarmedH T.vm → ∀ (vm' : Vm), s.vm.Alike vm' → ∀ k1 comp, s.vm.classes[gA g t1]? = some k1 → k1.kind = .array comp ty1 → ∀ i, i < n.toNatClampNeg → fits ty1 (av h a0 (sp.toNatClampNeg + i)) = true ∧ (T.setVm vm').takes comp (av h a0 (sp.toNatClampNeg + i)) := by
    rcases hok with ⟨rfl, e2, e3⟩ | ⟨E0, E1, e1, e2, e3⟩
    · have e0 : t0 < ATY.length := by rcases e2 with rfl | rfl <;> decide
      rcases e2 with rfl | rfl
      · refine ⟨.int, .int, rfl, rfl, by simp, fun T hT hW vm' hal k1 comp hk1 hkk i hi => ?_⟩
        obtain ⟨x, hx, -⟩ := e3 i hi
        rw [hx]
        exact ⟨rfl, trivial⟩
      · refine ⟨.byte, .byte, rfl, rfl, by simp, fun T hT hW vm' hal k1 comp hk1 hkk i hi => ?_⟩
        obtain ⟨x, hx, hx2⟩ := e3 i hi
        rw [hx]
        exact ⟨hx2 rfl, trivial⟩
    · refine ⟨.object E0, .object E1, e1, e2, by simp [refKind], fun T hT hW vm' hal k1 comp hk1 hkk i hi => ?_⟩
      rcases e3 i hi with h9 | ⟨y, ci, w9, hy, hky, hE⟩
      · rw [h9]
        exact ⟨rfl, trivial⟩
      · rw [hy]
        obtain ⟨cellV, g1, g2, ⟨kC, hkC⟩, g4⟩ := hE.any hF hR hS hky
        obtain ⟨kA, comp', r1, r2, r3, -⟩ := (hF.2.1 t1 _ e2).2
        cases hk1.symm.trans r1
        cases hkk.symm.trans r2
        obtain ⟨kE, hkE, -⟩ := Vm.findClass_spec r3
        obtain ⟨kC', hkC', -⟩ := hal.2.2 _ _ hkC
        obtain ⟨kE', hkE', -⟩ := hal.2.2 _ _ hkE
        refine ⟨rfl, cellV, (show T.heap[y]? = some cellV by rw [hT]; exact g1), (fun q h => by rw [h] at g2; cases g2), ⟨kC', hkC'⟩, ⟨kE', hkE'⟩, ?_⟩
        show vm'.assignable _ _ = true
        rw [hal.assignable]
        exact g4 _ r3
  obtain ⟨cs, c1, c2, c3, c4, c5, c6⟩ := cellA hF hR hS hk0 y0
  obtain ⟨hsobj, k0, hk0', cm0, hkk0⟩ := c2
  obtain ⟨-, k1, hk1', cm1, hkk1⟩ := (hF.2.1 t1 _ y1).1 n1 (av h a)
  have hw : nativeFrameWords "java/lang/System" "arraycopy" 5 ≤ 30 := by decide
  intro T hT X
  obtain ⟨vm', X', step⟩ := X.arraycopy C.1 C.2.2.2.2.2.1 (hts _ l1) (hts _ l2) (hts _ l3) (hts _ l4) (src := a0) (dst := a) (cs := cs) (cd := arrV (gA g t1) n1 (av h a)) (srcPos := sp) (destPos := dp) (n := n) (by rw [hT]; exact c1) (by rw [hT]; exact f3)
    hsobj (fun _ h => by cases h) c3 (fun h => by cases h) hk0' hk1' hkk0 hkk1 yk h1 h2 h3
    (by rw [nn sp h1, nn n h3]; omega)
    (by rw [nn dp h2, nn n h3, arrV_size]; omega)
    (fun vm₁ hal i hi => by
      have e : cs.slots.getD (sp.toNatClampNeg + i) .null = av h a0 (sp.toNatClampNeg + i) := by
        rw [Array.getD_eq_getD_getElem?, c6 _ (by omega)]
        rfl
      rw [e]
      exact yv T hT X.warmed vm₁ hal k1 cm1 hk1' hkk1 i hi)
    (g := F0 m pc ls (.int n :: .int dp :: .ref a :: .int sp :: .ref a0 :: st)) rfl (by rw [C.2.2.1]; exact hL.1) (rest := st) rfl (by rw [C.2.1]; exact hd) hfr (by show 2 * 0 + stW st + _ ≤ 64 * fr; omega)
  have e1 : copied cs (arrV (gA g t1) n1 (av h a)) sp dp n = arrV (gA g t1) n1 (va_cpy (av h a0) (av h a) sp.toNatClampNeg dp.toNatClampNeg n.toNatClampNeg) := va_copiedX (fun z => z) cs (gA g t1) (av h a0) (av h a) c6 h4
  rw [e1] at X' step
  have hl9 : a < H.size := (Array.getElem?_eq_some_iff.mp f3).1
  generalize hH1 : H.setIfInBounds a (arrV (gA g t1) n1 (va_cpy (av h a0) (av h a) sp.toNatClampNeg dp.toNatClampNeg n.toNatClampNeg)) = H1
  have z1 : H1.size = H.size := by rw [← hH1]; simp
  have e2 : H1[a]? = some (arrV (gA g t1) n1 (va_cpy (av h a0) (av h a) sp.toNatClampNeg dp.toNatClampNeg n.toNatClampNeg)) := by rw [← hH1]; simp [Array.getElem?_setIfInBounds, hl9]
  have oq : ∀ q : Nat, q ≠ a → H1[q]? = H[q]? := fun q hq => by rw [← hH1]; simp [Array.getElem?_setIfInBounds, Ne.symm hq]
  have W9 := V.go (H := H) (H1 := H1) (dc := 0) (ds := 0) k hl C ⟨lo1, lo2⟩ (hR.1.copy hk1 e2 oq) (z1.trans hR.2.1) ⟨hR.2.2.1, hR.2.2.2⟩ (locs1 := locs ++ (cs.stretch sp.toNatClampNeg n.toNatClampNeg).zipIdx.map fun q => ⟨a, dp.toNatClampNeg + q.2⟩) ⟨by rw [z1]; exact hS.1, fun q g1 g2 => by
      rw [oq q (fun e => g2 (by rw [e]; exact f1))]
      exact hS.2.1 q g1 g2, fun q hq => by
      rcases List.mem_append.mp hq with h | h
      · exact hS.2.2 q h
      · obtain ⟨z, -, hz⟩ := List.mem_map.mp h
        rw [← hz]
        exact f1⟩ (p := p) (e := e) (below := below) hL
  obtain ⟨t, a1, b1⟩ := W9 _ (show ((T.setVm vm').setCell a _).heap = H1 by rw [← hH1, ← hT]; rfl) X'
  exact ⟨t, step t a1, b1⟩
/-- Kind.values(): the clone of the constants' array -/
theorem V.cloneK {idx a : Nat} (hd : decode M.2.1 pc = .ok (.invokevirtual idx, 3)) (ha : gS g 8 = .ref a) (hk : kd h a = some (false, .inr (10, 3))) (l1 : Cond.methodLink M.1.cls idx ⟨"[LRideDesk$Kind;", "clone", "()Ljava/lang/Object;"⟩ ∈ lw_all) (l2 : Cond.sameMethod "[LRideDesk$Kind;" "java/lang/Object" "clone" "()Ljava/lang/Object;" ∈ lw_all) (l3 : Cond.native ⟨"java/lang/Object", "clone", "()Ljava/lang/Object;"⟩ ∈ lw_all) (l4 : Cond.instanceMethod ⟨"java/lang/Object", "clone", "()Ljava/lang/Object;"⟩ ∈ lw_all) (l5 : Cond.selects "[LRideDesk$Kind;" ⟨"[LRideDesk$Kind;", "clone", "()Ljava/lang/Object;"⟩ ⟨"java/lang/Object", "clone", "()Ljava/lang/Object;"⟩ ∈ lw_all) (l6 : ("[LRideDesk$Kind;", "java/lang/Cloneable") ∈ XWC) (hr : ∀ i, i < 3 → IsR (av (gO g) a i)) (hfr : 1 ≤ fr) (hst : stW st ≤ 8) (hc : nx h + 1 ≤ gL g) (hs : us h + 3 ≤ gM g) (k : V l g M fr (pc + 3) L (.ref (nx h) :: st) (cpA (nA h 10 3 .null) a (nx h) 0 0 3) Q) : V l g M fr pc L (.ref a :: st) h Q := by
  intro hl p e s m args below meth c C H locs hR hS ls hL
  have hts := C.2.2.2.2.2.2.1
  have hF := C.2.2.2.2.2.2.2.1
  have hbase := C.2.2.2.2.2.2.2.2.2.2
  refine xlow (b := gB g) hbase (fun lo1 lo2 => ?_)
  have hz := hR.2.1
  have hu := hR.2.2.1
  obtain ⟨ho1, ho2, cell, ho3, ho4, ho5, ho6, ho7⟩ := hF.2.2.2.2.2.2.2.2.2.2.2.2.2.2.2.2.2 a ha
  have hal : a < s.heap.size := (Array.getElem?_eq_some_iff.mp ho3).1
  have hcH : H[a]? = some cell := by rw [hS.2.1 a hal ho1]; exact ho3
  obtain ⟨-, -, -, hav⟩ := hR.1.2.2 a _ hk
  obtain ⟨cell2, c1, c2, c3, c4, c5, c6⟩ := cellA hF hR hS hk (ty := .object "RideDesk$Kind") rfl
  cases hcH.symm.trans c1
  obtain ⟨kA, comp, r1, r2, r3, r4⟩ := (hF.2.1 10 (.object "RideDesk$Kind") rfl).2
  have hnm : s.vm.findClass "[LRideDesk$Kind;" = some cell.cls := by rw [ho5]; exact r4
  obtain ⟨q0, q1, q2, q3, q4⟩ := Cond.castable_spec (va_Nw.use (A := args) rfl (hF.2.2.2.2.1 _ l6))
  cases hnm.symm.trans q2
  intro T hT X
  obtain ⟨kT, hkT, heT⟩ := X.warmed.alike.2.2 _ _ r1
  obtain ⟨vm', X', step⟩ := X.cloneArray C.1 C.2.2.2.2.2.1 (hts _ l1) (hts _ l2) (hts _ l3) (hts _ l4) (hts _ l5) (a := a) (cell := cell) (by rw [hT]; exact hcH) (fun z h => by rw [h] at ho6; cases ho6) ho7 hnm q3 q4
    (fun i v hv => by
      have hi : i < 3 := by rw [← ho4]; exact (Array.getElem?_eq_some_iff.mp hv).1
      have h9 := c6 i hi
      rw [hv] at h9
      have hfit : fits (.object "RideDesk$Kind") v = true := by
        rw [Option.some.inj h9, hav i]
        rcases hr i hi with h8 | ⟨b, h8⟩ <;> rw [h8] <;> rfl
      have hkind : kT.kind = .array comp (.object "RideDesk$Kind") := by rw [heT]; exact r2
      rw [ho5]
      simpa [State.fitsSlot, State.slotType?, hkT, hkind] using hfit)
    (g := F0 m pc ls (.ref a :: st)) rfl (by rw [C.2.2.1]; exact hL.1) (rest := st) rfl (by rw [C.2.1]; exact hd) hfr (by show 2 * 0 + stW st + 14 ≤ 64 * fr; omega) (by show _ ≤ gL g - s.heap.size; omega) (by rw [ho4]; show _ ≤ gM g - SUM (gB g) s.heap; omega) (hloader := by rw [ho5]; exact Vm.clonesLoader_of_array r1 r2)
  have hcell : ({ cls := cell.cls, slots := cell.slots } : Cell) = arrV (gA g 10) 3 (av h a) := by
    have h8 : cell.slots = (arrV (gA g 10) 3 (av h a)).slots := by
      apply Array.ext_getElem?
      intro i
      by_cases hi : i < 3
      · rw [c6 i hi, arrV_read _ _ hi]
      · rw [Array.getElem?_eq_none (by omega), Array.getElem?_eq_none (by rw [arrV_size]; omega)]
    rw [h8, ho5]
    rfl
  rw [hcell, ho4] at X'
  rw [hcell] at step
  generalize hH1 : H.push (arrV (gA g 10) 3 (av h a)) = H1
  have z1 : H1.size = H.size + 1 := by rw [← hH1, Array.size_push]
  have e1 : H1[nx h]? = some (arrV (gA g 10) 3 (av h a)) := by rw [← hH1, ← hz, Array.getElem?_push_size]
  have o1 : ∀ q : Nat, q < H.size → H1[q]? = H[q]? := fun q hq => by rw [← hH1, Array.getElem?_push, if_neg (Nat.ne_of_lt hq)]
  have hb9 : gB g ≤ H.size := Nat.le_trans hbase lo1
  have han : a ≠ nx h := by have := hS.1; omega
  have hN : RelC g (cpA (nA h 10 3 .null) a (nx h) 0 0 3) H1 := by
    have old : ∀ b x, kd (nA h 10 3 .null) b = some x → b ≠ nx h → kd h b = some x := fun b x hb hne => by simpa [nA, kd, hne] using hb
    refine ⟨fun b cj hb => ?_, fun b t2 n2 hb => ?_, fun b x hb => ?_⟩
    · have hbn : b ≠ nx h := fun e => by subst e; simp [nA, cpA, kd] at hb
      have hb' := old b _ hb hbn
      obtain ⟨f1, f2, r2, f3, f4⟩ := hR.1.1 b cj hb'
      exact ⟨f1, f2, r2, f3, f4.kept (o1 b (hR.1.lt hb' hb9))⟩
    · by_cases hbn : b = nx h
      · subst hbn
        have h7 : kd (cpA (nA h 10 3 .null) a (nx h) 0 0 3) (nx h) = some (true, .inr (10, 3)) := by simp [nA, cpA, kd]
        rw [h7] at hb
        cases hb
        refine ⟨by omega, by decide, ?_⟩
        rw [e1]
        show some ({ cls := gA g 10, slots := Array.ofFn (n := 3) fun j => av h a j.val, vm := .none } : Cell) = some { cls := gA g 10, slots := Array.ofFn (n := 3) fun j => av (cpA (nA h 10 3 .null) a (nx h) 0 0 3) (nx h) j.val, vm := .none }
        congr 3
        funext j
        simp [cpA, nA, av, han]
      · have hb' := old b _ hb hbn
        obtain ⟨f1, f2, f3⟩ := hR.1.2.1 b t2 n2 hb'
        refine ⟨f1, f2, ?_⟩
        rw [o1 b (hR.1.lt hb' hb9), f3]
        congr 2
        funext j
        simp [cpA, nA, av, hbn]
    · have hbn : b ≠ nx h := fun e => by subst e; simp [nA, cpA, kd] at hb
      obtain ⟨f1, f2, f3, f4⟩ := hR.1.2.2 b x (old b _ hb hbn)
      exact ⟨f1, f2, f3, fun i => by rw [← f4 i]; simp [cpA, nA, av, hbn]⟩
  have k8 : V l g M fr (pc + 3) L (.ref H.size :: st) (cpA (nA h 10 3 .null) a (nx h) 0 0 3) Q := by rw [hz]; exact k
  have W9 := V.go (H := H) (H1 := H1) (dc := 1) (ds := 3) k8 hl C ⟨lo1, lo2⟩ hN (by rw [z1, hz]; rfl) ⟨by show _ ≤ us h + 3; omega, hc, hs⟩ (hS.grow z1 o1) (p := p) (e := e) (below := below) hL
  obtain ⟨t, a1, b1⟩ := W9 ((T.setVm vm').pushCell (arrV (gA g 10) 3 (av h a))) (by rw [← hH1, ← hT]; rfl) X'
  exact ⟨t, step t (by rw [hT]; exact a1), b1⟩
end VN
