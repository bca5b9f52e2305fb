/-! ===== ends of a method ===== -/
section VE
variable {l : Launch} {g : GG} {M : MD} {fr : Nat} {pc : Nat} {L : List (Option Value)} {st : List Value} {h : AH} {Q : Res → AH → Prop}
theorem V.iret {v : Int32} (hd : decode M.2.1 pc = .ok (.ireturn, 1)) (hr : M.2.2.2.1 = some .int) (hq : Q (.inl (some (.int v))) h) : V l g M fr pc L [.int v] h Q := by
  intro hl p e s m args below meth c C H locs hR hS ls hL
  have h1 := hR.2.1
  have h2 := hR.2.2.1
  refine W.widen (k := gL g - s.heap.size) (n := gM g - SUM (gB g) s.heap) (by have := hR.2.2.2.1; omega) (by have := hR.2.2.2.2; omega) ?_
  exact vx_ret (W.iret C.1 C.2.1 (C.2.2.2.1.trans hr) (fun t ht hW => ⟨_, h, rfl, hq, by rw [ht]; exact hR, hS.F ht⟩) hS.2.2 hd C.2.2.2.2.1)
theorem V.zret {v : Int32} {ty : FieldType} (hd : decode M.2.1 pc = .ok (.ireturn, 1)) (hr : M.2.2.2.1 = some ty) (hn : narrow ty (.int v) = .int v) (hq : Q (.inl (some (.int v))) h) : V l g M fr pc L [.int v] h Q := by
  intro hl p e s m args below meth c C H locs hR hS ls hL
  have h1 := hR.2.1
  have h2 := hR.2.2.1
  refine W.widen (k := gL g - s.heap.size) (n := gM g - SUM (gB g) s.heap) (by have := hR.2.2.2.1; omega) (by have := hR.2.2.2.2; omega) ?_
  exact vx_ret (W.zret C.1 C.2.1 (C.2.2.2.1.trans hr) hn (fun t ht hW => ⟨_, h, rfl, hq, by rw [ht]; exact hR, hS.F ht⟩) hS.2.2 hd C.2.2.2.2.1)
theorem V.fret {v : UInt32} (hd : decode M.2.1 pc = .ok (.freturn, 1)) (hr : M.2.2.2.1 = some .float) (hq : Q (.inl (some (.float v))) h) : V l g M fr pc L [.float v] h Q := by
  intro hl p e s m args below meth c C H locs hR hS ls hL
  have h1 := hR.2.1
  have h2 := hR.2.2.1
  refine W.widen (k := gL g - s.heap.size) (n := gM g - SUM (gB g) s.heap) (by have := hR.2.2.2.1; omega) (by have := hR.2.2.2.2; omega) ?_
  exact vx_ret (W.fret C.1 C.2.1 (C.2.2.2.1.trans hr) (fun t ht hW => ⟨_, h, rfl, hq, by rw [ht]; exact hR, hS.F ht⟩) hS.2.2 hd C.2.2.2.2.1)
theorem V.aret {v : Value} {rt : FieldType} (hd : decode M.2.1 pc = .ok (.areturn, 1)) (hr : M.2.2.2.1 = some rt) (hrt : (∃ n, rt = .object n) ∨ ∃ t, rt = .array t) (hv : IsR v) (hq : Q (.inl (some v)) h) : V l g M fr pc L [v] h Q := by
  intro hl p e s m args below meth c C H locs hR hS ls hL
  have h1 := hR.2.1
  have h2 := hR.2.2.1
  refine W.widen (k := gL g - s.heap.size) (n := gM g - SUM (gB g) s.heap) (by have := hR.2.2.2.1; omega) (by have := hR.2.2.2.2; omega) ?_
  exact vx_ret (W.aret C.1 C.2.1 (C.2.2.2.1.trans hr) hrt hv (fun t ht hW => ⟨_, h, rfl, hq, by rw [ht]; exact hR, hS.F ht⟩) hS.2.2 hd C.2.2.2.2.1)
theorem V.vret (hd : decode M.2.1 pc = .ok (.return_, 1)) (hr : M.2.2.2.1 = none) (hq : Q (.inl none) h) : V l g M fr pc L [] h Q := by
  intro hl p e s m args below meth c C H locs hR hS ls hL
  have h1 := hR.2.1
  have h2 := hR.2.2.1
  refine W.widen (k := gL g - s.heap.size) (n := gM g - SUM (gB g) s.heap) (by have := hR.2.2.2.1; omega) (by have := hR.2.2.2.2; omega) ?_
  exact vx_ret (W.vret C.1 C.2.1 (C.2.2.2.1.trans hr) (fun t ht hW => ⟨_, h, rfl, hq, by rw [ht]; exact hR, hS.F ht⟩) hS.2.2 hd C.2.2.2.2.1)
/-- not caught here -/
theorem VT.out {E : String} {q : Nat} (hpass : ∀ z ∈ M.2.2.2.2, ¬ (z.1 ≤ pc ∧ pc < z.2.1) ∨ (z.2.2.2 ≠ 0 ∧ ∃ nm : String, Cond.classLink M.1.cls z.2.2.2 nm ∈ lw_all ∧ (E, nm) ∈ XWN)) (hq : Q (.inr (E, q)) h) : VT l g M fr pc L E q h Q := by
  intro hl p e s m args below meth c C H locs hR hS hce ls hL rest
  obtain ⟨ce, c1, c2, c3⟩ := hce
  have h1 := hR.2.1
  have h2 := hR.2.2.1
  refine vx_outP (own := M.1.cls) C.2.2.2.2.2.1 C.2.2.2.2.1 (fun z hz => ?_) c1 c2 c3 (fun t ht hW => ⟨h, hq, by rw [ht]; exact hR, hS.F ht⟩) hS.2.2 (by have := hR.2.2.2.1; omega) (by have := hR.2.2.2.2; omega)
  rw [C.2.2.2.2.2.2.2.2.1] at hz
  obtain ⟨w, hw, rfl⟩ := List.mem_map.mp hz
  rcases hpass w hw with h9 | ⟨h9, nm, h10, h11⟩
  · refine Or.inl ?_
    simp only [covers, Bool.and_eq_false_iff, decide_eq_false_iff_not]
    omega
  · exact Or.inr ⟨h9, nm, C.2.2.2.2.2.2.1 _ h10, C.2.2.2.2.2.2.2.1.2.2.2.2.2.2.2.1 _ h11⟩
/-- caught here -/
theorem VT.catch {E : String} {q : Nat} (pre suf : List (Nat × Nat × Nat × Nat)) (x : Nat × Nat × Nat × Nat) (hsplit : M.2.2.2.2 = pre ++ x :: suf) (hpass : ∀ z ∈ pre, ¬ (z.1 ≤ pc ∧ pc < z.2.1) ∨ (z.2.2.2 ≠ 0 ∧ ∃ nm : String, Cond.classLink M.1.cls z.2.2.2 nm ∈ lw_all ∧ (E, nm) ∈ XWN)) (hx : x.1 ≤ pc ∧ pc < x.2.1) (hct : x.2.2.2 = 0 ∨ ∃ nm : String, Cond.classLink M.1.cls x.2.2.2 nm ∈ lw_all ∧ (E, nm) ∈ XWC) (k : V l g M fr x.2.2.1 L [.ref q] h Q) : VT l g M fr pc L E q h Q := by
  intro hl p e s m args below meth c C H locs hR hS hce ls hL rest
  have k9 := k hl p e s m args below meth c C H locs hR hS ls hL
  obtain ⟨ce, c1, c2, c3⟩ := hce
  intro T hT X
  have hpl : e.platform.magicAccessors = ({} : Platform).magicAccessors := by rw [X.admits.platform]
  obtain ⟨vm', X', st⟩ := X.thenCaughtThrough q (g := F0 m pc ls rest) rfl (Steps.refl _) (by rw [hT]; exact c1) (by rw [c2]; rfl) (by obtain ⟨k9, h9, -⟩ := Vm.findClass_spec c3; exact ⟨k9, h9⟩) (tableOf pre) ⟨x.1, x.2.1, x.2.2.1, x.2.2.2⟩ (tableOf suf) (by rw [C.2.2.2.2.2.2.2.2.1, hsplit]; simp [tableOf])
    (fun z hz => by
      obtain ⟨w, hw, rfl⟩ := List.mem_map.mp hz
      rcases hpass w hw with h9 | ⟨h9, nm, h10, h11⟩
      · refine Or.inl ?_
        simp only [covers, Bool.and_eq_false_iff, decide_eq_false_iff_not]
        show ¬ w.1 ≤ pc ∨ ¬ pc < w.2.1
        omega
      · obtain ⟨c6, hc6, hcl6⟩ := Cond.classLink_spec C.2.2.2.2.2.1 (C.2.2.2.2.2.2.1 _ h10) e.platform hpl
        obtain ⟨a8, b8, h1, h2, h3⟩ := C.2.2.2.2.2.2.2.1.2.2.2.2.2.2.2.1 _ h11
        cases Option.some.inj (h1.symm.trans c3)
        cases Option.some.inj (h2.symm.trans hc6)
        exact Or.inr ⟨h9, _, hcl6, h3⟩) (by simp only [covers, Bool.and_eq_true, decide_eq_true_eq]; exact hx)
    (by
      rcases hct with h9 | ⟨nm, h10, h11⟩
      · exact Or.inl h9
      · by_cases h0 : x.2.2.2 = 0
        · exact Or.inl h0
        · obtain ⟨cc3, cc4, hc3, hc4, hasg⟩ := Cond.castable_spec (va_Nw.use (A := args) rfl (C.2.2.2.2.2.2.2.1.2.2.2.2.1 _ h11))
          cases Option.some.inj (hc3.symm.trans c3)
          obtain ⟨c5, hc5, hcl5⟩ := Cond.classLink_spec C.2.2.2.2.2.1 (C.2.2.2.2.2.2.1 _ h10) e.platform hpl
          cases Option.some.inj (hc4.symm.trans hc5)
          exact Or.inr ⟨h0, _, hcl5, hasg⟩)
  obtain ⟨t, a1, b1⟩ := k9 (T.setVm vm') hT X'
  exact ⟨t, st.trans a1, b1⟩
theorem V.athrow {E : String} {q ci : Nat} {w : Bool} (hd : decode M.2.1 pc = .ok (.athrow, 1)) (hk : kd h q = some (true, .inl ci)) (hE : ∃ r : vw_C, CL[ci]? = some r ∧ r.1 = E) (k : VT l g M fr pc L E q h Q) : V l g M fr pc L (.ref q :: st) h Q := by
  intro hl p e s m args below meth c C H locs hR hS ls hL
  obtain ⟨e1, e2, r, e3, cell, q1, q2, q3, q4⟩ := hR.1.1 q ci hk
  obtain ⟨r', f1, rfl⟩ := hE
  cases f1.symm.trans e3
  exact vx_athrow C.1 C.2.1 hd (k hl p e s m args below meth c C H locs hR hS ⟨cell, q1, q3, by rw [q2]; exact (C.2.2.2.2.2.2.2.1.1 ci r e2 e3).2.1⟩ ls hL st)
end VE
/-! ===== a contract out of a walk ===== -/
theorem rm_frames {g : GG} {fr n0 s0 : Nat} : (rmG g fr n0 s0).frames = fr := rfl
theorem Sp.ofV {l : Launch} {g : GG} {M : MD} {fr : Nat} {as : List Value} {h : AH} {Q : Res → AH → Prop} {L : List (Option Value)} (hhh : M.2.2.2.2 = []) (hpl : plainName M.1.cls = true) (hc : ∀ w ∈ as, w.category = 1) (hn : (lg_sl as).length ≤ M.2.2.1) (hLL : as.map some ++ List.replicate (M.2.2.1 - as.length) none = L) (k : V l g M fr 0 L [] h Q) : Sp l g M fr as h Q := by
  obtain ⟨y, cc, nL, ret, hh⟩ := M
  dsimp only at hhh hpl hn hLL
  subst hhh
  intro hl n0 s0
  refine vx_ofW (cc := cc) (maxL := nL) (ret := ret) hpl rfl ?_
  intro p e s m args below meth c s₁ B hml hex hv
  obtain ⟨rfl, h1, h2, h3, hF, hR⟩ := hv
  have hts := atoms_spec (ws := ws_ y cc nL ret) B.pre
  have hts : ∀ w ∈ lw_all, w.before _ s = true := fun w h => hts w (List.mem_cons_of_mem _ h)
  have hLh := Lh.entry (n := nL) hc hn hLL
  rw [lg_entry_eq]
  have k9 := k hl p e s m as.toArray below meth c ⟨B.exec, B.bytes, hml, B.returns, B.notSynchronized, findClass_of_methodNamed B.named, hts, hF, by
      show c.exceptionTable.toList = []
      cases hx : c.exceptionTable.toList with
      | nil => rfl
      | cons x r => exact (hex x (by rw [hx]; exact List.mem_cons_self)).elim, (name_of_methodNamed B.named B.method).1, by rw [h1]; exact h3⟩ s.heap [] hR va_S.rf _ hLh
  subst h1
  subst h2
  simp only [Nat.sub_self] at k9
  exact k9
theorem Sp.ofVW {l : Launch} {g : GG} {M : MD} {fr : Nat} {as : List Value} {h : AH} {Q : Res → AH → Prop} {L : List (Option Value)} {x : Nat × Nat × Nat × Nat} {r : List (Nat × Nat × Nat × Nat)} (hhh : M.2.2.2.2 = x :: r) (hpl : plainName M.1.cls = true) (hc : ∀ w ∈ as, w.category = 1) (hn : (lg_sl as).length ≤ M.2.2.1) (hLL : as.map some ++ List.replicate (M.2.2.1 - as.length) none = L) (k : V l g M fr 0 L [] h Q) : Sp l g M fr as h Q := by
  obtain ⟨y, cc, nL, ret, hh⟩ := M
  dsimp only at hhh hpl hn hLL
  subst hhh
  intro hl n0 s0
  refine vx_ofWH (cc := cc) (maxL := nL) (ret := ret) (hh := x :: r) hpl rfl ?_
  intro p e s m args below meth c s₁ B hml hv
  obtain ⟨rfl, h1, h2, h3, hF, hR⟩ := hv
  have hts := atoms_spec (ws := wsW_ y cc nL ret (x :: r)) B.pre
  have htab : c.exceptionTable.toList = tableOf (x :: r) := vx_table (x := y) (y := y) B (hts _ List.mem_cons_self)
  have hts : ∀ w ∈ lw_all, w.before _ s = true := fun w h => hts w (List.mem_cons_of_mem _ h)
  have hLh := Lh.entry (n := nL) hc hn hLL
  rw [lg_entry_eq]
  have k9 := k hl p e s m as.toArray below meth c ⟨B.exec, B.bytes, hml, B.returns, B.notSynchronized, findClass_of_methodNamed B.named, hts, hF, htab, (name_of_methodNamed B.named B.method).1, by rw [h1]; exact h3⟩ s.heap [] hR va_S.rf _ hLh
  subst h1
  subst h2
  simp only [Nat.sub_self] at k9
  exact k9
