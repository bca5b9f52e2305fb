/-! ===== the abstract heap: which object or array stands where, what its fields and places hold ===== -/
abbrev AKd : Type := Bool × (Nat ⊕ (Nat × Nat))
abbrev AH : Type := (Nat → Option AKd) × (Nat → Nat → Value) × (Nat → Nat → Value) × Nat × Nat
def kd (h : AH) : Nat → Option AKd := h.1
def fv (h : AH) : Nat → Nat → Value := h.2.1
def av (h : AH) : Nat → Nat → Value := h.2.2.1
def nx (h : AH) : Nat := h.2.2.2.1
def us (h : AH) : Nat := h.2.2.2.2
/-- classes' numbers, their fields' places, arrays' class numbers; the first new address; statics; the two limits; the old cells -/
abbrev GG : Type := ((Nat → ClassId) × (Nat → Nat → Nat) × (Nat → ClassId)) × Nat × (Nat → Value) × (Nat × Nat) × AH × (Nat → Nat)
def gD (g : GG) : va_G := (g.1.1, g.1.2.1)
def gA (g : GG) : Nat → ClassId := g.1.2.2
def gB (g : GG) : Nat := g.2.1
def gS (g : GG) : Nat → Value := g.2.2.1
def gL (g : GG) : Nat := g.2.2.2.1.1
def gM (g : GG) : Nat := g.2.2.2.1.2
def gO (g : GG) : AH := g.2.2.2.2.1
/-- the String constants' addresses, by their numbers -/
def gT (g : GG) : Nat → Nat := g.2.2.2.2.2
def SUM (b : Nat) (H : Heap) : Nat := ((H.toList.drop b).map (fun c => c.slots.size)).sum
abbrev gF (g : GG) : Nat → Prop := fun q => gB g ≤ q
/-- the abstract heap h tells of the heap H -/
def RelC (g : GG) (h : AH) (H : Heap) : Prop :=
  (∀ (a : Nat) (ci : Nat), kd h a = some (true, .inl ci) → gB g ≤ a ∧ ci < NNEW ∧ ∃ r : vw_C, CL[ci]? = some r ∧ t_OB a ((gD g).1 ci) r.2.2 ((gD g).2 ci) H (fun k => fv h (FLD ci k) a)) ∧
  (∀ (a : Nat) (t n : Nat), kd h a = some (true, .inr (t, n)) → gB g ≤ a ∧ t < ATY.length ∧ H[a]? = some (arrV (gA g t) n (av h a))) ∧
  (∀ (a : Nat) (x : Nat ⊕ (Nat × Nat)), kd h a = some (false, x) → a < gB g ∧ kd (gO g) a = some (false, x) ∧ (∀ f, fv h f a = fv (gO g) f a) ∧ (∀ i, av h a i = av (gO g) a i))
def Rel (g : GG) (h : AH) (H : Heap) : Prop := RelC g h H ∧ H.size = nx h ∧ SUM (gB g) H ≤ us h ∧ nx h ≤ gL g ∧ us h ≤ gM g
/-- what is known of the tables, of statics, of old cells, at a state -/
def Fx (g : GG) (U : State) : Prop :=
  (∀ (c : Nat) (q : vw_C), c < NNEW → CL[c]? = some q → u_Kn U q.1 q.2.1 q.2.2 ((gD g).1 c) ((gD g).2 c)) ∧
  (∀ (t : Nat) (ty : FieldType), ATY[t]? = some ty → ArrOfT U (gA g t) ty ∧ va_RA U (gA g t) ty) ∧
  (∀ w ∈ XWF, va_Nw (.fieldLinkNest w.1 w.2.1 w.2.2.1 w.2.2.2.1 w.2.2.2.2.1 w.2.2.2.2.2) U) ∧
  (∀ w ∈ XWM, va_Nw (.methodLinkNest w.1 w.2.1 w.2.2.1 w.2.2.2) U) ∧
  (∀ w ∈ XWC, va_Nw (.castable w.1 w.2) U) ∧
  (∀ w ∈ XWA, va_AO w U) ∧
  (∀ w ∈ XWI, va_Fw w.1 w.2.1 w.2.2 U) ∧
  (∀ w ∈ XWN, va_Nc w.1 w.2 U) ∧
  (∀ w ∈ XST, va_Z w.1 w.2.1 w.2.2.1 (gS g w.2.2.2) (gF g) U U.heap) ∧
  (∀ w ∈ XSQ, vx_Zq w.1 w.2.1 w.2.2 (gF g) U U.heap) ∧
  (∀ w ∈ XSR, vk_R w.1 w.2.1 w.2.2.1 (gT g w.2.2.2) U) ∧
  (∀ (a ci : Nat), kd (gO g) a = some (false, .inl ci) → ∃ r : vw_C, CL[ci]? = some r ∧ va_O r.1 a (gF g) U U.heap ∧ ∀ k, k < r.2.2 → va_OF (r.2.1 k).1 (r.2.1 k).2.1 (r.2.1 k).2.2.1 (fv (gO g) (FLD ci k) a) a (gF g) U U.heap) ∧
  (∀ (a t n : Nat), kd (gO g) a = some (false, .inr (t, n)) → n < 2 ^ 31 ∧ ∃ ty : FieldType, ATY[t]? = some ty ∧ va_T ty a n (av (gO g) a) (gF g) U U.heap) ∧
  (∀ w ∈ XWD, va_Nw (.declares w) U) ∧
  (∀ w ∈ XML, va_Nw (.methodLink w.1 w.2.1 w.2.2) U) ∧
  (∀ w ∈ XIC, ∀ U9 : State, U.WarmedH U9.vm → va_Nw (.interfaceMethod w.1 w.2.1 w.2.2.1 w.2.2.2) U9 ∧ va_Nw (.declares ⟨w.2.1, w.2.2.1, w.2.2.2⟩) U9) ∧
  ((∀ w ∈ XPU, va_Nw (.publicMethod w.1) U ∧ va_Nw (.unhidden w.2 w.1.name w.1.desc) U) ∧ ∀ y ∈ XPR, va_Nw (.privateMethod y) U) ∧
  (∀ v : Nat, gS g 8 = .ref v → ¬ gF g v ∧ kd (gO g) v = some (false, .inr (10, 3)) ∧ ∃ cell : Cell, U.heap[v]? = some cell ∧ cell.slots.size = 3 ∧ cell.cls = gA g 10 ∧ cell.vm.isStatics = false ∧ cell.vm ≠ .unknown)
theorem Fx.warm {g : GG} {s U : State} (hW : s.WarmedH U.vm) (hH : ∀ q : Nat, q < s.heap.size → ¬ gF g q → U.heap[q]? = s.heap[q]?) (hx : ∀ w ∈ XWI, w.2.1.cls ≠ "java/lang/invoke/MethodHandle" ∧ w.2.1.cls ≠ "java/lang/invoke/VarHandle") (h : Fx g s) : Fx g U := by
  obtain ⟨h1, h2, h3, h4, h5, h6, h7, h8, h9, h10, h11, h12, h13, h14, h15, h16, h17, h18⟩ := h
  have ha := hW.alike
  refine ⟨fun c q hc hq => u_Kn_moved ha (h1 c q hc hq), fun t ty ht => ⟨arrOfT_moved ha (h2 t ty ht).1, (h2 t ty ht).2.moved ha⟩, fun w hw => va_Nw.warmF hW (h3 w hw), fun w hw => va_Nw.warmM hW (h4 w hw), fun w hw => va_Nw.warmC hW (h5 w hw), fun w hw => va_AO.moved ha (h6 w hw), fun w hw => va_Fw.moved (hx w hw) ha (h7 w hw), fun w hw => va_Nc.moved ha (h8 w hw), fun w hw => (va_Z.moved ha (h9 w hw)).kept hH, fun w hw => (vx_Zq.moved ha (h10 w hw)).kept hH, fun w hw => vk_R.warm hW (h11 w hw), fun a ci hk => ?_, fun a t n hk => ?_, fun w hw => va_Nw.warmD hW (h14 w hw), fun w hw => ?_, fun w hw => ?_, ⟨fun w hw => ?_, fun y hy => ?_⟩, fun v hv => ?_⟩
  · obtain ⟨r, e1, e2, e3⟩ := h12 a ci hk
    exact ⟨r, e1, (va_O.moved ha e2).kept hH, fun k hk => (va_OF.moved ha (e3 k hk)).kept hH⟩
  · obtain ⟨e0, ty, e1, e2⟩ := h13 a t n hk
    exact ⟨e0, ty, e1, (va_T.moved ha e2).kept hH⟩
  · exact word_at hW (Or.inl rfl) (h15 w hw)
  · exact fun U9 h9 => h16 w hw U9 (State.WarmedH.trans hW h9)
  · obtain ⟨f1, f2⟩ := h17.1 w hw
    exact ⟨va_tabs rfl (rfl : (s.setVm U.vm).vm = U.vm) (by rw [Cond.publicMethod_setVm ha]; exact f1), va_tabs rfl (rfl : (s.setVm U.vm).vm = U.vm) (by rw [Cond.unhidden_setVm ha]; exact f2)⟩
  · exact va_tabs rfl (rfl : (s.setVm U.vm).vm = U.vm) (by rw [Cond.privateMethod_setVm ha]; exact h17.2 y hy)
  · obtain ⟨f1, f0, cell, f2, f3⟩ := h18 v hv
    exact ⟨f1, f0, cell, by rw [hH v (Array.getElem?_eq_some_iff.mp f2).1 f1]; exact f2, f3⟩
/-! ===== methods, contracts, the judgement ===== -/
abbrev MD : Type := MethodName × ByteArray × Nat × Option FieldType × List (Nat × Nat × Nat × Nat)
abbrev Res : Type := Option Value ⊕ (String × Nat)
def wsM (M : MD) : List Cond := match M.2.2.2.2 with
  | [] => ws_ M.1 M.2.1 M.2.2.1 M.2.2.2.1
  | hh => wsW_ M.1 M.2.1 M.2.2.1 M.2.2.2.1 hh
def QcG (g : GG) (Q : Res → AH → Prop) : Array Value → State → Outcome → State → Prop := fun _ st o t => ∃ (v : Option Value) (h1 : AH), o = .returned v ∧ Q (.inl v) h1 ∧ Rel g h1 t.heap ∧ va_F (gF g) st t
def XcG (g : GG) (Q : Res → AH → Prop) : String → Addr → State → State → Prop := fun E q st t => ∃ h1 : AH, Q (.inr (E, q)) h1 ∧ Rel g h1 t.heap ∧ va_F (gF g) st t
abbrev rmG (g : GG) (fr n0 s0 : Nat) : Room := { frames := fr, cells := gL g - n0, slots := gM g - s0, locals := 64 * fr }
def PcG (g : GG) (h : AH) (n0 s0 : Nat) : State → Prop := fun U => U.heap.size = n0 ∧ SUM (gB g) U.heap = s0 ∧ gB g ≤ n0 ∧ Fx g U ∧ Rel g h U.heap
/-- the contract: called with as over the abstract heap h, the method comes to an end that Q knows -/
def Sp (l : Launch) (g : GG) (M : MD) (fr : Nat) (as : List Value) (h : AH) (Q : Res → AH → Prop) : Prop :=
  l.stackTraces = false → ∀ n0 s0 : Nat, vx_Met l M.1 (wsM M) (rmG g fr n0 s0) (va_Pc as (PcG g h n0 s0)) (QcG g Q) (XcG g Q) (gL g - n0) (gM g - s0) (gF g)
def Cx (l : Launch) (g : GG) (M : MD) (p : Program) (s : State) (m : MethodId) (args : Array Value) (meth : Method) (c : Code) : Prop :=
  p.tables.exec = Jvm.exec ∧ c.code = M.2.1 ∧ c.maxLocals = M.2.2.1 ∧ meth.sig.returnType = M.2.2.2.1 ∧ meth.locks = false ∧ s.vm.findClass M.1.cls = some m.cls ∧ (∀ w ∈ lw_all, w.before args s = true) ∧ Fx g s ∧ c.exceptionTable.toList = tableOf M.2.2.2.2 ∧ meth.name = M.1.name ∧ gB g ≤ s.heap.size
/-- the locals -/
def Lh (ls : Array Slot) (nL : Nat) (L : List (Option Value)) : Prop := ls.size = nL ∧ lv_wf ls ∧ ∀ (i : Nat) (v : Value), L[i]? = some (some v) → ls[i]? = some (.val v) ∧ v.category = 1
/-- the judgement: from pc, with locals L, stack st, abstract heap h, the method comes to an end that Q knows -/
def V (l : Launch) (g : GG) (M : MD) (fr : Nat) (pc : Nat) (L : List (Option Value)) (st : List Value) (h : AH) (Q : Res → AH → Prop) : Prop :=
  l.stackTraces = false → ∀ (p : Program) (e : Env) (s : State) (m : MethodId) (args : Array Value) (below : List Frame) (meth : Method) (c : Code), Cx l g M p s m args meth c → ∀ (H : Heap) (locs : List Loc), Rel g h H → va_S (gF g) s.heap H locs → ∀ ls : Array Slot, Lh ls M.2.2.1 L →
    W p l e (rmG g fr s.heap.size (SUM (gB g) s.heap)) s m args below meth c H locs (H.size - s.heap.size) (SUM (gB g) H - SUM (gB g) s.heap) (vx_MQ below (QcG g Q) (XcG g Q) args s (gL g - s.heap.size) (gM g - SUM (gB g) s.heap) (gF g)) (F0 m pc ls st)
/-- .. with q thrown at pc -/
def VT (l : Launch) (g : GG) (M : MD) (fr : Nat) (pc : Nat) (L : List (Option Value)) (E : String) (q : Nat) (h : AH) (Q : Res → AH → Prop) : Prop :=
  l.stackTraces = false → ∀ (p : Program) (e : Env) (s : State) (m : MethodId) (args : Array Value) (below : List Frame) (meth : Method) (c : Code), Cx l g M p s m args meth c → ∀ (H : Heap) (locs : List Loc), Rel g h H → va_S (gF g) s.heap H locs → (∃ ce : Cell, H[q]? = some ce ∧ ce.vm = .none ∧ s.vm.findClass E = some ce.cls) → ∀ ls : Array Slot, Lh ls M.2.2.1 L → ∀ rest : List Value,
    vx_W p l e (rmG g fr s.heap.size (SUM (gB g) s.heap)) s m args below meth c H locs (H.size - s.heap.size) (SUM (gB g) H - SUM (gB g) s.heap) (vx_MQ below (QcG g Q) (XcG g Q) args s (gL g - s.heap.size) (gM g - SUM (gB g) s.heap) (gF g)) (F0 m pc ls rest) q
/-! ===== the counts of a stand, made tight ===== -/
theorem SUM_split {b n : Nat} {H : Heap} (hb : b ≤ n) (hn : n ≤ H.size) : SUM b H = (((H.toList.take n).drop b).map (fun c => c.slots.size)).sum + ((H.toList.drop n).map (fun c => c.slots.size)).sum := by
  unfold SUM
  have h1 : H.toList.drop b = (H.toList.take n).drop b ++ H.toList.drop n := by
    have h2 : H.toList = H.toList.take n ++ H.toList.drop n := (List.take_append_drop n _).symm
    have h3 : b ≤ (H.toList.take n).length := by simp; omega
    calc H.toList.drop b = (H.toList.take n ++ H.toList.drop n).drop b := by rw [← h2]
      _ = (H.toList.take n).drop b ++ H.toList.drop n := List.drop_append_of_le_length h3
  rw [h1, List.map_append, List.sum_append]
theorem SUM_old {b : Nat} {H0 H : Heap} (hz : H0.size ≤ H.size) (hs : ∀ (a : Nat) (c : Cell), H0[a]? = some c → ∃ c' : Cell, H[a]? = some c' ∧ c'.slots.size = c.slots.size) : (((H.toList.take H0.size).drop b).map (fun c => c.slots.size)).sum = SUM b H0 := by
  unfold SUM
  congr 1
  apply List.ext_getElem?
  intro i
  rw [List.getElem?_map, List.getElem?_map, List.getElem?_drop, List.getElem?_drop]
  by_cases hi : b + i < H0.size
  · rw [List.getElem?_take_of_lt hi]
    obtain ⟨c', e1, e2⟩ := hs (b + i) _ (Array.getElem?_eq_getElem hi)
    rw [Array.getElem?_toList, Array.getElem?_toList, e1, Array.getElem?_eq_getElem hi]
    simp [e2]
  · rw [List.getElem?_eq_none (by simp; omega), List.getElem?_eq_none (by simp; omega)]
section XT
variable {p : Program} {l : Launch} {e : Env} {R : Room} {s : State} {m : MethodId} {args : Array Value} {below : List Frame} {meth : Method} {c : Code} {H : Heap} {locs : List Loc} {cells slots : Nat} {Q : State → Prop}
theorem stand_tight {T : State} {b : Nat} (hb : b ≤ s.heap.size) (X : Stand p l e R s m args below meth c T locs cells slots) : T.heap.size ≤ s.heap.size + cells ∧ SUM b T.heap ≤ SUM b s.heap + slots ∧ (s.heap.size ≤ T.heap.size ∧ SUM b s.heap ≤ SUM b T.heap) ∧ Stand p l e R s m args below meth c T locs (T.heap.size - s.heap.size) (SUM b T.heap - SUM b s.heap) := by
  obtain ⟨q1, q2, q3, q4, q5, q6⟩ := X.same
  have hz : s.heap.size ≤ T.heap.size := q2
  have h1 := SUM_split (H := T.heap) hb hz
  rw [SUM_old hz (fun a c hc => by obtain ⟨c', e1, -, e3, -⟩ := q6 a c hc; exact ⟨c', e1, e3⟩)] at h1
  have q3' : T.heap.size ≤ s.heap.size + cells := q3
  have q5' : ((T.heap.toList.drop s.heap.size).map (fun c => c.slots.size)).sum ≤ slots := q5
  refine ⟨q3', by omega, ⟨hz, by omega⟩, { X with same := ⟨q1, q2, ?_, q4, ?_, q6⟩ }⟩
  · show T.heap.size ≤ s.heap.size + (T.heap.size - s.heap.size)
    omega
  · show ((T.heap.toList.drop s.heap.size).map (fun c => c.slots.size)).sum ≤ _
    omega
/-- any counts will do: the tight ones are had -/
theorem xtight {b : Nat} {g : JFrame} (hb : b ≤ s.heap.size) (k : H.size ≤ s.heap.size + cells → SUM b H ≤ SUM b s.heap + slots → W p l e R s m args below meth c H locs (H.size - s.heap.size) (SUM b H - SUM b s.heap) Q g) : W p l e R s m args below meth c H locs cells slots Q g := by
  intro T hT X
  obtain ⟨h1, h2, -, X'⟩ := stand_tight hb X
  subst hT
  exact k h1 h2 T rfl X'
theorem xlow {b : Nat} {g : JFrame} (hb : b ≤ s.heap.size) (k : s.heap.size ≤ H.size → SUM b s.heap ≤ SUM b H → W p l e R s m args below meth c H locs cells slots Q g) : W p l e R s m args below meth c H locs cells slots Q g := by
  intro T hT X
  obtain ⟨h1, h2, h3, X'⟩ := stand_tight hb X
  subst hT
  exact k h3.1 h3.2 T rfl X
theorem xtightX {b : Nat} {g : JFrame} {q : Addr} (hb : b ≤ s.heap.size) (k : H.size ≤ s.heap.size + cells → SUM b H ≤ SUM b s.heap + slots → vx_W p l e R s m args below meth c H locs (H.size - s.heap.size) (SUM b H - SUM b s.heap) Q g q) : vx_W p l e R s m args below meth c H locs cells slots Q g q := by
  intro T hT X
  obtain ⟨h1, h2, -, X'⟩ := stand_tight hb X
  subst hT
  exact k h1 h2 T rfl X'
end XT
/-! ===== locals ===== -/
def Ll (L : List (Option Value)) : List (Nat × Value) := (List.range L.length).filterMap (fun i => (L[i]?.join).map (fun v => (i, v)))
theorem Ll_mem {L : List (Option Value)} {i : Nat} {v : Value} : (i, v) ∈ Ll L ↔ L[i]? = some (some v) := by
  unfold Ll
  rw [List.mem_filterMap]
  constructor
  · rintro ⟨j, -, hj⟩
    cases h : L[j]? with
    | none => simp [h] at hj
    | some o =>
      cases o with
      | none => simp [h] at hj
      | some w =>
        simp [h] at hj
        obtain ⟨rfl, rfl⟩ := hj
        exact h
  · intro h
    have hl : i < L.length := (List.getElem?_eq_some_iff.mp h).1
    exact ⟨i, List.mem_range.mpr hl, by simp [h]⟩
theorem Lh.has {ls : Array Slot} {nL : Nat} {L : List (Option Value)} (h : Lh ls nL L) : lv_has ls nL (Ll L) := ⟨h.1, h.2.1, fun q hq => (h.2.2 q.1 q.2 (Ll_mem.mp hq)).1⟩
theorem Lh.at {ls : Array Slot} {nL : Nat} {L : List (Option Value)} (h : Lh ls nL L) {i : Nat} {v : Value} (hi : L[i]? = some (some v)) : ls[i]? = some (.val v) := (h.2.2 i v hi).1
theorem Lh.set {ls ls' : Array Slot} {nL : Nat} {L : List (Option Value)} (h : Lh ls nL L) {i : Nat} {v : Value} (hv : v.category = 1) (h' : lv_has ls' nL ((i, v) :: (Ll L).filter (fun q => !(q.1 == i) && !(q.1 + 1 == i && q.2.category == 2)))) : Lh ls' nL (L.set i (some v)) := by
  refine ⟨h'.1, h'.2.1, fun j w hj => ?_⟩
  by_cases hji : j = i
  · subst hji
    have hl : j < (L.set j (some v)).length := (List.getElem?_eq_some_iff.mp hj).1
    rw [List.getElem?_set_self (by simpa using hl)] at hj
    cases hj
    exact ⟨h'.2.2 (j, v) List.mem_cons_self, hv⟩
  · rw [List.getElem?_set_ne (Ne.symm hji)] at hj
    have h2 := h.2.2 j w hj
    refine ⟨h'.2.2 (j, w) (List.mem_cons_of_mem _ (List.mem_filter.mpr ⟨Ll_mem.mpr hj, ?_⟩)), h2.2⟩
    simp [hji, h2.2]
theorem lv_args_mem : ∀ (vs : List Value) (o i : Nat) (v : Value), (∀ w ∈ vs, w.category = 1) → vs[i]? = some v → (o + i, v) ∈ lv_args o vs
  | [], _, _, _, _, h => by simp at h
  | w :: vs, o, i, v, hc, h => by
    have hw : w.category = 1 := hc w List.mem_cons_self
    cases i with
    | zero =>
      simp at h
      subst h
      simp [lv_args]
    | succ i =>
      simp at h
      have h2 := lv_args_mem vs (o + 1) i v (fun w h => hc w (List.mem_cons_of_mem _ h)) h
      simp only [lv_args, hw]
      refine List.mem_cons_of_mem _ ?_
      have e : o + (i + 1) = o + 1 + i := by omega
      rw [e]
      exact h2
theorem Lh.entry {as : List Value} {n : Nat} {L : List (Option Value)} (hc : ∀ w ∈ as, w.category = 1) (hl : (lg_sl as).length ≤ n) (hL : as.map some ++ List.replicate (n - as.length) none = L) : Lh ((lg_sl as ++ List.replicate (n - (lg_sl as).length) Slot.unset).toArray) n L := by
  obtain ⟨h1, h2, h3⟩ := lv_entry as (n := n) hl
  refine ⟨h1, h2, fun i v hi => ?_⟩
  subst hL
  by_cases hi2 : i < as.length
  · rw [List.getElem?_append_left (by simpa using hi2), List.getElem?_map] at hi
    cases ha : as[i]? with
    | none => simp [ha] at hi
    | some w =>
      simp [ha] at hi
      subst hi
      have h4 := lv_args_mem as 0 i w hc ha
      rw [Nat.zero_add] at h4
      exact ⟨h3 (i, w) h4, hc w (List.mem_of_getElem? ha)⟩
  · rw [List.getElem?_append_right (by simpa using hi2)] at hi
    rw [List.getElem?_replicate] at hi
    split at hi <;> simp at hi
section VR
variable {l : Launch} {g : GG} {M : MD} {fr : Nat} {pc : Nat} {L : List (Option Value)} {st : List Value} {h : AH} {Q : Res → AH → Prop}
def IsR (v : Value) : Prop := v = .null ∨ ∃ a, v = .ref a
theorem IsR.ref {a : Nat} : IsR (.ref a) := Or.inr ⟨a, rfl⟩
theorem IsR.rf {r : Option Nat} : IsR (va_rf r) := va_rf_or r
theorem IsR.null : IsR .null := Or.inl rfl
theorem cat_rf {r : Option Nat} : (va_rf r).category = 1 := by cases r <;> rfl
theorem IsR.cat {v : Value} (h : IsR v) : v.category = 1 := by rcases h with rfl | ⟨a, rfl⟩ <;> rfl
theorem V.iconst {n : Int} {v : Int32} (hd : decode M.2.1 pc = .ok (.iconst n, 1)) (hv : Int32.ofInt n = v) (k : V l g M fr (pc + 1) L (.int v :: st) h Q) : V l g M fr pc L st h Q := fun hl p e s m args below meth c C H locs hR hS ls hL => lv_iconst C.1 C.2.1 hd hv (k hl p e s m args below meth c C H locs hR hS ls hL)
theorem V.bipush {n : Int} {v : Int32} (hd : decode M.2.1 pc = .ok (.bipush n, 2)) (hv : (Int8.ofInt n).toInt32 = v) (k : V l g M fr (pc + 2) L (.int v :: st) h Q) : V l g M fr pc L st h Q := fun hl p e s m args below meth c C H locs hR hS ls hL => lv_bipush C.1 C.2.1 hd hv (k hl p e s m args below meth c C H locs hR hS ls hL)
theorem V.sipush {n : Int} {v : Int32} (hd : decode M.2.1 pc = .ok (.sipush n, 3)) (hv : (Int16.ofInt n).toInt32 = v) (k : V l g M fr (pc + 3) L (.int v :: st) h Q) : V l g M fr pc L st h Q := fun hl p e s m args below meth c C H locs hR hS ls hL => lv_sipush C.1 C.2.1 hd hv (k hl p e s m args below meth c C H locs hR hS ls hL)
theorem V.lconst {n : Fin 2} {v : Int64} (hd : decode M.2.1 pc = .ok (.lconst n, 1)) (hv : Int64.ofNat (n : Nat) = v) (k : V l g M fr (pc + 1) L (.long v :: st) h Q) : V l g M fr pc L st h Q := fun hl p e s m args below meth c C H locs hR hS ls hL => lv_lconst C.1 C.2.1 hd hv (k hl p e s m args below meth c C H locs hR hS ls hL)
theorem V.fconst0 (hd : decode M.2.1 pc = .ok (.fconst 0, 1)) (k : V l g M fr (pc + 1) L (.float FP.fconst0 :: st) h Q) : V l g M fr pc L st h Q := fun hl p e s m args below meth c C H locs hR hS ls hL => lv_fconst0 C.1 C.2.1 hd (k hl p e s m args below meth c C H locs hR hS ls hL)
theorem V.null (hd : decode M.2.1 pc = .ok (.aconst_null, 1)) (k : V l g M fr (pc + 1) L (.null :: st) h Q) : V l g M fr pc L st h Q := fun hl p e s m args below meth c C H locs hR hS ls hL => lv_null C.1 C.2.1 hd (k hl p e s m args below meth c C H locs hR hS ls hL)
theorem V.iload_n {kk : Fin 4} {i : Nat} {x : Int32} (hd : decode M.2.1 pc = .ok (.iload_n kk, 1)) (hi : (kk : Nat) = i) (hx : L[i]? = some (some (.int x))) (k : V l g M fr (pc + 1) L (.int x :: st) h Q) : V l g M fr pc L st h Q := fun hl p e s m args below meth c C H locs hR hS ls hL => lv_iload_n C.1 C.2.1 hd hi (hL.at hx) (k hl p e s m args below meth c C H locs hR hS ls hL)
theorem V.iload {i : Nat} {x : Int32} (hd : decode M.2.1 pc = .ok (.iload i, 2)) (hx : L[i]? = some (some (.int x))) (k : V l g M fr (pc + 2) L (.int x :: st) h Q) : V l g M fr pc L st h Q := fun hl p e s m args below meth c C H locs hR hS ls hL => lv_iload C.1 C.2.1 hd (hL.at hx) (k hl p e s m args below meth c C H locs hR hS ls hL)
theorem V.istore_n {kk : Fin 4} {i : Nat} {x : Int32} (hd : decode M.2.1 pc = .ok (.istore_n kk, 1)) (hi : (kk : Nat) = i) (hn : i < M.2.2.1) (k : V l g M fr (pc + 1) (L.set i (some (.int x))) st h Q) : V l g M fr pc L (.int x :: st) h Q := fun hl p e s m args below meth c C H locs hR hS ls hL => lv_istore_n C.1 C.2.1 hd hi hL.has hn rfl (fun ls1 h1 => k hl p e s m args below meth c C H locs hR hS ls1 (hL.set rfl h1))
theorem V.istore {i : Nat} {x : Int32} (hd : decode M.2.1 pc = .ok (.istore i, 2)) (hn : i < M.2.2.1) (k : V l g M fr (pc + 2) (L.set i (some (.int x))) st h Q) : V l g M fr pc L (.int x :: st) h Q := fun hl p e s m args below meth c C H locs hR hS ls hL => lv_istore C.1 C.2.1 hd hL.has hn rfl (fun ls1 h1 => k hl p e s m args below meth c C H locs hR hS ls1 (hL.set rfl h1))
theorem V.fload_n {kk : Fin 4} {i : Nat} {x : UInt32} (hd : decode M.2.1 pc = .ok (.fload_n kk, 1)) (hi : (kk : Nat) = i) (hx : L[i]? = some (some (.float x))) (k : V l g M fr (pc + 1) L (.float x :: st) h Q) : V l g M fr pc L st h Q := fun hl p e s m args below meth c C H locs hR hS ls hL => lv_fload_n C.1 C.2.1 hd hi (hL.at hx) (k hl p e s m args below meth c C H locs hR hS ls hL)
theorem V.fload {i : Nat} {x : UInt32} (hd : decode M.2.1 pc = .ok (.fload i, 2)) (hx : L[i]? = some (some (.float x))) (k : V l g M fr (pc + 2) L (.float x :: st) h Q) : V l g M fr pc L st h Q := fun hl p e s m args below meth c C H locs hR hS ls hL => lv_fload C.1 C.2.1 hd (hL.at hx) (k hl p e s m args below meth c C H locs hR hS ls hL)
theorem V.fstore_n {kk : Fin 4} {i : Nat} {x : UInt32} (hd : decode M.2.1 pc = .ok (.fstore_n kk, 1)) (hi : (kk : Nat) = i) (hn : i < M.2.2.1) (k : V l g M fr (pc + 1) (L.set i (some (.float x))) st h Q) : V l g M fr pc L (.float x :: st) h Q := fun hl p e s m args below meth c C H locs hR hS ls hL => lv_fstore_n C.1 C.2.1 hd hi hL.has hn rfl (fun ls1 h1 => k hl p e s m args below meth c C H locs hR hS ls1 (hL.set rfl h1))
theorem V.fstore {i : Nat} {x : UInt32} (hd : decode M.2.1 pc = .ok (.fstore i, 2)) (hn : i < M.2.2.1) (k : V l g M fr (pc + 2) (L.set i (some (.float x))) st h Q) : V l g M fr pc L (.float x :: st) h Q := fun hl p e s m args below meth c C H locs hR hS ls hL => lv_fstore C.1 C.2.1 hd hL.has hn rfl (fun ls1 h1 => k hl p e s m args below meth c C H locs hR hS ls1 (hL.set rfl h1))
theorem V.aload_n {kk : Fin 4} {i : Nat} {v : Value} (hd : decode M.2.1 pc = .ok (.aload_n kk, 1)) (hi : (kk : Nat) = i) (hx : L[i]? = some (some v)) (hv : IsR v) (k : V l g M fr (pc + 1) L (v :: st) h Q) : V l g M fr pc L st h Q := by
  intro hl p e s m args below meth c C H locs hR hS ls hL
  have k9 := k hl p e s m args below meth c C H locs hR hS ls hL
  have hx9 := hL.at hx
  rcases hv with rfl | ⟨a, rfl⟩
  · exact lv_aload_nN C.1 C.2.1 hd hi hx9 k9
  · exact lv_aload_n C.1 C.2.1 hd hi hx9 k9
theorem V.aload {i : Nat} {v : Value} (hd : decode M.2.1 pc = .ok (.aload i, 2)) (hx : L[i]? = some (some v)) (hv : IsR v) (k : V l g M fr (pc + 2) L (v :: st) h Q) : V l g M fr pc L st h Q := by
  intro hl p e s m args below meth c C H locs hR hS ls hL
  have k9 := k hl p e s m args below meth c C H locs hR hS ls hL
  have hx9 := hL.at hx
  rcases hv with rfl | ⟨a, rfl⟩
  · exact lv_aloadN C.1 C.2.1 hd hx9 k9
  · exact lv_aload C.1 C.2.1 hd hx9 k9
theorem V.astore_n {kk : Fin 4} {i : Nat} {v : Value} (hd : decode M.2.1 pc = .ok (.astore_n kk, 1)) (hi : (kk : Nat) = i) (hn : i < M.2.2.1) (hv : IsR v) (k : V l g M fr (pc + 1) (L.set i (some v)) st h Q) : V l g M fr pc L (v :: st) h Q := by
  intro hl p e s m args below meth c C H locs hR hS ls hL
  rcases hv with rfl | ⟨a, rfl⟩
  · exact lv_astore_nN C.1 C.2.1 hd hi hL.has hn rfl (fun ls1 h1 => k hl p e s m args below meth c C H locs hR hS ls1 (hL.set rfl h1))
  · exact lv_astore_n C.1 C.2.1 hd hi hL.has hn rfl (fun ls1 h1 => k hl p e s m args below meth c C H locs hR hS ls1 (hL.set rfl h1))
theorem V.astore {i : Nat} {v : Value} (hd : decode M.2.1 pc = .ok (.astore i, 2)) (hn : i < M.2.2.1) (hv : IsR v) (k : V l g M fr (pc + 2) (L.set i (some v)) st h Q) : V l g M fr pc L (v :: st) h Q := by
  intro hl p e s m args below meth c C H locs hR hS ls hL
  rcases hv with rfl | ⟨a, rfl⟩
  · exact lv_astoreN C.1 C.2.1 hd hL.has hn rfl (fun ls1 h1 => k hl p e s m args below meth c C H locs hR hS ls1 (hL.set rfl h1))
  · exact lv_astore C.1 C.2.1 hd hL.has hn rfl (fun ls1 h1 => k hl p e s m args below meth c C H locs hR hS ls1 (hL.set rfl h1))
theorem V.iinc {i : Nat} {n : Int} {x v : Int32} (hd : decode M.2.1 pc = .ok (.iinc i n, 3)) (hx : L[i]? = some (some (.int x))) (hv : x + Int32.ofInt n = v) (hn : i < M.2.2.1) (k : V l g M fr (pc + 3) (L.set i (some (.int v))) st h Q) : V l g M fr pc L st h Q := by
  intro hl p e s m args below meth c C H locs hR hS ls hL
  obtain ⟨j, hj⟩ := List.getElem?_of_mem (Ll_mem.mpr hx)
  exact lv_iinc C.1 C.2.1 hd hL.has hj hv hn rfl (fun ls1 h1 => k hl p e s m args below meth c C H locs hR hS ls1 (hL.set rfl h1))
theorem V.iadd {x y : Int32} (hd : decode M.2.1 pc = .ok (.iadd, 1)) (k : V l g M fr (pc + 1) L (.int (x + y) :: st) h Q) : V l g M fr pc L (.int y :: .int x :: st) h Q := fun hl p e s m args below meth c C H locs hR hS ls hL => lv_iadd C.1 C.2.1 hd (k hl p e s m args below meth c C H locs hR hS ls hL)
theorem V.isub {x y : Int32} (hd : decode M.2.1 pc = .ok (.isub, 1)) (k : V l g M fr (pc + 1) L (.int (x - y) :: st) h Q) : V l g M fr pc L (.int y :: .int x :: st) h Q := fun hl p e s m args below meth c C H locs hR hS ls hL => lv_isub C.1 C.2.1 hd (k hl p e s m args below meth c C H locs hR hS ls hL)
theorem V.imul {x y : Int32} (hd : decode M.2.1 pc = .ok (.imul, 1)) (k : V l g M fr (pc + 1) L (.int (x * y) :: st) h Q) : V l g M fr pc L (.int y :: .int x :: st) h Q := fun hl p e s m args below meth c C H locs hR hS ls hL => lv_imul C.1 C.2.1 hd (k hl p e s m args below meth c C H locs hR hS ls hL)
theorem V.iand {x y : Int32} (hd : decode M.2.1 pc = .ok (.iand, 1)) (k : V l g M fr (pc + 1) L (.int (x &&& y) :: st) h Q) : V l g M fr pc L (.int y :: .int x :: st) h Q := fun hl p e s m args below meth c C H locs hR hS ls hL => lv_iand C.1 C.2.1 hd (k hl p e s m args below meth c C H locs hR hS ls hL)
theorem V.ior {x y : Int32} (hd : decode M.2.1 pc = .ok (.ior, 1)) (k : V l g M fr (pc + 1) L (.int (x ||| y) :: st) h Q) : V l g M fr pc L (.int y :: .int x :: st) h Q := fun hl p e s m args below meth c C H locs hR hS ls hL => lv_ior C.1 C.2.1 hd (k hl p e s m args below meth c C H locs hR hS ls hL)
theorem V.ixor {x y : Int32} (hd : decode M.2.1 pc = .ok (.ixor, 1)) (k : V l g M fr (pc + 1) L (.int (x ^^^ y) :: st) h Q) : V l g M fr pc L (.int y :: .int x :: st) h Q := fun hl p e s m args below meth c C H locs hR hS ls hL => lv_ixor C.1 C.2.1 hd (k hl p e s m args below meth c C H locs hR hS ls hL)
theorem V.ishl {x y : Int32} (hd : decode M.2.1 pc = .ok (.ishl, 1)) (k : V l g M fr (pc + 1) L (.int (x <<< (y &&& 31)) :: st) h Q) : V l g M fr pc L (.int y :: .int x :: st) h Q := fun hl p e s m args below meth c C H locs hR hS ls hL => lv_ishl C.1 C.2.1 hd (k hl p e s m args below meth c C H locs hR hS ls hL)
theorem V.ishr {x y : Int32} (hd : decode M.2.1 pc = .ok (.ishr, 1)) (k : V l g M fr (pc + 1) L (.int (x >>> (y &&& 31)) :: st) h Q) : V l g M fr pc L (.int y :: .int x :: st) h Q := fun hl p e s m args below meth c C H locs hR hS ls hL => lv_ishr C.1 C.2.1 hd (k hl p e s m args below meth c C H locs hR hS ls hL)
theorem V.iushr {x y : Int32} (hd : decode M.2.1 pc = .ok (.iushr, 1)) (k : V l g M fr (pc + 1) L (.int (x.toUInt32 >>> (y.toUInt32 &&& Int32.toUInt32 31)).toInt32 :: st) h Q) : V l g M fr pc L (.int y :: .int x :: st) h Q := fun hl p e s m args below meth c C H locs hR hS ls hL => lv_iushr C.1 C.2.1 hd rfl (k hl p e s m args below meth c C H locs hR hS ls hL)
theorem V.idiv {x y : Int32} (hd : decode M.2.1 pc = .ok (.idiv, 1)) (hne : ¬ y = 0) (k : V l g M fr (pc + 1) L (.int (x / y) :: st) h Q) : V l g M fr pc L (.int y :: .int x :: st) h Q := fun hl p e s m args below meth c C H locs hR hS ls hL => lv_idiv C.1 C.2.1 hd hne (k hl p e s m args below meth c C H locs hR hS ls hL)
theorem V.irem {x y : Int32} (hd : decode M.2.1 pc = .ok (.irem, 1)) (hne : ¬ y = 0) (k : V l g M fr (pc + 1) L (.int (x - x / y * y) :: st) h Q) : V l g M fr pc L (.int y :: .int x :: st) h Q := fun hl p e s m args below meth c C H locs hR hS ls hL => lv_irem C.1 C.2.1 hd hne (k hl p e s m args below meth c C H locs hR hS ls hL)
theorem V.ineg {x : Int32} (hd : decode M.2.1 pc = .ok (.ineg, 1)) (k : V l g M fr (pc + 1) L (.int (-x) :: st) h Q) : V l g M fr pc L (.int x :: st) h Q := fun hl p e s m args below meth c C H locs hR hS ls hL => lv_ineg C.1 C.2.1 hd (k hl p e s m args below meth c C H locs hR hS ls hL)
theorem V.i2l {x : Int32} (hd : decode M.2.1 pc = .ok (.i2l, 1)) (k : V l g M fr (pc + 1) L (.long x.toInt64 :: st) h Q) : V l g M fr pc L (.int x :: st) h Q := fun hl p e s m args below meth c C H locs hR hS ls hL => lv_i2l C.1 C.2.1 hd rfl (k hl p e s m args below meth c C H locs hR hS ls hL)
theorem V.i2b {x : Int32} (hd : decode M.2.1 pc = .ok (.i2b, 1)) (k : V l g M fr (pc + 1) L (.int x.toInt8.toInt32 :: st) h Q) : V l g M fr pc L (.int x :: st) h Q := fun hl p e s m args below meth c C H locs hR hS ls hL => lv_i2b C.1 C.2.1 hd rfl (k hl p e s m args below meth c C H locs hR hS ls hL)
theorem V.i2c {x : Int32} (hd : decode M.2.1 pc = .ok (.i2c, 1)) (k : V l g M fr (pc + 1) L (.int (x.toUInt32 % 65536).toInt32 :: st) h Q) : V l g M fr pc L (.int x :: st) h Q := fun hl p e s m args below meth c C H locs hR hS ls hL => lv_i2c C.1 C.2.1 hd rfl (k hl p e s m args below meth c C H locs hR hS ls hL)
theorem V.i2f {x : Int32} (hd : decode M.2.1 pc = .ok (.i2f, 1)) (k : V l g M fr (pc + 1) L (.float (FP.i2f x) :: st) h Q) : V l g M fr pc L (.int x :: st) h Q := fun hl p e s m args below meth c C H locs hR hS ls hL => lv_i2f C.1 C.2.1 hd (k hl p e s m args below meth c C H locs hR hS ls hL)
theorem V.f2d {x : UInt32} (hd : decode M.2.1 pc = .ok (.f2d, 1)) (hne : vf_n64 (FP.f2d x)) (k : V l g M fr (pc + 1) L (.double (FP.f2d x) :: st) h Q) : V l g M fr pc L (.float x :: st) h Q := fun hl p e s m args below meth c C H locs hR hS ls hL => lv_f2d C.1 C.2.1 hd hne (k hl p e s m args below meth c C H locs hR hS ls hL)
theorem V.fadd {x y : UInt32} (hd : decode M.2.1 pc = .ok (.fadd, 1)) (hne : vf_n32 (FP.fadd x y)) (k : V l g M fr (pc + 1) L (.float (FP.fadd x y) :: st) h Q) : V l g M fr pc L (.float y :: .float x :: st) h Q := fun hl p e s m args below meth c C H locs hR hS ls hL => lv_fadd C.1 C.2.1 hd hne (k hl p e s m args below meth c C H locs hR hS ls hL)
theorem V.fdiv {x y : UInt32} (hd : decode M.2.1 pc = .ok (.fdiv, 1)) (hne : vf_n32 (FP.fdiv x y)) (k : V l g M fr (pc + 1) L (.float (FP.fdiv x y) :: st) h Q) : V l g M fr pc L (.float y :: .float x :: st) h Q := fun hl p e s m args below meth c C H locs hR hS ls hL => lv_fdiv C.1 C.2.1 hd hne (k hl p e s m args below meth c C H locs hR hS ls hL)
theorem V.lcmp {x y : Int64} (hd : decode M.2.1 pc = .ok (.lcmp, 1)) (k : V l g M fr (pc + 1) L (.int (lg_cmp x y) :: st) h Q) : V l g M fr pc L (.long y :: .long x :: st) h Q := fun hl p e s m args below meth c C H locs hR hS ls hL => W.lcmp C.1 C.2.1 hd (k hl p e s m args below meth c C H locs hR hS ls hL)
theorem V.fcmp {x y : UInt32} {op : CmpOp} (hd : decode M.2.1 pc = .ok (.fcmp op, 1)) (k : V l g M fr (pc + 1) L (.int (Op.cmpValue (FP.fcmp x y) op) :: st) h Q) : V l g M fr pc L (.float y :: .float x :: st) h Q := fun hl p e s m args below meth c C H locs hR hS ls hL => lv_fcmp C.1 C.2.1 hd (k hl p e s m args below meth c C H locs hR hS ls hL)
theorem V.dcmp {x y : UInt64} {op : CmpOp} (hd : decode M.2.1 pc = .ok (.dcmp op, 1)) (k : V l g M fr (pc + 1) L (.int (Op.cmpValue (FP.dcmp x y) op) :: st) h Q) : V l g M fr pc L (.double y :: .double x :: st) h Q := fun hl p e s m args below meth c C H locs hR hS ls hL => lv_dcmp C.1 C.2.1 hd (k hl p e s m args below meth c C H locs hR hS ls hL)
theorem V.dup {va : Value} (hd : decode M.2.1 pc = .ok (.dup, 1)) (hva : va.category = 1) (k : V l g M fr (pc + 1) L (va :: va :: st) h Q) : V l g M fr pc L (va :: st) h Q := fun hl p e s m args below meth c C H locs hR hS ls hL => lv_dup C.1 C.2.1 hd hva (k hl p e s m args below meth c C H locs hR hS ls hL)
theorem V.pop {va : Value} (hd : decode M.2.1 pc = .ok (.pop, 1)) (hva : va.category = 1) (k : V l g M fr (pc + 1) L st h Q) : V l g M fr pc L (va :: st) h Q := fun hl p e s m args below meth c C H locs hR hS ls hL => lv_pop C.1 C.2.1 hd hva (k hl p e s m args below meth c C H locs hR hS ls hL)
theorem V.dup_x1 {va vb : Value} (hd : decode M.2.1 pc = .ok (.dup_x1, 1)) (hva : va.category = 1) (hvb : vb.category = 1) (k : V l g M fr (pc + 1) L (va :: vb :: va :: st) h Q) : V l g M fr pc L (va :: vb :: st) h Q := fun hl p e s m args below meth c C H locs hR hS ls hL => lv_dup_x1 C.1 C.2.1 hd hva hvb (k hl p e s m args below meth c C H locs hR hS ls hL)
theorem V.dup2 {va vb : Value} (hd : decode M.2.1 pc = .ok (.dup2, 1)) (hva : va.category = 1) (hvb : vb.category = 1) (k : V l g M fr (pc + 1) L (va :: vb :: va :: vb :: st) h Q) : V l g M fr pc L (va :: vb :: st) h Q := fun hl p e s m args below meth c C H locs hR hS ls hL => lv_dup2_11 C.1 C.2.1 hd hva hvb (k hl p e s m args below meth c C H locs hR hS ls hL)
theorem V.if_eq {x : Int32} {off : Int} {tgt : Nat} (hd : decode M.2.1 pc = .ok (.ifCond .eq off, 3)) (ht : (pc : Int) + off = (tgt : Int)) (kt : x = 0 → V l g M fr tgt L st h Q) (kf : ¬ x = 0 → V l g M fr (pc + 3) L st h Q) : V l g M fr pc L (.int x :: st) h Q := fun hl p e s m args below meth c C H locs hR hS ls hL => lv_if_eq C.1 C.2.1 hd ht (fun q => kt q hl p e s m args below meth c C H locs hR hS ls hL) (fun q => kf q hl p e s m args below meth c C H locs hR hS ls hL)
theorem V.icmp_eq {x y : Int32} {off : Int} {tgt : Nat} (hd : decode M.2.1 pc = .ok (.if_icmp .eq off, 3)) (ht : (pc : Int) + off = (tgt : Int)) (kt : x = y → V l g M fr tgt L st h Q) (kf : ¬ x = y → V l g M fr (pc + 3) L st h Q) : V l g M fr pc L (.int y :: .int x :: st) h Q := fun hl p e s m args below meth c C H locs hR hS ls hL => lv_icmp_eq C.1 C.2.1 hd ht (fun q => kt q hl p e s m args below meth c C H locs hR hS ls hL) (fun q => kf q hl p e s m args below meth c C H locs hR hS ls hL)
theorem V.if_ne {x : Int32} {off : Int} {tgt : Nat} (hd : decode M.2.1 pc = .ok (.ifCond .ne off, 3)) (ht : (pc : Int) + off = (tgt : Int)) (kt : ¬ x = 0 → V l g M fr tgt L st h Q) (kf : x = 0 → V l g M fr (pc + 3) L st h Q) : V l g M fr pc L (.int x :: st) h Q := fun hl p e s m args below meth c C H locs hR hS ls hL => lv_if_ne C.1 C.2.1 hd ht (fun q => kt q hl p e s m args below meth c C H locs hR hS ls hL) (fun q => kf q hl p e s m args below meth c C H locs hR hS ls hL)
theorem V.icmp_ne {x y : Int32} {off : Int} {tgt : Nat} (hd : decode M.2.1 pc = .ok (.if_icmp .ne off, 3)) (ht : (pc : Int) + off = (tgt : Int)) (kt : ¬ x = y → V l g M fr tgt L st h Q) (kf : x = y → V l g M fr (pc + 3) L st h Q) : V l g M fr pc L (.int y :: .int x :: st) h Q := fun hl p e s m args below meth c C H locs hR hS ls hL => lv_icmp_ne C.1 C.2.1 hd ht (fun q => kt q hl p e s m args below meth c C H locs hR hS ls hL) (fun q => kf q hl p e s m args below meth c C H locs hR hS ls hL)
theorem V.if_lt {x : Int32} {off : Int} {tgt : Nat} (hd : decode M.2.1 pc = .ok (.ifCond .lt off, 3)) (ht : (pc : Int) + off = (tgt : Int)) (kt : x < 0 → V l g M fr tgt L st h Q) (kf : ¬ x < 0 → V l g M fr (pc + 3) L st h Q) : V l g M fr pc L (.int x :: st) h Q := fun hl p e s m args below meth c C H locs hR hS ls hL => lv_if_lt C.1 C.2.1 hd ht (fun q => kt q hl p e s m args below meth c C H locs hR hS ls hL) (fun q => kf q hl p e s m args below meth c C H locs hR hS ls hL)
theorem V.icmp_lt {x y : Int32} {off : Int} {tgt : Nat} (hd : decode M.2.1 pc = .ok (.if_icmp .lt off, 3)) (ht : (pc : Int) + off = (tgt : Int)) (kt : x < y → V l g M fr tgt L st h Q) (kf : ¬ x < y → V l g M fr (pc + 3) L st h Q) : V l g M fr pc L (.int y :: .int x :: st) h Q := fun hl p e s m args below meth c C H locs hR hS ls hL => lv_icmp_lt C.1 C.2.1 hd ht (fun q => kt q hl p e s m args below meth c C H locs hR hS ls hL) (fun q => kf q hl p e s m args below meth c C H locs hR hS ls hL)
theorem V.if_ge {x : Int32} {off : Int} {tgt : Nat} (hd : decode M.2.1 pc = .ok (.ifCond .ge off, 3)) (ht : (pc : Int) + off = (tgt : Int)) (kt : 0 ≤ x → V l g M fr tgt L st h Q) (kf : ¬ 0 ≤ x → V l g M fr (pc + 3) L st h Q) : V l g M fr pc L (.int x :: st) h Q := fun hl p e s m args below meth c C H locs hR hS ls hL => lv_if_ge C.1 C.2.1 hd ht (fun q => kt q hl p e s m args below meth c C H locs hR hS ls hL) (fun q => kf q hl p e s m args below meth c C H locs hR hS ls hL)
theorem V.icmp_ge {x y : Int32} {off : Int} {tgt : Nat} (hd : decode M.2.1 pc = .ok (.if_icmp .ge off, 3)) (ht : (pc : Int) + off = (tgt : Int)) (kt : y ≤ x → V l g M fr tgt L st h Q) (kf : ¬ y ≤ x → V l g M fr (pc + 3) L st h Q) : V l g M fr pc L (.int y :: .int x :: st) h Q := fun hl p e s m args below meth c C H locs hR hS ls hL => lv_icmp_ge C.1 C.2.1 hd ht (fun q => kt q hl p e s m args below meth c C H locs hR hS ls hL) (fun q => kf q hl p e s m args below meth c C H locs hR hS ls hL)
theorem V.if_gt {x : Int32} {off : Int} {tgt : Nat} (hd : decode M.2.1 pc = .ok (.ifCond .gt off, 3)) (ht : (pc : Int) + off = (tgt : Int)) (kt : 0 < x → V l g M fr tgt L st h Q) (kf : ¬ 0 < x → V l g M fr (pc + 3) L st h Q) : V l g M fr pc L (.int x :: st) h Q := fun hl p e s m args below meth c C H locs hR hS ls hL => lv_if_gt C.1 C.2.1 hd ht (fun q => kt q hl p e s m args below meth c C H locs hR hS ls hL) (fun q => kf q hl p e s m args below meth c C H locs hR hS ls hL)
theorem V.icmp_gt {x y : Int32} {off : Int} {tgt : Nat} (hd : decode M.2.1 pc = .ok (.if_icmp .gt off, 3)) (ht : (pc : Int) + off = (tgt : Int)) (kt : y < x → V l g M fr tgt L st h Q) (kf : ¬ y < x → V l g M fr (pc + 3) L st h Q) : V l g M fr pc L (.int y :: .int x :: st) h Q := fun hl p e s m args below meth c C H locs hR hS ls hL => lv_icmp_gt C.1 C.2.1 hd ht (fun q => kt q hl p e s m args below meth c C H locs hR hS ls hL) (fun q => kf q hl p e s m args below meth c C H locs hR hS ls hL)
theorem V.if_le {x : Int32} {off : Int} {tgt : Nat} (hd : decode M.2.1 pc = .ok (.ifCond .le off, 3)) (ht : (pc : Int) + off = (tgt : Int)) (kt : x ≤ 0 → V l g M fr tgt L st h Q) (kf : ¬ x ≤ 0 → V l g M fr (pc + 3) L st h Q) : V l g M fr pc L (.int x :: st) h Q := fun hl p e s m args below meth c C H locs hR hS ls hL => lv_if_le C.1 C.2.1 hd ht (fun q => kt q hl p e s m args below meth c C H locs hR hS ls hL) (fun q => kf q hl p e s m args below meth c C H locs hR hS ls hL)
theorem V.icmp_le {x y : Int32} {off : Int} {tgt : Nat} (hd : decode M.2.1 pc = .ok (.if_icmp .le off, 3)) (ht : (pc : Int) + off = (tgt : Int)) (kt : x ≤ y → V l g M fr tgt L st h Q) (kf : ¬ x ≤ y → V l g M fr (pc + 3) L st h Q) : V l g M fr pc L (.int y :: .int x :: st) h Q := fun hl p e s m args below meth c C H locs hR hS ls hL => lv_icmp_le C.1 C.2.1 hd ht (fun q => kt q hl p e s m args below meth c C H locs hR hS ls hL) (fun q => kf q hl p e s m args below meth c C H locs hR hS ls hL)
theorem V.goto {off : Int} {tgt : Nat} (hd : decode M.2.1 pc = .ok (.goto off, 3)) (ht : (pc : Int) + off = (tgt : Int)) (k : V l g M fr tgt L st h Q) : V l g M fr pc L st h Q := fun hl p e s m args below meth c C H locs hR hS ls hL => lv_goto C.1 C.2.1 hd ht (k hl p e s m args below meth c C H locs hR hS ls hL)
theorem V.acmp_eq {rx ry : Option Nat} {off : Int} {tgt : Nat} (hd : decode M.2.1 pc = .ok (.if_acmp .eq off, 3)) (ht : (pc : Int) + off = (tgt : Int)) (kt : rx = ry → V l g M fr tgt L st h Q) (kf : ¬ rx = ry → V l g M fr (pc + 3) L st h Q) : V l g M fr pc L (va_rf ry :: va_rf rx :: st) h Q := fun hl p e s m args below meth c C H locs hR hS ls hL => lv_acmp_eq C.1 C.2.1 hd ht (fun q => kt q hl p e s m args below meth c C H locs hR hS ls hL) (fun q => kf q hl p e s m args below meth c C H locs hR hS ls hL)
theorem V.acmp_ne {rx ry : Option Nat} {off : Int} {tgt : Nat} (hd : decode M.2.1 pc = .ok (.if_acmp .ne off, 3)) (ht : (pc : Int) + off = (tgt : Int)) (kt : ¬ rx = ry → V l g M fr tgt L st h Q) (kf : rx = ry → V l g M fr (pc + 3) L st h Q) : V l g M fr pc L (va_rf ry :: va_rf rx :: st) h Q := fun hl p e s m args below meth c C H locs hR hS ls hL => lv_acmp_ne C.1 C.2.1 hd ht (fun q => kt q hl p e s m args below meth c C H locs hR hS ls hL) (fun q => kf q hl p e s m args below meth c C H locs hR hS ls hL)
theorem V.ifnull {r : Option Nat} {off : Int} {tgt : Nat} (hd : decode M.2.1 pc = .ok (.ifnull off, 3)) (ht : (pc : Int) + off = (tgt : Int)) (kt : r = none → V l g M fr tgt L st h Q) (kf : ∀ a, r = some a → V l g M fr (pc + 3) L st h Q) : V l g M fr pc L (va_rf r :: st) h Q := by
  intro hl p e s m args below meth c C H locs hR hS ls hL
  cases r with
  | none => exact lv_ifnullN C.1 C.2.1 hd ht (kt rfl hl p e s m args below meth c C H locs hR hS ls hL)
  | some a => exact lv_ifnull C.1 C.2.1 hd (kf a rfl hl p e s m args below meth c C H locs hR hS ls hL)
theorem V.ifnonnull {r : Option Nat} {off : Int} {tgt : Nat} (hd : decode M.2.1 pc = .ok (.ifnonnull off, 3)) (ht : (pc : Int) + off = (tgt : Int)) (kt : ∀ a, r = some a → V l g M fr tgt L st h Q) (kf : r = none → V l g M fr (pc + 3) L st h Q) : V l g M fr pc L (va_rf r :: st) h Q := by
  intro hl p e s m args below meth c C H locs hR hS ls hL
  cases r with
  | none => exact lv_ifnonnullN C.1 C.2.1 hd (kf rfl hl p e s m args below meth c C H locs hR hS ls hL)
  | some a => exact lv_ifnonnull C.1 C.2.1 hd ht (kt a rfl hl p e s m args below meth c C H locs hR hS ls hL)
theorem V.lookup {dflt : Int} {ps : Array (Int × Int)} {len : Nat} {x : Int32} {off : Int} {tgt : Nat} (hd : decode M.2.1 pc = .ok (.lookupswitch dflt ps, len)) (hp : (ps.toList.zip (ps.toList.drop 1)).all (fun (a, next) => a.1 < next.1) = true) (ho : Op.lookupswitch.offset ps.toList dflt x.toInt = off) (ht : (pc : Int) + off = (tgt : Int)) (k : V l g M fr tgt L st h Q) : V l g M fr pc L (.int x :: st) h Q := fun hl p e s m args below meth c C H locs hR hS ls hL => lv_lookup C.1 C.2.1 hd hp ho ht (k hl p e s m args below meth c C H locs hR hS ls hL)
theorem V.tableOut {dflt lo hi : Int} {offs : Array Int} {len : Nat} {x : Int32} {tgt : Nat} (hd : decode M.2.1 pc = .ok (.tableswitch dflt lo hi offs, len)) (hx : x.toInt < lo ∨ hi < x.toInt) (ht : (pc : Int) + dflt = (tgt : Int)) (k : V l g M fr tgt L st h Q) : V l g M fr pc L (.int x :: st) h Q := fun hl p e s m args below meth c C H locs hR hS ls hL => lv_tableOut C.1 C.2.1 hd hx ht (k hl p e s m args below meth c C H locs hR hS ls hL)
theorem V.tableIn {dflt lo hi : Int} {offs : Array Int} {len : Nat} {x : Int32} {off : Int} {tgt : Nat} (hd : decode M.2.1 pc = .ok (.tableswitch dflt lo hi offs, len)) (h1 : ¬ x.toInt < lo) (h2 : ¬ hi < x.toInt) (ho : offs[(x.toInt - lo).toNat]? = some off) (ht : (pc : Int) + off = (tgt : Int)) (k : V l g M fr tgt L st h Q) : V l g M fr pc L (.int x :: st) h Q := fun hl p e s m args below meth c C H locs hR hS ls hL => lv_tableIn C.1 C.2.1 hd h1 h2 ho ht (k hl p e s m args below meth c C H locs hR hS ls hL)
theorem V.ldcI {idx : Nat} {v : Int32} (hd : decode M.2.1 pc = .ok (.ldc idx, 2)) (hw : Cond.constant M.1.cls idx v ∈ lw_all) (k : V l g M fr (pc + 2) L (.int v :: st) h Q) : V l g M fr pc L st h Q := fun hl p e s m args below meth c C H locs hR hS ls hL => lv_ldc C.1 C.2.1 C.2.2.2.2.2.1 (C.2.2.2.2.2.2.1 _ hw) hd (k hl p e s m args below meth c C H locs hR hS ls hL)
theorem V.ldcwI {idx : Nat} {v : Int32} (hd : decode M.2.1 pc = .ok (.ldc_w idx, 3)) (hw : Cond.constant M.1.cls idx v ∈ lw_all) (k : V l g M fr (pc + 3) L (.int v :: st) h Q) : V l g M fr pc L st h Q := fun hl p e s m args below meth c C H locs hR hS ls hL => lv_ldcw C.1 C.2.1 C.2.2.2.2.2.1 (C.2.2.2.2.2.2.1 _ hw) hd (k hl p e s m args below meth c C H locs hR hS ls hL)
theorem V.ldcS {idx sid : Nat} {tx : String} (hd : decode M.2.1 pc = .ok (.ldc idx, 2)) (hw : (M.1.cls, idx, tx, sid) ∈ XSR) (k : V l g M fr (pc + 2) L (.ref (gT g sid) :: st) h Q) : V l g M fr pc L st h Q := fun hl p e s m args below meth c C H locs hR hS ls hL => va_ldcS C.1 C.2.1 C.2.2.2.2.2.1 (C.2.2.2.2.2.2.2.1.2.2.2.2.2.2.2.2.2.2.1 _ hw) hd (k hl p e s m args below meth c C H locs hR hS ls hL)
theorem V.eq {pc2 : Nat} {L2 : List (Option Value)} {st2 : List Value} {h2 : AH} (e1 : pc = pc2) (e2 : L = L2) (e3 : st = st2) (e4 : h = h2) (k : V l g M fr pc2 L2 st2 h2 Q) : V l g M fr pc L st h Q := by subst e1; subst e2; subst e3; subst e4; exact k
end VR
