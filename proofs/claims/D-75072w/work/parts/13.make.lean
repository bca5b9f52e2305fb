/-! ===== exceptions made (follows vx_make0 of kit/laws/EXCEPTIONS) ===== -/
section XMK
variable {p : Program} {l : Launch} {e : Env} {R : Room} {s : State} {m : MethodId} {args : Array Value} {below : List Frame} {meth : Method} {c : Code} {H : Heap} {locs : List Loc} {cells slots : Nat} {Q : State → Prop} {ls : Array Slot} {rest : List Value}
theorem xx_make0 {cc : ByteArray} {pc : Nat} (hexec : p.tables.exec = Jvm.exec) (hb : c.code = cc) (hl : l.stackTraces = false) {own cls : String} {names : List String} {ik ic : Nat} {A : Nat → Prop}
    (hown : s.vm.findClass own = some m.cls) (hcls : Bundle.fit cls = true) (hnames : ∀ n ∈ names, Bundle.fit n = true)
    (hk : (Cond.classLink own ik cls).before args s = true) (hini : (Cond.initialized cls).before args s = true) (hat : ∀ w ∈ vx_at0 own ic cls names, w.before args s = true)
    (hgood : ∀ w ∈ Cond.classLink own ik cls :: Cond.initialized cls :: vx_at0 own ic cls names, vx_ot w = true)
    (hU : vx_Zq Bundle.tN "UNASSIGNED_STACK" Bundle.steD A s s.heap) (hN : vx_Zq Bundle.tN "SUPPRESSED_SENTINEL" Bundle.listD A s s.heap) (hS : va_S A s.heap H locs) (hsize : ls.size = c.maxLocals)
    (d0 : decode cc pc = .ok (.new ik, 3)) (d3 : decode cc (pc + 3) = .ok (.dup, 1)) (d4 : decode cc (pc + 4) = .ok (.invokespecial ic, 3))
    (hRframes : names.length + 3 < R.frames) (hRlocals : (rest.map fun v => v.category).sum + (13 * (names.length + 1) + 42) ≤ R.locals) (hRcells : cells + 1 ≤ R.cells) (hRslots : slots + 6 ≤ R.slots)
    (kk : ∀ (H1 : Heap) (ce : Cell), H1[H.size]? = some ce → s.vm.findClass cls = some ce.cls → ce.vm = .none → H1.size = H.size + 1 → (∀ q, q < H.size → H1[q]? = H[q]?) → W p l e R s m args below meth c H1 locs (cells + 1) (slots + 6) Q (F0 m (pc + 7) ls (.ref H.size :: rest))) :
    W p l e R s m args below meth c H locs cells slots Q (F0 m pc ls rest) := by
  intro T hT X
  subst hT
  have htr : e.platform.stackTraces = false := (show e.platform.stackTraces = l.stackTraces by rw [X.admits.platform]).trans hl
  have Y := vx_rebase X (R' := { frames := R.frames, locals := R.locals, cells := 1, slots := 6 }) (Nat.le_refl _) (Nat.le_refl _) hRcells hRslots
  obtain ⟨s', hA'⟩ : ∃ z, z = (T.setVm s.vm).setFrames (.invoking m args :: below) := ⟨_, rfl⟩
  rw [← hA'] at Y
  have hvm : s'.vm = s.vm := by rw [hA']; rfl
  have hhp : s'.heap = T.heap := by rw [hA']; rfl
  have hW0 : s.WarmedH s'.vm := by rw [hvm]; exact State.WarmedH.refl s
  have hat' : ∀ w ∈ vx_at0 own ic cls names, w.before args s' = true := fun w hw => vx_ot_at hW0 hvm.symm (hgood w (List.mem_cons_of_mem _ (List.mem_cons_of_mem _ hw))) (hat w hw)
  have hk' : (Cond.classLink own ik cls).before args s' = true := vx_ot_at hW0 hvm.symm (hgood _ List.mem_cons_self) hk
  have hini' : (Cond.initialized cls).before args s' = true := vx_ot_at hW0 hvm.symm (hgood _ (List.mem_cons_of_mem _ List.mem_cons_self)) hini
  have hU' : vx_Zq Bundle.tN "UNASSIGNED_STACK" Bundle.steD A s' s'.heap := by rw [hhp]; exact vx_Zq.moved hW0.alike (hU.kept hS.2.1)
  have hN' : vx_Zq Bundle.tN "SUPPRESSED_SENTINEL" Bundle.listD A s' s'.heap := by rw [hhp]; exact vx_Zq.moved hW0.alike (hN.kept hS.2.1)
  have h : ∀ w ∈ Bundle.ownAtoms0 own ic cls names, w.before args s' = true := vx_own hat' (vx_isRefq hU'.1) (vx_isRefq hN'.1) hU'.2.word hN'.2.word
  have hown' : s'.vm.findClass own = some m.cls := by rw [hvm]; exact hown
  have hins : (Cond.instantiable cls 6).before args s' = true := h _ (by simp [Bundle.ownAtoms0])
  obtain ⟨vm₁, cX, kX, hfX, hkX, -, -, X₁, st1⟩ := Y.newCold hexec (own := own) (C := cls) (index := ik) (n := 6) hown' hk' hins hini'
    (g := F0 m pc ls rest) rfl (by rw [hb]; exact d0) (Nat.le_refl _) (Nat.le_refl _)
  generalize hT1 : (T.setVm vm₁).pushCell { cls := cX, slots := kX.instanceTypes.map defaultValue, vm := .none } = T1 at X₁ st1
  have hcat : (Value.ref T.heap.size).category = 1 := rfl
  have hcellA : T1.heap[T.heap.size]? = some (freshCell cX kX) := by rw [← hT1]; exact State.heap_pushCell_size _ _
  have d3' : decode c.code (pc + 3) = .ok (.dup, 1) := by rw [hb]; exact d3
  obtain ⟨V, ce, L, Z, hL, hlt, hcl9, hvm9, st⟩ := vx_ctorMade0 X₁ hexec htr (own := own) (cls := cls) (names := names) (ic := ic) hown' hcls hnames h (fun x hx => nomatch hx) hfX hkX hcellA (by rw [hhp]; exact Nat.le_refl _)
    (g := { method := m, pc := pc + 4, locals := ls, stack := .ref T.heap.size :: .ref T.heap.size :: rest, locked := none }) rfl hsize (rest := rest) rfl
    (by rw [hb]; exact d4) hRframes (by simp only [List.map_cons, List.sum_cons, hcat]; omega)
  have Z0 := Stand.forget (locs := []) Z (fun y hy => by rw [hL y hy, hhp]; exact Nat.le_refl _)
  obtain ⟨f1, f2⟩ := vx_frame Z0.same
  rw [hhp] at f1 f2
  have hcid : s.vm.findClass cls = some ce.cls := by
    rw [hcl9]
    rw [hvm] at hfX
    exact hfX
  have hh : (V.setCell T.heap.size ce).heap[T.heap.size]? = some ce := heapAt_setCell_self (s := V) ce hlt
  subst hA'
  have X5 := vx_back9 X Y Z0
  have X6 : Stand p l e R s m args below meth c (V.setCell T.heap.size ce) locs (cells + 1) (slots + 6) := { X5 with same := X5.same.mono (by omega) (by omega) }
  have z1 : (V.setCell T.heap.size ce).heap.size = T.heap.size + 1 := by
    have g1 := (Array.getElem?_eq_some_iff.mp hh).1
    have g2 : (V.setCell T.heap.size ce).heap.size ≤ T.heap.size + (0 + 1) := Z0.same.2.2.1
    omega
  obtain ⟨t, a1, b1⟩ := kk (V.setCell T.heap.size ce).heap ce hh hcid hvm9 z1 (fun q hq => f2 q hq (fun z hz => nomatch hz)) _ rfl X6
  refine ⟨t, st1 _ ?_, b1⟩
  show Steps p.tables e below (T1.setTop { method := m, pc := pc + 3, locals := ls, stack := .ref T.heap.size :: rest, locked := none }) _
  jvm_step X₁.here [X₁.here.top, hexec, d3', Value.category]
  exact st _ a1
end XMK
/-- what making one of the three JDK exceptions asks of the tables -/
def EO (own : String) (ik ic ci : Nat) : Prop := ∃ (cls : String) (T0 : u_T) (names : List String), ci < NNEW ∧ CL[ci]? = some (cls, T0, 0) ∧ names.length = 2 ∧ Bundle.fit cls = true ∧ (∀ n ∈ names, Bundle.fit n = true) ∧ Cond.classLink own ik cls ∈ lw_all ∧ Cond.initialized cls ∈ lw_all ∧ (cls, cls) ∈ XWC ∧ (∀ w ∈ vx_at0 own ic cls names, w ∈ lw_all ∨ w = .castable cls cls ∨ ∃ x ∈ XWD, w = .declares x)
theorem good_ot {w : Cond} (h : w ∈ lw_all) : vx_ot w = true := by
  unfold vx_ot
  rw [(List.mem_filter.mp h).2, Bool.or_true]
section VMK
variable {l : Launch} {g : GG} {M : MD} {fr : Nat} {pc : Nat} {L : List (Option Value)} {st : List Value} {h : AH} {Q : Res → AH → Prop}
theorem V.make0 {ik ic ci : Nat} (hO : EO M.1.cls ik ic ci) (d0 : decode M.2.1 pc = .ok (.new ik, 3)) (d3 : decode M.2.1 (pc + 3) = .ok (.dup, 1)) (d4 : decode M.2.1 (pc + 4) = .ok (.invokespecial ic, 3)) (hfr : 6 ≤ fr) (hst : stW st ≤ 8) (hc : nx h + 1 ≤ gL g) (hs : us h + 6 ≤ gM g) (k : V l g M fr (pc + 7) L (.ref (nx h) :: st) (nO h ci 6) Q) : V l g M fr pc L st h Q := by
  intro hl p e s m args below meth c C H locs hR hS ls hL
  obtain ⟨cls, T0, names, o1, o2, o3, o4, o5, o6, o7, o8, o9⟩ := hO
  have hts := C.2.2.2.2.2.2.1
  have hF := C.2.2.2.2.2.2.2.1
  have hbase := C.2.2.2.2.2.2.2.2.2.2
  refine xlow (b := gB g) hbase (fun lo1 lo2 => ?_)
  have hz := hR.2.1
  have hu := hR.2.2.1
  have hcast : va_Nw (.castable cls cls) s := hF.2.2.2.2.1 _ o8
  refine xx_make0 (names := names) (A := gF g) C.1 C.2.1 hl C.2.2.2.2.2.1 o4 o5 (hts _ o6) (hts _ o7) (fun w hw => ?_) (fun w hw => ?_) (hF.2.2.2.2.2.2.2.2.2.1 _ (List.mem_of_getElem? (i := 0) rfl)) (hF.2.2.2.2.2.2.2.2.2.1 _ (List.mem_of_getElem? (i := 1) rfl)) hS (by rw [C.2.2.1]; exact hL.1) d0 d3 d4 (by show names.length + 3 < fr; omega) (by show stW st + (13 * (names.length + 1) + 42) ≤ 64 * fr; omega) (by show _ ≤ gL g - s.heap.size; omega) (by show _ ≤ gM g - SUM (gB g) s.heap; omega) fun H1 ce e1 e2 e3 z1 o1' => ?_
  · rcases o9 w hw with h9 | rfl | ⟨x, hx, rfl⟩
    · exact hts _ h9
    · exact va_Nw.use rfl hcast
    · exact va_Nw.use rfl (hF.2.2.2.2.2.2.2.2.2.2.2.2.2.1 _ hx)
  · rcases List.mem_cons.mp hw with rfl | hw
    · exact good_ot o6
    · rcases List.mem_cons.mp hw with rfl | hw
      · exact good_ot o7
      · rcases o9 w hw with h9 | rfl | ⟨x, hx, rfl⟩
        · exact good_ot h9
        · rfl
        · rfl
  · have hKn := hF.1 ci _ o1 o2
    have hcid : ce.cls = (gD g).1 ci := Option.some.inj (e2.symm.trans hKn.2.1)
    have k8 : V l g M fr (pc + 7) L (.ref H.size :: st) (nO h ci 6) Q := by rw [hz]; exact k
    have hb9 : gB g ≤ H.size := Nat.le_trans hbase lo1
    have hN : RelC g (nO h ci 6) H1 := by
      have old : ∀ b x, kd (nO h ci 6) b = some x → b ≠ nx h → kd h b = some x := fun b x hb hne => by simpa [nO, kd, hne] using hb
      refine ⟨fun b cj hb => ?_, fun b t2 n2 hb => ?_, fun b x hb => ?_⟩
      · by_cases hbn : b = nx h
        · subst hbn
          have h7 : kd (nO h ci 6) (nx h) = some (true, .inl ci) := by simp [nO, kd]
          rw [h7] at hb
          cases hb
          exact ⟨by omega, o1, _, o2, ce, by rw [← hz]; exact e1, hcid, e3, fun k hk => absurd hk (Nat.not_lt_zero k)⟩
        · have hb' := old b _ hb hbn
          obtain ⟨f1, f2, r2, f3, f4⟩ := hR.1.1 b cj hb'
          exact ⟨f1, f2, r2, f3, (f4.kept (o1' b (hR.1.lt hb' hb9))).to (fun k _ => by simp [nO, fv, hbn])⟩
      · have hbn : b ≠ nx h := fun e => by subst e; simp [nO, kd] at hb
        have hb' := old b _ hb hbn
        obtain ⟨f1, f2, f3⟩ := hR.1.2.1 b t2 n2 hb'
        exact ⟨f1, f2, by rw [o1' b (hR.1.lt hb' hb9)]; exact f3⟩
      · have hbn : b ≠ nx h := fun e => by subst e; simp [nO, kd] at hb
        obtain ⟨f1, f2, f3, f4⟩ := hR.1.2.2 b x (old b _ hb hbn)
        exact ⟨f1, f2, fun f => by rw [← f3 f]; simp [nO, fv, hbn], f4⟩
    exact V.go (H := H) (H1 := H1) (dc := 1) (ds := 6) k8 hl C ⟨lo1, lo2⟩ hN (by rw [z1, hz]; rfl) ⟨by show _ ≤ us h + 6; omega, hc, hs⟩ (hS.grow z1 o1') hL
end VMK
set_option maxRecDepth 100000 in
theorem eo_X1_362_364 : EO "RideDesk" 362 364 20 := ⟨RJ10, TJ10, ["java/lang/RuntimeException", "java/lang/Exception"], by decide, rfl, rfl, by decide +kernel, by decide +kernel, q1536, q165, List.mem_of_getElem? (i := 45) rfl, by
  have h : ((vx_at0 "RideDesk" 364 RJ10 ["java/lang/RuntimeException", "java/lang/Exception"]).all fun w => lw_all.contains w || decide (w = .castable RJ10 RJ10) || XWD.any (fun x => decide (w = .declares x))) = true := by decide +kernel
  intro w hw
  have h2 := List.all_eq_true.mp h w hw
  rcases (Bool.or_eq_true _ _).mp h2 with h3 | h3
  · rcases (Bool.or_eq_true _ _).mp h3 with h3 | h3
    · exact Or.inl (List.contains_iff_mem.mp h3)
    · exact Or.inr (Or.inl (of_decide_eq_true h3))
  · obtain ⟨x, hx, hx2⟩ := List.any_eq_true.mp h3
    exact Or.inr (Or.inr ⟨x, hx, of_decide_eq_true hx2⟩)⟩
set_option maxRecDepth 100000 in
theorem eo_X1_365_367 : EO "RideDesk" 365 367 19 := ⟨RJ5, TJ5, ["java/lang/RuntimeException", "java/lang/Exception"], by decide, rfl, rfl, by decide +kernel, by decide +kernel, q516, q155, List.mem_of_getElem? (i := 49) rfl, by
  have h : ((vx_at0 "RideDesk" 367 RJ5 ["java/lang/RuntimeException", "java/lang/Exception"]).all fun w => lw_all.contains w || decide (w = .castable RJ5 RJ5) || XWD.any (fun x => decide (w = .declares x))) = true := by decide +kernel
  intro w hw
  have h2 := List.all_eq_true.mp h w hw
  rcases (Bool.or_eq_true _ _).mp h2 with h3 | h3
  · rcases (Bool.or_eq_true _ _).mp h3 with h3 | h3
    · exact Or.inl (List.contains_iff_mem.mp h3)
    · exact Or.inr (Or.inl (of_decide_eq_true h3))
  · obtain ⟨x, hx, hx2⟩ := List.any_eq_true.mp h3
    exact Or.inr (Or.inr ⟨x, hx, of_decide_eq_true hx2⟩)⟩
set_option maxRecDepth 100000 in
theorem eo_X1_372_374 : EO "RideDesk" 372 374 21 := ⟨RJ21, TJ21, ["java/lang/RuntimeException", "java/lang/Exception"], by decide, rfl, rfl, by decide +kernel, by decide +kernel, q1557, q189, List.mem_of_getElem? (i := 47) rfl, by
  have h : ((vx_at0 "RideDesk" 374 RJ21 ["java/lang/RuntimeException", "java/lang/Exception"]).all fun w => lw_all.contains w || decide (w = .castable RJ21 RJ21) || XWD.any (fun x => decide (w = .declares x))) = true := by decide +kernel
  intro w hw
  have h2 := List.all_eq_true.mp h w hw
  rcases (Bool.or_eq_true _ _).mp h2 with h3 | h3
  · rcases (Bool.or_eq_true _ _).mp h3 with h3 | h3
    · exact Or.inl (List.contains_iff_mem.mp h3)
    · exact Or.inr (Or.inl (of_decide_eq_true h3))
  · obtain ⟨x, hx, hx2⟩ := List.any_eq_true.mp h3
    exact Or.inr (Or.inr ⟨x, hx, of_decide_eq_true hx2⟩)⟩
