/-! ===== calls ===== -/
def mOK (y : MethodName) (nL n : Nat) : Prop := (y.cls ≠ "java/lang/invoke/MethodHandle" ∧ y.cls ≠ "java/lang/invoke/VarHandle") ∧ (parseMethodDescriptor y.desc).map (fun d => d.parameters.length) = some n ∧ nL ≤ 45
theorem PcG.blind {g : GG} {h : AH} {n0 s0 : Nat} {as : List Value} : FrameBlind (va_Pc as (PcG g h n0 s0)) := by
  intro a U g9 mk hv
  obtain ⟨h0, h1, h2, h3, h4, h5⟩ := hv
  exact ⟨h0, h1, h2, h3, Fx.warm (s := U) (U := U.calling g9 mk a) (State.WarmedH.refl U) (fun _ _ _ => rfl) XWI_ok h4, h5⟩
theorem PcG.now {g : GG} {h : AH} {s U : State} {H : Heap} {locs : List Loc} {as : List Value} (hF : Fx g s) (hR : Rel g h H) (hS : va_S (gF g) s.heap H locs) (hb : gB g ≤ s.heap.size) (hU : U.heap = H) (hW : s.WarmedH U.vm) : va_Pc as (PcG g h H.size (SUM (gB g) H)) as.toArray U := by
  refine ⟨rfl, by rw [hU], by rw [hU], Nat.le_trans hb hS.1, Fx.warm hW (fun q h1 h2 => by rw [hU]; exact hS.2.1 q h1 h2) XWI_ok hF, by rw [hU]; exact hR⟩
theorem Sp.met {l : Launch} {g : GG} {M : MD} {fr : Nat} {as : List Value} {h : AH} {Q1 : Res → AH → Prop} (hsp : Sp l g M fr as h Q1) (hl : l.stackTraces = false) (hno : ∀ x h2, ¬ Q1 (.inr x) h2) (n0 s0 : Nat) : Met l M.1 (wsM M) (rmG g fr n0 s0) (va_Pc as (PcG g h n0 s0)) (QcG g Q1) (gL g - n0) (gM g - s0) (gF g) := by
  refine MetFree.mono (hsp hl n0 s0) (fun _ _ h => h) (fun _ _ _ _ _ h => h) (fun a st o t _ hq => ?_)
  rcases hq with hq | ⟨q, -, E, ce, L, ⟨h2, hq, -⟩, -⟩
  · exact hq
  · exact (hno _ _ hq).elim
section VCALL
variable {l : Launch} {g : GG} {M : MD} {fr : Nat} {pc : Nat} {L : List (Option Value)} {st : List Value} {h : AH} {Q : Res → AH → Prop}
variable {p : Program} {e : Env} {s : State} {m : MethodId} {args : Array Value} {below : List Frame} {meth : Method} {c : Code} {H : Heap} {locs : List Loc}
theorem V.ofRun {Q1 : Res → AH → Prop} {st0 : List Value} {as : Array Value} {ls : Array Slot} (hl : l.stackTraces = false) (C : Cx l g M p s m args meth c) (hR : Rel g h H) (hS : va_S (gF g) s.heap H locs) (hL : Lh ls M.2.2.1 L)
    (hr : vx_Run p l e (rmG g fr s.heap.size (SUM (gB g) s.heap)) s m args below meth c H locs (H.size - s.heap.size) (SUM (gB g) H - SUM (gB g) s.heap) (gL g - H.size) (gM g - SUM (gB g) H) (F0 m pc ls st0) st (QcG g Q1 as) (XcG g Q1) (gF g))
    (kr : ∀ v h2, Q1 (.inl v) h2 → V l g M fr (pc + 3) L (v.toList ++ st) h2 Q) (kx : ∀ E q h2, Q1 (.inr (E, q)) h2 → VT l g M fr pc L E q h2 Q) :
    W p l e (rmG g fr s.heap.size (SUM (gB g) s.heap)) s m args below meth c H locs (H.size - s.heap.size) (SUM (gB g) H - SUM (gB g) s.heap) (vx_MQ below (QcG g Q) (XcG g Q) args s (gL g - s.heap.size) (gM g - SUM (gB g) s.heap) (gF g)) (F0 m pc ls st0) := by
  intro T hT X
  have hbase := C.2.2.2.2.2.2.2.2.2.2
  have hA : ∀ q : Nat, q < H.size → gF g q → gF g q := fun _ _ h => h
  rcases hr T hT X with ⟨v, st₀, t, T', Lc, h0, X', hL9, e1, e2, ⟨v1, h2, hv, hq, hrel, hFr⟩, step⟩ | ⟨q, st₀, t, T', Lc, E, ce, h0, X', hL9, e1, e2, ⟨h2, hq, hrel, hFr⟩, hce, hcv, hcl, step⟩
  · cases hv
    obtain ⟨k1, k2, k3⟩ := vx_keep (H0 := s.heap) (A0 := gF g) h0 e1 hS hA (fun _ h => h) hL9 hFr
    have W9 := xtight (b := gB g) (cells := (H.size - s.heap.size) + (gL g - H.size)) (slots := (SUM (gB g) H - SUM (gB g) s.heap) + (gM g - SUM (gB g) H)) hbase (fun _ _ => kr v h2 hq hl p e s m args below meth c C T'.heap (locs ++ Lc) (by rw [e1]; exact hrel) k3 ls hL)
    obtain ⟨t2, a1, b1⟩ := W9 T' rfl X'
    exact ⟨t2, step t2 a1, b1⟩
  · obtain ⟨k1, k2, k3⟩ := vx_keep (H0 := s.heap) (A0 := gF g) h0 e1 hS hA (fun _ h => h) hL9 hFr
    have W9 := xtightX (b := gB g) (cells := (H.size - s.heap.size) + (gL g - H.size)) (slots := (SUM (gB g) H - SUM (gB g) s.heap) + (gM g - SUM (gB g) H)) hbase (fun _ _ => kx E q h2 hq hl p e s m args below meth c C T'.heap (locs ++ Lc) (by rw [e1]; exact hrel) k3 ⟨ce, by rw [e1]; exact hce, hcv, hcl⟩ ls hL st)
    obtain ⟨t2, a1, b1⟩ := W9 T' rfl X'
    exact ⟨t2, step.trans a1, b1⟩
theorem V.ofMun {len : Nat} {Q1 : Res → AH → Prop} {st0 : List Value} {as : Array Value} {ls : Array Slot} (hl : l.stackTraces = false) (C : Cx l g M p s m args meth c) (hR : Rel g h H) (hS : va_S (gF g) s.heap H locs) (hL : Lh ls M.2.2.1 L)
    (hr : ∀ T : State, T.heap = H → Stand p l e (rmG g fr s.heap.size (SUM (gB g) s.heap)) s m args below meth c T locs (H.size - s.heap.size) (SUM (gB g) H - SUM (gB g) s.heap) → ∃ (v : Option Value) (st₀ t T' : State) (Lc : List Loc), st₀.heap = H ∧ Stand p l e (rmG g fr s.heap.size (SUM (gB g) s.heap)) s m args below meth c T' (locs ++ Lc) ((H.size - s.heap.size) + (gL g - H.size)) ((SUM (gB g) H - SUM (gB g) s.heap) + (gM g - SUM (gB g) H)) ∧ (∀ q ∈ Lc, gF g q.base) ∧ T'.heap = t.heap ∧ T'.vm = t.vm ∧ QcG g Q1 as st₀ (.returned v) t ∧ Goes p e below T (F0 m pc ls st0) T' (F0 m (pc + len) ls (v.toList ++ st)))
    (kr : ∀ v h2, Q1 (.inl v) h2 → V l g M fr (pc + len) L (v.toList ++ st) h2 Q) :
    W p l e (rmG g fr s.heap.size (SUM (gB g) s.heap)) s m args below meth c H locs (H.size - s.heap.size) (SUM (gB g) H - SUM (gB g) s.heap) (vx_MQ below (QcG g Q) (XcG g Q) args s (gL g - s.heap.size) (gM g - SUM (gB g) s.heap) (gF g)) (F0 m pc ls st0) := by
  intro T hT X
  have hbase := C.2.2.2.2.2.2.2.2.2.2
  have hA : ∀ q : Nat, q < H.size → gF g q → gF g q := fun _ _ h => h
  obtain ⟨v, st₀, t, T', Lc, h0, X', hL9, e1, e2, ⟨v1, h2, hv, hq, hrel, hFr⟩, step⟩ := hr T hT X
  cases hv
  obtain ⟨k1, k2, k3⟩ := vx_keep (H0 := s.heap) (A0 := gF g) h0 e1 hS hA (fun _ h => h) hL9 hFr
  have W9 := xtight (b := gB g) (cells := (H.size - s.heap.size) + (gL g - H.size)) (slots := (SUM (gB g) H - SUM (gB g) s.heap) + (gM g - SUM (gB g) H)) hbase (fun _ _ => kr v h2 hq hl p e s m args below meth c C T'.heap (locs ++ Lc) (by rw [e1]; exact hrel) k3 ls hL)
  obtain ⟨t2, a1, b1⟩ := W9 T' rfl X'
  exact ⟨t2, step t2 a1, b1⟩
abbrev stW (st : List Value) : Nat := (st.map fun v => v.category).sum

theorem V.invS {y : MethodName} {cc : ByteArray} {nL : Nat} {ret : Option FieldType} {fr2 idx : Nat} {as : List Value} {Q1 : Res → AH → Prop} (hd : decode M.2.1 pc = .ok (.invokestatic idx, 3)) (hok : mOK y nL as.length) (hG : GoodIn lw_all (va_wsS M.1.cls idx y (ws_ y cc nL ret))) (hfr : fr2 + 1 ≤ fr) (hst : stW st ≤ 8) (hsp : Sp l g ((y, cc, nL, ret, []) : MD) fr2 as h Q1) (kr : ∀ v h2, Q1 (.inl v) h2 → V l g M fr (pc + 3) L (v.toList ++ st) h2 Q) (kx : ∀ E q h2, Q1 (.inr (E, q)) h2 → VT l g M fr pc L E q h2 Q) : V l g M fr pc L (as.reverse ++ st) h Q := by
  intro hl p e s m args below meth c C H locs hR hS ls hL
  have hts := C.2.2.2.2.2.2.1
  have hF := C.2.2.2.2.2.2.2.1
  have hbase := C.2.2.2.2.2.2.2.2.2.2
  obtain ⟨hm1, hm2, hm3⟩ := hok
  have hz := hR.2.1
  have hu := hR.2.2.1
  have hg1 := hR.2.2.2.1
  have hg2 := hR.2.2.2.2
  refine xlow (b := gB g) hbase (fun lo1 lo2 => ?_)
  have hroom : (H.size - s.heap.size) + (gL g - H.size) ≤ gL g - s.heap.size ∧ (SUM (gB g) H - SUM (gB g) s.heap) + (gM g - SUM (gB g) H) ≤ gM g - SUM (gB g) s.heap := ⟨by omega, by omega⟩
  have hRR : fr2 + 1 ≤ fr ∧ 8 + (nL + 11) + 64 * fr2 ≤ 64 * fr := ⟨hfr, by omega⟩

  exact V.ofRun hl C hR hS hL (vx_runS (As := as) (rest := st) ⟨C.1, C.2.1, C.2.2.1, C.2.2.2.2.2.1, hts⟩ (hsp hl H.size (SUM (gB g) H)) (va_cwS as.length hts hG rfl rfl rfl ⟨hm1.1, hm1.2, hm2⟩ hRR) ⟨PcG.blind, fun U hU hW => PcG.now hF hR hS hbase hU hW⟩ rfl rfl hL.1 rfl (show 2 * 0 + stW st ≤ 8 by omega) hd hroom) kr kx
theorem V.invSW {y : MethodName} {cc : ByteArray} {nL : Nat} {ret : Option FieldType} {fr2 idx : Nat} {as : List Value} {Q1 : Res → AH → Prop} {hx : Nat × Nat × Nat × Nat} {hr : List (Nat × Nat × Nat × Nat)} (hd : decode M.2.1 pc = .ok (.invokestatic idx, 3)) (hok : mOK y nL as.length) (hG : GoodIn lw_all (va_wsS M.1.cls idx y (wsW_ y cc nL ret (hx :: hr)))) (hfr : fr2 + 1 ≤ fr) (hst : stW st ≤ 8) (hsp : Sp l g ((y, cc, nL, ret, hx :: hr) : MD) fr2 as h Q1) (kr : ∀ v h2, Q1 (.inl v) h2 → V l g M fr (pc + 3) L (v.toList ++ st) h2 Q) (kx : ∀ E q h2, Q1 (.inr (E, q)) h2 → VT l g M fr pc L E q h2 Q) : V l g M fr pc L (as.reverse ++ st) h Q := by
  intro hl p e s m args below meth c C H locs hR hS ls hL
  have hts := C.2.2.2.2.2.2.1
  have hF := C.2.2.2.2.2.2.2.1
  have hbase := C.2.2.2.2.2.2.2.2.2.2
  obtain ⟨hm1, hm2, hm3⟩ := hok
  have hz := hR.2.1
  have hu := hR.2.2.1
  have hg1 := hR.2.2.2.1
  have hg2 := hR.2.2.2.2
  refine xlow (b := gB g) hbase (fun lo1 lo2 => ?_)
  have hroom : (H.size - s.heap.size) + (gL g - H.size) ≤ gL g - s.heap.size ∧ (SUM (gB g) H - SUM (gB g) s.heap) + (gM g - SUM (gB g) H) ≤ gM g - SUM (gB g) s.heap := ⟨by omega, by omega⟩
  have hRR : fr2 + 1 ≤ fr ∧ 8 + (nL + 11) + 64 * fr2 ≤ 64 * fr := ⟨hfr, by omega⟩

  exact V.ofRun hl C hR hS hL (vx_runSX (As := as) (rest := st) ⟨C.1, C.2.1, C.2.2.1, C.2.2.2.2.2.1, hts⟩ (hsp hl H.size (SUM (gB g) H)) (vx_cwSW as.length hts hG rfl rfl rfl ⟨hm1.1, hm1.2, hm2⟩ hRR) ⟨PcG.blind, fun U hU hW => PcG.now hF hR hS hbase hU hW⟩ rfl rfl hL.1 rfl (show 2 * 0 + stW st ≤ 8 by omega) hd hroom) kr kx
theorem V.invV {y : MethodName} {cc : ByteArray} {nL : Nat} {ret : Option FieldType} {fr2 idx : Nat} {as : List Value} {Q1 : Res → AH → Prop} {b ci : Nat} {w : Bool} {rc : vw_C} (hd : decode M.2.1 pc = .ok (.invokevirtual idx, 3)) (hok : mOK y nL as.length) (hG : GoodIn lw_all (wsV M.1.cls idx rc.1 y (ws_ y cc nL ret))) (hyc : y.cls = rc.1) (hkb : kd h b = some (w, .inl ci)) (hcl9 : CL[ci]? = some rc) (hfr : fr2 + 1 ≤ fr) (hst : stW st ≤ 8) (hsp : Sp l g ((y, cc, nL, ret, []) : MD) fr2 (.ref b :: as) h Q1) (kr : ∀ v h2, Q1 (.inl v) h2 → V l g M fr (pc + 3) L (v.toList ++ st) h2 Q) (kx : ∀ E q h2, Q1 (.inr (E, q)) h2 → VT l g M fr pc L E q h2 Q) : V l g M fr pc L (as.reverse ++ .ref b :: st) h Q := by
  intro hl p e s m args below meth c C H locs hR hS ls hL
  have hts := C.2.2.2.2.2.2.1
  have hF := C.2.2.2.2.2.2.2.1
  have hbase := C.2.2.2.2.2.2.2.2.2.2
  obtain ⟨hm1, hm2, hm3⟩ := hok
  have hz := hR.2.1
  have hu := hR.2.2.1
  have hg1 := hR.2.2.2.1
  have hg2 := hR.2.2.2.2
  refine xlow (b := gB g) hbase (fun lo1 lo2 => ?_)
  have hroom : (H.size - s.heap.size) + (gL g - H.size) ≤ gL g - s.heap.size ∧ (SUM (gB g) H - SUM (gB g) s.heap) + (gM g - SUM (gB g) H) ≤ gM g - SUM (gB g) s.heap := ⟨by omega, by omega⟩
  have hRR : fr2 + 1 ≤ fr ∧ 8 + (nL + 11) + 64 * fr2 ≤ 64 * fr := ⟨hfr, by omega⟩
  obtain ⟨r9, f9, cell9, g91, g92, g93⟩ := cellR hF hR hS hkb
  cases hcl9.symm.trans f9

  exact V.ofRun hl C hR hS hL (vx_runV (As := as) (rest := st) ⟨C.1, C.2.1, C.2.2.1, C.2.2.2.2.2.1, hts⟩ (hsp hl H.size (SUM (gB g) H)) (cwV as.length hts hG rfl rfl rfl ⟨hyc, hm1.1, hm1.2, hm2⟩ hRR) ⟨PcG.blind, ⟨cell9, g91, g92, g93⟩, fun U hU hW => PcG.now hF hR hS hbase hU hW⟩ rfl rfl hL.1 rfl (show 2 * 0 + stW st ≤ 8 by omega) hd hroom) kr kx
theorem V.invVW {y : MethodName} {cc : ByteArray} {nL : Nat} {ret : Option FieldType} {fr2 idx : Nat} {as : List Value} {Q1 : Res → AH → Prop} {hx : Nat × Nat × Nat × Nat} {hr : List (Nat × Nat × Nat × Nat)} {b ci : Nat} {w : Bool} {rc : vw_C} (hd : decode M.2.1 pc = .ok (.invokevirtual idx, 3)) (hok : mOK y nL as.length) (hG : GoodIn lw_all (wsV M.1.cls idx rc.1 y (wsW_ y cc nL ret (hx :: hr)))) (hyc : y.cls = rc.1) (hkb : kd h b = some (w, .inl ci)) (hcl9 : CL[ci]? = some rc) (hfr : fr2 + 1 ≤ fr) (hst : stW st ≤ 8) (hsp : Sp l g ((y, cc, nL, ret, hx :: hr) : MD) fr2 (.ref b :: as) h Q1) (kr : ∀ v h2, Q1 (.inl v) h2 → V l g M fr (pc + 3) L (v.toList ++ st) h2 Q) (kx : ∀ E q h2, Q1 (.inr (E, q)) h2 → VT l g M fr pc L E q h2 Q) : V l g M fr pc L (as.reverse ++ .ref b :: st) h Q := by
  intro hl p e s m args below meth c C H locs hR hS ls hL
  have hts := C.2.2.2.2.2.2.1
  have hF := C.2.2.2.2.2.2.2.1
  have hbase := C.2.2.2.2.2.2.2.2.2.2
  obtain ⟨hm1, hm2, hm3⟩ := hok
  have hz := hR.2.1
  have hu := hR.2.2.1
  have hg1 := hR.2.2.2.1
  have hg2 := hR.2.2.2.2
  refine xlow (b := gB g) hbase (fun lo1 lo2 => ?_)
  have hroom : (H.size - s.heap.size) + (gL g - H.size) ≤ gL g - s.heap.size ∧ (SUM (gB g) H - SUM (gB g) s.heap) + (gM g - SUM (gB g) H) ≤ gM g - SUM (gB g) s.heap := ⟨by omega, by omega⟩
  have hRR : fr2 + 1 ≤ fr ∧ 8 + (nL + 11) + 64 * fr2 ≤ 64 * fr := ⟨hfr, by omega⟩
  obtain ⟨r9, f9, cell9, g91, g92, g93⟩ := cellR hF hR hS hkb
  cases hcl9.symm.trans f9

  exact V.ofRun hl C hR hS hL (vx_runVX (As := as) (rest := st) ⟨C.1, C.2.1, C.2.2.1, C.2.2.2.2.2.1, hts⟩ (hsp hl H.size (SUM (gB g) H)) (vx_cwVW as.length hts hG rfl rfl rfl ⟨hyc, hm1.1, hm1.2, hm2⟩ hRR) ⟨PcG.blind, ⟨cell9, g91, g92, g93⟩, fun U hU hW => PcG.now hF hR hS hbase hU hW⟩ rfl rfl hL.1 rfl (show 2 * 0 + stW st ≤ 8 by omega) hd hroom) kr kx
theorem V.invI {y : MethodName} {cc : ByteArray} {nL : Nat} {ret : Option FieldType} {fr2 idx : Nat} {as : List Value} {Q1 : Res → AH → Prop} {b : Nat} (hd : decode M.2.1 pc = .ok (.invokespecial idx, 3)) (hok : mOK y nL as.length) (hG : GoodIn lw_all (ws_ y cc nL none)) (hret9 : ret = none) (hi1 : Cond.initialized y.cls ∈ lw_all) (hi2 : Cond.methodLink M.1.cls idx y ∈ lw_all) (hi3 : Cond.instanceMethod y ∈ lw_all) (hi4 : y.name = "<init>") (hfr : fr2 + 1 ≤ fr) (hst : stW st ≤ 8) (hsp : Sp l g ((y, cc, nL, ret, []) : MD) fr2 (.ref b :: as) h Q1) (hno : ∀ x h2, ¬ Q1 (.inr x) h2) (kr : ∀ v h2, Q1 (.inl v) h2 → V l g M fr (pc + 3) L (v.toList ++ st) h2 Q) : V l g M fr pc L (as.reverse ++ .ref b :: st) h Q := by
  subst hret9
  intro hl p e s m args below meth c C H locs hR hS ls hL
  have hts := C.2.2.2.2.2.2.1
  have hF := C.2.2.2.2.2.2.2.1
  have hbase := C.2.2.2.2.2.2.2.2.2.2
  obtain ⟨hm1, hm2, hm3⟩ := hok
  have hz := hR.2.1
  have hu := hR.2.2.1
  have hg1 := hR.2.2.2.1
  have hg2 := hR.2.2.2.2
  refine xlow (b := gB g) hbase (fun lo1 lo2 => ?_)
  have hroom : (H.size - s.heap.size) + (gL g - H.size) ≤ gL g - s.heap.size ∧ (SUM (gB g) H - SUM (gB g) s.heap) + (gM g - SUM (gB g) H) ≤ gM g - SUM (gB g) s.heap := ⟨by omega, by omega⟩
  have hRR : fr2 + 1 ≤ fr ∧ 8 + (nL + 11) + 64 * fr2 ≤ 64 * fr := ⟨hfr, by omega⟩

  exact V.ofMun (len := 3) hl C hR hS hL (va_runI (As := as) (rest := st) ⟨C.1, C.2.1, C.2.2.1, C.2.2.2.2.2.1, hts⟩ (hsp.met hl hno H.size (SUM (gB g) H)) (cwI as.length hts hG rfl rfl rfl (hts _ hi1) (hts _ hi2) (hts _ hi3) hi4 ⟨hm1.1, hm1.2, hm2⟩ hRR) ⟨PcG.blind, fun U hU hW => PcG.now hF hR hS hbase hU hW⟩ rfl rfl hL.1 rfl (show 2 * 0 + stW st ≤ 8 by omega) hd hroom) kr
theorem V.invVN {y : MethodName} {cc : ByteArray} {nL : Nat} {ret : Option FieldType} {fr2 idx : Nat} {as : List Value} {Q1 : Res → AH → Prop} {b ci : Nat} {w : Bool} {rc : vw_C} {host : String} (hd : decode M.2.1 pc = .ok (.invokevirtual idx, 3)) (hok : mOK y nL as.length) (hG : GoodIn lw_all (ws_ y cc nL ret)) (hi1 : Cond.initialized y.cls ∈ lw_all) (hi2 : (M.1.cls, idx, y, host) ∈ XWM) (hi3 : Cond.instanceMethod y ∈ lw_all) (hi4 : Cond.selects rc.1 y y ∈ lw_all) (hkb : kd h b = some (w, .inl ci)) (hcl9 : CL[ci]? = some rc) (hfr : fr2 + 1 ≤ fr) (hst : stW st ≤ 8) (hsp : Sp l g ((y, cc, nL, ret, []) : MD) fr2 (.ref b :: as) h Q1) (hno : ∀ x h2, ¬ Q1 (.inr x) h2) (kr : ∀ v h2, Q1 (.inl v) h2 → V l g M fr (pc + 3) L (v.toList ++ st) h2 Q) : V l g M fr pc L (as.reverse ++ .ref b :: st) h Q := by
  intro hl p e s m args below meth c C H locs hR hS ls hL
  have hts := C.2.2.2.2.2.2.1
  have hF := C.2.2.2.2.2.2.2.1
  have hbase := C.2.2.2.2.2.2.2.2.2.2
  obtain ⟨hm1, hm2, hm3⟩ := hok
  have hz := hR.2.1
  have hu := hR.2.2.1
  have hg1 := hR.2.2.2.1
  have hg2 := hR.2.2.2.2
  refine xlow (b := gB g) hbase (fun lo1 lo2 => ?_)
  have hroom : (H.size - s.heap.size) + (gL g - H.size) ≤ gL g - s.heap.size ∧ (SUM (gB g) H - SUM (gB g) s.heap) + (gM g - SUM (gB g) H) ≤ gM g - SUM (gB g) s.heap := ⟨by omega, by omega⟩
  have hRR : fr2 + 1 ≤ fr ∧ 8 + (nL + 11) + 64 * fr2 ≤ 64 * fr := ⟨hfr, by omega⟩
  obtain ⟨r9, f9, cell9, g91, g92, g93⟩ := cellR hF hR hS hkb
  cases hcl9.symm.trans f9

  exact V.ofMun (len := 3) hl C hR hS hL (va_runVN (As := as) (rest := st) ⟨C.1, C.2.1, C.2.2.1, C.2.2.2.2.2.1, hts⟩ (hsp.met hl hno H.size (SUM (gB g) H)) ⟨va_cnB as.length hts hG rfl rfl rfl (hF.2.2.2.1 _ hi2) (hts _ hi1) ⟨hm1.1, hm1.2, hm2⟩ hRR, hts _ hi3, hts _ hi4⟩ ⟨PcG.blind, ⟨cell9, g91, g92, g93⟩, fun U hU hW => PcG.now hF hR hS hbase hU hW⟩ rfl rfl hL.1 rfl (show 2 * 0 + stW st ≤ 8 by omega) hd hroom) kr
theorem V.invSN {y : MethodName} {cc : ByteArray} {nL : Nat} {ret : Option FieldType} {fr2 idx : Nat} {as : List Value} {Q1 : Res → AH → Prop} {host : String} (hd : decode M.2.1 pc = .ok (.invokestatic idx, 3)) (hok : mOK y nL as.length) (hG : GoodIn lw_all (ws_ y cc nL ret)) (hi1 : Cond.initialized y.cls ∈ lw_all) (hi2 : (M.1.cls, idx, y, host) ∈ XWM) (hi3 : Cond.static y ∈ lw_all) (hfr : fr2 + 1 ≤ fr) (hst : stW st ≤ 8) (hsp : Sp l g ((y, cc, nL, ret, []) : MD) fr2 as h Q1) (hno : ∀ x h2, ¬ Q1 (.inr x) h2) (kr : ∀ v h2, Q1 (.inl v) h2 → V l g M fr (pc + 3) L (v.toList ++ st) h2 Q) : V l g M fr pc L (as.reverse ++ st) h Q := by
  intro hl p e s m args below meth c C H locs hR hS ls hL
  have hts := C.2.2.2.2.2.2.1
  have hF := C.2.2.2.2.2.2.2.1
  have hbase := C.2.2.2.2.2.2.2.2.2.2
  obtain ⟨hm1, hm2, hm3⟩ := hok
  have hz := hR.2.1
  have hu := hR.2.2.1
  have hg1 := hR.2.2.2.1
  have hg2 := hR.2.2.2.2
  refine xlow (b := gB g) hbase (fun lo1 lo2 => ?_)
  have hroom : (H.size - s.heap.size) + (gL g - H.size) ≤ gL g - s.heap.size ∧ (SUM (gB g) H - SUM (gB g) s.heap) + (gM g - SUM (gB g) H) ≤ gM g - SUM (gB g) s.heap := ⟨by omega, by omega⟩
  have hRR : fr2 + 1 ≤ fr ∧ 8 + (nL + 11) + 64 * fr2 ≤ 64 * fr := ⟨hfr, by omega⟩

  exact V.ofMun (len := 3) hl C hR hS hL (va_runSN (As := as) (rest := st) ⟨C.1, C.2.1, C.2.2.1, C.2.2.2.2.2.1, hts⟩ (hsp.met hl hno H.size (SUM (gB g) H)) ⟨va_cnB as.length hts hG rfl rfl rfl (hF.2.2.2.1 _ hi2) (hts _ hi1) ⟨hm1.1, hm1.2, hm2⟩ hRR, hts _ hi3, trivial⟩ ⟨PcG.blind, fun U hU hW => PcG.now hF hR hS hbase hU hW⟩ rfl rfl hL.1 rfl (show 2 * 0 + stW st ≤ 8 by omega) hd hroom) kr
theorem V.invIN {y : MethodName} {cc : ByteArray} {nL : Nat} {ret : Option FieldType} {fr2 idx : Nat} {as : List Value} {Q1 : Res → AH → Prop} {host : String} {b : Nat} (hd : decode M.2.1 pc = .ok (.invokespecial idx, 3)) (hok : mOK y nL as.length) (hG : GoodIn lw_all (ws_ y cc nL none)) (hret9 : ret = none) (hi1 : Cond.initialized y.cls ∈ lw_all) (hi2 : (M.1.cls, idx, y, host) ∈ XWM) (hi3 : Cond.instanceMethod y ∈ lw_all) (hi4 : y.name = "<init>") (hfr : fr2 + 1 ≤ fr) (hst : stW st ≤ 8) (hsp : Sp l g ((y, cc, nL, ret, []) : MD) fr2 (.ref b :: as) h Q1) (hno : ∀ x h2, ¬ Q1 (.inr x) h2) (kr : ∀ v h2, Q1 (.inl v) h2 → V l g M fr (pc + 3) L (v.toList ++ st) h2 Q) : V l g M fr pc L (as.reverse ++ .ref b :: st) h Q := by
  subst hret9
  intro hl p e s m args below meth c C H locs hR hS ls hL
  have hts := C.2.2.2.2.2.2.1
  have hF := C.2.2.2.2.2.2.2.1
  have hbase := C.2.2.2.2.2.2.2.2.2.2
  obtain ⟨hm1, hm2, hm3⟩ := hok
  have hz := hR.2.1
  have hu := hR.2.2.1
  have hg1 := hR.2.2.2.1
  have hg2 := hR.2.2.2.2
  refine xlow (b := gB g) hbase (fun lo1 lo2 => ?_)
  have hroom : (H.size - s.heap.size) + (gL g - H.size) ≤ gL g - s.heap.size ∧ (SUM (gB g) H - SUM (gB g) s.heap) + (gM g - SUM (gB g) H) ≤ gM g - SUM (gB g) s.heap := ⟨by omega, by omega⟩
  have hRR : fr2 + 1 ≤ fr ∧ 8 + (nL + 11) + 64 * fr2 ≤ 64 * fr := ⟨hfr, by omega⟩

  exact V.ofMun (len := 3) hl C hR hS hL (va_runIN (As := as) (rest := st) ⟨C.1, C.2.1, C.2.2.1, C.2.2.2.2.2.1, hts⟩ (hsp.met hl hno H.size (SUM (gB g) H)) ⟨va_cnB as.length hts hG rfl rfl rfl (hF.2.2.2.1 _ hi2) (hts _ hi1) ⟨hm1.1, hm1.2, hm2⟩ hRR, hi4, hts _ hi3⟩ ⟨PcG.blind, fun U hU hW => PcG.now hF hR hS hbase hU hW⟩ rfl rfl hL.1 rfl (show 2 * 0 + stW st ≤ 8 by omega) hd hroom) kr
theorem V.invU {y : MethodName} {cc : ByteArray} {nL : Nat} {ret : Option FieldType} {fr2 idx : Nat} {as : List Value} {Q1 : Res → AH → Prop} {b ci : Nat} {w : Bool} {rc : vw_C} {owner : String} {x : MethodName} (hd : decode M.2.1 pc = .ok (.invokevirtual idx, 3)) (hok : mOK ⟨owner, x.name, x.desc⟩ nL as.length) (hG : GoodIn lw_all (va_wsU M.1.cls idx rc.1 owner x y (ws_ y cc nL ret))) (hyx : y = ⟨owner, x.name, x.desc⟩) (hkb : kd h b = some (w, .inl ci)) (hcl9 : CL[ci]? = some rc) (hfr : fr2 + 1 ≤ fr) (hst : stW st ≤ 8) (hsp : Sp l g ((y, cc, nL, ret, []) : MD) fr2 (.ref b :: as) h Q1) (hno : ∀ x h2, ¬ Q1 (.inr x) h2) (kr : ∀ v h2, Q1 (.inl v) h2 → V l g M fr (pc + 3) L (v.toList ++ st) h2 Q) : V l g M fr pc L (as.reverse ++ .ref b :: st) h Q := by
  intro hl p e s m args below meth c C H locs hR hS ls hL
  have hts := C.2.2.2.2.2.2.1
  have hF := C.2.2.2.2.2.2.2.1
  have hbase := C.2.2.2.2.2.2.2.2.2.2
  obtain ⟨hm1, hm2, hm3⟩ := hok
  have hz := hR.2.1
  have hu := hR.2.2.1
  have hg1 := hR.2.2.2.1
  have hg2 := hR.2.2.2.2
  refine xlow (b := gB g) hbase (fun lo1 lo2 => ?_)
  have hroom : (H.size - s.heap.size) + (gL g - H.size) ≤ gL g - s.heap.size ∧ (SUM (gB g) H - SUM (gB g) s.heap) + (gM g - SUM (gB g) H) ≤ gM g - SUM (gB g) s.heap := ⟨by omega, by omega⟩
  have hRR : fr2 + 1 ≤ fr ∧ 8 + (nL + 11) + 64 * fr2 ≤ 64 * fr := ⟨hfr, by omega⟩
  obtain ⟨r9, f9, cell9, g91, g92, g93⟩ := cellR hF hR hS hkb
  cases hcl9.symm.trans f9

  exact V.ofMun (len := 3) hl C hR hS hL (va_runU (As := as) (rest := st) ⟨C.1, C.2.1, C.2.2.1, C.2.2.2.2.2.1, hts⟩ (hsp.met hl hno H.size (SUM (gB g) H)) (va_cwU as.length hts hG rfl rfl rfl hyx ⟨hm1.1, hm1.2, hm2⟩ hRR) ⟨PcG.blind, ⟨cell9, g91, g92, g93⟩, fun U hU hW => PcG.now hF hR hS hbase hU hW⟩ rfl rfl hL.1 rfl (show 2 * 0 + stW st ≤ 8 by omega) hd hroom) kr
theorem V.invO {y : MethodName} {cc : ByteArray} {nL : Nat} {ret : Option FieldType} {fr2 idx : Nat} {as : List Value} {Q1 : Res → AH → Prop} {b ci : Nat} {w : Bool} {rc : vw_C} {owner : String} {x : MethodName} {b0 : ByteArray} {m0 : Nat} {r0 : Option FieldType} (hd : decode M.2.1 pc = .ok (.invokevirtual idx, 3)) (hok : mOK ⟨owner, x.name, x.desc⟩ nL as.length) (hG : GoodIn lw_all (va_wsO M.1.cls idx rc.1 owner x y (ws_ y cc nL ret))) (h0 : Cond.code ⟨owner, x.name, x.desc⟩ b0 m0 r0 ∈ lw_all) (hkb : kd h b = some (w, .inl ci)) (hcl9 : CL[ci]? = some rc) (hfr : fr2 + 1 ≤ fr) (hst : stW st ≤ 8) (hsp : Sp l g ((y, cc, nL, ret, []) : MD) fr2 (.ref b :: as) h Q1) (hno : ∀ x h2, ¬ Q1 (.inr x) h2) (kr : ∀ v h2, Q1 (.inl v) h2 → V l g M fr (pc + 3) L (v.toList ++ st) h2 Q) : V l g M fr pc L (as.reverse ++ .ref b :: st) h Q := by
  intro hl p e s m args below meth c C H locs hR hS ls hL
  have hts := C.2.2.2.2.2.2.1
  have hF := C.2.2.2.2.2.2.2.1
  have hbase := C.2.2.2.2.2.2.2.2.2.2
  obtain ⟨hm1, hm2, hm3⟩ := hok
  have hz := hR.2.1
  have hu := hR.2.2.1
  have hg1 := hR.2.2.2.1
  have hg2 := hR.2.2.2.2
  refine xlow (b := gB g) hbase (fun lo1 lo2 => ?_)
  have hroom : (H.size - s.heap.size) + (gL g - H.size) ≤ gL g - s.heap.size ∧ (SUM (gB g) H - SUM (gB g) s.heap) + (gM g - SUM (gB g) H) ≤ gM g - SUM (gB g) s.heap := ⟨by omega, by omega⟩
  have hRR : fr2 + 1 ≤ fr ∧ 8 + (nL + 11) + 64 * fr2 ≤ 64 * fr := ⟨hfr, by omega⟩
  obtain ⟨r9, f9, cell9, g91, g92, g93⟩ := cellR hF hR hS hkb
  cases hcl9.symm.trans f9

  exact V.ofMun (len := 3) hl C hR hS hL (va_runU (As := as) (rest := st) ⟨C.1, C.2.1, C.2.2.1, C.2.2.2.2.2.1, hts⟩ (hsp.met hl hno H.size (SUM (gB g) H)) (va_cwO as.length hts hG rfl rfl rfl h0 ⟨hm1.1, hm1.2, hm2⟩ hRR) ⟨PcG.blind, ⟨cell9, g91, g92, g93⟩, fun U hU hW => PcG.now hF hR hS hbase hU hW⟩ rfl rfl hL.1 rfl (show 2 * 0 + stW st ≤ 8 by omega) hd hroom) kr
theorem V.invA {y : MethodName} {cc : ByteArray} {nL : Nat} {ret : Option FieldType} {fr2 idx : Nat} {as : List Value} {Q1 : Res → AH → Prop} {b ci : Nat} {w : Bool} {rc : vw_C} {owner : String} {x : MethodName} (hd : decode M.2.1 pc = .ok (.invokevirtual idx, 3)) (hok : mOK ⟨owner, x.name, x.desc⟩ nL as.length) (hG : GoodIn lw_all (va_wsU M.1.cls idx rc.1 owner x y (ws_ y cc nL ret))) (h0 : (⟨owner, x.name, x.desc⟩ : MethodName) ∈ XWD) (hkb : kd h b = some (w, .inl ci)) (hcl9 : CL[ci]? = some rc) (hfr : fr2 + 1 ≤ fr) (hst : stW st ≤ 8) (hsp : Sp l g ((y, cc, nL, ret, []) : MD) fr2 (.ref b :: as) h Q1) (hno : ∀ x h2, ¬ Q1 (.inr x) h2) (kr : ∀ v h2, Q1 (.inl v) h2 → V l g M fr (pc + 3) L (v.toList ++ st) h2 Q) : V l g M fr pc L (as.reverse ++ .ref b :: st) h Q := by
  intro hl p e s m args below meth c C H locs hR hS ls hL
  have hts := C.2.2.2.2.2.2.1
  have hF := C.2.2.2.2.2.2.2.1
  have hbase := C.2.2.2.2.2.2.2.2.2.2
  obtain ⟨hm1, hm2, hm3⟩ := hok
  have hz := hR.2.1
  have hu := hR.2.2.1
  have hg1 := hR.2.2.2.1
  have hg2 := hR.2.2.2.2
  refine xlow (b := gB g) hbase (fun lo1 lo2 => ?_)
  have hroom : (H.size - s.heap.size) + (gL g - H.size) ≤ gL g - s.heap.size ∧ (SUM (gB g) H - SUM (gB g) s.heap) + (gM g - SUM (gB g) H) ≤ gM g - SUM (gB g) s.heap := ⟨by omega, by omega⟩
  have hRR : fr2 + 1 ≤ fr ∧ 8 + (nL + 11) + 64 * fr2 ≤ 64 * fr := ⟨hfr, by omega⟩
  obtain ⟨r9, f9, cell9, g91, g92, g93⟩ := cellR hF hR hS hkb
  cases hcl9.symm.trans f9

  exact V.ofMun (len := 3) hl C hR hS hL (va_runU (As := as) (rest := st) ⟨C.1, C.2.1, C.2.2.1, C.2.2.2.2.2.1, hts⟩ (hsp.met hl hno H.size (SUM (gB g) H)) (va_cwA as.length hts hG rfl rfl rfl (hF.2.2.2.2.2.2.2.2.2.2.2.2.2.1 _ h0) ⟨hm1.1, hm1.2, hm2⟩ hRR) ⟨PcG.blind, ⟨cell9, g91, g92, g93⟩, fun U hU hW => PcG.now hF hR hS hbase hU hW⟩ rfl rfl hL.1 rfl (show 2 * 0 + stW st ≤ 8 by omega) hd hroom) kr
theorem V.invF {y : MethodName} {cc : ByteArray} {nL : Nat} {ret : Option FieldType} {fr2 idx cnt : Nat} {as : List Value} {Q1 : Res → AH → Prop} {b ci : Nat} {w : Bool} {rc : vw_C} {x : MethodName} (hd : decode M.2.1 pc = .ok (.invokeinterface idx cnt, 5)) (hok : mOK x nL as.length) (hG : GoodIn lw_all (va_wsF M.1.cls idx rc.1 x y (ws_ y cc nL ret))) (hci9 : ci < NNEW) (h0 : (rc.1, x, y) ∈ XWI) (hkb : kd h b = some (w, .inl ci)) (hcl9 : CL[ci]? = some rc) (hfr : fr2 + 1 ≤ fr) (hst : stW st ≤ 8) (hsp : Sp l g ((y, cc, nL, ret, []) : MD) fr2 (.ref b :: as) h Q1) (hno : ∀ x h2, ¬ Q1 (.inr x) h2) (kr : ∀ v h2, Q1 (.inl v) h2 → V l g M fr (pc + 5) L (v.toList ++ st) h2 Q) : V l g M fr pc L (as.reverse ++ .ref b :: st) h Q := by
  intro hl p e s m args below meth c C H locs hR hS ls hL
  have hts := C.2.2.2.2.2.2.1
  have hF := C.2.2.2.2.2.2.2.1
  have hbase := C.2.2.2.2.2.2.2.2.2.2
  obtain ⟨hm1, hm2, hm3⟩ := hok
  have hz := hR.2.1
  have hu := hR.2.2.1
  have hg1 := hR.2.2.2.1
  have hg2 := hR.2.2.2.2
  refine xlow (b := gB g) hbase (fun lo1 lo2 => ?_)
  have hroom : (H.size - s.heap.size) + (gL g - H.size) ≤ gL g - s.heap.size ∧ (SUM (gB g) H - SUM (gB g) s.heap) + (gM g - SUM (gB g) H) ≤ gM g - SUM (gB g) s.heap := ⟨by omega, by omega⟩
  have hRR : fr2 + 1 ≤ fr ∧ 8 + (nL + 11) + 64 * fr2 ≤ 64 * fr := ⟨hfr, by omega⟩
  obtain ⟨r9, f9, cell9, g91, g92, g93⟩ := cellR hF hR hS hkb
  cases hcl9.symm.trans f9

  exact V.ofMun (len := 5) hl C hR hS hL (va_runF (As := as) (rest := st) (hF.1 ci rc hci9 hcl9).2 ⟨C.1, C.2.1, C.2.2.1, C.2.2.2.2.2.1, hts⟩ (hsp.met hl hno H.size (SUM (gB g) H)) (va_cwF as.length hts hG rfl rfl rfl (hF.2.2.2.2.2.2.1 _ h0) ⟨hm1.1, hm1.2, hm2⟩ hRR) ⟨PcG.blind, ⟨cell9, g91, g92, g93⟩, fun U hU hW => PcG.now hF hR hS hbase hU hW⟩ rfl rfl hL.1 rfl (show 2 * 0 + stW st ≤ 8 by omega) hd hroom) kr
theorem V.invSU {y : MethodName} {cc : ByteArray} {nL : Nat} {ret : Option FieldType} {fr2 idx : Nat} {as : List Value} {Q1 : Res → AH → Prop} {b ci : Nat} {w : Bool} {rc : vw_C} (hd : decode M.2.1 pc = .ok (.invokespecial idx, 3)) (hok : mOK y nL as.length) (hG : GoodIn lw_all (va_wsSU M.1.cls idx y (ws_ y cc nL ret))) (hci9 : ci < NNEW) (hi4 : y.name ≠ "<init>") (hkb : kd h b = some (w, .inl ci)) (hcl9 : CL[ci]? = some rc) (hfr : fr2 + 1 ≤ fr) (hst : stW st ≤ 8) (hsp : Sp l g ((y, cc, nL, ret, []) : MD) fr2 (.ref b :: as) h Q1) (hno : ∀ x h2, ¬ Q1 (.inr x) h2) (kr : ∀ v h2, Q1 (.inl v) h2 → V l g M fr (pc + 3) L (v.toList ++ st) h2 Q) : V l g M fr pc L (as.reverse ++ .ref b :: st) h Q := by
  intro hl p e s m args below meth c C H locs hR hS ls hL
  have hts := C.2.2.2.2.2.2.1
  have hF := C.2.2.2.2.2.2.2.1
  have hbase := C.2.2.2.2.2.2.2.2.2.2
  obtain ⟨hm1, hm2, hm3⟩ := hok
  have hz := hR.2.1
  have hu := hR.2.2.1
  have hg1 := hR.2.2.2.1
  have hg2 := hR.2.2.2.2
  refine xlow (b := gB g) hbase (fun lo1 lo2 => ?_)
  have hroom : (H.size - s.heap.size) + (gL g - H.size) ≤ gL g - s.heap.size ∧ (SUM (gB g) H - SUM (gB g) s.heap) + (gM g - SUM (gB g) H) ≤ gM g - SUM (gB g) s.heap := ⟨by omega, by omega⟩
  have hRR : fr2 + 1 ≤ fr ∧ 8 + (nL + 11) + 64 * fr2 ≤ 64 * fr := ⟨hfr, by omega⟩
  obtain ⟨r9, f9, cell9, g91, g92, g93⟩ := cellR hF hR hS hkb
  cases hcl9.symm.trans f9

  exact V.ofMun (len := 3) hl C hR hS hL (va_runSU (As := as) (rest := st) (hF.1 ci rc hci9 hcl9).2 ⟨C.1, C.2.1, C.2.2.1, C.2.2.2.2.2.1, hts⟩ (hsp.met hl hno H.size (SUM (gB g) H)) (va_cwSU as.length hts hG rfl rfl rfl ⟨hi4, hm2⟩ hRR) ⟨PcG.blind, ⟨cell9, g91, g92, g93⟩, fun U hU hW => PcG.now hF hR hS hbase hU hW⟩ rfl rfl hL.1 rfl (show 2 * 0 + stW st ≤ 8 by omega) hd hroom) kr
/-- Object.<init> -/
theorem V.objInit {idx a : Nat} (hd : decode M.2.1 pc = .ok (.invokespecial idx, 3)) (hl1 : Cond.methodLink M.1.cls idx Lib.objectInit ∈ lw_all) (hl2 : Cond.instanceMethod Lib.objectInit ∈ lw_all) (hl3 : Cond.code Lib.objectInit ⟨#[0xb1]⟩ 1 none ∈ lw_all) (hfr : 1 ≤ fr) (hst : stW st ≤ 8) (k : V l g M fr (pc + 3) L st h Q) : V l g M fr pc L (.ref a :: st) h Q := by
  intro hl p e s m args below meth c C H locs hR hS ls hL
  have hts := C.2.2.2.2.2.2.1
  exact W.objInit C.1 C.2.1 C.2.2.2.2.2.1 (hts _ hl1) (hts _ hl2) (hts _ hl3) rfl (by rw [C.2.2.1]; exact hL.1) rfl hd hfr (by show 2 * 0 + stW st + 12 ≤ 64 * fr; omega) (k hl p e s m args below meth c C H locs hR hS ls hL)
end VCALL
