/-! ===== helpers of the component's walks ===== -/
theorem xx_ldcwS {p : Program} {l : Launch} {e : Env} {R : Room} {s : State} {m : MethodId} {args : Array Value} {below : List Frame} {meth : Method} {c : Code} {T : State} {locs : List Loc} {cells slots : Nat}
    (X : Stand p l e R s m args below meth c T locs cells slots) (hexec : p.tables.exec = Jvm.exec) {own text : String} {index : Nat} {a : Addr} (hown : s.vm.findClass own = some m.cls) (hZ : vk_R own index text a s) {g : JFrame} (hg : g.method = m) (hdg : decode c.code g.pc = .ok (.ldc_w index, 3)) :
    ∀ target, Steps p.tables e below (T.setTop { g with pc := g.pc + 3, stack := .ref a :: g.stack }) target → Steps p.tables e below (T.setTop g) target := by
  have hconst : (Cond.stringRef own index text).before args s = true := hZ.1
  have hev : (Term.string own index).eval args s none [] s = some (.ref a) := hZ.2
  obtain ⟨k, cf, i, a', hk, hcf, hcp, -, hr, hev'⟩ := Cond.stringRef_spec hown hconst
  cases hev.symm.trans hev'
  obtain ⟨k', hk', he⟩ := X.warmed.alike.2.2 _ _ hk
  have hr' : k'.resolved[index]? = some (some (.string a)) := by
    rcases X.warmed.entry hk hk' index with h | ⟨h, -⟩
    · rw [h]; exact hr
    · rw [hr] at h; cases h
  intro target hrest
  subst hg
  jvm_step X.here [hexec, hdg, ldc_w.wp_string (e := e) (s := T) (f := g) X.here.top hk' (by rw [he]; exact hcf) hcp hr']
  exact hrest
theorem V.xldcwS {l : Launch} {g : GG} {M : MD} {fr pc idx sid : Nat} {L : List (Option Value)} {st : List Value} {h : AH} {Q : Res → AH → Prop} {tx : String} (hd : decode M.2.1 pc = .ok (.ldc_w idx, 3)) (hw : (M.1.cls, idx, tx, sid) ∈ XSR) (k : V l g M fr (pc + 3) L (.ref (gT g sid) :: st) h Q) : V l g M fr pc L st h Q := by
  intro hl p e s m args below meth c C H locs hR hS ls hL
  intro T hT X
  obtain ⟨t, a1, b1⟩ := k hl p e s m args below meth c C H locs hR hS ls hL T hT X
  exact ⟨t, xx_ldcwS X C.1 C.2.2.2.2.2.1 (C.2.2.2.2.2.2.2.1.2.2.2.2.2.2.2.2.2.2.1 _ hw) (g := F0 m pc ls st) rfl (by rw [C.2.1]; exact hd) t a1, b1⟩
def castP (h : AH) (t a : Nat) : Option Unit := (hU h a).bind fun q => if q.1 = t then some () else none
theorem castP_some {h : AH} {t a : Nat} {u : Unit} (e : castP h t a = some u) : ∃ n, kd h a = some (true, .inr (t, n)) := by
  obtain ⟨⟨t1, n⟩, e1, e⟩ := bnd e
  dsimp only at e
  split at e
  · rename_i h1
    subst h1
    exact ⟨n, hU_some e1⟩
  · cases e
theorem V.xcastO {l : Launch} {g : GG} {M : MD} {fr pc idx t a : Nat} {L : List (Option Value)} {st : List Value} {h : AH} {Q : Res → AH → Prop} {nm E : String} {u : Unit} (hd : decode M.2.1 pc = .ok (.checkcast idx, 3)) (ht : ATY[t]? = some (.object E)) (hcl : Cond.classLink M.1.cls idx nm ∈ lw_all) (hnm : nm = "[" ++ (FieldType.object E).toString) (e : castP h t a = some u) (k : V l g M fr (pc + 3) L (.ref a :: st) h Q) : V l g M fr pc L (.ref a :: st) h Q := by
  obtain ⟨n, e1⟩ := castP_some e
  exact V.castA hd e1 ht hcl hnm k
theorem V.xcastP {l : Launch} {g : GG} {M : MD} {fr pc idx t a : Nat} {L : List (Option Value)} {st : List Value} {h : AH} {Q : Res → AH → Prop} {nm : String} {ty : FieldType} {u : Unit} (hd : decode M.2.1 pc = .ok (.checkcast idx, 3)) (ht : ATY[t]? = some ty) (hcl : Cond.classLink M.1.cls idx nm ∈ lw_all) (hnm : nm = "[" ++ ty.toString) (hra : ∀ (U : State) (c : ClassId), va_RA U c ty → U.vm.findClass ("[" ++ ty.toString) = some c) (e : castP h t a = some u) (k : V l g M fr (pc + 3) L (.ref a :: st) h Q) : V l g M fr pc L (.ref a :: st) h Q := by
  obtain ⟨n, hk⟩ := castP_some e
  intro hl p e s m args below meth c C H locs hR hS ls hL
  have k9 := k hl p e s m args below meth c C H locs hR hS ls hL
  have hts := C.2.2.2.2.2.2.1
  have hF := C.2.2.2.2.2.2.2.1
  obtain ⟨f1, f2, f3⟩ := hR.1.2.1 a t n hk
  exact va_castE C.1 C.2.1 C.2.2.2.2.2.1 (hts _ hcl) ⟨_, f3, rfl, by rw [hnm]; exact hra s _ (hF.2.1 t _ ht).2⟩ hd k9
theorem lk_nil {d k : Int} : Op.lookupswitch.offset [] d k = d := rfl
theorem lk_cons {a o d k : Int} {r : List (Int × Int)} (h : k ≠ a) (t : Op.lookupswitch.offset r d k = d) : Op.lookupswitch.offset ((a, o) :: r) d k = d := by
  rw [Op.lookupswitch.offset_cons, if_neg (Ne.symm h)]
  exact t
theorem ne_toInt {x k : Int32} {n : Int} (hk : k.toInt = n) (h : ¬ x = k) : x.toInt ≠ n := fun e => h (Int32.toInt_inj.mp (e.trans hk.symm))
def va_wsP (own : String) (idx : Nat) (y : MethodName) (ws : List Cond) : List Cond := ([.methodLink own idx y, .sameMethod y.cls y.cls y.name y.desc, .instanceMethod y, .initialized y.cls] : List Cond) ++ ws
def va_wsK (own : String) (idx : Nat) (C owner : String) (x y : MethodName) (ws : List Cond) : List Cond := ([.methodLink own idx x, .sameMethod x.cls owner x.name x.desc, .selects C x y, .instanceMethod y] : List Cond) ++ ws
section VPK
variable {l : Launch} {g : GG} {M : MD} {fr pc : Nat} {L : List (Option Value)} {st : List Value} {h : AH} {Q : Res → AH → Prop}
theorem selP {C : String} {y : MethodName} {A : Array Value} {s : State} {c0 : ClassId} (hC : s.vm.findClass C = some c0) (h1 : (Cond.sameMethod y.cls y.cls y.name y.desc).before A s = true) (hp : (Cond.privateMethod y).before A s = true) (hd : va_Decl s y) : (Cond.selects C y y).before A s = true := by
  obtain ⟨cn, ck, r1, hcn, hck, hni, hf, hn⟩ := Cond.sameMethod_found h1
  obtain ⟨r0, r, hn0, hrm, hst, -⟩ := hd
  have e1 : r0 = r1 := Option.some.inj (hn0.symm.trans hn)
  subst e1
  have hpr := Cond.privateMethod_at hp r0 r hn0 hrm
  have h5 := selectMethod_private (p := {}) (c := c0) hrm hpr
  have h6 : cn = r0.cls := Option.some.inj (hcn.symm.trans (findClass_of_methodNamed hn0))
  subst h6
  simp [Cond.before, Cond.holds, Cond.value, hC, hf, hn0, h5, hck, hni]
theorem V.invP {y : MethodName} {cc : ByteArray} {nL : Nat} {ret : Option FieldType} {fr2 idx : Nat} {as : List Value} {Q1 : Res → AH → Prop} {b ci : Nat} {w : Bool} {rc : vw_C} (hd : decode M.2.1 pc = .ok (.invokevirtual idx, 3)) (hok : mOK y nL as.length) (hG : GoodIn lw_all (va_wsP M.1.cls idx y (ws_ y cc nL ret))) (hp : y ∈ XPR) (hkb : kd h b = some (w, .inl ci)) (hcl9 : CL[ci]? = some rc) (hfr : fr2 + 1 ≤ fr) (hst : stW st ≤ 8) (hsp : Sp l g ((y, cc, nL, ret, []) : MD) fr2 (.ref b :: as) h Q1) (hno : ∀ x h2, ¬ Q1 (.inr x) h2) (kr : ∀ v h2, Q1 (.inl v) h2 → V l g M fr (pc + 3) L (v.toList ++ st) h2 Q) : V l g M fr pc L (as.reverse ++ .ref b :: st) h Q := by
  intro hl p e s m args below meth c C H locs hR hS ls hL
  have hts := C.2.2.2.2.2.2.1
  have hF := C.2.2.2.2.2.2.2.1
  have hbase := C.2.2.2.2.2.2.2.2.2.2
  obtain ⟨hm1, hm2, hm3⟩ := hok
  have hz := hR.2.1
  have hu := hR.2.2.1
  have hg1 := hR.2.2.2.1
  have hg2 := hR.2.2.2.2
  refine xlow (b := gB g) hbase (fun lo1 lo2 => ?_)
  have hroom : (H.size - s.heap.size) + (gL g - H.size) ≤ gL g - s.heap.size ∧ (SUM (gB g) H - SUM (gB g) s.heap) + (gM g - SUM (gB g) H) ≤ gM g - SUM (gB g) s.heap := ⟨by omega, by omega⟩
  have hRR : fr2 + 1 ≤ fr ∧ 8 + (nL + 11) + 64 * fr2 ≤ 64 * fr := ⟨hfr, by omega⟩
  obtain ⟨r9, f9, cell9, g91, g92, g93⟩ := cellR hF hR hS hkb
  cases hcl9.symm.trans f9
  have hp9 : (Cond.privateMethod y).before args s = true := va_Nw.use (A := args) rfl (hF.2.2.2.2.2.2.2.2.2.2.2.2.2.2.2.2.1.2 y hp)
  have ok : ∀ w ∈ va_wsP M.1.cls idx y (ws_ y cc nL ret), w.before args s = true := fun w h => hts w (hG w h).1
  have hG2 : GoodIn lw_all (ws_ y cc nL ret) := fun w h => hG w (by unfold va_wsP; exact List.mem_append_right _ h)
  have hc : Cond.code y cc nL ret ∈ ws_ y cc nL ret := List.mem_cons_self
  have k1 : (Cond.methodLink M.1.cls idx y).before args s = true := ok _ (by simp [va_wsP])
  have k2 : (Cond.sameMethod y.cls y.cls y.name y.desc).before args s = true := ok _ (by simp [va_wsP])
  have k3 : (Cond.instanceMethod y).before args s = true := ok _ (by simp [va_wsP])
  have k4 : (Cond.initialized y.cls).before args s = true := ok _ (by simp [va_wsP])
  have k5 : (Cond.code y cc nL ret).before args s = true := hts _ (hG2 _ hc).1
  have k6 : va_Decl s y := va_Decl.of k3 k5
  have cw : va_CU (rmG g fr s.heap.size (SUM (gB g) s.heap)) s args M.1.cls rc.1 y.cls idx y y cc nL ret (ws_ y cc nL ret) (rmG g fr2 H.size (SUM (gB g) H)) (gL g - H.size) (gM g - SUM (gB g) H) as.length := by
    refine ⟨⟨rfl, rfl, hRR.1, hRR.2, pay_in hts hG2, hc⟩, k5, k4, hm1, fun sig h => ?_, k1, k2, k6, selP g93 k2 hp9 k6, k3⟩
    rw [h] at hm2
    exact (Option.some.inj hm2).symm
  exact V.ofMun (len := 3) hl C hR hS hL (va_runU (As := as) (rest := st) ⟨C.1, C.2.1, C.2.2.1, C.2.2.2.2.2.1, hts⟩ (hsp.met hl hno H.size (SUM (gB g) H)) cw ⟨PcG.blind, ⟨cell9, g91, g92, g93⟩, fun U hU hW => PcG.now hF hR hS hbase hU hW⟩ rfl rfl hL.1 rfl (show 2 * 0 + stW st ≤ 8 by omega) hd hroom) kr
theorem V.invK {y : MethodName} {cc : ByteArray} {nL : Nat} {ret : Option FieldType} {fr2 idx : Nat} {as : List Value} {Q1 : Res → AH → Prop} {b ci : Nat} {w : Bool} {rc : vw_C} {owner : String} {x : MethodName} {L2 : List (Option Value)} (hd : decode M.2.1 pc = .ok (.invokevirtual idx, 3)) (hok : mOK ⟨owner, x.name, x.desc⟩ nL as.length) (hG : GoodIn lw_all (va_wsK M.1.cls idx rc.1 owner x y (ws_ y cc nL ret))) (h0 : (⟨owner, x.name, x.desc⟩ : MethodName) ∈ XWD) (hkb : kd h b = some (w, .inl ci)) (hcl9 : CL[ci]? = some rc) (hfr : fr2 + 1 ≤ fr) (hst : stW st ≤ 8) (hv : V l g ((y, cc, nL, ret, []) : MD) fr2 0 L2 [] h Q1) (hno : ∀ x h2, ¬ Q1 (.inr x) h2) (kr : ∀ v h2, Q1 (.inl v) h2 → V l g M fr (pc + 3) L (v.toList ++ st) h2 Q) : V l g M fr pc L (as.reverse ++ .ref b :: st) h Q := sorry
def va_wsC (y : MethodName) (ws : List Cond) : List Cond := ([.selects "java/util/ArrayDeque" ⟨"java/util/Collection", y.name, y.desc⟩ y, .instanceMethod y, .initialized y.cls] : List Cond) ++ ws
theorem selC {C : String} {x x2 y : MethodName} {A : Array Value} {s : State} {r0 : MethodId} (h1 : s.methodFound? x.cls x.name x.desc = some r0) (h2 : s.methodFound? x2.cls x2.name x2.desc = some r0) (h : (Cond.selects C x y).before A s = true) : (Cond.selects C x2 y).before A s = true := by
  simp only [Cond.before, Cond.holds, Cond.value, h1] at h
  simp only [Cond.before, Cond.holds, Cond.value, h2]
  exact h
theorem V.invC {y : MethodName} {cc : ByteArray} {nL : Nat} {ret : Option FieldType} {fr2 idx cnt : Nat} {as : List Value} {Q1 : Res → AH → Prop} {b ci : Nat} {w : Bool} {rc : vw_C} (hd : decode M.2.1 pc = .ok (.invokeinterface idx cnt, 5)) (hok : mOK y nL as.length) (hG : GoodIn lw_all (va_wsC y (ws_ y cc nL ret))) (h0 : (M.1.cls, idx, ⟨"java/util/Deque", y.name, y.desc⟩) ∈ XML) (hci9 : ci = 15 ∧ ("java/util/Deque", "java/util/Collection", y.name, y.desc) ∈ XIC ∧ (y, "java/util/ArrayDeque") ∈ XPU ∧ (⟨"java/util/Collection", y.name, y.desc⟩, "java/util/ArrayDeque") ∈ XPU) (hkb : kd h b = some (w, .inl ci)) (hcl9 : CL[ci]? = some rc) (hfr : fr2 + 1 ≤ fr) (hst : stW st ≤ 8) (hsp : Sp l g ((y, cc, nL, ret, []) : MD) fr2 (.ref b :: as) h Q1) (hno : ∀ x h2, ¬ Q1 (.inr x) h2) (kr : ∀ v h2, Q1 (.inl v) h2 → V l g M fr (pc + 5) L (v.toList ++ st) h2 Q) : V l g M fr pc L (as.reverse ++ .ref b :: st) h Q := by
  intro hl p e s m args below meth c C H locs hR hS ls hL
  have hts := C.2.2.2.2.2.2.1
  have hF := C.2.2.2.2.2.2.2.1
  have hbase := C.2.2.2.2.2.2.2.2.2.2
  obtain ⟨hm1, hm2, hm3⟩ := hok
  obtain ⟨hci9, hx1, hx2, hx3⟩ := hci9
  have hz := hR.2.1
  have hu := hR.2.2.1
  have hg1 := hR.2.2.2.1
  have hg2 := hR.2.2.2.2
  refine xlow (b := gB g) hbase (fun lo1 lo2 => ?_)
  have hroom : (H.size - s.heap.size) + (gL g - H.size) ≤ gL g - s.heap.size ∧ (SUM (gB g) H - SUM (gB g) s.heap) + (gM g - SUM (gB g) H) ≤ gM g - SUM (gB g) s.heap := ⟨by omega, by omega⟩
  have hRR : fr2 + 1 ≤ fr ∧ 8 + (nL + 11) + 64 * fr2 ≤ 64 * fr := ⟨hfr, by omega⟩
  obtain ⟨r9, f9, cell9, g91, g92, g93⟩ := cellR hF hR hS hkb
  cases hcl9.symm.trans f9
  subst hci9
  cases f9
  have ok : ∀ w ∈ va_wsC y (ws_ y cc nL ret), w.before args s = true := fun w h => hts w (hG w h).1
  have hG2 : GoodIn lw_all (ws_ y cc nL ret) := fun w h => hG w (by unfold va_wsC; exact List.mem_append_right _ h)
  have hc : Cond.code y cc nL ret ∈ ws_ y cc nL ret := List.mem_cons_self
  have k1 : (Cond.methodLink M.1.cls idx ⟨"java/util/Deque", y.name, y.desc⟩).before args s = true := va_Nw.use (A := args) rfl (hF.2.2.2.2.2.2.2.2.2.2.2.2.2.2.1 _ h0)
  obtain ⟨k2, k3⟩ := hF.2.2.2.2.2.2.2.2.2.2.2.2.2.2.2.1 _ hx1 s (State.WarmedH.refl s)
  have k2 : (Cond.interfaceMethod "java/util/Deque" "java/util/Collection" y.name y.desc).before args s = true := va_Nw.use (A := args) rfl k2
  have k3 : (Cond.declares ⟨"java/util/Collection", y.name, y.desc⟩).before args s = true := va_Nw.use (A := args) rfl k3
  have hPU := hF.2.2.2.2.2.2.2.2.2.2.2.2.2.2.2.2.1.1
  have k4 : (Cond.publicMethod y).before args s = true := va_Nw.use (A := args) rfl (hPU _ hx2).1
  have k5 : (Cond.unhidden "java/util/ArrayDeque" y.name y.desc).before args s = true := va_Nw.use (A := args) rfl (hPU _ hx2).2
  have k6 : (Cond.publicMethod ⟨"java/util/Collection", y.name, y.desc⟩).before args s = true := va_Nw.use (A := args) rfl (hPU _ hx3).1
  have k7 : (Cond.castable "java/util/ArrayDeque" "java/util/Deque").before args s = true := va_Nw.use (A := args) rfl (hF.2.2.2.2.1 _ (List.mem_of_getElem? (i := 57) rfl))
  have k8 : (Cond.selects "java/util/ArrayDeque" ⟨"java/util/Collection", y.name, y.desc⟩ y).before args s = true := ok _ (by simp [va_wsC])
  have k9 : (Cond.instanceMethod y).before args s = true := ok _ (by simp [va_wsC])
  have k10 : (Cond.initialized y.cls).before args s = true := ok _ (by simp [va_wsC])
  have k11 : (Cond.selects "java/util/ArrayDeque" ⟨"java/util/Deque", y.name, y.desc⟩ y).before args s = true := by
    obtain ⟨cL, kL, r1, hcL, hkL, hiL, hfoundL, hn1⟩ := Cond.interfaceMethod_spec k2
    obtain ⟨r0, r, hn, hrm, hstR, hsigR⟩ := Cond.declares_spec k3
    have e1 : r0 = r1 := Option.some.inj (hn.symm.trans hn1)
    subst e1
    exact selC (x := ⟨"java/util/Collection", y.name, y.desc⟩) (State.methodFound?_of_named hn ⟨(by show ("java/util/Collection" : String) ≠ "java/lang/invoke/MethodHandle"; decide), (by show ("java/util/Collection" : String) ≠ "java/lang/invoke/VarHandle"; decide)⟩) hfoundL k8
  obtain ⟨kB, hkB, -⟩ := Vm.findClass_spec g93
  have hK := back_of (R := rmG g fr s.heap.size (SUM (gB g) s.heap)) (p := p) (e := e) (below := below) (s := s) (sargs := args) (len := 5) (W := 8) (bytes := cc) (maxL := nL) (ret := ret) (hsp.met hl hno H.size (SUM (gB g) H)) PcG.blind rfl rfl hRR.1 hRR.2 (fun w hw a' U hW => pay_in hts hG2 w hw a' U hW) hc (fun a' U hW => word_at hW (Or.inl (by rfl)) k10)
  refine V.ofMun (len := 5) (Q1 := Q1) (as := (Value.ref b :: as).toArray) hl C hR hS hL ?_ kr
  intro T hT X
  obtain ⟨v, vm₁, ⟨U', l2, c2, s2⟩, hW₁, X', ⟨g', mk, t, Lc, e1, e2, hq, q1, hLc, q2, q3⟩, st9⟩ := X.interfaceBackUp C.1 (C := "java/util/ArrayDeque") (J := "java/util/Collection") (xi := ⟨"java/util/Deque", y.name, y.desc⟩) (y := y) C.2.2.2.2.2.1 k1 k3 k6 k2 (by show ("java/util/Deque" : String) ≠ "java/util/Collection"; decide) k11 k9 k4 k5 k7 ⟨(by show ("java/util/Deque" : String) ≠ "java/lang/invoke/MethodHandle"; decide), (by show ("java/util/Deque" : String) ≠ "java/lang/invoke/VarHandle"; decide)⟩ hK g93 hkB ⟨cell9, by rw [hT]; exact g91, rfl, g92⟩ (g := F0 m pc ls (as.reverse ++ .ref b :: st)) rfl (by rw [C.2.2.1]; exact hL.1) (Steps.refl _) (argsL := as) (rest := st) (fun sig h => by rw [h] at hm2; exact (Option.some.inj hm2).symm) rfl (by show 2 * 0 + stW st ≤ 8; omega) (by rw [C.2.1]; exact hd) (fun vm₁ hW₁ => ⟨hroom.1, hroom.2, PcG.now hF hR hS hbase hT hW₁⟩)
  dsimp only [Pt.U, Pt.locs, Pt.cells, Pt.slots] at X' e1 e2 q1 q2 q3 st9
  subst q1; subst q2; subst q3
  exact ⟨v, (T.setVm vm₁).calling g' mk (Value.ref b :: as).toArray, t, U', Lc, hT, X', hLc, e1, e2, hq, fun target h => st9.trans h⟩
/-- the object of a lambda: two captured values -/
def nL2 (h : AH) (t : Nat) (v w : Value) : AH := ((fun a => if a = nx h then some (true, .inr (t, 2)) else kd h a), h.2.1, (fun a i => if a = nx h then (if i = 0 then v else w) else av h a i), nx h + 1, us h + 2)
def mkL (g : GG) (h : AH) (t : Nat) (v w : Value) : Option AH := if nx h + 1 ≤ gL g ∧ us h + 2 ≤ gM g then some (nL2 h t v w) else none
theorem V.xmkL_11 {h1 : AH} {a : Nat} {x : Int32} (hd : decode M.2.1 pc = .ok (.invokedynamic 468, 5)) (hfr : 50 ≤ fr) (hst : stW st ≤ 8) (e : mkL g h 11 (.ref a) (.int x) = some h1) (k : V l g M fr (pc + 5) L (.ref (nx h) :: st) h1 Q) : V l g M fr pc L (.int x :: .ref a :: st) h Q := sorry
theorem V.xmkL_12 {h1 : AH} {a b : Nat} (hd : decode M.2.1 pc = .ok (.invokedynamic 536, 5)) (hfr : 50 ≤ fr) (hst : stW st ≤ 8) (e : mkL g h 12 (.ref a) (.ref b) = some h1) (k : V l g M fr (pc + 5) L (.ref (nx h) :: st) h1 Q) : V l g M fr pc L (.ref b :: .ref a :: st) h Q := sorry
end VPK
def GW (g : GG) : Prop := (∀ i ∈ SINT, gS g i = .int (sI g i)) ∧ ∀ i ∈ SREF, gS g i = va_rf (sR g i)
def zb (v : Int32) : Option Int32 := if v.toInt8.toInt32 = v then some v else none
theorem zb_some {v r : Int32} (h : zb v = some r) : r = v ∧ narrow .byte (.int v) = .int v := by
  unfold zb at h
  split at h
  · rename_i h1
    cases h
    exact ⟨rfl, congrArg Value.int h1⟩
  · cases h
def zc (v : Int32) : Option Int32 := if (v.toUInt32 % 65536).toInt32 = v then some v else none
theorem zc_some {v r : Int32} (h : zc v = some r) : r = v ∧ narrow .char (.int v) = .int v := by
  unfold zc at h
  split at h
  · rename_i h1
    cases h
    exact ⟨rfl, congrArg Value.int h1⟩
  · cases h
theorem fitsB {v : Int32} (hz : narrow .byte (.int v) = .int v) : fits .byte (.int v) = true := by
  have h : v.toInt8.toInt32 = v := Value.int.inj hz
  have h1 : (v.toInt8.toInt32).toInt = v.toInt8.toInt := Int8.toInt_toInt32 _
  have h2 := v.toInt8.toInt_lt
  have h3 := v.toInt8.le_toInt
  have e1 : (-128 : Int32).toInt = -128 := by decide
  have e2 : (127 : Int32).toInt = 127 := by decide
  rw [h] at h1
  simp only [fits, Bool.and_eq_true, decide_eq_true_eq, Int32.le_iff_toInt_le, h1, e1, e2]
  omega
theorem lgsl_len : ∀ {as : List Value}, (∀ w ∈ as, w.category = 1) → (lg_sl as).length = as.length
  | [], _ => rfl
  | v :: as, h => by
    have h1 : v.category = 1 := h v List.mem_cons_self
    have h2 := lgsl_len (as := as) (fun w hw => h w (List.mem_cons_of_mem _ hw))
    simp [lg_sl, h1] at h2 ⊢
    exact h2
def nd (x : UInt64) : Option Unit := if x &&& 0x7fffffffffffffff ≤ 0x7ff0000000000000 then some () else none
theorem nd_some {x : UInt64} {u : Unit} (h : nd x = some u) : vf_n64 x := by
  unfold nd at h
  split at h
  · assumption
  · cases h
theorem kdK1 {h : AH} {a c d : Nat} (e : hIn [c] (hK h a) = some d) : ∃ w, kd h a = some (w, .inl c) := by
  obtain ⟨e1, e2⟩ := hIn_some e
  rw [List.mem_singleton.mp e2] at e1
  exact hK_some e1
theorem kdW1 {h : AH} {a c d : Nat} (e : hIn [c] (hW h a) = some d) : kd h a = some (true, .inl c) := by
  obtain ⟨e1, e2⟩ := hIn_some e
  rw [List.mem_singleton.mp e2] at e1
  exact hW_some e1
theorem hp_out {hh : List (Nat × Nat × Nat × Nat)} {pc : Nat} {P : Nat × Nat × Nat × Nat → Prop} (h : hh.all (fun z => !(decide (z.1 ≤ pc) && decide (pc < z.2.1))) = true) : ∀ z ∈ hh, ¬ (z.1 ≤ pc ∧ pc < z.2.1) ∨ P z := by
  intro z hz
  have h1 := List.all_eq_true.mp h z hz
  refine Or.inl fun q => ?_
  simp [q.1, q.2] at h1
theorem noI {e : EX} : ∀ v, oI (.inr e) ≠ .inl v := fun v h => by cases h
theorem noF {e : EX} : ∀ v, oF (.inr e) ≠ .inl v := fun v h => by cases h
theorem noR {e : EX} : ∀ v, oR (.inr e) ≠ .inl v := fun v h => by cases h
theorem noV {e : EX} : ∀ v, oV (.inr e) ≠ .inl v := fun v h => by cases h
theorem woI {x : Int32} : ∀ v, oI (.inl x) ≠ .inr v := fun v h => by cases h
theorem woF {x : UInt32} : ∀ v, oF (.inl x) ≠ .inr v := fun v h => by cases h
theorem woR {x : Option Nat} : ∀ v, oR (.inl x) ≠ .inr v := fun v h => by cases h
theorem woV {x : Unit} : ∀ v, oV (.inl x) ≠ .inr v := fun v h => by cases h
theorem V.xmk0 {l : Launch} {g : GG} {M : MD} {fr pc : Nat} {L : List (Option Value)} {st : List Value} {h h1 : AH} {Q : Res → AH → Prop} {ik ic ci : Nat} (hO : EO M.1.cls ik ic ci) (d0 : decode M.2.1 pc = .ok (.new ik, 3)) (d3 : decode M.2.1 (pc + 3) = .ok (.dup, 1)) (d4 : decode M.2.1 (pc + 4) = .ok (.invokespecial ic, 3)) (hfr : 6 ≤ fr) (hst : stW st ≤ 8) (e : mkO g h ci 6 = some h1) (k : V l g M fr (pc + 7) L (.ref (nx h) :: st) h1 Q) : V l g M fr pc L st h Q := by
  unfold mkO at e
  split at e
  · rename_i h2
    cases e
    exact V.make0 hO d0 d3 d4 hfr hst h2.1 h2.2 k
  · cases e
theorem lwX {a : List Cond} {y : MethodName} {b : ByteArray} {L : Nat} {r : Option FieldType} (ha : ∀ w ∈ a, w ∈ lw_all) (h : Cond.code y b L r ∈ lw_all) : GoodIn lw_all (a ++ ws_ y b L r) := lw_app ha (lw_meth h)
theorem lx0 : ∀ w ∈ ([] : List Cond), w ∈ lw_all := fun w h => by cases h
theorem lxC {c : Cond} {a : List Cond} (h : c ∈ lw_all) (t : ∀ w ∈ a, w ∈ lw_all) : ∀ w ∈ c :: a, w ∈ lw_all := fun w hw => (List.mem_cons.mp hw).elim (fun e => by rw [e]; exact h) (t w)
theorem lwX_U {own C owner : String} {idx : Nat} {x y : MethodName} {b : ByteArray} {L : Nat} {r : Option FieldType} (h1 : Cond.methodLink own idx x ∈ lw_all) (h2 : Cond.sameMethod x.cls owner x.name x.desc ∈ lw_all) (h3 : Cond.selects C x y ∈ lw_all) (h4 : Cond.instanceMethod y ∈ lw_all) (h5 : Cond.initialized y.cls ∈ lw_all) (h6 : Cond.code y b L r ∈ lw_all) : GoodIn lw_all (va_wsU own idx C owner x y (ws_ y b L r)) := lwX (lxC h1 (lxC h2 (lxC h3 (lxC h4 (lxC h5 lx0))))) h6
theorem lwX_O {own C owner : String} {idx : Nat} {x y : MethodName} {b : ByteArray} {L : Nat} {r : Option FieldType} (h1 : Cond.methodLink own idx x ∈ lw_all) (h2 : Cond.sameMethod x.cls owner x.name x.desc ∈ lw_all) (h0 : Cond.instanceMethod ⟨owner, x.name, x.desc⟩ ∈ lw_all) (h3 : Cond.selects C x y ∈ lw_all) (h4 : Cond.instanceMethod y ∈ lw_all) (h5 : Cond.initialized y.cls ∈ lw_all) (h6 : Cond.code y b L r ∈ lw_all) : GoodIn lw_all (va_wsO own idx C owner x y (ws_ y b L r)) := lwX (lxC h1 (lxC h2 (lxC h0 (lxC h3 (lxC h4 (lxC h5 lx0)))))) h6
theorem lwX_P {own : String} {idx : Nat} {y : MethodName} {b : ByteArray} {L : Nat} {r : Option FieldType} (h1 : Cond.methodLink own idx y ∈ lw_all) (h2 : Cond.sameMethod y.cls y.cls y.name y.desc ∈ lw_all) (h4 : Cond.instanceMethod y ∈ lw_all) (h5 : Cond.initialized y.cls ∈ lw_all) (h6 : Cond.code y b L r ∈ lw_all) : GoodIn lw_all (va_wsP own idx y (ws_ y b L r)) := lwX (lxC h1 (lxC h2 (lxC h4 (lxC h5 lx0)))) h6
theorem lwX_K {own C owner : String} {idx : Nat} {x y : MethodName} {b : ByteArray} {L : Nat} {r : Option FieldType} (h1 : Cond.methodLink own idx x ∈ lw_all) (h2 : Cond.sameMethod x.cls owner x.name x.desc ∈ lw_all) (h3 : Cond.selects C x y ∈ lw_all) (h4 : Cond.instanceMethod y ∈ lw_all) (h6 : Cond.code y b L r ∈ lw_all) : GoodIn lw_all (va_wsK own idx C owner x y (ws_ y b L r)) := lwX (lxC h1 (lxC h2 (lxC h3 (lxC h4 lx0)))) h6
theorem lwX_C {y : MethodName} {b : ByteArray} {L : Nat} {r : Option FieldType} (h1 : Cond.selects "java/util/ArrayDeque" ⟨"java/util/Collection", y.name, y.desc⟩ y ∈ lw_all) (h4 : Cond.instanceMethod y ∈ lw_all) (h5 : Cond.initialized y.cls ∈ lw_all) (h6 : Cond.code y b L r ∈ lw_all) : GoodIn lw_all (va_wsC y (ws_ y b L r)) := lwX (lxC h1 (lxC h4 (lxC h5 lx0))) h6
theorem lwX_F {own C : String} {idx : Nat} {x y : MethodName} {b : ByteArray} {L : Nat} {r : Option FieldType} (h1 : Cond.methodLink own idx x ∈ lw_all) (h3 : Cond.selects C x y ∈ lw_all) (h4 : Cond.instanceMethod y ∈ lw_all) (h5 : Cond.initialized y.cls ∈ lw_all) (h6 : Cond.code y b L r ∈ lw_all) : GoodIn lw_all (va_wsF own idx C x y (ws_ y b L r)) := lwX (lxC h1 (lxC h3 (lxC h4 (lxC h5 lx0)))) h6
theorem lwX_SU {own : String} {idx : Nat} {y : MethodName} {b : ByteArray} {L : Nat} {r : Option FieldType} (h1 : Cond.methodLink own idx y ∈ lw_all) (h2 : Cond.sameMethod y.cls y.cls y.name y.desc ∈ lw_all) (h3 : Cond.superclass own y.cls ∈ lw_all) (h4 : Cond.instanceMethod y ∈ lw_all) (h5 : Cond.initialized y.cls ∈ lw_all) (h6 : Cond.code y b L r ∈ lw_all) : GoodIn lw_all (va_wsSU own idx y (ws_ y b L r)) := lwX (lxC h1 (lxC h2 (lxC h3 (lxC h4 (lxC h5 lx0))))) h6
abbrev rcN_0 : vw_C := (RX3, TX3, 36)
abbrev rcN_1 : vw_C := (RX1, TX1, 17)
abbrev rcN_2 : vw_C := (RX2, TX2, 4)
abbrev rcN_3 : vw_C := (RX4, TX4, 10)
abbrev rcN_4 : vw_C := (RX5, TX5, 3)
abbrev rcN_5 : vw_C := (RX6, TX6, 7)
abbrev rcN_6 : vw_C := (RX7, TX7, 8)
abbrev rcN_7 : vw_C := (RX8, TX8, 2)
abbrev rcN_8 : vw_C := (RX9, TX9, 2)
abbrev rcN_9 : vw_C := (RX10, TX10, 6)
abbrev rcN_10 : vw_C := (RX12, TX12, 5)
abbrev rcN_11 : vw_C := (RX14, TX14, 9)
abbrev rcN_12 : vw_C := (RX16, TX16, 2)
abbrev rcN_13 : vw_C := (RX17, TX17, 2)
abbrev rcN_14 : vw_C := (RX18, TX18, 2)
abbrev rcN_15 : vw_C := (RJ1, TJ1, 3)
abbrev rcN_16 : vw_C := (RJ9, TJ9, 3)
abbrev rcN_17 : vw_C := (RJ12, TJ12, 4)
abbrev rcN_18 : vw_C := (RJ7, TJ7, 4)
abbrev rcN_19 : vw_C := (RJ5, TJ5, 0)
abbrev rcN_20 : vw_C := (RJ10, TJ10, 0)
abbrev rcN_21 : vw_C := (RJ21, TJ21, 0)
abbrev rcN_22 : vw_C := (RX19, TKind, 2)
abbrev rcN_23 : vw_C := (RX20, TKind, 2)
abbrev rcN_24 : vw_C := (RX13, TKind, 2)
theorem okF_0 : mOK ⟨"java/util/List", "size", "()I"⟩ 1 0 := ⟨⟨by decide +kernel, by decide +kernel⟩, by decide +kernel, by decide⟩
theorem okF_1 : mOK ⟨"java/util/List", "get", "(I)Ljava/lang/Object;"⟩ 2 1 := ⟨⟨by decide +kernel, by decide +kernel⟩, by decide +kernel, by decide⟩
theorem okF_2 : mOK ⟨"java/util/List", "isEmpty", "()Z"⟩ 1 0 := ⟨⟨by decide +kernel, by decide +kernel⟩, by decide +kernel, by decide⟩
theorem okF_3 : mOK ⟨"java/util/List", "add", "(Ljava/lang/Object;)Z"⟩ 2 1 := ⟨⟨by decide +kernel, by decide +kernel⟩, by decide +kernel, by decide⟩
theorem okF_4 : mOK ⟨"java/util/Deque", "size", "()I"⟩ 1 0 := ⟨⟨by decide +kernel, by decide +kernel⟩, by decide +kernel, by decide⟩
theorem okF_5 : mOK ⟨"java/util/Deque", "removeFirst", "()Ljava/lang/Object;"⟩ 2 0 := ⟨⟨by decide +kernel, by decide +kernel⟩, by decide +kernel, by decide⟩
theorem okF_6 : mOK ⟨"java/util/Deque", "addLast", "(Ljava/lang/Object;)V"⟩ 3 1 := ⟨⟨by decide +kernel, by decide +kernel⟩, by decide +kernel, by decide⟩
theorem okF_7 : mOK ⟨"java/util/Deque", "removeLast", "()Ljava/lang/Object;"⟩ 2 0 := ⟨⟨by decide +kernel, by decide +kernel⟩, by decide +kernel, by decide⟩
theorem okF_8 : mOK ⟨"java/util/Iterator", "hasNext", "()Z"⟩ 1 0 := ⟨⟨by decide +kernel, by decide +kernel⟩, by decide +kernel, by decide⟩
theorem okF_9 : mOK ⟨"java/util/Iterator", "next", "()Ljava/lang/Object;"⟩ 1 0 := ⟨⟨by decide +kernel, by decide +kernel⟩, by decide +kernel, by decide⟩
theorem okX_J11_getValue_x : mOK ⟨"java/lang/AbstractStringBuilder", "getValue", "()[B"⟩ 1 0 := ⟨⟨by decide +kernel, by decide +kernel⟩, by decide +kernel, by decide⟩
theorem okX_J11_isLatin1_x : mOK ⟨"java/lang/AbstractStringBuilder", "isLatin1", "()Z"⟩ 1 0 := ⟨⟨by decide +kernel, by decide +kernel⟩, by decide +kernel, by decide⟩
theorem okX_J12_length_x : mOK ⟨"java/lang/AbstractStringBuilder", "length", "()I"⟩ 1 0 := ⟨⟨by decide +kernel, by decide +kernel⟩, by decide +kernel, by decide⟩
theorem okX_X13_service_x : mOK ⟨"RideDesk$Kind", "service", "(LRideDesk$Rules;)I"⟩ 2 1 := ⟨⟨by decide +kernel, by decide +kernel⟩, by decide +kernel, by decide⟩
theorem okX_X15_begin_x : mOK ⟨"RideDesk$Stop", "begin", "(LRideDesk$State;I)I"⟩ 3 2 := ⟨⟨by decide +kernel, by decide +kernel⟩, by decide +kernel, by decide⟩
theorem okX_X16_begin_x : mOK ⟨"RideDesk$Stop", "begin", "(LRideDesk$State;I)I"⟩ 3 2 := ⟨⟨by decide +kernel, by decide +kernel⟩, by decide +kernel, by decide⟩
theorem okX_X16_isExecuted_x : mOK ⟨"RideDesk$Stop", "isExecuted", "(LRideDesk$State;)Z"⟩ 2 1 := ⟨⟨by decide +kernel, by decide +kernel⟩, by decide +kernel, by decide⟩
theorem okX_X16_taken_x : mOK ⟨"RideDesk$Stop", "taken", "(I)I"⟩ 2 1 := ⟨⟨by decide +kernel, by decide +kernel⟩, by decide +kernel, by decide⟩
theorem okX_X17_isExecuted_x : mOK ⟨"RideDesk$Stop", "isExecuted", "(LRideDesk$State;)Z"⟩ 2 1 := ⟨⟨by decide +kernel, by decide +kernel⟩, by decide +kernel, by decide⟩
theorem okX_X17_taken_x : mOK ⟨"RideDesk$Stop", "taken", "(I)I"⟩ 2 1 := ⟨⟨by decide +kernel, by decide +kernel⟩, by decide +kernel, by decide⟩
theorem okX_X19_service_x : mOK ⟨"RideDesk$Kind", "service", "(LRideDesk$Rules;)I"⟩ 2 1 := ⟨⟨by decide +kernel, by decide +kernel⟩, by decide +kernel, by decide⟩
theorem okX_X20_service_x : mOK ⟨"RideDesk$Kind", "service", "(LRideDesk$Rules;)I"⟩ 2 1 := ⟨⟨by decide +kernel, by decide +kernel⟩, by decide +kernel, by decide⟩
theorem po_X1_72_11 {m : String} {v : Int32} : PO "RideDesk" m 72 1208 11 (.int v) := ⟨8, _, "RideDesk$State", .int, rfl, by decide, rfl, Or.inr ⟨"RideDesk", List.mem_of_getElem? (i := 7) rfl⟩, Or.inl rfl, by rfl, rfl, rfl, Or.inl rfl⟩
theorem po_X1_125_1 {v : Option Nat} : PO "RideDesk" "<init>" 125 104 1 (va_rf v) := ⟨4, _, "RideDesk", _, rfl, by decide, rfl, Or.inl q258, Or.inl rfl, by rfl, by cases v <;> rfl, by cases v <;> rfl, Or.inr ⟨rfl, rfl, rfl, q258⟩⟩
theorem po_X1_181_1 {m : String} {v : Int32} : PO "RideDesk" m 181 107 1 (.int v) := ⟨7, _, "RideDesk", .int, rfl, by decide, rfl, Or.inl q261, Or.inl rfl, by rfl, rfl, rfl, Or.inl rfl⟩
theorem po_X1_194_1 {v : Option Nat} : PO "RideDesk" "<init>" 194 111 1 (va_rf v) := ⟨11, _, "RideDesk", _, rfl, by decide, rfl, Or.inl q265, Or.inl rfl, by rfl, by cases v <;> rfl, by cases v <;> rfl, Or.inr ⟨rfl, rfl, rfl, q265⟩⟩
theorem po_X1_197_1 {v : Option Nat} : PO "RideDesk" "<init>" 197 109 1 (va_rf v) := ⟨9, _, "RideDesk", _, rfl, by decide, rfl, Or.inl q263, Or.inl rfl, by rfl, by cases v <;> rfl, by cases v <;> rfl, Or.inr ⟨rfl, rfl, rfl, q263⟩⟩
theorem po_X1_200_1 {v : Option Nat} : PO "RideDesk" "<init>" 200 110 1 (va_rf v) := ⟨10, _, "RideDesk", _, rfl, by decide, rfl, Or.inl q264, Or.inl rfl, by rfl, by cases v <;> rfl, by cases v <;> rfl, Or.inr ⟨rfl, rfl, rfl, q264⟩⟩
theorem po_X1_203_1 {m : String} {v : Int32} : PO "RideDesk" m 203 108 1 (.int v) := ⟨8, _, "RideDesk", .int, rfl, by decide, rfl, Or.inl q262, Or.inl rfl, by rfl, rfl, rfl, Or.inl rfl⟩
theorem po_X1_210_1 {v : Option Nat} : PO "RideDesk" "<init>" 210 105 1 (va_rf v) := ⟨5, _, "RideDesk", _, rfl, by decide, rfl, Or.inl q259, Or.inl rfl, by rfl, by cases v <;> rfl, by cases v <;> rfl, Or.inr ⟨rfl, rfl, rfl, q259⟩⟩
theorem po_X1_225_1 {v : Option Nat} : PO "RideDesk" "<init>" 225 106 1 (va_rf v) := ⟨6, _, "RideDesk", _, rfl, by decide, rfl, Or.inl q260, Or.inl rfl, by rfl, by cases v <;> rfl, by cases v <;> rfl, Or.inr ⟨rfl, rfl, rfl, q260⟩⟩
theorem po_X1_235_11 {m : String} {v : Int32} : PO "RideDesk" m 235 1207 11 (.int v) := ⟨7, _, "RideDesk$State", .int, rfl, by decide, rfl, Or.inr ⟨"RideDesk", List.mem_of_getElem? (i := 21) rfl⟩, Or.inl rfl, by rfl, rfl, rfl, Or.inl rfl⟩
theorem po_X1_300_1 {v : Option Nat} : PO "RideDesk" "<init>" 300 102 1 (va_rf v) := ⟨2, _, "RideDesk", _, rfl, by decide, rfl, Or.inl q256, Or.inl rfl, by rfl, by cases v <;> rfl, by cases v <;> rfl, Or.inr ⟨rfl, rfl, rfl, q256⟩⟩
theorem po_X1_304_1 {v : Option Nat} : PO "RideDesk" "<init>" 304 103 1 (va_rf v) := ⟨3, _, "RideDesk", _, rfl, by decide, rfl, Or.inl q257, Or.inl rfl, by rfl, by cases v <;> rfl, by cases v <;> rfl, Or.inr ⟨rfl, rfl, rfl, q257⟩⟩
theorem po_X1_309_1 {v : Option Nat} : PO "RideDesk" "<init>" 309 112 1 (va_rf v) := ⟨12, _, "RideDesk", _, rfl, by decide, rfl, Or.inl q267, Or.inl rfl, by rfl, by cases v <;> rfl, by cases v <;> rfl, Or.inr ⟨rfl, rfl, rfl, q267⟩⟩
theorem po_X1_313_1 {m : String} {v : Int32} : PO "RideDesk" m 313 115 1 (.int v) := ⟨15, _, "RideDesk", .int, rfl, by decide, rfl, Or.inl q270, Or.inl rfl, by rfl, rfl, rfl, Or.inl rfl⟩
theorem po_X1_316_1 {m : String} {v : Option Nat} : PO "RideDesk" m 316 116 1 (va_rf v) := ⟨16, _, "RideDesk", _, rfl, by decide, rfl, Or.inl q271, Or.inl rfl, by rfl, by cases v <;> rfl, by cases v <;> rfl, Or.inl rfl⟩
theorem po_X1_319_1 {m : String} {v : Int32} : PO "RideDesk" m 319 113 1 (.int v) := ⟨13, _, "RideDesk", .int, rfl, by decide, rfl, Or.inl q268, Or.inl rfl, by rfl, rfl, rfl, Or.inl rfl⟩
theorem po_X1_352_1 {m : String} {v : Int32} : PO "RideDesk" m 352 114 1 (.int v) := ⟨14, _, "RideDesk", .int, rfl, by decide, rfl, Or.inl q269, Or.inl rfl, by rfl, rfl, rfl, Or.inl rfl⟩
theorem po_X1_368_1 {m : String} {v : Option Nat} : PO "RideDesk" m 368 101 1 (va_rf v) := ⟨1, _, "RideDesk", _, rfl, by decide, rfl, Or.inl q255, Or.inl rfl, by rfl, by cases v <;> rfl, by cases v <;> rfl, Or.inl rfl⟩
theorem po_X12_7_10 {v : Option Nat} : PO "RideDesk$Call" "<init>" 7 1100 10 (va_rf v) := ⟨0, _, "RideDesk$Call", _, rfl, by decide, rfl, Or.inl q1310, Or.inl rfl, by rfl, by cases v <;> rfl, by cases v <;> rfl, Or.inr ⟨rfl, rfl, rfl, q1310⟩⟩
theorem po_X12_13_10 {v : Option Nat} : PO "RideDesk$Call" "<init>" 13 1101 10 (va_rf v) := ⟨1, _, "RideDesk$Call", _, rfl, by decide, rfl, Or.inl q1312, Or.inl rfl, by rfl, by cases v <;> rfl, by cases v <;> rfl, Or.inr ⟨rfl, rfl, rfl, q1312⟩⟩
theorem po_X12_16_10 {v : Option Nat} : PO "RideDesk$Call" "<init>" 16 1102 10 (va_rf v) := ⟨2, _, "RideDesk$Call", _, rfl, by decide, rfl, Or.inl q1314, Or.inl rfl, by rfl, by cases v <;> rfl, by cases v <;> rfl, Or.inr ⟨rfl, rfl, rfl, q1314⟩⟩
theorem po_X12_39_10 {v : Int32} : PO "RideDesk$Call" "<init>" 39 1103 10 (.int v) := ⟨3, _, "RideDesk$Call", .int, rfl, by decide, rfl, Or.inl q1316, Or.inl rfl, by rfl, rfl, rfl, Or.inr ⟨rfl, rfl, rfl, q1316⟩⟩
theorem po_X12_48_10 {v : Int32} : PO "RideDesk$Call" "<init>" 48 1104 10 (.int v) := ⟨4, _, "RideDesk$Call", .int, rfl, by decide, rfl, Or.inl q1318, Or.inl rfl, by rfl, rfl, rfl, Or.inr ⟨rfl, rfl, rfl, q1318⟩⟩
theorem po_X7_7_6 {v : Int32} : PO "RideDesk$FormatException" "<init>" 7 700 6 (.int v) := ⟨6, _, "RideDesk$FormatException", .int, rfl, by decide, rfl, Or.inl q1019, Or.inl rfl, by rfl, rfl, rfl, Or.inr ⟨rfl, rfl, rfl, q1019⟩⟩
theorem po_X7_13_6 {v : Int32} : PO "RideDesk$FormatException" "<init>" 13 701 6 (.int v) := ⟨7, _, "RideDesk$FormatException", .int, rfl, by decide, rfl, Or.inl q1021, Or.inl rfl, by rfl, rfl, rfl, Or.inr ⟨rfl, rfl, rfl, q1021⟩⟩
theorem po_X4_3_3 {v : Option Nat} : PO "RideDesk$Parser" "<init>" 3 309 3 (va_rf v) := ⟨9, _, "RideDesk$Parser", _, rfl, by decide, rfl, Or.inl q896, Or.inl rfl, by rfl, by cases v <;> rfl, by cases v <;> rfl, Or.inr ⟨rfl, rfl, rfl, q896⟩⟩
theorem po_X4_21_3 {m : String} {v : Option Nat} : PO "RideDesk$Parser" m 21 304 3 (va_rf v) := ⟨4, _, "RideDesk$Parser", _, rfl, by decide, rfl, Or.inl q891, Or.inl rfl, by rfl, by cases v <;> rfl, by cases v <;> rfl, Or.inl rfl⟩
theorem po_X4_26_3 {m : String} {v : Option Nat} : PO "RideDesk$Parser" m 26 305 3 (va_rf v) := ⟨5, _, "RideDesk$Parser", _, rfl, by decide, rfl, Or.inl q892, Or.inl rfl, by rfl, by cases v <;> rfl, by cases v <;> rfl, Or.inl rfl⟩
theorem po_X4_33_3 {v : Option Nat} : PO "RideDesk$Parser" "<init>" 33 306 3 (va_rf v) := ⟨6, _, "RideDesk$Parser", _, rfl, by decide, rfl, Or.inl q893, Or.inl rfl, by rfl, by cases v <;> rfl, by cases v <;> rfl, Or.inr ⟨rfl, rfl, rfl, q893⟩⟩
theorem po_X4_42_3 {v : Option Nat} : PO "RideDesk$Parser" "<init>" 42 307 3 (va_rf v) := ⟨7, _, "RideDesk$Parser", _, rfl, by decide, rfl, Or.inl q894, Or.inl rfl, by rfl, by cases v <;> rfl, by cases v <;> rfl, Or.inr ⟨rfl, rfl, rfl, q894⟩⟩
theorem po_X4_46_3 {v : Option Nat} : PO "RideDesk$Parser" "<init>" 46 308 3 (va_rf v) := ⟨8, _, "RideDesk$Parser", _, rfl, by decide, rfl, Or.inl q895, Or.inl rfl, by rfl, by cases v <;> rfl, by cases v <;> rfl, Or.inr ⟨rfl, rfl, rfl, q895⟩⟩
theorem po_X4_50_3 {v : Int32} : PO "RideDesk$Parser" "<init>" 50 300 3 (.int v) := ⟨0, _, "RideDesk$Parser", .int, rfl, by decide, rfl, Or.inl q887, Or.inl rfl, by rfl, rfl, rfl, Or.inr ⟨rfl, rfl, rfl, q887⟩⟩
theorem po_X4_66_3 {m : String} {v : Int32} : PO "RideDesk$Parser" m 66 302 3 (.int v) := ⟨2, _, "RideDesk$Parser", .int, rfl, by decide, rfl, Or.inl q889, Or.inl rfl, by rfl, rfl, rfl, Or.inl rfl⟩
theorem po_X4_79_3 {m : String} {v : Int32} : PO "RideDesk$Parser" m 79 301 3 (.int v) := ⟨1, _, "RideDesk$Parser", .int, rfl, by decide, rfl, Or.inl q888, Or.inl rfl, by rfl, rfl, rfl, Or.inl rfl⟩
theorem po_X4_96_3 {m : String} {v : Int32} : PO "RideDesk$Parser" m 96 303 3 (.int v) := ⟨3, _, "RideDesk$Parser", .int, rfl, by decide, rfl, Or.inl q890, Or.inl rfl, by rfl, rfl, rfl, Or.inl rfl⟩
theorem po_X4_157_5 {m : String} {v : Int32} : PO "RideDesk$Parser" m 157 500 5 (.int v) := ⟨0, _, "RideDesk$Rules", .int, rfl, by decide, rfl, Or.inr ⟨"RideDesk", List.mem_of_getElem? (i := 36) rfl⟩, Or.inl rfl, by rfl, rfl, rfl, Or.inl rfl⟩
theorem po_X4_163_5 {m : String} {v : Int32} : PO "RideDesk$Parser" m 163 501 5 (.int v) := ⟨1, _, "RideDesk$Rules", .int, rfl, by decide, rfl, Or.inr ⟨"RideDesk", List.mem_of_getElem? (i := 37) rfl⟩, Or.inl rfl, by rfl, rfl, rfl, Or.inl rfl⟩
theorem po_X4_166_5 {m : String} {v : Int32} : PO "RideDesk$Parser" m 166 502 5 (.int v) := ⟨2, _, "RideDesk$Rules", .int, rfl, by decide, rfl, Or.inr ⟨"RideDesk", List.mem_of_getElem? (i := 38) rfl⟩, Or.inl rfl, by rfl, rfl, rfl, Or.inl rfl⟩
theorem po_X4_171_5 {m : String} {v : Int32} : PO "RideDesk$Parser" m 171 503 5 (.int v) := ⟨3, _, "RideDesk$Rules", .int, rfl, by decide, rfl, Or.inr ⟨"RideDesk", List.mem_of_getElem? (i := 39) rfl⟩, Or.inl rfl, by rfl, rfl, rfl, Or.inl rfl⟩
theorem po_X4_173_5 {m : String} {v : Int32} : PO "RideDesk$Parser" m 173 504 5 (.int v) := ⟨4, _, "RideDesk$Rules", .int, rfl, by decide, rfl, Or.inr ⟨"RideDesk", List.mem_of_getElem? (i := 40) rfl⟩, Or.inl rfl, by rfl, rfl, rfl, Or.inl rfl⟩
theorem po_X4_178_5 {m : String} {v : Int32} : PO "RideDesk$Parser" m 178 505 5 (.int v) := ⟨5, _, "RideDesk$Rules", .int, rfl, by decide, rfl, Or.inr ⟨"RideDesk", List.mem_of_getElem? (i := 41) rfl⟩, Or.inl rfl, by rfl, rfl, rfl, Or.inl rfl⟩
theorem po_X4_182_5 {m : String} {v : Int32} : PO "RideDesk$Parser" m 182 506 5 (.int v) := ⟨6, _, "RideDesk$Rules", .int, rfl, by decide, rfl, Or.inr ⟨"RideDesk", List.mem_of_getElem? (i := 42) rfl⟩, Or.inl rfl, by rfl, rfl, rfl, Or.inl rfl⟩
theorem po_X4_279_1 {m : String} {v : Option Nat} : PO "RideDesk$Parser" m 279 100 1 (va_rf v) := ⟨0, _, "RideDesk", _, rfl, by decide, rfl, Or.inr ⟨"RideDesk", List.mem_of_getElem? (i := 46) rfl⟩, Or.inl rfl, by rfl, by cases v <;> rfl, by cases v <;> rfl, Or.inl rfl⟩
theorem po_X4_288_1 {m : String} {v : Option Nat} : PO "RideDesk$Parser" m 288 101 1 (va_rf v) := ⟨1, _, "RideDesk", _, rfl, by decide, rfl, Or.inr ⟨"RideDesk", List.mem_of_getElem? (i := 47) rfl⟩, Or.inl rfl, by rfl, by cases v <;> rfl, by cases v <;> rfl, Or.inl rfl⟩
theorem po_X5_12_4 {v : Option Nat} : PO "RideDesk$Plan" "<init>" 12 400 4 (va_rf v) := ⟨0, _, "RideDesk$Plan", _, rfl, by decide, rfl, Or.inl q868, Or.inl rfl, by rfl, by cases v <;> rfl, by cases v <;> rfl, Or.inr ⟨rfl, rfl, rfl, q868⟩⟩
theorem po_X5_23_4 {v : Option Nat} : PO "RideDesk$Plan" "<init>" 23 401 4 (va_rf v) := ⟨1, _, "RideDesk$Plan", _, rfl, by decide, rfl, Or.inl q872, Or.inl rfl, by rfl, by cases v <;> rfl, by cases v <;> rfl, Or.inr ⟨rfl, rfl, rfl, q872⟩⟩
theorem po_X5_27_4 {v : Option Nat} : PO "RideDesk$Plan" "<init>" 27 402 4 (va_rf v) := ⟨2, _, "RideDesk$Plan", _, rfl, by decide, rfl, Or.inl q874, Or.inl rfl, by rfl, by cases v <;> rfl, by cases v <;> rfl, Or.inr ⟨rfl, rfl, rfl, q874⟩⟩
theorem po_X8_7_7 {v : Int32} : PO "RideDesk$River" "<init>" 7 800 7 (.int v) := ⟨0, _, "RideDesk$River", .int, rfl, by decide, rfl, Or.inl q1141, Or.inl rfl, by rfl, rfl, rfl, Or.inr ⟨rfl, rfl, rfl, q1141⟩⟩
theorem po_X8_13_7 {v : Int32} : PO "RideDesk$River" "<init>" 13 801 7 (.int v) := ⟨1, _, "RideDesk$River", .int, rfl, by decide, rfl, Or.inl q1143, Or.inl rfl, by rfl, rfl, rfl, Or.inr ⟨rfl, rfl, rfl, q1143⟩⟩
theorem po_X2_11_2 {m : String} {v : Option Nat} : PO "RideDesk$Route" m 11 200 2 (va_rf v) := ⟨0, _, "RideDesk$Route", _, rfl, by decide, rfl, Or.inl q232, Or.inl rfl, by rfl, by cases v <;> rfl, by cases v <;> rfl, Or.inl rfl⟩
theorem po_X2_17_2 {m : String} {v : Option Nat} : PO "RideDesk$Route" m 17 201 2 (va_rf v) := ⟨1, _, "RideDesk$Route", _, rfl, by decide, rfl, Or.inl q235, Or.inl rfl, by rfl, by cases v <;> rfl, by cases v <;> rfl, Or.inl rfl⟩
theorem po_X2_21_2 {m : String} {v : Option Nat} : PO "RideDesk$Route" m 21 202 2 (va_rf v) := ⟨2, _, "RideDesk$Route", _, rfl, by decide, rfl, Or.inl q237, Or.inl rfl, by rfl, by cases v <;> rfl, by cases v <;> rfl, Or.inl rfl⟩
theorem po_X2_25_2 {m : String} {v : Int32} : PO "RideDesk$Route" m 25 203 2 (.int v) := ⟨3, _, "RideDesk$Route", .int, rfl, by decide, rfl, Or.inl q241, Or.inl rfl, by rfl, rfl, rfl, Or.inl rfl⟩
theorem po_X18_1_14 {v : Option Nat} : PO "RideDesk$Route$1" "<init>" 1 1401 14 (va_rf v) := ⟨1, _, "RideDesk$Route$1", _, rfl, by decide, rfl, Or.inl q1798, Or.inl rfl, by rfl, by cases v <;> rfl, by cases v <;> rfl, Or.inr ⟨rfl, rfl, rfl, q1798⟩⟩
theorem po_X18_13_14 {m : String} {v : Int32} : PO "RideDesk$Route$1" m 13 1400 14 (.int v) := ⟨0, _, "RideDesk$Route$1", .int, rfl, by decide, rfl, Or.inl q1797, Or.inl rfl, by rfl, rfl, rfl, Or.inl rfl⟩
theorem po_X9_9_8 {v : Int32} : PO "RideDesk$Spot" "<init>" 9 900 8 (.int v) := ⟨0, _, "RideDesk$Spot", .int, rfl, by decide, rfl, Or.inl q1231, Or.inl rfl, by rfl, rfl, rfl, Or.inr ⟨rfl, rfl, rfl, q1231⟩⟩
theorem po_X9_9_9 {v : Int32} : PO "RideDesk$Spot" "<init>" 9 900 9 (.int v) := ⟨0, _, "RideDesk$Spot", .int, rfl, by decide, rfl, Or.inl q1231, Or.inl rfl, by rfl, rfl, rfl, Or.inr ⟨rfl, rfl, rfl, q1231⟩⟩
theorem po_X9_15_8 {v : Int32} : PO "RideDesk$Spot" "<init>" 15 901 8 (.int v) := ⟨1, _, "RideDesk$Spot", .int, rfl, by decide, rfl, Or.inl q1235, Or.inl rfl, by rfl, rfl, rfl, Or.inr ⟨rfl, rfl, rfl, q1235⟩⟩
theorem po_X9_15_9 {v : Int32} : PO "RideDesk$Spot" "<init>" 15 901 9 (.int v) := ⟨1, _, "RideDesk$Spot", .int, rfl, by decide, rfl, Or.inl q1235, Or.inl rfl, by rfl, rfl, rfl, Or.inr ⟨rfl, rfl, rfl, q1235⟩⟩
theorem po_X14_11_11 {m : String} {v : Option Nat} : PO "RideDesk$State" m 11 1200 11 (va_rf v) := ⟨0, _, "RideDesk$State", _, rfl, by decide, rfl, Or.inl q1344, Or.inl rfl, by rfl, by cases v <;> rfl, by cases v <;> rfl, Or.inl rfl⟩
theorem po_X14_17_11 {m : String} {v : Option Nat} : PO "RideDesk$State" m 17 1201 11 (va_rf v) := ⟨1, _, "RideDesk$State", _, rfl, by decide, rfl, Or.inl q1346, Or.inl rfl, by rfl, by cases v <;> rfl, by cases v <;> rfl, Or.inl rfl⟩
theorem po_X14_21_11 {m : String} {v : Option Nat} : PO "RideDesk$State" m 21 1202 11 (va_rf v) := ⟨2, _, "RideDesk$State", _, rfl, by decide, rfl, Or.inl q1348, Or.inl rfl, by rfl, by cases v <;> rfl, by cases v <;> rfl, Or.inl rfl⟩
theorem po_X14_24_11 {m : String} {v : Option Nat} : PO "RideDesk$State" m 24 1203 11 (va_rf v) := ⟨3, _, "RideDesk$State", _, rfl, by decide, rfl, Or.inl q1352, Or.inl rfl, by rfl, by cases v <;> rfl, by cases v <;> rfl, Or.inl rfl⟩
theorem po_X14_27_11 {m : String} {v : Option Nat} : PO "RideDesk$State" m 27 1204 11 (va_rf v) := ⟨4, _, "RideDesk$State", _, rfl, by decide, rfl, Or.inl q1355, Or.inl rfl, by rfl, by cases v <;> rfl, by cases v <;> rfl, Or.inl rfl⟩
theorem po_X14_30_11 {m : String} {v : Option Nat} : PO "RideDesk$State" m 30 1205 11 (va_rf v) := ⟨5, _, "RideDesk$State", _, rfl, by decide, rfl, Or.inl q1357, Or.inl rfl, by rfl, by cases v <;> rfl, by cases v <;> rfl, Or.inl rfl⟩
theorem po_X14_35_11 {m : String} {v : Option Nat} : PO "RideDesk$State" m 35 1206 11 (va_rf v) := ⟨6, _, "RideDesk$State", _, rfl, by decide, rfl, Or.inl q1359, Or.inl rfl, by rfl, by cases v <;> rfl, by cases v <;> rfl, Or.inl rfl⟩
theorem po_X14_40_11 {m : String} {v : Int32} : PO "RideDesk$State" m 40 1207 11 (.int v) := ⟨7, _, "RideDesk$State", .int, rfl, by decide, rfl, Or.inl q1361, Or.inl rfl, by rfl, rfl, rfl, Or.inl rfl⟩
theorem po_X14_44_11 {m : String} {v : Int32} : PO "RideDesk$State" m 44 1208 11 (.int v) := ⟨8, _, "RideDesk$State", .int, rfl, by decide, rfl, Or.inl q1363, Or.inl rfl, by rfl, rfl, rfl, Or.inl rfl⟩
theorem po_X15_7_12 {v : Int32} : PO "RideDesk$Stop" "<init>" 7 1300 12 (.int v) := ⟨0, _, "RideDesk$Stop", .int, rfl, by decide, rfl, Or.inl q1411, Or.inl rfl, by rfl, rfl, rfl, Or.inr ⟨rfl, rfl, rfl, q1411⟩⟩
theorem po_X15_7_13 {v : Int32} : PO "RideDesk$Stop" "<init>" 7 1300 13 (.int v) := ⟨0, _, "RideDesk$Stop", .int, rfl, by decide, rfl, Or.inl q1411, Or.inl rfl, by rfl, rfl, rfl, Or.inr ⟨rfl, rfl, rfl, q1411⟩⟩
theorem po_X15_13_12 {v : Option Nat} : PO "RideDesk$Stop" "<init>" 13 1301 12 (va_rf v) := ⟨1, _, "RideDesk$Stop", _, rfl, by decide, rfl, Or.inl q1418, Or.inl rfl, by rfl, by cases v <;> rfl, by cases v <;> rfl, Or.inr ⟨rfl, rfl, rfl, q1418⟩⟩
theorem po_X15_13_13 {v : Option Nat} : PO "RideDesk$Stop" "<init>" 13 1301 13 (va_rf v) := ⟨1, _, "RideDesk$Stop", _, rfl, by decide, rfl, Or.inl q1418, Or.inl rfl, by rfl, by cases v <;> rfl, by cases v <;> rfl, Or.inr ⟨rfl, rfl, rfl, q1418⟩⟩
theorem po_X10_14_9 {v : Int32} : PO "RideDesk$Van" "<init>" 14 1000 9 (.int v) := ⟨2, _, "RideDesk$Van", .int, rfl, by decide, rfl, Or.inl q1252, Or.inl rfl, by rfl, rfl, rfl, Or.inr ⟨rfl, rfl, rfl, q1252⟩⟩
theorem po_X10_19_9 {v : Int32} : PO "RideDesk$Van" "<init>" 19 1001 9 (.int v) := ⟨3, _, "RideDesk$Van", .int, rfl, by decide, rfl, Or.inl q1254, Or.inl rfl, by rfl, rfl, rfl, Or.inr ⟨rfl, rfl, rfl, q1254⟩⟩
theorem po_X10_22_9 {v : Int32} : PO "RideDesk$Van" "<init>" 22 1002 9 (.int v) := ⟨4, _, "RideDesk$Van", .int, rfl, by decide, rfl, Or.inl q1256, Or.inl rfl, by rfl, rfl, rfl, Or.inr ⟨rfl, rfl, rfl, q1256⟩⟩
theorem po_X10_25_9 {v : Int32} : PO "RideDesk$Van" "<init>" 25 1003 9 (.int v) := ⟨5, _, "RideDesk$Van", .int, rfl, by decide, rfl, Or.inl q1258, Or.inl rfl, by rfl, rfl, rfl, Or.inr ⟨rfl, rfl, rfl, q1258⟩⟩
theorem po_X3_7_0 {v : Option Nat} : PO "RideDeskModel" "<init>" 7 2 0 (va_rf v) := ⟨2, _, "RideDeskModel", _, rfl, by decide, rfl, Or.inl q2176, Or.inl rfl, by rfl, by cases v <;> rfl, by cases v <;> rfl, Or.inr ⟨rfl, rfl, rfl, q2176⟩⟩
theorem po_X3_13_0 {v : Option Nat} : PO "RideDeskModel" "<init>" 13 3 0 (va_rf v) := ⟨3, _, "RideDeskModel", _, rfl, by decide, rfl, Or.inl q2177, Or.inl rfl, by rfl, by cases v <;> rfl, by cases v <;> rfl, Or.inr ⟨rfl, rfl, rfl, q2177⟩⟩
theorem po_X3_16_0 {v : Option Nat} : PO "RideDeskModel" "<init>" 16 5 0 (va_rf v) := ⟨5, _, "RideDeskModel", _, rfl, by decide, rfl, Or.inl q2179, Or.inl rfl, by rfl, by cases v <;> rfl, by cases v <;> rfl, Or.inr ⟨rfl, rfl, rfl, q2179⟩⟩
theorem po_X3_20_0 {v : Option Nat} : PO "RideDeskModel" "<init>" 20 6 0 (va_rf v) := ⟨6, _, "RideDeskModel", _, rfl, by decide, rfl, Or.inl q2180, Or.inl rfl, by rfl, by cases v <;> rfl, by cases v <;> rfl, Or.inr ⟨rfl, rfl, rfl, q2180⟩⟩
theorem po_X3_23_0 {m : String} {v : Int32} : PO "RideDeskModel" m 23 9 0 (.int v) := ⟨9, _, "RideDeskModel", .int, rfl, by decide, rfl, Or.inl q2183, Or.inl rfl, by rfl, rfl, rfl, Or.inl rfl⟩
theorem po_X3_27_0 {v : Option Nat} : PO "RideDeskModel" "<init>" 27 14 0 (va_rf v) := ⟨14, _, "RideDeskModel", _, rfl, by decide, rfl, Or.inl q2188, Or.inl rfl, by rfl, by cases v <;> rfl, by cases v <;> rfl, Or.inr ⟨rfl, rfl, rfl, q2188⟩⟩
theorem po_X3_30_0 {v : Option Nat} : PO "RideDeskModel" "<init>" 30 19 0 (va_rf v) := ⟨19, _, "RideDeskModel", _, rfl, by decide, rfl, Or.inl q2193, Or.inl rfl, by rfl, by cases v <;> rfl, by cases v <;> rfl, Or.inr ⟨rfl, rfl, rfl, q2193⟩⟩
theorem po_X3_33_0 {v : Option Nat} : PO "RideDeskModel" "<init>" 33 20 0 (va_rf v) := ⟨20, _, "RideDeskModel", _, rfl, by decide, rfl, Or.inl q2194, Or.inl rfl, by rfl, by cases v <;> rfl, by cases v <;> rfl, Or.inr ⟨rfl, rfl, rfl, q2194⟩⟩
theorem po_X3_36_0 {v : Option Nat} : PO "RideDeskModel" "<init>" 36 31 0 (va_rf v) := ⟨31, _, "RideDeskModel", _, rfl, by decide, rfl, Or.inl q2205, Or.inl rfl, by rfl, by cases v <;> rfl, by cases v <;> rfl, Or.inr ⟨rfl, rfl, rfl, q2205⟩⟩
theorem po_X3_39_0 {v : Option Nat} : PO "RideDeskModel" "<init>" 39 32 0 (va_rf v) := ⟨32, _, "RideDeskModel", _, rfl, by decide, rfl, Or.inl q2206, Or.inl rfl, by rfl, by cases v <;> rfl, by cases v <;> rfl, Or.inr ⟨rfl, rfl, rfl, q2206⟩⟩
theorem po_X3_42_0 {v : Option Nat} : PO "RideDeskModel" "<init>" 42 33 0 (va_rf v) := ⟨33, _, "RideDeskModel", _, rfl, by decide, rfl, Or.inl q2207, Or.inl rfl, by rfl, by cases v <;> rfl, by cases v <;> rfl, Or.inr ⟨rfl, rfl, rfl, q2207⟩⟩
theorem po_X3_45_0 {v : Option Nat} : PO "RideDeskModel" "<init>" 45 34 0 (va_rf v) := ⟨34, _, "RideDeskModel", _, rfl, by decide, rfl, Or.inl q2208, Or.inl rfl, by rfl, by cases v <;> rfl, by cases v <;> rfl, Or.inr ⟨rfl, rfl, rfl, q2208⟩⟩
theorem po_J11_15_17 {m : String} {v : Option Nat} : PO "java/lang/AbstractStringBuilder" m 15 1800 17 (va_rf v) := ⟨0, _, "java/lang/AbstractStringBuilder", _, rfl, by decide, rfl, Or.inl q626, Or.inl rfl, by rfl, by cases v <;> rfl, by cases v <;> rfl, Or.inl rfl⟩
theorem po_J11_22_17 {m : String} {v : Int32} (hz : narrow .byte (.int v) = .int v) : PO "java/lang/AbstractStringBuilder" m 22 1801 17 (.int v) := ⟨1, _, "java/lang/AbstractStringBuilder", .byte, rfl, by decide, rfl, Or.inl q627, Or.inl rfl, by rfl, hz, fitsB hz, Or.inl rfl⟩
theorem po_J11_79_17 {m : String} {v : Int32} : PO "java/lang/AbstractStringBuilder" m 79 1803 17 (.int v) := ⟨3, _, "java/lang/AbstractStringBuilder", .int, rfl, by decide, rfl, Or.inl q629, Or.inl rfl, by rfl, rfl, rfl, Or.inl rfl⟩
theorem po_J7_9_18 {v : Option Nat} : PO "java/lang/String" "<init>" 9 1900 18 (va_rf v) := ⟨0, _, "java/lang/String", _, rfl, by decide, rfl, Or.inl q846, Or.inl rfl, by rfl, by cases v <;> rfl, by cases v <;> rfl, Or.inr ⟨rfl, rfl, rfl, q846⟩⟩
theorem po_J7_15_18 {v : Int32} (hz : narrow .byte (.int v) = .int v) : PO "java/lang/String" "<init>" 15 1901 18 (.int v) := ⟨1, _, "java/lang/String", .byte, rfl, by decide, rfl, Or.inl q847, Or.inl rfl, by rfl, hz, fitsB hz, Or.inr ⟨rfl, rfl, rfl, q847⟩⟩
theorem po_J7_19_18 {m : String} {v : Int32} : PO "java/lang/String" m 19 1902 18 (.int v) := ⟨2, _, "java/lang/String", .int, rfl, by decide, rfl, Or.inl q848, Or.inl rfl, by rfl, rfl, rfl, Or.inl rfl⟩
theorem po_J7_23_18 {m : String} {v : Int32} (hz : v = 0 ∨ v = 1) : PO "java/lang/String" m 23 1903 18 (.int v) := ⟨3, _, "java/lang/String", .boolean, rfl, by decide, rfl, Or.inl q849, Or.inl rfl, by rfl, by rcases hz with rfl | rfl <;> rfl, by rcases hz with rfl | rfl <;> rfl, Or.inl rfl⟩
theorem po_J2_7_6 {m : String} {v : Option Nat} : PO "java/lang/Throwable" m 7 600 6 (va_rf v) := ⟨0, _, "java/lang/Throwable", _, rfl, by decide, rfl, Or.inl q464, Or.inl rfl, by rfl, by cases v <;> rfl, by cases v <;> rfl, Or.inl rfl⟩
theorem po_J2_17_6 {m : String} {v : Option Nat} : PO "java/lang/Throwable" m 17 601 6 (va_rf v) := ⟨1, _, "java/lang/Throwable", _, rfl, by decide, rfl, Or.inl q465, Or.inl rfl, by rfl, by cases v <;> rfl, by cases v <;> rfl, Or.inl rfl⟩
theorem po_J2_24_6 {m : String} {v : Option Nat} : PO "java/lang/Throwable" m 24 602 6 (va_rf v) := ⟨2, _, "java/lang/Throwable", _, rfl, by decide, rfl, Or.inl q466, Or.inl rfl, by rfl, by cases v <;> rfl, by cases v <;> rfl, Or.inl rfl⟩
theorem po_J2_31_6 {m : String} {v : Option Nat} : PO "java/lang/Throwable" m 31 603 6 (va_rf v) := ⟨3, _, "java/lang/Throwable", _, rfl, by decide, rfl, Or.inl q463, Or.inl rfl, by rfl, by cases v <;> rfl, by cases v <;> rfl, Or.inl rfl⟩
theorem po_J8_7_16 {m : String} {v : Int32} : PO "java/util/AbstractList" m 7 1600 16 (.int v) := ⟨0, _, "java/util/AbstractList", .int, rfl, by decide, rfl, Or.inl q858, Or.inl rfl, by rfl, rfl, rfl, Or.inl rfl⟩
theorem po_J1_3_15 {m : String} {v : Option Nat} : PO "java/util/ArrayDeque" m 3 1500 15 (va_rf v) := ⟨0, _, "java/util/ArrayDeque", _, rfl, by decide, rfl, Or.inl q212, Or.inl rfl, by rfl, by cases v <;> rfl, by cases v <;> rfl, Or.inl rfl⟩
theorem po_J1_20_15 {m : String} {v : Int32} : PO "java/util/ArrayDeque" m 20 1502 15 (.int v) := ⟨2, _, "java/util/ArrayDeque", .int, rfl, by decide, rfl, Or.inl q214, Or.inl rfl, by rfl, rfl, rfl, Or.inl rfl⟩
theorem po_J1_24_15 {m : String} {v : Int32} : PO "java/util/ArrayDeque" m 24 1501 15 (.int v) := ⟨1, _, "java/util/ArrayDeque", .int, rfl, by decide, rfl, Or.inl q213, Or.inl rfl, by rfl, rfl, rfl, Or.inl rfl⟩
theorem po_J9_9_16 {m : String} {v : Option Nat} : PO "java/util/ArrayList" m 9 1700 16 (va_rf v) := ⟨1, _, "java/util/ArrayList", _, rfl, by decide, rfl, Or.inl q856, Or.inl rfl, by rfl, by cases v <;> rfl, by cases v <;> rfl, Or.inl rfl⟩
theorem po_J9_48_16 {m : String} {v : Int32} : PO "java/util/ArrayList" m 48 1701 16 (.int v) := ⟨2, _, "java/util/ArrayList", .int, rfl, by decide, rfl, Or.inl q857, Or.inl rfl, by rfl, rfl, rfl, Or.inl rfl⟩
theorem po_J9_63_16 {m : String} {v : Int32} : PO "java/util/ArrayList" m 63 1600 16 (.int v) := ⟨0, _, "java/util/ArrayList", .int, rfl, by decide, rfl, Or.inl q859, Or.inr q860, by rfl, rfl, rfl, Or.inl rfl⟩
