/-! ===== the component's world: operations on the abstract heap, each with its rule ===== -/
def hK (h : AH) (a : Nat) : Option Nat := match kd h a with
  | some (_, .inl c) => some c
  | _ => none
def hW (h : AH) (a : Nat) : Option Nat := match kd h a with
  | some (true, .inl c) => some c
  | _ => none
def hT (h : AH) (a : Nat) : Option (Nat × Nat) := match kd h a with
  | some (_, .inr q) => some q
  | _ => none
def hU (h : AH) (a : Nat) : Option (Nat × Nat) := match kd h a with
  | some (true, .inr q) => some q
  | _ => none
def vI : Value → Option Int32
  | .int x => some x
  | _ => none
def vR : Value → Option (Option Nat)
  | .ref a => some (some a)
  | .null => some none
  | _ => none
theorem hK_some {h : AH} {a c : Nat} (e : hK h a = some c) : ∃ w, kd h a = some (w, .inl c) := by
  unfold hK at e
  split at e
  · rename_i w c1 hk
    cases e
    exact ⟨w, hk⟩
  · cases e
theorem hW_some {h : AH} {a c : Nat} (e : hW h a = some c) : kd h a = some (true, .inl c) := by
  unfold hW at e
  split at e
  · rename_i c1 hk
    cases e
    exact hk
  · cases e
theorem hT_some {h : AH} {a : Nat} {q : Nat × Nat} (e : hT h a = some q) : ∃ w, kd h a = some (w, .inr q) := by
  unfold hT at e
  split at e
  · rename_i w q1 hk
    cases e
    exact ⟨w, hk⟩
  · cases e
theorem hU_some {h : AH} {a : Nat} {q : Nat × Nat} (e : hU h a = some q) : kd h a = some (true, .inr q) := by
  unfold hU at e
  split at e
  · rename_i q1 hk
    cases e
    exact hk
  · cases e
theorem vI_some {v : Value} {x : Int32} (e : vI v = some x) : v = .int x := by
  cases v <;> simp [vI] at e
  rw [e]
theorem vR_some {v : Value} {x : Option Nat} (e : vR v = some x) : v = va_rf x := by
  cases v <;> simp [vR] at e <;> subst e <;> rfl
/-- the class of a is among cs -/
def hIn (cs : List Nat) (o : Option Nat) : Option Nat := o.bind fun c => if cs.contains c then some c else none
theorem hIn_some {cs : List Nat} {o : Option Nat} {c : Nat} (e : hIn cs o = some c) : o = some c ∧ c ∈ cs := by
  obtain ⟨d, h1, h2⟩ := bnd e
  split at h2
  · rename_i h3
    cases h2
    exact ⟨h1, by simpa using h3⟩
  · cases h2
def gI (h : AH) (cs : List Nat) (f a : Nat) : Option Int32 := (hIn cs (hK h a)).bind fun _ => vI (fv h f a)
def gR (h : AH) (cs : List Nat) (f a : Nat) : Option (Option Nat) := (hIn cs (hK h a)).bind fun _ => vR (fv h f a)
def pF (h : AH) (cs : List Nat) (f a : Nat) (v : Value) : Option AH := (hIn cs (hW h a)).bind fun _ => some (wF h f a v)
theorem va_some {a : Nat} : va_rf (some a) = .ref a := rfl
theorem va_none : va_rf none = .null := rfl
section ALL
theorem al0 {P : Nat → Prop} : ∀ c ∈ ([] : List Nat), P c := fun c h => by cases h
theorem alC {P : Nat → Prop} {c : Nat} {cs : List Nat} (h : P c) (t : ∀ c ∈ cs, P c) : ∀ d ∈ c :: cs, P d := fun d hd => (List.mem_cons.mp hd).elim (fun e => by rw [e]; exact h) (t d)
end ALL
/-- statics -/
def sI (g : GG) (i : Nat) : Int32 := match gS g i with
  | .int x => x
  | _ => 0
def sR (g : GG) (i : Nat) : Option Nat := match gS g i with
  | .ref a => some a
  | _ => none
def SINT : List Nat := [13, 16, 17]
def SREF : List Nat := [0, 1, 2, 3, 4, 5, 6, 7, 8, 9, 10, 11, 12, 14, 15, 18]
/-- arrays -/
def aIn (t n : Nat) (i : Int32) : Option Nat := if i < 0 ∨ n ≤ i.toNatClampNeg then none else some i.toNatClampNeg
theorem aIn_some {t n k : Nat} {i : Int32} (e : aIn t n i = some k) : vp_in i n ∧ k = i.toNatClampNeg := by
  unfold aIn at e
  split at e
  · cases e
  · rename_i h1
    cases e
    exact ⟨h1, rfl⟩
def isNum (t : Nat) : Option Unit := if t = 0 then some () else none
def aI (h : AH) (a : Nat) (i : Int32) : Option Int32 := (hT h a).bind fun q => if q.1 = 0 then (aIn q.1 q.2 i).bind fun k => vI (av h a k) else none
def aB (h : AH) (a : Nat) (i : Int32) : Option Int32 := (hT h a).bind fun q => if q.1 = 1 ∨ q.1 = 2 then (aIn q.1 q.2 i).bind fun k => vI (av h a k) else none
def isObj (t : Nat) : Bool := 5 ≤ t && t ≤ 10
theorem isObj_some {t : Nat} (h : isObj t = true) : ∃ E : String, ATY[t]? = some (.object E) := by
  unfold isObj at h
  simp only [Bool.and_eq_true, decide_eq_true_eq] at h
  obtain ⟨h1, h2⟩ := h
  match t, h1, h2 with
  | 5, _, _ => exact ⟨_, rfl⟩
  | 6, _, _ => exact ⟨_, rfl⟩
  | 7, _, _ => exact ⟨_, rfl⟩
  | 8, _, _ => exact ⟨_, rfl⟩
  | 9, _, _ => exact ⟨_, rfl⟩
  | 10, _, _ => exact ⟨_, rfl⟩
  | k + 11, _, h => omega
def aR (h : AH) (a : Nat) (i : Int32) : Option (Option Nat) := (hT h a).bind fun q => if isObj q.1 = true then (aIn q.1 q.2 i).bind fun k => vR (av h a k) else none
def aN (h : AH) (a : Nat) : Option Int32 := (hT h a).bind fun q => if q.1 < 11 then some (nI q.2) else none
def pI (h : AH) (a : Nat) (i x : Int32) : Option AH := (hU h a).bind fun q => if q.1 = 0 then (aIn q.1 q.2 i).bind fun k => some (wA h a k (.int x)) else none
def pB (h : AH) (a : Nat) (i x : Int32) : Option AH := (hU h a).bind fun q => if q.1 = 1 then (aIn q.1 q.2 i).bind fun k => some (wA h a k (narrow .byte (.int x))) else if q.1 = 2 then (aIn q.1 q.2 i).bind fun k => some (wA h a k (narrow .boolean (.int x))) else none
def pL (h : AH) (a : Nat) (i : Int32) (x : Int64) : Option AH := (hU h a).bind fun q => if q.1 = 3 then (aIn q.1 q.2 i).bind fun k => some (wA h a k (.long x)) else none
def pD (h : AH) (a : Nat) (i : Int32) (x : UInt64) : Option AH := (hU h a).bind fun q => if q.1 = 4 then (aIn q.1 q.2 i).bind fun k => some (wA h a k (.double x)) else none
/-- what an array of objects takes: class, array type -/
def AST : List (Nat × Nat) := [(12, 5), (13, 5), (2, 6), (10, 7), (11, 8), (22, 10), (23, 10), (24, 10), (2, 9), (7, 9), (8, 9), (9, 9), (10, 9), (11, 9), (12, 9), (13, 9)]
theorem AST_ok : ∀ p ∈ AST, ∃ E : String, ATY[p.2]? = some (.object E) ∧ AS p.1 E := by
  intro p hp
  simp only [AST, List.mem_cons, List.not_mem_nil, or_false] at hp
  rcases hp with rfl | rfl | rfl | rfl | rfl | rfl | rfl | rfl | rfl | rfl | rfl | rfl | rfl | rfl | rfl | rfl
  · exact ⟨_, rfl, ⟨_, rfl, Or.inr (List.mem_of_getElem? (i := 14) rfl)⟩⟩
  · exact ⟨_, rfl, ⟨_, rfl, Or.inr (List.mem_of_getElem? (i := 2) rfl)⟩⟩
  · exact ⟨_, rfl, ⟨_, rfl, Or.inl ⟨rfl, by decide⟩⟩⟩
  · exact ⟨_, rfl, ⟨_, rfl, Or.inl ⟨rfl, by decide⟩⟩⟩
  · exact ⟨_, rfl, ⟨_, rfl, Or.inl ⟨rfl, by decide⟩⟩⟩
  · exact ⟨_, rfl, ⟨_, rfl, Or.inr (List.mem_of_getElem? (i := 7) rfl)⟩⟩
  · exact ⟨_, rfl, ⟨_, rfl, Or.inr (List.mem_of_getElem? (i := 9) rfl)⟩⟩
  · exact ⟨_, rfl, ⟨_, rfl, Or.inr (List.mem_of_getElem? (i := 11) rfl)⟩⟩
  · exact ⟨_, rfl, ⟨_, rfl, Or.inr (List.mem_of_getElem? (i := 18) rfl)⟩⟩
  · exact ⟨_, rfl, ⟨_, rfl, Or.inr (List.mem_of_getElem? (i := 17) rfl)⟩⟩
  · exact ⟨_, rfl, ⟨_, rfl, Or.inr (List.mem_of_getElem? (i := 22) rfl)⟩⟩
  · exact ⟨_, rfl, ⟨_, rfl, Or.inr (List.mem_of_getElem? (i := 27) rfl)⟩⟩
  · exact ⟨_, rfl, ⟨_, rfl, Or.inr (List.mem_of_getElem? (i := 1) rfl)⟩⟩
  · exact ⟨_, rfl, ⟨_, rfl, Or.inr (List.mem_of_getElem? (i := 23) rfl)⟩⟩
  · exact ⟨_, rfl, ⟨_, rfl, Or.inr (List.mem_of_getElem? (i := 15) rfl)⟩⟩
  · exact ⟨_, rfl, ⟨_, rfl, Or.inr (List.mem_of_getElem? (i := 3) rfl)⟩⟩
def okEl (h : AH) (t : Nat) (v : Option Nat) : Bool := match v with
  | none => isObj t
  | some a => match hK h a with
    | some c => AST.contains (c, t)
    | none => false
theorem okEl_some {h : AH} {t a : Nat} (e : okEl h t (some a) = true) : ∃ (w : Bool) (c : Nat) (E : String), kd h a = some (w, .inl c) ∧ ATY[t]? = some (.object E) ∧ AS c E := by
  unfold okEl at e
  dsimp only at e
  split at e
  · rename_i c hc
    obtain ⟨w, hw⟩ := hK_some hc
    obtain ⟨E, h1, h2⟩ := AST_ok (c, t) (by simpa using e)
    exact ⟨w, c, E, hw, h1, h2⟩
  · cases e
def pR (h : AH) (a : Nat) (i : Int32) (v : Option Nat) : Option AH := (hU h a).bind fun q => if okEl h q.1 v = true then (aIn q.1 q.2 i).bind fun k => some (wA h a k (va_rf v)) else none
/-- System.arraycopy -/
def cpEl (h : AH) (t : Nat) (v : Value) : Bool := match v with
  | .int x => t == 0 || (t == 1 && fits .byte (.int x))
  | .null => isObj t
  | .ref a => okEl h t (some a)
  | _ => false
def hCp (h : AH) (a0 : Nat) (sp : Int32) (a : Nat) (dp n : Int32) : Option AH := (hT h a0).bind fun q0 => (hU h a).bind fun q =>
  if sp < 0 ∨ dp < 0 ∨ n < 0 ∨ q0.2 < sp.toNatClampNeg + n.toNatClampNeg ∨ q.2 < dp.toNatClampNeg + n.toNatClampNeg then none
  else if ((q0.1 = q.1 ∧ q.1 ≤ 1) ∨ (isObj q0.1 = true ∧ isObj q.1 = true)) ∧ ((List.range n.toNatClampNeg).all fun i => cpEl h q.1 (av h a0 (sp.toNatClampNeg + i))) = true then some (cpA h a0 a sp.toNatClampNeg dp.toNatClampNeg n.toNatClampNeg) else none
theorem isObj_no {t : Nat} (h : t ≤ 1) : isObj t = false := by
  match t, h with
  | 0, _ => rfl
  | 1, _ => rfl
  | k + 2, h => omega
theorem AST_obj : ∀ p ∈ AST, isObj p.2 = true := by decide
theorem okEl_obj {h : AH} {t a : Nat} (e : okEl h t (some a) = true) : isObj t = true := by
  unfold okEl at e
  dsimp only at e
  split at e
  · rename_i c hc
    exact AST_obj (c, t) (by simpa using e)
  · cases e
theorem hCp_some {h h1 : AH} {a0 a : Nat} {sp dp n : Int32} (e : hCp h a0 sp a dp n = some h1) : ∃ (w : Bool) (t0 n0 t1 n1 : Nat), kd h a0 = some (w, .inr (t0, n0)) ∧ kd h a = some (true, .inr (t1, n1)) ∧ ¬ sp < 0 ∧ ¬ dp < 0 ∧ ¬ n < 0 ∧ sp.toNatClampNeg + n.toNatClampNeg ≤ n0 ∧ dp.toNatClampNeg + n.toNatClampNeg ≤ n1 ∧ cpOK h t0 t1 a0 sp.toNatClampNeg n.toNatClampNeg ∧ h1 = cpA h a0 a sp.toNatClampNeg dp.toNatClampNeg n.toNatClampNeg := by
  obtain ⟨⟨t0, n0⟩, e1, e⟩ := bnd e
  obtain ⟨⟨t1, n1⟩, e2, e⟩ := bnd e
  obtain ⟨w, e1⟩ := hT_some e1
  have e2 := hU_some e2
  dsimp only at e
  split at e
  · cases e
  · rename_i g1
    split at e
    · rename_i g2
      cases e
      simp only [not_or] at g1
      obtain ⟨p1, p2, p3, p4, p5⟩ := g1
      obtain ⟨g2, g3⟩ := g2
      rw [List.all_eq_true] at g3
      refine ⟨w, t0, n0, t1, n1, e1, e2, p1, p2, p3, by omega, by omega, ?_, rfl⟩
      rcases g2 with ⟨rfl, g2⟩ | ⟨g2, g4⟩
      · refine Or.inl ⟨rfl, by omega, fun i hi => ?_⟩
        have g5 := g3 i (List.mem_range.mpr hi)
        unfold cpEl at g5
        split at g5
        · rename_i x hx
          refine ⟨x, hx, fun ht => ?_⟩
          subst ht
          simpa using g5
        · rw [isObj_no g2] at g5; cases g5
        · have := okEl_obj g5
          rw [isObj_no g2] at this; cases this
        · cases g5
      · obtain ⟨E0, k0⟩ := isObj_some g2
        obtain ⟨E1, k1⟩ := isObj_some g4
        refine Or.inr ⟨E0, E1, k0, k1, fun i hi => ?_⟩
        have g5 := g3 i (List.mem_range.mpr hi)
        unfold cpEl at g5
        split at g5
        · exfalso
          have h4 : t1 ≠ 0 ∧ t1 ≠ 1 := ⟨fun q => (by rw [q] at g4; cases g4), fun q => (by rw [q] at g4; cases g4)⟩
          simp [h4.1, h4.2] at g5
        · rename_i hx
          exact Or.inl hx
        · rename_i x hx
          obtain ⟨w9, c, E, q1, q2, q3⟩ := okEl_some g5
          cases q2.symm.trans k1
          exact Or.inr ⟨x, c, w9, hx, q1, q3⟩
        · cases g5
    · cases e
/-- making -/
def mkO (g : GG) (h : AH) (ci N : Nat) : Option AH := if nx h + 1 ≤ gL g ∧ us h + N ≤ gM g then some (nO h ci N) else none
def mkA (g : GG) (h : AH) (t : Nat) (v : Value) (z : Int32) : Option AH := if z < 0 ∨ 67108864 < z.toNatClampNeg ∨ ¬ (nx h + 1 ≤ gL g ∧ us h + z.toNatClampNeg ≤ gM g) then none else some (nA h t z.toNatClampNeg v)
/-- casts -/
def castH (h : AH) (cs : List Nat) (r : Option Nat) : Option Unit := match r with
  | none => some ()
  | some a => (hIn cs (hK h a)).bind fun _ => some ()
def instH (h : AH) (cs ns : List Nat) (r : Option Nat) : Option Int32 := match r with
  | none => some 0
  | some a => (hK h a).bind fun c => if cs.contains c then some 1 else if ns.contains c then some 0 else none
section VHO
variable {l : Launch} {g : GG} {M : MD} {fr : Nat} {pc : Nat} {L : List (Option Value)} {st : List Value} {h h1 : AH} {Q : Res → AH → Prop}
theorem V.xgI {idx f a : Nat} {cs : List Nat} {x : Int32} (hd : decode M.2.1 pc = .ok (.getfield idx, 3)) (hO : ∀ c ∈ cs, FO M.1.cls idx f c) (e : gI h cs f a = some x) (k : V l g M fr (pc + 3) L (.int x :: st) h Q) : V l g M fr pc L (.ref a :: st) h Q := by
  obtain ⟨c, e1, e2⟩ := bnd e
  obtain ⟨e1, e3⟩ := hIn_some e1
  obtain ⟨w, e1⟩ := hK_some e1
  exact V.getf hd (hO c e3) e1 (vI_some e2) k
theorem V.xgR {idx f a : Nat} {cs : List Nat} {x : Option Nat} (hd : decode M.2.1 pc = .ok (.getfield idx, 3)) (hO : ∀ c ∈ cs, FO M.1.cls idx f c) (e : gR h cs f a = some x) (k : V l g M fr (pc + 3) L (va_rf x :: st) h Q) : V l g M fr pc L (.ref a :: st) h Q := by
  obtain ⟨c, e1, e2⟩ := bnd e
  obtain ⟨e1, e3⟩ := hIn_some e1
  obtain ⟨w, e1⟩ := hK_some e1
  exact V.getf hd (hO c e3) e1 (vR_some e2) k
theorem V.xpF {idx f a : Nat} {cs : List Nat} {v : Value} (hd : decode M.2.1 pc = .ok (.putfield idx, 3)) (hO : ∀ c ∈ cs, PO M.1.cls M.1.name idx f c v) (e : pF h cs f a v = some h1) (k : V l g M fr (pc + 3) L st h1 Q) : V l g M fr pc L (v :: .ref a :: st) h Q := by
  obtain ⟨c, e1, e2⟩ := bnd e
  obtain ⟨e1, e3⟩ := hIn_some e1
  cases e2
  exact V.putf hd (hO c e3) (hW_some e1) k
theorem V.xsI {idx i : Nat} (hd : decode M.2.1 pc = .ok (.getstatic idx, 3)) (hO : SO M.1.cls idx i) (hG : gS g i = .int (sI g i)) (k : V l g M fr (pc + 3) L (.int (sI g i) :: st) h Q) : V l g M fr pc L st h Q := V.gets hd hO hG k
theorem V.xsR {idx i : Nat} (hd : decode M.2.1 pc = .ok (.getstatic idx, 3)) (hO : SO M.1.cls idx i) (hG : gS g i = va_rf (sR g i)) (k : V l g M fr (pc + 3) L (va_rf (sR g i) :: st) h Q) : V l g M fr pc L st h Q := V.gets hd hO hG k
theorem V.xaI {a : Nat} {i x : Int32} (hd : decode M.2.1 pc = .ok (.iaload, 1)) (e : aI h a i = some x) (k : V l g M fr (pc + 1) L (.int x :: st) h Q) : V l g M fr pc L (.int i :: .ref a :: st) h Q := by
  obtain ⟨⟨t, n⟩, e1, e⟩ := bnd e
  obtain ⟨w, e1⟩ := hT_some e1
  dsimp only at e
  split at e
  · rename_i ht
    subst ht
    obtain ⟨k9, e2, e3⟩ := bnd e
    obtain ⟨e4, rfl⟩ := aIn_some e2
    exact V.iaload hd e1 rfl e4 (vI_some e3) k
  · cases e
theorem V.xaB {a : Nat} {i x : Int32} (hd : decode M.2.1 pc = .ok (.baload, 1)) (e : aB h a i = some x) (k : V l g M fr (pc + 1) L (.int x :: st) h Q) : V l g M fr pc L (.int i :: .ref a :: st) h Q := by
  obtain ⟨⟨t, n⟩, e1, e⟩ := bnd e
  obtain ⟨w, e1⟩ := hT_some e1
  dsimp only at e
  split at e
  · rename_i ht
    obtain ⟨k9, e2, e3⟩ := bnd e
    obtain ⟨e4, rfl⟩ := aIn_some e2
    rcases ht with rfl | rfl
    · exact V.baload hd e1 rfl e4 (vI_some e3) k
    · exact V.zaload hd e1 rfl e4 (vI_some e3) k
  · cases e
theorem V.xaR {a : Nat} {i : Int32} {x : Option Nat} (hd : decode M.2.1 pc = .ok (.aaload, 1)) (e : aR h a i = some x) (k : V l g M fr (pc + 1) L (va_rf x :: st) h Q) : V l g M fr pc L (.int i :: .ref a :: st) h Q := by
  obtain ⟨⟨t, n⟩, e1, e⟩ := bnd e
  obtain ⟨w, e1⟩ := hT_some e1
  dsimp only at e
  split at e
  · rename_i ht
    obtain ⟨E, hE⟩ := isObj_some ht
    obtain ⟨k9, e2, e3⟩ := bnd e
    obtain ⟨e4, rfl⟩ := aIn_some e2
    exact V.aaload hd e1 hE e4 (vR_some e3) k
  · cases e
theorem V.xaN {a : Nat} {x : Int32} (hd : decode M.2.1 pc = .ok (.arraylength, 1)) (e : aN h a = some x) (k : V l g M fr (pc + 1) L (.int x :: st) h Q) : V l g M fr pc L (.ref a :: st) h Q := by
  obtain ⟨⟨t, n⟩, e1, e⟩ := bnd e
  obtain ⟨w, e1⟩ := hT_some e1
  dsimp only at e
  split at e
  · rename_i ht
    cases e
    have h9 : ∃ ty, ATY[t]? = some ty := ⟨_, List.getElem?_eq_getElem (show t < ATY.length from ht)⟩
    obtain ⟨ty, hty⟩ := h9
    exact V.alen hd e1 hty k
  · cases e
theorem V.xpI {a : Nat} {i x : Int32} (hd : decode M.2.1 pc = .ok (.iastore, 1)) (e : pI h a i x = some h1) (k : V l g M fr (pc + 1) L st h1 Q) : V l g M fr pc L (.int x :: .int i :: .ref a :: st) h Q := by
  obtain ⟨⟨t, n⟩, e1, e⟩ := bnd e
  have e1 := hU_some e1
  dsimp only at e
  split at e
  · rename_i ht
    subst ht
    obtain ⟨k9, e2, e3⟩ := bnd e
    obtain ⟨e4, rfl⟩ := aIn_some e2
    cases e3
    exact V.iastore hd e1 rfl e4 k
  · cases e
theorem V.xpL {a : Nat} {i : Int32} {x : Int64} (hd : decode M.2.1 pc = .ok (.lastore, 1)) (e : pL h a i x = some h1) (k : V l g M fr (pc + 1) L st h1 Q) : V l g M fr pc L (.long x :: .int i :: .ref a :: st) h Q := by
  obtain ⟨⟨t, n⟩, e1, e⟩ := bnd e
  have e1 := hU_some e1
  dsimp only at e
  split at e
  · rename_i ht
    subst ht
    obtain ⟨k9, e2, e3⟩ := bnd e
    obtain ⟨e4, rfl⟩ := aIn_some e2
    cases e3
    exact V.lastore hd e1 rfl e4 k
  · cases e
theorem V.xpD {a : Nat} {i : Int32} {x : UInt64} (hd : decode M.2.1 pc = .ok (.dastore, 1)) (e : pD h a i x = some h1) (k : V l g M fr (pc + 1) L st h1 Q) : V l g M fr pc L (.double x :: .int i :: .ref a :: st) h Q := by
  obtain ⟨⟨t, n⟩, e1, e⟩ := bnd e
  have e1 := hU_some e1
  dsimp only at e
  split at e
  · rename_i ht
    subst ht
    obtain ⟨k9, e2, e3⟩ := bnd e
    obtain ⟨e4, rfl⟩ := aIn_some e2
    cases e3
    exact V.dastore hd e1 rfl e4 k
  · cases e
theorem V.xpB {a : Nat} {i x : Int32} (hd : decode M.2.1 pc = .ok (.bastore, 1)) (e : pB h a i x = some h1) (k : V l g M fr (pc + 1) L st h1 Q) : V l g M fr pc L (.int x :: .int i :: .ref a :: st) h Q := by
  obtain ⟨⟨t, n⟩, e1, e⟩ := bnd e
  have e1 := hU_some e1
  dsimp only at e
  split at e
  · rename_i ht
    subst ht
    obtain ⟨k9, e2, e3⟩ := bnd e
    obtain ⟨e4, rfl⟩ := aIn_some e2
    cases e3
    exact V.bastore hd e1 rfl e4 k
  · split at e
    · rename_i ht
      subst ht
      obtain ⟨k9, e2, e3⟩ := bnd e
      obtain ⟨e4, rfl⟩ := aIn_some e2
      cases e3
      exact V.zastore hd e1 rfl e4 k
    · cases e
theorem V.xpR {a : Nat} {i : Int32} {v : Option Nat} (hd : decode M.2.1 pc = .ok (.aastore, 1)) (e : pR h a i v = some h1) (k : V l g M fr (pc + 1) L st h1 Q) : V l g M fr pc L (va_rf v :: .int i :: .ref a :: st) h Q := by
  obtain ⟨⟨t, n⟩, e1, e⟩ := bnd e
  have e1 := hU_some e1
  dsimp only at e
  split at e
  · rename_i ht
    obtain ⟨k9, e2, e3⟩ := bnd e
    obtain ⟨e4, rfl⟩ := aIn_some e2
    cases e3
    cases v with
    | none =>
      obtain ⟨E, hE⟩ := isObj_some (show isObj t = true from ht)
      exact V.aastoreN hd e1 hE e4 k
    | some b =>
      obtain ⟨w, c, E, q1, q2, q3⟩ := okEl_some ht
      exact V.aastore hd e1 q2 e4 q1 q3 k
  · cases e
theorem V.xhCp {idx a0 a : Nat} {sp dp n : Int32} (hd : decode M.2.1 pc = .ok (.invokestatic idx, 3)) (l1 : Cond.methodLink M.1.cls idx arraycopyName ∈ lw_all) (l2 : Cond.native arraycopyName ∈ lw_all) (l3 : Cond.static arraycopyName ∈ lw_all) (l4 : Cond.initialized "java/lang/System" ∈ lw_all) (e : hCp h a0 sp a dp n = some h1) (hfr : 1 ≤ fr) (hst : stW st ≤ 8) (k : V l g M fr (pc + 3) L st h1 Q) : V l g M fr pc L (.int n :: .int dp :: .ref a :: .int sp :: .ref a0 :: st) h Q := by
  obtain ⟨w, t0, n0, t1, n1, q1, q2, q3, q4, q5, q6, q7, q8, rfl⟩ := hCp_some e
  exact V.acopy hd l1 l2 l3 l4 q1 q2 q3 q4 q5 q6 q7 q8 hfr hst k
theorem V.xhN {idx ci N : Nat} (hd : decode M.2.1 pc = .ok (.new idx, 3)) (hO : NO M.1.cls idx ci N) (e : mkO g h ci N = some h1) (k : V l g M fr (pc + 3) L (.ref (nx h) :: st) h1 Q) : V l g M fr pc L st h Q := by
  unfold mkO at e
  split at e
  · rename_i h2
    cases e
    exact V.new hd hO h2.1 h2.2 k
  · cases e
theorem V.xhNA {at9 : ArrayType} {t : Nat} {ty : FieldType} {z : Int32} (hd : decode M.2.1 pc = .ok (.newarray at9, 2)) (hty : newarray.typeOf at9 = ty) (ht : ATY[t]? = some ty) (hw : Cond.arrayClass ty ∈ lw_all) (hra : ∀ (U : State) (c : ClassId), va_RA U c ty → U.vm.findClass ("[" ++ ty.toString) = some c) (hcb : componentBytes ty ≤ 8) (e : mkA g h t (defaultValue ty) z = some h1) (k : V l g M fr (pc + 2) L (.ref (nx h) :: st) h1 Q) : V l g M fr pc L (.int z :: st) h Q := by
  unfold mkA at e
  split at e
  · cases e
  · rename_i h2
    cases e
    simp only [not_or, Decidable.not_not] at h2
    obtain ⟨h2, h3, h4⟩ := h2
    refine V.newarr hd hty ht hw hra h2 rfl ?_ h4.1 h4.2 k
    have h5 : z.toNatClampNeg * componentBytes ty ≤ z.toNatClampNeg * 8 := Nat.mul_le_mul_left _ hcb
    omega
theorem V.xhNR {idx t : Nat} {E : String} {z : Int32} (hd : decode M.2.1 pc = .ok (.anewarray idx, 3)) (ht : ATY[t]? = some (.object E)) (hcl : Cond.classLink M.1.cls idx E ∈ lw_all) (hw : E ∈ XWA) (e : mkA g h t .null z = some h1) (k : V l g M fr (pc + 3) L (.ref (nx h) :: st) h1 Q) : V l g M fr pc L (.int z :: st) h Q := by
  unfold mkA at e
  split at e
  · cases e
  · rename_i h2
    cases e
    simp only [not_or, Decidable.not_not] at h2
    obtain ⟨h2, h3, h4⟩ := h2
    exact V.anewarr hd ht hcl hw h2 rfl (by omega) h4.1 h4.2 k
theorem V.xhCast {idx : Nat} {cs : List Nat} {r : Option Nat} {nm : String} {u : Unit} (hd : decode M.2.1 pc = .ok (.checkcast idx, 3)) (hcl : Cond.classLink M.1.cls idx nm ∈ lw_all) (hE : ∀ c ∈ cs, AS c nm) (e : castH h cs r = some u) (k : V l g M fr (pc + 3) L (va_rf r :: st) h Q) : V l g M fr pc L (va_rf r :: st) h Q := by
  cases r with
  | none => exact V.castN hd k
  | some a =>
    obtain ⟨c, e1, -⟩ := bnd (show (hIn cs (hK h a)).bind _ = some u from e)
    obtain ⟨e1, e3⟩ := hIn_some e1
    obtain ⟨w, e1⟩ := hK_some e1
    exact V.cast hd e1 hcl (hE c e3) k
theorem V.xhInst {idx : Nat} {cs ns : List Nat} {r : Option Nat} {nm : String} {x : Int32} (hd : decode M.2.1 pc = .ok (.instanceof idx, 3)) (hcl : Cond.classLink M.1.cls idx nm ∈ lw_all) (hE : ∀ c ∈ cs, AS c nm) (hN : ∀ c ∈ ns, ∃ q : vw_C, CL[c]? = some q ∧ (q.1, nm) ∈ XWN) (e : instH h cs ns r = some x) (k : V l g M fr (pc + 3) L (.int x :: st) h Q) : V l g M fr pc L (va_rf r :: st) h Q := by
  cases r with
  | none => cases e; exact V.instN hd k
  | some a =>
    obtain ⟨c, e1, e2⟩ := bnd (show (hK h a).bind _ = some x from e)
    obtain ⟨w, e1⟩ := hK_some e1
    split at e2
    · rename_i h3
      cases e2
      exact V.instY hd e1 hcl (hE c (by simpa using h3)) k
    · split at e2
      · rename_i h3
        cases e2
        exact V.instNo hd e1 hcl (hN c (by simpa using h3)) k
      · cases e2
end VHO
/-! ===== contracts of methods that may throw ===== -/
abbrev EX : Type := String × Nat
def oI (y : Int32 ⊕ EX) : Res := match y with
  | .inl x => .inl (some (.int x))
  | .inr e => .inr e
def oF (y : UInt32 ⊕ EX) : Res := match y with
  | .inl x => .inl (some (.float x))
  | .inr e => .inr e
def oR (y : Option Nat ⊕ EX) : Res := match y with
  | .inl x => .inl (some (va_rf x))
  | .inr e => .inr e
def oV (y : Unit ⊕ EX) : Res := match y with
  | .inl _ => .inl none
  | .inr e => .inr e
def QT (o : Res) (h1 : AH) : Res → AH → Prop := fun o' h2 => o' = o ∧ h2 = h1
section KT
variable {l : Launch} {g : GG} {M : MD} {fr pc : Nat} {L : List (Option Value)} {st : List Value} {Q : Res → AH → Prop} {h1 : AH}
theorem ktI {r : Int32} (k : V l g M fr pc L (.int r :: st) h1 Q) : ∀ v h2, QT (oI (.inl r)) h1 (.inl v) h2 → V l g M fr pc L (v.toList ++ st) h2 Q := by
  rintro v h2 ⟨e, rfl⟩; cases e; exact k
theorem ktF {r : UInt32} (k : V l g M fr pc L (.float r :: st) h1 Q) : ∀ v h2, QT (oF (.inl r)) h1 (.inl v) h2 → V l g M fr pc L (v.toList ++ st) h2 Q := by
  rintro v h2 ⟨e, rfl⟩; cases e; exact k
theorem ktR {r : Option Nat} (k : V l g M fr pc L (va_rf r :: st) h1 Q) : ∀ v h2, QT (oR (.inl r)) h1 (.inl v) h2 → V l g M fr pc L (v.toList ++ st) h2 Q := by
  rintro v h2 ⟨e, rfl⟩; cases e; exact k
theorem ktV {u : Unit} (k : V l g M fr pc L st h1 Q) : ∀ v h2, QT (oV (.inl u)) h1 (.inl v) h2 → V l g M fr pc L (v.toList ++ st) h2 Q := by
  rintro v h2 ⟨e, rfl⟩; cases e; exact k
theorem kn {o : Res} (ho : ∀ v, o ≠ .inl v) : ∀ v h2, QT o h1 (.inl v) h2 → V l g M fr pc L (v.toList ++ st) h2 Q := by
  rintro v h2 ⟨e, rfl⟩; exact (ho v e.symm).elim
theorem kw {o : Res} (ho : ∀ v, o ≠ .inr v) : ∀ E q h2, QT o h1 (.inr (E, q)) h2 → VT l g M fr pc L E q h2 Q := by
  rintro E q h2 ⟨e, rfl⟩; exact (ho _ e.symm).elim
theorem kx {o : Res} {ex : EX} (ho : o = .inr ex) (k : VT l g M fr pc L ex.1 ex.2 h1 Q) : ∀ E q h2, QT o h1 (.inr (E, q)) h2 → VT l g M fr pc L E q h2 Q := by
  rintro E q h2 ⟨e, rfl⟩
  rw [ho] at e
  cases e
  exact k
end KT
section VCB
variable {l : Launch} {g : GG} {M : MD} {fr pc : Nat} {L : List (Option Value)} {st : List Value} {h h1 : AH} {Q : Res → AH → Prop}
/-- the clone of a byte array -/
theorem V.cloneB {idx a n : Nat} (hd : decode M.2.1 pc = .ok (.invokevirtual idx, 3)) (hk : kd h a = some (true, .inr (1, n))) (l1 : Cond.methodLink M.1.cls idx ⟨"[B", "clone", "()Ljava/lang/Object;"⟩ ∈ lw_all) (l2 : Cond.sameMethod "[B" "java/lang/Object" "clone" "()Ljava/lang/Object;" ∈ lw_all) (l3 : Cond.native ⟨"java/lang/Object", "clone", "()Ljava/lang/Object;"⟩ ∈ lw_all) (l4 : Cond.instanceMethod ⟨"java/lang/Object", "clone", "()Ljava/lang/Object;"⟩ ∈ lw_all) (l5 : Cond.selects "[B" ⟨"[B", "clone", "()Ljava/lang/Object;"⟩ ⟨"java/lang/Object", "clone", "()Ljava/lang/Object;"⟩ ∈ lw_all) (l6 : ("[B", "java/lang/Cloneable") ∈ XWC) (hr : ∀ i, i < n → fits .byte (av h a i) = true) (hfr : 1 ≤ fr) (hst : stW st ≤ 8) (hc : nx h + 1 ≤ gL g) (hs : us h + n ≤ gM g) (k : V l g M fr (pc + 3) L (.ref (nx h) :: st) (cpA (nA h 1 n (.int 0)) a (nx h) 0 0 n) Q) : V l g M fr pc L (.ref a :: st) h Q := by
  intro hl p e s m args below meth c C H locs hR hS ls hL
  have hts := C.2.2.2.2.2.2.1
  have hF := C.2.2.2.2.2.2.2.1
  have hbase := C.2.2.2.2.2.2.2.2.2.2
  refine xlow (b := gB g) hbase (fun lo1 lo2 => ?_)
  have hz := hR.2.1
  have hu := hR.2.2.1
  obtain ⟨f1, f2, hcH⟩ := hR.1.2.1 a 1 n hk
  obtain ⟨-, kA, r1, comp, r2⟩ := (hF.2.1 1 .byte rfl).1 n (av h a)
  have hnm : s.vm.findClass "[B" = some (gA g 1) := (hF.2.1 1 .byte rfl).2
  obtain ⟨q0, q1, q2, q3, q4⟩ := Cond.castable_spec (va_Nw.use (A := args) rfl (hF.2.2.2.2.1 _ l6))
  cases hnm.symm.trans q2
  intro T hT X
  obtain ⟨kT, hkT, heT⟩ := X.warmed.alike.2.2 _ _ r1
  obtain ⟨vm', X', step⟩ := X.cloneArray C.1 C.2.2.2.2.2.1 (hts _ l1) (hts _ l2) (hts _ l3) (hts _ l4) (hts _ l5) (a := a) (cell := arrV (gA g 1) n (av h a)) (by rw [hT]; exact hcH) (fun z h => by cases h) (fun h => by cases h) hnm q3 q4
    (fun i v hv => by
      have hi : i < n := by
        have := (Array.getElem?_eq_some_iff.mp hv).1
        rw [arrV_size] at this
        exact this
      rw [arrV_read _ _ hi] at hv
      have hfit : fits .byte v = true := by rw [← Option.some.inj hv]; exact hr i hi
      have hkind : kT.kind = .array comp .byte := by rw [heT]; exact r2
      have hkT2 : T.vm.classes[(arrV (gA g 1) n (av h a)).cls]? = some kT := hkT
      simpa [State.fitsSlot, State.slotType?, hkT2, hkind] using hfit)
    (g := F0 m pc ls (.ref a :: st)) rfl (by rw [C.2.2.1]; exact hL.1) (rest := st) rfl (by rw [C.2.1]; exact hd) hfr (by show 2 * 0 + stW st + 14 ≤ 64 * fr; omega) (by show _ ≤ gL g - s.heap.size; omega) (by rw [arrV_size]; show _ ≤ gM g - SUM (gB g) s.heap; omega) (hloader := Vm.clonesLoader_of_array r1 r2)
  have hcell : ({ cls := (arrV (gA g 1) n (av h a)).cls, slots := (arrV (gA g 1) n (av h a)).slots } : Cell) = arrV (gA g 1) n (av h a) := rfl
  rw [hcell, arrV_size] at X'
  rw [hcell] at step
  generalize hH1 : H.push (arrV (gA g 1) n (av h a)) = H1
  have z1 : H1.size = H.size + 1 := by rw [← hH1, Array.size_push]
  have e1 : H1[nx h]? = some (arrV (gA g 1) n (av h a)) := by rw [← hH1, ← hz, Array.getElem?_push_size]
  have o1 : ∀ q : Nat, q < H.size → H1[q]? = H[q]? := fun q hq => by rw [← hH1, Array.getElem?_push, if_neg (Nat.ne_of_lt hq)]
  have hb9 : gB g ≤ H.size := Nat.le_trans hbase lo1
  have han : a ≠ nx h := by have := (Array.getElem?_eq_some_iff.mp hcH).1; omega
  have hN : RelC g (cpA (nA h 1 n (.int 0)) a (nx h) 0 0 n) H1 := by
    have old : ∀ b x, kd (nA h 1 n (.int 0)) b = some x → b ≠ nx h → kd h b = some x := fun b x hb hne => by simpa [nA, kd, hne] using hb
    refine ⟨fun b cj hb => ?_, fun b t2 n2 hb => ?_, fun b x hb => ?_⟩
    · have hbn : b ≠ nx h := fun e => by subst e; simp [nA, cpA, kd] at hb
      have hb' := old b _ hb hbn
      obtain ⟨f1, f2, r2, f3, f4⟩ := hR.1.1 b cj hb'
      exact ⟨f1, f2, r2, f3, f4.kept (o1 b (hR.1.lt hb' hb9))⟩
    · by_cases hbn : b = nx h
      · subst hbn
        have h7 : kd (cpA (nA h 1 n (.int 0)) a (nx h) 0 0 n) (nx h) = some (true, .inr (1, n)) := by simp [nA, cpA, kd]
        rw [h7] at hb
        cases hb
        refine ⟨by omega, by decide, ?_⟩
        rw [e1]
        show some ({ cls := gA g 1, slots := Array.ofFn (n := n) fun j => av h a j.val, vm := .none } : Cell) = some { cls := gA g 1, slots := Array.ofFn (n := n) fun j => av (cpA (nA h 1 n (.int 0)) a (nx h) 0 0 n) (nx h) j.val, vm := .none }
        congr 3
        funext j
        simp [cpA, nA, av, han]
      · have hb' := old b _ hb hbn
        obtain ⟨f1, f2, f3⟩ := hR.1.2.1 b t2 n2 hb'
        refine ⟨f1, f2, ?_⟩
        rw [o1 b (hR.1.lt hb' hb9), f3]
        congr 2
        funext j
        simp [cpA, nA, av, hbn]
    · have hbn : b ≠ nx h := fun e => by subst e; simp [nA, cpA, kd] at hb
      obtain ⟨f1, f2, f3, f4⟩ := hR.1.2.2 b x (old b _ hb hbn)
      exact ⟨f1, f2, f3, fun i => by rw [← f4 i]; simp [cpA, nA, av, hbn]⟩
  have k8 : V l g M fr (pc + 3) L (.ref H.size :: st) (cpA (nA h 1 n (.int 0)) a (nx h) 0 0 n) Q := by rw [hz]; exact k
  have W9 := V.go (H := H) (H1 := H1) (dc := 1) (ds := n) k8 hl C ⟨lo1, lo2⟩ hN (by rw [z1, hz]; rfl) ⟨by show _ ≤ us h + n; omega, hc, hs⟩ (hS.grow z1 o1) (p := p) (e := e) (below := below) hL
  obtain ⟨t, a1, b1⟩ := W9 ((T.setVm vm').pushCell (arrV (gA g 1) n (av h a))) (by rw [← hH1, ← hT]; rfl) X'
  exact ⟨t, step t (by rw [hT]; exact a1), b1⟩
/-- the two clones, as operations -/
def clB (g : GG) (h : AH) (a : Nat) : Option AH := (hU h a).bind fun q => if q.1 = 1 ∧ ((List.range q.2).all fun i => cpEl h 1 (av h a i)) = true ∧ nx h + 1 ≤ gL g ∧ us h + q.2 ≤ gM g then some (cpA (nA h 1 q.2 (.int 0)) a (nx h) 0 0 q.2) else none
def isNR (v : Value) : Bool := match v with
  | .null => true
  | .ref _ => true
  | _ => false
def isK3 (o : Option AKd) : Bool := match o with
  | some (false, .inr (10, 3)) => true
  | _ => false
def clK (g : GG) (h : AH) (a : Nat) : Option AH := if sR g 8 = some a ∧ isK3 (kd h a) = true ∧ ((List.range 3).all fun i => isNR (av (gO g) a i)) = true ∧ nx h + 1 ≤ gL g ∧ us h + 3 ≤ gM g then some (cpA (nA h 10 3 .null) a (nx h) 0 0 3) else none
theorem cpEl_byte {h : AH} {v : Value} (e : cpEl h 1 v = true) : fits .byte v = true := by
  unfold cpEl at e
  split at e
  · simpa using e
  · rw [isObj_no (Nat.le_refl 1)] at e
    cases e
  · have h9 := okEl_obj e
    rw [isObj_no (Nat.le_refl 1)] at h9
    cases h9
  · cases e
theorem isNR_some {v : Value} (e : isNR v = true) : IsR v := by
  unfold isNR at e
  split at e
  · exact Or.inl rfl
  · exact Or.inr ⟨_, rfl⟩
  · cases e
theorem isK3_some {o : Option AKd} (e : isK3 o = true) : o = some (false, .inr (10, 3)) := by
  unfold isK3 at e
  split at e
  · rfl
  · cases e
theorem V.xclB {idx a : Nat} (hd : decode M.2.1 pc = .ok (.invokevirtual idx, 3)) (l1 : Cond.methodLink M.1.cls idx ⟨"[B", "clone", "()Ljava/lang/Object;"⟩ ∈ lw_all) (e : clB g h a = some h1) (hfr : 1 ≤ fr) (hst : stW st ≤ 8) (k : V l g M fr (pc + 3) L (.ref (nx h) :: st) h1 Q) : V l g M fr pc L (.ref a :: st) h Q := by
  obtain ⟨⟨t, n⟩, e1, e⟩ := bnd e
  have e1 := hU_some e1
  dsimp only at e
  split at e
  · rename_i h2
    obtain ⟨h2, h3, h4, h5⟩ := h2
    cases e
    subst h2
    rw [List.all_eq_true] at h3
    exact V.cloneB hd e1 l1 q674 q675 q676 q677 (List.mem_of_getElem? (i := 29) rfl) (fun i hi => cpEl_byte (h3 i (List.mem_range.mpr hi))) hfr hst h4 h5 k
  · cases e
theorem V.xclK {idx a : Nat} (hd : decode M.2.1 pc = .ok (.invokevirtual idx, 3)) (l1 : Cond.methodLink M.1.cls idx ⟨"[LRideDesk$Kind;", "clone", "()Ljava/lang/Object;"⟩ ∈ lw_all) (hG : gS g 8 = va_rf (sR g 8)) (e : clK g h a = some h1) (hfr : 1 ≤ fr) (hst : stW st ≤ 8) (k : V l g M fr (pc + 3) L (.ref (nx h) :: st) h1 Q) : V l g M fr pc L (.ref a :: st) h Q := by
  unfold clK at e
  split at e
  · rename_i h2
    obtain ⟨h2, h3, h4, h5, h6⟩ := h2
    cases e
    rw [h2] at hG
    rw [List.all_eq_true] at h4
    exact V.cloneK hd hG (isK3_some h3) l1 q1864 q675 q676 q1865 (List.mem_of_getElem? (i := 35) rfl) (fun i hi => isNR_some (h4 i (List.mem_range.mpr hi))) hfr hst h5 h6 k
  · cases e
end VCB
