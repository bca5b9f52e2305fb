/-! ===== helpers of the reference's walks ===== -/
abbrev rc0 : vw_C := (RX3, TX3, 36)
def Lle : List (Option Value) → List (Option Value) → Prop
  | [], [] => True
  | none :: a, _ :: b => Lle a b
  | some v :: a, w :: b => w = some v ∧ Lle a b
  | _, _ => False
theorem ll0 : Lle [] [] := trivial
theorem llN {x : Option Value} {a b : List (Option Value)} (h : Lle a b) : Lle (none :: a) (x :: b) := h
theorem llS {x : Option Value} {a b : List (Option Value)} (h : Lle a b) : Lle (x :: a) (x :: b) := by
  cases x with
  | none => exact h
  | some v => exact ⟨rfl, h⟩
theorem Lle.get : ∀ (a b : List (Option Value)), Lle a b → ∀ (i : Nat) (v : Value), a[i]? = some (some v) → b[i]? = some (some v)
  | [], [], _, i, v, h => h
  | [], _ :: _, h, _, _, _ => h.elim
  | none :: a, [], h, _, _, _ => h.elim
  | some _ :: a, [], h, _, _, _ => h.elim
  | none :: a, x :: b, h, 0, v, hv => by cases hv
  | none :: a, x :: b, h, i + 1, v, hv => Lle.get a b h i v hv
  | some w :: a, x :: b, h, 0, v, hv => by cases hv; exact congrArg some h.1
  | some w :: a, x :: b, h, i + 1, v, hv => Lle.get a b h.2 i v hv
/-- what is known of the locals may be forgotten -/
theorem V.forget {l : Launch} {g : GG} {M : MD} {fr pc : Nat} {L L2 : List (Option Value)} {st : List Value} {h : AH} {Q : Res → AH → Prop} (hL2 : Lle L2 L) (k : V l g M fr pc L2 st h Q) : V l g M fr pc L st h Q := fun hl p e s m args below meth c C H locs hR hS ls hL => k hl p e s m args below meth c C H locs hR hS ls ⟨hL.1, hL.2.1, fun i v hi => hL.2.2 i v (Lle.get L2 L hL2 i v hi)⟩
def nz (y : Int32) : Option Unit := if y = 0 then none else some ()
theorem nz_some {y : Int32} {u : Unit} (h : nz y = some u) : ¬ y = 0 := by
  intro e
  rw [nz, if_pos e] at h
  cases h
def nn (x : UInt32) : Option Unit := if x &&& 0x7fffffff ≤ 0x7f800000 then some () else none
theorem zg01 {v r : Int32} (h : zg v = some r) : v = 0 ∨ v = 1 := by
  unfold zg at h
  split at h
  · assumption
  · cases h
theorem nn_some {x : UInt32} {u : Unit} (h : nn x = some u) : vf_n32 x := by
  unfold nn at h
  split at h
  · assumption
  · cases h
theorem hc0 : ∀ w ∈ ([] : List Value), w.category = 1 := fun w h => by cases h
theorem hcI {x : Int32} {as : List Value} (h : ∀ w ∈ as, w.category = 1) : ∀ w ∈ (.int x :: as : List Value), w.category = 1 := fun w hw => (List.mem_cons.mp hw).elim (fun e => by rw [e]; rfl) (h w)
theorem hcF {x : UInt32} {as : List Value} (h : ∀ w ∈ as, w.category = 1) : ∀ w ∈ (.float x :: as : List Value), w.category = 1 := fun w hw => (List.mem_cons.mp hw).elim (fun e => by rw [e]; rfl) (h w)
theorem hcR {x : Nat} {as : List Value} (h : ∀ w ∈ as, w.category = 1) : ∀ w ∈ (.ref x :: as : List Value), w.category = 1 := fun w hw => (List.mem_cons.mp hw).elim (fun e => by rw [e]; rfl) (h w)
theorem hcV {x : Option Nat} {as : List Value} (h : ∀ w ∈ as, w.category = 1) : ∀ w ∈ (va_rf x :: as : List Value), w.category = 1 := fun w hw => (List.mem_cons.mp hw).elim (fun e => by rw [e]; exact cat_rf) (h w)
theorem mi_0 : 0 ∈ MINT := by decide
theorem mi_1 : 1 ∈ MINT := by decide
theorem mi_4 : 4 ∈ MINT := by decide
theorem mi_7 : 7 ∈ MINT := by decide
theorem mi_8 : 8 ∈ MINT := by decide
theorem mi_9 : 9 ∈ MINT := by decide
theorem mi_10 : 10 ∈ MINT := by decide
theorem mi_11 : 11 ∈ MINT := by decide
theorem mi_12 : 12 ∈ MINT := by decide
theorem mi_13 : 13 ∈ MINT := by decide
theorem mi_15 : 15 ∈ MINT := by decide
theorem mi_16 : 16 ∈ MINT := by decide
theorem mi_17 : 17 ∈ MINT := by decide
theorem mi_18 : 18 ∈ MINT := by decide
theorem mi_21 : 21 ∈ MINT := by decide
theorem mi_22 : 22 ∈ MINT := by decide
theorem mi_23 : 23 ∈ MINT := by decide
theorem mi_24 : 24 ∈ MINT := by decide
theorem mi_25 : 25 ∈ MINT := by decide
theorem mi_26 : 26 ∈ MINT := by decide
theorem mi_27 : 27 ∈ MINT := by decide
theorem mi_28 : 28 ∈ MINT := by decide
theorem mi_29 : 29 ∈ MINT := by decide
theorem mi_30 : 30 ∈ MINT := by decide
theorem mi_35 : 35 ∈ MINT := by decide
theorem ma_2 : (2, 0, 835) ∈ MARR := by decide
theorem ma_3 : (3, 0, 7515) ∈ MARR := by decide
theorem ma_5 : (5, 2, 2) ∈ MARR := by decide
theorem ma_6 : (6, 0, 1000) ∈ MARR := by decide
theorem ma_14 : (14, 0, 6) ∈ MARR := by decide
theorem ma_19 : (19, 0, 184) ∈ MARR := by decide
theorem ma_20 : (20, 0, 184) ∈ MARR := by decide
theorem ma_31 : (31, 0, 25) ∈ MARR := by decide
theorem ma_32 : (32, 2, 25) ∈ MARR := by decide
theorem ma_33 : (33, 0, 50) ∈ MARR := by decide
theorem ma_34 : (34, 0, 700) ∈ MARR := by decide
theorem po_M_23 {m : String} {v : Int32} : PO "RideDeskModel" m 23 9 0 (.int v) := ⟨9, _, "RideDeskModel", .int, rfl, by decide, rfl, Or.inl q2183, Or.inl rfl, rfl, rfl, rfl, Or.inl rfl⟩
theorem po_M_48 {m : String} {v : Int32} : PO "RideDeskModel" m 48 0 0 (.int v) := ⟨0, _, "RideDeskModel", .int, rfl, by decide, rfl, Or.inl q2174, Or.inl rfl, rfl, rfl, rfl, Or.inl rfl⟩
theorem po_M_51 {m : String} {v : Int32} (hz : v = 0 ∨ v = 1) : PO "RideDeskModel" m 51 1 0 (.int v) := ⟨1, _, "RideDeskModel", .boolean, rfl, by decide, rfl, Or.inl q2175, Or.inl rfl, rfl, by rcases hz with rfl | rfl <;> rfl, by rcases hz with rfl | rfl <;> rfl, Or.inl rfl⟩
theorem po_M_59 {m : String} {v : Int32} : PO "RideDeskModel" m 59 7 0 (.int v) := ⟨7, _, "RideDeskModel", .int, rfl, by decide, rfl, Or.inl q2181, Or.inl rfl, rfl, rfl, rfl, Or.inl rfl⟩
theorem po_M_62 {m : String} {v : Int32} : PO "RideDeskModel" m 62 8 0 (.int v) := ⟨8, _, "RideDeskModel", .int, rfl, by decide, rfl, Or.inl q2182, Or.inl rfl, rfl, rfl, rfl, Or.inl rfl⟩
theorem po_M_65 {m : String} {v : Int32} : PO "RideDeskModel" m 65 10 0 (.int v) := ⟨10, _, "RideDeskModel", .int, rfl, by decide, rfl, Or.inl q2184, Or.inl rfl, rfl, rfl, rfl, Or.inl rfl⟩
theorem po_M_68 {m : String} {v : Int32} : PO "RideDeskModel" m 68 11 0 (.int v) := ⟨11, _, "RideDeskModel", .int, rfl, by decide, rfl, Or.inl q2185, Or.inl rfl, rfl, rfl, rfl, Or.inl rfl⟩
theorem po_M_75 {m : String} {v : Int32} : PO "RideDeskModel" m 75 12 0 (.int v) := ⟨12, _, "RideDeskModel", .int, rfl, by decide, rfl, Or.inl q2186, Or.inl rfl, rfl, rfl, rfl, Or.inl rfl⟩
theorem po_M_78 {m : String} {v : Int32} : PO "RideDeskModel" m 78 13 0 (.int v) := ⟨13, _, "RideDeskModel", .int, rfl, by decide, rfl, Or.inl q2187, Or.inl rfl, rfl, rfl, rfl, Or.inl rfl⟩
theorem po_M_85 {m : String} {v : Int32} : PO "RideDeskModel" m 85 15 0 (.int v) := ⟨15, _, "RideDeskModel", .int, rfl, by decide, rfl, Or.inl q2189, Or.inl rfl, rfl, rfl, rfl, Or.inl rfl⟩
theorem po_M_91 {m : String} {v : Int32} : PO "RideDeskModel" m 91 16 0 (.int v) := ⟨16, _, "RideDeskModel", .int, rfl, by decide, rfl, Or.inl q2190, Or.inl rfl, rfl, rfl, rfl, Or.inl rfl⟩
theorem po_M_94 {m : String} {v : Int32} : PO "RideDeskModel" m 94 17 0 (.int v) := ⟨17, _, "RideDeskModel", .int, rfl, by decide, rfl, Or.inl q2191, Or.inl rfl, rfl, rfl, rfl, Or.inl rfl⟩
theorem po_M_97 {m : String} {v : Int32} : PO "RideDeskModel" m 97 18 0 (.int v) := ⟨18, _, "RideDeskModel", .int, rfl, by decide, rfl, Or.inl q2192, Or.inl rfl, rfl, rfl, rfl, Or.inl rfl⟩
theorem po_M_198 {m : String} {v : Int32} : PO "RideDeskModel" m 198 4 0 (.int v) := ⟨4, _, "RideDeskModel", .int, rfl, by decide, rfl, Or.inl q2178, Or.inl rfl, rfl, rfl, rfl, Or.inl rfl⟩
theorem po_M_275 {m : String} {v : Int32} : PO "RideDeskModel" m 275 25 0 (.int v) := ⟨25, _, "RideDeskModel", .int, rfl, by decide, rfl, Or.inl q2199, Or.inl rfl, rfl, rfl, rfl, Or.inl rfl⟩
theorem po_M_278 {m : String} {v : Int32} : PO "RideDeskModel" m 278 26 0 (.int v) := ⟨26, _, "RideDeskModel", .int, rfl, by decide, rfl, Or.inl q2200, Or.inl rfl, rfl, rfl, rfl, Or.inl rfl⟩
theorem po_M_281 {m : String} {v : Int32} : PO "RideDeskModel" m 281 27 0 (.int v) := ⟨27, _, "RideDeskModel", .int, rfl, by decide, rfl, Or.inl q2201, Or.inl rfl, rfl, rfl, rfl, Or.inl rfl⟩
theorem po_M_284 {m : String} {v : Int32} : PO "RideDeskModel" m 284 28 0 (.int v) := ⟨28, _, "RideDeskModel", .int, rfl, by decide, rfl, Or.inl q2202, Or.inl rfl, rfl, rfl, rfl, Or.inl rfl⟩
theorem po_M_287 {m : String} {v : Int32} : PO "RideDeskModel" m 287 29 0 (.int v) := ⟨29, _, "RideDeskModel", .int, rfl, by decide, rfl, Or.inl q2203, Or.inl rfl, rfl, rfl, rfl, Or.inl rfl⟩
theorem po_M_290 {m : String} {v : Int32} : PO "RideDeskModel" m 290 30 0 (.int v) := ⟨30, _, "RideDeskModel", .int, rfl, by decide, rfl, Or.inl q2204, Or.inl rfl, rfl, rfl, rfl, Or.inl rfl⟩
theorem po_M_310 {m : String} {v : Int32} : PO "RideDeskModel" m 310 22 0 (.int v) := ⟨22, _, "RideDeskModel", .int, rfl, by decide, rfl, Or.inl q2196, Or.inl rfl, rfl, rfl, rfl, Or.inl rfl⟩
theorem po_M_313 {m : String} {v : Int32} : PO "RideDeskModel" m 313 21 0 (.int v) := ⟨21, _, "RideDeskModel", .int, rfl, by decide, rfl, Or.inl q2195, Or.inl rfl, rfl, rfl, rfl, Or.inl rfl⟩
theorem po_M_319 {m : String} {v : Int32} : PO "RideDeskModel" m 319 23 0 (.int v) := ⟨23, _, "RideDeskModel", .int, rfl, by decide, rfl, Or.inl q2197, Or.inl rfl, rfl, rfl, rfl, Or.inl rfl⟩
theorem po_M_322 {m : String} {v : Int32} : PO "RideDeskModel" m 322 24 0 (.int v) := ⟨24, _, "RideDeskModel", .int, rfl, by decide, rfl, Or.inl q2198, Or.inl rfl, rfl, rfl, rfl, Or.inl rfl⟩
theorem po_M_399 {m : String} {v : Int32} : PO "RideDeskModel" m 399 35 0 (.int v) := ⟨35, _, "RideDeskModel", .int, rfl, by decide, rfl, Or.inl q2209, Or.inl rfl, rfl, rfl, rfl, Or.inl rfl⟩
