/-! ===== heap rules ===== -/
def wF (h : AH) (f a : Nat) (v : Value) : AH := (h.1, (fun f1 a1 => if f1 = f ∧ a1 = a then v else fv h f1 a1), h.2.2)
def wA (h : AH) (a i : Nat) (v : Value) : AH := (h.1, h.2.1, (fun a1 i1 => if a1 = a ∧ i1 = i then v else av h a1 i1), h.2.2.2)
def nO (h : AH) (ci n : Nat) : AH := ((fun a => if a = nx h then some (true, .inl ci) else kd h a), (fun f a => if a = nx h then FDF f else fv h f a), h.2.2.1, nx h + 1, us h + n)
def nA (h : AH) (t n : Nat) (v : Value) : AH := ((fun a => if a = nx h then some (true, .inr (t, n)) else kd h a), h.2.1, (fun a i => if a = nx h then v else av h a i), nx h + 1, us h + n)
theorem RelC.kept {g : GG} {h : AH} {H H1 : Heap} (hR : RelC g h H) (hz : ∀ a x, kd h a = some (true, x) → H1[a]? = H[a]?) : RelC g h H1 := by
  refine ⟨fun a ci hk => ?_, fun a t n hk => ?_, hR.2.2⟩
  · obtain ⟨e1, e2, r, e3, e4⟩ := hR.1 a ci hk
    exact ⟨e1, e2, r, e3, e4.kept (hz a _ hk)⟩
  · obtain ⟨e1, e2, e3⟩ := hR.2.1 a t n hk
    exact ⟨e1, e2, by rw [hz a _ hk]; exact e3⟩
theorem RelC.lt {g : GG} {h : AH} {H : Heap} (hR : RelC g h H) {a : Nat} {w : Bool} {x : Nat ⊕ (Nat × Nat)} (hk : kd h a = some (w, x)) (hb : gB g ≤ H.size) : a < H.size := by
  cases w with
  | true =>
    cases x with
    | inl ci =>
      obtain ⟨-, -, r, -, cell, e1, -⟩ := hR.1 a ci hk
      exact (Array.getElem?_eq_some_iff.mp e1).1
    | inr q =>
      obtain ⟨t, n⟩ := q
      exact (Array.getElem?_eq_some_iff.mp (hR.2.1 a t n hk).2.2).1
  | false => exact Nat.lt_of_lt_of_le (hR.2.2 a x hk).1 hb
section CELL
variable {g : GG} {h : AH} {s : State} {H : Heap} {locs : List Loc} {args : Array Value}
/-- what the cell of an object is -/
theorem cellR (hF : Fx g s) (hR : Rel g h H) (hS : va_S (gF g) s.heap H locs) {a ci : Nat} {w : Bool} (hk : kd h a = some (w, .inl ci)) :
    ∃ (r : vw_C), CL[ci]? = some r ∧ ∃ cell : Cell, H[a]? = some cell ∧ cell.vm.isStatics = false ∧ s.vm.findClass r.1 = some cell.cls := by
  cases w with
  | true =>
    obtain ⟨e1, e2, r, e3, cell, q1, q2, q3, q4⟩ := hR.1.1 a ci hk
    exact ⟨r, e3, cell, q1, by rw [q3]; rfl, by rw [q2]; exact (hF.1 ci r e2 e3).2.1⟩
  | false =>
    obtain ⟨e1, e2, e3, -⟩ := hR.1.2.2 a _ hk
    have h12 := hF.2.2.2.2.2.2.2.2.2.2.2.1
    obtain ⟨r, f1, f2, f3⟩ := h12 a ci e2
    obtain ⟨cell, g1, g2, g3, -⟩ := f2.kept hS.2.1
    exact ⟨r, f1, cell, g1, g2, g3⟩
theorem cellF (hts : ∀ w ∈ lw_all, w.before args s = true) (hF : Fx g s) (hR : Rel g h H) (hS : va_S (gF g) s.heap H locs) {a ci : Nat} {w : Bool} (hk : kd h a = some (w, .inl ci)) {r : vw_C} (hr : CL[ci]? = some r) {k : Nat} (hkr : k < r.2.2) :
    ∃ (cell : Cell) (cf : ClassId) (kf : Class) (fi : Nat) (f : Field), H[a]? = some cell ∧ cell.vm ≠ .unknown ∧ s.fieldFound? (r.2.1 k).1 (r.2.1 k).2.1 (r.2.1 k).2.2.1 = some (cf, kf, fi, f) ∧ f.isStatic = false ∧ cell.slots[f.slot]? = some (fv h (FLD ci k) a) := by
  cases w with
  | true =>
    obtain ⟨e1, e2, r', e3, cell, q1, q2, q3, q4⟩ := hR.1.1 a ci hk
    cases hr.symm.trans e3
    obtain ⟨hKS, hfc, kC, hkC, hkind⟩ := hF.1 ci r e2 e3
    obtain ⟨cf, kf, fi, f, hi, hsl⟩ := hKS k hkr
    exact ⟨cell, cf, kf, fi, f, q1, (by rw [q3]; exact fun e => by cases e), hi, (u_facts hfc hkC (u_lays hts (cg_all ci r e2 e3).1 hkr) hi).1, by rw [hsl]; exact q4 k hkr⟩
  | false =>
    obtain ⟨e1, e2, e3, -⟩ := hR.1.2.2 a _ hk
    have h12 := hF.2.2.2.2.2.2.2.2.2.2.2.1
    obtain ⟨r', f1, f2, f3⟩ := h12 a ci e2
    cases hr.symm.trans f1
    obtain ⟨cf, kf, fi, f, cell2, u1, u2, u3, u4, u5, -⟩ := (f3 k hkr).kept hS.2.1
    exact ⟨cell2, cf, kf, fi, f, u3, u4, u1, u2, by rw [u5, e3]⟩
/-- what the cell of an array is -/
theorem cellA (hF : Fx g s) (hR : Rel g h H) (hS : va_S (gF g) s.heap H locs) {a t n : Nat} {w : Bool} (hk : kd h a = some (w, .inr (t, n))) {ty : FieldType} (hty : ATY[t]? = some ty) :
    ∃ cell : Cell, H[a]? = some cell ∧ s.isArrayOf cell ty ∧ cell.vm ≠ .unknown ∧ n ≤ cell.slots.size ∧ cell.slots.size.toInt32 = Int32.ofNat n ∧ (∀ j : Nat, j < n → cell.slots[j]? = some (av h a j)) := by
  cases w with
  | true =>
    obtain ⟨e1, e2, e3⟩ := hR.1.2.1 a t n hk
    refine ⟨_, e3, (hF.2.1 t ty hty).1 n _, (fun q => by cases q), Nat.le_of_eq (arrV_size _ _ _).symm, congrArg Nat.toInt32 (arrV_size _ _ _), fun j hj => arrV_read _ _ hj⟩
  | false =>
    obtain ⟨e1, e2, -, e4⟩ := hR.1.2.2 a _ hk
    have h13 := hF.2.2.2.2.2.2.2.2.2.2.2.2.1
    obtain ⟨hn, ty', f1, f2⟩ := h13 a t n e2
    cases hty.symm.trans f1
    obtain ⟨cell, g1, g2, g3, g4, g5, g6, -⟩ := f2.kept hS.2.1
    exact ⟨cell, g1, g2, g3, g4, g5, fun j hj => by rw [e4]; exact g6 j hj⟩
end CELL
section GO
variable {l : Launch} {g : GG} {M : MD} {fr : Nat} {L : List (Option Value)} {Q : Res → AH → Prop}
variable {p : Program} {e : Env} {s : State} {m : MethodId} {args : Array Value} {below : List Frame} {meth : Method} {c : Code} {H : Heap} {locs : List Loc}
/-- behind a row that has changed the heap -/
theorem V.go {h1 : AH} {pc : Nat} {st : List Value} {H1 : Heap} {locs1 : List Loc} {ls : Array Slot} {dc ds : Nat} (k : V l g M fr pc L st h1 Q) (hl : l.stackTraces = false) (C : Cx l g M p s m args meth c) (hlo : s.heap.size ≤ H.size ∧ SUM (gB g) s.heap ≤ SUM (gB g) H) (hC : RelC g h1 H1) (hz : H1.size = nx h1) (hu : SUM (gB g) H + ds ≤ us h1 ∧ nx h1 ≤ gL g ∧ us h1 ≤ gM g) (hS : va_S (gF g) s.heap H1 locs1) (hL : Lh ls M.2.2.1 L) :
    W p l e (rmG g fr s.heap.size (SUM (gB g) s.heap)) s m args below meth c H1 locs1 ((H.size - s.heap.size) + dc) ((SUM (gB g) H - SUM (gB g) s.heap) + ds) (vx_MQ below (QcG g Q) (XcG g Q) args s (gL g - s.heap.size) (gM g - SUM (gB g) s.heap) (gF g)) (F0 m pc ls st) := by
  refine xtight (b := gB g) C.2.2.2.2.2.2.2.2.2.2 (fun a1 a2 => k hl p e s m args below meth c C H1 locs1 ⟨hC, hz, by omega, hu.2⟩ hS ls hL)
end GO
theorem va_S.put1 {g : GG} {H0 H H1 : Heap} {locs : List Loc} {a k : Nat} (h : va_S (gF g) H0 H locs) (z : H1.size = H.size) (oq : ∀ q : Nat, q ≠ a → H1[q]? = H[q]?) (ha : gB g ≤ a) : va_S (gF g) H0 H1 (locs ++ [⟨a, k⟩]) := h.put z oq ha
theorem SUM_same {b : Nat} {H H1 : Heap} (hz : H1.size = H.size) (hs : ∀ q : Nat, (H1[q]?).map (fun c => c.slots.size) = (H[q]?).map (fun c => c.slots.size)) : SUM b H1 = SUM b H := by
  unfold SUM
  congr 1
  apply List.ext_getElem?
  intro i
  have h1 := hs (b + i)
  simp only [List.getElem?_map, List.getElem?_drop, Array.getElem?_toList]
  exact h1
section VH
variable {l : Launch} {g : GG} {M : MD} {fr : Nat} {pc : Nat} {L : List (Option Value)} {st : List Value} {h : AH} {Q : Res → AH → Prop}
theorem V.getf {idx fid ci a : Nat} {w : Bool} {v : Value} (hd : decode M.2.1 pc = .ok (.getfield idx, 3)) (hO : FO M.1.cls idx fid ci) (hk : kd h a = some (w, .inl ci)) (hv : fv h fid a = v) (k : V l g M fr (pc + 3) L (v :: st) h Q) : V l g M fr pc L (.ref a :: st) h Q := by
  intro hl p e s m args below meth c C H locs hR hS ls hL
  have k9 := k hl p e s m args below meth c C H locs hR hS ls hL
  obtain ⟨kx, r, ref, o1, o2, o3, o4, o5⟩ := hO
  obtain ⟨hx, hb, hml, hret, hlk, hown, hts, hF, -⟩ := C
  obtain ⟨cell, cf, kf, fi, f, u1, u2, u3, u4, u5⟩ := cellF hts hF hR hS hk o1 o2
  rw [o3, hv] at u5
  have hsame : s.fieldFound? ref (r.2.1 kx).2.1 (r.2.1 kx).2.2.1 = some (cf, kf, fi, f) := by
    rcases o5 with rfl | o5
    · exact u3
    · exact u_same (hts _ o5) _ u3
  rcases o4 with o4 | ⟨host, o4⟩
  · exact W.getf hx hb hown (hts _ o4) hsame u4 u1 u2 u5 rfl rfl hd k9
  · exact va_Wgetf hx hb hown (va_Nw.use rfl (hF.2.2.1 _ o4)) hsame u4 u1 u2 u5 rfl rfl hd k9
theorem V.putf {idx fid ci a : Nat} {v : Value} (hd : decode M.2.1 pc = .ok (.putfield idx, 3)) (hO : PO M.1.cls M.1.name idx fid ci v) (hk : kd h a = some (true, .inl ci)) (k : V l g M fr (pc + 3) L st (wF h fid a v) Q) : V l g M fr pc L (v :: .ref a :: st) h Q := by
  intro hl p e s m args below meth c C H locs hR hS ls hL
  have C9 := C
  obtain ⟨kx, r, ref, ty, o1, o2, o3, o4, o5, o6, o7, o8, o9⟩ := hO
  obtain ⟨hx, hb, hml, hret, hlk, hown, hts, hF, htab, hnm, hbase⟩ := C
  obtain ⟨e1, e2, r', e3, cell, q1, q2, q3, q4⟩ := hR.1.1 a ci hk
  cases o1.symm.trans e3
  obtain ⟨hKS, hfc, kC, hkC, hkind⟩ := hF.1 ci r e2 e3
  obtain ⟨cf, kf, fi, f, hi, hsl⟩ := hKS kx o2
  obtain ⟨hcin, ⟨ty0, hty0⟩, hnmx⟩ := cg_all ci r e2 e3
  have hap := va_apart (cl := CL) (D := gD g) (tys := []) (s := s) (own := M.1.cls) (ci := ci) hts hcin ty0 hty0 hnmx
  have hst := (u_facts hfc hkC (u_lays hts hcin o2) hi).1
  have hsame : s.fieldFound? ref (r.2.1 kx).2.1 (r.2.1 kx).2.2.1 = some (cf, kf, fi, f) := by
    rcases o5 with rfl | o5
    · exact hi
    · exact u_same (hts _ o5) _ hi
  have hap2 : ∀ x y, x < r.2.2 → y < r.2.2 → x ≠ y → (gD g).2 ci x ≠ (gD g).2 ci y := by
    intro x y hx hy hne
    obtain ⟨_, _, _, fa, hia, ea⟩ := hKS x hx
    obtain ⟨_, _, _, fb, hib, eb⟩ := hKS y hy
    rw [← ea, ← eb]
    refine u_apart (u_lays hts hcin hx) (u_lays hts hcin hy) hia hib ?_
    rw [(State.fieldFound?_type hia (hty0 x hx)).1, (State.fieldFound?_type hib (hty0 y hy)).1]
    exact hnmx x hx y hy hne
  have hslot : f.slot < cell.slots.size := by rw [hsl]; exact k2_hasslot (q4 kx o2)
  refine xlow (b := gB g) hbase (fun lo1 lo2 => ?_)
  have fin : ∀ (H1 : Heap), H1[a]? = some (cell.setSlot f.slot v) → H1.size = H.size → (∀ q, q ≠ a → H1[q]? = H[q]?) → W p l e (rmG g fr s.heap.size (SUM (gB g) s.heap)) s m args below meth c H1 (locs ++ [⟨a, f.slot⟩]) (H.size - s.heap.size) (SUM (gB g) H - SUM (gB g) s.heap) (vx_MQ below (QcG g Q) (XcG g Q) args s (gL g - s.heap.size) (gM g - SUM (gB g) s.heap) (gF g)) (F0 m (pc + 3) ls st) := by
    intro H1 z1 z2 z3
    refine V.go (dc := 0) (ds := 0) k hl C9 ⟨lo1, lo2⟩ ⟨fun b cj hb => ?_, fun b t n hb => ?_, fun b x hb => ?_⟩ (z2.trans hR.2.1) ⟨hR.2.2.1, hR.2.2.2⟩ (hS.put1 z2 z3 e1) hL
    · by_cases hba : b = a
      · subst hba
        have hcj : kd h b = some (true, .inl cj) := hb
        rw [hk] at hcj
        cases hcj
        refine ⟨e1, e2, r, e3, _, z1, q2, q3, fun j hj => ?_⟩
        rw [hsl]
        have h5 := t_set q4 hap2 o2 v
        rw [h5 j hj]
        unfold updV
        by_cases hjk : j = kx
        · subst hjk
          simp [wF, fv, o3]
        · rw [if_neg hjk]
          have h6 : FLD ci j ≠ fid := fun e => hjk (FLD_inj ci e2 r.2.2 (by rw [o1]; rfl) j hj kx o2 (e.trans o3.symm))
          simp [wF, fv, h6]
      · obtain ⟨f1, f2, r2, f3, f4⟩ := hR.1.1 b cj hb
        refine ⟨f1, f2, r2, f3, (f4.kept (z3 b hba)).to (fun j _ => ?_)⟩
        simp [wF, fv, hba]
    · have hba : b ≠ a := fun e => by
        have hb' : kd h b = some (true, .inr (t, n)) := hb
        rw [e, hk] at hb'
        cases hb'
      obtain ⟨f1, f2, f3⟩ := hR.1.2.1 b t n hb
      exact ⟨f1, f2, by rw [z3 b hba]; exact f3⟩
    · obtain ⟨f1, f2, f3, f4⟩ := hR.1.2.2 b x hb
      have hba : b ≠ a := fun e => by
        have hb' : kd h b = some (false, x) := hb
        rw [e, hk] at hb'
        cases hb'
      exact ⟨f1, f2, fun f => by rw [← f3 f]; simp [wF, fv, hba], f4⟩
  rcases o9 with o9 | ⟨o9, o10, o11, o12⟩
  · have hlay := hts _ (hcin _ (u_in_lay o2))
    unfold u_lay at hlay
    rw [if_neg (by rw [o9]; decide)] at hlay
    have h6 := u_store hfc hkC hkind hlay hi o6 o7 o8
    rcases o4 with o4 | ⟨host, o4⟩
    · exact W.putK hx hb (f := f) ⟨hown, hts _ o4, ⟨_, _, _, hsame⟩, hst⟩ (by rw [q2]; exact h6) q1 q3 hslot rfl rfl hd fin
    · exact va_WputK hx hb (f := f) hown (va_Nw.use rfl (hF.2.2.1 _ o4)) hsame hst (by rw [q2]; exact h6) q1 q3 hslot rfl rfl hd fin
  · have hlay := hts _ (hcin _ (u_in_lay o2))
    unfold u_lay at hlay
    rw [if_pos o9] at hlay
    have hcf : m.cls = cf := by
      obtain ⟨_, _, c', _, _, _, -, -, hf', -, -, -, hown2, -⟩ := Cond.laysFinal_spec hlay
      have e1 : c' = cf := by have := hi.symm.trans hf'; simp at this; exact this.1.symm
      rw [o10] at hown2
      rw [← e1]; exact Option.some.inj (hown.symm.trans hown2)
    have h6 := u_fits hfc hkC hkind (Or.inr hlay) hi o6 o7 o8
    exact W.putFinK hx hb hown (hts _ o12) hsame hst hcf (hnm.trans o11) (by rw [q2]; exact h6) q1 q3 hslot rfl rfl hd fin
theorem V.iaload {t n a : Nat} {w : Bool} {i : Int32} {x : Int32} (hd : decode M.2.1 pc = .ok (.iaload, 1)) (hk : kd h a = some (w, .inr (t, n))) (ht : ATY[t]? = some .int) (hi : vp_in i n) (hv : av h a i.toNatClampNeg = .int x) (k : V l g M fr (pc + 1) L (.int x :: st) h Q) : V l g M fr pc L (.int i :: .ref a :: st) h Q := by
  intro hl p e s m args below meth c C H locs hR hS ls hL
  have k9 := k hl p e s m args below meth c C H locs hR hS ls hL
  obtain ⟨cell, c1, c2, c3, c4, c5, c6⟩ := cellA C.2.2.2.2.2.2.2.1 hR hS hk ht
  have hlt : i.toNatClampNeg < n := Nat.not_le.mp fun q => hi (Or.inr q)
  exact W.iald (v := .int x) C.1 C.2.1 c1 c2 c3 (fun q => q.elim (fun q => hi (Or.inl q)) (fun q => by omega)) (by rw [c6 _ hlt, hv]) rfl rfl hd k9
theorem V.baload {t n a : Nat} {w : Bool} {i : Int32} {x : Int32} (hd : decode M.2.1 pc = .ok (.baload, 1)) (hk : kd h a = some (w, .inr (t, n))) (ht : ATY[t]? = some .byte) (hi : vp_in i n) (hv : av h a i.toNatClampNeg = .int x) (k : V l g M fr (pc + 1) L (.int x :: st) h Q) : V l g M fr pc L (.int i :: .ref a :: st) h Q := by
  intro hl p e s m args below meth c C H locs hR hS ls hL
  have k9 := k hl p e s m args below meth c C H locs hR hS ls hL
  obtain ⟨cell, c1, c2, c3, c4, c5, c6⟩ := cellA C.2.2.2.2.2.2.2.1 hR hS hk ht
  have hlt : i.toNatClampNeg < n := Nat.not_le.mp fun q => hi (Or.inr q)
  exact W.bald (v := .int x) C.1 C.2.1 c1 c2 c3 (fun q => q.elim (fun q => hi (Or.inl q)) (fun q => by omega)) (by rw [c6 _ hlt, hv]) rfl rfl hd k9
theorem V.zaload {t n a : Nat} {w : Bool} {i : Int32} {x : Int32} (hd : decode M.2.1 pc = .ok (.baload, 1)) (hk : kd h a = some (w, .inr (t, n))) (ht : ATY[t]? = some .boolean) (hi : vp_in i n) (hv : av h a i.toNatClampNeg = .int x) (k : V l g M fr (pc + 1) L (.int x :: st) h Q) : V l g M fr pc L (.int i :: .ref a :: st) h Q := by
  intro hl p e s m args below meth c C H locs hR hS ls hL
  have k9 := k hl p e s m args below meth c C H locs hR hS ls hL
  obtain ⟨cell, c1, c2, c3, c4, c5, c6⟩ := cellA C.2.2.2.2.2.2.2.1 hR hS hk ht
  have hlt : i.toNatClampNeg < n := Nat.not_le.mp fun q => hi (Or.inr q)
  exact W.zald (v := .int x) C.1 C.2.1 c1 c2 c3 (fun q => q.elim (fun q => hi (Or.inl q)) (fun q => by omega)) (by rw [c6 _ hlt, hv]) rfl rfl hd k9
theorem V.laload {t n a : Nat} {w : Bool} {i : Int32} {x : Int64} (hd : decode M.2.1 pc = .ok (.laload, 1)) (hk : kd h a = some (w, .inr (t, n))) (ht : ATY[t]? = some .long) (hi : vp_in i n) (hv : av h a i.toNatClampNeg = .long x) (k : V l g M fr (pc + 1) L (.long x :: st) h Q) : V l g M fr pc L (.int i :: .ref a :: st) h Q := by
  intro hl p e s m args below meth c C H locs hR hS ls hL
  have k9 := k hl p e s m args below meth c C H locs hR hS ls hL
  obtain ⟨cell, c1, c2, c3, c4, c5, c6⟩ := cellA C.2.2.2.2.2.2.2.1 hR hS hk ht
  have hlt : i.toNatClampNeg < n := Nat.not_le.mp fun q => hi (Or.inr q)
  exact W.lald (v := .long x) C.1 C.2.1 c1 c2 c3 (fun q => q.elim (fun q => hi (Or.inl q)) (fun q => by omega)) (by rw [c6 _ hlt, hv]) rfl rfl hd k9
theorem V.daload {t n a : Nat} {w : Bool} {i : Int32} {x : UInt64} (hd : decode M.2.1 pc = .ok (.daload, 1)) (hk : kd h a = some (w, .inr (t, n))) (ht : ATY[t]? = some .double) (hi : vp_in i n) (hv : av h a i.toNatClampNeg = .double x) (k : V l g M fr (pc + 1) L (.double x :: st) h Q) : V l g M fr pc L (.int i :: .ref a :: st) h Q := by
  intro hl p e s m args below meth c C H locs hR hS ls hL
  have k9 := k hl p e s m args below meth c C H locs hR hS ls hL
  obtain ⟨cell, c1, c2, c3, c4, c5, c6⟩ := cellA C.2.2.2.2.2.2.2.1 hR hS hk ht
  have hlt : i.toNatClampNeg < n := Nat.not_le.mp fun q => hi (Or.inr q)
  exact W.dald (v := .double x) C.1 C.2.1 c1 c2 c3 (fun q => q.elim (fun q => hi (Or.inl q)) (fun q => by omega)) (by rw [c6 _ hlt, hv]) rfl rfl hd k9
theorem V.aaload {t n a : Nat} {w : Bool} {i : Int32} {v : Value} {E : String} (hd : decode M.2.1 pc = .ok (.aaload, 1)) (hk : kd h a = some (w, .inr (t, n))) (ht : ATY[t]? = some (.object E)) (hi : vp_in i n) (hv : av h a i.toNatClampNeg = v) (k : V l g M fr (pc + 1) L (v :: st) h Q) : V l g M fr pc L (.int i :: .ref a :: st) h Q := by
  intro hl p e s m args below meth c C H locs hR hS ls hL
  have k9 := k hl p e s m args below meth c C H locs hR hS ls hL
  obtain ⟨cell, c1, c2, c3, c4, c5, c6⟩ := cellA C.2.2.2.2.2.2.2.1 hR hS hk ht
  have hlt : i.toNatClampNeg < n := Nat.not_le.mp fun q => hi (Or.inr q)
  exact W.aald (v := v) C.1 C.2.1 c1 c2 rfl c3 (fun q => q.elim (fun q => hi (Or.inl q)) (fun q => by omega)) (by rw [c6 _ hlt, hv]) rfl rfl hd k9
theorem V.alen {t n a : Nat} {w : Bool} {ty : FieldType} (hd : decode M.2.1 pc = .ok (.arraylength, 1)) (hk : kd h a = some (w, .inr (t, n))) (ht : ATY[t]? = some ty) (k : V l g M fr (pc + 1) L (.int (nI n) :: st) h Q) : V l g M fr pc L (.ref a :: st) h Q := by
  intro hl p e s m args below meth c C H locs hR hS ls hL
  have k9 := k hl p e s m args below meth c C H locs hR hS ls hL
  obtain ⟨cell, c1, c2, c3, c4, c5, c6⟩ := cellA C.2.2.2.2.2.2.2.1 hR hS hk ht
  exact W.alen C.1 C.2.1 c1 c2 c5 rfl rfl hd k9
/-- a store into an array: the heap after it -/
theorem RelC.store {H H1 : Heap} {a t n i : Nat} {v : Value} (hR : RelC g h H) (hk : kd h a = some (true, .inr (t, n))) (e1 : H1[a]? = some ((arrV (gA g t) n (av h a)).setSlot i v)) (e3 : ∀ q, q ≠ a → H1[q]? = H[q]?) : RelC g (wA h a i v) H1 := by
  refine ⟨fun b cj hb => ?_, fun b t2 n2 hb => ?_, fun b x hb => ?_⟩
  · have hba : b ≠ a := fun e => by
      have hb' : kd h b = some (true, .inl cj) := hb
      rw [e, hk] at hb'
      cases hb'
    obtain ⟨f1, f2, r2, f3, f4⟩ := hR.1 b cj hb
    exact ⟨f1, f2, r2, f3, f4.kept (e3 b hba)⟩
  · obtain ⟨f1, f2, f3⟩ := hR.2.1 b t2 n2 hb
    refine ⟨f1, f2, ?_⟩
    by_cases hba : b = a
    · subst hba
      have hb' : kd h b = some (true, .inr (t2, n2)) := hb
      rw [hk] at hb'
      cases hb'
      rw [e1, arrV_store]
      congr 2
      funext j
      simp [updV, wA, av]
    · rw [e3 b hba, f3]
      congr 2
      funext j
      simp [wA, av, hba]
  · obtain ⟨f1, f2, f3, f4⟩ := hR.2.2 b x hb
    refine ⟨f1, f2, f3, fun j => ?_⟩
    have hba : b ≠ a := fun e => by
      have hb' : kd h b = some (false, x) := hb
      rw [e, hk] at hb'
      cases hb'
    rw [← f4 j]
    simp [wA, av, hba]
theorem V.iastore {t n a : Nat} {i : Int32} {x : Int32} (hd : decode M.2.1 pc = .ok (.iastore, 1)) (hk : kd h a = some (true, .inr (t, n))) (ht : ATY[t]? = some .int) (hi : vp_in i n) (k : V l g M fr (pc + 1) L st (wA h a i.toNatClampNeg (.int x)) Q) : V l g M fr pc L (.int x :: .int i :: .ref a :: st) h Q := by
  intro hl p e s m args below meth c C H locs hR hS ls hL
  obtain ⟨f1, f2, f3⟩ := hR.1.2.1 a t n hk
  have hA := (C.2.2.2.2.2.2.2.1.2.1 t _ ht).1 n (av h a)
  refine xlow (b := gB g) C.2.2.2.2.2.2.2.2.2.2 (fun lo1 lo2 => ?_)
  refine W.iast C.1 C.2.1 f3 hA (fun q => by cases q) (by rw [arrV_size]; exact hi) rfl rfl hd fun H1 e1 e2 e3 => ?_
  exact V.go (dc := 0) (ds := 0) k hl C ⟨lo1, lo2⟩ (hR.1.store hk e1 e3) (e2.trans hR.2.1) ⟨hR.2.2.1, hR.2.2.2⟩ (hS.put1 e2 e3 f1) hL
theorem V.bastore {t n a : Nat} {i : Int32} {x : Int32} (hd : decode M.2.1 pc = .ok (.bastore, 1)) (hk : kd h a = some (true, .inr (t, n))) (ht : ATY[t]? = some .byte) (hi : vp_in i n) (k : V l g M fr (pc + 1) L st (wA h a i.toNatClampNeg (narrow .byte (.int x))) Q) : V l g M fr pc L (.int x :: .int i :: .ref a :: st) h Q := by
  intro hl p e s m args below meth c C H locs hR hS ls hL
  obtain ⟨f1, f2, f3⟩ := hR.1.2.1 a t n hk
  have hA := (C.2.2.2.2.2.2.2.1.2.1 t _ ht).1 n (av h a)
  refine xlow (b := gB g) C.2.2.2.2.2.2.2.2.2.2 (fun lo1 lo2 => ?_)
  refine W.bast C.1 C.2.1 f3 hA (fun q => by cases q) (by rw [arrV_size]; exact hi) rfl rfl hd fun H1 e1 e2 e3 => ?_
  exact V.go (dc := 0) (ds := 0) k hl C ⟨lo1, lo2⟩ (hR.1.store hk e1 e3) (e2.trans hR.2.1) ⟨hR.2.2.1, hR.2.2.2⟩ (hS.put1 e2 e3 f1) hL
theorem V.zastore {t n a : Nat} {i : Int32} {x : Int32} (hd : decode M.2.1 pc = .ok (.bastore, 1)) (hk : kd h a = some (true, .inr (t, n))) (ht : ATY[t]? = some .boolean) (hi : vp_in i n) (k : V l g M fr (pc + 1) L st (wA h a i.toNatClampNeg (narrow .boolean (.int x))) Q) : V l g M fr pc L (.int x :: .int i :: .ref a :: st) h Q := by
  intro hl p e s m args below meth c C H locs hR hS ls hL
  obtain ⟨f1, f2, f3⟩ := hR.1.2.1 a t n hk
  have hA := (C.2.2.2.2.2.2.2.1.2.1 t _ ht).1 n (av h a)
  refine xlow (b := gB g) C.2.2.2.2.2.2.2.2.2.2 (fun lo1 lo2 => ?_)
  refine W.zast C.1 C.2.1 f3 hA (fun q => by cases q) (by rw [arrV_size]; exact hi) rfl rfl hd fun H1 e1 e2 e3 => ?_
  exact V.go (dc := 0) (ds := 0) k hl C ⟨lo1, lo2⟩ (hR.1.store hk e1 e3) (e2.trans hR.2.1) ⟨hR.2.2.1, hR.2.2.2⟩ (hS.put1 e2 e3 f1) hL
theorem V.lastore {t n a : Nat} {i : Int32} {x : Int64} (hd : decode M.2.1 pc = .ok (.lastore, 1)) (hk : kd h a = some (true, .inr (t, n))) (ht : ATY[t]? = some .long) (hi : vp_in i n) (k : V l g M fr (pc + 1) L st (wA h a i.toNatClampNeg (.long x)) Q) : V l g M fr pc L (.long x :: .int i :: .ref a :: st) h Q := by
  intro hl p e s m args below meth c C H locs hR hS ls hL
  obtain ⟨f1, f2, f3⟩ := hR.1.2.1 a t n hk
  have hA := (C.2.2.2.2.2.2.2.1.2.1 t _ ht).1 n (av h a)
  refine xlow (b := gB g) C.2.2.2.2.2.2.2.2.2.2 (fun lo1 lo2 => ?_)
  refine W.last C.1 C.2.1 f3 hA (fun q => by cases q) (by rw [arrV_size]; exact hi) rfl rfl hd fun H1 e1 e2 e3 => ?_
  exact V.go (dc := 0) (ds := 0) k hl C ⟨lo1, lo2⟩ (hR.1.store hk e1 e3) (e2.trans hR.2.1) ⟨hR.2.2.1, hR.2.2.2⟩ (hS.put1 e2 e3 f1) hL
theorem V.dastore {t n a : Nat} {i : Int32} {x : UInt64} (hd : decode M.2.1 pc = .ok (.dastore, 1)) (hk : kd h a = some (true, .inr (t, n))) (ht : ATY[t]? = some .double) (hi : vp_in i n) (k : V l g M fr (pc + 1) L st (wA h a i.toNatClampNeg (.double x)) Q) : V l g M fr pc L (.double x :: .int i :: .ref a :: st) h Q := by
  intro hl p e s m args below meth c C H locs hR hS ls hL
  obtain ⟨f1, f2, f3⟩ := hR.1.2.1 a t n hk
  have hA := (C.2.2.2.2.2.2.2.1.2.1 t _ ht).1 n (av h a)
  refine xlow (b := gB g) C.2.2.2.2.2.2.2.2.2.2 (fun lo1 lo2 => ?_)
  refine W.dast C.1 C.2.1 f3 hA (fun q => by cases q) (by rw [arrV_size]; exact hi) rfl rfl hd fun H1 e1 e2 e3 => ?_
  exact V.go (dc := 0) (ds := 0) k hl C ⟨lo1, lo2⟩ (hR.1.store hk e1 e3) (e2.trans hR.2.1) ⟨hR.2.2.1, hR.2.2.2⟩ (hS.put1 e2 e3 f1) hL
theorem V.aastoreN {t n a : Nat} {i : Int32} {E : String} (hd : decode M.2.1 pc = .ok (.aastore, 1)) (hk : kd h a = some (true, .inr (t, n))) (ht : ATY[t]? = some (.object E)) (hi : vp_in i n) (k : V l g M fr (pc + 1) L st (wA h a i.toNatClampNeg .null) Q) : V l g M fr pc L (.null :: .int i :: .ref a :: st) h Q := by
  intro hl p e s m args below meth c C H locs hR hS ls hL
  obtain ⟨f1, f2, f3⟩ := hR.1.2.1 a t n hk
  have hA := (C.2.2.2.2.2.2.2.1.2.1 t _ ht).1 n (av h a)
  refine xlow (b := gB g) C.2.2.2.2.2.2.2.2.2.2 (fun lo1 lo2 => ?_)
  refine va_WaastN (C := E) C.1 C.2.1 f3 hA (fun q => by cases q) (by rw [arrV_size]; exact hi) rfl rfl hd fun H1 e1 e2 e3 => ?_
  exact V.go (dc := 0) (ds := 0) k hl C ⟨lo1, lo2⟩ (hR.1.store hk e1 e3) (e2.trans hR.2.1) ⟨hR.2.2.1, hR.2.2.2⟩ (hS.put1 e2 e3 f1) hL
/-- class ci's objects fit where an E is asked -/
def AS (ci : Nat) (E : String) : Prop := ∃ r : vw_C, CL[ci]? = some r ∧ (r.1 = E ∧ ci < NNEW ∨ (r.1, E) ∈ XWC)
theorem AS.any {s : State} {H : Heap} {locs : List Loc} {a ci : Nat} {w : Bool} {E : String} (hE : AS ci E) (hF : Fx g s) (hR : Rel g h H) (hS : va_S (gF g) s.heap H locs) (hk : kd h a = some (w, .inl ci)) : va_Any E s H a := by
  obtain ⟨r, e1, e2⟩ := hE
  obtain ⟨r', f1, cell, g1, g2, g3⟩ := cellR hF hR hS hk
  cases e1.symm.trans f1
  obtain ⟨kC, hkC, -⟩ := Vm.findClass_spec g3
  refine ⟨cell, g1, g2, ⟨kC, hkC⟩, fun comp hc => ?_⟩
  rcases e2 with ⟨rfl, e3⟩ | e2
  · have hcls := (hF.1 ci r e3 e1).2
    have e5 := Option.some.inj (g3.symm.trans hcls.1)
    have e6 := Option.some.inj (hc.symm.trans hcls.1)
    rw [e5, e6]
    exact va_assign hcls
  · obtain ⟨c0, t0, f1, f2, f3⟩ := Cond.castable_spec (va_Nw.use (A := #[]) rfl (hF.2.2.2.2.1 _ e2))
    cases g3.symm.trans f1
    cases hc.symm.trans f2
    exact f3
theorem V.aastore {t n a v ci : Nat} {w : Bool} {i : Int32} {E : String} (hd : decode M.2.1 pc = .ok (.aastore, 1)) (hk : kd h a = some (true, .inr (t, n))) (ht : ATY[t]? = some (.object E)) (hi : vp_in i n) (hkv : kd h v = some (w, .inl ci)) (hE : AS ci E) (k : V l g M fr (pc + 1) L st (wA h a i.toNatClampNeg (.ref v)) Q) : V l g M fr pc L (.ref v :: .int i :: .ref a :: st) h Q := by
  intro hl p e s m args below meth c C H locs hR hS ls hL
  obtain ⟨f1, f2, f3⟩ := hR.1.2.1 a t n hk
  obtain ⟨kA, comp, k1, k2, k3, -⟩ := (C.2.2.2.2.2.2.2.1.2.1 t _ ht).2
  obtain ⟨cellV, g1, g2, ⟨kC, hkC⟩, g4⟩ := hE.any C.2.2.2.2.2.2.2.1 hR hS hkv
  obtain ⟨kE, hkE, -⟩ := Vm.findClass_spec k3
  refine xlow (b := gB g) C.2.2.2.2.2.2.2.2.2.2 (fun lo1 lo2 => ?_)
  refine W.aast C.1 C.2.1 f3 (fun q h => by cases h) (fun h => by cases h) k1 k2 rfl hkE ⟨fun q => hi (Or.inl q), by rw [arrV_size]; exact Nat.not_le.mp fun q => hi (Or.inr q)⟩ g1 (fun q h => by rw [h] at g2; cases g2) hkC (g4 _ k3) rfl rfl hd fun H1 e1 e2 e3 => ?_
  exact V.go (dc := 0) (ds := 0) k hl C ⟨lo1, lo2⟩ (hR.1.store hk e1 e3) (e2.trans hR.2.1) ⟨hR.2.2.1, hR.2.2.2⟩ (hS.put1 e2 e3 f1) hL
/-- a new cell -/
theorem RelC.newO {H H1 : Heap} {ci N : Nat} {r : vw_C} (hb : gB g ≤ H.size) (hz : H.size = nx h) (hR : RelC g h H) (hci : ci < NNEW) (hr : CL[ci]? = some r) (hN : r.2.2 = N) (e1 : t_OB (nx h) ((gD g).1 ci) r.2.2 ((gD g).2 ci) H1 (fun k => FDF (FLD ci k))) (e3 : ∀ q, q < H.size → H1[q]? = H[q]?) : RelC g (nO h ci N) H1 := by
  have old : ∀ b x, kd (nO h ci N) b = some x → b ≠ nx h → kd h b = some x := fun b x hb hne => by simpa [nO, kd, hne] using hb
  have lt : ∀ b w x, kd (nO h ci N) b = some (w, x) → b ≠ nx h → b < H.size := fun b w x hb9 hne => hR.lt (old b _ hb9 hne) hb
  refine ⟨fun b cj hb9 => ?_, fun b t2 n2 hb9 => ?_, fun b x hb9 => ?_⟩
  · by_cases hbn : b = nx h
    · subst hbn
      have : kd (nO h ci N) (nx h) = some (true, .inl ci) := by simp [nO, kd]
      rw [this] at hb9
      cases hb9
      exact ⟨by omega, hci, r, hr, e1.to (fun k _ => by simp [nO, fv])⟩
    · obtain ⟨f1, f2, r2, f3, f4⟩ := hR.1 b cj (old b _ hb9 hbn)
      exact ⟨f1, f2, r2, f3, (f4.kept (e3 b (lt b _ _ hb9 hbn))).to (fun k _ => by simp [nO, fv, hbn])⟩
  · have hbn : b ≠ nx h := fun e => by subst e; simp [nO, kd] at hb9
    obtain ⟨f1, f2, f3⟩ := hR.2.1 b t2 n2 (old b _ hb9 hbn)
    exact ⟨f1, f2, by rw [e3 b (lt b _ _ hb9 hbn)]; exact f3⟩
  · have hbn : b ≠ nx h := fun e => by subst e; simp [nO, kd] at hb9
    obtain ⟨f1, f2, f3, f4⟩ := hR.2.2 b x (old b _ hb9 hbn)
    exact ⟨f1, f2, fun f => by rw [← f3 f]; simp [nO, fv, hbn], f4⟩
theorem RelC.newA {H H1 : Heap} {t n : Nat} {v : Value} (hb : gB g ≤ H.size) (hz : H.size = nx h) (hR : RelC g h H) (ht : t < ATY.length) (e1 : H1[nx h]? = some (arrV (gA g t) n (fun _ => v))) (e3 : ∀ q, q < H.size → H1[q]? = H[q]?) : RelC g (nA h t n v) H1 := by
  have old : ∀ b x, kd (nA h t n v) b = some x → b ≠ nx h → kd h b = some x := fun b x hb hne => by simpa [nA, kd, hne] using hb
  have lt : ∀ b w x, kd (nA h t n v) b = some (w, x) → b ≠ nx h → b < H.size := fun b w x hb9 hne => hR.lt (old b _ hb9 hne) hb
  refine ⟨fun b cj hb9 => ?_, fun b t2 n2 hb9 => ?_, fun b x hb9 => ?_⟩
  · have hbn : b ≠ nx h := fun e => by subst e; simp [nA, kd] at hb9
    obtain ⟨f1, f2, r2, f3, f4⟩ := hR.1 b cj (old b _ hb9 hbn)
    exact ⟨f1, f2, r2, f3, f4.kept (e3 b (lt b _ _ hb9 hbn))⟩
  · by_cases hbn : b = nx h
    · subst hbn
      have : kd (nA h t n v) (nx h) = some (true, .inr (t, n)) := by simp [nA, kd]
      rw [this] at hb9
      cases hb9
      refine ⟨by omega, ht, ?_⟩
      rw [e1]
      congr 2
      funext j
      simp [nA, av]
    · obtain ⟨f1, f2, f3⟩ := hR.2.1 b t2 n2 (old b _ hb9 hbn)
      refine ⟨f1, f2, ?_⟩
      rw [e3 b (lt b _ _ hb9 hbn), f3]
      congr 2
      funext j
      simp [nA, av, hbn]
  · have hbn : b ≠ nx h := fun e => by subst e; simp [nA, kd] at hb9
    obtain ⟨f1, f2, f3, f4⟩ := hR.2.2 b x (old b _ hb9 hbn)
    exact ⟨f1, f2, f3, fun i => by rw [← f4 i]; simp [nA, av, hbn]⟩
theorem va_S.grow {H0 H H1 : Heap} {locs : List Loc} (hS : va_S (gF g) H0 H locs) (z : H1.size = H.size + 1) (o1 : ∀ q, q < H.size → H1[q]? = H[q]?) : va_S (gF g) H0 H1 locs := ⟨Nat.le_trans hS.1 (by omega), fun x h1 h2 => (o1 x (Nat.lt_of_lt_of_le h1 hS.1)).trans (hS.2.1 x h1 h2), hS.2.2⟩
theorem V.new {idx ci N : Nat} (hd : decode M.2.1 pc = .ok (.new idx, 3)) (hN : NO M.1.cls idx ci N) (hc : nx h + 1 ≤ gL g) (hs : us h + N ≤ gM g) (k : V l g M fr (pc + 3) L (.ref (nx h) :: st) (nO h ci N) Q) : V l g M fr pc L st h Q := by
  intro hl p e s m args below meth c C H locs hR hS ls hL
  obtain ⟨n1, r, ty, n2, n3, n4, n5, n6, n7, n8⟩ := hN
  subst n3
  have hts := C.2.2.2.2.2.2.1
  have hbase := C.2.2.2.2.2.2.2.2.2.2
  have hKn := C.2.2.2.2.2.2.2.1.1 ci r n1 n2
  refine xlow (b := gB g) hbase (fun lo1 lo2 => ?_)
  have hz := hR.2.1
  have hu := hR.2.2.1
  refine W.newcK C.1 C.2.1 C.2.2.2.2.2.1 (hts _ n4) (hts _ n5) (hts _ n6) rfl hd (by show _ ≤ gL g - s.heap.size; omega) (by show _ ≤ gM g - SUM (gB g) s.heap; omega) hKn.2.1 hz fun H1 kC hkC e1 z1 o1 => ?_
  have hob := u_born ty hts (cg_all ci r n1 n2).1 hKn hkC e1 n7
  exact V.go k hl C ⟨lo1, lo2⟩ (hR.1.newO (by omega) hz n1 n2 rfl (hob.to n8) (fun q hq => o1 q (by omega))) (by rw [z1]; rfl) ⟨by show _ ≤ us h + r.2.2; omega, hc, hs⟩ (hS.grow (by omega) (fun q hq => o1 q (by omega))) hL
theorem V.newarr {at9 : ArrayType} {t n : Nat} {ty : FieldType} {z : Int32} (hd : decode M.2.1 pc = .ok (.newarray at9, 2)) (hty : newarray.typeOf at9 = ty) (ht : ATY[t]? = some ty) (hw : Cond.arrayClass ty ∈ lw_all) (hra : ∀ (U : State) (c : ClassId), va_RA U c ty → U.vm.findClass ("[" ++ ty.toString) = some c) (hn : ¬ z < 0) (hN : z.toNatClampNeg = n) (hbytes : n * componentBytes ty ≤ 536870912) (hc : nx h + 1 ≤ gL g) (hs : us h + n ≤ gM g) (k : V l g M fr (pc + 2) L (.ref (nx h) :: st) (nA h t n (defaultValue ty)) Q) : V l g M fr pc L (.int z :: st) h Q := by
  subst hty
  intro hl p e s m args below meth c C H locs hR hS ls hL
  have hts := C.2.2.2.2.2.2.1
  have hbase := C.2.2.2.2.2.2.2.2.2.2
  refine xlow (b := gB g) hbase (fun lo1 lo2 => ?_)
  have hz := hR.2.1
  have hu := hR.2.2.1
  have hA := (C.2.2.2.2.2.2.2.1.2.1 t _ ht).2
  refine va_newaK C.1 C.2.1 (hts _ hw) rfl hd rfl hn hN hbytes (by show _ ≤ gL g - s.heap.size; omega) (by show _ ≤ gM g - SUM (gB g) s.heap; omega) hz fun H1 cA e1 z1 o1 hAr hNm => ?_
  have hcA : cA = gA g t := Option.some.inj (hNm.symm.trans (hra s _ hA))
  subst hcA
  exact V.go k hl C ⟨lo1, lo2⟩ (hR.1.newA (by omega) hz (List.getElem?_eq_some_iff.mp ht).1 e1 (fun q hq => o1 q (by omega))) (by rw [z1]; rfl) ⟨by show _ ≤ us h + n; omega, hc, hs⟩ (hS.grow (by omega) (fun q hq => o1 q (by omega))) hL
theorem V.anewarr {idx t n : Nat} {E : String} {z : Int32} (hd : decode M.2.1 pc = .ok (.anewarray idx, 3)) (ht : ATY[t]? = some (.object E)) (hcl : Cond.classLink M.1.cls idx E ∈ lw_all) (hw : E ∈ XWA) (hn : ¬ z < 0) (hN : z.toNatClampNeg = n) (hbytes : n * 4 ≤ 536870912) (hc : nx h + 1 ≤ gL g) (hs : us h + n ≤ gM g) (k : V l g M fr (pc + 3) L (.ref (nx h) :: st) (nA h t n .null) Q) : V l g M fr pc L (.int z :: st) h Q := by
  subst hN
  intro hl p e s m args below meth c C H locs hR hS ls hL
  have hts := C.2.2.2.2.2.2.1
  have hbase := C.2.2.2.2.2.2.2.2.2.2
  refine xlow (b := gB g) hbase (fun lo1 lo2 => ?_)
  have hz := hR.2.1
  have hu := hR.2.2.1
  obtain ⟨kA, comp, r1, r2, r3, r4⟩ := (C.2.2.2.2.2.2.2.1.2.1 t _ ht).2
  refine W.anew C.1 C.2.1 C.2.2.2.2.2.1 (hts _ hcl) (va_AO.use (C.2.2.2.2.2.2.2.1.2.2.2.2.2.1 _ hw)) rfl hd rfl hn hbytes (by show _ ≤ gL g - s.heap.size; omega) (by show _ ≤ gM g - SUM (gB g) s.heap; omega) fun cA kA2 comp2 f1 f2 f3 f4 => ?_
  have hcA : cA = gA g t := Option.some.inj (f1.symm.trans r4)
  subst hcA
  generalize hH1 : H.push ({ cls := gA g t, slots := Array.replicate z.toNatClampNeg .null, vm := .none } : Cell) = H1
  have z1 : H1.size = H.size + 1 := by rw [← hH1, Array.size_push]
  have e1 : H1[nx h]? = some (arrV (gA g t) z.toNatClampNeg (fun _ => .null)) := by rw [← hH1, ← hz, Array.getElem?_push_size, ← arrV_new]
  have o1 : ∀ q : Nat, q < H.size → H1[q]? = H[q]? := fun q hq => by rw [← hH1, Array.getElem?_push, if_neg (Nat.ne_of_lt hq)]
  have k8 : V l g M fr (pc + 3) L (.ref H.size :: st) (nA h t z.toNatClampNeg .null) Q := by rw [hz]; exact k
  exact V.go k8 hl C ⟨lo1, lo2⟩ (hR.1.newA (by omega) hz (List.getElem?_eq_some_iff.mp ht).1 e1 o1) (by rw [z1, hz]; rfl) ⟨by show _ ≤ us h + z.toNatClampNeg; omega, hc, hs⟩ (hS.grow z1 o1) hL
end VH
