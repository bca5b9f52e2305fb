/-! ===== binds, loops ===== -/
theorem bnd {α β : Type} {x : Option α} {f : α → Option β} {b : β} (h : x.bind f = some b) : ∃ a, x = some a ∧ f a = some b := by
  cases x with
  | none => cases h
  | some a => exact ⟨a, rfl, h⟩
def iter {α β : Type} (body : α → Option (α ⊕ β)) : Nat → α → Option β
  | 0, _ => none
  | n + 1, a => match body a with
    | none => none
    | some (.inl a1) => iter body n a1
    | some (.inr b) => some b
theorem iter_ind {α β : Type} {body : α → Option (α ⊕ β)} (P : α → Prop) {b : β} (hstep : ∀ a r, body a = some r → (∀ a1, r = .inl a1 → P a1) → (∀ b1, r = .inr b1 → b1 = b) → P a) : ∀ (n : Nat) (a : α), iter body n a = some b → P a
  | 0, _, h => by cases h
  | n + 1, a, h => by
    unfold iter at h
    cases hb : body a with
    | none => rw [hb] at h; cases h
    | some r =>
      rw [hb] at h
      refine hstep a r hb (fun a1 e => ?_) (fun b1 e => ?_)
      · subst e
        exact iter_ind P hstep n a1 h
      · subst e
        exact Option.some.inj h
theorem iter_mono {α β : Type} {body : α → Option (α ⊕ β)} {b : β} : ∀ (n m : Nat) (a : α), n ≤ m → iter body n a = some b → iter body m a = some b
  | 0, _, _, _, h => by cases h
  | n + 1, 0, _, hm, _ => absurd hm (by omega)
  | n + 1, m + 1, a, hm, h => by
    unfold iter at h ⊢
    cases hb : body a with
    | none => rw [hb] at h; cases h
    | some r =>
      rw [hb] at h
      cases r with
      | inl a1 => exact iter_mono n m a1 (by omega) h
      | inr b1 => exact h
def FUEL : Nat := 4294967296
def zg (v : Int32) : Option Int32 := if v = 0 ∨ v = 1 then some v else none
theorem zg_some {v r : Int32} (h : zg v = some r) : r = v ∧ narrow .boolean (.int v) = .int v := by
  unfold zg at h
  split at h
  · rename_i h1
    cases h
    rcases h1 with rfl | rfl
    · exact ⟨rfl, rfl⟩
    · exact ⟨rfl, rfl⟩
  · cases h
/-! ===== contracts with a known outcome ===== -/
def QZ (v : Option Value) (h1 : AH) : Res → AH → Prop := fun o h2 => o = .inl v ∧ h2 = h1
def QX (e : String × Nat) (h1 : AH) : Res → AH → Prop := fun o h2 => o = .inr e ∧ h2 = h1
theorem QZ.no {v : Option Value} {h1 : AH} : ∀ x h2, ¬ QZ v h1 (.inr x) h2 := fun x h2 h => by cases h.1
section KR
variable {l : Launch} {g : GG} {M : MD} {fr pc : Nat} {L : List (Option Value)} {st : List Value} {Q : Res → AH → Prop} {h1 : AH}
theorem krI {r : Int32} (k : V l g M fr pc L (.int r :: st) h1 Q) : ∀ v h2, QZ (some (.int r)) h1 (.inl v) h2 → V l g M fr pc L (v.toList ++ st) h2 Q := by
  rintro v h2 ⟨e, rfl⟩; cases e; exact k
theorem krF {r : UInt32} (k : V l g M fr pc L (.float r :: st) h1 Q) : ∀ v h2, QZ (some (.float r)) h1 (.inl v) h2 → V l g M fr pc L (v.toList ++ st) h2 Q := by
  rintro v h2 ⟨e, rfl⟩; cases e; exact k
theorem krR {r : Value} (k : V l g M fr pc L (r :: st) h1 Q) : ∀ v h2, QZ (some r) h1 (.inl v) h2 → V l g M fr pc L (v.toList ++ st) h2 Q := by
  rintro v h2 ⟨e, rfl⟩; cases e; exact k
theorem krV (k : V l g M fr pc L st h1 Q) : ∀ v h2, QZ none h1 (.inl v) h2 → V l g M fr pc L (v.toList ++ st) h2 Q := by
  rintro v h2 ⟨e, rfl⟩; cases e; exact k
theorem kxZ {l : Launch} {g : GG} {M : MD} {fr pc : Nat} {L : List (Option Value)} {Q : Res → AH → Prop} {h1 : AH} {v : Option Value} : ∀ E q h2, QZ v h1 (.inr (E, q)) h2 → VT l g M fr pc L E q h2 Q := by
  rintro E q h2 ⟨e, -⟩; cases e
end KR
/-! the reference's int fields; its arrays: field, type, length -/
def MINT : List Nat := [0, 1, 4, 7, 8, 9, 10, 11, 12, 13, 15, 16, 17, 18, 21, 22, 23, 24, 25, 26, 27, 28, 29, 30, 35]
def MARR : List (Nat × Nat × Nat) := [(2, 0, 835), (3, 0, 7515), (5, 2, 2), (6, 0, 1000), (14, 0, 6), (19, 0, 184), (20, 0, 184), (31, 0, 25), (32, 2, 25), (33, 0, 50), (34, 0, 700)]
theorem MDIS : ∀ q ∈ MARR, ∀ f ∈ MINT, q.1 ≠ f := by decide +kernel
/-! ===== the reference's own world: one object, its fields, its arrays ===== -/
abbrev MS : Type := (Nat → Int32) × (Nat → Nat → Int32)
def mSF (μ : MS) (f : Nat) (v : Int32) : MS := (fun j => if j = f then v else μ.1 j, μ.2)
def mLd (μ : MS) (a n : Nat) (i : Int32) : Option Int32 := if i < 0 ∨ n ≤ i.toNatClampNeg then none else some (μ.2 a i.toNatClampNeg)
def mSt (μ : MS) (a n : Nat) (i v : Int32) : Option MS := if i < 0 ∨ n ≤ i.toNatClampNeg then none else some (μ.1, fun b j => if b = a ∧ j = i.toNatClampNeg then v else μ.2 b j)
theorem mLd_some {μ : MS} {a n : Nat} {i x : Int32} (h : mLd μ a n i = some x) : vp_in i n ∧ μ.2 a i.toNatClampNeg = x := by
  unfold mLd at h
  split at h
  · cases h
  · rename_i h1
    cases h
    exact ⟨h1, rfl⟩
theorem mSt_some {μ μ1 : MS} {a n : Nat} {i v : Int32} (h : mSt μ a n i v = some μ1) : vp_in i n ∧ μ1 = (μ.1, fun b j => if b = a ∧ j = i.toNatClampNeg then v else μ.2 b j) := by
  unfold mSt at h
  split at h
  · cases h
  · rename_i h1
    cases h
    exact ⟨h1, rfl⟩
/-- where the reference stands: its address, its arrays' -/
abbrev BM : Type := Nat × (Nat → Nat)
def IsM (B : BM) (h : AH) (μ : MS) : Prop :=
  kd h B.1 = some (true, .inl 0) ∧ (∀ f, f ∈ MINT → fv h f B.1 = .int (μ.1 f)) ∧
  (∀ q ∈ MARR, fv h q.1 B.1 = .ref (B.2 q.1) ∧ kd h (B.2 q.1) = some (true, .inr (q.2.1, q.2.2)) ∧ ∀ i, i < q.2.2 → av h (B.2 q.1) i = .int (μ.2 q.1 i)) ∧
  (∀ q ∈ MARR, ∀ r ∈ MARR, B.2 q.1 = B.2 r.1 → q.1 = r.1)
def SameM (B : BM) (h0 h : AH) : Prop := kd h = kd h0 ∧ (∀ f a, a ≠ B.1 → fv h f a = fv h0 f a) ∧ (∀ a, (∀ q ∈ MARR, a ≠ B.2 q.1) → ∀ i, av h a i = av h0 a i) ∧ nx h = nx h0 ∧ us h = us h0
def MM (B : BM) (h0 h : AH) (μ : MS) : Prop := IsM B h μ ∧ SameM B h0 h
theorem SameM.rf {B : BM} {h : AH} : SameM B h h := ⟨rfl, fun _ _ _ => rfl, fun _ _ _ => rfl, rfl, rfl⟩
theorem SameM.trans {B : BM} {h0 h1 h2 : AH} (a : SameM B h0 h1) (b : SameM B h1 h2) : SameM B h0 h2 := ⟨b.1.trans a.1, fun f x hx => (b.2.1 f x hx).trans (a.2.1 f x hx), fun x hx i => (b.2.2.1 x hx i).trans (a.2.2.1 x hx i), b.2.2.2.1.trans a.2.2.2.1, b.2.2.2.2.trans a.2.2.2.2⟩
/-- the end of one of its methods: answer v, state μ -/
def QM (B : BM) (h0 : AH) (v : Option Value) (μ : MS) : Res → AH → Prop := fun o h2 => o = .inl v ∧ MM B h0 h2 μ
theorem QM.no {B : BM} {h0 : AH} {v : Option Value} {μ : MS} : ∀ x h2, ¬ QM B h0 v μ (.inr x) h2 := fun x h2 h => by cases h.1
section VM
variable {l : Launch} {g : GG} {M : MD} {fr pc : Nat} {L : List (Option Value)} {st : List Value} {Q : Res → AH → Prop} {h h0 : AH} {B : BM} {μ : MS}
theorem V.mgetI {idx f : Nat} (hM : MM B h0 h μ) (hd : decode M.2.1 pc = .ok (.getfield idx, 3)) (hO : FO M.1.cls idx f 0) (hf : f ∈ MINT) (k : V l g M fr (pc + 3) L (.int (μ.1 f) :: st) h Q) : V l g M fr pc L (.ref B.1 :: st) h Q := V.getf hd hO hM.1.1 (hM.1.2.1 f hf) k
theorem V.mgetA {idx f t n : Nat} (hM : MM B h0 h μ) (hd : decode M.2.1 pc = .ok (.getfield idx, 3)) (hO : FO M.1.cls idx f 0) (hf : (f, t, n) ∈ MARR) (k : V l g M fr (pc + 3) L (.ref (B.2 f) :: st) h Q) : V l g M fr pc L (.ref B.1 :: st) h Q := V.getf hd hO hM.1.1 (hM.1.2.2.1 _ hf).1 k
theorem V.miald {f n : Nat} {i x : Int32} (hM : MM B h0 h μ) (hd : decode M.2.1 pc = .ok (.iaload, 1)) (hf : (f, 0, n) ∈ MARR) (hi : vp_in i n ∧ μ.2 f i.toNatClampNeg = x) (k : V l g M fr (pc + 1) L (.int x :: st) h Q) : V l g M fr pc L (.int i :: .ref (B.2 f) :: st) h Q := by
  obtain ⟨h1, rfl⟩ := hi
  exact V.iaload hd (hM.1.2.2.1 _ hf).2.1 rfl h1 ((hM.1.2.2.1 _ hf).2.2 _ (Nat.not_le.mp fun q => h1 (Or.inr q))) k
theorem V.mzald {f n : Nat} {i x : Int32} (hM : MM B h0 h μ) (hd : decode M.2.1 pc = .ok (.baload, 1)) (hf : (f, 2, n) ∈ MARR) (hi : vp_in i n ∧ μ.2 f i.toNatClampNeg = x) (k : V l g M fr (pc + 1) L (.int x :: st) h Q) : V l g M fr pc L (.int i :: .ref (B.2 f) :: st) h Q := by
  obtain ⟨h1, rfl⟩ := hi
  exact V.zaload hd (hM.1.2.2.1 _ hf).2.1 rfl h1 ((hM.1.2.2.1 _ hf).2.2 _ (Nat.not_le.mp fun q => h1 (Or.inr q))) k
theorem MM.putI {f : Nat} {v : Int32} (hM : MM B h0 h μ) (hf : f ∈ MINT) : MM B h0 (wF h f B.1 (.int v)) (mSF μ f v) := by
  obtain ⟨⟨h1, h2, h3, h4⟩, h5⟩ := hM
  refine ⟨⟨h1, fun f1 hf1 => ?_, fun q hq => ?_, h4⟩, h5.trans ⟨rfl, fun f1 a ha => ?_, fun _ _ _ => rfl, rfl, rfl⟩⟩
  · by_cases e : f1 = f
    · subst e; simp [wF, fv, mSF]
    · have := h2 f1 hf1
      simp only [wF, fv, mSF, e, false_and, if_false] at this ⊢
      exact this
  · obtain ⟨g1, g2, g3⟩ := h3 q hq
    refine ⟨?_, g2, g3⟩
    have e : q.1 ≠ f := fun e => MDIS q hq f hf e
    have : fv (wF h f B.1 (.int v)) q.1 B.1 = fv h q.1 B.1 := by simp [wF, fv, e]
    rw [this]; exact g1
  · simp [wF, fv, ha]
theorem V.mputI {idx f : Nat} {v : Int32} (hM : MM B h0 h μ) (hd : decode M.2.1 pc = .ok (.putfield idx, 3)) (hO : PO M.1.cls M.1.name idx f 0 (.int v)) (hf : f ∈ MINT) (k : ∀ h9, MM B h0 h9 (mSF μ f v) → V l g M fr (pc + 3) L st h9 Q) : V l g M fr pc L (.int v :: .ref B.1 :: st) h Q := V.putf hd hO hM.1.1 (k _ (hM.putI hf))
theorem MM.put {f t n i : Nat} {v : Int32} (hM : MM B h0 h μ) (hf : (f, t, n) ∈ MARR) : MM B h0 (wA h (B.2 f) i (.int v)) (μ.1, fun b j => if b = f ∧ j = i then v else μ.2 b j) := by
  obtain ⟨⟨h1, h2, h3, h4⟩, h5⟩ := hM
  refine ⟨⟨h1, h2, fun q hq => ?_, h4⟩, h5.trans ⟨rfl, fun _ _ _ => rfl, fun a ha j => ?_, rfl, rfl⟩⟩
  · obtain ⟨g1, g2, g3⟩ := h3 q hq
    refine ⟨g1, g2, fun j hj => ?_⟩
    have g4 := g3 j hj
    by_cases e : q.1 = f
    · by_cases ej : j = i
      · simp [wA, av, e, ej]
      · simp only [wA, av, e, ej, and_false, if_false] at g4 ⊢
        exact g4
    · have e2 : B.2 q.1 ≠ B.2 f := fun e3 => e (h4 q hq _ hf e3)
      simp only [wA, av, e, e2, false_and, if_false] at g4 ⊢
      exact g4
  · have : a ≠ B.2 f := ha _ hf
    simp [wA, av, this]
theorem V.miast {f n : Nat} {i v : Int32} {μ1 : MS} (hM : MM B h0 h μ) (hd : decode M.2.1 pc = .ok (.iastore, 1)) (hf : (f, 0, n) ∈ MARR) (hs : vp_in i n ∧ μ1 = (μ.1, fun b j => if b = f ∧ j = i.toNatClampNeg then v else μ.2 b j)) (k : ∀ h9, MM B h0 h9 μ1 → V l g M fr (pc + 1) L st h9 Q) : V l g M fr pc L (.int v :: .int i :: .ref (B.2 f) :: st) h Q := by
  obtain ⟨h1, rfl⟩ := hs
  exact V.iastore hd (hM.1.2.2.1 _ hf).2.1 rfl h1 (k _ (hM.put hf))
theorem V.mzast {f n : Nat} {i v : Int32} {μ1 : MS} (hM : MM B h0 h μ) (hd : decode M.2.1 pc = .ok (.bastore, 1)) (hf : (f, 2, n) ∈ MARR) (hs : vp_in i n ∧ μ1 = (μ.1, fun b j => if b = f ∧ j = i.toNatClampNeg then v else μ.2 b j)) (hz : narrow .boolean (.int v) = .int v) (k : ∀ h9, MM B h0 h9 μ1 → V l g M fr (pc + 1) L st h9 Q) : V l g M fr pc L (.int v :: .int i :: .ref (B.2 f) :: st) h Q := by
  obtain ⟨h1, rfl⟩ := hs
  refine V.zastore hd (hM.1.2.2.1 _ hf).2.1 rfl h1 ?_
  rw [hz]
  exact k _ (hM.put hf)
/-- behind a call of one of its own methods -/
theorem kmI {r : Int32} {μ1 : MS} (hS : SameM B h0 h) (k : ∀ h9, MM B h0 h9 μ1 → V l g M fr pc L (.int r :: st) h9 Q) : ∀ v h2, QM B h (some (.int r)) μ1 (.inl v) h2 → V l g M fr pc L (v.toList ++ st) h2 Q := by
  rintro v h2 ⟨e, hm⟩; cases e; exact k h2 ⟨hm.1, hS.trans hm.2⟩
theorem kmF {r : UInt32} {μ1 : MS} (hS : SameM B h0 h) (k : ∀ h9, MM B h0 h9 μ1 → V l g M fr pc L (.float r :: st) h9 Q) : ∀ v h2, QM B h (some (.float r)) μ1 (.inl v) h2 → V l g M fr pc L (v.toList ++ st) h2 Q := by
  rintro v h2 ⟨e, hm⟩; cases e; exact k h2 ⟨hm.1, hS.trans hm.2⟩
theorem kmV {μ1 : MS} (hS : SameM B h0 h) (k : ∀ h9, MM B h0 h9 μ1 → V l g M fr pc L st h9 Q) : ∀ v h2, QM B h none μ1 (.inl v) h2 → V l g M fr pc L (v.toList ++ st) h2 Q := by
  rintro v h2 ⟨e, hm⟩; cases e; exact k h2 ⟨hm.1, hS.trans hm.2⟩
theorem kxM {v : Option Value} {μ1 : MS} : ∀ E q h2, QM B h v μ1 (.inr (E, q)) h2 → VT l g M fr pc L E q h2 Q := by
  rintro E q h2 ⟨e, -⟩; cases e
end VM
