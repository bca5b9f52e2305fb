/-! ===== the String constants ===== -/
/-- their texts -/
def TXL : List (List Int32) := [[], [32, 62, 32], [59], [73, 108, 108, 101, 103, 97, 108, 32, 67, 97, 112, 97, 99, 105, 116, 121, 58, 32], [83, 111, 114, 114, 121, 44, 32, 100, 101, 113, 117, 101, 32, 116, 111, 111, 32, 98, 105, 103], [97, 105, 100, 101], [98, 111, 97, 114, 100], [99, 97, 108, 108], [99, 104, 97, 105, 114], [100, 101, 115, 107], [102, 114, 111, 109], [103, 114, 97, 99, 101], [114, 97, 116, 101], [114, 105, 100, 101], [114, 105, 118, 101, 114], [115, 101, 97, 116, 115], [117, 110, 114, 101, 99, 111, 103, 110, 105, 122, 101, 100, 32, 98, 97, 115, 105, 99, 32, 116, 121, 112, 101, 58, 32], [117, 110, 116, 105, 108], [118, 97, 110], [119, 97, 108, 107], [119, 104, 101, 101, 108, 115], [119, 105, 110, 100, 111, 119]]
/-- the String constants stand; what is known of the statics -/
def TX (g : GG) (h : AH) : Prop := (GW g ∧ sI g 13 = 1) ∧ ∀ (sid : Nat) (s : List Int32), TXL[sid]? = some s → ∃ a : Nat, kd h (gT g sid) = some (false, .inl 18) ∧ fv h 1900 (gT g sid) = .ref a ∧ fv h 1901 (gT g sid) = .int 0 ∧ kd h a = some (false, .inr (1, s.length)) ∧ ∀ (i : Nat) (x : Int32), s[i]? = some x → av h a i = .int x
theorem TX.mm {g : GG} {B : BM} {h h2 : AH} {μ μ2 : MS} (hX : TX g h) (hI : IsM B h μ) (hM : MM B h h2 μ2) : TX g h2 := by
  refine ⟨hX.1, fun sid s hs => ?_⟩
  obtain ⟨a, h1, h3, h4, h5, h6⟩ := hX.2 sid s hs
  obtain ⟨-, k1, k2, k3, -⟩ := hM
  have n1 : gT g sid ≠ B.1 := fun e => by rw [e, hI.1] at h1; cases h1
  refine ⟨a, by rw [k1]; exact h1, by rw [k2 _ _ n1]; exact h3, by rw [k2 _ _ n1]; exact h4, by rw [k1]; exact h5, fun i x hx => ?_⟩
  rw [k3 a (fun q hq e => by rw [e, (hI.2.2.1 q hq).2.1] at h5; cases h5)]
  exact h6 i x hx
def sLen (sid : Nat) : Option Int32 := (TXL[sid]?).map (fun s => Int32.ofNat s.length)
def sAt (sid : Nat) (i : Int32) : Option Int32 := if i < 0 then none else (TXL[sid]?).bind fun s => s[i.toNatClampNeg]?
theorem TXL_short : TXL.all (fun s => decide (s.length < 1000)) = true := by decide +kernel
theorem TXL_ascii : TXL.all (fun s => s.all (fun x => decide (((x &&& 255).toUInt32 % 65536).toInt32 = x ∧ ((((x &&& 255).toUInt32 % 65536).toInt32).toUInt32 % 65536).toInt32 = ((x &&& 255).toUInt32 % 65536).toInt32))) = true := by decide +kernel
theorem shr0 (x : Int32) : x >>> ((0 : Int32) &&& 31) = x := by
  have h : ((0 : Int32) &&& 31) = 0 := by decide
  rw [h]
  exact Int32.shiftRight_zero
theorem len_of {g : GG} {h : AH} {sid : Nat} {x : Int32} (hX : TX g h) (e : sLen sid = some x) : f_J7_length g (gT g sid) h = some x := by
  unfold sLen at e
  cases hs : TXL[sid]? with
  | none => rw [hs] at e; cases e
  | some s =>
    rw [hs] at e
    obtain ⟨a, h1, h3, h4, h5, h6⟩ := hX.2 sid s hs
    have e1 : hK h (gT g sid) = some 18 := by simp [hK, h1]
    have e2 : hT h a = some (1, s.length) := by simp [hT, h5]
    have e3 : zb 0 = some 0 := by decide
    simp only [f_J7_length, f_J7_coder, gR, gI, hIn, e1, Option.bind_some, List.contains_cons, List.contains_nil, BEq.rfl, Bool.true_or, if_true, h3, vR, aN, e2, hX.1.2, h4, vI, e3]
    rw [if_pos (by decide), Option.bind_some, if_neg (by decide)]
    simp only [Option.bind_some, shr0]
    exact e
theorem at_of {g : GG} {h : AH} {sid : Nat} {i x : Int32} (hX : TX g h) (e : sAt sid i = some x) : f_J7_charAt g (gT g sid) i h = some (x, h) := by
  unfold sAt at e
  split at e
  · cases e
  · rename_i hi
    cases hs : TXL[sid]? with
    | none => rw [hs] at e; cases e
    | some s =>
      rw [hs] at e
      have e : s[i.toNatClampNeg]? = some x := e
      obtain ⟨a, h1, h3, h4, h5, h6⟩ := hX.2 sid s hs
      have hlt : i.toNatClampNeg < s.length := (List.getElem?_eq_some_iff.mp e).1
      have hsm := List.mem_of_getElem? hs
      have h7 := List.all_eq_true.mp TXL_ascii s hsm
      have h8 := of_decide_eq_true (List.all_eq_true.mp h7 x (List.mem_of_getElem? e))
      have h9 : s.length < 1000 := of_decide_eq_true (List.all_eq_true.mp TXL_short s hsm)
      have e1 : hK h (gT g sid) = some 18 := by simp [hK, h1]
      have e2 : hT h a = some (1, s.length) := by simp [hT, h5]
      have e4 : i < nI s.length := by
        have := Int32.lt_iff_toInt_lt (x := i) (y := nI s.length)
        rw [this]
        have e5 : (nI s.length).toInt = s.length := by
          show (Int32.ofNat s.length).toInt = s.length
          exact Int32.toInt_ofNat_of_lt (by omega)
        have e6 : i.toNatClampNeg = i.toInt.toNat := rfl
        have e7 : ¬ i.toInt < 0 := fun q => hi (Int32.lt_iff_toInt_lt.mpr q)
        omega
      have e8 : aIn 1 s.length i = some i.toNatClampNeg := by
        unfold aIn
        rw [if_neg]
        rintro (q | q)
        · exact hi q
        · omega
      have c1 : f_J7_isLatin1 g (gT g sid) h = some 1 := by
        simp only [f_J7_isLatin1, gI, hIn, e1, Option.bind_some, List.contains_cons, List.contains_nil, BEq.rfl, Bool.true_or, if_true, hX.1.2, h4, vI]
        rw [if_neg (by decide)]
      have c2 : f_J7_checkIndex g i (nI s.length) h = some () := by
        simp only [f_J7_checkIndex, f_J17_checkIndex]
        rw [if_neg hi, if_pos e4]
        rfl
      have c3 : aB h a i = some x := by
        simp only [aB, e2, Option.bind_some]
        rw [if_pos (Or.inl trivial), e8, Option.bind_some, h6 _ _ e]
        rfl
      have c4 : zc (((x &&& 255).toUInt32 % 65536).toInt32) = some (((x &&& 255).toUInt32 % 65536).toInt32) := by
        unfold zc
        rw [if_pos h8.2]
      have c5 : f_J18_charAt g a i h = some x := by
        simp only [f_J18_charAt, aN, e2, Option.bind_some]
        rw [if_pos (by decide), Option.bind_some, c2, Option.bind_some, c3, Option.bind_some, c4, Option.bind_some, h8.1]
      simp only [f_J7_charAt, hIn, e1, Option.bind_some, List.contains_cons, List.contains_nil, BEq.rfl, Bool.true_or, if_true, c1, gR, h3, vR]
      rw [if_neg (by decide)]
      simp only [Option.bind_some, c5]
      have c6 : zc x = some x := by rw [← h8.1]; exact c4
      rw [c6]
      rfl
theorem sLen_kd {g : GG} {h : AH} {sid : Nat} {x : Int32} (hX : TX g h) (e : sLen sid = some x) : ∃ w, kd h (gT g sid) = some (w, .inl 18) := by
  unfold sLen at e
  cases hs : TXL[sid]? with
  | none => rw [hs] at e; cases e
  | some s => obtain ⟨a, h1, -⟩ := hX.2 sid s hs; exact ⟨_, h1⟩
theorem sAt_kd {g : GG} {h : AH} {sid : Nat} {i x : Int32} (hX : TX g h) (e : sAt sid i = some x) : ∃ w, kd h (gT g sid) = some (w, .inl 18) := by
  unfold sAt at e
  split at e
  · cases e
  · cases hs : TXL[sid]? with
    | none => rw [hs] at e; cases e
    | some s => obtain ⟨a, h1, -⟩ := hX.2 sid s hs; exact ⟨_, h1⟩
theorem V.sLen {l : Launch} {g : GG} {M : MD} {fr pc idx sid : Nat} {L : List (Option Value)} {st : List Value} {h : AH} {Q : Res → AH → Prop} {x : Int32} (hd : decode M.2.1 pc = .ok (.invokevirtual idx, 3)) (hl1 : Cond.methodLink M.1.cls idx ⟨"java/lang/String", "length", "()I"⟩ ∈ lw_all) (hX : TX g h) (e : sLen sid = some x) (hfr : 2 ≤ fr) (hst : stW st ≤ 8) (k : V l g M fr (pc + 3) L (.int x :: st) h Q) : V l g M fr pc L (.ref (gT g sid) :: st) h Q := by
  have hk := sLen_kd hX e
  obtain ⟨w, hk⟩ := hk
  exact V.invV (as := []) (ci := 18) (rc := rcN_18) hd ok_J7_length (lw_V hl1 q718 q719 q157 q720) rfl hk rfl hfr hst (w_J7_length hX.1.1 (len_of hX e)) (krI k) kxZ
theorem V.sAt {l : Launch} {g : GG} {M : MD} {fr pc idx sid : Nat} {L : List (Option Value)} {st : List Value} {h : AH} {Q : Res → AH → Prop} {i x : Int32} (hd : decode M.2.1 pc = .ok (.invokevirtual idx, 3)) (hl1 : Cond.methodLink M.1.cls idx ⟨"java/lang/String", "charAt", "(I)C"⟩ ∈ lw_all) (hX : TX g h) (e : sAt sid i = some x) (hfr : 4 + 1 ≤ fr) (hst : stW st ≤ 8) (k : V l g M fr (pc + 3) L (.int x :: st) h Q) : V l g M fr pc L (.int i :: .ref (gT g sid) :: st) h Q := by
  have hk := sAt_kd hX e
  obtain ⟨w, hk⟩ := hk
  exact V.invV (as := [.int i]) (ci := 18) (rc := rcN_18) hd ok_J7_charAt (lw_V hl1 q2348 q2349 q157 q2350) rfl hk rfl hfr hst (w_J7_charAt hX.1.1 (at_of hX e)) (krI k) kxZ
